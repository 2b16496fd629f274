set_option maxRecDepth 100000
set_option maxHeartbeats 4000000 in
theorem wk_X12_compact_68 {p : Program} {l : Launch} {e : Env} {s : State} {m : MethodId} {args : Array Value} {below : List Frame} {meth : Method} {c : Code} {A : Nat → Prop} {dC : Nat → ClassId} {dI : Nat → Nat → Nat} {d : Nat → ClassId} {h : Nat → Nat} {C36 : Int32 → Int32 → St → Prop} {K : Int32 → St → Prop} (cx : Cx p s m args meth c cX12_compact RX12 5 (some .int) A dC dI d) (hC36 : ∀ (x1 : Int32) (x2 : Int32) (u : St) (H : Heap) (locs : List Loc) (ls : Array Slot), C36 x1 x2 u → Wd dC dI A ((wM d h) u) s H locs → lv_has ls 5 [(0, .ref (h 0)), (1, .int x1), (2, .int x2)] → W p l e ({ frames := 5, cells := 0, slots := 0, locals := 122 } : Room) s m args below meth c H locs 0 0 (MQ below (kQi dC dI (wM d h) K A) args s 0 0 A) (F0 m 36 ls [])) : ∀ (x1 : Int32) (x2 : Int32) (y0 : Int32) (u : St) (H : Heap) (locs : List Loc) (ls : Array Slot), wp_X12_compact_68 C36 K x1 x2 y0 u → Wd dC dI A ((wM d h) u) s H locs → lv_has ls 5 [(0, .ref (h 0)), (1, .int x1), (2, .int x2)] → W p l e ({ frames := 5, cells := 0, slots := 0, locals := 122 } : Room) s m args below meth c H locs 0 0 (MQ below (kQi dC dI (wM d h) K A) args s 0 0 A) (F0 m 68 ls [.int y0]) := by
  intro x1 x2 y0 u H locs ls hwp hw hl
  unfold wp_X12_compact_68 at hwp
  refine lv_istore_n (pc := 68) (lv' := [(3, .int y0), (0, .ref (h 0)), (1, .int x1), (2, .int x2)]) cx.1 cx.2.1 dX12_compact_68 rfl hl (by decide) rfl (fun ls hl => ?_)
  refine lv_iload_n (pc := 69) cx.1 cx.2.1 dX12_compact_69 rfl (lv_at hl 0 rfl) ?_
  refine lv_iconst (pc := 70) (v := 1) cx.1 cx.2.1 dX12_compact_70 (by decide) ?_
  refine lv_icmp_ne (pc := 71) (tgt := 88) cx.1 cx.2.1 dX12_compact_71 (by decide) (fun c1 => ?_) (fun c1 => ?_)
  · replace hwp := hwp.1 c1
    refine lv_aload_n (pc := 88) cx.1 cx.2.1 dX12_compact_88 rfl (lv_at hl 1 rfl) ?_
    refine lv_iload_n (pc := 89) cx.1 cx.2.1 dX12_compact_89 rfl (lv_at hl 3 rfl) ?_
    refine lv_iload_n (pc := 90) cx.1 cx.2.1 dX12_compact_90 rfl (lv_at hl 0 rfl) ?_
    refine k_whole_v (pc := 91) (wf := (wM d h)) (u := u) cx hw (k_runV (pc := 91) (rest := []) (As := [.int x2, .int y0]) cx hw.1 (hw.2.1.weaken (fun _ _ _ _ => trivial)) hw.2.2 (k_recv cx hw 0 (ci := 10) (q := (RX12, TX12, 40)) rfl rfl) (m_X12_joined l dC dI d h  u x2 y0 hwp H.size) (cwV 2 cx.2.2.2.2.1 (lw_V q1235 q1237 qs59 q89 q1238) rfl rfl rfl hdV_X12_joined ⟨Nat.le_of_ble_eq_true rfl, Nat.le_of_ble_eq_true rfl⟩) rfl hl.1 rfl (Nat.le_of_ble_eq_true rfl) dX12_compact_91 ⟨Nat.le_of_ble_eq_true rfl, Nat.le_of_ble_eq_true rfl⟩) (fun u2 H locs hwp hw => ?_)
    refine lv_iload_n (pc := 94) cx.1 cx.2.1 dX12_compact_94 rfl (lv_at hl 3 rfl) ?_
    refine lv_iload_n (pc := 95) cx.1 cx.2.1 dX12_compact_95 rfl (lv_at hl 0 rfl) ?_
    refine lv_iadd (pc := 96) cx.1 cx.2.1 dX12_compact_96 ?_
    refine lv_istore_n (pc := 97) (lv' := [(2, .int (x2 + y0)), (3, .int y0), (0, .ref (h 0)), (1, .int x1)]) cx.1 cx.2.1 dX12_compact_97 rfl hl (by decide) rfl (fun ls hl => ?_)
    refine lv_goto (pc := 98) (tgt := 36) cx.1 cx.2.1 dX12_compact_98 (by decide) ?_
    exact hC36 _ _ _ _ _ _ hwp hw (lv_sub hl [2, 3, 0] rfl)
  · replace hwp := hwp.2 c1
    refine lv_aload_n (pc := 74) cx.1 cx.2.1 dX12_compact_74 rfl (lv_at hl 1 rfl) ?_
    refine lv_aload_n (pc := 75) cx.1 cx.2.1 dX12_compact_75 rfl (lv_at hl 1 rfl) ?_
    refine k_getR (pc := 76) (u := u) (v := .ref (h 8)) cx hw (lr_X12_this_17 d h) (C := RX12) (T := TX12) (N := 40) rfl in_X12 (by decide) q994 (fun _ h9 => h9) rfl dX12_compact_76 ?_
    refine lv_iload_n (pc := 79) cx.1 cx.2.1 dX12_compact_79 rfl (lv_at hl 3 rfl) ?_
    refine k_iald (pc := 80) (u := u) (f := (u.2.1 17)) cx hw (lx_X12_this_17 d h) 0 rfl rfl hwp.1 dX12_compact_80 ?_
    replace hwp := hwp.2
    refine lv_iconst (pc := 81) (v := 0) cx.1 cx.2.1 dX12_compact_81 (by decide) ?_
    refine k_whole_v (pc := 82) (wf := (wM d h)) (u := u) cx hw (k_runV (pc := 82) (rest := []) (As := [.int ((u.2.1 17) x2.toNatClampNeg), .int (0 : Int32)]) cx hw.1 (hw.2.1.weaken (fun _ _ _ _ => trivial)) hw.2.2 (k_recv cx hw 0 (ci := 10) (q := (RX12, TX12, 40)) rfl rfl) (m_X12_comes l dC dI d h  u ((u.2.1 17) x2.toNatClampNeg) (0 : Int32) hwp H.size) (cwV 2 cx.2.2.2.2.1 (lw_V q1130 q1132 qs37 q89 q1133) rfl rfl rfl hdV_X12_comes ⟨Nat.le_of_ble_eq_true rfl, Nat.le_of_ble_eq_true rfl⟩) rfl hl.1 rfl (Nat.le_of_ble_eq_true rfl) dX12_compact_82 ⟨Nat.le_of_ble_eq_true rfl, Nat.le_of_ble_eq_true rfl⟩) (fun u4 H locs hwp hw => ?_)
    refine lv_goto (pc := 85) (tgt := 94) cx.1 cx.2.1 dX12_compact_85 (by decide) ?_
    refine lv_iload_n (pc := 94) cx.1 cx.2.1 dX12_compact_94 rfl (lv_at hl 3 rfl) ?_
    refine lv_iload_n (pc := 95) cx.1 cx.2.1 dX12_compact_95 rfl (lv_at hl 0 rfl) ?_
    refine lv_iadd (pc := 96) cx.1 cx.2.1 dX12_compact_96 ?_
    refine lv_istore_n (pc := 97) (lv' := [(2, .int (x2 + y0)), (3, .int y0), (0, .ref (h 0)), (1, .int x1)]) cx.1 cx.2.1 dX12_compact_97 rfl hl (by decide) rfl (fun ls hl => ?_)
    refine lv_goto (pc := 98) (tgt := 36) cx.1 cx.2.1 dX12_compact_98 (by decide) ?_
    exact hC36 _ _ _ _ _ _ hwp hw (lv_sub hl [2, 3, 0] rfl)
set_option maxHeartbeats 4000000 in
theorem wk_X12_compact_101 {p : Program} {l : Launch} {e : Env} {s : State} {m : MethodId} {args : Array Value} {below : List Frame} {meth : Method} {c : Code} {A : Nat → Prop} {dC : Nat → ClassId} {dI : Nat → Nat → Nat} {d : Nat → ClassId} {h : Nat → Nat} {K : Int32 → St → Prop} (cx : Cx p s m args meth c cX12_compact RX12 5 (some .int) A dC dI d) : ∀  (u : St) (H : Heap) (locs : List Loc) (ls : Array Slot), wp_X12_compact_101 K  u → Wd dC dI A ((wM d h) u) s H locs → lv_has ls 5 [(0, .ref (h 0))] → W p l e ({ frames := 5, cells := 0, slots := 0, locals := 122 } : Room) s m args below meth c H locs 0 0 (MQ below (kQi dC dI (wM d h) K A) args s 0 0 A) (F0 m 101 ls []) := by
  intro  u H locs ls hwp hw hl
  unfold wp_X12_compact_101 at hwp
  refine lv_aload_n (pc := 101) cx.1 cx.2.1 dX12_compact_101 rfl (lv_at hl 0 rfl) ?_
  refine k_getI (pc := 102) (u := u) (v := (u.1 18)) cx hw (ln_X12_this_18 d h) (C := RX12) (T := TX12) (N := 40) rfl in_X12 (by decide) q995 (fun _ h9 => h9) rfl dX12_compact_102 ?_
  refine lv_aload_n (pc := 105) cx.1 cx.2.1 dX12_compact_105 rfl (lv_at hl 0 rfl) ?_
  refine k_getI (pc := 106) (u := u) (v := (u.1 27)) cx hw (ln_X12_this_27 d h) (C := RX12) (T := TX12) (N := 40) rfl in_X12 (by decide) q1004 (fun _ h9 => h9) rfl dX12_compact_106 ?_
  refine lv_isub (pc := 109) cx.1 cx.2.1 dX12_compact_109 ?_
  refine lv_istore_n (pc := 110) (lv' := [(3, .int ((u.1 18) - (u.1 27))), (0, .ref (h 0))]) cx.1 cx.2.1 dX12_compact_110 rfl hl (by decide) rfl (fun ls hl => ?_)
  refine lv_iload_n (pc := 111) cx.1 cx.2.1 dX12_compact_111 rfl (lv_at hl 0 rfl) ?_
  refine lv_if_ne (pc := 112) (tgt := 117) cx.1 cx.2.1 dX12_compact_112 (by decide) (fun c1 => ?_) (fun c1 => ?_)
  · replace hwp := hwp.1 c1
    refine lv_aload_n (pc := 117) cx.1 cx.2.1 dX12_compact_117 rfl (lv_at hl 1 rfl) ?_
    refine lv_aload_n (pc := 118) cx.1 cx.2.1 dX12_compact_118 rfl (lv_at hl 1 rfl) ?_
    refine k_getI (pc := 119) (u := u) (v := (u.1 19)) cx hw (ln_X12_this_19 d h) (C := RX12) (T := TX12) (N := 40) rfl in_X12 (by decide) q996 (fun _ h9 => h9) rfl dX12_compact_119 ?_
    refine k_whole_i (pc := 122) (wf := (wM d h)) (u := u) cx hw (k_runV (pc := 122) (rest := []) (As := [.int (u.1 19)]) cx hw.1 (hw.2.1.weaken (fun _ _ _ _ => trivial)) hw.2.2 (k_recv cx hw 0 (ci := 10) (q := (RX12, TX12, 40)) rfl rfl) (m_X12_turn l dC dI d h  u (u.1 19) hwp H.size) (cwV 1 cx.2.2.2.2.1 (lw_V q1150 q1152 qs42 q89 q1153) rfl rfl rfl hdV_X12_turn ⟨Nat.le_of_ble_eq_true rfl, Nat.le_of_ble_eq_true rfl⟩) rfl hl.1 rfl (Nat.le_of_ble_eq_true rfl) dX12_compact_122 ⟨Nat.le_of_ble_eq_true rfl, Nat.le_of_ble_eq_true rfl⟩) (fun r3 u2 H locs hwp hw => ?_)
    refine lv_istore (pc := 125) (lv' := [(4, .int r3), (3, .int ((u.1 18) - (u.1 27))), (0, .ref (h 0))]) cx.1 cx.2.1 dX12_compact_125 hl (by decide) rfl (fun ls hl => ?_)
    refine lv_iload (pc := 127) cx.1 cx.2.1 dX12_compact_127 (lv_at hl 0 rfl) ?_
    have hJ5 : ∀ z4 : Int32, z4 = (if r3 = 0 then ((u.1 18) - (u.1 27)) else r3) → W p l e ({ frames := 5, cells := 0, slots := 0, locals := 122 } : Room) s m args below meth c H locs 0 0 (MQ below (kQi dC dI (wM d h) K A) args s 0 0 A) (F0 m 138 ls [.int z4]) := by
      intro z4 ez4
      replace hwp := hwp z4 ez4
      exact k_iret (pc := 138) (wf := (wM d h)) (u := u2) cx hw hwp (by decide) (by decide) dX12_compact_138
    clear hwp
    refine lv_if_ne (pc := 129) (tgt := 136) cx.1 cx.2.1 dX12_compact_129 (by decide) (fun c6 => ?_) (fun c6 => ?_)
    · skip
      refine lv_iload (pc := 136) cx.1 cx.2.1 dX12_compact_136 (lv_at hl 0 rfl) ?_
      exact hJ5 _ (if_neg c6).symm
    · skip
      refine lv_iload_n (pc := 132) cx.1 cx.2.1 dX12_compact_132 rfl (lv_at hl 1 rfl) ?_
      refine lv_goto (pc := 133) (tgt := 138) cx.1 cx.2.1 dX12_compact_133 (by decide) ?_
      exact hJ5 _ (if_pos c6).symm
  · replace hwp := hwp.2 c1
    refine lv_iconst (pc := 115) (v := 0) cx.1 cx.2.1 dX12_compact_115 (by decide) ?_
    exact k_iret (pc := 116) (wf := (wM d h)) (u := u) cx hw hwp (by decide) (by decide) dX12_compact_116
set_option maxHeartbeats 4000000 in
theorem wk_X12_compact_36 {p : Program} {l : Launch} {e : Env} {s : State} {m : MethodId} {args : Array Value} {below : List Frame} {meth : Method} {c : Code} {A : Nat → Prop} {dC : Nat → ClassId} {dI : Nat → Nat → Nat} {d : Nat → ClassId} {h : Nat → Nat} {K : Int32 → St → Prop} (cx : Cx p s m args meth c cX12_compact RX12 5 (some .int) A dC dI d) : ∀ (n : Nat) (x1 : Int32) (x2 : Int32) (u : St) (H : Heap) (locs : List Loc) (ls : Array Slot), wp_X12_compact_36 K n x1 x2 u → Wd dC dI A ((wM d h) u) s H locs → lv_has ls 5 [(0, .ref (h 0)), (1, .int x1), (2, .int x2)] → W p l e ({ frames := 5, cells := 0, slots := 0, locals := 122 } : Room) s m args below meth c H locs 0 0 (MQ below (kQi dC dI (wM d h) K A) args s 0 0 A) (F0 m 36 ls []) := by
  intro n
  induction n with
  | zero =>
    intros; contradiction
  | succ n ih =>
    intro x1 x2 u H locs ls hwp hw hl
    unfold wp_X12_compact_36 at hwp
    refine lv_iload_n (pc := 36) cx.1 cx.2.1 dX12_compact_36 rfl (lv_at hl 2 rfl) ?_
    refine lv_aload_n (pc := 37) cx.1 cx.2.1 dX12_compact_37 rfl (lv_at hl 0 rfl) ?_
    refine k_getI (pc := 38) (u := u) (v := (u.1 18)) cx hw (ln_X12_this_18 d h) (C := RX12) (T := TX12) (N := 40) rfl in_X12 (by decide) q995 (fun _ h9 => h9) rfl dX12_compact_38 ?_
    refine lv_icmp_ge (pc := 41) (tgt := 101) cx.1 cx.2.1 dX12_compact_41 (by decide) (fun c1 => ?_) (fun c1 => ?_)
    · replace hwp := hwp.1 c1
      exact wk_X12_compact_101 cx  _ _ _ _ hwp hw (lv_sub hl [0] rfl)
    · replace hwp := hwp.2 c1
      refine lv_aload_n (pc := 44) cx.1 cx.2.1 dX12_compact_44 rfl (lv_at hl 0 rfl) ?_
      refine k_getR (pc := 45) (u := u) (v := .ref (h 2)) cx hw (lr_X12_this_11 d h) (C := RX12) (T := TX12) (N := 40) rfl in_X12 (by decide) q988 (fun _ h9 => h9) rfl dX12_compact_45 ?_
      refine lv_aload_n (pc := 48) cx.1 cx.2.1 dX12_compact_48 rfl (lv_at hl 0 rfl) ?_
      refine k_getR (pc := 49) (u := u) (v := .ref (h 8)) cx hw (lr_X12_this_17 d h) (C := RX12) (T := TX12) (N := 40) rfl in_X12 (by decide) q994 (fun _ h9 => h9) rfl dX12_compact_49 ?_
      refine lv_iload_n (pc := 52) cx.1 cx.2.1 dX12_compact_52 rfl (lv_at hl 2 rfl) ?_
      refine k_iald (pc := 53) (u := u) (f := (u.2.1 17)) cx hw (lx_X12_this_17 d h) 0 rfl rfl hwp.1 dX12_compact_53 ?_
      replace hwp := hwp.2
      refine k_iald (pc := 54) (u := u) (f := (u.2.1 11)) cx hw (lx_X12_this_11 d h) 0 rfl rfl hwp.1 dX12_compact_54 ?_
      replace hwp := hwp.2
      refine lv_iload_n (pc := 55) cx.1 cx.2.1 dX12_compact_55 rfl (lv_at hl 1 rfl) ?_
      refine lv_icmp_ne (pc := 56) (tgt := 67) cx.1 cx.2.1 dX12_compact_56 (by decide) (fun c2 => ?_) (fun c2 => ?_)
      · replace hwp := hwp.1 c2
        refine lv_iconst (pc := 67) (v := 1) cx.1 cx.2.1 dX12_compact_67 (by decide) ?_
        exact wk_X12_compact_68 cx ih _ _ _ _ _ _ _ hwp hw (lv_sub hl [0, 1, 2] rfl)
      · replace hwp := hwp.2 c2
        refine lv_aload_n (pc := 59) cx.1 cx.2.1 dX12_compact_59 rfl (lv_at hl 0 rfl) ?_
        refine lv_iload_n (pc := 60) cx.1 cx.2.1 dX12_compact_60 rfl (lv_at hl 2 rfl) ?_
        refine k_whole_i (pc := 61) (wf := (wM d h)) (u := u) cx hw (k_runV (pc := 61) (rest := []) (As := [.int x2]) cx hw.1 (hw.2.1.weaken (fun _ _ _ _ => trivial)) hw.2.2 (k_recv cx hw 0 (ci := 10) (q := (RX12, TX12, 40)) rfl rfl) (m_X12_together l dC dI d h  u x2 hwp H.size) (cwV 1 cx.2.2.2.2.1 (lw_V q1231 q1233 qs58 q89 q1234) rfl rfl rfl hdV_X12_together ⟨Nat.le_of_ble_eq_true rfl, Nat.le_of_ble_eq_true rfl⟩) rfl hl.1 rfl (Nat.le_of_ble_eq_true rfl) dX12_compact_61 ⟨Nat.le_of_ble_eq_true rfl, Nat.le_of_ble_eq_true rfl⟩) (fun r4 u3 H locs hwp hw => ?_)
        refine lv_goto (pc := 64) (tgt := 68) cx.1 cx.2.1 dX12_compact_64 (by decide) ?_
        exact wk_X12_compact_68 cx ih _ _ _ _ _ _ _ hwp hw (lv_sub hl [0, 1, 2] rfl)
set_option maxHeartbeats 4000000 in
theorem m_X12_compact (l : Launch) (dC : Nat → ClassId) (dI : Nat → Nat → Nat) (d : Nat → ClassId) (h : Nat → Nat) (u : St) (x1 : Int32) {K : Int32 → St → Prop} (hwp : wp_X12_compact u x1 K) : kM l yX12_compact cX12_compact 5 (some .int) ({ frames := 5, cells := 0, slots := 0, locals := 122 } : Room) dC dI d [.ref (h 0), .int x1] (wM d h) u (kQi dC dI (wM d h) K) 0 0 := by
  refine kM_start rfl (Nat.le_of_ble_eq_true rfl) ?_
  intro p e s m below meth c A ls cx hnm hw hl
  generalize hargs : ([.ref (h 0), .int x1] : List Value).toArray = args at cx ⊢
  unfold wp_X12_compact at hwp
  replace hl : lv_has ls 5 [(0, .ref (h 0)), (1, .int x1)] := hl
  generalize hH : s.heap = H at hw ⊢
  generalize hlo : ([] : List Loc) = locs at hw ⊢
  refine lv_aload_n (pc := 0) cx.1 cx.2.1 dX12_compact_0 rfl (lv_at hl 0 rfl) ?_
  refine lv_iconst (pc := 1) (v := 0) cx.1 cx.2.1 dX12_compact_1 (by decide) ?_
  refine k_putI (pc := 2) (u := u) (v := (0 : Int32)) cx hw (ln_X12_this_0 d h) (C := RX12) (T := TX12) (N := 40) rfl in_X12 tyX12 tyX12_ok nmX12 (by decide) q977 (fun _ h9 => h9) rfl rfl rfl dX12_compact_2 (fun H locs hw => ?_)
  refine lv_aload_n (pc := 5) cx.1 cx.2.1 dX12_compact_5 rfl (lv_at hl 0 rfl) ?_
  refine k_whole_v (pc := 6) (wf := (wM d h)) (u := (st_I u 0 (0 : Int32))) cx hw (k_runV (pc := 6) (rest := []) (As := []) cx hw.1 (hw.2.1.weaken (fun _ _ _ _ => trivial)) hw.2.2 (k_recv cx hw 0 (ci := 10) (q := (RX12, TX12, 40)) rfl rfl) (m_X12_dropCursor l dC dI d h  (st_I u 0 (0 : Int32))  hwp H.size) (cwV 0 cx.2.2.2.2.1 (lw_V q1106 q1108 qs32 q89 q1109) rfl rfl rfl hdV_X12_dropCursor ⟨Nat.le_of_ble_eq_true rfl, Nat.le_of_ble_eq_true rfl⟩) rfl hl.1 rfl (Nat.le_of_ble_eq_true rfl) dX12_compact_6 ⟨Nat.le_of_ble_eq_true rfl, Nat.le_of_ble_eq_true rfl⟩) (fun u1 H locs hwp hw => ?_)
  refine lv_aload_n (pc := 9) cx.1 cx.2.1 dX12_compact_9 rfl (lv_at hl 0 rfl) ?_
  refine k_getI (pc := 10) (u := u1) (v := (u1.1 7)) cx hw (ln_X12_this_7 d h) (C := RX12) (T := TX12) (N := 40) rfl in_X12 (by decide) q984 (fun _ h9 => h9) rfl dX12_compact_10 ?_
  refine lv_if_eq (pc := 13) (tgt := 19) cx.1 cx.2.1 dX12_compact_13 (by decide) (fun c3 => ?_) (fun c3 => ?_)
  · replace hwp := hwp.1 c3
    refine lv_aload_n (pc := 19) cx.1 cx.2.1 dX12_compact_19 rfl (lv_at hl 0 rfl) ?_
    refine lv_iload_n (pc := 20) cx.1 cx.2.1 dX12_compact_20 rfl (lv_at hl 1 rfl) ?_
    refine k_whole_i (pc := 21) (wf := (wM d h)) (u := u1) cx hw (k_runV (pc := 21) (rest := []) (As := [.int x1]) cx hw.1 (hw.2.1.weaken (fun _ _ _ _ => trivial)) hw.2.2 (k_recv cx hw 0 (ci := 10) (q := (RX12, TX12, 40)) rfl rfl) (m_X12_isSeries l dC dI d h  u1 x1 hwp H.size) (cwV 1 cx.2.2.2.2.1 (lw_V q1110 q1112 qs33 q89 q1113) rfl rfl rfl hdV_X12_isSeries ⟨Nat.le_of_ble_eq_true rfl, Nat.le_of_ble_eq_true rfl⟩) rfl hl.1 rfl (Nat.le_of_ble_eq_true rfl) dX12_compact_21 ⟨Nat.le_of_ble_eq_true rfl, Nat.le_of_ble_eq_true rfl⟩) (fun r5 u4 H locs hwp hw => ?_)
    refine lv_if_ne (pc := 24) (tgt := 30) cx.1 cx.2.1 dX12_compact_24 (by decide) (fun c6 => ?_) (fun c6 => ?_)
    · replace hwp := hwp.1 c6
      refine lv_aload_n (pc := 30) cx.1 cx.2.1 dX12_compact_30 rfl (lv_at hl 0 rfl) ?_
      refine k_whole_v (pc := 31) (wf := (wM d h)) (u := u4) cx hw (k_runV (pc := 31) (rest := []) (As := []) cx hw.1 (hw.2.1.weaken (fun _ _ _ _ => trivial)) hw.2.2 (k_recv cx hw 0 (ci := 10) (q := (RX12, TX12, 40)) rfl rfl) (m_X12_beginNext l dC dI d h  u4  hwp H.size) (cwV 0 cx.2.2.2.2.1 (lw_V q1126 q1128 qs36 q89 q1129) rfl rfl rfl hdV_X12_beginNext ⟨Nat.le_of_ble_eq_true rfl, Nat.le_of_ble_eq_true rfl⟩) rfl hl.1 rfl (Nat.le_of_ble_eq_true rfl) dX12_compact_31 ⟨Nat.le_of_ble_eq_true rfl, Nat.le_of_ble_eq_true rfl⟩) (fun u7 H locs hwp hw => ?_)
      refine lv_iconst (pc := 34) (v := 0) cx.1 cx.2.1 dX12_compact_34 (by decide) ?_
      refine lv_istore_n (pc := 35) (lv' := [(2, .int (0 : Int32)), (0, .ref (h 0)), (1, .int x1)]) cx.1 cx.2.1 dX12_compact_35 rfl hl (by decide) rfl (fun ls hl => ?_)
      obtain ⟨n36, hwp⟩ := hwp
      exact wk_X12_compact_36 cx n36 _ _ _ _ _ _ hwp hw (lv_sub hl [1, 2, 0] rfl)
    · replace hwp := hwp.2 c6
      refine lv_bipush (pc := 27) (v := -2) cx.1 cx.2.1 dX12_compact_27 (by decide) ?_
      exact k_iret (pc := 29) (wf := (wM d h)) (u := u4) cx hw hwp (by decide) (by decide) dX12_compact_29
  · replace hwp := hwp.2 c3
    refine lv_bipush (pc := 16) (v := -9) cx.1 cx.2.1 dX12_compact_16 (by decide) ?_
    exact k_iret (pc := 18) (wf := (wM d h)) (u := u1) cx hw hwp (by decide) (by decide) dX12_compact_18
set_option maxHeartbeats 4000000 in
theorem wk_X12_expire_83 {p : Program} {l : Launch} {e : Env} {s : State} {m : MethodId} {args : Array Value} {below : List Frame} {meth : Method} {c : Code} {A : Nat → Prop} {dC : Nat → ClassId} {dI : Nat → Nat → Nat} {d : Nat → ClassId} {h : Nat → Nat} {K : Int32 → St → Prop} (cx : Cx p s m args meth c cX12_expire RX12 4 (some .int) A dC dI d) : ∀ (x2 : Int32) (u : St) (H : Heap) (locs : List Loc) (ls : Array Slot), wp_X12_expire_83 K x2 u → Wd dC dI A ((wM d h) u) s H locs → lv_has ls 4 [(0, .ref (h 0)), (2, .int x2)] → W p l e ({ frames := 5, cells := 0, slots := 0, locals := 122 } : Room) s m args below meth c H locs 0 0 (MQ below (kQi dC dI (wM d h) K A) args s 0 0 A) (F0 m 83 ls []) := by
  intro x2 u H locs ls hwp hw hl
  unfold wp_X12_expire_83 at hwp
  refine lv_iload_n (pc := 83) cx.1 cx.2.1 dX12_expire_83 rfl (lv_at hl 1 rfl) ?_
  refine lv_if_ne (pc := 84) (tgt := 89) cx.1 cx.2.1 dX12_expire_84 (by decide) (fun c1 => ?_) (fun c1 => ?_)
  · replace hwp := hwp.1 c1
    refine lv_aload_n (pc := 89) cx.1 cx.2.1 dX12_expire_89 rfl (lv_at hl 0 rfl) ?_
    refine lv_aload_n (pc := 90) cx.1 cx.2.1 dX12_expire_90 rfl (lv_at hl 0 rfl) ?_
    refine k_getI (pc := 91) (u := u) (v := (u.1 19)) cx hw (ln_X12_this_19 d h) (C := RX12) (T := TX12) (N := 40) rfl in_X12 (by decide) q996 (fun _ h9 => h9) rfl dX12_expire_91 ?_
    refine k_whole_i (pc := 94) (wf := (wM d h)) (u := u) cx hw (k_runV (pc := 94) (rest := []) (As := [.int (u.1 19)]) cx hw.1 (hw.2.1.weaken (fun _ _ _ _ => trivial)) hw.2.2 (k_recv cx hw 0 (ci := 10) (q := (RX12, TX12, 40)) rfl rfl) (m_X12_turn l dC dI d h  u (u.1 19) hwp H.size) (cwV 1 cx.2.2.2.2.1 (lw_V q1150 q1152 qs42 q89 q1153) rfl rfl rfl hdV_X12_turn ⟨Nat.le_of_ble_eq_true rfl, Nat.le_of_ble_eq_true rfl⟩) rfl hl.1 rfl (Nat.le_of_ble_eq_true rfl) dX12_expire_94 ⟨Nat.le_of_ble_eq_true rfl, Nat.le_of_ble_eq_true rfl⟩) (fun r3 u2 H locs hwp hw => ?_)
    refine lv_istore_n (pc := 97) (lv' := [(3, .int r3), (0, .ref (h 0)), (2, .int x2)]) cx.1 cx.2.1 dX12_expire_97 rfl hl (by decide) rfl (fun ls hl => ?_)
    refine lv_iload_n (pc := 98) cx.1 cx.2.1 dX12_expire_98 rfl (lv_at hl 0 rfl) ?_
    have hJ5 : ∀ z4 : Int32, z4 = (if r3 = 0 then x2 else r3) → W p l e ({ frames := 5, cells := 0, slots := 0, locals := 122 } : Room) s m args below meth c H locs 0 0 (MQ below (kQi dC dI (wM d h) K A) args s 0 0 A) (F0 m 107 ls [.int z4]) := by
      intro z4 ez4
      replace hwp := hwp z4 ez4
      exact k_iret (pc := 107) (wf := (wM d h)) (u := u2) cx hw hwp (by decide) (by decide) dX12_expire_107
    clear hwp
    refine lv_if_ne (pc := 99) (tgt := 106) cx.1 cx.2.1 dX12_expire_99 (by decide) (fun c6 => ?_) (fun c6 => ?_)
    · skip
      refine lv_iload_n (pc := 106) cx.1 cx.2.1 dX12_expire_106 rfl (lv_at hl 0 rfl) ?_
      exact hJ5 _ (if_neg c6).symm
    · skip
      refine lv_iload_n (pc := 102) cx.1 cx.2.1 dX12_expire_102 rfl (lv_at hl 2 rfl) ?_
      refine lv_goto (pc := 103) (tgt := 107) cx.1 cx.2.1 dX12_expire_103 (by decide) ?_
      exact hJ5 _ (if_pos c6).symm
  · replace hwp := hwp.2 c1
    refine lv_iconst (pc := 87) (v := 0) cx.1 cx.2.1 dX12_expire_87 (by decide) ?_
    exact k_iret (pc := 88) (wf := (wM d h)) (u := u) cx hw hwp (by decide) (by decide) dX12_expire_88
set_option maxHeartbeats 4000000 in
theorem wk_X12_expire_27 {p : Program} {l : Launch} {e : Env} {s : State} {m : MethodId} {args : Array Value} {below : List Frame} {meth : Method} {c : Code} {A : Nat → Prop} {dC : Nat → ClassId} {dI : Nat → Nat → Nat} {d : Nat → ClassId} {h : Nat → Nat} {K : Int32 → St → Prop} (cx : Cx p s m args meth c cX12_expire RX12 4 (some .int) A dC dI d) : ∀ (n : Nat) (x1 : Int32) (x2 : Int32) (x3 : Int32) (u : St) (H : Heap) (locs : List Loc) (ls : Array Slot), wp_X12_expire_27 K n x1 x2 x3 u → Wd dC dI A ((wM d h) u) s H locs → lv_has ls 4 [(0, .ref (h 0)), (1, .int x1), (2, .int x2), (3, .int x3)] → W p l e ({ frames := 5, cells := 0, slots := 0, locals := 122 } : Room) s m args below meth c H locs 0 0 (MQ below (kQi dC dI (wM d h) K A) args s 0 0 A) (F0 m 27 ls []) := by
  intro n
  induction n with
  | zero =>
    intros; contradiction
  | succ n ih =>
    intro x1 x2 x3 u H locs ls hwp hw hl
    unfold wp_X12_expire_27 at hwp
    refine lv_iload_n (pc := 27) cx.1 cx.2.1 dX12_expire_27 rfl (lv_at hl 3 rfl) ?_
    refine lv_aload_n (pc := 28) cx.1 cx.2.1 dX12_expire_28 rfl (lv_at hl 0 rfl) ?_
    refine k_getI (pc := 29) (u := u) (v := (u.1 18)) cx hw (ln_X12_this_18 d h) (C := RX12) (T := TX12) (N := 40) rfl in_X12 (by decide) q995 (fun _ h9 => h9) rfl dX12_expire_29 ?_
    refine lv_icmp_ge (pc := 32) (tgt := 83) cx.1 cx.2.1 dX12_expire_32 (by decide) (fun c1 => ?_) (fun c1 => ?_)
    · replace hwp := hwp.1 c1
      exact wk_X12_expire_83 cx _ _ _ _ _ hwp hw (lv_sub hl [0, 2] rfl)
    · replace hwp := hwp.2 c1
      refine lv_aload_n (pc := 35) cx.1 cx.2.1 dX12_expire_35 rfl (lv_at hl 0 rfl) ?_
      refine lv_aload_n (pc := 36) cx.1 cx.2.1 dX12_expire_36 rfl (lv_at hl 0 rfl) ?_
      refine k_getR (pc := 37) (u := u) (v := .ref (h 8)) cx hw (lr_X12_this_17 d h) (C := RX12) (T := TX12) (N := 40) rfl in_X12 (by decide) q994 (fun _ h9 => h9) rfl dX12_expire_37 ?_
      refine lv_iload_n (pc := 40) cx.1 cx.2.1 dX12_expire_40 rfl (lv_at hl 3 rfl) ?_
      refine k_iald (pc := 41) (u := u) (f := (u.2.1 17)) cx hw (lx_X12_this_17 d h) 0 rfl rfl hwp.1 dX12_expire_41 ?_
      replace hwp := hwp.2
      refine k_whole_i (pc := 42) (wf := (wM d h)) (u := u) cx hw (k_runV (pc := 42) (rest := []) (As := [.int ((u.2.1 17) x3.toNatClampNeg)]) cx hw.1 (hw.2.1.weaken (fun _ _ _ _ => trivial)) hw.2.2 (k_recv cx hw 0 (ci := 10) (q := (RX12, TX12, 40)) rfl rfl) (m_X12_lastTime l dC dI d h  u ((u.2.1 17) x3.toNatClampNeg) hwp H.size) (cwV 1 cx.2.2.2.2.1 (lw_V q1215 q1217 qs55 q89 q1218) rfl rfl rfl hdV_X12_lastTime ⟨Nat.le_of_ble_eq_true rfl, Nat.le_of_ble_eq_true rfl⟩) rfl hl.1 rfl (Nat.le_of_ble_eq_true rfl) dX12_expire_42 ⟨Nat.le_of_ble_eq_true rfl, Nat.le_of_ble_eq_true rfl⟩) (fun r3 u2 H locs hwp hw => ?_)
      refine lv_iload_n (pc := 45) cx.1 cx.2.1 dX12_expire_45 rfl (lv_at hl 1 rfl) ?_
      refine lv_icmp_ge (pc := 46) (tgt := 66) cx.1 cx.2.1 dX12_expire_46 (by decide) (fun c4 => ?_) (fun c4 => ?_)
      · replace hwp := hwp.1 c4
        refine lv_aload_n (pc := 66) cx.1 cx.2.1 dX12_expire_66 rfl (lv_at hl 0 rfl) ?_
        refine lv_aload_n (pc := 67) cx.1 cx.2.1 dX12_expire_67 rfl (lv_at hl 0 rfl) ?_
        refine k_getR (pc := 68) (u := u2) (v := .ref (h 8)) cx hw (lr_X12_this_17 d h) (C := RX12) (T := TX12) (N := 40) rfl in_X12 (by decide) q994 (fun _ h9 => h9) rfl dX12_expire_68 ?_
        refine lv_iload_n (pc := 71) cx.1 cx.2.1 dX12_expire_71 rfl (lv_at hl 3 rfl) ?_
        refine k_iald (pc := 72) (u := u2) (f := (u2.2.1 17)) cx hw (lx_X12_this_17 d h) 0 rfl rfl hwp.1 dX12_expire_72 ?_
        replace hwp := hwp.2
        refine lv_iconst (pc := 73) (v := 0) cx.1 cx.2.1 dX12_expire_73 (by decide) ?_
        refine k_whole_v (pc := 74) (wf := (wM d h)) (u := u2) cx hw (k_runV (pc := 74) (rest := []) (As := [.int ((u2.2.1 17) x3.toNatClampNeg), .int (0 : Int32)]) cx hw.1 (hw.2.1.weaken (fun _ _ _ _ => trivial)) hw.2.2 (k_recv cx hw 0 (ci := 10) (q := (RX12, TX12, 40)) rfl rfl) (m_X12_comes l dC dI d h  u2 ((u2.2.1 17) x3.toNatClampNeg) (0 : Int32) hwp H.size) (cwV 2 cx.2.2.2.2.1 (lw_V q1130 q1132 qs37 q89 q1133) rfl rfl rfl hdV_X12_comes ⟨Nat.le_of_ble_eq_true rfl, Nat.le_of_ble_eq_true rfl⟩) rfl hl.1 rfl (Nat.le_of_ble_eq_true rfl) dX12_expire_74 ⟨Nat.le_of_ble_eq_true rfl, Nat.le_of_ble_eq_true rfl⟩) (fun u5 H locs hwp hw => ?_)
        refine lv_iinc (pc := 77) (v := (x3 + (1 : Int32))) (lv' := [(3, .int (x3 + (1 : Int32))), (0, .ref (h 0)), (1, .int x1), (2, .int x2)]) cx.1 cx.2.1 dX12_expire_77 hl (k := 3) rfl rfl (by decide) rfl (fun ls hl => ?_)
        refine lv_goto (pc := 80) (tgt := 27) cx.1 cx.2.1 dX12_expire_80 (by decide) ?_
        exact ih _ _ _ _ _ _ _ hwp hw (lv_sub hl [1, 2, 3, 0] rfl)
      · replace hwp := hwp.2 c4
        refine lv_iload_n (pc := 49) cx.1 cx.2.1 dX12_expire_49 rfl (lv_at hl 2 rfl) ?_
        refine lv_aload_n (pc := 50) cx.1 cx.2.1 dX12_expire_50 rfl (lv_at hl 0 rfl) ?_
        refine k_getR (pc := 51) (u := u2) (v := .ref (h 3)) cx hw (lr_X12_this_12 d h) (C := RX12) (T := TX12) (N := 40) rfl in_X12 (by decide) q989 (fun _ h9 => h9) rfl dX12_expire_51 ?_
        refine lv_aload_n (pc := 54) cx.1 cx.2.1 dX12_expire_54 rfl (lv_at hl 0 rfl) ?_
        refine k_getR (pc := 55) (u := u2) (v := .ref (h 8)) cx hw (lr_X12_this_17 d h) (C := RX12) (T := TX12) (N := 40) rfl in_X12 (by decide) q994 (fun _ h9 => h9) rfl dX12_expire_55 ?_
        refine lv_iload_n (pc := 58) cx.1 cx.2.1 dX12_expire_58 rfl (lv_at hl 3 rfl) ?_
        refine k_iald (pc := 59) (u := u2) (f := (u2.2.1 17)) cx hw (lx_X12_this_17 d h) 0 rfl rfl hwp.1 dX12_expire_59 ?_
        replace hwp := hwp.2
        refine k_iald (pc := 60) (u := u2) (f := (u2.2.1 12)) cx hw (lx_X12_this_12 d h) 0 rfl rfl hwp.1 dX12_expire_60 ?_
        replace hwp := hwp.2
        refine lv_iadd (pc := 61) cx.1 cx.2.1 dX12_expire_61 ?_
        refine lv_istore_n (pc := 62) (lv' := [(2, .int (x2 + ((u2.2.1 12) ((u2.2.1 17) x3.toNatClampNeg).toNatClampNeg))), (0, .ref (h 0)), (1, .int x1), (3, .int x3)]) cx.1 cx.2.1 dX12_expire_62 rfl hl (by decide) rfl (fun ls hl => ?_)
        refine lv_goto (pc := 63) (tgt := 77) cx.1 cx.2.1 dX12_expire_63 (by decide) ?_
        refine lv_iinc (pc := 77) (v := (x3 + (1 : Int32))) (lv' := [(3, .int (x3 + (1 : Int32))), (2, .int (x2 + ((u2.2.1 12) ((u2.2.1 17) x3.toNatClampNeg).toNatClampNeg))), (0, .ref (h 0)), (1, .int x1)]) cx.1 cx.2.1 dX12_expire_77 hl (k := 3) rfl rfl (by decide) rfl (fun ls hl => ?_)
        refine lv_goto (pc := 80) (tgt := 27) cx.1 cx.2.1 dX12_expire_80 (by decide) ?_
        exact ih _ _ _ _ _ _ _ hwp hw (lv_sub hl [2, 3, 1, 0] rfl)
set_option maxHeartbeats 4000000 in
theorem m_X12_expire (l : Launch) (dC : Nat → ClassId) (dI : Nat → Nat → Nat) (d : Nat → ClassId) (h : Nat → Nat) (u : St) (x1 : Int32) {K : Int32 → St → Prop} (hwp : wp_X12_expire u x1 K) : kM l yX12_expire cX12_expire 4 (some .int) ({ frames := 5, cells := 0, slots := 0, locals := 122 } : Room) dC dI d [.ref (h 0), .int x1] (wM d h) u (kQi dC dI (wM d h) K) 0 0 := by
  refine kM_start rfl (Nat.le_of_ble_eq_true rfl) ?_
  intro p e s m below meth c A ls cx hnm hw hl
  generalize hargs : ([.ref (h 0), .int x1] : List Value).toArray = args at cx ⊢
  unfold wp_X12_expire at hwp
  replace hl : lv_has ls 4 [(0, .ref (h 0)), (1, .int x1)] := hl
  generalize hH : s.heap = H at hw ⊢
  generalize hlo : ([] : List Loc) = locs at hw ⊢
  refine lv_aload_n (pc := 0) cx.1 cx.2.1 dX12_expire_0 rfl (lv_at hl 0 rfl) ?_
  refine lv_iconst (pc := 1) (v := 0) cx.1 cx.2.1 dX12_expire_1 (by decide) ?_
  refine k_putI (pc := 2) (u := u) (v := (0 : Int32)) cx hw (ln_X12_this_0 d h) (C := RX12) (T := TX12) (N := 40) rfl in_X12 tyX12 tyX12_ok nmX12 (by decide) q977 (fun _ h9 => h9) rfl rfl rfl dX12_expire_2 (fun H locs hw => ?_)
  refine lv_aload_n (pc := 5) cx.1 cx.2.1 dX12_expire_5 rfl (lv_at hl 0 rfl) ?_
  refine k_whole_v (pc := 6) (wf := (wM d h)) (u := (st_I u 0 (0 : Int32))) cx hw (k_runV (pc := 6) (rest := []) (As := []) cx hw.1 (hw.2.1.weaken (fun _ _ _ _ => trivial)) hw.2.2 (k_recv cx hw 0 (ci := 10) (q := (RX12, TX12, 40)) rfl rfl) (m_X12_dropCursor l dC dI d h  (st_I u 0 (0 : Int32))  hwp H.size) (cwV 0 cx.2.2.2.2.1 (lw_V q1106 q1108 qs32 q89 q1109) rfl rfl rfl hdV_X12_dropCursor ⟨Nat.le_of_ble_eq_true rfl, Nat.le_of_ble_eq_true rfl⟩) rfl hl.1 rfl (Nat.le_of_ble_eq_true rfl) dX12_expire_6 ⟨Nat.le_of_ble_eq_true rfl, Nat.le_of_ble_eq_true rfl⟩) (fun u1 H locs hwp hw => ?_)
  refine lv_aload_n (pc := 9) cx.1 cx.2.1 dX12_expire_9 rfl (lv_at hl 0 rfl) ?_
  refine k_getI (pc := 10) (u := u1) (v := (u1.1 7)) cx hw (ln_X12_this_7 d h) (C := RX12) (T := TX12) (N := 40) rfl in_X12 (by decide) q984 (fun _ h9 => h9) rfl dX12_expire_10 ?_
  refine lv_if_eq (pc := 13) (tgt := 19) cx.1 cx.2.1 dX12_expire_13 (by decide) (fun c3 => ?_) (fun c3 => ?_)
  · replace hwp := hwp.1 c3
    refine lv_aload_n (pc := 19) cx.1 cx.2.1 dX12_expire_19 rfl (lv_at hl 0 rfl) ?_
    refine k_whole_v (pc := 20) (wf := (wM d h)) (u := u1) cx hw (k_runV (pc := 20) (rest := []) (As := []) cx hw.1 (hw.2.1.weaken (fun _ _ _ _ => trivial)) hw.2.2 (k_recv cx hw 0 (ci := 10) (q := (RX12, TX12, 40)) rfl rfl) (m_X12_beginNext l dC dI d h  u1  hwp H.size) (cwV 0 cx.2.2.2.2.1 (lw_V q1126 q1128 qs36 q89 q1129) rfl rfl rfl hdV_X12_beginNext ⟨Nat.le_of_ble_eq_true rfl, Nat.le_of_ble_eq_true rfl⟩) rfl hl.1 rfl (Nat.le_of_ble_eq_true rfl) dX12_expire_20 ⟨Nat.le_of_ble_eq_true rfl, Nat.le_of_ble_eq_true rfl⟩) (fun u4 H locs hwp hw => ?_)
    refine lv_iconst (pc := 23) (v := 0) cx.1 cx.2.1 dX12_expire_23 (by decide) ?_
    refine lv_istore_n (pc := 24) (lv' := [(2, .int (0 : Int32)), (0, .ref (h 0)), (1, .int x1)]) cx.1 cx.2.1 dX12_expire_24 rfl hl (by decide) rfl (fun ls hl => ?_)
    refine lv_iconst (pc := 25) (v := 0) cx.1 cx.2.1 dX12_expire_25 (by decide) ?_
    refine lv_istore_n (pc := 26) (lv' := [(3, .int (0 : Int32)), (2, .int (0 : Int32)), (0, .ref (h 0)), (1, .int x1)]) cx.1 cx.2.1 dX12_expire_26 rfl hl (by decide) rfl (fun ls hl => ?_)
    obtain ⟨n27, hwp⟩ := hwp
    exact wk_X12_expire_27 cx n27 _ _ _ _ _ _ _ hwp hw (lv_sub hl [2, 3, 1, 0] rfl)
  · replace hwp := hwp.2 c3
    refine lv_bipush (pc := 16) (v := -9) cx.1 cx.2.1 dX12_expire_16 (by decide) ?_
    exact k_iret (pc := 18) (wf := (wM d h)) (u := u1) cx hw hwp (by decide) (by decide) dX12_expire_18
set_option maxHeartbeats 4000000 in
theorem wk_X12_meet_28 {p : Program} {l : Launch} {e : Env} {s : State} {m : MethodId} {args : Array Value} {below : List Frame} {meth : Method} {c : Code} {A : Nat → Prop} {dC : Nat → ClassId} {dI : Nat → Nat → Nat} {d : Nat → ClassId} {h : Nat → Nat} {C36 : Int32 → Int32 → Int32 → Int32 → St → Prop} {K : St → Prop} (cx : Cx p s m args meth c cX12_meet RX12 6 none A dC dI d) (hC36 : ∀ (x1 : Int32) (x2 : Int32) (x5 : Int32) (y1 : Int32) (u : St) (H : Heap) (locs : List Loc) (ls : Array Slot), C36 x1 x2 x5 y1 u → Wd dC dI A ((wM d h) u) s H locs → lv_has ls 6 [(0, .ref (h 0)), (1, .int x1), (2, .int x2), (5, .int x5)] → W p l e ({ frames := 0, cells := 0, slots := 0, locals := 0 } : Room) s m args below meth c H locs 0 0 (MQ below (kQv dC dI (wM d h) K A) args s 0 0 A) (F0 m 36 ls [.int y1, .ref (h 0)])) : ∀ (x1 : Int32) (x2 : Int32) (x5 : Int32) (u : St) (H : Heap) (locs : List Loc) (ls : Array Slot), wp_X12_meet_28 C36 K x1 x2 x5 u → Wd dC dI A ((wM d h) u) s H locs → lv_has ls 6 [(0, .ref (h 0)), (1, .int x1), (2, .int x2), (5, .int x5)] → W p l e ({ frames := 0, cells := 0, slots := 0, locals := 0 } : Room) s m args below meth c H locs 0 0 (MQ below (kQv dC dI (wM d h) K A) args s 0 0 A) (F0 m 28 ls [.ref (h 0)]) := by
  intro x1 x2 x5 u H locs ls hwp hw hl
  unfold wp_X12_meet_28 at hwp
  refine lv_iload_n (pc := 28) cx.1 cx.2.1 dX12_meet_28 rfl (lv_at hl 2 rfl) ?_
  refine lv_goto (pc := 29) (tgt := 36) cx.1 cx.2.1 dX12_meet_29 (by decide) ?_
  exact hC36 _ _ _ _ _ _ _ _ hwp hw (lv_sub hl [0, 1, 2, 3] rfl)
set_option maxHeartbeats 4000000 in
theorem wk_X12_meet_55 {p : Program} {l : Launch} {e : Env} {s : State} {m : MethodId} {args : Array Value} {below : List Frame} {meth : Method} {c : Code} {A : Nat → Prop} {dC : Nat → ClassId} {dI : Nat → Nat → Nat} {d : Nat → ClassId} {h : Nat → Nat} {C63 : Int32 → Int32 → Int32 → Int32 → St → Prop} {K : St → Prop} (cx : Cx p s m args meth c cX12_meet RX12 6 none A dC dI d) (hC63 : ∀ (x1 : Int32) (x2 : Int32) (x5 : Int32) (y1 : Int32) (u : St) (H : Heap) (locs : List Loc) (ls : Array Slot), C63 x1 x2 x5 y1 u → Wd dC dI A ((wM d h) u) s H locs → lv_has ls 6 [(0, .ref (h 0)), (1, .int x1), (2, .int x2), (5, .int x5)] → W p l e ({ frames := 0, cells := 0, slots := 0, locals := 0 } : Room) s m args below meth c H locs 0 0 (MQ below (kQv dC dI (wM d h) K A) args s 0 0 A) (F0 m 63 ls [.int y1, .ref (h 0)])) : ∀ (x1 : Int32) (x2 : Int32) (x5 : Int32) (u : St) (H : Heap) (locs : List Loc) (ls : Array Slot), wp_X12_meet_55 C63 K x1 x2 x5 u → Wd dC dI A ((wM d h) u) s H locs → lv_has ls 6 [(0, .ref (h 0)), (1, .int x1), (2, .int x2), (5, .int x5)] → W p l e ({ frames := 0, cells := 0, slots := 0, locals := 0 } : Room) s m args below meth c H locs 0 0 (MQ below (kQv dC dI (wM d h) K A) args s 0 0 A) (F0 m 55 ls [.ref (h 0)]) := by
  intro x1 x2 x5 u H locs ls hwp hw hl
  unfold wp_X12_meet_55 at hwp
  refine lv_iload_n (pc := 55) cx.1 cx.2.1 dX12_meet_55 rfl (lv_at hl 2 rfl) ?_
  refine lv_goto (pc := 56) (tgt := 63) cx.1 cx.2.1 dX12_meet_56 (by decide) ?_
  exact hC63 _ _ _ _ _ _ _ _ hwp hw (lv_sub hl [0, 1, 2, 3] rfl)
set_option maxHeartbeats 4000000 in
theorem wk_X12_meet_102 {p : Program} {l : Launch} {e : Env} {s : State} {m : MethodId} {args : Array Value} {below : List Frame} {meth : Method} {c : Code} {A : Nat → Prop} {dC : Nat → ClassId} {dI : Nat → Nat → Nat} {d : Nat → ClassId} {h : Nat → Nat} {K : St → Prop} (cx : Cx p s m args meth c cX12_meet RX12 6 none A dC dI d) : ∀  (u : St) (H : Heap) (locs : List Loc) (ls : Array Slot), wp_X12_meet_102 K  u → Wd dC dI A ((wM d h) u) s H locs → lv_has ls 6 [(0, .ref (h 0))] → W p l e ({ frames := 0, cells := 0, slots := 0, locals := 0 } : Room) s m args below meth c H locs 0 0 (MQ below (kQv dC dI (wM d h) K A) args s 0 0 A) (F0 m 102 ls []) := by
  intro  u H locs ls hwp hw hl
  unfold wp_X12_meet_102 at hwp
  refine lv_aload_n (pc := 102) cx.1 cx.2.1 dX12_meet_102 rfl (lv_at hl 0 rfl) ?_
  refine lv_dup (pc := 103) cx.1 cx.2.1 dX12_meet_103 rfl ?_
  refine k_getI (pc := 104) (u := u) (v := (u.1 36)) cx hw (ln_X12_this_36 d h) (C := RX12) (T := TX12) (N := 40) rfl in_X12 (by decide) q1013 (fun _ h9 => h9) rfl dX12_meet_104 ?_
  refine lv_iconst (pc := 107) (v := 1) cx.1 cx.2.1 dX12_meet_107 (by decide) ?_
  refine lv_iadd (pc := 108) cx.1 cx.2.1 dX12_meet_108 ?_
  refine k_putI (pc := 109) (u := u) (v := ((u.1 36) + (1 : Int32))) cx hw (ln_X12_this_36 d h) (C := RX12) (T := TX12) (N := 40) rfl in_X12 tyX12 tyX12_ok nmX12 (by decide) q1013 (fun _ h9 => h9) rfl rfl rfl dX12_meet_109 (fun H locs hw => ?_)
  exact k_vret (pc := 112) (wf := (wM d h)) (u := (st_I u 36 ((u.1 36) + (1 : Int32)))) cx hw hwp (by decide) (by decide) dX12_meet_112
set_option maxHeartbeats 4000000 in
theorem wk_X12_meet_63 {p : Program} {l : Launch} {e : Env} {s : State} {m : MethodId} {args : Array Value} {below : List Frame} {meth : Method} {c : Code} {A : Nat → Prop} {dC : Nat → ClassId} {dI : Nat → Nat → Nat} {d : Nat → ClassId} {h : Nat → Nat} {K : St → Prop} (cx : Cx p s m args meth c cX12_meet RX12 6 none A dC dI d) : ∀ (x1 : Int32) (x2 : Int32) (x5 : Int32) (y1 : Int32) (u : St) (H : Heap) (locs : List Loc) (ls : Array Slot), wp_X12_meet_63 K x1 x2 x5 y1 u → Wd dC dI A ((wM d h) u) s H locs → lv_has ls 6 [(0, .ref (h 0)), (1, .int x1), (2, .int x2), (5, .int x5)] → W p l e ({ frames := 0, cells := 0, slots := 0, locals := 0 } : Room) s m args below meth c H locs 0 0 (MQ below (kQv dC dI (wM d h) K A) args s 0 0 A) (F0 m 63 ls [.int y1, .ref (h 0)]) := by
  intro x1 x2 x5 y1 u H locs ls hwp hw hl
  unfold wp_X12_meet_63 at hwp
  refine k_putI (pc := 63) (u := u) (v := y1) cx hw (ln_X12_this_38 d h) (C := RX12) (T := TX12) (N := 40) rfl in_X12 tyX12 tyX12_ok nmX12 (by decide) q1015 (fun _ h9 => h9) rfl rfl rfl dX12_meet_63 (fun H locs hw => ?_)
  refine lv_aload_n (pc := 66) cx.1 cx.2.1 dX12_meet_66 rfl (lv_at hl 0 rfl) ?_
  refine lv_dup (pc := 67) cx.1 cx.2.1 dX12_meet_67 rfl ?_
  refine k_getJ (pc := 68) (u := (st_I u 38 y1)) (v := (u.2.2.1 39)) cx hw (ln_X12_this_39 d h) (C := RX12) (T := TX12) (N := 40) rfl in_X12 (by decide) q1016 (fun _ h9 => h9) rfl dX12_meet_68 ?_
  refine lv_iload_n (pc := 71) cx.1 cx.2.1 dX12_meet_71 rfl (lv_at hl 2 rfl) ?_
  refine lv_i2l (pc := 72) cx.1 cx.2.1 dX12_meet_72 rfl ?_
  refine lv_ladd (pc := 73) cx.1 cx.2.1 dX12_meet_73 ?_
  refine k_putJ (pc := 74) (u := (st_I u 38 y1)) (v := ((u.2.2.1 39) + x2.toInt64)) cx hw (ln_X12_this_39 d h) (C := RX12) (T := TX12) (N := 40) rfl in_X12 tyX12 tyX12_ok nmX12 (by decide) q1016 (fun _ h9 => h9) rfl rfl rfl dX12_meet_74 (fun H locs hw => ?_)
  refine lv_iload (pc := 77) cx.1 cx.2.1 dX12_meet_77 (lv_at hl 3 rfl) ?_
  refine lv_if_eq (pc := 79) (tgt := 102) cx.1 cx.2.1 dX12_meet_79 (by decide) (fun c1 => ?_) (fun c1 => ?_)
  · replace hwp := hwp.1 c1
    exact wk_X12_meet_102 cx  _ _ _ _ hwp hw (lv_sub hl [0] rfl)
  · replace hwp := hwp.2 c1
    refine lv_aload_n (pc := 82) cx.1 cx.2.1 dX12_meet_82 rfl (lv_at hl 0 rfl) ?_
    refine k_getR (pc := 83) (u := (st_L (st_I u 38 y1) 39 ((u.2.2.1 39) + x2.toInt64))) (v := .ref (h 14)) cx hw (lr_X12_this_28 d h) (C := RX12) (T := TX12) (N := 40) rfl in_X12 (by decide) q1005 (fun _ h9 => h9) rfl dX12_meet_83 ?_
    refine lv_aload_n (pc := 86) cx.1 cx.2.1 dX12_meet_86 rfl (lv_at hl 0 rfl) ?_
    refine k_getI (pc := 87) (u := (st_L (st_I u 38 y1) 39 ((u.2.2.1 39) + x2.toInt64))) (v := (u.1 36)) cx hw (ln_X12_this_36 d h) (C := RX12) (T := TX12) (N := 40) rfl in_X12 (by decide) q1013 (fun _ h9 => h9) rfl dX12_meet_87 ?_
    refine lv_iload_n (pc := 90) cx.1 cx.2.1 dX12_meet_90 rfl (lv_at hl 1 rfl) ?_
    refine k_iast (pc := 91) (u := (st_L (st_I u 38 y1) 39 ((u.2.2.1 39) + x2.toInt64))) (f := (u.2.1 28)) cx hw (ln_X12_this_28 d h) 0 rfl rfl hwp.1 dX12_meet_91 (fun H locs hw => ?_)
    replace hwp := hwp.2
    refine lv_aload_n (pc := 92) cx.1 cx.2.1 dX12_meet_92 rfl (lv_at hl 0 rfl) ?_
    refine k_getR (pc := 93) (u := (st_A (st_L (st_I u 38 y1) 39 ((u.2.2.1 39) + x2.toInt64)) 28 (upd (u.2.1 28) (u.1 36).toNatClampNeg x1))) (v := .ref (h 15)) cx hw (lr_X12_this_29 d h) (C := RX12) (T := TX12) (N := 40) rfl in_X12 (by decide) q1006 (fun _ h9 => h9) rfl dX12_meet_93 ?_
    refine lv_aload_n (pc := 96) cx.1 cx.2.1 dX12_meet_96 rfl (lv_at hl 0 rfl) ?_
    refine k_getI (pc := 97) (u := (st_A (st_L (st_I u 38 y1) 39 ((u.2.2.1 39) + x2.toInt64)) 28 (upd (u.2.1 28) (u.1 36).toNatClampNeg x1))) (v := (u.1 36)) cx hw (ln_X12_this_36 d h) (C := RX12) (T := TX12) (N := 40) rfl in_X12 (by decide) q1013 (fun _ h9 => h9) rfl dX12_meet_97 ?_
    refine lv_iload_n (pc := 100) cx.1 cx.2.1 dX12_meet_100 rfl (lv_at hl 2 rfl) ?_
    refine k_iast (pc := 101) (u := (st_A (st_L (st_I u 38 y1) 39 ((u.2.2.1 39) + x2.toInt64)) 28 (upd (u.2.1 28) (u.1 36).toNatClampNeg x1))) (f := (u.2.1 29)) cx hw (ln_X12_this_29 d h) 0 rfl rfl hwp.1 dX12_meet_101 (fun H locs hw => ?_)
    replace hwp := hwp.2
    exact wk_X12_meet_102 cx  _ _ _ _ hwp hw (lv_sub hl [0] rfl)
set_option maxHeartbeats 4000000 in
theorem wk_X12_meet_36 {p : Program} {l : Launch} {e : Env} {s : State} {m : MethodId} {args : Array Value} {below : List Frame} {meth : Method} {c : Code} {A : Nat → Prop} {dC : Nat → ClassId} {dI : Nat → Nat → Nat} {d : Nat → ClassId} {h : Nat → Nat} {K : St → Prop} (cx : Cx p s m args meth c cX12_meet RX12 6 none A dC dI d) : ∀ (x1 : Int32) (x2 : Int32) (x5 : Int32) (y1 : Int32) (u : St) (H : Heap) (locs : List Loc) (ls : Array Slot), wp_X12_meet_36 K x1 x2 x5 y1 u → Wd dC dI A ((wM d h) u) s H locs → lv_has ls 6 [(0, .ref (h 0)), (1, .int x1), (2, .int x2), (5, .int x5)] → W p l e ({ frames := 0, cells := 0, slots := 0, locals := 0 } : Room) s m args below meth c H locs 0 0 (MQ below (kQv dC dI (wM d h) K A) args s 0 0 A) (F0 m 36 ls [.int y1, .ref (h 0)]) := by
  intro x1 x2 x5 y1 u H locs ls hwp hw hl
  unfold wp_X12_meet_36 at hwp
  refine k_putI (pc := 36) (u := u) (v := y1) cx hw (ln_X12_this_37 d h) (C := RX12) (T := TX12) (N := 40) rfl in_X12 tyX12 tyX12_ok nmX12 (by decide) q1014 (fun _ h9 => h9) rfl rfl rfl dX12_meet_36 (fun H locs hw => ?_)
  refine lv_aload_n (pc := 39) cx.1 cx.2.1 dX12_meet_39 rfl (lv_at hl 0 rfl) ?_
  refine lv_aload_n (pc := 40) cx.1 cx.2.1 dX12_meet_40 rfl (lv_at hl 0 rfl) ?_
  refine k_getI (pc := 41) (u := (st_I u 37 y1)) (v := (u.1 36)) cx hw (ln_X12_this_36 d h) (C := RX12) (T := TX12) (N := 40) rfl in_X12 (by decide) q1013 (fun _ h9 => h9) rfl dX12_meet_41 ?_
  refine lv_if_eq (pc := 44) (tgt := 55) cx.1 cx.2.1 dX12_meet_44 (by decide) (fun c1 => ?_) (fun c1 => ?_)
  · replace hwp := hwp.1 c1
    exact wk_X12_meet_55 cx (wk_X12_meet_63 cx) _ _ _ _ _ _ _ hwp hw (lv_sub hl [0, 1, 2, 3] rfl)
  · replace hwp := hwp.2 c1
    refine lv_iload_n (pc := 47) cx.1 cx.2.1 dX12_meet_47 rfl (lv_at hl 2 rfl) ?_
    refine lv_aload_n (pc := 48) cx.1 cx.2.1 dX12_meet_48 rfl (lv_at hl 0 rfl) ?_
    refine k_getI (pc := 49) (u := (st_I u 37 y1)) (v := (u.1 38)) cx hw (ln_X12_this_38 d h) (C := RX12) (T := TX12) (N := 40) rfl in_X12 (by decide) q1015 (fun _ h9 => h9) rfl dX12_meet_49 ?_
    refine lv_icmp_le (pc := 52) (tgt := 59) cx.1 cx.2.1 dX12_meet_52 (by decide) (fun c2 => ?_) (fun c2 => ?_)
    · replace hwp := hwp.1 c2
      refine lv_aload_n (pc := 59) cx.1 cx.2.1 dX12_meet_59 rfl (lv_at hl 0 rfl) ?_
      refine k_getI (pc := 60) (u := (st_I u 37 y1)) (v := (u.1 38)) cx hw (ln_X12_this_38 d h) (C := RX12) (T := TX12) (N := 40) rfl in_X12 (by decide) q1015 (fun _ h9 => h9) rfl dX12_meet_60 ?_
      exact wk_X12_meet_63 cx _ _ _ _ _ _ _ _ hwp hw (lv_sub hl [0, 1, 2, 3] rfl)
    · replace hwp := hwp.2 c2
      exact wk_X12_meet_55 cx (wk_X12_meet_63 cx) _ _ _ _ _ _ _ hwp hw (lv_sub hl [0, 1, 2, 3] rfl)
set_option maxHeartbeats 4000000 in
theorem m_X12_meet (l : Launch) (dC : Nat → ClassId) (dI : Nat → Nat → Nat) (d : Nat → ClassId) (h : Nat → Nat) (u : St) (x1 : Int32) (x2 : Int32) (x3 : Int32) (x4 : Int32) (x5 : Int32) {K : St → Prop} (hwp : wp_X12_meet u x1 x2 x3 x4 x5 K) : kM l yX12_meet cX12_meet 6 none ({ frames := 0, cells := 0, slots := 0, locals := 0 } : Room) dC dI d [.ref (h 0), .int x1, .int x2, .int x3, .int x4, .int x5] (wM d h) u (kQv dC dI (wM d h) K) 0 0 := by
  refine kM_start rfl (Nat.le_of_ble_eq_true rfl) ?_
  intro p e s m below meth c A ls cx hnm hw hl
  generalize hargs : ([.ref (h 0), .int x1, .int x2, .int x3, .int x4, .int x5] : List Value).toArray = args at cx ⊢
  unfold wp_X12_meet at hwp
  replace hl : lv_has ls 6 [(0, .ref (h 0)), (1, .int x1), (2, .int x2), (3, .int x3), (4, .int x4), (5, .int x5)] := hl
  generalize hH : s.heap = H at hw ⊢
  generalize hlo : ([] : List Loc) = locs at hw ⊢
  refine lv_iload_n (pc := 0) cx.1 cx.2.1 dX12_meet_0 rfl (lv_at hl 1 rfl) ?_
  refine lv_iload_n (pc := 1) cx.1 cx.2.1 dX12_meet_1 rfl (lv_at hl 3 rfl) ?_
  refine lv_icmp_lt (pc := 2) (tgt := 11) cx.1 cx.2.1 dX12_meet_2 (by decide) (fun c1 => ?_) (fun c1 => ?_)
  · replace hwp := hwp.1 c1
    exact k_vret (pc := 11) (wf := (wM d h)) (u := u) cx hw hwp (by decide) (by decide) dX12_meet_11
  · replace hwp := hwp.2 c1
    refine lv_iload_n (pc := 5) cx.1 cx.2.1 dX12_meet_5 rfl (lv_at hl 1 rfl) ?_
    refine lv_iload (pc := 6) cx.1 cx.2.1 dX12_meet_6 (lv_at hl 4 rfl) ?_
    refine lv_icmp_le (pc := 8) (tgt := 12) cx.1 cx.2.1 dX12_meet_8 (by decide) (fun c2 => ?_) (fun c2 => ?_)
    · replace hwp := hwp.1 c2
      refine lv_aload_n (pc := 12) cx.1 cx.2.1 dX12_meet_12 rfl (lv_at hl 0 rfl) ?_
      refine lv_aload_n (pc := 13) cx.1 cx.2.1 dX12_meet_13 rfl (lv_at hl 0 rfl) ?_
      refine k_getI (pc := 14) (u := u) (v := (u.1 36)) cx hw (ln_X12_this_36 d h) (C := RX12) (T := TX12) (N := 40) rfl in_X12 (by decide) q1013 (fun _ h9 => h9) rfl dX12_meet_14 ?_
      refine lv_if_eq (pc := 17) (tgt := 28) cx.1 cx.2.1 dX12_meet_17 (by decide) (fun c3 => ?_) (fun c3 => ?_)
      · replace hwp := hwp.1 c3
        exact wk_X12_meet_28 cx (wk_X12_meet_36 cx) _ _ _ _ _ _ _ hwp hw (lv_sub hl [0, 1, 2, 5] rfl)
      · replace hwp := hwp.2 c3
        refine lv_iload_n (pc := 20) cx.1 cx.2.1 dX12_meet_20 rfl (lv_at hl 2 rfl) ?_
        refine lv_aload_n (pc := 21) cx.1 cx.2.1 dX12_meet_21 rfl (lv_at hl 0 rfl) ?_
        refine k_getI (pc := 22) (u := u) (v := (u.1 37)) cx hw (ln_X12_this_37 d h) (C := RX12) (T := TX12) (N := 40) rfl in_X12 (by decide) q1014 (fun _ h9 => h9) rfl dX12_meet_22 ?_
        refine lv_icmp_ge (pc := 25) (tgt := 32) cx.1 cx.2.1 dX12_meet_25 (by decide) (fun c4 => ?_) (fun c4 => ?_)
        · replace hwp := hwp.1 c4
          refine lv_aload_n (pc := 32) cx.1 cx.2.1 dX12_meet_32 rfl (lv_at hl 0 rfl) ?_
          refine k_getI (pc := 33) (u := u) (v := (u.1 37)) cx hw (ln_X12_this_37 d h) (C := RX12) (T := TX12) (N := 40) rfl in_X12 (by decide) q1014 (fun _ h9 => h9) rfl dX12_meet_33 ?_
          exact wk_X12_meet_36 cx _ _ _ _ _ _ _ _ hwp hw (lv_sub hl [0, 1, 2, 5] rfl)
        · replace hwp := hwp.2 c4
          exact wk_X12_meet_28 cx (wk_X12_meet_36 cx) _ _ _ _ _ _ _ hwp hw (lv_sub hl [0, 1, 2, 5] rfl)
    · replace hwp := hwp.2 c2
      exact k_vret (pc := 11) (wf := (wM d h)) (u := u) cx hw hwp (by decide) (by decide) dX12_meet_11
set_option maxHeartbeats 4000000 in
theorem wk_X12_chunksOf_4 {p : Program} {l : Launch} {e : Env} {s : State} {m : MethodId} {args : Array Value} {below : List Frame} {meth : Method} {c : Code} {A : Nat → Prop} {dC : Nat → ClassId} {dI : Nat → Nat → Nat} {d : Nat → ClassId} {h : Nat → Nat} {K : Int32 → St → Prop} (cx : Cx p s m args meth c cX12_chunksOf RX12 4 (some .int) A dC dI d) : ∀ (n : Nat) (x1 : Int32) (x2 : Int32) (x3 : Int32) (u : St) (H : Heap) (locs : List Loc) (ls : Array Slot), wp_X12_chunksOf_4 K n x1 x2 x3 u → Wd dC dI A ((wM d h) u) s H locs → lv_has ls 4 [(0, .ref (h 0)), (1, .int x1), (2, .int x2), (3, .int x3)] → W p l e ({ frames := 0, cells := 0, slots := 0, locals := 0 } : Room) s m args below meth c H locs 0 0 (MQ below (kQi dC dI (wM d h) K A) args s 0 0 A) (F0 m 4 ls []) := by
  intro n
  induction n with
  | zero =>
    intros; contradiction
  | succ n ih =>
    intro x1 x2 x3 u H locs ls hwp hw hl
    unfold wp_X12_chunksOf_4 at hwp
    refine lv_iload_n (pc := 4) cx.1 cx.2.1 dX12_chunksOf_4 rfl (lv_at hl 3 rfl) ?_
    refine lv_aload_n (pc := 5) cx.1 cx.2.1 dX12_chunksOf_5 rfl (lv_at hl 0 rfl) ?_
    refine k_getI (pc := 6) (u := u) (v := (u.1 18)) cx hw (ln_X12_this_18 d h) (C := RX12) (T := TX12) (N := 40) rfl in_X12 (by decide) q995 (fun _ h9 => h9) rfl dX12_chunksOf_6 ?_
    refine lv_icmp_ge (pc := 9) (tgt := 41) cx.1 cx.2.1 dX12_chunksOf_9 (by decide) (fun c1 => ?_) (fun c1 => ?_)
    · replace hwp := hwp.1 c1
      refine lv_iload_n (pc := 41) cx.1 cx.2.1 dX12_chunksOf_41 rfl (lv_at hl 2 rfl) ?_
      exact k_iret (pc := 42) (wf := (wM d h)) (u := u) cx hw hwp (by decide) (by decide) dX12_chunksOf_42
    · replace hwp := hwp.2 c1
      refine lv_iload_n (pc := 12) cx.1 cx.2.1 dX12_chunksOf_12 rfl (lv_at hl 2 rfl) ?_
      refine lv_aload_n (pc := 13) cx.1 cx.2.1 dX12_chunksOf_13 rfl (lv_at hl 0 rfl) ?_
      refine k_getR (pc := 14) (u := u) (v := .ref (h 2)) cx hw (lr_X12_this_11 d h) (C := RX12) (T := TX12) (N := 40) rfl in_X12 (by decide) q988 (fun _ h9 => h9) rfl dX12_chunksOf_14 ?_
      refine lv_aload_n (pc := 17) cx.1 cx.2.1 dX12_chunksOf_17 rfl (lv_at hl 0 rfl) ?_
      refine k_getR (pc := 18) (u := u) (v := .ref (h 8)) cx hw (lr_X12_this_17 d h) (C := RX12) (T := TX12) (N := 40) rfl in_X12 (by decide) q994 (fun _ h9 => h9) rfl dX12_chunksOf_18 ?_
      refine lv_iload_n (pc := 21) cx.1 cx.2.1 dX12_chunksOf_21 rfl (lv_at hl 3 rfl) ?_
      refine k_iald (pc := 22) (u := u) (f := (u.2.1 17)) cx hw (lx_X12_this_17 d h) 0 rfl rfl hwp.1 dX12_chunksOf_22 ?_
      replace hwp := hwp.2
      refine k_iald (pc := 23) (u := u) (f := (u.2.1 11)) cx hw (lx_X12_this_11 d h) 0 rfl rfl hwp.1 dX12_chunksOf_23 ?_
      replace hwp := hwp.2
      refine lv_iload_n (pc := 24) cx.1 cx.2.1 dX12_chunksOf_24 rfl (lv_at hl 1 rfl) ?_
      have hJ3 : ∀ z2 : Int32, z2 = (if ((u.2.1 11) ((u.2.1 17) x3.toNatClampNeg).toNatClampNeg) = x1 then (1 : Int32) else (0 : Int32)) → W p l e ({ frames := 0, cells := 0, slots := 0, locals := 0 } : Room) s m args below meth c H locs 0 0 (MQ below (kQi dC dI (wM d h) K A) args s 0 0 A) (F0 m 33 ls [.int z2, .int x2]) := by
        intro z2 ez2
        replace hwp := hwp z2 ez2
        refine lv_iadd (pc := 33) cx.1 cx.2.1 dX12_chunksOf_33 ?_
        refine lv_istore_n (pc := 34) (lv' := [(2, .int (x2 + z2)), (0, .ref (h 0)), (1, .int x1), (3, .int x3)]) cx.1 cx.2.1 dX12_chunksOf_34 rfl hl (by decide) rfl (fun ls hl => ?_)
        refine lv_iinc (pc := 35) (v := (x3 + (1 : Int32))) (lv' := [(3, .int (x3 + (1 : Int32))), (2, .int (x2 + z2)), (0, .ref (h 0)), (1, .int x1)]) cx.1 cx.2.1 dX12_chunksOf_35 hl (k := 3) rfl rfl (by decide) rfl (fun ls hl => ?_)
        refine lv_goto (pc := 38) (tgt := 4) cx.1 cx.2.1 dX12_chunksOf_38 (by decide) ?_
        exact ih _ _ _ _ _ _ _ hwp hw (lv_sub hl [2, 3, 1, 0] rfl)
      clear hwp
      refine lv_icmp_ne (pc := 25) (tgt := 32) cx.1 cx.2.1 dX12_chunksOf_25 (by decide) (fun c4 => ?_) (fun c4 => ?_)
      · skip
        refine lv_iconst (pc := 32) (v := 0) cx.1 cx.2.1 dX12_chunksOf_32 (by decide) ?_
        exact hJ3 _ (if_neg c4).symm
      · skip
        refine lv_iconst (pc := 28) (v := 1) cx.1 cx.2.1 dX12_chunksOf_28 (by decide) ?_
        refine lv_goto (pc := 29) (tgt := 33) cx.1 cx.2.1 dX12_chunksOf_29 (by decide) ?_
        exact hJ3 _ (if_pos c4).symm
set_option maxHeartbeats 4000000 in
theorem m_X12_chunksOf (l : Launch) (dC : Nat → ClassId) (dI : Nat → Nat → Nat) (d : Nat → ClassId) (h : Nat → Nat) (u : St) (x1 : Int32) {K : Int32 → St → Prop} (hwp : wp_X12_chunksOf u x1 K) : kM l yX12_chunksOf cX12_chunksOf 4 (some .int) ({ frames := 0, cells := 0, slots := 0, locals := 0 } : Room) dC dI d [.ref (h 0), .int x1] (wM d h) u (kQi dC dI (wM d h) K) 0 0 := by
  refine kM_start rfl (Nat.le_of_ble_eq_true rfl) ?_
  intro p e s m below meth c A ls cx hnm hw hl
  generalize hargs : ([.ref (h 0), .int x1] : List Value).toArray = args at cx ⊢
  unfold wp_X12_chunksOf at hwp
  replace hl : lv_has ls 4 [(0, .ref (h 0)), (1, .int x1)] := hl
  generalize hH : s.heap = H at hw ⊢
  generalize hlo : ([] : List Loc) = locs at hw ⊢
  refine lv_iconst (pc := 0) (v := 0) cx.1 cx.2.1 dX12_chunksOf_0 (by decide) ?_
  refine lv_istore_n (pc := 1) (lv' := [(2, .int (0 : Int32)), (0, .ref (h 0)), (1, .int x1)]) cx.1 cx.2.1 dX12_chunksOf_1 rfl hl (by decide) rfl (fun ls hl => ?_)
  refine lv_iconst (pc := 2) (v := 0) cx.1 cx.2.1 dX12_chunksOf_2 (by decide) ?_
  refine lv_istore_n (pc := 3) (lv' := [(3, .int (0 : Int32)), (2, .int (0 : Int32)), (0, .ref (h 0)), (1, .int x1)]) cx.1 cx.2.1 dX12_chunksOf_3 rfl hl (by decide) rfl (fun ls hl => ?_)
  obtain ⟨n4, hwp⟩ := hwp
  exact wk_X12_chunksOf_4 cx n4 _ _ _ _ _ _ _ hwp hw (lv_sub hl [2, 3, 1, 0] rfl)
set_option maxHeartbeats 4000000 in
theorem m_X12_groupsOf (l : Launch) (dC : Nat → ClassId) (dI : Nat → Nat → Nat) (d : Nat → ClassId) (h : Nat → Nat) (u : St) (x1 : Int32) {K : Int32 → St → Prop} (hwp : wp_X12_groupsOf u x1 K) : kM l yX12_groupsOf cX12_groupsOf 2 (some .int) ({ frames := 1, cells := 0, slots := 0, locals := 23 } : Room) dC dI d [.ref (h 0), .int x1] (wM d h) u (kQi dC dI (wM d h) K) 0 0 := by
  refine kM_start rfl (Nat.le_of_ble_eq_true rfl) ?_
  intro p e s m below meth c A ls cx hnm hw hl
  generalize hargs : ([.ref (h 0), .int x1] : List Value).toArray = args at cx ⊢
  unfold wp_X12_groupsOf at hwp
  replace hl : lv_has ls 2 [(0, .ref (h 0)), (1, .int x1)] := hl
  generalize hH : s.heap = H at hw ⊢
  generalize hlo : ([] : List Loc) = locs at hw ⊢
  refine lv_aload_n (pc := 0) cx.1 cx.2.1 dX12_groupsOf_0 rfl (lv_at hl 0 rfl) ?_
  refine lv_iload_n (pc := 1) cx.1 cx.2.1 dX12_groupsOf_1 rfl (lv_at hl 1 rfl) ?_
  refine k_whole_i (pc := 2) (wf := (wM d h)) (u := u) cx hw (k_runV (pc := 2) (rest := []) (As := [.int x1]) cx hw.1 (hw.2.1.weaken (fun _ _ _ _ => trivial)) hw.2.2 (k_recv cx hw 0 (ci := 10) (q := (RX12, TX12, 40)) rfl rfl) (m_X12_chunksOf l dC dI d h  u x1 hwp H.size) (cwV 1 cx.2.2.2.2.1 (lw_V q1259 q1261 qs63 q89 q1262) rfl rfl rfl hdV_X12_chunksOf ⟨Nat.le_of_ble_eq_true rfl, Nat.le_of_ble_eq_true rfl⟩) rfl hl.1 rfl (Nat.le_of_ble_eq_true rfl) dX12_groupsOf_2 ⟨Nat.le_of_ble_eq_true rfl, Nat.le_of_ble_eq_true rfl⟩) (fun r2 u1 H locs hwp hw => ?_)
  refine lv_aload_n (pc := 5) cx.1 cx.2.1 dX12_groupsOf_5 rfl (lv_at hl 0 rfl) ?_
  refine k_getI (pc := 6) (u := u1) (v := (u1.1 3)) cx hw (ln_X12_this_3 d h) (C := RX12) (T := TX12) (N := 40) rfl in_X12 (by decide) q980 (fun _ h9 => h9) rfl dX12_groupsOf_6 ?_
  refine lv_iadd (pc := 9) cx.1 cx.2.1 dX12_groupsOf_9 ?_
  refine lv_iconst (pc := 10) (v := 1) cx.1 cx.2.1 dX12_groupsOf_10 (by decide) ?_
  refine lv_isub (pc := 11) cx.1 cx.2.1 dX12_groupsOf_11 ?_
  refine lv_aload_n (pc := 12) cx.1 cx.2.1 dX12_groupsOf_12 rfl (lv_at hl 0 rfl) ?_
  refine k_getI (pc := 13) (u := u1) (v := (u1.1 3)) cx hw (ln_X12_this_3 d h) (C := RX12) (T := TX12) (N := 40) rfl in_X12 (by decide) q980 (fun _ h9 => h9) rfl dX12_groupsOf_13 ?_
  refine lv_idiv (pc := 16) cx.1 cx.2.1 dX12_groupsOf_16 hwp.1 ?_
  replace hwp := hwp.2
  exact k_iret (pc := 17) (wf := (wM d h)) (u := u1) cx hw hwp (by decide) (by decide) dX12_groupsOf_17
set_option maxHeartbeats 4000000 in
theorem wk_X12_slot_5 {p : Program} {l : Launch} {e : Env} {s : State} {m : MethodId} {args : Array Value} {below : List Frame} {meth : Method} {c : Code} {A : Nat → Prop} {dC : Nat → ClassId} {dI : Nat → Nat → Nat} {d : Nat → ClassId} {h : Nat → Nat} {K : Int32 → St → Prop} (cx : Cx p s m args meth c cX12_slot RX12 5 (some .int) A dC dI d) : ∀ (n : Nat) (x1 : Int32) (x2 : Int32) (x3 : Int32) (x4 : Int32) (u : St) (H : Heap) (locs : List Loc) (ls : Array Slot), wp_X12_slot_5 K n x1 x2 x3 x4 u → Wd dC dI A ((wM d h) u) s H locs → lv_has ls 5 [(0, .ref (h 0)), (1, .int x1), (2, .int x2), (3, .int x3), (4, .int x4)] → W p l e ({ frames := 0, cells := 0, slots := 0, locals := 0 } : Room) s m args below meth c H locs 0 0 (MQ below (kQi dC dI (wM d h) K A) args s 0 0 A) (F0 m 5 ls []) := by
  intro n
  induction n with
  | zero =>
    intros; contradiction
  | succ n ih =>
    intro x1 x2 x3 x4 u H locs ls hwp hw hl
    unfold wp_X12_slot_5 at hwp
    refine lv_iload (pc := 5) cx.1 cx.2.1 dX12_slot_5 (lv_at hl 4 rfl) ?_
    refine lv_aload_n (pc := 7) cx.1 cx.2.1 dX12_slot_7 rfl (lv_at hl 0 rfl) ?_
    refine k_getI (pc := 8) (u := u) (v := (u.1 18)) cx hw (ln_X12_this_18 d h) (C := RX12) (T := TX12) (N := 40) rfl in_X12 (by decide) q995 (fun _ h9 => h9) rfl dX12_slot_8 ?_
    refine lv_icmp_ge (pc := 11) (tgt := 55) cx.1 cx.2.1 dX12_slot_11 (by decide) (fun c1 => ?_) (fun c1 => ?_)
    · replace hwp := hwp.1 c1
      refine lv_iconst (pc := 55) (v := -1) cx.1 cx.2.1 dX12_slot_55 (by decide) ?_
      exact k_iret (pc := 56) (wf := (wM d h)) (u := u) cx hw hwp (by decide) (by decide) dX12_slot_56
    · replace hwp := hwp.2 c1
      refine lv_aload_n (pc := 14) cx.1 cx.2.1 dX12_slot_14 rfl (lv_at hl 0 rfl) ?_
      refine k_getR (pc := 15) (u := u) (v := .ref (h 2)) cx hw (lr_X12_this_11 d h) (C := RX12) (T := TX12) (N := 40) rfl in_X12 (by decide) q988 (fun _ h9 => h9) rfl dX12_slot_15 ?_
      refine lv_aload_n (pc := 18) cx.1 cx.2.1 dX12_slot_18 rfl (lv_at hl 0 rfl) ?_
      refine k_getR (pc := 19) (u := u) (v := .ref (h 8)) cx hw (lr_X12_this_17 d h) (C := RX12) (T := TX12) (N := 40) rfl in_X12 (by decide) q994 (fun _ h9 => h9) rfl dX12_slot_19 ?_
      refine lv_iload (pc := 22) cx.1 cx.2.1 dX12_slot_22 (lv_at hl 4 rfl) ?_
      refine k_iald (pc := 24) (u := u) (f := (u.2.1 17)) cx hw (lx_X12_this_17 d h) 0 rfl rfl hwp.1 dX12_slot_24 ?_
      replace hwp := hwp.2
      refine k_iald (pc := 25) (u := u) (f := (u.2.1 11)) cx hw (lx_X12_this_11 d h) 0 rfl rfl hwp.1 dX12_slot_25 ?_
      replace hwp := hwp.2
      refine lv_iload_n (pc := 26) cx.1 cx.2.1 dX12_slot_26 rfl (lv_at hl 1 rfl) ?_
      refine lv_icmp_eq (pc := 27) (tgt := 33) cx.1 cx.2.1 dX12_slot_27 (by decide) (fun c2 => ?_) (fun c2 => ?_)
      · replace hwp := hwp.1 c2
        refine lv_iload_n (pc := 33) cx.1 cx.2.1 dX12_slot_33 rfl (lv_at hl 3 rfl) ?_
        refine lv_iload_n (pc := 34) cx.1 cx.2.1 dX12_slot_34 rfl (lv_at hl 2 rfl) ?_
        refine lv_icmp_ne (pc := 35) (tgt := 46) cx.1 cx.2.1 dX12_slot_35 (by decide) (fun c3 => ?_) (fun c3 => ?_)
        · replace hwp := hwp.1 c3
          refine lv_iinc (pc := 46) (v := (x3 + (1 : Int32))) (lv' := [(3, .int (x3 + (1 : Int32))), (0, .ref (h 0)), (1, .int x1), (2, .int x2), (4, .int x4)]) cx.1 cx.2.1 dX12_slot_46 hl (k := 3) rfl rfl (by decide) rfl (fun ls hl => ?_)
          refine lv_iinc (pc := 49) (v := (x4 + (1 : Int32))) (lv' := [(4, .int (x4 + (1 : Int32))), (3, .int (x3 + (1 : Int32))), (0, .ref (h 0)), (1, .int x1), (2, .int x2)]) cx.1 cx.2.1 dX12_slot_49 hl (k := 4) rfl rfl (by decide) rfl (fun ls hl => ?_)
          refine lv_goto (pc := 52) (tgt := 5) cx.1 cx.2.1 dX12_slot_52 (by decide) ?_
          exact ih _ _ _ _ _ _ _ _ hwp hw (lv_sub hl [2, 3, 4, 1, 0] rfl)
        · replace hwp := hwp.2 c3
          refine lv_aload_n (pc := 38) cx.1 cx.2.1 dX12_slot_38 rfl (lv_at hl 0 rfl) ?_
          refine k_getR (pc := 39) (u := u) (v := .ref (h 8)) cx hw (lr_X12_this_17 d h) (C := RX12) (T := TX12) (N := 40) rfl in_X12 (by decide) q994 (fun _ h9 => h9) rfl dX12_slot_39 ?_
          refine lv_iload (pc := 42) cx.1 cx.2.1 dX12_slot_42 (lv_at hl 4 rfl) ?_
          refine k_iald (pc := 44) (u := u) (f := (u.2.1 17)) cx hw (lx_X12_this_17 d h) 0 rfl rfl hwp.1 dX12_slot_44 ?_
          replace hwp := hwp.2
          exact k_iret (pc := 45) (wf := (wM d h)) (u := u) cx hw hwp (by decide) (by decide) dX12_slot_45
      · replace hwp := hwp.2 c2
        refine lv_goto (pc := 30) (tgt := 49) cx.1 cx.2.1 dX12_slot_30 (by decide) ?_
        refine lv_iinc (pc := 49) (v := (x4 + (1 : Int32))) (lv' := [(4, .int (x4 + (1 : Int32))), (0, .ref (h 0)), (1, .int x1), (2, .int x2), (3, .int x3)]) cx.1 cx.2.1 dX12_slot_49 hl (k := 4) rfl rfl (by decide) rfl (fun ls hl => ?_)
        refine lv_goto (pc := 52) (tgt := 5) cx.1 cx.2.1 dX12_slot_52 (by decide) ?_
        exact ih _ _ _ _ _ _ _ _ hwp hw (lv_sub hl [1, 2, 3, 4, 0] rfl)
set_option maxHeartbeats 4000000 in
theorem m_X12_slot (l : Launch) (dC : Nat → ClassId) (dI : Nat → Nat → Nat) (d : Nat → ClassId) (h : Nat → Nat) (u : St) (x1 : Int32) (x2 : Int32) {K : Int32 → St → Prop} (hwp : wp_X12_slot u x1 x2 K) : kM l yX12_slot cX12_slot 5 (some .int) ({ frames := 0, cells := 0, slots := 0, locals := 0 } : Room) dC dI d [.ref (h 0), .int x1, .int x2] (wM d h) u (kQi dC dI (wM d h) K) 0 0 := by
  refine kM_start rfl (Nat.le_of_ble_eq_true rfl) ?_
  intro p e s m below meth c A ls cx hnm hw hl
  generalize hargs : ([.ref (h 0), .int x1, .int x2] : List Value).toArray = args at cx ⊢
  unfold wp_X12_slot at hwp
  replace hl : lv_has ls 5 [(0, .ref (h 0)), (1, .int x1), (2, .int x2)] := hl
  generalize hH : s.heap = H at hw ⊢
  generalize hlo : ([] : List Loc) = locs at hw ⊢
  refine lv_iconst (pc := 0) (v := 0) cx.1 cx.2.1 dX12_slot_0 (by decide) ?_
  refine lv_istore_n (pc := 1) (lv' := [(3, .int (0 : Int32)), (0, .ref (h 0)), (1, .int x1), (2, .int x2)]) cx.1 cx.2.1 dX12_slot_1 rfl hl (by decide) rfl (fun ls hl => ?_)
  refine lv_iconst (pc := 2) (v := 0) cx.1 cx.2.1 dX12_slot_2 (by decide) ?_
  refine lv_istore (pc := 3) (lv' := [(4, .int (0 : Int32)), (3, .int (0 : Int32)), (0, .ref (h 0)), (1, .int x1), (2, .int x2)]) cx.1 cx.2.1 dX12_slot_3 hl (by decide) rfl (fun ls hl => ?_)
  obtain ⟨n5, hwp⟩ := hwp
  exact wk_X12_slot_5 cx n5 _ _ _ _ _ _ _ _ hwp hw (lv_sub hl [2, 3, 4, 1, 0] rfl)
set_option maxHeartbeats 4000000 in
theorem wk_X12_isPart_10 {p : Program} {l : Launch} {e : Env} {s : State} {m : MethodId} {args : Array Value} {below : List Frame} {meth : Method} {c : Code} {A : Nat → Prop} {dC : Nat → ClassId} {dI : Nat → Nat → Nat} {d : Nat → ClassId} {h : Nat → Nat} {C15 : Int32 → Int32 → Int32 → Int32 → Int32 → St → Prop} {K : Int32 → St → Prop} (cx : Cx p s m args meth c cX12_isPart RX12 6 (some .boolean) A dC dI d) (hC15 : ∀ (x0 : Int32) (x1 : Int32) (x2 : Int32) (x3 : Int32) (y0 : Int32) (u : St) (H : Heap) (locs : List Loc) (ls : Array Slot), C15 x0 x1 x2 x3 y0 u → Wd dC dI A ((wM d h) u) s H locs → lv_has ls 6 [(0, .int x0), (1, .int x1), (2, .int x2), (3, .int x3)] → W p l e ({ frames := 0, cells := 0, slots := 0, locals := 0 } : Room) s m args below meth c H locs 0 0 (MQ below (kQi dC dI (wM d h) K A) args s 0 0 A) (F0 m 15 ls [.int y0])) : ∀ (x0 : Int32) (x1 : Int32) (x2 : Int32) (x3 : Int32) (u : St) (H : Heap) (locs : List Loc) (ls : Array Slot), wp_X12_isPart_10 C15 K x0 x1 x2 x3 u → Wd dC dI A ((wM d h) u) s H locs → lv_has ls 6 [(0, .int x0), (1, .int x1), (2, .int x2), (3, .int x3)] → W p l e ({ frames := 0, cells := 0, slots := 0, locals := 0 } : Room) s m args below meth c H locs 0 0 (MQ below (kQi dC dI (wM d h) K A) args s 0 0 A) (F0 m 10 ls []) := by
  intro x0 x1 x2 x3 u H locs ls hwp hw hl
  unfold wp_X12_isPart_10 at hwp
  refine lv_iconst (pc := 10) (v := 1) cx.1 cx.2.1 dX12_isPart_10 (by decide) ?_
  refine lv_goto (pc := 11) (tgt := 15) cx.1 cx.2.1 dX12_isPart_11 (by decide) ?_
  exact hC15 _ _ _ _ _ _ _ _ _ hwp hw (lv_sub hl [0, 1, 2, 3] rfl)
set_option maxHeartbeats 4000000 in
theorem wk_X12_isPart_31 {p : Program} {l : Launch} {e : Env} {s : State} {m : MethodId} {args : Array Value} {below : List Frame} {meth : Method} {c : Code} {A : Nat → Prop} {dC : Nat → ClassId} {dI : Nat → Nat → Nat} {d : Nat → ClassId} {h : Nat → Nat} {C32 : Int32 → Int32 → St → Prop} {K : Int32 → St → Prop} (cx : Cx p s m args meth c cX12_isPart RX12 6 (some .boolean) A dC dI d) (hC32 : ∀ (x4 : Int32) (y0 : Int32) (u : St) (H : Heap) (locs : List Loc) (ls : Array Slot), C32 x4 y0 u → Wd dC dI A ((wM d h) u) s H locs → lv_has ls 6 [(4, .int x4)] → W p l e ({ frames := 0, cells := 0, slots := 0, locals := 0 } : Room) s m args below meth c H locs 0 0 (MQ below (kQi dC dI (wM d h) K A) args s 0 0 A) (F0 m 32 ls [.int y0])) : ∀ (x4 : Int32) (u : St) (H : Heap) (locs : List Loc) (ls : Array Slot), wp_X12_isPart_31 C32 K x4 u → Wd dC dI A ((wM d h) u) s H locs → lv_has ls 6 [(4, .int x4)] → W p l e ({ frames := 0, cells := 0, slots := 0, locals := 0 } : Room) s m args below meth c H locs 0 0 (MQ below (kQi dC dI (wM d h) K A) args s 0 0 A) (F0 m 31 ls []) := by
  intro x4 u H locs ls hwp hw hl
  unfold wp_X12_isPart_31 at hwp
  refine lv_iconst (pc := 31) (v := 0) cx.1 cx.2.1 dX12_isPart_31 (by decide) ?_
  exact hC32 _ _ _ _ _ _ hwp hw (lv_sub hl [0] rfl)
set_option maxHeartbeats 4000000 in
theorem wk_X12_isPart_32 {p : Program} {l : Launch} {e : Env} {s : State} {m : MethodId} {args : Array Value} {below : List Frame} {meth : Method} {c : Code} {A : Nat → Prop} {dC : Nat → ClassId} {dI : Nat → Nat → Nat} {d : Nat → ClassId} {h : Nat → Nat} {K : Int32 → St → Prop} (cx : Cx p s m args meth c cX12_isPart RX12 6 (some .boolean) A dC dI d) : ∀ (x4 : Int32) (y0 : Int32) (u : St) (H : Heap) (locs : List Loc) (ls : Array Slot), wp_X12_isPart_32 K x4 y0 u → Wd dC dI A ((wM d h) u) s H locs → lv_has ls 6 [(4, .int x4)] → W p l e ({ frames := 0, cells := 0, slots := 0, locals := 0 } : Room) s m args below meth c H locs 0 0 (MQ below (kQi dC dI (wM d h) K A) args s 0 0 A) (F0 m 32 ls [.int y0]) := by
  intro x4 y0 u H locs ls hwp hw hl
  unfold wp_X12_isPart_32 at hwp
  refine lv_istore (pc := 32) (lv' := [(5, .int y0), (4, .int x4)]) cx.1 cx.2.1 dX12_isPart_32 hl (by decide) rfl (fun ls hl => ?_)
  refine lv_iload (pc := 34) cx.1 cx.2.1 dX12_isPart_34 (lv_at hl 1 rfl) ?_
  refine lv_if_ne (pc := 36) (tgt := 48) cx.1 cx.2.1 dX12_isPart_36 (by decide) (fun c1 => ?_) (fun c1 => ?_)
  · replace hwp := hwp.1 c1
    refine lv_iconst (pc := 48) (v := 0) cx.1 cx.2.1 dX12_isPart_48 (by decide) ?_
    exact k_zret (pc := 49) (wf := (wM d h)) (u := u) cx hw rfl hwp (by decide) (by decide) dX12_isPart_49
  · replace hwp := hwp.2 c1
    refine lv_iload (pc := 39) cx.1 cx.2.1 dX12_isPart_39 (lv_at hl 0 rfl) ?_
    refine lv_if_ne (pc := 41) (tgt := 48) cx.1 cx.2.1 dX12_isPart_41 (by decide) (fun c2 => ?_) (fun c2 => ?_)
    · replace hwp := hwp.1 c2
      refine lv_iconst (pc := 48) (v := 0) cx.1 cx.2.1 dX12_isPart_48 (by decide) ?_
      exact k_zret (pc := 49) (wf := (wM d h)) (u := u) cx hw rfl hwp (by decide) (by decide) dX12_isPart_49
    · replace hwp := hwp.2 c2
      refine lv_iconst (pc := 44) (v := 1) cx.1 cx.2.1 dX12_isPart_44 (by decide) ?_
      refine lv_goto (pc := 45) (tgt := 49) cx.1 cx.2.1 dX12_isPart_45 (by decide) ?_
      exact k_zret (pc := 49) (wf := (wM d h)) (u := u) cx hw rfl hwp (by decide) (by decide) dX12_isPart_49
set_option maxHeartbeats 4000000 in
theorem wk_X12_isPart_15 {p : Program} {l : Launch} {e : Env} {s : State} {m : MethodId} {args : Array Value} {below : List Frame} {meth : Method} {c : Code} {A : Nat → Prop} {dC : Nat → ClassId} {dI : Nat → Nat → Nat} {d : Nat → ClassId} {h : Nat → Nat} {K : Int32 → St → Prop} (cx : Cx p s m args meth c cX12_isPart RX12 6 (some .boolean) A dC dI d) : ∀ (x0 : Int32) (x1 : Int32) (x2 : Int32) (x3 : Int32) (y0 : Int32) (u : St) (H : Heap) (locs : List Loc) (ls : Array Slot), wp_X12_isPart_15 K x0 x1 x2 x3 y0 u → Wd dC dI A ((wM d h) u) s H locs → lv_has ls 6 [(0, .int x0), (1, .int x1), (2, .int x2), (3, .int x3)] → W p l e ({ frames := 0, cells := 0, slots := 0, locals := 0 } : Room) s m args below meth c H locs 0 0 (MQ below (kQi dC dI (wM d h) K A) args s 0 0 A) (F0 m 15 ls [.int y0]) := by
  intro x0 x1 x2 x3 y0 u H locs ls hwp hw hl
  unfold wp_X12_isPart_15 at hwp
  refine lv_istore (pc := 15) (lv' := [(4, .int y0), (0, .int x0), (1, .int x1), (2, .int x2), (3, .int x3)]) cx.1 cx.2.1 dX12_isPart_15 hl (by decide) rfl (fun ls hl => ?_)
  refine lv_iload_n (pc := 17) cx.1 cx.2.1 dX12_isPart_17 rfl (lv_at hl 1 rfl) ?_
  refine lv_iload_n (pc := 18) cx.1 cx.2.1 dX12_isPart_18 rfl (lv_at hl 3 rfl) ?_
  refine lv_icmp_lt (pc := 19) (tgt := 31) cx.1 cx.2.1 dX12_isPart_19 (by decide) (fun c1 => ?_) (fun c1 => ?_)
  · replace hwp := hwp.1 c1
    exact wk_X12_isPart_31 cx (wk_X12_isPart_32 cx) _ _ _ _ _ hwp hw (lv_sub hl [0] rfl)
  · replace hwp := hwp.2 c1
    refine lv_iload_n (pc := 22) cx.1 cx.2.1 dX12_isPart_22 rfl (lv_at hl 2 rfl) ?_
    refine lv_iload_n (pc := 23) cx.1 cx.2.1 dX12_isPart_23 rfl (lv_at hl 4 rfl) ?_
    refine lv_icmp_gt (pc := 24) (tgt := 31) cx.1 cx.2.1 dX12_isPart_24 (by decide) (fun c2 => ?_) (fun c2 => ?_)
    · replace hwp := hwp.1 c2
      exact wk_X12_isPart_31 cx (wk_X12_isPart_32 cx) _ _ _ _ _ hwp hw (lv_sub hl [0] rfl)
    · replace hwp := hwp.2 c2
      refine lv_iconst (pc := 27) (v := 1) cx.1 cx.2.1 dX12_isPart_27 (by decide) ?_
      refine lv_goto (pc := 28) (tgt := 32) cx.1 cx.2.1 dX12_isPart_28 (by decide) ?_
      exact wk_X12_isPart_32 cx _ _ _ _ _ _ hwp hw (lv_sub hl [0] rfl)
set_option maxHeartbeats 4000000 in
theorem m_X12_isPart (l : Launch) (dC : Nat → ClassId) (dI : Nat → Nat → Nat) (d : Nat → ClassId) (h : Nat → Nat) (u : St) (x0 : Int32) (x1 : Int32) (x2 : Int32) (x3 : Int32) {K : Int32 → St → Prop} (hwp : wp_X12_isPart u x0 x1 x2 x3 K) : kM l yX12_isPart cX12_isPart 6 (some .boolean) ({ frames := 0, cells := 0, slots := 0, locals := 0 } : Room) dC dI d [.int x0, .int x1, .int x2, .int x3] (wM d h) u (kQi dC dI (wM d h) K) 0 0 := by
  refine kM_start rfl (Nat.le_of_ble_eq_true rfl) ?_
  intro p e s m below meth c A ls cx hnm hw hl
  generalize hargs : ([.int x0, .int x1, .int x2, .int x3] : List Value).toArray = args at cx ⊢
  unfold wp_X12_isPart at hwp
  replace hl : lv_has ls 6 [(0, .int x0), (1, .int x1), (2, .int x2), (3, .int x3)] := hl
  generalize hH : s.heap = H at hw ⊢
  generalize hlo : ([] : List Loc) = locs at hw ⊢
  refine lv_iload_n (pc := 0) cx.1 cx.2.1 dX12_isPart_0 rfl (lv_at hl 1 rfl) ?_
  refine lv_iload_n (pc := 1) cx.1 cx.2.1 dX12_isPart_1 rfl (lv_at hl 2 rfl) ?_
  refine lv_icmp_lt (pc := 2) (tgt := 10) cx.1 cx.2.1 dX12_isPart_2 (by decide) (fun c1 => ?_) (fun c1 => ?_)
  · replace hwp := hwp.1 c1
    exact wk_X12_isPart_10 cx (wk_X12_isPart_15 cx) _ _ _ _ _ _ _ _ hwp hw (lv_sub hl [0, 1, 2, 3] rfl)
  · replace hwp := hwp.2 c1
    refine lv_iload_n (pc := 5) cx.1 cx.2.1 dX12_isPart_5 rfl (lv_at hl 0 rfl) ?_
    refine lv_iload_n (pc := 6) cx.1 cx.2.1 dX12_isPart_6 rfl (lv_at hl 3 rfl) ?_
    refine lv_icmp_le (pc := 7) (tgt := 14) cx.1 cx.2.1 dX12_isPart_7 (by decide) (fun c2 => ?_) (fun c2 => ?_)
    · replace hwp := hwp.1 c2
      refine lv_iconst (pc := 14) (v := 0) cx.1 cx.2.1 dX12_isPart_14 (by decide) ?_
      exact wk_X12_isPart_15 cx _ _ _ _ _ _ _ _ _ hwp hw (lv_sub hl [0, 1, 2, 3] rfl)
    · replace hwp := hwp.2 c2
      exact wk_X12_isPart_10 cx (wk_X12_isPart_15 cx) _ _ _ _ _ _ _ _ hwp hw (lv_sub hl [0, 1, 2, 3] rfl)
set_option maxHeartbeats 4000000 in
theorem wk_X12_lookInto_3 {p : Program} {l : Launch} {e : Env} {s : State} {m : MethodId} {args : Array Value} {below : List Frame} {meth : Method} {c : Code} {A : Nat → Prop} {dC : Nat → ClassId} {dI : Nat → Nat → Nat} {d : Nat → ClassId} {h : Nat → Nat} {K : St → Prop} (cx : Cx p s m args meth c cX12_lookInto RX12 7 none A dC dI d) : ∀ (n : Nat) (x1 : Int32) (x3 : Int32) (x4 : Int32) (x5 : Int32) (x6 : Int32) (u : St) (H : Heap) (locs : List Loc) (ls : Array Slot), wp_X12_lookInto_3 K n x1 x3 x4 x5 x6 u → Wd dC dI A ((wM d h) u) s H locs → lv_has ls 7 [(0, .ref (h 0)), (1, .int x1), (3, .int x3), (4, .int x4), (5, .int x5), (6, .int x6)] → W p l e ({ frames := 1, cells := 0, slots := 0, locals := 25 } : Room) s m args below meth c H locs 0 0 (MQ below (kQv dC dI (wM d h) K A) args s 0 0 A) (F0 m 3 ls []) := by
  intro n
  induction n with
  | zero =>
    intros; contradiction
  | succ n ih =>
    intro x1 x3 x4 x5 x6 u H locs ls hwp hw hl
    unfold wp_X12_lookInto_3 at hwp
    refine lv_iload (pc := 3) cx.1 cx.2.1 dX12_lookInto_3 (lv_at hl 5 rfl) ?_
    refine lv_iload_n (pc := 5) cx.1 cx.2.1 dX12_lookInto_5 rfl (lv_at hl 2 rfl) ?_
    refine lv_icmp_ge (pc := 6) (tgt := 71) cx.1 cx.2.1 dX12_lookInto_6 (by decide) (fun c1 => ?_) (fun c1 => ?_)
    · replace hwp := hwp.1 c1
      exact k_vret (pc := 71) (wf := (wM d h)) (u := u) cx hw hwp (by decide) (by decide) dX12_lookInto_71
    · replace hwp := hwp.2 c1
      refine lv_aload_n (pc := 9) cx.1 cx.2.1 dX12_lookInto_9 rfl (lv_at hl 0 rfl) ?_
      refine lv_dup (pc := 10) cx.1 cx.2.1 dX12_lookInto_10 rfl ?_
      refine k_getI (pc := 11) (u := u) (v := (u.1 9)) cx hw (ln_X12_this_9 d h) (C := RX12) (T := TX12) (N := 40) rfl in_X12 (by decide) q986 (fun _ h9 => h9) rfl dX12_lookInto_11 ?_
      refine lv_iconst (pc := 14) (v := 1) cx.1 cx.2.1 dX12_lookInto_14 (by decide) ?_
      refine lv_iadd (pc := 15) cx.1 cx.2.1 dX12_lookInto_15 ?_
      refine k_putI (pc := 16) (u := u) (v := ((u.1 9) + (1 : Int32))) cx hw (ln_X12_this_9 d h) (C := RX12) (T := TX12) (N := 40) rfl in_X12 tyX12 tyX12_ok nmX12 (by decide) q986 (fun _ h9 => h9) rfl rfl rfl dX12_lookInto_16 (fun H locs hw => ?_)
      refine lv_aload_n (pc := 19) cx.1 cx.2.1 dX12_lookInto_19 rfl (lv_at hl 0 rfl) ?_
      refine lv_dup (pc := 20) cx.1 cx.2.1 dX12_lookInto_20 rfl ?_
      refine k_getI (pc := 21) (u := (st_I u 9 ((u.1 9) + (1 : Int32)))) (v := (u.1 10)) cx hw (ln_X12_this_10 d h) (C := RX12) (T := TX12) (N := 40) rfl in_X12 (by decide) q987 (fun _ h9 => h9) rfl dX12_lookInto_21 ?_
      refine lv_aload_n (pc := 24) cx.1 cx.2.1 dX12_lookInto_24 rfl (lv_at hl 0 rfl) ?_
      refine lv_aload_n (pc := 25) cx.1 cx.2.1 dX12_lookInto_25 rfl (lv_at hl 0 rfl) ?_
      refine lv_iload_n (pc := 26) cx.1 cx.2.1 dX12_lookInto_26 rfl (lv_at hl 1 rfl) ?_
      refine lv_iload (pc := 27) cx.1 cx.2.1 dX12_lookInto_27 (lv_at hl 5 rfl) ?_
      refine k_whole_i (pc := 29) (wf := (wM d h)) (u := (st_I u 9 ((u.1 9) + (1 : Int32)))) cx hw (k_runV (pc := 29) (rest := [.ref (h 0), .int (u.1 10), .ref (h 0)]) (As := [.int x1, .int x6]) cx hw.1 (hw.2.1.weaken (fun _ _ _ _ => trivial)) hw.2.2 (k_recv cx hw 0 (ci := 10) (q := (RX12, TX12, 40)) rfl rfl) (m_X12_slot l dC dI d h  (st_I u 9 ((u.1 9) + (1 : Int32))) x1 x6 hwp H.size) (cwV 2 cx.2.2.2.2.1 (lw_V q1267 q1269 qs65 q89 q1270) rfl rfl rfl hdV_X12_slot ⟨Nat.le_of_ble_eq_true rfl, Nat.le_of_ble_eq_true rfl⟩) rfl hl.1 rfl (Nat.le_of_ble_eq_true rfl) dX12_lookInto_29 ⟨Nat.le_of_ble_eq_true rfl, Nat.le_of_ble_eq_true rfl⟩) (fun r3 u2 H locs hwp hw => ?_)
      refine k_whole_i (pc := 32) (wf := (wM d h)) (u := u2) cx hw (k_runV (pc := 32) (rest := [.int (u.1 10), .ref (h 0)]) (As := [.int r3]) cx hw.1 (hw.2.1.weaken (fun _ _ _ _ => trivial)) hw.2.2 (k_recv cx hw 0 (ci := 10) (q := (RX12, TX12, 40)) rfl rfl) (m_X12_firstTime l dC dI d h  u2 r3 hwp H.size) (cwV 1 cx.2.2.2.2.1 (lw_V q1211 q1213 qs54 q89 q1214) rfl rfl rfl hdV_X12_firstTime ⟨Nat.le_of_ble_eq_true rfl, Nat.le_of_ble_eq_true rfl⟩) rfl hl.1 rfl (Nat.le_of_ble_eq_true rfl) dX12_lookInto_32 ⟨Nat.le_of_ble_eq_true rfl, Nat.le_of_ble_eq_true rfl⟩) (fun r5 u4 H locs hwp hw => ?_)
      refine lv_aload_n (pc := 35) cx.1 cx.2.1 dX12_lookInto_35 rfl (lv_at hl 0 rfl) ?_
      refine lv_aload_n (pc := 36) cx.1 cx.2.1 dX12_lookInto_36 rfl (lv_at hl 0 rfl) ?_
      refine lv_iload_n (pc := 37) cx.1 cx.2.1 dX12_lookInto_37 rfl (lv_at hl 1 rfl) ?_
      refine lv_iload (pc := 38) cx.1 cx.2.1 dX12_lookInto_38 (lv_at hl 5 rfl) ?_
      refine k_whole_i (pc := 40) (wf := (wM d h)) (u := u4) cx hw (k_runV (pc := 40) (rest := [.ref (h 0), .int r5, .int (u.1 10), .ref (h 0)]) (As := [.int x1, .int x6]) cx hw.1 (hw.2.1.weaken (fun _ _ _ _ => trivial)) hw.2.2 (k_recv cx hw 0 (ci := 10) (q := (RX12, TX12, 40)) rfl rfl) (m_X12_slot l dC dI d h  u4 x1 x6 hwp H.size) (cwV 2 cx.2.2.2.2.1 (lw_V q1267 q1269 qs65 q89 q1270) rfl rfl rfl hdV_X12_slot ⟨Nat.le_of_ble_eq_true rfl, Nat.le_of_ble_eq_true rfl⟩) rfl hl.1 rfl (Nat.le_of_ble_eq_true rfl) dX12_lookInto_40 ⟨Nat.le_of_ble_eq_true rfl, Nat.le_of_ble_eq_true rfl⟩) (fun r7 u6 H locs hwp hw => ?_)
      refine k_whole_i (pc := 43) (wf := (wM d h)) (u := u6) cx hw (k_runV (pc := 43) (rest := [.int r5, .int (u.1 10), .ref (h 0)]) (As := [.int r7]) cx hw.1 (hw.2.1.weaken (fun _ _ _ _ => trivial)) hw.2.2 (k_recv cx hw 0 (ci := 10) (q := (RX12, TX12, 40)) rfl rfl) (m_X12_lastTime l dC dI d h  u6 r7 hwp H.size) (cwV 1 cx.2.2.2.2.1 (lw_V q1215 q1217 qs55 q89 q1218) rfl rfl rfl hdV_X12_lastTime ⟨Nat.le_of_ble_eq_true rfl, Nat.le_of_ble_eq_true rfl⟩) rfl hl.1 rfl (Nat.le_of_ble_eq_true rfl) dX12_lookInto_43 ⟨Nat.le_of_ble_eq_true rfl, Nat.le_of_ble_eq_true rfl⟩) (fun r9 u8 H locs hwp hw => ?_)
      refine lv_iload (pc := 46) cx.1 cx.2.1 dX12_lookInto_46 (lv_at hl 3 rfl) ?_
      refine lv_iload (pc := 48) cx.1 cx.2.1 dX12_lookInto_48 (lv_at hl 4 rfl) ?_
      refine k_whole_i (pc := 50) (wf := (wM d h)) (u := u8) cx hw (k_runS (pc := 50) (rest := [.int (u.1 10), .ref (h 0)]) (As := [.int r5, .int r9, .int x4, .int x5]) cx hw.1 (hw.2.1.weaken (fun _ _ _ _ => trivial)) hw.2.2 (m_X12_isPart l dC dI d h  u8 r5 r9 x4 x5 hwp H.size) (va_cwS 4 cx.2.2.2.2.1 (lw_S q1271 q1272 q89 q1273) rfl rfl rfl hdS_X12_isPart ⟨Nat.le_of_ble_eq_true rfl, Nat.le_of_ble_eq_true rfl⟩) rfl hl.1 rfl (Nat.le_of_ble_eq_true rfl) dX12_lookInto_50 ⟨Nat.le_of_ble_eq_true rfl, Nat.le_of_ble_eq_true rfl⟩) (fun r11 u10 H locs hwp hw => ?_)
      have hJ13 : ∀ z12 : Int32, z12 = (if r11 = 0 then (0 : Int32) else (1 : Int32)) → W p l e ({ frames := 1, cells := 0, slots := 0, locals := 25 } : Room) s m args below meth c H locs 0 0 (MQ below (kQv dC dI (wM d h) K A) args s 0 0 A) (F0 m 61 ls [.int z12, .int (u.1 10), .ref (h 0)]) := by
        intro z12 ez12
        replace hwp := hwp z12 ez12
        refine lv_iadd (pc := 61) cx.1 cx.2.1 dX12_lookInto_61 ?_
        refine k_putI (pc := 62) (u := u10) (v := ((u.1 10) + z12)) cx hw (ln_X12_this_10 d h) (C := RX12) (T := TX12) (N := 40) rfl in_X12 tyX12 tyX12_ok nmX12 (by decide) q987 (fun _ h9 => h9) rfl rfl rfl dX12_lookInto_62 (fun H locs hw => ?_)
        refine lv_iinc (pc := 65) (v := (x6 + (1 : Int32))) (lv' := [(6, .int (x6 + (1 : Int32))), (0, .ref (h 0)), (1, .int x1), (3, .int x3), (4, .int x4), (5, .int x5)]) cx.1 cx.2.1 dX12_lookInto_65 hl (k := 5) rfl rfl (by decide) rfl (fun ls hl => ?_)
        refine lv_goto (pc := 68) (tgt := 3) cx.1 cx.2.1 dX12_lookInto_68 (by decide) ?_
        exact ih _ _ _ _ _ _ _ _ _ hwp hw (lv_sub hl [1, 2, 3, 4, 5, 0] rfl)
      clear hwp
      refine lv_if_eq (pc := 53) (tgt := 60) cx.1 cx.2.1 dX12_lookInto_53 (by decide) (fun c14 => ?_) (fun c14 => ?_)
      · skip
        refine lv_iconst (pc := 60) (v := 0) cx.1 cx.2.1 dX12_lookInto_60 (by decide) ?_
        exact hJ13 _ (if_pos c14).symm
      · skip
        refine lv_iconst (pc := 56) (v := 1) cx.1 cx.2.1 dX12_lookInto_56 (by decide) ?_
        refine lv_goto (pc := 57) (tgt := 61) cx.1 cx.2.1 dX12_lookInto_57 (by decide) ?_
        exact hJ13 _ (if_neg c14).symm
set_option maxHeartbeats 4000000 in
theorem m_X12_lookInto (l : Launch) (dC : Nat → ClassId) (dI : Nat → Nat → Nat) (d : Nat → ClassId) (h : Nat → Nat) (u : St) (x1 : Int32) (x2 : Int32) (x3 : Int32) (x4 : Int32) (x5 : Int32) {K : St → Prop} (hwp : wp_X12_lookInto u x1 x2 x3 x4 x5 K) : kM l yX12_lookInto cX12_lookInto 7 none ({ frames := 1, cells := 0, slots := 0, locals := 25 } : Room) dC dI d [.ref (h 0), .int x1, .int x2, .int x3, .int x4, .int x5] (wM d h) u (kQv dC dI (wM d h) K) 0 0 := by
  refine kM_start rfl (Nat.le_of_ble_eq_true rfl) ?_
  intro p e s m below meth c A ls cx hnm hw hl
  generalize hargs : ([.ref (h 0), .int x1, .int x2, .int x3, .int x4, .int x5] : List Value).toArray = args at cx ⊢
  unfold wp_X12_lookInto at hwp
  replace hl : lv_has ls 7 [(0, .ref (h 0)), (1, .int x1), (2, .int x2), (3, .int x3), (4, .int x4), (5, .int x5)] := hl
  generalize hH : s.heap = H at hw ⊢
  generalize hlo : ([] : List Loc) = locs at hw ⊢
  refine lv_iload_n (pc := 0) cx.1 cx.2.1 dX12_lookInto_0 rfl (lv_at hl 2 rfl) ?_
  refine lv_istore (pc := 1) (lv' := [(6, .int x2), (0, .ref (h 0)), (1, .int x1), (2, .int x2), (3, .int x3), (4, .int x4), (5, .int x5)]) cx.1 cx.2.1 dX12_lookInto_1 hl (by decide) rfl (fun ls hl => ?_)
  obtain ⟨n3, hwp⟩ := hwp
  exact wk_X12_lookInto_3 cx n3 _ _ _ _ _ _ _ _ _ hwp hw (lv_sub hl [1, 2, 4, 5, 6, 0] rfl)
set_option maxHeartbeats 4000000 in
theorem wk_X12_lookAt_20 {p : Program} {l : Launch} {e : Env} {s : State} {m : MethodId} {args : Array Value} {below : List Frame} {meth : Method} {c : Code} {A : Nat → Prop} {dC : Nat → ClassId} {dI : Nat → Nat → Nat} {d : Nat → ClassId} {h : Nat → Nat} {K : St → Prop} (cx : Cx p s m args meth c cX12_lookAt RX12 8 none A dC dI d) : ∀ (n : Nat) (x1 : Int32) (x2 : Int32) (x3 : Int32) (x4 : Int32) (x5 : Int32) (u : St) (H : Heap) (locs : List Loc) (ls : Array Slot), wp_X12_lookAt_20 K n x1 x2 x3 x4 x5 u → Wd dC dI A ((wM d h) u) s H locs → lv_has ls 8 [(0, .ref (h 0)), (1, .int x1), (2, .int x2), (3, .int x3), (4, .int x4), (5, .int x5)] → W p l e ({ frames := 2, cells := 0, slots := 0, locals := 51 } : Room) s m args below meth c H locs 0 0 (MQ below (kQv dC dI (wM d h) K A) args s 0 0 A) (F0 m 20 ls []) := by
  intro n
  induction n with
  | zero =>
    intros; contradiction
  | succ n ih =>
    intro x1 x2 x3 x4 x5 u H locs ls hwp hw hl
    unfold wp_X12_lookAt_20 at hwp
    refine lv_iload (pc := 20) cx.1 cx.2.1 dX12_lookAt_20 (lv_at hl 5 rfl) ?_
    refine lv_aload_n (pc := 22) cx.1 cx.2.1 dX12_lookAt_22 rfl (lv_at hl 0 rfl) ?_
    refine lv_iload_n (pc := 23) cx.1 cx.2.1 dX12_lookAt_23 rfl (lv_at hl 1 rfl) ?_
    refine k_whole_i (pc := 24) (wf := (wM d h)) (u := u) cx hw (k_runV (pc := 24) (rest := [.int x5]) (As := [.int x1]) cx hw.1 (hw.2.1.weaken (fun _ _ _ _ => trivial)) hw.2.2 (k_recv cx hw 0 (ci := 10) (q := (RX12, TX12, 40)) rfl rfl) (m_X12_groupsOf l dC dI d h  u x1 hwp H.size) (cwV 1 cx.2.2.2.2.1 (lw_V q1263 q1265 qs64 q89 q1266) rfl rfl rfl hdV_X12_groupsOf ⟨Nat.le_of_ble_eq_true rfl, Nat.le_of_ble_eq_true rfl⟩) rfl hl.1 rfl (Nat.le_of_ble_eq_true rfl) dX12_lookAt_24 ⟨Nat.le_of_ble_eq_true rfl, Nat.le_of_ble_eq_true rfl⟩) (fun r2 u1 H locs hwp hw => ?_)
    refine lv_icmp_ge (pc := 27) (tgt := 124) cx.1 cx.2.1 dX12_lookAt_27 (by decide) (fun c3 => ?_) (fun c3 => ?_)
    · replace hwp := hwp.1 c3
      exact k_vret (pc := 124) (wf := (wM d h)) (u := u1) cx hw hwp (by decide) (by decide) dX12_lookAt_124
    · replace hwp := hwp.2 c3
      refine lv_aload_n (pc := 30) cx.1 cx.2.1 dX12_lookAt_30 rfl (lv_at hl 0 rfl) ?_
      refine lv_dup (pc := 31) cx.1 cx.2.1 dX12_lookAt_31 rfl ?_
      refine k_getI (pc := 32) (u := u1) (v := (u1.1 9)) cx hw (ln_X12_this_9 d h) (C := RX12) (T := TX12) (N := 40) rfl in_X12 (by decide) q986 (fun _ h9 => h9) rfl dX12_lookAt_32 ?_
      refine lv_iconst (pc := 35) (v := 1) cx.1 cx.2.1 dX12_lookAt_35 (by decide) ?_
      refine lv_iadd (pc := 36) cx.1 cx.2.1 dX12_lookAt_36 ?_
      refine k_putI (pc := 37) (u := u1) (v := ((u1.1 9) + (1 : Int32))) cx hw (ln_X12_this_9 d h) (C := RX12) (T := TX12) (N := 40) rfl in_X12 tyX12 tyX12_ok nmX12 (by decide) q986 (fun _ h9 => h9) rfl rfl rfl dX12_lookAt_37 (fun H locs hw => ?_)
      refine lv_aload_n (pc := 40) cx.1 cx.2.1 dX12_lookAt_40 rfl (lv_at hl 0 rfl) ?_
      refine k_getI (pc := 41) (u := (st_I u1 9 ((u1.1 9) + (1 : Int32)))) (v := (u1.1 3)) cx hw (ln_X12_this_3 d h) (C := RX12) (T := TX12) (N := 40) rfl in_X12 (by decide) q980 (fun _ h9 => h9) rfl dX12_lookAt_41 ?_
      refine lv_iload (pc := 44) cx.1 cx.2.1 dX12_lookAt_44 (lv_at hl 5 rfl) ?_
      refine lv_imul (pc := 46) cx.1 cx.2.1 dX12_lookAt_46 ?_
      refine lv_istore (pc := 47) (lv' := [(6, .int ((u1.1 3) * x5)), (0, .ref (h 0)), (1, .int x1), (2, .int x2), (3, .int x3), (4, .int x4), (5, .int x5)]) cx.1 cx.2.1 dX12_lookAt_47 hl (by decide) rfl (fun ls hl => ?_)
      refine lv_iload (pc := 49) cx.1 cx.2.1 dX12_lookAt_49 (lv_at hl 0 rfl) ?_
      refine lv_aload_n (pc := 51) cx.1 cx.2.1 dX12_lookAt_51 rfl (lv_at hl 1 rfl) ?_
      refine k_getI (pc := 52) (u := (st_I u1 9 ((u1.1 9) + (1 : Int32)))) (v := (u1.1 3)) cx hw (ln_X12_this_3 d h) (C := RX12) (T := TX12) (N := 40) rfl in_X12 (by decide) q980 (fun _ h9 => h9) rfl dX12_lookAt_52 ?_
      refine lv_iadd (pc := 55) cx.1 cx.2.1 dX12_lookAt_55 ?_
      refine lv_iload (pc := 56) cx.1 cx.2.1 dX12_lookAt_56 (lv_at hl 5 rfl) ?_
      have hJ5 : ∀ z4 : Int32, z4 = (if x4 ≤ (((u1.1 3) * x5) + (u1.1 3)) then x4 else (((u1.1 3) * x5) + (u1.1 3))) → W p l e ({ frames := 2, cells := 0, slots := 0, locals := 51 } : Room) s m args below meth c H locs 0 0 (MQ below (kQv dC dI (wM d h) K A) args s 0 0 A) (F0 m 73 ls [.int z4]) := by
        intro z4 ez4
        replace hwp := hwp z4 ez4
        refine lv_istore (pc := 73) (lv' := [(7, .int z4), (6, .int ((u1.1 3) * x5)), (0, .ref (h 0)), (1, .int x1), (2, .int x2), (3, .int x3), (4, .int x4), (5, .int x5)]) cx.1 cx.2.1 dX12_lookAt_73 hl (by decide) rfl (fun ls hl => ?_)
        refine lv_aload_n (pc := 75) cx.1 cx.2.1 dX12_lookAt_75 rfl (lv_at hl 2 rfl) ?_
        refine lv_aload_n (pc := 76) cx.1 cx.2.1 dX12_lookAt_76 rfl (lv_at hl 2 rfl) ?_
        refine lv_iload_n (pc := 77) cx.1 cx.2.1 dX12_lookAt_77 rfl (lv_at hl 3 rfl) ?_
        refine lv_iload (pc := 78) cx.1 cx.2.1 dX12_lookAt_78 (lv_at hl 1 rfl) ?_
        refine k_whole_i (pc := 80) (wf := (wM d h)) (u := (st_I u1 9 ((u1.1 9) + (1 : Int32)))) cx hw (k_runV (pc := 80) (rest := [.ref (h 0)]) (As := [.int x1, .int ((u1.1 3) * x5)]) cx hw.1 (hw.2.1.weaken (fun _ _ _ _ => trivial)) hw.2.2 (k_recv cx hw 0 (ci := 10) (q := (RX12, TX12, 40)) rfl rfl) (m_X12_slot l dC dI d h  (st_I u1 9 ((u1.1 9) + (1 : Int32))) x1 ((u1.1 3) * x5) hwp H.size) (cwV 2 cx.2.2.2.2.1 (lw_V q1267 q1269 qs65 q89 q1270) rfl rfl rfl hdV_X12_slot ⟨Nat.le_of_ble_eq_true rfl, Nat.le_of_ble_eq_true rfl⟩) rfl hl.1 rfl (Nat.le_of_ble_eq_true rfl) dX12_lookAt_80 ⟨Nat.le_of_ble_eq_true rfl, Nat.le_of_ble_eq_true rfl⟩) (fun r7 u6 H locs hwp hw => ?_)
        refine k_whole_i (pc := 83) (wf := (wM d h)) (u := u6) cx hw (k_runV (pc := 83) (rest := []) (As := [.int r7]) cx hw.1 (hw.2.1.weaken (fun _ _ _ _ => trivial)) hw.2.2 (k_recv cx hw 0 (ci := 10) (q := (RX12, TX12, 40)) rfl rfl) (m_X12_firstTime l dC dI d h  u6 r7 hwp H.size) (cwV 1 cx.2.2.2.2.1 (lw_V q1211 q1213 qs54 q89 q1214) rfl rfl rfl hdV_X12_firstTime ⟨Nat.le_of_ble_eq_true rfl, Nat.le_of_ble_eq_true rfl⟩) rfl hl.1 rfl (Nat.le_of_ble_eq_true rfl) dX12_lookAt_83 ⟨Nat.le_of_ble_eq_true rfl, Nat.le_of_ble_eq_true rfl⟩) (fun r9 u8 H locs hwp hw => ?_)
        refine lv_aload_n (pc := 86) cx.1 cx.2.1 dX12_lookAt_86 rfl (lv_at hl 2 rfl) ?_
        refine lv_aload_n (pc := 87) cx.1 cx.2.1 dX12_lookAt_87 rfl (lv_at hl 2 rfl) ?_
        refine lv_iload_n (pc := 88) cx.1 cx.2.1 dX12_lookAt_88 rfl (lv_at hl 3 rfl) ?_
        refine lv_iload (pc := 89) cx.1 cx.2.1 dX12_lookAt_89 (lv_at hl 0 rfl) ?_
        refine lv_iconst (pc := 91) (v := 1) cx.1 cx.2.1 dX12_lookAt_91 (by decide) ?_
        refine lv_isub (pc := 92) cx.1 cx.2.1 dX12_lookAt_92 ?_
        refine k_whole_i (pc := 93) (wf := (wM d h)) (u := u8) cx hw (k_runV (pc := 93) (rest := [.ref (h 0), .int r9]) (As := [.int x1, .int (z4 - (1 : Int32))]) cx hw.1 (hw.2.1.weaken (fun _ _ _ _ => trivial)) hw.2.2 (k_recv cx hw 0 (ci := 10) (q := (RX12, TX12, 40)) rfl rfl) (m_X12_slot l dC dI d h  u8 x1 (z4 - (1 : Int32)) hwp H.size) (cwV 2 cx.2.2.2.2.1 (lw_V q1267 q1269 qs65 q89 q1270) rfl rfl rfl hdV_X12_slot ⟨Nat.le_of_ble_eq_true rfl, Nat.le_of_ble_eq_true rfl⟩) rfl hl.1 rfl (Nat.le_of_ble_eq_true rfl) dX12_lookAt_93 ⟨Nat.le_of_ble_eq_true rfl, Nat.le_of_ble_eq_true rfl⟩) (fun r11 u10 H locs hwp hw => ?_)
        refine k_whole_i (pc := 96) (wf := (wM d h)) (u := u10) cx hw (k_runV (pc := 96) (rest := [.int r9]) (As := [.int r11]) cx hw.1 (hw.2.1.weaken (fun _ _ _ _ => trivial)) hw.2.2 (k_recv cx hw 0 (ci := 10) (q := (RX12, TX12, 40)) rfl rfl) (m_X12_lastTime l dC dI d h  u10 r11 hwp H.size) (cwV 1 cx.2.2.2.2.1 (lw_V q1215 q1217 qs55 q89 q1218) rfl rfl rfl hdV_X12_lastTime ⟨Nat.le_of_ble_eq_true rfl, Nat.le_of_ble_eq_true rfl⟩) rfl hl.1 rfl (Nat.le_of_ble_eq_true rfl) dX12_lookAt_96 ⟨Nat.le_of_ble_eq_true rfl, Nat.le_of_ble_eq_true rfl⟩) (fun r13 u12 H locs hwp hw => ?_)
        refine lv_iload_n (pc := 99) cx.1 cx.2.1 dX12_lookAt_99 rfl (lv_at hl 4 rfl) ?_
        refine lv_iload_n (pc := 100) cx.1 cx.2.1 dX12_lookAt_100 rfl (lv_at hl 5 rfl) ?_
        refine k_whole_i (pc := 101) (wf := (wM d h)) (u := u12) cx hw (k_runS (pc := 101) (rest := []) (As := [.int r9, .int r13, .int x2, .int x3]) cx hw.1 (hw.2.1.weaken (fun _ _ _ _ => trivial)) hw.2.2 (m_X12_isPart l dC dI d h  u12 r9 r13 x2 x3 hwp H.size) (va_cwS 4 cx.2.2.2.2.1 (lw_S q1271 q1272 q89 q1273) rfl rfl rfl hdS_X12_isPart ⟨Nat.le_of_ble_eq_true rfl, Nat.le_of_ble_eq_true rfl⟩) rfl hl.1 rfl (Nat.le_of_ble_eq_true rfl) dX12_lookAt_101 ⟨Nat.le_of_ble_eq_true rfl, Nat.le_of_ble_eq_true rfl⟩) (fun r15 u14 H locs hwp hw => ?_)
        refine lv_if_eq (pc := 104) (tgt := 118) cx.1 cx.2.1 dX12_lookAt_104 (by decide) (fun c16 => ?_) (fun c16 => ?_)
        · replace hwp := hwp.1 c16
          refine lv_iinc (pc := 118) (v := (x5 + (1 : Int32))) (lv' := [(5, .int (x5 + (1 : Int32))), (7, .int z4), (6, .int ((u1.1 3) * x5)), (0, .ref (h 0)), (1, .int x1), (2, .int x2), (3, .int x3), (4, .int x4)]) cx.1 cx.2.1 dX12_lookAt_118 hl (k := 7) rfl rfl (by decide) rfl (fun ls hl => ?_)
          refine lv_goto (pc := 121) (tgt := 20) cx.1 cx.2.1 dX12_lookAt_121 (by decide) ?_
          exact ih _ _ _ _ _ _ _ _ _ hwp hw (lv_sub hl [3, 4, 5, 6, 7, 0] rfl)
        · replace hwp := hwp.2 c16
          refine lv_aload_n (pc := 107) cx.1 cx.2.1 dX12_lookAt_107 rfl (lv_at hl 2 rfl) ?_
          refine lv_iload_n (pc := 108) cx.1 cx.2.1 dX12_lookAt_108 rfl (lv_at hl 3 rfl) ?_
          refine lv_iload (pc := 109) cx.1 cx.2.1 dX12_lookAt_109 (lv_at hl 1 rfl) ?_
          refine lv_iload (pc := 111) cx.1 cx.2.1 dX12_lookAt_111 (lv_at hl 0 rfl) ?_
          refine lv_iload_n (pc := 113) cx.1 cx.2.1 dX12_lookAt_113 rfl (lv_at hl 4 rfl) ?_
          refine lv_iload_n (pc := 114) cx.1 cx.2.1 dX12_lookAt_114 rfl (lv_at hl 5 rfl) ?_
          refine k_whole_v (pc := 115) (wf := (wM d h)) (u := u14) cx hw (k_runV (pc := 115) (rest := []) (As := [.int x1, .int ((u1.1 3) * x5), .int z4, .int x2, .int x3]) cx hw.1 (hw.2.1.weaken (fun _ _ _ _ => trivial)) hw.2.2 (k_recv cx hw 0 (ci := 10) (q := (RX12, TX12, 40)) rfl rfl) (m_X12_lookInto l dC dI d h  u14 x1 ((u1.1 3) * x5) z4 x2 x3 hwp H.size) (cwV 5 cx.2.2.2.2.1 (lw_V q1274 q1276 qs66 q89 q1277) rfl rfl rfl hdV_X12_lookInto ⟨Nat.le_of_ble_eq_true rfl, Nat.le_of_ble_eq_true rfl⟩) rfl hl.1 rfl (Nat.le_of_ble_eq_true rfl) dX12_lookAt_115 ⟨Nat.le_of_ble_eq_true rfl, Nat.le_of_ble_eq_true rfl⟩) (fun u17 H locs hwp hw => ?_)
          refine lv_iinc (pc := 118) (v := (x5 + (1 : Int32))) (lv' := [(5, .int (x5 + (1 : Int32))), (7, .int z4), (6, .int ((u1.1 3) * x5)), (0, .ref (h 0)), (1, .int x1), (2, .int x2), (3, .int x3), (4, .int x4)]) cx.1 cx.2.1 dX12_lookAt_118 hl (k := 7) rfl rfl (by decide) rfl (fun ls hl => ?_)
          refine lv_goto (pc := 121) (tgt := 20) cx.1 cx.2.1 dX12_lookAt_121 (by decide) ?_
          exact ih _ _ _ _ _ _ _ _ _ hwp hw (lv_sub hl [3, 4, 5, 6, 7, 0] rfl)
      clear hwp
      refine lv_icmp_ge (pc := 58) (tgt := 71) cx.1 cx.2.1 dX12_lookAt_58 (by decide) (fun c19 => ?_) (fun c19 => ?_)
      · skip
        refine lv_iload (pc := 71) cx.1 cx.2.1 dX12_lookAt_71 (lv_at hl 5 rfl) ?_
        exact hJ5 _ (if_pos c19).symm
      · skip
        refine lv_iload (pc := 61) cx.1 cx.2.1 dX12_lookAt_61 (lv_at hl 0 rfl) ?_
        refine lv_aload_n (pc := 63) cx.1 cx.2.1 dX12_lookAt_63 rfl (lv_at hl 1 rfl) ?_
        refine k_getI (pc := 64) (u := (st_I u1 9 ((u1.1 9) + (1 : Int32)))) (v := (u1.1 3)) cx hw (ln_X12_this_3 d h) (C := RX12) (T := TX12) (N := 40) rfl in_X12 (by decide) q980 (fun _ h9 => h9) rfl dX12_lookAt_64 ?_
        refine lv_iadd (pc := 67) cx.1 cx.2.1 dX12_lookAt_67 ?_
        refine lv_goto (pc := 68) (tgt := 73) cx.1 cx.2.1 dX12_lookAt_68 (by decide) ?_
        exact hJ5 _ (if_neg c19).symm
set_option maxHeartbeats 4000000 in
theorem m_X12_lookAt (l : Launch) (dC : Nat → ClassId) (dI : Nat → Nat → Nat) (d : Nat → ClassId) (h : Nat → Nat) (u : St) (x1 : Int32) (x2 : Int32) (x3 : Int32) {K : St → Prop} (hwp : wp_X12_lookAt u x1 x2 x3 K) : kM l yX12_lookAt cX12_lookAt 8 none ({ frames := 2, cells := 0, slots := 0, locals := 51 } : Room) dC dI d [.ref (h 0), .int x1, .int x2, .int x3] (wM d h) u (kQv dC dI (wM d h) K) 0 0 := by
  refine kM_start rfl (Nat.le_of_ble_eq_true rfl) ?_
  intro p e s m below meth c A ls cx hnm hw hl
  generalize hargs : ([.ref (h 0), .int x1, .int x2, .int x3] : List Value).toArray = args at cx ⊢
  unfold wp_X12_lookAt at hwp
  replace hl : lv_has ls 8 [(0, .ref (h 0)), (1, .int x1), (2, .int x2), (3, .int x3)] := hl
  generalize hH : s.heap = H at hw ⊢
  generalize hlo : ([] : List Loc) = locs at hw ⊢
  refine lv_aload_n (pc := 0) cx.1 cx.2.1 dX12_lookAt_0 rfl (lv_at hl 0 rfl) ?_
  refine lv_iconst (pc := 1) (v := 0) cx.1 cx.2.1 dX12_lookAt_1 (by decide) ?_
  refine k_putI (pc := 2) (u := u) (v := (0 : Int32)) cx hw (ln_X12_this_9 d h) (C := RX12) (T := TX12) (N := 40) rfl in_X12 tyX12 tyX12_ok nmX12 (by decide) q986 (fun _ h9 => h9) rfl rfl rfl dX12_lookAt_2 (fun H locs hw => ?_)
  refine lv_aload_n (pc := 5) cx.1 cx.2.1 dX12_lookAt_5 rfl (lv_at hl 0 rfl) ?_
  refine lv_iconst (pc := 6) (v := 0) cx.1 cx.2.1 dX12_lookAt_6 (by decide) ?_
  refine k_putI (pc := 7) (u := (st_I u 9 (0 : Int32))) (v := (0 : Int32)) cx hw (ln_X12_this_10 d h) (C := RX12) (T := TX12) (N := 40) rfl in_X12 tyX12 tyX12_ok nmX12 (by decide) q987 (fun _ h9 => h9) rfl rfl rfl dX12_lookAt_7 (fun H locs hw => ?_)
  refine lv_aload_n (pc := 10) cx.1 cx.2.1 dX12_lookAt_10 rfl (lv_at hl 0 rfl) ?_
  refine lv_iload_n (pc := 11) cx.1 cx.2.1 dX12_lookAt_11 rfl (lv_at hl 1 rfl) ?_
  refine k_whole_i (pc := 12) (wf := (wM d h)) (u := (st_I (st_I u 9 (0 : Int32)) 10 (0 : Int32))) cx hw (k_runV (pc := 12) (rest := []) (As := [.int x1]) cx hw.1 (hw.2.1.weaken (fun _ _ _ _ => trivial)) hw.2.2 (k_recv cx hw 0 (ci := 10) (q := (RX12, TX12, 40)) rfl rfl) (m_X12_chunksOf l dC dI d h  (st_I (st_I u 9 (0 : Int32)) 10 (0 : Int32)) x1 hwp H.size) (cwV 1 cx.2.2.2.2.1 (lw_V q1259 q1261 qs63 q89 q1262) rfl rfl rfl hdV_X12_chunksOf ⟨Nat.le_of_ble_eq_true rfl, Nat.le_of_ble_eq_true rfl⟩) rfl hl.1 rfl (Nat.le_of_ble_eq_true rfl) dX12_lookAt_12 ⟨Nat.le_of_ble_eq_true rfl, Nat.le_of_ble_eq_true rfl⟩) (fun r2 u1 H locs hwp hw => ?_)
  refine lv_istore (pc := 15) (lv' := [(4, .int r2), (0, .ref (h 0)), (1, .int x1), (2, .int x2), (3, .int x3)]) cx.1 cx.2.1 dX12_lookAt_15 hl (by decide) rfl (fun ls hl => ?_)
  refine lv_iconst (pc := 17) (v := 0) cx.1 cx.2.1 dX12_lookAt_17 (by decide) ?_
  refine lv_istore (pc := 18) (lv' := [(5, .int (0 : Int32)), (4, .int r2), (0, .ref (h 0)), (1, .int x1), (2, .int x2), (3, .int x3)]) cx.1 cx.2.1 dX12_lookAt_18 hl (by decide) rfl (fun ls hl => ?_)
  obtain ⟨n20, hwp⟩ := hwp
  exact wk_X12_lookAt_20 cx n20 _ _ _ _ _ _ _ _ _ hwp hw (lv_sub hl [2, 3, 4, 5, 1, 0] rfl)
set_option maxHeartbeats 4000000 in
theorem wk_X12_ask_44 {p : Program} {l : Launch} {e : Env} {s : State} {m : MethodId} {args : Array Value} {below : List Frame} {meth : Method} {c : Code} {A : Nat → Prop} {dC : Nat → ClassId} {dI : Nat → Nat → Nat} {d : Nat → ClassId} {h : Nat → Nat} {C23 : Int32 → Int32 → Int32 → Int32 → Int32 → St → Prop} {K : St → Prop} (cx : Cx p s m args meth c cX12_ask RX12 8 none A dC dI d) (hC23 : ∀ (x1 : Int32) (x2 : Int32) (x3 : Int32) (x4 : Int32) (x5 : Int32) (u : St) (H : Heap) (locs : List Loc) (ls : Array Slot), C23 x1 x2 x3 x4 x5 u → Wd dC dI A ((wM d h) u) s H locs → lv_has ls 8 [(0, .ref (h 0)), (1, .int x1), (2, .int x2), (3, .int x3), (4, .int x4), (5, .int x5)] → W p l e ({ frames := 3, cells := 0, slots := 0, locals := 78 } : Room) s m args below meth c H locs 0 0 (MQ below (kQv dC dI (wM d h) K A) args s 0 0 A) (F0 m 23 ls [])) : ∀ (n : Nat) (x1 : Int32) (x2 : Int32) (x3 : Int32) (x4 : Int32) (x5 : Int32) (x6 : Int32) (x7 : Int32) (u : St) (H : Heap) (locs : List Loc) (ls : Array Slot), wp_X12_ask_44 C23 K n x1 x2 x3 x4 x5 x6 x7 u → Wd dC dI A ((wM d h) u) s H locs → lv_has ls 8 [(0, .ref (h 0)), (1, .int x1), (2, .int x2), (3, .int x3), (4, .int x4), (5, .int x5), (6, .int x6), (7, .int x7)] → W p l e ({ frames := 3, cells := 0, slots := 0, locals := 78 } : Room) s m args below meth c H locs 0 0 (MQ below (kQv dC dI (wM d h) K A) args s 0 0 A) (F0 m 44 ls []) := by
  intro n
  induction n with
  | zero =>
    intros; contradiction
  | succ n ih =>
    intro x1 x2 x3 x4 x5 x6 x7 u H locs ls hwp hw hl
    unfold wp_X12_ask_44 at hwp
    refine lv_iload (pc := 44) cx.1 cx.2.1 dX12_ask_44 (lv_at hl 7 rfl) ?_
    refine lv_aload_n (pc := 46) cx.1 cx.2.1 dX12_ask_46 rfl (lv_at hl 0 rfl) ?_
    refine k_getR (pc := 47) (u := u) (v := .ref (h 3)) cx hw (lr_X12_this_12 d h) (C := RX12) (T := TX12) (N := 40) rfl in_X12 (by decide) q989 (fun _ h9 => h9) rfl dX12_ask_47 ?_
    refine lv_iload (pc := 50) cx.1 cx.2.1 dX12_ask_50 (lv_at hl 6 rfl) ?_
    refine k_iald (pc := 52) (u := u) (f := (u.2.1 12)) cx hw (lx_X12_this_12 d h) 0 rfl rfl hwp.1 dX12_ask_52 ?_
    replace hwp := hwp.2
    refine lv_icmp_ge (pc := 53) (tgt := 107) cx.1 cx.2.1 dX12_ask_53 (by decide) (fun c1 => ?_) (fun c1 => ?_)
    · replace hwp := hwp.1 c1
      refine lv_iinc (pc := 107) (v := (x5 + (1 : Int32))) (lv' := [(5, .int (x5 + (1 : Int32))), (0, .ref (h 0)), (1, .int x1), (2, .int x2), (3, .int x3), (4, .int x4), (6, .int x6), (7, .int x7)]) cx.1 cx.2.1 dX12_ask_107 hl (k := 5) rfl rfl (by decide) rfl (fun ls hl => ?_)
      refine lv_goto (pc := 110) (tgt := 23) cx.1 cx.2.1 dX12_ask_110 (by decide) ?_
      exact hC23 _ _ _ _ _ _ _ _ _ hwp hw (lv_sub hl [1, 2, 3, 4, 5, 0] rfl)
    · replace hwp := hwp.2 c1
      refine lv_aload_n (pc := 56) cx.1 cx.2.1 dX12_ask_56 rfl (lv_at hl 0 rfl) ?_
      refine k_getR (pc := 57) (u := u) (v := .ref (h 2)) cx hw (lr_X12_this_11 d h) (C := RX12) (T := TX12) (N := 40) rfl in_X12 (by decide) q988 (fun _ h9 => h9) rfl dX12_ask_57 ?_
      refine lv_iload (pc := 60) cx.1 cx.2.1 dX12_ask_60 (lv_at hl 6 rfl) ?_
      refine k_iald (pc := 62) (u := u) (f := (u.2.1 11)) cx hw (lx_X12_this_11 d h) 0 rfl rfl hwp.1 dX12_ask_62 ?_
      replace hwp := hwp.2
      refine lv_iload_n (pc := 63) cx.1 cx.2.1 dX12_ask_63 rfl (lv_at hl 1 rfl) ?_
      refine lv_icmp_ne (pc := 64) (tgt := 107) cx.1 cx.2.1 dX12_ask_64 (by decide) (fun c2 => ?_) (fun c2 => ?_)
      · replace hwp := hwp.1 c2
        refine lv_iinc (pc := 107) (v := (x5 + (1 : Int32))) (lv' := [(5, .int (x5 + (1 : Int32))), (0, .ref (h 0)), (1, .int x1), (2, .int x2), (3, .int x3), (4, .int x4), (6, .int x6), (7, .int x7)]) cx.1 cx.2.1 dX12_ask_107 hl (k := 5) rfl rfl (by decide) rfl (fun ls hl => ?_)
        refine lv_goto (pc := 110) (tgt := 23) cx.1 cx.2.1 dX12_ask_110 (by decide) ?_
        exact hC23 _ _ _ _ _ _ _ _ _ hwp hw (lv_sub hl [1, 2, 3, 4, 5, 0] rfl)
      · replace hwp := hwp.2 c2
        refine lv_aload_n (pc := 67) cx.1 cx.2.1 dX12_ask_67 rfl (lv_at hl 0 rfl) ?_
        refine lv_aload_n (pc := 68) cx.1 cx.2.1 dX12_ask_68 rfl (lv_at hl 0 rfl) ?_
        refine k_getR (pc := 69) (u := u) (v := .ref (h 6)) cx hw (lr_X12_this_15 d h) (C := RX12) (T := TX12) (N := 40) rfl in_X12 (by decide) q992 (fun _ h9 => h9) rfl dX12_ask_69 ?_
        refine lv_bipush (pc := 72) (v := 64) cx.1 cx.2.1 dX12_ask_72 (by decide) ?_
        refine lv_iload (pc := 74) cx.1 cx.2.1 dX12_ask_74 (lv_at hl 6 rfl) ?_
        refine lv_imul (pc := 76) cx.1 cx.2.1 dX12_ask_76 ?_
        refine lv_iload (pc := 77) cx.1 cx.2.1 dX12_ask_77 (lv_at hl 7 rfl) ?_
        refine lv_iadd (pc := 79) cx.1 cx.2.1 dX12_ask_79 ?_
        refine k_iald (pc := 80) (u := u) (f := (u.2.1 15)) cx hw (lx_X12_this_15 d h) 0 rfl rfl hwp.1 dX12_ask_80 ?_
        replace hwp := hwp.2
        refine lv_aload_n (pc := 81) cx.1 cx.2.1 dX12_ask_81 rfl (lv_at hl 0 rfl) ?_
        refine k_getR (pc := 82) (u := u) (v := .ref (h 7)) cx hw (lr_X12_this_16 d h) (C := RX12) (T := TX12) (N := 40) rfl in_X12 (by decide) q993 (fun _ h9 => h9) rfl dX12_ask_82 ?_
        refine lv_bipush (pc := 85) (v := 64) cx.1 cx.2.1 dX12_ask_85 (by decide) ?_
        refine lv_iload (pc := 87) cx.1 cx.2.1 dX12_ask_87 (lv_at hl 6 rfl) ?_
        refine lv_imul (pc := 89) cx.1 cx.2.1 dX12_ask_89 ?_
        refine lv_iload (pc := 90) cx.1 cx.2.1 dX12_ask_90 (lv_at hl 7 rfl) ?_
        refine lv_iadd (pc := 92) cx.1 cx.2.1 dX12_ask_92 ?_
        refine k_iald (pc := 93) (u := u) (f := (u.2.1 16)) cx hw (lx_X12_this_16 d h) 0 rfl rfl hwp.1 dX12_ask_93 ?_
        replace hwp := hwp.2
        refine lv_iload_n (pc := 94) cx.1 cx.2.1 dX12_ask_94 rfl (lv_at hl 2 rfl) ?_
        refine lv_iload_n (pc := 95) cx.1 cx.2.1 dX12_ask_95 rfl (lv_at hl 3 rfl) ?_
        refine lv_iload (pc := 96) cx.1 cx.2.1 dX12_ask_96 (lv_at hl 4 rfl) ?_
        refine k_whole_v (pc := 98) (wf := (wM d h)) (u := u) cx hw (k_runV (pc := 98) (rest := []) (As := [.int ((u.2.1 15) (((64 : Int32) * x6) + x7).toNatClampNeg), .int ((u.2.1 16) (((64 : Int32) * x6) + x7).toNatClampNeg), .int x2, .int x3, .int x4]) cx hw.1 (hw.2.1.weaken (fun _ _ _ _ => trivial)) hw.2.2 (k_recv cx hw 0 (ci := 10) (q := (RX12, TX12, 40)) rfl rfl) (m_X12_meet l dC dI d h  u ((u.2.1 15) (((64 : Int32) * x6) + x7).toNatClampNeg) ((u.2.1 16) (((64 : Int32) * x6) + x7).toNatClampNeg) x2 x3 x4 hwp H.size) (cwV 5 cx.2.2.2.2.1 (lw_V q1251 q1253 qs61 q89 q1254) rfl rfl rfl hdV_X12_meet ⟨Nat.le_of_ble_eq_true rfl, Nat.le_of_ble_eq_true rfl⟩) rfl hl.1 rfl (Nat.le_of_ble_eq_true rfl) dX12_ask_98 ⟨Nat.le_of_ble_eq_true rfl, Nat.le_of_ble_eq_true rfl⟩) (fun u3 H locs hwp hw => ?_)
        refine lv_iinc (pc := 101) (v := (x7 + (1 : Int32))) (lv' := [(7, .int (x7 + (1 : Int32))), (0, .ref (h 0)), (1, .int x1), (2, .int x2), (3, .int x3), (4, .int x4), (5, .int x5), (6, .int x6)]) cx.1 cx.2.1 dX12_ask_101 hl (k := 7) rfl rfl (by decide) rfl (fun ls hl => ?_)
        refine lv_goto (pc := 104) (tgt := 44) cx.1 cx.2.1 dX12_ask_104 (by decide) ?_
        exact ih _ _ _ _ _ _ _ _ _ _ _ hwp hw (lv_sub hl [1, 2, 3, 4, 5, 6, 7, 0] rfl)
set_option maxHeartbeats 4000000 in
theorem wk_X12_ask_164 {p : Program} {l : Launch} {e : Env} {s : State} {m : MethodId} {args : Array Value} {below : List Frame} {meth : Method} {c : Code} {A : Nat → Prop} {dC : Nat → ClassId} {dI : Nat → Nat → Nat} {d : Nat → ClassId} {h : Nat → Nat} {K : St → Prop} (cx : Cx p s m args meth c cX12_ask RX12 8 none A dC dI d) : ∀ (x1 : Int32) (x2 : Int32) (x3 : Int32) (u : St) (H : Heap) (locs : List Loc) (ls : Array Slot), wp_X12_ask_164 K x1 x2 x3 u → Wd dC dI A ((wM d h) u) s H locs → lv_has ls 8 [(0, .ref (h 0)), (1, .int x1), (2, .int x2), (3, .int x3)] → W p l e ({ frames := 3, cells := 0, slots := 0, locals := 78 } : Room) s m args below meth c H locs 0 0 (MQ below (kQv dC dI (wM d h) K A) args s 0 0 A) (F0 m 164 ls []) := by
  intro x1 x2 x3 u H locs ls hwp hw hl
  unfold wp_X12_ask_164 at hwp
  refine lv_aload_n (pc := 164) cx.1 cx.2.1 dX12_ask_164 rfl (lv_at hl 0 rfl) ?_
  refine lv_iload_n (pc := 165) cx.1 cx.2.1 dX12_ask_165 rfl (lv_at hl 1 rfl) ?_
  refine lv_iload_n (pc := 166) cx.1 cx.2.1 dX12_ask_166 rfl (lv_at hl 2 rfl) ?_
  refine lv_iload_n (pc := 167) cx.1 cx.2.1 dX12_ask_167 rfl (lv_at hl 3 rfl) ?_
  refine k_whole_v (pc := 168) (wf := (wM d h)) (u := u) cx hw (k_runV (pc := 168) (rest := []) (As := [.int x1, .int x2, .int x3]) cx hw.1 (hw.2.1.weaken (fun _ _ _ _ => trivial)) hw.2.2 (k_recv cx hw 0 (ci := 10) (q := (RX12, TX12, 40)) rfl rfl) (m_X12_lookAt l dC dI d h  u x1 x2 x3 hwp H.size) (cwV 3 cx.2.2.2.2.1 (lw_V q1255 q1257 qs62 q89 q1258) rfl rfl rfl hdV_X12_lookAt ⟨Nat.le_of_ble_eq_true rfl, Nat.le_of_ble_eq_true rfl⟩) rfl hl.1 rfl (Nat.le_of_ble_eq_true rfl) dX12_ask_168 ⟨Nat.le_of_ble_eq_true rfl, Nat.le_of_ble_eq_true rfl⟩) (fun u1 H locs hwp hw => ?_)
  exact k_vret (pc := 171) (wf := (wM d h)) (u := u1) cx hw hwp (by decide) (by decide) dX12_ask_171
set_option maxHeartbeats 4000000 in
theorem wk_X12_ask_116 {p : Program} {l : Launch} {e : Env} {s : State} {m : MethodId} {args : Array Value} {below : List Frame} {meth : Method} {c : Code} {A : Nat → Prop} {dC : Nat → ClassId} {dI : Nat → Nat → Nat} {d : Nat → ClassId} {h : Nat → Nat} {K : St → Prop} (cx : Cx p s m args meth c cX12_ask RX12 8 none A dC dI d) : ∀ (n : Nat) (x1 : Int32) (x2 : Int32) (x3 : Int32) (x4 : Int32) (x5 : Int32) (u : St) (H : Heap) (locs : List Loc) (ls : Array Slot), wp_X12_ask_116 K n x1 x2 x3 x4 x5 u → Wd dC dI A ((wM d h) u) s H locs → lv_has ls 8 [(0, .ref (h 0)), (1, .int x1), (2, .int x2), (3, .int x3), (4, .int x4), (5, .int x5)] → W p l e ({ frames := 3, cells := 0, slots := 0, locals := 78 } : Room) s m args below meth c H locs 0 0 (MQ below (kQv dC dI (wM d h) K A) args s 0 0 A) (F0 m 116 ls []) := by
  intro n
  induction n with
  | zero =>
    intros; contradiction
  | succ n ih =>
    intro x1 x2 x3 x4 x5 u H locs ls hwp hw hl
    unfold wp_X12_ask_116 at hwp
    refine lv_iload (pc := 116) cx.1 cx.2.1 dX12_ask_116 (lv_at hl 5 rfl) ?_
    refine lv_aload_n (pc := 118) cx.1 cx.2.1 dX12_ask_118 rfl (lv_at hl 0 rfl) ?_
    refine k_getI (pc := 119) (u := u) (v := (u.1 24)) cx hw (ln_X12_this_24 d h) (C := RX12) (T := TX12) (N := 40) rfl in_X12 (by decide) q1001 (fun _ h9 => h9) rfl dX12_ask_119 ?_
    refine lv_icmp_ge (pc := 122) (tgt := 164) cx.1 cx.2.1 dX12_ask_122 (by decide) (fun c1 => ?_) (fun c1 => ?_)
    · replace hwp := hwp.1 c1
      exact wk_X12_ask_164 cx _ _ _ _ _ _ _ hwp hw (lv_sub hl [0, 1, 2, 3] rfl)
    · replace hwp := hwp.2 c1
      refine lv_aload_n (pc := 125) cx.1 cx.2.1 dX12_ask_125 rfl (lv_at hl 0 rfl) ?_
      refine k_getR (pc := 126) (u := u) (v := .ref (h 9)) cx hw (lr_X12_this_21 d h) (C := RX12) (T := TX12) (N := 40) rfl in_X12 (by decide) q998 (fun _ h9 => h9) rfl dX12_ask_126 ?_
      refine lv_iload (pc := 129) cx.1 cx.2.1 dX12_ask_129 (lv_at hl 5 rfl) ?_
      refine k_iald (pc := 131) (u := u) (f := (u.2.1 21)) cx hw (lx_X12_this_21 d h) 0 rfl rfl hwp.1 dX12_ask_131 ?_
      replace hwp := hwp.2
      refine lv_iload_n (pc := 132) cx.1 cx.2.1 dX12_ask_132 rfl (lv_at hl 1 rfl) ?_
      refine lv_icmp_ne (pc := 133) (tgt := 158) cx.1 cx.2.1 dX12_ask_133 (by decide) (fun c2 => ?_) (fun c2 => ?_)
      · replace hwp := hwp.1 c2
        refine lv_iinc (pc := 158) (v := (x5 + (1 : Int32))) (lv' := [(5, .int (x5 + (1 : Int32))), (0, .ref (h 0)), (1, .int x1), (2, .int x2), (3, .int x3), (4, .int x4)]) cx.1 cx.2.1 dX12_ask_158 hl (k := 5) rfl rfl (by decide) rfl (fun ls hl => ?_)
        refine lv_goto (pc := 161) (tgt := 116) cx.1 cx.2.1 dX12_ask_161 (by decide) ?_
        exact ih _ _ _ _ _ _ _ _ _ hwp hw (lv_sub hl [1, 2, 3, 4, 5, 0] rfl)
      · replace hwp := hwp.2 c2
        refine lv_aload_n (pc := 136) cx.1 cx.2.1 dX12_ask_136 rfl (lv_at hl 0 rfl) ?_
        refine lv_aload_n (pc := 137) cx.1 cx.2.1 dX12_ask_137 rfl (lv_at hl 0 rfl) ?_
        refine k_getR (pc := 138) (u := u) (v := .ref (h 10)) cx hw (lr_X12_this_22 d h) (C := RX12) (T := TX12) (N := 40) rfl in_X12 (by decide) q999 (fun _ h9 => h9) rfl dX12_ask_138 ?_
        refine lv_iload (pc := 141) cx.1 cx.2.1 dX12_ask_141 (lv_at hl 5 rfl) ?_
        refine k_iald (pc := 143) (u := u) (f := (u.2.1 22)) cx hw (lx_X12_this_22 d h) 0 rfl rfl hwp.1 dX12_ask_143 ?_
        replace hwp := hwp.2
        refine lv_aload_n (pc := 144) cx.1 cx.2.1 dX12_ask_144 rfl (lv_at hl 0 rfl) ?_
        refine k_getR (pc := 145) (u := u) (v := .ref (h 11)) cx hw (lr_X12_this_23 d h) (C := RX12) (T := TX12) (N := 40) rfl in_X12 (by decide) q1000 (fun _ h9 => h9) rfl dX12_ask_145 ?_
        refine lv_iload (pc := 148) cx.1 cx.2.1 dX12_ask_148 (lv_at hl 5 rfl) ?_
        refine k_iald (pc := 150) (u := u) (f := (u.2.1 23)) cx hw (lx_X12_this_23 d h) 0 rfl rfl hwp.1 dX12_ask_150 ?_
        replace hwp := hwp.2
        refine lv_iload_n (pc := 151) cx.1 cx.2.1 dX12_ask_151 rfl (lv_at hl 2 rfl) ?_
        refine lv_iload_n (pc := 152) cx.1 cx.2.1 dX12_ask_152 rfl (lv_at hl 3 rfl) ?_
        refine lv_iload (pc := 153) cx.1 cx.2.1 dX12_ask_153 (lv_at hl 4 rfl) ?_
        refine k_whole_v (pc := 155) (wf := (wM d h)) (u := u) cx hw (k_runV (pc := 155) (rest := []) (As := [.int ((u.2.1 22) x5.toNatClampNeg), .int ((u.2.1 23) x5.toNatClampNeg), .int x2, .int x3, .int x4]) cx hw.1 (hw.2.1.weaken (fun _ _ _ _ => trivial)) hw.2.2 (k_recv cx hw 0 (ci := 10) (q := (RX12, TX12, 40)) rfl rfl) (m_X12_meet l dC dI d h  u ((u.2.1 22) x5.toNatClampNeg) ((u.2.1 23) x5.toNatClampNeg) x2 x3 x4 hwp H.size) (cwV 5 cx.2.2.2.2.1 (lw_V q1251 q1253 qs61 q89 q1254) rfl rfl rfl hdV_X12_meet ⟨Nat.le_of_ble_eq_true rfl, Nat.le_of_ble_eq_true rfl⟩) rfl hl.1 rfl (Nat.le_of_ble_eq_true rfl) dX12_ask_155 ⟨Nat.le_of_ble_eq_true rfl, Nat.le_of_ble_eq_true rfl⟩) (fun u3 H locs hwp hw => ?_)
        refine lv_iinc (pc := 158) (v := (x5 + (1 : Int32))) (lv' := [(5, .int (x5 + (1 : Int32))), (0, .ref (h 0)), (1, .int x1), (2, .int x2), (3, .int x3), (4, .int x4)]) cx.1 cx.2.1 dX12_ask_158 hl (k := 5) rfl rfl (by decide) rfl (fun ls hl => ?_)
        refine lv_goto (pc := 161) (tgt := 116) cx.1 cx.2.1 dX12_ask_161 (by decide) ?_
        exact ih _ _ _ _ _ _ _ _ _ hwp hw (lv_sub hl [1, 2, 3, 4, 5, 0] rfl)
set_option maxHeartbeats 4000000 in
theorem wk_X12_ask_23 {p : Program} {l : Launch} {e : Env} {s : State} {m : MethodId} {args : Array Value} {below : List Frame} {meth : Method} {c : Code} {A : Nat → Prop} {dC : Nat → ClassId} {dI : Nat → Nat → Nat} {d : Nat → ClassId} {h : Nat → Nat} {K : St → Prop} (cx : Cx p s m args meth c cX12_ask RX12 8 none A dC dI d) : ∀ (n : Nat) (x1 : Int32) (x2 : Int32) (x3 : Int32) (x4 : Int32) (x5 : Int32) (u : St) (H : Heap) (locs : List Loc) (ls : Array Slot), wp_X12_ask_23 K n x1 x2 x3 x4 x5 u → Wd dC dI A ((wM d h) u) s H locs → lv_has ls 8 [(0, .ref (h 0)), (1, .int x1), (2, .int x2), (3, .int x3), (4, .int x4), (5, .int x5)] → W p l e ({ frames := 3, cells := 0, slots := 0, locals := 78 } : Room) s m args below meth c H locs 0 0 (MQ below (kQv dC dI (wM d h) K A) args s 0 0 A) (F0 m 23 ls []) := by
  intro n
  induction n with
  | zero =>
    intros; contradiction
  | succ n ih =>
    intro x1 x2 x3 x4 x5 u H locs ls hwp hw hl
    unfold wp_X12_ask_23 at hwp
    refine lv_iload (pc := 23) cx.1 cx.2.1 dX12_ask_23 (lv_at hl 5 rfl) ?_
    refine lv_aload_n (pc := 25) cx.1 cx.2.1 dX12_ask_25 rfl (lv_at hl 0 rfl) ?_
    refine k_getI (pc := 26) (u := u) (v := (u.1 18)) cx hw (ln_X12_this_18 d h) (C := RX12) (T := TX12) (N := 40) rfl in_X12 (by decide) q995 (fun _ h9 => h9) rfl dX12_ask_26 ?_
    refine lv_icmp_ge (pc := 29) (tgt := 113) cx.1 cx.2.1 dX12_ask_29 (by decide) (fun c1 => ?_) (fun c1 => ?_)
    · replace hwp := hwp.1 c1
      refine lv_iconst (pc := 113) (v := 0) cx.1 cx.2.1 dX12_ask_113 (by decide) ?_
      refine lv_istore (pc := 114) (lv' := [(5, .int (0 : Int32)), (0, .ref (h 0)), (1, .int x1), (2, .int x2), (3, .int x3), (4, .int x4)]) cx.1 cx.2.1 dX12_ask_114 hl (by decide) rfl (fun ls hl => ?_)
      obtain ⟨n116, hwp⟩ := hwp
      exact wk_X12_ask_116 cx n116 _ _ _ _ _ _ _ _ _ hwp hw (lv_sub hl [1, 2, 3, 4, 5, 0] rfl)
    · replace hwp := hwp.2 c1
      refine lv_aload_n (pc := 32) cx.1 cx.2.1 dX12_ask_32 rfl (lv_at hl 0 rfl) ?_
      refine k_getR (pc := 33) (u := u) (v := .ref (h 8)) cx hw (lr_X12_this_17 d h) (C := RX12) (T := TX12) (N := 40) rfl in_X12 (by decide) q994 (fun _ h9 => h9) rfl dX12_ask_33 ?_
      refine lv_iload (pc := 36) cx.1 cx.2.1 dX12_ask_36 (lv_at hl 5 rfl) ?_
      refine k_iald (pc := 38) (u := u) (f := (u.2.1 17)) cx hw (lx_X12_this_17 d h) 0 rfl rfl hwp.1 dX12_ask_38 ?_
      replace hwp := hwp.2
      refine lv_istore (pc := 39) (lv' := [(6, .int ((u.2.1 17) x5.toNatClampNeg)), (0, .ref (h 0)), (1, .int x1), (2, .int x2), (3, .int x3), (4, .int x4), (5, .int x5)]) cx.1 cx.2.1 dX12_ask_39 hl (by decide) rfl (fun ls hl => ?_)
      refine lv_iconst (pc := 41) (v := 0) cx.1 cx.2.1 dX12_ask_41 (by decide) ?_
      refine lv_istore (pc := 42) (lv' := [(7, .int (0 : Int32)), (6, .int ((u.2.1 17) x5.toNatClampNeg)), (0, .ref (h 0)), (1, .int x1), (2, .int x2), (3, .int x3), (4, .int x4), (5, .int x5)]) cx.1 cx.2.1 dX12_ask_42 hl (by decide) rfl (fun ls hl => ?_)
      obtain ⟨n44, hwp⟩ := hwp
      exact wk_X12_ask_44 cx ih n44 _ _ _ _ _ _ _ _ _ _ _ hwp hw (lv_sub hl [2, 3, 4, 5, 6, 7, 1, 0] rfl)
set_option maxHeartbeats 4000000 in
theorem m_X12_ask (l : Launch) (dC : Nat → ClassId) (dI : Nat → Nat → Nat) (d : Nat → ClassId) (h : Nat → Nat) (u : St) (x1 : Int32) (x2 : Int32) (x3 : Int32) (x4 : Int32) {K : St → Prop} (hwp : wp_X12_ask u x1 x2 x3 x4 K) : kM l yX12_ask cX12_ask 8 none ({ frames := 3, cells := 0, slots := 0, locals := 78 } : Room) dC dI d [.ref (h 0), .int x1, .int x2, .int x3, .int x4] (wM d h) u (kQv dC dI (wM d h) K) 0 0 := by
  refine kM_start rfl (Nat.le_of_ble_eq_true rfl) ?_
  intro p e s m below meth c A ls cx hnm hw hl
  generalize hargs : ([.ref (h 0), .int x1, .int x2, .int x3, .int x4] : List Value).toArray = args at cx ⊢
  unfold wp_X12_ask at hwp
  replace hl : lv_has ls 8 [(0, .ref (h 0)), (1, .int x1), (2, .int x2), (3, .int x3), (4, .int x4)] := hl
  generalize hH : s.heap = H at hw ⊢
  generalize hlo : ([] : List Loc) = locs at hw ⊢
  refine lv_aload_n (pc := 0) cx.1 cx.2.1 dX12_ask_0 rfl (lv_at hl 0 rfl) ?_
  refine lv_iconst (pc := 1) (v := 0) cx.1 cx.2.1 dX12_ask_1 (by decide) ?_
  refine k_putI (pc := 2) (u := u) (v := (0 : Int32)) cx hw (ln_X12_this_36 d h) (C := RX12) (T := TX12) (N := 40) rfl in_X12 tyX12 tyX12_ok nmX12 (by decide) q1013 (fun _ h9 => h9) rfl rfl rfl dX12_ask_2 (fun H locs hw => ?_)
  refine lv_aload_n (pc := 5) cx.1 cx.2.1 dX12_ask_5 rfl (lv_at hl 0 rfl) ?_
  refine lv_iconst (pc := 6) (v := 0) cx.1 cx.2.1 dX12_ask_6 (by decide) ?_
  refine k_putI (pc := 7) (u := (st_I u 36 (0 : Int32))) (v := (0 : Int32)) cx hw (ln_X12_this_37 d h) (C := RX12) (T := TX12) (N := 40) rfl in_X12 tyX12 tyX12_ok nmX12 (by decide) q1014 (fun _ h9 => h9) rfl rfl rfl dX12_ask_7 (fun H locs hw => ?_)
  refine lv_aload_n (pc := 10) cx.1 cx.2.1 dX12_ask_10 rfl (lv_at hl 0 rfl) ?_
  refine lv_iconst (pc := 11) (v := 0) cx.1 cx.2.1 dX12_ask_11 (by decide) ?_
  refine k_putI (pc := 12) (u := (st_I (st_I u 36 (0 : Int32)) 37 (0 : Int32))) (v := (0 : Int32)) cx hw (ln_X12_this_38 d h) (C := RX12) (T := TX12) (N := 40) rfl in_X12 tyX12 tyX12_ok nmX12 (by decide) q1015 (fun _ h9 => h9) rfl rfl rfl dX12_ask_12 (fun H locs hw => ?_)
  refine lv_aload_n (pc := 15) cx.1 cx.2.1 dX12_ask_15 rfl (lv_at hl 0 rfl) ?_
  refine lv_lconst (pc := 16) (v := 0) cx.1 cx.2.1 dX12_ask_16 (by decide) ?_
  refine k_putJ (pc := 17) (u := (st_I (st_I (st_I u 36 (0 : Int32)) 37 (0 : Int32)) 38 (0 : Int32))) (v := (0 : Int64)) cx hw (ln_X12_this_39 d h) (C := RX12) (T := TX12) (N := 40) rfl in_X12 tyX12 tyX12_ok nmX12 (by decide) q1016 (fun _ h9 => h9) rfl rfl rfl dX12_ask_17 (fun H locs hw => ?_)
  refine lv_iconst (pc := 20) (v := 0) cx.1 cx.2.1 dX12_ask_20 (by decide) ?_
  refine lv_istore (pc := 21) (lv' := [(5, .int (0 : Int32)), (0, .ref (h 0)), (1, .int x1), (2, .int x2), (3, .int x3), (4, .int x4)]) cx.1 cx.2.1 dX12_ask_21 hl (by decide) rfl (fun ls hl => ?_)
  obtain ⟨n23, hwp⟩ := hwp
  exact wk_X12_ask_23 cx n23 _ _ _ _ _ _ _ _ _ hwp hw (lv_sub hl [1, 2, 3, 4, 5, 0] rfl)
