set_option maxRecDepth 100000
set_option maxHeartbeats 4000000 in
theorem wk_X12_writeIndex_12 {p : Program} {l : Launch} {e : Env} {s : State} {m : MethodId} {args : Array Value} {below : List Frame} {meth : Method} {c : Code} {A : Nat → Prop} {dC : Nat → ClassId} {dI : Nat → Nat → Nat} {d : Nat → ClassId} {h : Nat → Nat} {K : Int32 → St → Prop} (cx : Cx p s m args meth c cX12_writeIndex RX12 8 (some .boolean) A dC dI d) : ∀ (n : Nat) (x1 : Int32) (x2 : Int32) (x3 : Int32) (u : St) (H : Heap) (locs : List Loc) (ls : Array Slot), wp_X12_writeIndex_12 K n x1 x2 x3 u → Wd dC dI A ((wM d h) u) s H locs → lv_has ls 8 [(0, .ref (h 0)), (1, .int x1), (2, .int x2), (3, .int x3)] → W p l e ({ frames := 1, cells := 0, slots := 0, locals := 24 } : Room) s m args below meth c H locs 0 0 (MQ below (kQi dC dI (wM d h) K A) args s 0 0 A) (F0 m 12 ls []) := by
  intro n
  induction n with
  | zero =>
    intros; contradiction
  | succ n ih =>
    intro x1 x2 x3 u H locs ls hwp hw hl
    unfold wp_X12_writeIndex_12 at hwp
    refine lv_iload_n (pc := 12) cx.1 cx.2.1 dX12_writeIndex_12 rfl (lv_at hl 3 rfl) ?_
    refine lv_aload_n (pc := 13) cx.1 cx.2.1 dX12_writeIndex_13 rfl (lv_at hl 0 rfl) ?_
    refine k_getI (pc := 14) (u := u) (v := (u.1 27)) cx hw (ln_X12_this_27 d h) (C := RX12) (T := TX12) (N := 40) rfl in_X12 (by decide) q1004 (fun _ h9 => h9) rfl dX12_writeIndex_14 ?_
    refine lv_icmp_ge (pc := 17) (tgt := 235) cx.1 cx.2.1 dX12_writeIndex_17 (by decide) (fun c1 => ?_) (fun c1 => ?_)
    · replace hwp := hwp.1 c1
      refine lv_iload_n (pc := 235) cx.1 cx.2.1 dX12_writeIndex_235 rfl (lv_at hl 2 rfl) ?_
      exact k_zret (pc := 236) (wf := (wM d h)) (u := u) cx hw (ok_Zn hwp.1) hwp.2 (by decide) (by decide) dX12_writeIndex_236
    · replace hwp := hwp.2 c1
      refine lv_iload_n (pc := 20) cx.1 cx.2.1 dX12_writeIndex_20 rfl (lv_at hl 2 rfl) ?_
      refine lv_if_eq (pc := 21) (tgt := 235) cx.1 cx.2.1 dX12_writeIndex_21 (by decide) (fun c2 => ?_) (fun c2 => ?_)
      · replace hwp := hwp.1 c2
        refine lv_iload_n (pc := 235) cx.1 cx.2.1 dX12_writeIndex_235 rfl (lv_at hl 2 rfl) ?_
        exact k_zret (pc := 236) (wf := (wM d h)) (u := u) cx hw (ok_Zn hwp.1) hwp.2 (by decide) (by decide) dX12_writeIndex_236
      · replace hwp := hwp.2 c2
        refine lv_aload_n (pc := 24) cx.1 cx.2.1 dX12_writeIndex_24 rfl (lv_at hl 0 rfl) ?_
        refine k_getR (pc := 25) (u := u) (v := .ref (h 12)) cx hw (lr_X12_this_25 d h) (C := RX12) (T := TX12) (N := 40) rfl in_X12 (by decide) q1002 (fun _ h9 => h9) rfl dX12_writeIndex_25 ?_
        refine lv_iload_n (pc := 28) cx.1 cx.2.1 dX12_writeIndex_28 rfl (lv_at hl 3 rfl) ?_
        refine k_iald (pc := 29) (u := u) (f := (u.2.1 25)) cx hw (lx_X12_this_25 d h) 0 rfl rfl hwp.1 dX12_writeIndex_29 ?_
        replace hwp := hwp.2
        refine lv_istore (pc := 30) (lv' := [(4, .int ((u.2.1 25) x3.toNatClampNeg)), (0, .ref (h 0)), (1, .int x1), (2, .int x2), (3, .int x3)]) cx.1 cx.2.1 dX12_writeIndex_30 hl (by decide) rfl (fun ls hl => ?_)
        refine lv_iload_n (pc := 32) cx.1 cx.2.1 dX12_writeIndex_32 rfl (lv_at hl 2 rfl) ?_
        refine lv_iconst (pc := 33) (v := 1) cx.1 cx.2.1 dX12_writeIndex_33 (by decide) ?_
        refine lv_iadd (pc := 34) cx.1 cx.2.1 dX12_writeIndex_34 ?_
        refine lv_bipush (pc := 35) (v := 10) cx.1 cx.2.1 dX12_writeIndex_35 (by decide) ?_
        refine lv_iload_n (pc := 37) cx.1 cx.2.1 dX12_writeIndex_37 rfl (lv_at hl 4 rfl) ?_
        refine lv_imul (pc := 38) cx.1 cx.2.1 dX12_writeIndex_38 ?_
        refine lv_iadd (pc := 39) cx.1 cx.2.1 dX12_writeIndex_39 ?_
        refine lv_istore (pc := 40) (lv' := [(5, .int ((x1 + (1 : Int32)) + ((10 : Int32) * x3))), (4, .int ((u.2.1 25) x3.toNatClampNeg)), (0, .ref (h 0)), (1, .int x1), (2, .int x2), (3, .int x3)]) cx.1 cx.2.1 dX12_writeIndex_40 hl (by decide) rfl (fun ls hl => ?_)
        refine lv_aload_n (pc := 42) cx.1 cx.2.1 dX12_writeIndex_42 rfl (lv_at hl 2 rfl) ?_
        refine lv_iload (pc := 43) cx.1 cx.2.1 dX12_writeIndex_43 (lv_at hl 1 rfl) ?_
        refine k_whole_l (pc := 45) (wf := (wM d h)) (u := u) cx hw (k_runV (pc := 45) (rest := []) (As := [.int ((u.2.1 25) x3.toNatClampNeg)]) cx hw.1 (hw.2.1.weaken (fun _ _ _ _ => trivial)) hw.2.2 (k_recv cx hw 0 (ci := 10) (q := (RX12, TX12, 40)) rfl rfl) (m_X12_sumOf l dC dI d h  u ((u.2.1 25) x3.toNatClampNeg) hwp H.size) (cwV 1 cx.2.2.2.2.1 (lw_V q1207 q1209 qs53 q89 q1210) rfl rfl rfl hdV_X12_sumOf ⟨Nat.le_of_ble_eq_true rfl, Nat.le_of_ble_eq_true rfl⟩) rfl hl.1 rfl (Nat.le_of_ble_eq_true rfl) dX12_writeIndex_45 ⟨Nat.le_of_ble_eq_true rfl, Nat.le_of_ble_eq_true rfl⟩) (fun r4 u3 H locs hwp hw => ?_)
        refine lv_lstore (pc := 48) (lv' := [(6, .long r4), (5, .int ((x1 + (1 : Int32)) + ((10 : Int32) * x3))), (4, .int ((u.2.1 25) x3.toNatClampNeg)), (0, .ref (h 0)), (1, .int x1), (2, .int x2), (3, .int x3)]) cx.1 cx.2.1 dX12_writeIndex_48 hl (by decide) rfl (fun ls hl => ?_)
        refine lv_aload_n (pc := 50) cx.1 cx.2.1 dX12_writeIndex_50 rfl (lv_at hl 3 rfl) ?_
        refine lv_iload (pc := 51) cx.1 cx.2.1 dX12_writeIndex_51 (lv_at hl 1 rfl) ?_
        refine lv_aload_n (pc := 53) cx.1 cx.2.1 dX12_writeIndex_53 rfl (lv_at hl 3 rfl) ?_
        refine k_getR (pc := 54) (u := u3) (v := .ref (h 2)) cx hw (lr_X12_this_11 d h) (C := RX12) (T := TX12) (N := 40) rfl in_X12 (by decide) q988 (fun _ h9 => h9) rfl dX12_writeIndex_54 ?_
        refine lv_iload (pc := 57) cx.1 cx.2.1 dX12_writeIndex_57 (lv_at hl 2 rfl) ?_
        refine k_iald (pc := 59) (u := u3) (f := (u3.2.1 11)) cx hw (lx_X12_this_11 d h) 0 rfl rfl hwp.1 dX12_writeIndex_59 ?_
        replace hwp := hwp.2
        refine k_whole_i (pc := 60) (wf := (wM d h)) (u := u3) cx hw (k_runV (pc := 60) (rest := []) (As := [.int ((x1 + (1 : Int32)) + ((10 : Int32) * x3)), .int ((u3.2.1 11) ((u.2.1 25) x3.toNatClampNeg).toNatClampNeg)]) cx hw.1 (hw.2.1.weaken (fun _ _ _ _ => trivial)) hw.2.2 (k_recv cx hw 0 (ci := 10) (q := (RX12, TX12, 40)) rfl rfl) (m_X12_write l dC dI d h  u3 ((x1 + (1 : Int32)) + ((10 : Int32) * x3)) ((u3.2.1 11) ((u.2.1 25) x3.toNatClampNeg).toNatClampNeg) hwp H.size) (cwV 2 cx.2.2.2.2.1 (lw_V q1118 q1120 qs35 q89 q1121) rfl rfl rfl hdV_X12_write ⟨Nat.le_of_ble_eq_true rfl, Nat.le_of_ble_eq_true rfl⟩) rfl hl.1 rfl (Nat.le_of_ble_eq_true rfl) dX12_writeIndex_60 ⟨Nat.le_of_ble_eq_true rfl, Nat.le_of_ble_eq_true rfl⟩) (fun r6 u5 H locs hwp hw => ?_)
        refine lv_if_eq (pc := 63) (tgt := 227) cx.1 cx.2.1 dX12_writeIndex_63 (by decide) (fun c7 => ?_) (fun c7 => ?_)
        · replace hwp := hwp.1 c7
          refine lv_iconst (pc := 227) (v := 0) cx.1 cx.2.1 dX12_writeIndex_227 (by decide) ?_
          refine lv_istore_n (pc := 228) (lv' := [(2, .int (0 : Int32)), (6, .long r4), (5, .int ((x1 + (1 : Int32)) + ((10 : Int32) * x3))), (4, .int ((u.2.1 25) x3.toNatClampNeg)), (0, .ref (h 0)), (1, .int x1), (3, .int x3)]) cx.1 cx.2.1 dX12_writeIndex_228 rfl hl (by decide) rfl (fun ls hl => ?_)
          refine lv_iinc (pc := 229) (v := (x3 + (1 : Int32))) (lv' := [(3, .int (x3 + (1 : Int32))), (2, .int (0 : Int32)), (6, .long r4), (5, .int ((x1 + (1 : Int32)) + ((10 : Int32) * x3))), (4, .int ((u.2.1 25) x3.toNatClampNeg)), (0, .ref (h 0)), (1, .int x1)]) cx.1 cx.2.1 dX12_writeIndex_229 hl (k := 6) rfl rfl (by decide) rfl (fun ls hl => ?_)
          refine lv_goto (pc := 232) (tgt := 12) cx.1 cx.2.1 dX12_writeIndex_232 (by decide) ?_
          exact ih _ _ _ _ _ _ _ hwp hw (lv_sub hl [5, 6, 1, 0] rfl)
        · replace hwp := hwp.2 c7
          refine lv_aload_n (pc := 66) cx.1 cx.2.1 dX12_writeIndex_66 rfl (lv_at hl 3 rfl) ?_
          refine lv_iload (pc := 67) cx.1 cx.2.1 dX12_writeIndex_67 (lv_at hl 1 rfl) ?_
          refine lv_iconst (pc := 69) (v := 1) cx.1 cx.2.1 dX12_writeIndex_69 (by decide) ?_
          refine lv_iadd (pc := 70) cx.1 cx.2.1 dX12_writeIndex_70 ?_
          refine lv_aload_n (pc := 71) cx.1 cx.2.1 dX12_writeIndex_71 rfl (lv_at hl 3 rfl) ?_
          refine lv_iload (pc := 72) cx.1 cx.2.1 dX12_writeIndex_72 (lv_at hl 2 rfl) ?_
          refine k_whole_i (pc := 74) (wf := (wM d h)) (u := u5) cx hw (k_runV (pc := 74) (rest := [.int (((x1 + (1 : Int32)) + ((10 : Int32) * x3)) + (1 : Int32)), .ref (h 0)]) (As := [.int ((u.2.1 25) x3.toNatClampNeg)]) cx hw.1 (hw.2.1.weaken (fun _ _ _ _ => trivial)) hw.2.2 (k_recv cx hw 0 (ci := 10) (q := (RX12, TX12, 40)) rfl rfl) (m_X12_firstTime l dC dI d h  u5 ((u.2.1 25) x3.toNatClampNeg) hwp H.size) (cwV 1 cx.2.2.2.2.1 (lw_V q1211 q1213 qs54 q89 q1214) rfl rfl rfl hdV_X12_firstTime ⟨Nat.le_of_ble_eq_true rfl, Nat.le_of_ble_eq_true rfl⟩) rfl hl.1 rfl (Nat.le_of_ble_eq_true rfl) dX12_writeIndex_74 ⟨Nat.le_of_ble_eq_true rfl, Nat.le_of_ble_eq_true rfl⟩) (fun r9 u8 H locs hwp hw => ?_)
          refine k_whole_i (pc := 77) (wf := (wM d h)) (u := u8) cx hw (k_runV (pc := 77) (rest := []) (As := [.int (((x1 + (1 : Int32)) + ((10 : Int32) * x3)) + (1 : Int32)), .int r9]) cx hw.1 (hw.2.1.weaken (fun _ _ _ _ => trivial)) hw.2.2 (k_recv cx hw 0 (ci := 10) (q := (RX12, TX12, 40)) rfl rfl) (m_X12_write l dC dI d h  u8 (((x1 + (1 : Int32)) + ((10 : Int32) * x3)) + (1 : Int32)) r9 hwp H.size) (cwV 2 cx.2.2.2.2.1 (lw_V q1118 q1120 qs35 q89 q1121) rfl rfl rfl hdV_X12_write ⟨Nat.le_of_ble_eq_true rfl, Nat.le_of_ble_eq_true rfl⟩) rfl hl.1 rfl (Nat.le_of_ble_eq_true rfl) dX12_writeIndex_77 ⟨Nat.le_of_ble_eq_true rfl, Nat.le_of_ble_eq_true rfl⟩) (fun r11 u10 H locs hwp hw => ?_)
          refine lv_if_eq (pc := 80) (tgt := 227) cx.1 cx.2.1 dX12_writeIndex_80 (by decide) (fun c12 => ?_) (fun c12 => ?_)
          · replace hwp := hwp.1 c12
            refine lv_iconst (pc := 227) (v := 0) cx.1 cx.2.1 dX12_writeIndex_227 (by decide) ?_
            refine lv_istore_n (pc := 228) (lv' := [(2, .int (0 : Int32)), (6, .long r4), (5, .int ((x1 + (1 : Int32)) + ((10 : Int32) * x3))), (4, .int ((u.2.1 25) x3.toNatClampNeg)), (0, .ref (h 0)), (1, .int x1), (3, .int x3)]) cx.1 cx.2.1 dX12_writeIndex_228 rfl hl (by decide) rfl (fun ls hl => ?_)
            refine lv_iinc (pc := 229) (v := (x3 + (1 : Int32))) (lv' := [(3, .int (x3 + (1 : Int32))), (2, .int (0 : Int32)), (6, .long r4), (5, .int ((x1 + (1 : Int32)) + ((10 : Int32) * x3))), (4, .int ((u.2.1 25) x3.toNatClampNeg)), (0, .ref (h 0)), (1, .int x1)]) cx.1 cx.2.1 dX12_writeIndex_229 hl (k := 6) rfl rfl (by decide) rfl (fun ls hl => ?_)
            refine lv_goto (pc := 232) (tgt := 12) cx.1 cx.2.1 dX12_writeIndex_232 (by decide) ?_
            exact ih _ _ _ _ _ _ _ hwp hw (lv_sub hl [5, 6, 1, 0] rfl)
          · replace hwp := hwp.2 c12
            refine lv_aload_n (pc := 83) cx.1 cx.2.1 dX12_writeIndex_83 rfl (lv_at hl 3 rfl) ?_
            refine lv_iload (pc := 84) cx.1 cx.2.1 dX12_writeIndex_84 (lv_at hl 1 rfl) ?_
            refine lv_iconst (pc := 86) (v := 2) cx.1 cx.2.1 dX12_writeIndex_86 (by decide) ?_
            refine lv_iadd (pc := 87) cx.1 cx.2.1 dX12_writeIndex_87 ?_
            refine lv_aload_n (pc := 88) cx.1 cx.2.1 dX12_writeIndex_88 rfl (lv_at hl 3 rfl) ?_
            refine lv_iload (pc := 89) cx.1 cx.2.1 dX12_writeIndex_89 (lv_at hl 2 rfl) ?_
            refine k_whole_i (pc := 91) (wf := (wM d h)) (u := u10) cx hw (k_runV (pc := 91) (rest := [.int (((x1 + (1 : Int32)) + ((10 : Int32) * x3)) + (2 : Int32)), .ref (h 0)]) (As := [.int ((u.2.1 25) x3.toNatClampNeg)]) cx hw.1 (hw.2.1.weaken (fun _ _ _ _ => trivial)) hw.2.2 (k_recv cx hw 0 (ci := 10) (q := (RX12, TX12, 40)) rfl rfl) (m_X12_lastTime l dC dI d h  u10 ((u.2.1 25) x3.toNatClampNeg) hwp H.size) (cwV 1 cx.2.2.2.2.1 (lw_V q1215 q1217 qs55 q89 q1218) rfl rfl rfl hdV_X12_lastTime ⟨Nat.le_of_ble_eq_true rfl, Nat.le_of_ble_eq_true rfl⟩) rfl hl.1 rfl (Nat.le_of_ble_eq_true rfl) dX12_writeIndex_91 ⟨Nat.le_of_ble_eq_true rfl, Nat.le_of_ble_eq_true rfl⟩) (fun r14 u13 H locs hwp hw => ?_)
            refine k_whole_i (pc := 94) (wf := (wM d h)) (u := u13) cx hw (k_runV (pc := 94) (rest := []) (As := [.int (((x1 + (1 : Int32)) + ((10 : Int32) * x3)) + (2 : Int32)), .int r14]) cx hw.1 (hw.2.1.weaken (fun _ _ _ _ => trivial)) hw.2.2 (k_recv cx hw 0 (ci := 10) (q := (RX12, TX12, 40)) rfl rfl) (m_X12_write l dC dI d h  u13 (((x1 + (1 : Int32)) + ((10 : Int32) * x3)) + (2 : Int32)) r14 hwp H.size) (cwV 2 cx.2.2.2.2.1 (lw_V q1118 q1120 qs35 q89 q1121) rfl rfl rfl hdV_X12_write ⟨Nat.le_of_ble_eq_true rfl, Nat.le_of_ble_eq_true rfl⟩) rfl hl.1 rfl (Nat.le_of_ble_eq_true rfl) dX12_writeIndex_94 ⟨Nat.le_of_ble_eq_true rfl, Nat.le_of_ble_eq_true rfl⟩) (fun r16 u15 H locs hwp hw => ?_)
            refine lv_if_eq (pc := 97) (tgt := 227) cx.1 cx.2.1 dX12_writeIndex_97 (by decide) (fun c17 => ?_) (fun c17 => ?_)
            · replace hwp := hwp.1 c17
              refine lv_iconst (pc := 227) (v := 0) cx.1 cx.2.1 dX12_writeIndex_227 (by decide) ?_
              refine lv_istore_n (pc := 228) (lv' := [(2, .int (0 : Int32)), (6, .long r4), (5, .int ((x1 + (1 : Int32)) + ((10 : Int32) * x3))), (4, .int ((u.2.1 25) x3.toNatClampNeg)), (0, .ref (h 0)), (1, .int x1), (3, .int x3)]) cx.1 cx.2.1 dX12_writeIndex_228 rfl hl (by decide) rfl (fun ls hl => ?_)
              refine lv_iinc (pc := 229) (v := (x3 + (1 : Int32))) (lv' := [(3, .int (x3 + (1 : Int32))), (2, .int (0 : Int32)), (6, .long r4), (5, .int ((x1 + (1 : Int32)) + ((10 : Int32) * x3))), (4, .int ((u.2.1 25) x3.toNatClampNeg)), (0, .ref (h 0)), (1, .int x1)]) cx.1 cx.2.1 dX12_writeIndex_229 hl (k := 6) rfl rfl (by decide) rfl (fun ls hl => ?_)
              refine lv_goto (pc := 232) (tgt := 12) cx.1 cx.2.1 dX12_writeIndex_232 (by decide) ?_
              exact ih _ _ _ _ _ _ _ hwp hw (lv_sub hl [5, 6, 1, 0] rfl)
            · replace hwp := hwp.2 c17
              refine lv_aload_n (pc := 100) cx.1 cx.2.1 dX12_writeIndex_100 rfl (lv_at hl 3 rfl) ?_
              refine lv_iload (pc := 101) cx.1 cx.2.1 dX12_writeIndex_101 (lv_at hl 1 rfl) ?_
              refine lv_iconst (pc := 103) (v := 3) cx.1 cx.2.1 dX12_writeIndex_103 (by decide) ?_
              refine lv_iadd (pc := 104) cx.1 cx.2.1 dX12_writeIndex_104 ?_
              refine lv_aload_n (pc := 105) cx.1 cx.2.1 dX12_writeIndex_105 rfl (lv_at hl 3 rfl) ?_
              refine k_getR (pc := 106) (u := u15) (v := .ref (h 3)) cx hw (lr_X12_this_12 d h) (C := RX12) (T := TX12) (N := 40) rfl in_X12 (by decide) q989 (fun _ h9 => h9) rfl dX12_writeIndex_106 ?_
              refine lv_iload (pc := 109) cx.1 cx.2.1 dX12_writeIndex_109 (lv_at hl 2 rfl) ?_
              refine k_iald (pc := 111) (u := u15) (f := (u15.2.1 12)) cx hw (lx_X12_this_12 d h) 0 rfl rfl hwp.1 dX12_writeIndex_111 ?_
              replace hwp := hwp.2
              refine k_whole_i (pc := 112) (wf := (wM d h)) (u := u15) cx hw (k_runV (pc := 112) (rest := []) (As := [.int (((x1 + (1 : Int32)) + ((10 : Int32) * x3)) + (3 : Int32)), .int ((u15.2.1 12) ((u.2.1 25) x3.toNatClampNeg).toNatClampNeg)]) cx hw.1 (hw.2.1.weaken (fun _ _ _ _ => trivial)) hw.2.2 (k_recv cx hw 0 (ci := 10) (q := (RX12, TX12, 40)) rfl rfl) (m_X12_write l dC dI d h  u15 (((x1 + (1 : Int32)) + ((10 : Int32) * x3)) + (3 : Int32)) ((u15.2.1 12) ((u.2.1 25) x3.toNatClampNeg).toNatClampNeg) hwp H.size) (cwV 2 cx.2.2.2.2.1 (lw_V q1118 q1120 qs35 q89 q1121) rfl rfl rfl hdV_X12_write ⟨Nat.le_of_ble_eq_true rfl, Nat.le_of_ble_eq_true rfl⟩) rfl hl.1 rfl (Nat.le_of_ble_eq_true rfl) dX12_writeIndex_112 ⟨Nat.le_of_ble_eq_true rfl, Nat.le_of_ble_eq_true rfl⟩) (fun r19 u18 H locs hwp hw => ?_)
              refine lv_if_eq (pc := 115) (tgt := 227) cx.1 cx.2.1 dX12_writeIndex_115 (by decide) (fun c20 => ?_) (fun c20 => ?_)
              · replace hwp := hwp.1 c20
                refine lv_iconst (pc := 227) (v := 0) cx.1 cx.2.1 dX12_writeIndex_227 (by decide) ?_
                refine lv_istore_n (pc := 228) (lv' := [(2, .int (0 : Int32)), (6, .long r4), (5, .int ((x1 + (1 : Int32)) + ((10 : Int32) * x3))), (4, .int ((u.2.1 25) x3.toNatClampNeg)), (0, .ref (h 0)), (1, .int x1), (3, .int x3)]) cx.1 cx.2.1 dX12_writeIndex_228 rfl hl (by decide) rfl (fun ls hl => ?_)
                refine lv_iinc (pc := 229) (v := (x3 + (1 : Int32))) (lv' := [(3, .int (x3 + (1 : Int32))), (2, .int (0 : Int32)), (6, .long r4), (5, .int ((x1 + (1 : Int32)) + ((10 : Int32) * x3))), (4, .int ((u.2.1 25) x3.toNatClampNeg)), (0, .ref (h 0)), (1, .int x1)]) cx.1 cx.2.1 dX12_writeIndex_229 hl (k := 6) rfl rfl (by decide) rfl (fun ls hl => ?_)
                refine lv_goto (pc := 232) (tgt := 12) cx.1 cx.2.1 dX12_writeIndex_232 (by decide) ?_
                exact ih _ _ _ _ _ _ _ hwp hw (lv_sub hl [5, 6, 1, 0] rfl)
              · replace hwp := hwp.2 c20
                refine lv_aload_n (pc := 118) cx.1 cx.2.1 dX12_writeIndex_118 rfl (lv_at hl 3 rfl) ?_
                refine lv_iload (pc := 119) cx.1 cx.2.1 dX12_writeIndex_119 (lv_at hl 1 rfl) ?_
                refine lv_iconst (pc := 121) (v := 4) cx.1 cx.2.1 dX12_writeIndex_121 (by decide) ?_
                refine lv_iadd (pc := 122) cx.1 cx.2.1 dX12_writeIndex_122 ?_
                refine lv_aload_n (pc := 123) cx.1 cx.2.1 dX12_writeIndex_123 rfl (lv_at hl 3 rfl) ?_
                refine lv_iload (pc := 124) cx.1 cx.2.1 dX12_writeIndex_124 (lv_at hl 2 rfl) ?_
                refine k_whole_i (pc := 126) (wf := (wM d h)) (u := u18) cx hw (k_runV (pc := 126) (rest := [.int (((x1 + (1 : Int32)) + ((10 : Int32) * x3)) + (4 : Int32)), .ref (h 0)]) (As := [.int ((u.2.1 25) x3.toNatClampNeg)]) cx hw.1 (hw.2.1.weaken (fun _ _ _ _ => trivial)) hw.2.2 (k_recv cx hw 0 (ci := 10) (q := (RX12, TX12, 40)) rfl rfl) (m_X12_leastOf l dC dI d h  u18 ((u.2.1 25) x3.toNatClampNeg) hwp H.size) (cwV 1 cx.2.2.2.2.1 (lw_V q1219 q1221 qs56 q89 q1222) rfl rfl rfl hdV_X12_leastOf ⟨Nat.le_of_ble_eq_true rfl, Nat.le_of_ble_eq_true rfl⟩) rfl hl.1 rfl (Nat.le_of_ble_eq_true rfl) dX12_writeIndex_126 ⟨Nat.le_of_ble_eq_true rfl, Nat.le_of_ble_eq_true rfl⟩) (fun r22 u21 H locs hwp hw => ?_)
                refine k_whole_i (pc := 129) (wf := (wM d h)) (u := u21) cx hw (k_runV (pc := 129) (rest := []) (As := [.int (((x1 + (1 : Int32)) + ((10 : Int32) * x3)) + (4 : Int32)), .int r22]) cx hw.1 (hw.2.1.weaken (fun _ _ _ _ => trivial)) hw.2.2 (k_recv cx hw 0 (ci := 10) (q := (RX12, TX12, 40)) rfl rfl) (m_X12_write l dC dI d h  u21 (((x1 + (1 : Int32)) + ((10 : Int32) * x3)) + (4 : Int32)) r22 hwp H.size) (cwV 2 cx.2.2.2.2.1 (lw_V q1118 q1120 qs35 q89 q1121) rfl rfl rfl hdV_X12_write ⟨Nat.le_of_ble_eq_true rfl, Nat.le_of_ble_eq_true rfl⟩) rfl hl.1 rfl (Nat.le_of_ble_eq_true rfl) dX12_writeIndex_129 ⟨Nat.le_of_ble_eq_true rfl, Nat.le_of_ble_eq_true rfl⟩) (fun r24 u23 H locs hwp hw => ?_)
                refine lv_if_eq (pc := 132) (tgt := 227) cx.1 cx.2.1 dX12_writeIndex_132 (by decide) (fun c25 => ?_) (fun c25 => ?_)
                · replace hwp := hwp.1 c25
                  refine lv_iconst (pc := 227) (v := 0) cx.1 cx.2.1 dX12_writeIndex_227 (by decide) ?_
                  refine lv_istore_n (pc := 228) (lv' := [(2, .int (0 : Int32)), (6, .long r4), (5, .int ((x1 + (1 : Int32)) + ((10 : Int32) * x3))), (4, .int ((u.2.1 25) x3.toNatClampNeg)), (0, .ref (h 0)), (1, .int x1), (3, .int x3)]) cx.1 cx.2.1 dX12_writeIndex_228 rfl hl (by decide) rfl (fun ls hl => ?_)
                  refine lv_iinc (pc := 229) (v := (x3 + (1 : Int32))) (lv' := [(3, .int (x3 + (1 : Int32))), (2, .int (0 : Int32)), (6, .long r4), (5, .int ((x1 + (1 : Int32)) + ((10 : Int32) * x3))), (4, .int ((u.2.1 25) x3.toNatClampNeg)), (0, .ref (h 0)), (1, .int x1)]) cx.1 cx.2.1 dX12_writeIndex_229 hl (k := 6) rfl rfl (by decide) rfl (fun ls hl => ?_)
                  refine lv_goto (pc := 232) (tgt := 12) cx.1 cx.2.1 dX12_writeIndex_232 (by decide) ?_
                  exact ih _ _ _ _ _ _ _ hwp hw (lv_sub hl [5, 6, 1, 0] rfl)
                · replace hwp := hwp.2 c25
                  refine lv_aload_n (pc := 135) cx.1 cx.2.1 dX12_writeIndex_135 rfl (lv_at hl 3 rfl) ?_
                  refine lv_iload (pc := 136) cx.1 cx.2.1 dX12_writeIndex_136 (lv_at hl 1 rfl) ?_
                  refine lv_iconst (pc := 138) (v := 5) cx.1 cx.2.1 dX12_writeIndex_138 (by decide) ?_
                  refine lv_iadd (pc := 139) cx.1 cx.2.1 dX12_writeIndex_139 ?_
                  refine lv_aload_n (pc := 140) cx.1 cx.2.1 dX12_writeIndex_140 rfl (lv_at hl 3 rfl) ?_
                  refine lv_iload (pc := 141) cx.1 cx.2.1 dX12_writeIndex_141 (lv_at hl 2 rfl) ?_
                  refine k_whole_i (pc := 143) (wf := (wM d h)) (u := u23) cx hw (k_runV (pc := 143) (rest := [.int (((x1 + (1 : Int32)) + ((10 : Int32) * x3)) + (5 : Int32)), .ref (h 0)]) (As := [.int ((u.2.1 25) x3.toNatClampNeg)]) cx hw.1 (hw.2.1.weaken (fun _ _ _ _ => trivial)) hw.2.2 (k_recv cx hw 0 (ci := 10) (q := (RX12, TX12, 40)) rfl rfl) (m_X12_greatestOf l dC dI d h  u23 ((u.2.1 25) x3.toNatClampNeg) hwp H.size) (cwV 1 cx.2.2.2.2.1 (lw_V q1223 q1225 qs57 q89 q1226) rfl rfl rfl hdV_X12_greatestOf ⟨Nat.le_of_ble_eq_true rfl, Nat.le_of_ble_eq_true rfl⟩) rfl hl.1 rfl (Nat.le_of_ble_eq_true rfl) dX12_writeIndex_143 ⟨Nat.le_of_ble_eq_true rfl, Nat.le_of_ble_eq_true rfl⟩) (fun r27 u26 H locs hwp hw => ?_)
                  refine k_whole_i (pc := 146) (wf := (wM d h)) (u := u26) cx hw (k_runV (pc := 146) (rest := []) (As := [.int (((x1 + (1 : Int32)) + ((10 : Int32) * x3)) + (5 : Int32)), .int r27]) cx hw.1 (hw.2.1.weaken (fun _ _ _ _ => trivial)) hw.2.2 (k_recv cx hw 0 (ci := 10) (q := (RX12, TX12, 40)) rfl rfl) (m_X12_write l dC dI d h  u26 (((x1 + (1 : Int32)) + ((10 : Int32) * x3)) + (5 : Int32)) r27 hwp H.size) (cwV 2 cx.2.2.2.2.1 (lw_V q1118 q1120 qs35 q89 q1121) rfl rfl rfl hdV_X12_write ⟨Nat.le_of_ble_eq_true rfl, Nat.le_of_ble_eq_true rfl⟩) rfl hl.1 rfl (Nat.le_of_ble_eq_true rfl) dX12_writeIndex_146 ⟨Nat.le_of_ble_eq_true rfl, Nat.le_of_ble_eq_true rfl⟩) (fun r29 u28 H locs hwp hw => ?_)
                  refine lv_if_eq (pc := 149) (tgt := 227) cx.1 cx.2.1 dX12_writeIndex_149 (by decide) (fun c30 => ?_) (fun c30 => ?_)
                  · replace hwp := hwp.1 c30
                    refine lv_iconst (pc := 227) (v := 0) cx.1 cx.2.1 dX12_writeIndex_227 (by decide) ?_
                    refine lv_istore_n (pc := 228) (lv' := [(2, .int (0 : Int32)), (6, .long r4), (5, .int ((x1 + (1 : Int32)) + ((10 : Int32) * x3))), (4, .int ((u.2.1 25) x3.toNatClampNeg)), (0, .ref (h 0)), (1, .int x1), (3, .int x3)]) cx.1 cx.2.1 dX12_writeIndex_228 rfl hl (by decide) rfl (fun ls hl => ?_)
                    refine lv_iinc (pc := 229) (v := (x3 + (1 : Int32))) (lv' := [(3, .int (x3 + (1 : Int32))), (2, .int (0 : Int32)), (6, .long r4), (5, .int ((x1 + (1 : Int32)) + ((10 : Int32) * x3))), (4, .int ((u.2.1 25) x3.toNatClampNeg)), (0, .ref (h 0)), (1, .int x1)]) cx.1 cx.2.1 dX12_writeIndex_229 hl (k := 6) rfl rfl (by decide) rfl (fun ls hl => ?_)
                    refine lv_goto (pc := 232) (tgt := 12) cx.1 cx.2.1 dX12_writeIndex_232 (by decide) ?_
                    exact ih _ _ _ _ _ _ _ hwp hw (lv_sub hl [5, 6, 1, 0] rfl)
                  · replace hwp := hwp.2 c30
                    refine lv_aload_n (pc := 152) cx.1 cx.2.1 dX12_writeIndex_152 rfl (lv_at hl 3 rfl) ?_
                    refine lv_iload (pc := 153) cx.1 cx.2.1 dX12_writeIndex_153 (lv_at hl 1 rfl) ?_
                    refine lv_bipush (pc := 155) (v := 6) cx.1 cx.2.1 dX12_writeIndex_155 (by decide) ?_
                    refine lv_iadd (pc := 157) cx.1 cx.2.1 dX12_writeIndex_157 ?_
                    refine lv_lload (pc := 158) cx.1 cx.2.1 dX12_writeIndex_158 (lv_at hl 0 rfl) ?_
                    refine lv_bipush (pc := 160) (v := 32) cx.1 cx.2.1 dX12_writeIndex_160 (by decide) ?_
                    refine lv_lshr (pc := 162) cx.1 cx.2.1 dX12_writeIndex_162 rfl ?_
                    refine lv_l2i (pc := 163) cx.1 cx.2.1 dX12_writeIndex_163 rfl ?_
                    refine k_whole_i (pc := 164) (wf := (wM d h)) (u := u28) cx hw (k_runV (pc := 164) (rest := []) (As := [.int (((x1 + (1 : Int32)) + ((10 : Int32) * x3)) + (6 : Int32)), .int (r4 >>> ((32 : Int32).toInt64 &&& 63)).toInt32]) cx hw.1 (hw.2.1.weaken (fun _ _ _ _ => trivial)) hw.2.2 (k_recv cx hw 0 (ci := 10) (q := (RX12, TX12, 40)) rfl rfl) (m_X12_write l dC dI d h  u28 (((x1 + (1 : Int32)) + ((10 : Int32) * x3)) + (6 : Int32)) ((r4 >>> ((32 : Int32).toInt64 &&& 63)).toInt32) hwp H.size) (cwV 2 cx.2.2.2.2.1 (lw_V q1118 q1120 qs35 q89 q1121) rfl rfl rfl hdV_X12_write ⟨Nat.le_of_ble_eq_true rfl, Nat.le_of_ble_eq_true rfl⟩) rfl hl.1 rfl (Nat.le_of_ble_eq_true rfl) dX12_writeIndex_164 ⟨Nat.le_of_ble_eq_true rfl, Nat.le_of_ble_eq_true rfl⟩) (fun r32 u31 H locs hwp hw => ?_)
                    refine lv_if_eq (pc := 167) (tgt := 227) cx.1 cx.2.1 dX12_writeIndex_167 (by decide) (fun c33 => ?_) (fun c33 => ?_)
                    · replace hwp := hwp.1 c33
                      refine lv_iconst (pc := 227) (v := 0) cx.1 cx.2.1 dX12_writeIndex_227 (by decide) ?_
                      refine lv_istore_n (pc := 228) (lv' := [(2, .int (0 : Int32)), (6, .long r4), (5, .int ((x1 + (1 : Int32)) + ((10 : Int32) * x3))), (4, .int ((u.2.1 25) x3.toNatClampNeg)), (0, .ref (h 0)), (1, .int x1), (3, .int x3)]) cx.1 cx.2.1 dX12_writeIndex_228 rfl hl (by decide) rfl (fun ls hl => ?_)
                      refine lv_iinc (pc := 229) (v := (x3 + (1 : Int32))) (lv' := [(3, .int (x3 + (1 : Int32))), (2, .int (0 : Int32)), (6, .long r4), (5, .int ((x1 + (1 : Int32)) + ((10 : Int32) * x3))), (4, .int ((u.2.1 25) x3.toNatClampNeg)), (0, .ref (h 0)), (1, .int x1)]) cx.1 cx.2.1 dX12_writeIndex_229 hl (k := 6) rfl rfl (by decide) rfl (fun ls hl => ?_)
                      refine lv_goto (pc := 232) (tgt := 12) cx.1 cx.2.1 dX12_writeIndex_232 (by decide) ?_
                      exact ih _ _ _ _ _ _ _ hwp hw (lv_sub hl [5, 6, 1, 0] rfl)
                    · replace hwp := hwp.2 c33
                      refine lv_aload_n (pc := 170) cx.1 cx.2.1 dX12_writeIndex_170 rfl (lv_at hl 3 rfl) ?_
                      refine lv_iload (pc := 171) cx.1 cx.2.1 dX12_writeIndex_171 (lv_at hl 1 rfl) ?_
                      refine lv_bipush (pc := 173) (v := 7) cx.1 cx.2.1 dX12_writeIndex_173 (by decide) ?_
                      refine lv_iadd (pc := 175) cx.1 cx.2.1 dX12_writeIndex_175 ?_
                      refine lv_lload (pc := 176) cx.1 cx.2.1 dX12_writeIndex_176 (lv_at hl 0 rfl) ?_
                      refine lv_l2i (pc := 178) cx.1 cx.2.1 dX12_writeIndex_178 rfl ?_
                      refine k_whole_i (pc := 179) (wf := (wM d h)) (u := u31) cx hw (k_runV (pc := 179) (rest := []) (As := [.int (((x1 + (1 : Int32)) + ((10 : Int32) * x3)) + (7 : Int32)), .int r4.toInt32]) cx hw.1 (hw.2.1.weaken (fun _ _ _ _ => trivial)) hw.2.2 (k_recv cx hw 0 (ci := 10) (q := (RX12, TX12, 40)) rfl rfl) (m_X12_write l dC dI d h  u31 (((x1 + (1 : Int32)) + ((10 : Int32) * x3)) + (7 : Int32)) r4.toInt32 hwp H.size) (cwV 2 cx.2.2.2.2.1 (lw_V q1118 q1120 qs35 q89 q1121) rfl rfl rfl hdV_X12_write ⟨Nat.le_of_ble_eq_true rfl, Nat.le_of_ble_eq_true rfl⟩) rfl hl.1 rfl (Nat.le_of_ble_eq_true rfl) dX12_writeIndex_179 ⟨Nat.le_of_ble_eq_true rfl, Nat.le_of_ble_eq_true rfl⟩) (fun r35 u34 H locs hwp hw => ?_)
                      refine lv_if_eq (pc := 182) (tgt := 227) cx.1 cx.2.1 dX12_writeIndex_182 (by decide) (fun c36 => ?_) (fun c36 => ?_)
                      · replace hwp := hwp.1 c36
                        refine lv_iconst (pc := 227) (v := 0) cx.1 cx.2.1 dX12_writeIndex_227 (by decide) ?_
                        refine lv_istore_n (pc := 228) (lv' := [(2, .int (0 : Int32)), (6, .long r4), (5, .int ((x1 + (1 : Int32)) + ((10 : Int32) * x3))), (4, .int ((u.2.1 25) x3.toNatClampNeg)), (0, .ref (h 0)), (1, .int x1), (3, .int x3)]) cx.1 cx.2.1 dX12_writeIndex_228 rfl hl (by decide) rfl (fun ls hl => ?_)
                        refine lv_iinc (pc := 229) (v := (x3 + (1 : Int32))) (lv' := [(3, .int (x3 + (1 : Int32))), (2, .int (0 : Int32)), (6, .long r4), (5, .int ((x1 + (1 : Int32)) + ((10 : Int32) * x3))), (4, .int ((u.2.1 25) x3.toNatClampNeg)), (0, .ref (h 0)), (1, .int x1)]) cx.1 cx.2.1 dX12_writeIndex_229 hl (k := 6) rfl rfl (by decide) rfl (fun ls hl => ?_)
                        refine lv_goto (pc := 232) (tgt := 12) cx.1 cx.2.1 dX12_writeIndex_232 (by decide) ?_
                        exact ih _ _ _ _ _ _ _ hwp hw (lv_sub hl [5, 6, 1, 0] rfl)
                      · replace hwp := hwp.2 c36
                        refine lv_aload_n (pc := 185) cx.1 cx.2.1 dX12_writeIndex_185 rfl (lv_at hl 3 rfl) ?_
                        refine lv_iload (pc := 186) cx.1 cx.2.1 dX12_writeIndex_186 (lv_at hl 1 rfl) ?_
                        refine lv_bipush (pc := 188) (v := 8) cx.1 cx.2.1 dX12_writeIndex_188 (by decide) ?_
                        refine lv_iadd (pc := 190) cx.1 cx.2.1 dX12_writeIndex_190 ?_
                        refine lv_aload_n (pc := 191) cx.1 cx.2.1 dX12_writeIndex_191 rfl (lv_at hl 3 rfl) ?_
                        refine k_getR (pc := 192) (u := u34) (v := .ref (h 4)) cx hw (lr_X12_this_13 d h) (C := RX12) (T := TX12) (N := 40) rfl in_X12 (by decide) q990 (fun _ h9 => h9) rfl dX12_writeIndex_192 ?_
                        refine lv_iload (pc := 195) cx.1 cx.2.1 dX12_writeIndex_195 (lv_at hl 2 rfl) ?_
                        refine k_iald (pc := 197) (u := u34) (f := (u34.2.1 13)) cx hw (lx_X12_this_13 d h) 0 rfl rfl hwp.1 dX12_writeIndex_197 ?_
                        replace hwp := hwp.2
                        refine k_whole_i (pc := 198) (wf := (wM d h)) (u := u34) cx hw (k_runV (pc := 198) (rest := []) (As := [.int (((x1 + (1 : Int32)) + ((10 : Int32) * x3)) + (8 : Int32)), .int ((u34.2.1 13) ((u.2.1 25) x3.toNatClampNeg).toNatClampNeg)]) cx hw.1 (hw.2.1.weaken (fun _ _ _ _ => trivial)) hw.2.2 (k_recv cx hw 0 (ci := 10) (q := (RX12, TX12, 40)) rfl rfl) (m_X12_write l dC dI d h  u34 (((x1 + (1 : Int32)) + ((10 : Int32) * x3)) + (8 : Int32)) ((u34.2.1 13) ((u.2.1 25) x3.toNatClampNeg).toNatClampNeg) hwp H.size) (cwV 2 cx.2.2.2.2.1 (lw_V q1118 q1120 qs35 q89 q1121) rfl rfl rfl hdV_X12_write ⟨Nat.le_of_ble_eq_true rfl, Nat.le_of_ble_eq_true rfl⟩) rfl hl.1 rfl (Nat.le_of_ble_eq_true rfl) dX12_writeIndex_198 ⟨Nat.le_of_ble_eq_true rfl, Nat.le_of_ble_eq_true rfl⟩) (fun r38 u37 H locs hwp hw => ?_)
                        refine lv_if_eq (pc := 201) (tgt := 227) cx.1 cx.2.1 dX12_writeIndex_201 (by decide) (fun c39 => ?_) (fun c39 => ?_)
                        · replace hwp := hwp.1 c39
                          refine lv_iconst (pc := 227) (v := 0) cx.1 cx.2.1 dX12_writeIndex_227 (by decide) ?_
                          refine lv_istore_n (pc := 228) (lv' := [(2, .int (0 : Int32)), (6, .long r4), (5, .int ((x1 + (1 : Int32)) + ((10 : Int32) * x3))), (4, .int ((u.2.1 25) x3.toNatClampNeg)), (0, .ref (h 0)), (1, .int x1), (3, .int x3)]) cx.1 cx.2.1 dX12_writeIndex_228 rfl hl (by decide) rfl (fun ls hl => ?_)
                          refine lv_iinc (pc := 229) (v := (x3 + (1 : Int32))) (lv' := [(3, .int (x3 + (1 : Int32))), (2, .int (0 : Int32)), (6, .long r4), (5, .int ((x1 + (1 : Int32)) + ((10 : Int32) * x3))), (4, .int ((u.2.1 25) x3.toNatClampNeg)), (0, .ref (h 0)), (1, .int x1)]) cx.1 cx.2.1 dX12_writeIndex_229 hl (k := 6) rfl rfl (by decide) rfl (fun ls hl => ?_)
                          refine lv_goto (pc := 232) (tgt := 12) cx.1 cx.2.1 dX12_writeIndex_232 (by decide) ?_
                          exact ih _ _ _ _ _ _ _ hwp hw (lv_sub hl [5, 6, 1, 0] rfl)
                        · replace hwp := hwp.2 c39
                          refine lv_aload_n (pc := 204) cx.1 cx.2.1 dX12_writeIndex_204 rfl (lv_at hl 3 rfl) ?_
                          refine lv_iload (pc := 205) cx.1 cx.2.1 dX12_writeIndex_205 (lv_at hl 1 rfl) ?_
                          refine lv_bipush (pc := 207) (v := 9) cx.1 cx.2.1 dX12_writeIndex_207 (by decide) ?_
                          refine lv_iadd (pc := 209) cx.1 cx.2.1 dX12_writeIndex_209 ?_
                          refine lv_aload_n (pc := 210) cx.1 cx.2.1 dX12_writeIndex_210 rfl (lv_at hl 3 rfl) ?_
                          refine k_getR (pc := 211) (u := u37) (v := .ref (h 5)) cx hw (lr_X12_this_14 d h) (C := RX12) (T := TX12) (N := 40) rfl in_X12 (by decide) q991 (fun _ h9 => h9) rfl dX12_writeIndex_211 ?_
                          refine lv_iload (pc := 214) cx.1 cx.2.1 dX12_writeIndex_214 (lv_at hl 2 rfl) ?_
                          refine k_iald (pc := 216) (u := u37) (f := (u37.2.1 14)) cx hw (lx_X12_this_14 d h) 0 rfl rfl hwp.1 dX12_writeIndex_216 ?_
                          replace hwp := hwp.2
                          refine k_whole_i (pc := 217) (wf := (wM d h)) (u := u37) cx hw (k_runV (pc := 217) (rest := []) (As := [.int (((x1 + (1 : Int32)) + ((10 : Int32) * x3)) + (9 : Int32)), .int ((u37.2.1 14) ((u.2.1 25) x3.toNatClampNeg).toNatClampNeg)]) cx hw.1 (hw.2.1.weaken (fun _ _ _ _ => trivial)) hw.2.2 (k_recv cx hw 0 (ci := 10) (q := (RX12, TX12, 40)) rfl rfl) (m_X12_write l dC dI d h  u37 (((x1 + (1 : Int32)) + ((10 : Int32) * x3)) + (9 : Int32)) ((u37.2.1 14) ((u.2.1 25) x3.toNatClampNeg).toNatClampNeg) hwp H.size) (cwV 2 cx.2.2.2.2.1 (lw_V q1118 q1120 qs35 q89 q1121) rfl rfl rfl hdV_X12_write ⟨Nat.le_of_ble_eq_true rfl, Nat.le_of_ble_eq_true rfl⟩) rfl hl.1 rfl (Nat.le_of_ble_eq_true rfl) dX12_writeIndex_217 ⟨Nat.le_of_ble_eq_true rfl, Nat.le_of_ble_eq_true rfl⟩) (fun r41 u40 H locs hwp hw => ?_)
                          refine lv_if_eq (pc := 220) (tgt := 227) cx.1 cx.2.1 dX12_writeIndex_220 (by decide) (fun c42 => ?_) (fun c42 => ?_)
                          · replace hwp := hwp.1 c42
                            refine lv_iconst (pc := 227) (v := 0) cx.1 cx.2.1 dX12_writeIndex_227 (by decide) ?_
                            refine lv_istore_n (pc := 228) (lv' := [(2, .int (0 : Int32)), (6, .long r4), (5, .int ((x1 + (1 : Int32)) + ((10 : Int32) * x3))), (4, .int ((u.2.1 25) x3.toNatClampNeg)), (0, .ref (h 0)), (1, .int x1), (3, .int x3)]) cx.1 cx.2.1 dX12_writeIndex_228 rfl hl (by decide) rfl (fun ls hl => ?_)
                            refine lv_iinc (pc := 229) (v := (x3 + (1 : Int32))) (lv' := [(3, .int (x3 + (1 : Int32))), (2, .int (0 : Int32)), (6, .long r4), (5, .int ((x1 + (1 : Int32)) + ((10 : Int32) * x3))), (4, .int ((u.2.1 25) x3.toNatClampNeg)), (0, .ref (h 0)), (1, .int x1)]) cx.1 cx.2.1 dX12_writeIndex_229 hl (k := 6) rfl rfl (by decide) rfl (fun ls hl => ?_)
                            refine lv_goto (pc := 232) (tgt := 12) cx.1 cx.2.1 dX12_writeIndex_232 (by decide) ?_
                            exact ih _ _ _ _ _ _ _ hwp hw (lv_sub hl [5, 6, 1, 0] rfl)
                          · replace hwp := hwp.2 c42
                            refine lv_iconst (pc := 223) (v := 1) cx.1 cx.2.1 dX12_writeIndex_223 (by decide) ?_
                            refine lv_goto (pc := 224) (tgt := 228) cx.1 cx.2.1 dX12_writeIndex_224 (by decide) ?_
                            refine lv_istore_n (pc := 228) (lv' := [(2, .int (1 : Int32)), (6, .long r4), (5, .int ((x1 + (1 : Int32)) + ((10 : Int32) * x3))), (4, .int ((u.2.1 25) x3.toNatClampNeg)), (0, .ref (h 0)), (1, .int x1), (3, .int x3)]) cx.1 cx.2.1 dX12_writeIndex_228 rfl hl (by decide) rfl (fun ls hl => ?_)
                            refine lv_iinc (pc := 229) (v := (x3 + (1 : Int32))) (lv' := [(3, .int (x3 + (1 : Int32))), (2, .int (1 : Int32)), (6, .long r4), (5, .int ((x1 + (1 : Int32)) + ((10 : Int32) * x3))), (4, .int ((u.2.1 25) x3.toNatClampNeg)), (0, .ref (h 0)), (1, .int x1)]) cx.1 cx.2.1 dX12_writeIndex_229 hl (k := 6) rfl rfl (by decide) rfl (fun ls hl => ?_)
                            refine lv_goto (pc := 232) (tgt := 12) cx.1 cx.2.1 dX12_writeIndex_232 (by decide) ?_
                            exact ih _ _ _ _ _ _ _ hwp hw (lv_sub hl [5, 6, 1, 0] rfl)
set_option maxHeartbeats 4000000 in
theorem m_X12_writeIndex (l : Launch) (dC : Nat → ClassId) (dI : Nat → Nat → Nat) (d : Nat → ClassId) (h : Nat → Nat) (u : St) (x1 : Int32) {K : Int32 → St → Prop} (hwp : wp_X12_writeIndex u x1 K) : kM l yX12_writeIndex cX12_writeIndex 8 (some .boolean) ({ frames := 1, cells := 0, slots := 0, locals := 24 } : Room) dC dI d [.ref (h 0), .int x1] (wM d h) u (kQi dC dI (wM d h) K) 0 0 := by
  refine kM_start rfl (Nat.le_of_ble_eq_true rfl) ?_
  intro p e s m below meth c A ls cx hnm hw hl
  generalize hargs : ([.ref (h 0), .int x1] : List Value).toArray = args at cx ⊢
  unfold wp_X12_writeIndex at hwp
  replace hl : lv_has ls 8 [(0, .ref (h 0)), (1, .int x1)] := hl
  generalize hH : s.heap = H at hw ⊢
  generalize hlo : ([] : List Loc) = locs at hw ⊢
  refine lv_aload_n (pc := 0) cx.1 cx.2.1 dX12_writeIndex_0 rfl (lv_at hl 0 rfl) ?_
  refine lv_iload_n (pc := 1) cx.1 cx.2.1 dX12_writeIndex_1 rfl (lv_at hl 1 rfl) ?_
  refine lv_aload_n (pc := 2) cx.1 cx.2.1 dX12_writeIndex_2 rfl (lv_at hl 0 rfl) ?_
  refine k_getI (pc := 3) (u := u) (v := (u.1 27)) cx hw (ln_X12_this_27 d h) (C := RX12) (T := TX12) (N := 40) rfl in_X12 (by decide) q1004 (fun _ h9 => h9) rfl dX12_writeIndex_3 ?_
  refine k_whole_i (pc := 6) (wf := (wM d h)) (u := u) cx hw (k_runV (pc := 6) (rest := []) (As := [.int x1, .int (u.1 27)]) cx hw.1 (hw.2.1.weaken (fun _ _ _ _ => trivial)) hw.2.2 (k_recv cx hw 0 (ci := 10) (q := (RX12, TX12, 40)) rfl rfl) (m_X12_write l dC dI d h  u x1 (u.1 27) hwp H.size) (cwV 2 cx.2.2.2.2.1 (lw_V q1118 q1120 qs35 q89 q1121) rfl rfl rfl hdV_X12_write ⟨Nat.le_of_ble_eq_true rfl, Nat.le_of_ble_eq_true rfl⟩) rfl hl.1 rfl (Nat.le_of_ble_eq_true rfl) dX12_writeIndex_6 ⟨Nat.le_of_ble_eq_true rfl, Nat.le_of_ble_eq_true rfl⟩) (fun r2 u1 H locs hwp hw => ?_)
  refine lv_istore_n (pc := 9) (lv' := [(2, .int r2), (0, .ref (h 0)), (1, .int x1)]) cx.1 cx.2.1 dX12_writeIndex_9 rfl hl (by decide) rfl (fun ls hl => ?_)
  refine lv_iconst (pc := 10) (v := 0) cx.1 cx.2.1 dX12_writeIndex_10 (by decide) ?_
  refine lv_istore_n (pc := 11) (lv' := [(3, .int (0 : Int32)), (2, .int r2), (0, .ref (h 0)), (1, .int x1)]) cx.1 cx.2.1 dX12_writeIndex_11 rfl hl (by decide) rfl (fun ls hl => ?_)
  obtain ⟨n12, hwp⟩ := hwp
  exact wk_X12_writeIndex_12 cx n12 _ _ _ _ _ _ _ hwp hw (lv_sub hl [2, 3, 1, 0] rfl)
set_option maxHeartbeats 4000000 in
theorem wk_X12_turn_200 {p : Program} {l : Launch} {e : Env} {s : State} {m : MethodId} {args : Array Value} {below : List Frame} {meth : Method} {c : Code} {A : Nat → Prop} {dC : Nat → ClassId} {dI : Nat → Nat → Nat} {d : Nat → ClassId} {h : Nat → Nat} {K : Int32 → St → Prop} (cx : Cx p s m args meth c cX12_turn RX12 5 (some .int) A dC dI d) : ∀ (x1 : Int32) (u : St) (H : Heap) (locs : List Loc) (ls : Array Slot), wp_X12_turn_200 K x1 u → Wd dC dI A ((wM d h) u) s H locs → lv_has ls 5 [(0, .ref (h 0)), (1, .int x1)] → W p l e ({ frames := 4, cells := 0, slots := 0, locals := 98 } : Room) s m args below meth c H locs 0 0 (MQ below (kQi dC dI (wM d h) K A) args s 0 0 A) (F0 m 200 ls []) := by
  intro x1 u H locs ls hwp hw hl
  unfold wp_X12_turn_200 at hwp
  refine lv_aload_n (pc := 200) cx.1 cx.2.1 dX12_turn_200 rfl (lv_at hl 0 rfl) ?_
  refine lv_aload_n (pc := 201) cx.1 cx.2.1 dX12_turn_201 rfl (lv_at hl 0 rfl) ?_
  refine k_getI (pc := 202) (u := u) (v := (u.1 27)) cx hw (ln_X12_this_27 d h) (C := RX12) (T := TX12) (N := 40) rfl in_X12 (by decide) q1004 (fun _ h9 => h9) rfl dX12_turn_202 ?_
  refine k_putI (pc := 205) (u := u) (v := (u.1 27)) cx hw (ln_X12_this_18 d h) (C := RX12) (T := TX12) (N := 40) rfl in_X12 tyX12 tyX12_ok nmX12 (by decide) q995 (fun _ h9 => h9) rfl rfl rfl dX12_turn_205 (fun H locs hw => ?_)
  refine lv_aload_n (pc := 208) cx.1 cx.2.1 dX12_turn_208 rfl (lv_at hl 0 rfl) ?_
  refine lv_iload_n (pc := 209) cx.1 cx.2.1 dX12_turn_209 rfl (lv_at hl 1 rfl) ?_
  refine k_putI (pc := 210) (u := (st_I u 18 (u.1 27))) (v := x1) cx hw (ln_X12_this_19 d h) (C := RX12) (T := TX12) (N := 40) rfl in_X12 tyX12 tyX12_ok nmX12 (by decide) q996 (fun _ h9 => h9) rfl rfl rfl dX12_turn_210 (fun H locs hw => ?_)
  refine lv_aload_n (pc := 213) cx.1 cx.2.1 dX12_turn_213 rfl (lv_at hl 0 rfl) ?_
  refine lv_iconst (pc := 214) (v := 1) cx.1 cx.2.1 dX12_turn_214 (by decide) ?_
  refine lv_aload_n (pc := 215) cx.1 cx.2.1 dX12_turn_215 rfl (lv_at hl 0 rfl) ?_
  refine k_getI (pc := 216) (u := (st_I (st_I u 18 (u.1 27)) 19 x1)) (v := (u.1 20)) cx hw (ln_X12_this_20 d h) (C := RX12) (T := TX12) (N := 40) rfl in_X12 (by decide) q997 (fun _ h9 => h9) rfl dX12_turn_216 ?_
  refine lv_isub (pc := 219) cx.1 cx.2.1 dX12_turn_219 ?_
  refine k_putI (pc := 220) (u := (st_I (st_I u 18 (u.1 27)) 19 x1)) (v := ((1 : Int32) - (u.1 20))) cx hw (ln_X12_this_20 d h) (C := RX12) (T := TX12) (N := 40) rfl in_X12 tyX12 tyX12_ok nmX12 (by decide) q997 (fun _ h9 => h9) rfl rfl rfl dX12_turn_220 (fun H locs hw => ?_)
  refine lv_iconst (pc := 223) (v := 0) cx.1 cx.2.1 dX12_turn_223 (by decide) ?_
  exact k_iret (pc := 224) (wf := (wM d h)) (u := (st_I (st_I (st_I u 18 (u.1 27)) 19 x1) 20 ((1 : Int32) - (u.1 20)))) cx hw hwp (by decide) (by decide) dX12_turn_224
set_option maxHeartbeats 4000000 in
theorem wk_X12_turn_174 {p : Program} {l : Launch} {e : Env} {s : State} {m : MethodId} {args : Array Value} {below : List Frame} {meth : Method} {c : Code} {A : Nat → Prop} {dC : Nat → ClassId} {dI : Nat → Nat → Nat} {d : Nat → ClassId} {h : Nat → Nat} {K : Int32 → St → Prop} (cx : Cx p s m args meth c cX12_turn RX12 5 (some .int) A dC dI d) : ∀ (n : Nat) (x1 : Int32) (x2 : Int32) (u : St) (H : Heap) (locs : List Loc) (ls : Array Slot), wp_X12_turn_174 K n x1 x2 u → Wd dC dI A ((wM d h) u) s H locs → lv_has ls 5 [(0, .ref (h 0)), (1, .int x1), (2, .int x2)] → W p l e ({ frames := 4, cells := 0, slots := 0, locals := 98 } : Room) s m args below meth c H locs 0 0 (MQ below (kQi dC dI (wM d h) K A) args s 0 0 A) (F0 m 174 ls []) := by
  intro n
  induction n with
  | zero =>
    intros; contradiction
  | succ n ih =>
    intro x1 x2 u H locs ls hwp hw hl
    unfold wp_X12_turn_174 at hwp
    refine lv_iload_n (pc := 174) cx.1 cx.2.1 dX12_turn_174 rfl (lv_at hl 2 rfl) ?_
    refine lv_aload_n (pc := 175) cx.1 cx.2.1 dX12_turn_175 rfl (lv_at hl 0 rfl) ?_
    refine k_getI (pc := 176) (u := u) (v := (u.1 27)) cx hw (ln_X12_this_27 d h) (C := RX12) (T := TX12) (N := 40) rfl in_X12 (by decide) q1004 (fun _ h9 => h9) rfl dX12_turn_176 ?_
    refine lv_icmp_ge (pc := 179) (tgt := 200) cx.1 cx.2.1 dX12_turn_179 (by decide) (fun c1 => ?_) (fun c1 => ?_)
    · replace hwp := hwp.1 c1
      exact wk_X12_turn_200 cx _ _ _ _ _ hwp hw (lv_sub hl [0, 1] rfl)
    · replace hwp := hwp.2 c1
      refine lv_aload_n (pc := 182) cx.1 cx.2.1 dX12_turn_182 rfl (lv_at hl 0 rfl) ?_
      refine k_getR (pc := 183) (u := u) (v := .ref (h 8)) cx hw (lr_X12_this_17 d h) (C := RX12) (T := TX12) (N := 40) rfl in_X12 (by decide) q994 (fun _ h9 => h9) rfl dX12_turn_183 ?_
      refine lv_iload_n (pc := 186) cx.1 cx.2.1 dX12_turn_186 rfl (lv_at hl 2 rfl) ?_
      refine lv_aload_n (pc := 187) cx.1 cx.2.1 dX12_turn_187 rfl (lv_at hl 0 rfl) ?_
      refine k_getR (pc := 188) (u := u) (v := .ref (h 12)) cx hw (lr_X12_this_25 d h) (C := RX12) (T := TX12) (N := 40) rfl in_X12 (by decide) q1002 (fun _ h9 => h9) rfl dX12_turn_188 ?_
      refine lv_iload_n (pc := 191) cx.1 cx.2.1 dX12_turn_191 rfl (lv_at hl 2 rfl) ?_
      refine k_iald (pc := 192) (u := u) (f := (u.2.1 25)) cx hw (lx_X12_this_25 d h) 0 rfl rfl hwp.1 dX12_turn_192 ?_
      replace hwp := hwp.2
      refine lv_topi (fun y2 ey2 => ?_)
      replace hwp := hwp y2 ey2
      refine k_iast (pc := 193) (u := u) (f := (u.2.1 17)) cx hw (ln_X12_this_17 d h) 0 rfl rfl hwp.1 dX12_turn_193 (fun H locs hw => ?_)
      replace hwp := hwp.2
      refine lv_iinc (pc := 194) (v := (x2 + (1 : Int32))) (lv' := [(2, .int (x2 + (1 : Int32))), (0, .ref (h 0)), (1, .int x1)]) cx.1 cx.2.1 dX12_turn_194 hl (k := 2) rfl rfl (by decide) rfl (fun ls hl => ?_)
      refine lv_goto (pc := 197) (tgt := 174) cx.1 cx.2.1 dX12_turn_197 (by decide) ?_
      exact ih _ _ _ _ _ _ hwp hw (lv_sub hl [1, 2, 0] rfl)
set_option maxHeartbeats 4000000 in
theorem wk_X12_turn_134 {p : Program} {l : Launch} {e : Env} {s : State} {m : MethodId} {args : Array Value} {below : List Frame} {meth : Method} {c : Code} {A : Nat → Prop} {dC : Nat → ClassId} {dI : Nat → Nat → Nat} {d : Nat → ClassId} {h : Nat → Nat} {K : Int32 → St → Prop} (cx : Cx p s m args meth c cX12_turn RX12 5 (some .int) A dC dI d) : ∀ (x1 : Int32) (u : St) (H : Heap) (locs : List Loc) (ls : Array Slot), wp_X12_turn_134 K x1 u → Wd dC dI A ((wM d h) u) s H locs → lv_has ls 5 [(0, .ref (h 0)), (1, .int x1)] → W p l e ({ frames := 4, cells := 0, slots := 0, locals := 98 } : Room) s m args below meth c H locs 0 0 (MQ below (kQi dC dI (wM d h) K A) args s 0 0 A) (F0 m 134 ls []) := by
  intro x1 u H locs ls hwp hw hl
  unfold wp_X12_turn_134 at hwp
  refine lv_aload_n (pc := 134) cx.1 cx.2.1 dX12_turn_134 rfl (lv_at hl 0 rfl) ?_
  refine lv_aload_n (pc := 135) cx.1 cx.2.1 dX12_turn_135 rfl (lv_at hl 0 rfl) ?_
  refine lv_iconst (pc := 136) (v := 1) cx.1 cx.2.1 dX12_turn_136 (by decide) ?_
  refine lv_aload_n (pc := 137) cx.1 cx.2.1 dX12_turn_137 rfl (lv_at hl 0 rfl) ?_
  refine k_getI (pc := 138) (u := u) (v := (u.1 20)) cx hw (ln_X12_this_20 d h) (C := RX12) (T := TX12) (N := 40) rfl in_X12 (by decide) q997 (fun _ h9 => h9) rfl dX12_turn_138 ?_
  refine lv_isub (pc := 141) cx.1 cx.2.1 dX12_turn_141 ?_
  refine k_whole_i (pc := 142) (wf := (wM d h)) (u := u) cx hw (k_runV (pc := 142) (rest := [.ref (h 0)]) (As := [.int ((1 : Int32) - (u.1 20))]) cx hw.1 (hw.2.1.weaken (fun _ _ _ _ => trivial)) hw.2.2 (k_recv cx hw 0 (ci := 10) (q := (RX12, TX12, 40)) rfl rfl) (m_X12_index l dC dI d h  u ((1 : Int32) - (u.1 20)) hwp H.size) (cwV 1 cx.2.2.2.2.1 (lw_V q1199 q1201 qs51 q89 q1202) rfl rfl rfl hdV_X12_index ⟨Nat.le_of_ble_eq_true rfl, Nat.le_of_ble_eq_true rfl⟩) rfl hl.1 rfl (Nat.le_of_ble_eq_true rfl) dX12_turn_142 ⟨Nat.le_of_ble_eq_true rfl, Nat.le_of_ble_eq_true rfl⟩) (fun r2 u1 H locs hwp hw => ?_)
  refine k_whole_i (pc := 145) (wf := (wM d h)) (u := u1) cx hw (k_runV (pc := 145) (rest := []) (As := [.int r2]) cx hw.1 (hw.2.1.weaken (fun _ _ _ _ => trivial)) hw.2.2 (k_recv cx hw 0 (ci := 10) (q := (RX12, TX12, 40)) rfl rfl) (m_X12_writeIndex l dC dI d h  u1 r2 hwp H.size) (cwV 1 cx.2.2.2.2.1 (lw_V q1203 q1205 qs52 q89 q1206) rfl rfl rfl hdV_X12_writeIndex ⟨Nat.le_of_ble_eq_true rfl, Nat.le_of_ble_eq_true rfl⟩) rfl hl.1 rfl (Nat.le_of_ble_eq_true rfl) dX12_turn_145 ⟨Nat.le_of_ble_eq_true rfl, Nat.le_of_ble_eq_true rfl⟩) (fun r4 u3 H locs hwp hw => ?_)
  refine lv_if_eq (pc := 148) (tgt := 169) cx.1 cx.2.1 dX12_turn_148 (by decide) (fun c5 => ?_) (fun c5 => ?_)
  · replace hwp := hwp.1 c5
    refine lv_bipush (pc := 169) (v := -9) cx.1 cx.2.1 dX12_turn_169 (by decide) ?_
    exact k_iret (pc := 171) (wf := (wM d h)) (u := u3) cx hw hwp (by decide) (by decide) dX12_turn_171
  · replace hwp := hwp.2 c5
    refine lv_aload_n (pc := 151) cx.1 cx.2.1 dX12_turn_151 rfl (lv_at hl 0 rfl) ?_
    refine lv_iconst (pc := 152) (v := 0) cx.1 cx.2.1 dX12_turn_152 (by decide) ?_
    refine lv_iconst (pc := 153) (v := 2) cx.1 cx.2.1 dX12_turn_153 (by decide) ?_
    refine lv_iload_n (pc := 154) cx.1 cx.2.1 dX12_turn_154 rfl (lv_at hl 1 rfl) ?_
    refine lv_imul (pc := 155) cx.1 cx.2.1 dX12_turn_155 ?_
    refine lv_iconst (pc := 156) (v := 1) cx.1 cx.2.1 dX12_turn_156 (by decide) ?_
    refine lv_iadd (pc := 157) cx.1 cx.2.1 dX12_turn_157 ?_
    refine lv_aload_n (pc := 158) cx.1 cx.2.1 dX12_turn_158 rfl (lv_at hl 0 rfl) ?_
    refine k_getI (pc := 159) (u := u3) (v := (u3.1 20)) cx hw (ln_X12_this_20 d h) (C := RX12) (T := TX12) (N := 40) rfl in_X12 (by decide) q997 (fun _ h9 => h9) rfl dX12_turn_159 ?_
    refine lv_isub (pc := 162) cx.1 cx.2.1 dX12_turn_162 ?_
    refine k_whole_i (pc := 163) (wf := (wM d h)) (u := u3) cx hw (k_runV (pc := 163) (rest := []) (As := [.int (0 : Int32), .int ((((2 : Int32) * x1) + (1 : Int32)) - (u3.1 20))]) cx hw.1 (hw.2.1.weaken (fun _ _ _ _ => trivial)) hw.2.2 (k_recv cx hw 0 (ci := 10) (q := (RX12, TX12, 40)) rfl rfl) (m_X12_write l dC dI d h  u3 (0 : Int32) ((((2 : Int32) * x1) + (1 : Int32)) - (u3.1 20)) hwp H.size) (cwV 2 cx.2.2.2.2.1 (lw_V q1118 q1120 qs35 q89 q1121) rfl rfl rfl hdV_X12_write ⟨Nat.le_of_ble_eq_true rfl, Nat.le_of_ble_eq_true rfl⟩) rfl hl.1 rfl (Nat.le_of_ble_eq_true rfl) dX12_turn_163 ⟨Nat.le_of_ble_eq_true rfl, Nat.le_of_ble_eq_true rfl⟩) (fun r7 u6 H locs hwp hw => ?_)
    refine lv_if_ne (pc := 166) (tgt := 172) cx.1 cx.2.1 dX12_turn_166 (by decide) (fun c8 => ?_) (fun c8 => ?_)
    · replace hwp := hwp.1 c8
      refine lv_iconst (pc := 172) (v := 0) cx.1 cx.2.1 dX12_turn_172 (by decide) ?_
      refine lv_istore_n (pc := 173) (lv' := [(2, .int (0 : Int32)), (0, .ref (h 0)), (1, .int x1)]) cx.1 cx.2.1 dX12_turn_173 rfl hl (by decide) rfl (fun ls hl => ?_)
      obtain ⟨n174, hwp⟩ := hwp
      exact wk_X12_turn_174 cx n174 _ _ _ _ _ _ hwp hw (lv_sub hl [1, 2, 0] rfl)
    · replace hwp := hwp.2 c8
      refine lv_bipush (pc := 169) (v := -9) cx.1 cx.2.1 dX12_turn_169 (by decide) ?_
      exact k_iret (pc := 171) (wf := (wM d h)) (u := u6) cx hw hwp (by decide) (by decide) dX12_turn_171
set_option maxHeartbeats 4000000 in
theorem wk_X12_turn_95 {p : Program} {l : Launch} {e : Env} {s : State} {m : MethodId} {args : Array Value} {below : List Frame} {meth : Method} {c : Code} {A : Nat → Prop} {dC : Nat → ClassId} {dI : Nat → Nat → Nat} {d : Nat → ClassId} {h : Nat → Nat} {K : Int32 → St → Prop} (cx : Cx p s m args meth c cX12_turn RX12 5 (some .int) A dC dI d) : ∀ (n : Nat) (x1 : Int32) (x2 : Int32) (u : St) (H : Heap) (locs : List Loc) (ls : Array Slot), wp_X12_turn_95 K n x1 x2 u → Wd dC dI A ((wM d h) u) s H locs → lv_has ls 5 [(0, .ref (h 0)), (1, .int x1), (2, .int x2)] → W p l e ({ frames := 4, cells := 0, slots := 0, locals := 98 } : Room) s m args below meth c H locs 0 0 (MQ below (kQi dC dI (wM d h) K A) args s 0 0 A) (F0 m 95 ls []) := by
  intro n
  induction n with
  | zero =>
    intros; contradiction
  | succ n ih =>
    intro x1 x2 u H locs ls hwp hw hl
    unfold wp_X12_turn_95 at hwp
    refine lv_iload_n (pc := 95) cx.1 cx.2.1 dX12_turn_95 rfl (lv_at hl 2 rfl) ?_
    refine lv_aload_n (pc := 96) cx.1 cx.2.1 dX12_turn_96 rfl (lv_at hl 0 rfl) ?_
    refine k_getI (pc := 97) (u := u) (v := (u.1 27)) cx hw (ln_X12_this_27 d h) (C := RX12) (T := TX12) (N := 40) rfl in_X12 (by decide) q1004 (fun _ h9 => h9) rfl dX12_turn_97 ?_
    refine lv_icmp_ge (pc := 100) (tgt := 134) cx.1 cx.2.1 dX12_turn_100 (by decide) (fun c1 => ?_) (fun c1 => ?_)
    · replace hwp := hwp.1 c1
      exact wk_X12_turn_134 cx _ _ _ _ _ hwp hw (lv_sub hl [0, 1] rfl)
    · replace hwp := hwp.2 c1
      refine lv_aload_n (pc := 103) cx.1 cx.2.1 dX12_turn_103 rfl (lv_at hl 0 rfl) ?_
      refine k_getR (pc := 104) (u := u) (v := .ref (h 13)) cx hw (lr_X12_this_26 d h) (C := RX12) (T := TX12) (N := 40) rfl in_X12 (by decide) q1003 (fun _ h9 => h9) rfl dX12_turn_104 ?_
      refine lv_iload_n (pc := 107) cx.1 cx.2.1 dX12_turn_107 rfl (lv_at hl 2 rfl) ?_
      refine k_zald (pc := 108) (u := u) (f := (u.2.1 26)) cx hw (lx_X12_this_26 d h) 5 rfl rfl hwp.1 dX12_turn_108 ?_
      replace hwp := hwp.2
      refine lv_if_eq (pc := 109) (tgt := 128) cx.1 cx.2.1 dX12_turn_109 (by decide) (fun c2 => ?_) (fun c2 => ?_)
      · replace hwp := hwp.1 c2
        refine lv_iinc (pc := 128) (v := (x2 + (1 : Int32))) (lv' := [(2, .int (x2 + (1 : Int32))), (0, .ref (h 0)), (1, .int x1)]) cx.1 cx.2.1 dX12_turn_128 hl (k := 2) rfl rfl (by decide) rfl (fun ls hl => ?_)
        refine lv_goto (pc := 131) (tgt := 95) cx.1 cx.2.1 dX12_turn_131 (by decide) ?_
        exact ih _ _ _ _ _ _ hwp hw (lv_sub hl [1, 2, 0] rfl)
      · replace hwp := hwp.2 c2
        refine lv_aload_n (pc := 112) cx.1 cx.2.1 dX12_turn_112 rfl (lv_at hl 0 rfl) ?_
        refine lv_aload_n (pc := 113) cx.1 cx.2.1 dX12_turn_113 rfl (lv_at hl 0 rfl) ?_
        refine k_getR (pc := 114) (u := u) (v := .ref (h 12)) cx hw (lr_X12_this_25 d h) (C := RX12) (T := TX12) (N := 40) rfl in_X12 (by decide) q1002 (fun _ h9 => h9) rfl dX12_turn_114 ?_
        refine lv_iload_n (pc := 117) cx.1 cx.2.1 dX12_turn_117 rfl (lv_at hl 2 rfl) ?_
        refine k_iald (pc := 118) (u := u) (f := (u.2.1 25)) cx hw (lx_X12_this_25 d h) 0 rfl rfl hwp.1 dX12_turn_118 ?_
        replace hwp := hwp.2
        refine k_whole_i (pc := 119) (wf := (wM d h)) (u := u) cx hw (k_runV (pc := 119) (rest := []) (As := [.int ((u.2.1 25) x2.toNatClampNeg)]) cx hw.1 (hw.2.1.weaken (fun _ _ _ _ => trivial)) hw.2.2 (k_recv cx hw 0 (ci := 10) (q := (RX12, TX12, 40)) rfl rfl) (m_X12_writeChunk l dC dI d h  u ((u.2.1 25) x2.toNatClampNeg) hwp H.size) (cwV 1 cx.2.2.2.2.1 (lw_V q1195 q1197 qs50 q89 q1198) rfl rfl rfl hdV_X12_writeChunk ⟨Nat.le_of_ble_eq_true rfl, Nat.le_of_ble_eq_true rfl⟩) rfl hl.1 rfl (Nat.le_of_ble_eq_true rfl) dX12_turn_119 ⟨Nat.le_of_ble_eq_true rfl, Nat.le_of_ble_eq_true rfl⟩) (fun r4 u3 H locs hwp hw => ?_)
        refine lv_if_ne (pc := 122) (tgt := 128) cx.1 cx.2.1 dX12_turn_122 (by decide) (fun c5 => ?_) (fun c5 => ?_)
        · replace hwp := hwp.1 c5
          refine lv_iinc (pc := 128) (v := (x2 + (1 : Int32))) (lv' := [(2, .int (x2 + (1 : Int32))), (0, .ref (h 0)), (1, .int x1)]) cx.1 cx.2.1 dX12_turn_128 hl (k := 2) rfl rfl (by decide) rfl (fun ls hl => ?_)
          refine lv_goto (pc := 131) (tgt := 95) cx.1 cx.2.1 dX12_turn_131 (by decide) ?_
          exact ih _ _ _ _ _ _ hwp hw (lv_sub hl [1, 2, 0] rfl)
        · replace hwp := hwp.2 c5
          refine lv_bipush (pc := 125) (v := -9) cx.1 cx.2.1 dX12_turn_125 (by decide) ?_
          exact k_iret (pc := 127) (wf := (wM d h)) (u := u3) cx hw hwp (by decide) (by decide) dX12_turn_127
set_option maxHeartbeats 4000000 in
theorem wk_X12_turn_14 {p : Program} {l : Launch} {e : Env} {s : State} {m : MethodId} {args : Array Value} {below : List Frame} {meth : Method} {c : Code} {A : Nat → Prop} {dC : Nat → ClassId} {dI : Nat → Nat → Nat} {d : Nat → ClassId} {h : Nat → Nat} {K : Int32 → St → Prop} (cx : Cx p s m args meth c cX12_turn RX12 5 (some .int) A dC dI d) : ∀ (n : Nat) (x1 : Int32) (x2 : Int32) (u : St) (H : Heap) (locs : List Loc) (ls : Array Slot), wp_X12_turn_14 K n x1 x2 u → Wd dC dI A ((wM d h) u) s H locs → lv_has ls 5 [(0, .ref (h 0)), (1, .int x1), (2, .int x2)] → W p l e ({ frames := 4, cells := 0, slots := 0, locals := 98 } : Room) s m args below meth c H locs 0 0 (MQ below (kQi dC dI (wM d h) K A) args s 0 0 A) (F0 m 14 ls []) := by
  intro n
  induction n with
  | zero =>
    intros; contradiction
  | succ n ih =>
    intro x1 x2 u H locs ls hwp hw hl
    unfold wp_X12_turn_14 at hwp
    refine lv_iload_n (pc := 14) cx.1 cx.2.1 dX12_turn_14 rfl (lv_at hl 2 rfl) ?_
    refine lv_aload_n (pc := 15) cx.1 cx.2.1 dX12_turn_15 rfl (lv_at hl 0 rfl) ?_
    refine k_getI (pc := 16) (u := u) (v := (u.1 27)) cx hw (ln_X12_this_27 d h) (C := RX12) (T := TX12) (N := 40) rfl in_X12 (by decide) q1004 (fun _ h9 => h9) rfl dX12_turn_16 ?_
    refine lv_icmp_ge (pc := 19) (tgt := 93) cx.1 cx.2.1 dX12_turn_19 (by decide) (fun c1 => ?_) (fun c1 => ?_)
    · replace hwp := hwp.1 c1
      refine lv_iconst (pc := 93) (v := 0) cx.1 cx.2.1 dX12_turn_93 (by decide) ?_
      refine lv_istore_n (pc := 94) (lv' := [(2, .int (0 : Int32)), (0, .ref (h 0)), (1, .int x1)]) cx.1 cx.2.1 dX12_turn_94 rfl hl (by decide) rfl (fun ls hl => ?_)
      obtain ⟨n95, hwp⟩ := hwp
      exact wk_X12_turn_95 cx n95 _ _ _ _ _ _ hwp hw (lv_sub hl [1, 2, 0] rfl)
    · replace hwp := hwp.2 c1
      refine lv_aload_n (pc := 22) cx.1 cx.2.1 dX12_turn_22 rfl (lv_at hl 0 rfl) ?_
      refine k_getR (pc := 23) (u := u) (v := .ref (h 13)) cx hw (lr_X12_this_26 d h) (C := RX12) (T := TX12) (N := 40) rfl in_X12 (by decide) q1003 (fun _ h9 => h9) rfl dX12_turn_23 ?_
      refine lv_iload_n (pc := 26) cx.1 cx.2.1 dX12_turn_26 rfl (lv_at hl 2 rfl) ?_
      refine k_zald (pc := 27) (u := u) (f := (u.2.1 26)) cx hw (lx_X12_this_26 d h) 5 rfl rfl hwp.1 dX12_turn_27 ?_
      replace hwp := hwp.2
      refine lv_if_ne (pc := 28) (tgt := 34) cx.1 cx.2.1 dX12_turn_28 (by decide) (fun c2 => ?_) (fun c2 => ?_)
      · replace hwp := hwp.1 c2
        refine lv_aload_n (pc := 34) cx.1 cx.2.1 dX12_turn_34 rfl (lv_at hl 0 rfl) ?_
        refine lv_aload_n (pc := 35) cx.1 cx.2.1 dX12_turn_35 rfl (lv_at hl 0 rfl) ?_
        refine k_getR (pc := 36) (u := u) (v := .ref (h 12)) cx hw (lr_X12_this_25 d h) (C := RX12) (T := TX12) (N := 40) rfl in_X12 (by decide) q1002 (fun _ h9 => h9) rfl dX12_turn_36 ?_
        refine lv_iload_n (pc := 39) cx.1 cx.2.1 dX12_turn_39 rfl (lv_at hl 2 rfl) ?_
        refine k_iald (pc := 40) (u := u) (f := (u.2.1 25)) cx hw (lx_X12_this_25 d h) 0 rfl rfl hwp.1 dX12_turn_40 ?_
        replace hwp := hwp.2
        refine k_whole_i (pc := 41) (wf := (wM d h)) (u := u) cx hw (k_runV (pc := 41) (rest := []) (As := [.int ((u.2.1 25) x2.toNatClampNeg)]) cx hw.1 (hw.2.1.weaken (fun _ _ _ _ => trivial)) hw.2.2 (k_recv cx hw 0 (ci := 10) (q := (RX12, TX12, 40)) rfl rfl) (m_X12_make l dC dI d h  u ((u.2.1 25) x2.toNatClampNeg) hwp H.size) (cwV 1 cx.2.2.2.2.1 (lw_V q1154 q1156 qs43 q89 q1157) rfl rfl rfl hdV_X12_make ⟨Nat.le_of_ble_eq_true rfl, Nat.le_of_ble_eq_true rfl⟩) rfl hl.1 rfl (Nat.le_of_ble_eq_true rfl) dX12_turn_41 ⟨Nat.le_of_ble_eq_true rfl, Nat.le_of_ble_eq_true rfl⟩) (fun r4 u3 H locs hwp hw => ?_)
        refine lv_istore_n (pc := 44) (lv' := [(3, .int r4), (0, .ref (h 0)), (1, .int x1), (2, .int x2)]) cx.1 cx.2.1 dX12_turn_44 rfl hl (by decide) rfl (fun ls hl => ?_)
        refine lv_aload_n (pc := 45) cx.1 cx.2.1 dX12_turn_45 rfl (lv_at hl 1 rfl) ?_
        refine lv_iload_n (pc := 46) cx.1 cx.2.1 dX12_turn_46 rfl (lv_at hl 0 rfl) ?_
        refine lv_iload_n (pc := 47) cx.1 cx.2.1 dX12_turn_47 rfl (lv_at hl 3 rfl) ?_
        refine k_whole_i (pc := 48) (wf := (wM d h)) (u := u3) cx hw (k_runV (pc := 48) (rest := []) (As := [.int r4, .int x2]) cx hw.1 (hw.2.1.weaken (fun _ _ _ _ => trivial)) hw.2.2 (k_recv cx hw 0 (ci := 10) (q := (RX12, TX12, 40)) rfl rfl) (m_X12_find l dC dI d h  u3 r4 x2 hwp H.size) (cwV 2 cx.2.2.2.2.1 (lw_V q1183 q1185 qs47 q89 q1186) rfl rfl rfl hdV_X12_find ⟨Nat.le_of_ble_eq_true rfl, Nat.le_of_ble_eq_true rfl⟩) rfl hl.1 rfl (Nat.le_of_ble_eq_true rfl) dX12_turn_48 ⟨Nat.le_of_ble_eq_true rfl, Nat.le_of_ble_eq_true rfl⟩) (fun r6 u5 H locs hwp hw => ?_)
        refine lv_istore (pc := 51) (lv' := [(4, .int r6), (3, .int r4), (0, .ref (h 0)), (1, .int x1), (2, .int x2)]) cx.1 cx.2.1 dX12_turn_51 hl (by decide) rfl (fun ls hl => ?_)
        refine lv_iload (pc := 53) cx.1 cx.2.1 dX12_turn_53 (lv_at hl 0 rfl) ?_
        refine lv_iconst (pc := 55) (v := -1) cx.1 cx.2.1 dX12_turn_55 (by decide) ?_
        refine lv_icmp_ne (pc := 56) (tgt := 62) cx.1 cx.2.1 dX12_turn_56 (by decide) (fun c7 => ?_) (fun c7 => ?_)
        · replace hwp := hwp.1 c7
          refine lv_aload_n (pc := 62) cx.1 cx.2.1 dX12_turn_62 rfl (lv_at hl 2 rfl) ?_
          refine k_getR (pc := 63) (u := u5) (v := .ref (h 4)) cx hw (lr_X12_this_13 d h) (C := RX12) (T := TX12) (N := 40) rfl in_X12 (by decide) q990 (fun _ h9 => h9) rfl dX12_turn_63 ?_
          refine lv_aload_n (pc := 66) cx.1 cx.2.1 dX12_turn_66 rfl (lv_at hl 2 rfl) ?_
          refine k_getR (pc := 67) (u := u5) (v := .ref (h 12)) cx hw (lr_X12_this_25 d h) (C := RX12) (T := TX12) (N := 40) rfl in_X12 (by decide) q1002 (fun _ h9 => h9) rfl dX12_turn_67 ?_
          refine lv_iload_n (pc := 70) cx.1 cx.2.1 dX12_turn_70 rfl (lv_at hl 4 rfl) ?_
          refine k_iald (pc := 71) (u := u5) (f := (u5.2.1 25)) cx hw (lx_X12_this_25 d h) 0 rfl rfl hwp.1 dX12_turn_71 ?_
          replace hwp := hwp.2
          refine lv_iload (pc := 72) cx.1 cx.2.1 dX12_turn_72 (lv_at hl 0 rfl) ?_
          refine k_top2 (fun y8 ey8 => ?_)
          replace hwp := hwp y8 ey8
          refine k_iast (pc := 74) (u := u5) (f := (u5.2.1 13)) cx hw (ln_X12_this_13 d h) 0 rfl rfl hwp.1 dX12_turn_74 (fun H locs hw => ?_)
          replace hwp := hwp.2
          refine lv_aload_n (pc := 75) cx.1 cx.2.1 dX12_turn_75 rfl (lv_at hl 2 rfl) ?_
          refine k_getR (pc := 76) (u := (st_A u5 13 (upd (u5.2.1 13) y8.toNatClampNeg r6))) (v := .ref (h 5)) cx hw (lr_X12_this_14 d h) (C := RX12) (T := TX12) (N := 40) rfl in_X12 (by decide) q991 (fun _ h9 => h9) rfl dX12_turn_76 ?_
          refine lv_aload_n (pc := 79) cx.1 cx.2.1 dX12_turn_79 rfl (lv_at hl 2 rfl) ?_
          refine k_getR (pc := 80) (u := (st_A u5 13 (upd (u5.2.1 13) y8.toNatClampNeg r6))) (v := .ref (h 12)) cx hw (lr_X12_this_25 d h) (C := RX12) (T := TX12) (N := 40) rfl in_X12 (by decide) q1002 (fun _ h9 => h9) rfl dX12_turn_80 ?_
          refine lv_iload_n (pc := 83) cx.1 cx.2.1 dX12_turn_83 rfl (lv_at hl 4 rfl) ?_
          refine k_iald (pc := 84) (u := (st_A u5 13 (upd (u5.2.1 13) y8.toNatClampNeg r6))) (f := (u5.2.1 25)) cx hw (lx_X12_this_25 d h) 0 rfl rfl hwp.1 dX12_turn_84 ?_
          replace hwp := hwp.2
          refine lv_iload_n (pc := 85) cx.1 cx.2.1 dX12_turn_85 rfl (lv_at hl 1 rfl) ?_
          refine k_top2 (fun y9 ey9 => ?_)
          replace hwp := hwp y9 ey9
          refine k_iast (pc := 86) (u := (st_A u5 13 (upd (u5.2.1 13) y8.toNatClampNeg r6))) (f := (u5.2.1 14)) cx hw (ln_X12_this_14 d h) 0 rfl rfl hwp.1 dX12_turn_86 (fun H locs hw => ?_)
          replace hwp := hwp.2
          refine lv_iinc (pc := 87) (v := (x2 + (1 : Int32))) (lv' := [(2, .int (x2 + (1 : Int32))), (4, .int r6), (3, .int r4), (0, .ref (h 0)), (1, .int x1)]) cx.1 cx.2.1 dX12_turn_87 hl (k := 4) rfl rfl (by decide) rfl (fun ls hl => ?_)
          refine lv_goto (pc := 90) (tgt := 14) cx.1 cx.2.1 dX12_turn_90 (by decide) ?_
          exact ih _ _ _ _ _ _ hwp hw (lv_sub hl [3, 4, 0] rfl)
        · replace hwp := hwp.2 c7
          refine lv_bipush (pc := 59) (v := -3) cx.1 cx.2.1 dX12_turn_59 (by decide) ?_
          exact k_iret (pc := 61) (wf := (wM d h)) (u := u5) cx hw hwp (by decide) (by decide) dX12_turn_61
      · replace hwp := hwp.2 c2
        refine lv_goto (pc := 31) (tgt := 87) cx.1 cx.2.1 dX12_turn_31 (by decide) ?_
        refine lv_iinc (pc := 87) (v := (x2 + (1 : Int32))) (lv' := [(2, .int (x2 + (1 : Int32))), (0, .ref (h 0)), (1, .int x1)]) cx.1 cx.2.1 dX12_turn_87 hl (k := 2) rfl rfl (by decide) rfl (fun ls hl => ?_)
        refine lv_goto (pc := 90) (tgt := 14) cx.1 cx.2.1 dX12_turn_90 (by decide) ?_
        exact ih _ _ _ _ _ _ hwp hw (lv_sub hl [1, 2, 0] rfl)
set_option maxHeartbeats 4000000 in
theorem m_X12_turn (l : Launch) (dC : Nat → ClassId) (dI : Nat → Nat → Nat) (d : Nat → ClassId) (h : Nat → Nat) (u : St) (x1 : Int32) {K : Int32 → St → Prop} (hwp : wp_X12_turn u x1 K) : kM l yX12_turn cX12_turn 5 (some .int) ({ frames := 4, cells := 0, slots := 0, locals := 98 } : Room) dC dI d [.ref (h 0), .int x1] (wM d h) u (kQi dC dI (wM d h) K) 0 0 := by
  refine kM_start rfl (Nat.le_of_ble_eq_true rfl) ?_
  intro p e s m below meth c A ls cx hnm hw hl
  generalize hargs : ([.ref (h 0), .int x1] : List Value).toArray = args at cx ⊢
  unfold wp_X12_turn at hwp
  replace hl : lv_has ls 5 [(0, .ref (h 0)), (1, .int x1)] := hl
  generalize hH : s.heap = H at hw ⊢
  generalize hlo : ([] : List Loc) = locs at hw ⊢
  refine lv_aload_n (pc := 0) cx.1 cx.2.1 dX12_turn_0 rfl (lv_at hl 0 rfl) ?_
  refine k_getI (pc := 1) (u := u) (v := (u.1 27)) cx hw (ln_X12_this_27 d h) (C := RX12) (T := TX12) (N := 40) rfl in_X12 (by decide) q1004 (fun _ h9 => h9) rfl dX12_turn_1 ?_
  refine lv_bipush (pc := 4) (v := 96) cx.1 cx.2.1 dX12_turn_4 (by decide) ?_
  refine lv_icmp_le (pc := 6) (tgt := 12) cx.1 cx.2.1 dX12_turn_6 (by decide) (fun c1 => ?_) (fun c1 => ?_)
  · replace hwp := hwp.1 c1
    refine lv_iconst (pc := 12) (v := 0) cx.1 cx.2.1 dX12_turn_12 (by decide) ?_
    refine lv_istore_n (pc := 13) (lv' := [(2, .int (0 : Int32)), (0, .ref (h 0)), (1, .int x1)]) cx.1 cx.2.1 dX12_turn_13 rfl hl (by decide) rfl (fun ls hl => ?_)
    obtain ⟨n14, hwp⟩ := hwp
    exact wk_X12_turn_14 cx n14 _ _ _ _ _ _ hwp hw (lv_sub hl [1, 2, 0] rfl)
  · replace hwp := hwp.2 c1
    refine lv_bipush (pc := 9) (v := -3) cx.1 cx.2.1 dX12_turn_9 (by decide) ?_
    exact k_iret (pc := 11) (wf := (wM d h)) (u := u) cx hw hwp (by decide) (by decide) dX12_turn_11
set_option maxHeartbeats 4000000 in
theorem wk_X12_flush_84 {p : Program} {l : Launch} {e : Env} {s : State} {m : MethodId} {args : Array Value} {below : List Frame} {meth : Method} {c : Code} {A : Nat → Prop} {dC : Nat → ClassId} {dI : Nat → Nat → Nat} {d : Nat → ClassId} {h : Nat → Nat} {C34 : Int32 → St → Prop} {K : Int32 → St → Prop} (cx : Cx p s m args meth c cX12_flush RX12 3 (some .int) A dC dI d) (hC34 : ∀ (x1 : Int32) (u : St) (H : Heap) (locs : List Loc) (ls : Array Slot), C34 x1 u → Wd dC dI A ((wM d h) u) s H locs → lv_has ls 3 [(0, .ref (h 0)), (1, .int x1)] → W p l e ({ frames := 5, cells := 0, slots := 0, locals := 122 } : Room) s m args below meth c H locs 0 0 (MQ below (kQi dC dI (wM d h) K A) args s 0 0 A) (F0 m 34 ls [])) : ∀ (x1 : Int32) (u : St) (H : Heap) (locs : List Loc) (ls : Array Slot), wp_X12_flush_84 C34 K x1 u → Wd dC dI A ((wM d h) u) s H locs → lv_has ls 3 [(0, .ref (h 0)), (1, .int x1)] → W p l e ({ frames := 5, cells := 0, slots := 0, locals := 122 } : Room) s m args below meth c H locs 0 0 (MQ below (kQi dC dI (wM d h) K A) args s 0 0 A) (F0 m 84 ls []) := by
  intro x1 u H locs ls hwp hw hl
  unfold wp_X12_flush_84 at hwp
  refine lv_aload_n (pc := 84) cx.1 cx.2.1 dX12_flush_84 rfl (lv_at hl 0 rfl) ?_
  refine lv_iload_n (pc := 85) cx.1 cx.2.1 dX12_flush_85 rfl (lv_at hl 1 rfl) ?_
  refine k_whole_v (pc := 86) (wf := (wM d h)) (u := u) cx hw (k_runV (pc := 86) (rest := []) (As := [.int x1]) cx hw.1 (hw.2.1.weaken (fun _ _ _ _ => trivial)) hw.2.2 (k_recv cx hw 0 (ci := 10) (q := (RX12, TX12, 40)) rfl rfl) (m_X12_headsOf l dC dI d h  u x1 hwp H.size) (cwV 1 cx.2.2.2.2.1 (lw_V q1134 q1136 qs38 q89 q1137) rfl rfl rfl hdV_X12_headsOf ⟨Nat.le_of_ble_eq_true rfl, Nat.le_of_ble_eq_true rfl⟩) rfl hl.1 rfl (Nat.le_of_ble_eq_true rfl) dX12_flush_86 ⟨Nat.le_of_ble_eq_true rfl, Nat.le_of_ble_eq_true rfl⟩) (fun u1 H locs hwp hw => ?_)
  refine lv_iinc (pc := 89) (v := (x1 + (1 : Int32))) (lv' := [(1, .int (x1 + (1 : Int32))), (0, .ref (h 0))]) cx.1 cx.2.1 dX12_flush_89 hl (k := 1) rfl rfl (by decide) rfl (fun ls hl => ?_)
  refine lv_goto (pc := 92) (tgt := 34) cx.1 cx.2.1 dX12_flush_92 (by decide) ?_
  exact hC34 _ _ _ _ _ hwp hw (lv_sub hl [1, 0] rfl)
set_option maxHeartbeats 4000000 in
theorem wk_X12_flush_44 {p : Program} {l : Launch} {e : Env} {s : State} {m : MethodId} {args : Array Value} {below : List Frame} {meth : Method} {c : Code} {A : Nat → Prop} {dC : Nat → ClassId} {dI : Nat → Nat → Nat} {d : Nat → ClassId} {h : Nat → Nat} {C34 : Int32 → St → Prop} {K : Int32 → St → Prop} (cx : Cx p s m args meth c cX12_flush RX12 3 (some .int) A dC dI d) (hC34 : ∀ (x1 : Int32) (u : St) (H : Heap) (locs : List Loc) (ls : Array Slot), C34 x1 u → Wd dC dI A ((wM d h) u) s H locs → lv_has ls 3 [(0, .ref (h 0)), (1, .int x1)] → W p l e ({ frames := 5, cells := 0, slots := 0, locals := 122 } : Room) s m args below meth c H locs 0 0 (MQ below (kQi dC dI (wM d h) K A) args s 0 0 A) (F0 m 34 ls [])) : ∀ (n : Nat) (x1 : Int32) (x2 : Int32) (u : St) (H : Heap) (locs : List Loc) (ls : Array Slot), wp_X12_flush_44 C34 K n x1 x2 u → Wd dC dI A ((wM d h) u) s H locs → lv_has ls 3 [(0, .ref (h 0)), (1, .int x1), (2, .int x2)] → W p l e ({ frames := 5, cells := 0, slots := 0, locals := 122 } : Room) s m args below meth c H locs 0 0 (MQ below (kQi dC dI (wM d h) K A) args s 0 0 A) (F0 m 44 ls []) := by
  intro n
  induction n with
  | zero =>
    intros; contradiction
  | succ n ih =>
    intro x1 x2 u H locs ls hwp hw hl
    unfold wp_X12_flush_44 at hwp
    refine lv_iload_n (pc := 44) cx.1 cx.2.1 dX12_flush_44 rfl (lv_at hl 2 rfl) ?_
    refine lv_aload_n (pc := 45) cx.1 cx.2.1 dX12_flush_45 rfl (lv_at hl 0 rfl) ?_
    refine k_getI (pc := 46) (u := u) (v := (u.1 18)) cx hw (ln_X12_this_18 d h) (C := RX12) (T := TX12) (N := 40) rfl in_X12 (by decide) q995 (fun _ h9 => h9) rfl dX12_flush_46 ?_
    refine lv_icmp_ge (pc := 49) (tgt := 84) cx.1 cx.2.1 dX12_flush_49 (by decide) (fun c1 => ?_) (fun c1 => ?_)
    · replace hwp := hwp.1 c1
      exact wk_X12_flush_84 cx hC34 _ _ _ _ _ hwp hw (lv_sub hl [0, 1] rfl)
    · replace hwp := hwp.2 c1
      refine lv_aload_n (pc := 52) cx.1 cx.2.1 dX12_flush_52 rfl (lv_at hl 0 rfl) ?_
      refine k_getR (pc := 53) (u := u) (v := .ref (h 2)) cx hw (lr_X12_this_11 d h) (C := RX12) (T := TX12) (N := 40) rfl in_X12 (by decide) q988 (fun _ h9 => h9) rfl dX12_flush_53 ?_
      refine lv_aload_n (pc := 56) cx.1 cx.2.1 dX12_flush_56 rfl (lv_at hl 0 rfl) ?_
      refine k_getR (pc := 57) (u := u) (v := .ref (h 8)) cx hw (lr_X12_this_17 d h) (C := RX12) (T := TX12) (N := 40) rfl in_X12 (by decide) q994 (fun _ h9 => h9) rfl dX12_flush_57 ?_
      refine lv_iload_n (pc := 60) cx.1 cx.2.1 dX12_flush_60 rfl (lv_at hl 2 rfl) ?_
      refine k_iald (pc := 61) (u := u) (f := (u.2.1 17)) cx hw (lx_X12_this_17 d h) 0 rfl rfl hwp.1 dX12_flush_61 ?_
      replace hwp := hwp.2
      refine k_iald (pc := 62) (u := u) (f := (u.2.1 11)) cx hw (lx_X12_this_11 d h) 0 rfl rfl hwp.1 dX12_flush_62 ?_
      replace hwp := hwp.2
      refine lv_iload_n (pc := 63) cx.1 cx.2.1 dX12_flush_63 rfl (lv_at hl 1 rfl) ?_
      refine lv_icmp_ne (pc := 64) (tgt := 78) cx.1 cx.2.1 dX12_flush_64 (by decide) (fun c2 => ?_) (fun c2 => ?_)
      · replace hwp := hwp.1 c2
        refine lv_iinc (pc := 78) (v := (x2 + (1 : Int32))) (lv' := [(2, .int (x2 + (1 : Int32))), (0, .ref (h 0)), (1, .int x1)]) cx.1 cx.2.1 dX12_flush_78 hl (k := 2) rfl rfl (by decide) rfl (fun ls hl => ?_)
        refine lv_goto (pc := 81) (tgt := 44) cx.1 cx.2.1 dX12_flush_81 (by decide) ?_
        exact ih _ _ _ _ _ _ hwp hw (lv_sub hl [1, 2, 0] rfl)
      · replace hwp := hwp.2 c2
        refine lv_aload_n (pc := 67) cx.1 cx.2.1 dX12_flush_67 rfl (lv_at hl 0 rfl) ?_
        refine lv_aload_n (pc := 68) cx.1 cx.2.1 dX12_flush_68 rfl (lv_at hl 0 rfl) ?_
        refine k_getR (pc := 69) (u := u) (v := .ref (h 8)) cx hw (lr_X12_this_17 d h) (C := RX12) (T := TX12) (N := 40) rfl in_X12 (by decide) q994 (fun _ h9 => h9) rfl dX12_flush_69 ?_
        refine lv_iload_n (pc := 72) cx.1 cx.2.1 dX12_flush_72 rfl (lv_at hl 2 rfl) ?_
        refine k_iald (pc := 73) (u := u) (f := (u.2.1 17)) cx hw (lx_X12_this_17 d h) 0 rfl rfl hwp.1 dX12_flush_73 ?_
        replace hwp := hwp.2
        refine lv_iconst (pc := 74) (v := 0) cx.1 cx.2.1 dX12_flush_74 (by decide) ?_
        refine k_whole_v (pc := 75) (wf := (wM d h)) (u := u) cx hw (k_runV (pc := 75) (rest := []) (As := [.int ((u.2.1 17) x2.toNatClampNeg), .int (0 : Int32)]) cx hw.1 (hw.2.1.weaken (fun _ _ _ _ => trivial)) hw.2.2 (k_recv cx hw 0 (ci := 10) (q := (RX12, TX12, 40)) rfl rfl) (m_X12_comes l dC dI d h  u ((u.2.1 17) x2.toNatClampNeg) (0 : Int32) hwp H.size) (cwV 2 cx.2.2.2.2.1 (lw_V q1130 q1132 qs37 q89 q1133) rfl rfl rfl hdV_X12_comes ⟨Nat.le_of_ble_eq_true rfl, Nat.le_of_ble_eq_true rfl⟩) rfl hl.1 rfl (Nat.le_of_ble_eq_true rfl) dX12_flush_75 ⟨Nat.le_of_ble_eq_true rfl, Nat.le_of_ble_eq_true rfl⟩) (fun u3 H locs hwp hw => ?_)
        refine lv_iinc (pc := 78) (v := (x2 + (1 : Int32))) (lv' := [(2, .int (x2 + (1 : Int32))), (0, .ref (h 0)), (1, .int x1)]) cx.1 cx.2.1 dX12_flush_78 hl (k := 2) rfl rfl (by decide) rfl (fun ls hl => ?_)
        refine lv_goto (pc := 81) (tgt := 44) cx.1 cx.2.1 dX12_flush_81 (by decide) ?_
        exact ih _ _ _ _ _ _ hwp hw (lv_sub hl [1, 2, 0] rfl)
set_option maxHeartbeats 4000000 in
theorem wk_X12_flush_125 {p : Program} {l : Launch} {e : Env} {s : State} {m : MethodId} {args : Array Value} {below : List Frame} {meth : Method} {c : Code} {A : Nat → Prop} {dC : Nat → ClassId} {dI : Nat → Nat → Nat} {d : Nat → ClassId} {h : Nat → Nat} {K : Int32 → St → Prop} (cx : Cx p s m args meth c cX12_flush RX12 3 (some .int) A dC dI d) : ∀ (x1 : Int32) (x2 : Int32) (u : St) (H : Heap) (locs : List Loc) (ls : Array Slot), wp_X12_flush_125 K x1 x2 u → Wd dC dI A ((wM d h) u) s H locs → lv_has ls 3 [(1, .int x1), (2, .int x2)] → W p l e ({ frames := 5, cells := 0, slots := 0, locals := 122 } : Room) s m args below meth c H locs 0 0 (MQ below (kQi dC dI (wM d h) K A) args s 0 0 A) (F0 m 125 ls []) := by
  intro x1 x2 u H locs ls hwp hw hl
  unfold wp_X12_flush_125 at hwp
  refine lv_iload_n (pc := 125) cx.1 cx.2.1 dX12_flush_125 rfl (lv_at hl 1 rfl) ?_
  have hJ2 : ∀ z1 : Int32, z1 = (if x2 = 0 then x1 else x2) → W p l e ({ frames := 5, cells := 0, slots := 0, locals := 122 } : Room) s m args below meth c H locs 0 0 (MQ below (kQi dC dI (wM d h) K A) args s 0 0 A) (F0 m 134 ls [.int z1]) := by
    intro z1 ez1
    replace hwp := hwp z1 ez1
    exact k_iret (pc := 134) (wf := (wM d h)) (u := u) cx hw hwp (by decide) (by decide) dX12_flush_134
  clear hwp
  refine lv_if_ne (pc := 126) (tgt := 133) cx.1 cx.2.1 dX12_flush_126 (by decide) (fun c3 => ?_) (fun c3 => ?_)
  · skip
    refine lv_iload_n (pc := 133) cx.1 cx.2.1 dX12_flush_133 rfl (lv_at hl 1 rfl) ?_
    exact hJ2 _ (if_neg c3).symm
  · skip
    refine lv_iload_n (pc := 129) cx.1 cx.2.1 dX12_flush_129 rfl (lv_at hl 0 rfl) ?_
    refine lv_goto (pc := 130) (tgt := 134) cx.1 cx.2.1 dX12_flush_130 (by decide) ?_
    exact hJ2 _ (if_pos c3).symm
set_option maxHeartbeats 4000000 in
theorem wk_X12_flush_95 {p : Program} {l : Launch} {e : Env} {s : State} {m : MethodId} {args : Array Value} {below : List Frame} {meth : Method} {c : Code} {A : Nat → Prop} {dC : Nat → ClassId} {dI : Nat → Nat → Nat} {d : Nat → ClassId} {h : Nat → Nat} {K : Int32 → St → Prop} (cx : Cx p s m args meth c cX12_flush RX12 3 (some .int) A dC dI d) : ∀  (u : St) (H : Heap) (locs : List Loc) (ls : Array Slot), wp_X12_flush_95 K  u → Wd dC dI A ((wM d h) u) s H locs → lv_has ls 3 [(0, .ref (h 0))] → W p l e ({ frames := 5, cells := 0, slots := 0, locals := 122 } : Room) s m args below meth c H locs 0 0 (MQ below (kQi dC dI (wM d h) K A) args s 0 0 A) (F0 m 95 ls []) := by
  intro  u H locs ls hwp hw hl
  unfold wp_X12_flush_95 at hwp
  refine lv_aload_n (pc := 95) cx.1 cx.2.1 dX12_flush_95 rfl (lv_at hl 0 rfl) ?_
  refine k_getI (pc := 96) (u := u) (v := (u.1 27)) cx hw (ln_X12_this_27 d h) (C := RX12) (T := TX12) (N := 40) rfl in_X12 (by decide) q1004 (fun _ h9 => h9) rfl dX12_flush_96 ?_
  refine lv_aload_n (pc := 99) cx.1 cx.2.1 dX12_flush_99 rfl (lv_at hl 0 rfl) ?_
  refine k_getI (pc := 100) (u := u) (v := (u.1 18)) cx hw (ln_X12_this_18 d h) (C := RX12) (T := TX12) (N := 40) rfl in_X12 (by decide) q995 (fun _ h9 => h9) rfl dX12_flush_100 ?_
  refine lv_isub (pc := 103) cx.1 cx.2.1 dX12_flush_103 ?_
  refine lv_istore_n (pc := 104) (lv' := [(1, .int ((u.1 27) - (u.1 18))), (0, .ref (h 0))]) cx.1 cx.2.1 dX12_flush_104 rfl hl (by decide) rfl (fun ls hl => ?_)
  refine lv_aload_n (pc := 105) cx.1 cx.2.1 dX12_flush_105 rfl (lv_at hl 1 rfl) ?_
  refine lv_aload_n (pc := 106) cx.1 cx.2.1 dX12_flush_106 rfl (lv_at hl 1 rfl) ?_
  refine k_getI (pc := 107) (u := u) (v := (u.1 19)) cx hw (ln_X12_this_19 d h) (C := RX12) (T := TX12) (N := 40) rfl in_X12 (by decide) q996 (fun _ h9 => h9) rfl dX12_flush_107 ?_
  refine lv_iconst (pc := 110) (v := 1) cx.1 cx.2.1 dX12_flush_110 (by decide) ?_
  refine lv_iadd (pc := 111) cx.1 cx.2.1 dX12_flush_111 ?_
  refine k_whole_i (pc := 112) (wf := (wM d h)) (u := u) cx hw (k_runV (pc := 112) (rest := []) (As := [.int ((u.1 19) + (1 : Int32))]) cx hw.1 (hw.2.1.weaken (fun _ _ _ _ => trivial)) hw.2.2 (k_recv cx hw 0 (ci := 10) (q := (RX12, TX12, 40)) rfl rfl) (m_X12_turn l dC dI d h  u ((u.1 19) + (1 : Int32)) hwp H.size) (cwV 1 cx.2.2.2.2.1 (lw_V q1150 q1152 qs42 q89 q1153) rfl rfl rfl hdV_X12_turn ⟨Nat.le_of_ble_eq_true rfl, Nat.le_of_ble_eq_true rfl⟩) rfl hl.1 rfl (Nat.le_of_ble_eq_true rfl) dX12_flush_112 ⟨Nat.le_of_ble_eq_true rfl, Nat.le_of_ble_eq_true rfl⟩) (fun r2 u1 H locs hwp hw => ?_)
  refine lv_istore_n (pc := 115) (lv' := [(2, .int r2), (1, .int ((u.1 27) - (u.1 18))), (0, .ref (h 0))]) cx.1 cx.2.1 dX12_flush_115 rfl hl (by decide) rfl (fun ls hl => ?_)
  refine lv_iload_n (pc := 116) cx.1 cx.2.1 dX12_flush_116 rfl (lv_at hl 0 rfl) ?_
  refine lv_if_ne (pc := 117) (tgt := 125) cx.1 cx.2.1 dX12_flush_117 (by decide) (fun c3 => ?_) (fun c3 => ?_)
  · replace hwp := hwp.1 c3
    exact wk_X12_flush_125 cx _ _ _ _ _ _ hwp hw (lv_sub hl [1, 0] rfl)
  · replace hwp := hwp.2 c3
    refine lv_aload_n (pc := 120) cx.1 cx.2.1 dX12_flush_120 rfl (lv_at hl 2 rfl) ?_
    refine lv_iconst (pc := 121) (v := 0) cx.1 cx.2.1 dX12_flush_121 (by decide) ?_
    refine k_putI (pc := 122) (u := u1) (v := (0 : Int32)) cx hw (ln_X12_this_24 d h) (C := RX12) (T := TX12) (N := 40) rfl in_X12 tyX12 tyX12_ok nmX12 (by decide) q1001 (fun _ h9 => h9) rfl rfl rfl dX12_flush_122 (fun H locs hw => ?_)
    exact wk_X12_flush_125 cx _ _ _ _ _ _ hwp hw (lv_sub hl [1, 0] rfl)
set_option maxHeartbeats 4000000 in
theorem wk_X12_flush_34 {p : Program} {l : Launch} {e : Env} {s : State} {m : MethodId} {args : Array Value} {below : List Frame} {meth : Method} {c : Code} {A : Nat → Prop} {dC : Nat → ClassId} {dI : Nat → Nat → Nat} {d : Nat → ClassId} {h : Nat → Nat} {K : Int32 → St → Prop} (cx : Cx p s m args meth c cX12_flush RX12 3 (some .int) A dC dI d) : ∀ (n : Nat) (x1 : Int32) (u : St) (H : Heap) (locs : List Loc) (ls : Array Slot), wp_X12_flush_34 K n x1 u → Wd dC dI A ((wM d h) u) s H locs → lv_has ls 3 [(0, .ref (h 0)), (1, .int x1)] → W p l e ({ frames := 5, cells := 0, slots := 0, locals := 122 } : Room) s m args below meth c H locs 0 0 (MQ below (kQi dC dI (wM d h) K A) args s 0 0 A) (F0 m 34 ls []) := by
  intro n
  induction n with
  | zero =>
    intros; contradiction
  | succ n ih =>
    intro x1 u H locs ls hwp hw hl
    unfold wp_X12_flush_34 at hwp
    refine lv_iload_n (pc := 34) cx.1 cx.2.1 dX12_flush_34 rfl (lv_at hl 1 rfl) ?_
    refine lv_aload_n (pc := 35) cx.1 cx.2.1 dX12_flush_35 rfl (lv_at hl 0 rfl) ?_
    refine k_getI (pc := 36) (u := u) (v := (u.1 1)) cx hw (ln_X12_this_1 d h) (C := RX12) (T := TX12) (N := 40) rfl in_X12 (by decide) q978 (fun _ h9 => h9) rfl dX12_flush_36 ?_
    refine lv_icmp_ge (pc := 39) (tgt := 95) cx.1 cx.2.1 dX12_flush_39 (by decide) (fun c1 => ?_) (fun c1 => ?_)
    · replace hwp := hwp.1 c1
      exact wk_X12_flush_95 cx  _ _ _ _ hwp hw (lv_sub hl [0] rfl)
    · replace hwp := hwp.2 c1
      refine lv_iconst (pc := 42) (v := 0) cx.1 cx.2.1 dX12_flush_42 (by decide) ?_
      refine lv_istore_n (pc := 43) (lv' := [(2, .int (0 : Int32)), (0, .ref (h 0)), (1, .int x1)]) cx.1 cx.2.1 dX12_flush_43 rfl hl (by decide) rfl (fun ls hl => ?_)
      obtain ⟨n44, hwp⟩ := hwp
      exact wk_X12_flush_44 cx ih n44 _ _ _ _ _ _ hwp hw (lv_sub hl [1, 2, 0] rfl)
set_option maxHeartbeats 4000000 in
theorem m_X12_flush (l : Launch) (dC : Nat → ClassId) (dI : Nat → Nat → Nat) (d : Nat → ClassId) (h : Nat → Nat) (u : St) {K : Int32 → St → Prop} (hwp : wp_X12_flush u K) : kM l yX12_flush cX12_flush 3 (some .int) ({ frames := 5, cells := 0, slots := 0, locals := 122 } : Room) dC dI d [.ref (h 0)] (wM d h) u (kQi dC dI (wM d h) K) 0 0 := by
  refine kM_start rfl (Nat.le_of_ble_eq_true rfl) ?_
  intro p e s m below meth c A ls cx hnm hw hl
  generalize hargs : ([.ref (h 0)] : List Value).toArray = args at cx ⊢
  unfold wp_X12_flush at hwp
  replace hl : lv_has ls 3 [(0, .ref (h 0))] := hl
  generalize hH : s.heap = H at hw ⊢
  generalize hlo : ([] : List Loc) = locs at hw ⊢
  refine lv_aload_n (pc := 0) cx.1 cx.2.1 dX12_flush_0 rfl (lv_at hl 0 rfl) ?_
  refine lv_iconst (pc := 1) (v := 0) cx.1 cx.2.1 dX12_flush_1 (by decide) ?_
  refine k_putI (pc := 2) (u := u) (v := (0 : Int32)) cx hw (ln_X12_this_0 d h) (C := RX12) (T := TX12) (N := 40) rfl in_X12 tyX12 tyX12_ok nmX12 (by decide) q977 (fun _ h9 => h9) rfl rfl rfl dX12_flush_2 (fun H locs hw => ?_)
  refine lv_aload_n (pc := 5) cx.1 cx.2.1 dX12_flush_5 rfl (lv_at hl 0 rfl) ?_
  refine k_whole_v (pc := 6) (wf := (wM d h)) (u := (st_I u 0 (0 : Int32))) cx hw (k_runV (pc := 6) (rest := []) (As := []) cx hw.1 (hw.2.1.weaken (fun _ _ _ _ => trivial)) hw.2.2 (k_recv cx hw 0 (ci := 10) (q := (RX12, TX12, 40)) rfl rfl) (m_X12_dropCursor l dC dI d h  (st_I u 0 (0 : Int32))  hwp H.size) (cwV 0 cx.2.2.2.2.1 (lw_V q1106 q1108 qs32 q89 q1109) rfl rfl rfl hdV_X12_dropCursor ⟨Nat.le_of_ble_eq_true rfl, Nat.le_of_ble_eq_true rfl⟩) rfl hl.1 rfl (Nat.le_of_ble_eq_true rfl) dX12_flush_6 ⟨Nat.le_of_ble_eq_true rfl, Nat.le_of_ble_eq_true rfl⟩) (fun u1 H locs hwp hw => ?_)
  refine lv_aload_n (pc := 9) cx.1 cx.2.1 dX12_flush_9 rfl (lv_at hl 0 rfl) ?_
  refine k_getI (pc := 10) (u := u1) (v := (u1.1 7)) cx hw (ln_X12_this_7 d h) (C := RX12) (T := TX12) (N := 40) rfl in_X12 (by decide) q984 (fun _ h9 => h9) rfl dX12_flush_10 ?_
  refine lv_if_eq (pc := 13) (tgt := 19) cx.1 cx.2.1 dX12_flush_13 (by decide) (fun c3 => ?_) (fun c3 => ?_)
  · replace hwp := hwp.1 c3
    refine lv_aload_n (pc := 19) cx.1 cx.2.1 dX12_flush_19 rfl (lv_at hl 0 rfl) ?_
    refine k_getI (pc := 20) (u := u1) (v := (u1.1 24)) cx hw (ln_X12_this_24 d h) (C := RX12) (T := TX12) (N := 40) rfl in_X12 (by decide) q1001 (fun _ h9 => h9) rfl dX12_flush_20 ?_
    refine lv_if_ne (pc := 23) (tgt := 28) cx.1 cx.2.1 dX12_flush_23 (by decide) (fun c4 => ?_) (fun c4 => ?_)
    · replace hwp := hwp.1 c4
      refine lv_aload_n (pc := 28) cx.1 cx.2.1 dX12_flush_28 rfl (lv_at hl 0 rfl) ?_
      refine k_whole_v (pc := 29) (wf := (wM d h)) (u := u1) cx hw (k_runV (pc := 29) (rest := []) (As := []) cx hw.1 (hw.2.1.weaken (fun _ _ _ _ => trivial)) hw.2.2 (k_recv cx hw 0 (ci := 10) (q := (RX12, TX12, 40)) rfl rfl) (m_X12_beginNext l dC dI d h  u1  hwp H.size) (cwV 0 cx.2.2.2.2.1 (lw_V q1126 q1128 qs36 q89 q1129) rfl rfl rfl hdV_X12_beginNext ⟨Nat.le_of_ble_eq_true rfl, Nat.le_of_ble_eq_true rfl⟩) rfl hl.1 rfl (Nat.le_of_ble_eq_true rfl) dX12_flush_29 ⟨Nat.le_of_ble_eq_true rfl, Nat.le_of_ble_eq_true rfl⟩) (fun u5 H locs hwp hw => ?_)
      refine lv_iconst (pc := 32) (v := 0) cx.1 cx.2.1 dX12_flush_32 (by decide) ?_
      refine lv_istore_n (pc := 33) (lv' := [(1, .int (0 : Int32)), (0, .ref (h 0))]) cx.1 cx.2.1 dX12_flush_33 rfl hl (by decide) rfl (fun ls hl => ?_)
      obtain ⟨n34, hwp⟩ := hwp
      exact wk_X12_flush_34 cx n34 _ _ _ _ _ hwp hw (lv_sub hl [1, 0] rfl)
    · replace hwp := hwp.2 c4
      refine lv_iconst (pc := 26) (v := 0) cx.1 cx.2.1 dX12_flush_26 (by decide) ?_
      exact k_iret (pc := 27) (wf := (wM d h)) (u := u1) cx hw hwp (by decide) (by decide) dX12_flush_27
  · replace hwp := hwp.2 c3
    refine lv_bipush (pc := 16) (v := -9) cx.1 cx.2.1 dX12_flush_16 (by decide) ?_
    exact k_iret (pc := 18) (wf := (wM d h)) (u := u1) cx hw hwp (by decide) (by decide) dX12_flush_18
set_option maxHeartbeats 4000000 in
theorem wk_X12_together_14 {p : Program} {l : Launch} {e : Env} {s : State} {m : MethodId} {args : Array Value} {below : List Frame} {meth : Method} {c : Code} {A : Nat → Prop} {dC : Nat → ClassId} {dI : Nat → Nat → Nat} {d : Nat → ClassId} {h : Nat → Nat} {K : Int32 → St → Prop} (cx : Cx p s m args meth c cX12_together RX12 4 (some .int) A dC dI d) : ∀ (n : Nat) (x1 : Int32) (x2 : Int32) (x3 : Int32) (u : St) (H : Heap) (locs : List Loc) (ls : Array Slot), wp_X12_together_14 K n x1 x2 x3 u → Wd dC dI A ((wM d h) u) s H locs → lv_has ls 4 [(0, .ref (h 0)), (1, .int x1), (2, .int x2), (3, .int x3)] → W p l e ({ frames := 0, cells := 0, slots := 0, locals := 0 } : Room) s m args below meth c H locs 0 0 (MQ below (kQi dC dI (wM d h) K A) args s 0 0 A) (F0 m 14 ls []) := by
  intro n
  induction n with
  | zero =>
    intros; contradiction
  | succ n ih =>
    intro x1 x2 x3 u H locs ls hwp hw hl
    unfold wp_X12_together_14 at hwp
    refine lv_iload_n (pc := 14) cx.1 cx.2.1 dX12_together_14 rfl (lv_at hl 1 rfl) ?_
    refine lv_iload_n (pc := 15) cx.1 cx.2.1 dX12_together_15 rfl (lv_at hl 2 rfl) ?_
    refine lv_iadd (pc := 16) cx.1 cx.2.1 dX12_together_16 ?_
    refine lv_aload_n (pc := 17) cx.1 cx.2.1 dX12_together_17 rfl (lv_at hl 0 rfl) ?_
    refine k_getI (pc := 18) (u := u) (v := (u.1 18)) cx hw (ln_X12_this_18 d h) (C := RX12) (T := TX12) (N := 40) rfl in_X12 (by decide) q995 (fun _ h9 => h9) rfl dX12_together_18 ?_
    refine lv_icmp_ge (pc := 21) (tgt := 95) cx.1 cx.2.1 dX12_together_21 (by decide) (fun c1 => ?_) (fun c1 => ?_)
    · replace hwp := hwp.1 c1
      refine lv_iload_n (pc := 95) cx.1 cx.2.1 dX12_together_95 rfl (lv_at hl 2 rfl) ?_
      exact k_iret (pc := 96) (wf := (wM d h)) (u := u) cx hw hwp (by decide) (by decide) dX12_together_96
    · replace hwp := hwp.2 c1
      refine lv_aload_n (pc := 24) cx.1 cx.2.1 dX12_together_24 rfl (lv_at hl 0 rfl) ?_
      refine k_getR (pc := 25) (u := u) (v := .ref (h 2)) cx hw (lr_X12_this_11 d h) (C := RX12) (T := TX12) (N := 40) rfl in_X12 (by decide) q988 (fun _ h9 => h9) rfl dX12_together_25 ?_
      refine lv_aload_n (pc := 28) cx.1 cx.2.1 dX12_together_28 rfl (lv_at hl 0 rfl) ?_
      refine k_getR (pc := 29) (u := u) (v := .ref (h 8)) cx hw (lr_X12_this_17 d h) (C := RX12) (T := TX12) (N := 40) rfl in_X12 (by decide) q994 (fun _ h9 => h9) rfl dX12_together_29 ?_
      refine lv_iload_n (pc := 32) cx.1 cx.2.1 dX12_together_32 rfl (lv_at hl 1 rfl) ?_
      refine lv_iload_n (pc := 33) cx.1 cx.2.1 dX12_together_33 rfl (lv_at hl 2 rfl) ?_
      refine lv_iadd (pc := 34) cx.1 cx.2.1 dX12_together_34 ?_
      refine k_iald (pc := 35) (u := u) (f := (u.2.1 17)) cx hw (lx_X12_this_17 d h) 0 rfl rfl hwp.1 dX12_together_35 ?_
      replace hwp := hwp.2
      refine k_iald (pc := 36) (u := u) (f := (u.2.1 11)) cx hw (lx_X12_this_11 d h) 0 rfl rfl hwp.1 dX12_together_36 ?_
      replace hwp := hwp.2
      refine lv_aload_n (pc := 37) cx.1 cx.2.1 dX12_together_37 rfl (lv_at hl 0 rfl) ?_
      refine k_getR (pc := 38) (u := u) (v := .ref (h 2)) cx hw (lr_X12_this_11 d h) (C := RX12) (T := TX12) (N := 40) rfl in_X12 (by decide) q988 (fun _ h9 => h9) rfl dX12_together_38 ?_
      refine lv_aload_n (pc := 41) cx.1 cx.2.1 dX12_together_41 rfl (lv_at hl 0 rfl) ?_
      refine k_getR (pc := 42) (u := u) (v := .ref (h 8)) cx hw (lr_X12_this_17 d h) (C := RX12) (T := TX12) (N := 40) rfl in_X12 (by decide) q994 (fun _ h9 => h9) rfl dX12_together_42 ?_
      refine lv_iload_n (pc := 45) cx.1 cx.2.1 dX12_together_45 rfl (lv_at hl 1 rfl) ?_
      refine k_iald (pc := 46) (u := u) (f := (u.2.1 17)) cx hw (lx_X12_this_17 d h) 0 rfl rfl hwp.1 dX12_together_46 ?_
      replace hwp := hwp.2
      refine k_iald (pc := 47) (u := u) (f := (u.2.1 11)) cx hw (lx_X12_this_11 d h) 0 rfl rfl hwp.1 dX12_together_47 ?_
      replace hwp := hwp.2
      refine lv_icmp_ne (pc := 48) (tgt := 95) cx.1 cx.2.1 dX12_together_48 (by decide) (fun c2 => ?_) (fun c2 => ?_)
      · replace hwp := hwp.1 c2
        refine lv_iload_n (pc := 95) cx.1 cx.2.1 dX12_together_95 rfl (lv_at hl 2 rfl) ?_
        exact k_iret (pc := 96) (wf := (wM d h)) (u := u) cx hw hwp (by decide) (by decide) dX12_together_96
      · replace hwp := hwp.2 c2
        refine lv_iload_n (pc := 51) cx.1 cx.2.1 dX12_together_51 rfl (lv_at hl 3 rfl) ?_
        refine lv_aload_n (pc := 52) cx.1 cx.2.1 dX12_together_52 rfl (lv_at hl 0 rfl) ?_
        refine k_getR (pc := 53) (u := u) (v := .ref (h 3)) cx hw (lr_X12_this_12 d h) (C := RX12) (T := TX12) (N := 40) rfl in_X12 (by decide) q989 (fun _ h9 => h9) rfl dX12_together_53 ?_
        refine lv_aload_n (pc := 56) cx.1 cx.2.1 dX12_together_56 rfl (lv_at hl 0 rfl) ?_
        refine k_getR (pc := 57) (u := u) (v := .ref (h 8)) cx hw (lr_X12_this_17 d h) (C := RX12) (T := TX12) (N := 40) rfl in_X12 (by decide) q994 (fun _ h9 => h9) rfl dX12_together_57 ?_
        refine lv_iload_n (pc := 60) cx.1 cx.2.1 dX12_together_60 rfl (lv_at hl 1 rfl) ?_
        refine lv_iload_n (pc := 61) cx.1 cx.2.1 dX12_together_61 rfl (lv_at hl 2 rfl) ?_
        refine lv_iadd (pc := 62) cx.1 cx.2.1 dX12_together_62 ?_
        refine k_iald (pc := 63) (u := u) (f := (u.2.1 17)) cx hw (lx_X12_this_17 d h) 0 rfl rfl hwp.1 dX12_together_63 ?_
        replace hwp := hwp.2
        refine k_iald (pc := 64) (u := u) (f := (u.2.1 12)) cx hw (lx_X12_this_12 d h) 0 rfl rfl hwp.1 dX12_together_64 ?_
        replace hwp := hwp.2
        refine lv_iadd (pc := 65) cx.1 cx.2.1 dX12_together_65 ?_
        refine lv_aload_n (pc := 66) cx.1 cx.2.1 dX12_together_66 rfl (lv_at hl 0 rfl) ?_
        refine k_getI (pc := 67) (u := u) (v := (u.1 2)) cx hw (ln_X12_this_2 d h) (C := RX12) (T := TX12) (N := 40) rfl in_X12 (by decide) q979 (fun _ h9 => h9) rfl dX12_together_67 ?_
        refine lv_icmp_gt (pc := 70) (tgt := 95) cx.1 cx.2.1 dX12_together_70 (by decide) (fun c3 => ?_) (fun c3 => ?_)
        · replace hwp := hwp.1 c3
          refine lv_iload_n (pc := 95) cx.1 cx.2.1 dX12_together_95 rfl (lv_at hl 2 rfl) ?_
          exact k_iret (pc := 96) (wf := (wM d h)) (u := u) cx hw hwp (by decide) (by decide) dX12_together_96
        · replace hwp := hwp.2 c3
          refine lv_iload_n (pc := 73) cx.1 cx.2.1 dX12_together_73 rfl (lv_at hl 3 rfl) ?_
          refine lv_aload_n (pc := 74) cx.1 cx.2.1 dX12_together_74 rfl (lv_at hl 0 rfl) ?_
          refine k_getR (pc := 75) (u := u) (v := .ref (h 3)) cx hw (lr_X12_this_12 d h) (C := RX12) (T := TX12) (N := 40) rfl in_X12 (by decide) q989 (fun _ h9 => h9) rfl dX12_together_75 ?_
          refine lv_aload_n (pc := 78) cx.1 cx.2.1 dX12_together_78 rfl (lv_at hl 0 rfl) ?_
          refine k_getR (pc := 79) (u := u) (v := .ref (h 8)) cx hw (lr_X12_this_17 d h) (C := RX12) (T := TX12) (N := 40) rfl in_X12 (by decide) q994 (fun _ h9 => h9) rfl dX12_together_79 ?_
          refine lv_iload_n (pc := 82) cx.1 cx.2.1 dX12_together_82 rfl (lv_at hl 1 rfl) ?_
          refine lv_iload_n (pc := 83) cx.1 cx.2.1 dX12_together_83 rfl (lv_at hl 2 rfl) ?_
          refine lv_iadd (pc := 84) cx.1 cx.2.1 dX12_together_84 ?_
          refine k_iald (pc := 85) (u := u) (f := (u.2.1 17)) cx hw (lx_X12_this_17 d h) 0 rfl rfl hwp.1 dX12_together_85 ?_
          replace hwp := hwp.2
          refine k_iald (pc := 86) (u := u) (f := (u.2.1 12)) cx hw (lx_X12_this_12 d h) 0 rfl rfl hwp.1 dX12_together_86 ?_
          replace hwp := hwp.2
          refine lv_iadd (pc := 87) cx.1 cx.2.1 dX12_together_87 ?_
          refine lv_istore_n (pc := 88) (lv' := [(3, .int (x3 + ((u.2.1 12) ((u.2.1 17) (x1 + x2).toNatClampNeg).toNatClampNeg))), (0, .ref (h 0)), (1, .int x1), (2, .int x2)]) cx.1 cx.2.1 dX12_together_88 rfl hl (by decide) rfl (fun ls hl => ?_)
          refine lv_iinc (pc := 89) (v := (x2 + (1 : Int32))) (lv' := [(2, .int (x2 + (1 : Int32))), (3, .int (x3 + ((u.2.1 12) ((u.2.1 17) (x1 + x2).toNatClampNeg).toNatClampNeg))), (0, .ref (h 0)), (1, .int x1)]) cx.1 cx.2.1 dX12_together_89 hl (k := 3) rfl rfl (by decide) rfl (fun ls hl => ?_)
          refine lv_goto (pc := 92) (tgt := 14) cx.1 cx.2.1 dX12_together_92 (by decide) ?_
          exact ih _ _ _ _ _ _ _ hwp hw (lv_sub hl [2, 3, 0, 1] rfl)
set_option maxHeartbeats 4000000 in
theorem m_X12_together (l : Launch) (dC : Nat → ClassId) (dI : Nat → Nat → Nat) (d : Nat → ClassId) (h : Nat → Nat) (u : St) (x1 : Int32) {K : Int32 → St → Prop} (hwp : wp_X12_together u x1 K) : kM l yX12_together cX12_together 4 (some .int) ({ frames := 0, cells := 0, slots := 0, locals := 0 } : Room) dC dI d [.ref (h 0), .int x1] (wM d h) u (kQi dC dI (wM d h) K) 0 0 := by
  refine kM_start rfl (Nat.le_of_ble_eq_true rfl) ?_
  intro p e s m below meth c A ls cx hnm hw hl
  generalize hargs : ([.ref (h 0), .int x1] : List Value).toArray = args at cx ⊢
  unfold wp_X12_together at hwp
  replace hl : lv_has ls 4 [(0, .ref (h 0)), (1, .int x1)] := hl
  generalize hH : s.heap = H at hw ⊢
  generalize hlo : ([] : List Loc) = locs at hw ⊢
  refine lv_iconst (pc := 0) (v := 1) cx.1 cx.2.1 dX12_together_0 (by decide) ?_
  refine lv_istore_n (pc := 1) (lv' := [(2, .int (1 : Int32)), (0, .ref (h 0)), (1, .int x1)]) cx.1 cx.2.1 dX12_together_1 rfl hl (by decide) rfl (fun ls hl => ?_)
  refine lv_aload_n (pc := 2) cx.1 cx.2.1 dX12_together_2 rfl (lv_at hl 1 rfl) ?_
  refine k_getR (pc := 3) (u := u) (v := .ref (h 3)) cx hw (lr_X12_this_12 d h) (C := RX12) (T := TX12) (N := 40) rfl in_X12 (by decide) q989 (fun _ h9 => h9) rfl dX12_together_3 ?_
  refine lv_aload_n (pc := 6) cx.1 cx.2.1 dX12_together_6 rfl (lv_at hl 1 rfl) ?_
  refine k_getR (pc := 7) (u := u) (v := .ref (h 8)) cx hw (lr_X12_this_17 d h) (C := RX12) (T := TX12) (N := 40) rfl in_X12 (by decide) q994 (fun _ h9 => h9) rfl dX12_together_7 ?_
  refine lv_iload_n (pc := 10) cx.1 cx.2.1 dX12_together_10 rfl (lv_at hl 2 rfl) ?_
  refine k_iald (pc := 11) (u := u) (f := (u.2.1 17)) cx hw (lx_X12_this_17 d h) 0 rfl rfl hwp.1 dX12_together_11 ?_
  replace hwp := hwp.2
  refine k_iald (pc := 12) (u := u) (f := (u.2.1 12)) cx hw (lx_X12_this_12 d h) 0 rfl rfl hwp.1 dX12_together_12 ?_
  replace hwp := hwp.2
  refine lv_istore_n (pc := 13) (lv' := [(3, .int ((u.2.1 12) ((u.2.1 17) x1.toNatClampNeg).toNatClampNeg)), (2, .int (1 : Int32)), (0, .ref (h 0)), (1, .int x1)]) cx.1 cx.2.1 dX12_together_13 rfl hl (by decide) rfl (fun ls hl => ?_)
  obtain ⟨n14, hwp⟩ := hwp
  exact wk_X12_together_14 cx n14 _ _ _ _ _ _ _ hwp hw (lv_sub hl [2, 3, 1, 0] rfl)
set_option maxHeartbeats 4000000 in
theorem wk_X12_joined_49 {p : Program} {l : Launch} {e : Env} {s : State} {m : MethodId} {args : Array Value} {below : List Frame} {meth : Method} {c : Code} {A : Nat → Prop} {dC : Nat → ClassId} {dI : Nat → Nat → Nat} {d : Nat → ClassId} {h : Nat → Nat} {C38 : Int32 → Int32 → Int32 → Int32 → St → Prop} {K : St → Prop} (cx : Cx p s m args meth c cX12_joined RX12 6 none A dC dI d) (hC38 : ∀ (x1 : Int32) (x2 : Int32) (x3 : Int32) (x4 : Int32) (u : St) (H : Heap) (locs : List Loc) (ls : Array Slot), C38 x1 x2 x3 x4 u → Wd dC dI A ((wM d h) u) s H locs → lv_has ls 6 [(0, .ref (h 0)), (1, .int x1), (2, .int x2), (3, .int x3), (4, .int x4)] → W p l e ({ frames := 2, cells := 0, slots := 0, locals := 44 } : Room) s m args below meth c H locs 0 0 (MQ below (kQv dC dI (wM d h) K A) args s 0 0 A) (F0 m 38 ls [])) : ∀ (n : Nat) (x1 : Int32) (x2 : Int32) (x3 : Int32) (x4 : Int32) (x5 : Int32) (u : St) (H : Heap) (locs : List Loc) (ls : Array Slot), wp_X12_joined_49 C38 K n x1 x2 x3 x4 x5 u → Wd dC dI A ((wM d h) u) s H locs → lv_has ls 6 [(0, .ref (h 0)), (1, .int x1), (2, .int x2), (3, .int x3), (4, .int x4), (5, .int x5)] → W p l e ({ frames := 2, cells := 0, slots := 0, locals := 44 } : Room) s m args below meth c H locs 0 0 (MQ below (kQv dC dI (wM d h) K A) args s 0 0 A) (F0 m 49 ls []) := by
  intro n
  induction n with
  | zero =>
    intros; contradiction
  | succ n ih =>
    intro x1 x2 x3 x4 x5 u H locs ls hwp hw hl
    unfold wp_X12_joined_49 at hwp
    refine lv_iload (pc := 49) cx.1 cx.2.1 dX12_joined_49 (lv_at hl 5 rfl) ?_
    refine lv_aload_n (pc := 51) cx.1 cx.2.1 dX12_joined_51 rfl (lv_at hl 0 rfl) ?_
    refine k_getR (pc := 52) (u := u) (v := .ref (h 3)) cx hw (lr_X12_this_12 d h) (C := RX12) (T := TX12) (N := 40) rfl in_X12 (by decide) q989 (fun _ h9 => h9) rfl dX12_joined_52 ?_
    refine lv_aload_n (pc := 55) cx.1 cx.2.1 dX12_joined_55 rfl (lv_at hl 0 rfl) ?_
    refine k_getR (pc := 56) (u := u) (v := .ref (h 8)) cx hw (lr_X12_this_17 d h) (C := RX12) (T := TX12) (N := 40) rfl in_X12 (by decide) q994 (fun _ h9 => h9) rfl dX12_joined_56 ?_
    refine lv_iload (pc := 59) cx.1 cx.2.1 dX12_joined_59 (lv_at hl 4 rfl) ?_
    refine k_iald (pc := 61) (u := u) (f := (u.2.1 17)) cx hw (lx_X12_this_17 d h) 0 rfl rfl hwp.1 dX12_joined_61 ?_
    replace hwp := hwp.2
    refine k_iald (pc := 62) (u := u) (f := (u.2.1 12)) cx hw (lx_X12_this_12 d h) 0 rfl rfl hwp.1 dX12_joined_62 ?_
    replace hwp := hwp.2
    refine lv_icmp_ge (pc := 63) (tgt := 113) cx.1 cx.2.1 dX12_joined_63 (by decide) (fun c1 => ?_) (fun c1 => ?_)
    · replace hwp := hwp.1 c1
      refine lv_iinc (pc := 113) (v := (x4 + (1 : Int32))) (lv' := [(4, .int (x4 + (1 : Int32))), (0, .ref (h 0)), (1, .int x1), (2, .int x2), (3, .int x3), (5, .int x5)]) cx.1 cx.2.1 dX12_joined_113 hl (k := 4) rfl rfl (by decide) rfl (fun ls hl => ?_)
      refine lv_goto (pc := 116) (tgt := 38) cx.1 cx.2.1 dX12_joined_116 (by decide) ?_
      exact hC38 _ _ _ _ _ _ _ _ hwp hw (lv_sub hl [1, 2, 3, 4, 0] rfl)
    · replace hwp := hwp.2 c1
      refine lv_aload_n (pc := 66) cx.1 cx.2.1 dX12_joined_66 rfl (lv_at hl 0 rfl) ?_
      refine lv_iload_n (pc := 67) cx.1 cx.2.1 dX12_joined_67 rfl (lv_at hl 3 rfl) ?_
      refine lv_aload_n (pc := 68) cx.1 cx.2.1 dX12_joined_68 rfl (lv_at hl 0 rfl) ?_
      refine k_getR (pc := 69) (u := u) (v := .ref (h 6)) cx hw (lr_X12_this_15 d h) (C := RX12) (T := TX12) (N := 40) rfl in_X12 (by decide) q992 (fun _ h9 => h9) rfl dX12_joined_69 ?_
      refine lv_bipush (pc := 72) (v := 64) cx.1 cx.2.1 dX12_joined_72 (by decide) ?_
      refine lv_aload_n (pc := 74) cx.1 cx.2.1 dX12_joined_74 rfl (lv_at hl 0 rfl) ?_
      refine k_getR (pc := 75) (u := u) (v := .ref (h 8)) cx hw (lr_X12_this_17 d h) (C := RX12) (T := TX12) (N := 40) rfl in_X12 (by decide) q994 (fun _ h9 => h9) rfl dX12_joined_75 ?_
      refine lv_iload (pc := 78) cx.1 cx.2.1 dX12_joined_78 (lv_at hl 4 rfl) ?_
      refine k_iald (pc := 80) (u := u) (f := (u.2.1 17)) cx hw (lx_X12_this_17 d h) 0 rfl rfl hwp.1 dX12_joined_80 ?_
      replace hwp := hwp.2
      refine lv_imul (pc := 81) cx.1 cx.2.1 dX12_joined_81 ?_
      refine lv_iload (pc := 82) cx.1 cx.2.1 dX12_joined_82 (lv_at hl 5 rfl) ?_
      refine lv_iadd (pc := 84) cx.1 cx.2.1 dX12_joined_84 ?_
      refine k_iald (pc := 85) (u := u) (f := (u.2.1 15)) cx hw (lx_X12_this_15 d h) 0 rfl rfl hwp.1 dX12_joined_85 ?_
      replace hwp := hwp.2
      refine lv_aload_n (pc := 86) cx.1 cx.2.1 dX12_joined_86 rfl (lv_at hl 0 rfl) ?_
      refine k_getR (pc := 87) (u := u) (v := .ref (h 7)) cx hw (lr_X12_this_16 d h) (C := RX12) (T := TX12) (N := 40) rfl in_X12 (by decide) q993 (fun _ h9 => h9) rfl dX12_joined_87 ?_
      refine lv_bipush (pc := 90) (v := 64) cx.1 cx.2.1 dX12_joined_90 (by decide) ?_
      refine lv_aload_n (pc := 92) cx.1 cx.2.1 dX12_joined_92 rfl (lv_at hl 0 rfl) ?_
      refine k_getR (pc := 93) (u := u) (v := .ref (h 8)) cx hw (lr_X12_this_17 d h) (C := RX12) (T := TX12) (N := 40) rfl in_X12 (by decide) q994 (fun _ h9 => h9) rfl dX12_joined_93 ?_
      refine lv_iload (pc := 96) cx.1 cx.2.1 dX12_joined_96 (lv_at hl 4 rfl) ?_
      refine k_iald (pc := 98) (u := u) (f := (u.2.1 17)) cx hw (lx_X12_this_17 d h) 0 rfl rfl hwp.1 dX12_joined_98 ?_
      replace hwp := hwp.2
      refine lv_imul (pc := 99) cx.1 cx.2.1 dX12_joined_99 ?_
      refine lv_iload (pc := 100) cx.1 cx.2.1 dX12_joined_100 (lv_at hl 5 rfl) ?_
      refine lv_iadd (pc := 102) cx.1 cx.2.1 dX12_joined_102 ?_
      refine k_iald (pc := 103) (u := u) (f := (u.2.1 16)) cx hw (lx_X12_this_16 d h) 0 rfl rfl hwp.1 dX12_joined_103 ?_
      replace hwp := hwp.2
      refine k_whole_v (pc := 104) (wf := (wM d h)) (u := u) cx hw (k_runV (pc := 104) (rest := []) (As := [.int x3, .int ((u.2.1 15) (((64 : Int32) * ((u.2.1 17) x4.toNatClampNeg)) + x5).toNatClampNeg), .int ((u.2.1 16) (((64 : Int32) * ((u.2.1 17) x4.toNatClampNeg)) + x5).toNatClampNeg)]) cx hw.1 (hw.2.1.weaken (fun _ _ _ _ => trivial)) hw.2.2 (k_recv cx hw 0 (ci := 10) (q := (RX12, TX12, 40)) rfl rfl) (m_X12_add l dC dI d h  u x3 ((u.2.1 15) (((64 : Int32) * ((u.2.1 17) x4.toNatClampNeg)) + x5).toNatClampNeg) ((u.2.1 16) (((64 : Int32) * ((u.2.1 17) x4.toNatClampNeg)) + x5).toNatClampNeg) hwp H.size) (cwV 3 cx.2.2.2.2.1 (lw_V q1146 q1148 qs41 q89 q1149) rfl rfl rfl hdV_X12_add ⟨Nat.le_of_ble_eq_true rfl, Nat.le_of_ble_eq_true rfl⟩) rfl hl.1 rfl (Nat.le_of_ble_eq_true rfl) dX12_joined_104 ⟨Nat.le_of_ble_eq_true rfl, Nat.le_of_ble_eq_true rfl⟩) (fun u2 H locs hwp hw => ?_)
      refine lv_iinc (pc := 107) (v := (x5 + (1 : Int32))) (lv' := [(5, .int (x5 + (1 : Int32))), (0, .ref (h 0)), (1, .int x1), (2, .int x2), (3, .int x3), (4, .int x4)]) cx.1 cx.2.1 dX12_joined_107 hl (k := 5) rfl rfl (by decide) rfl (fun ls hl => ?_)
      refine lv_goto (pc := 110) (tgt := 49) cx.1 cx.2.1 dX12_joined_110 (by decide) ?_
      exact ih _ _ _ _ _ _ _ _ _ hwp hw (lv_sub hl [1, 2, 3, 4, 5, 0] rfl)
set_option maxHeartbeats 4000000 in
theorem wk_X12_joined_38 {p : Program} {l : Launch} {e : Env} {s : State} {m : MethodId} {args : Array Value} {below : List Frame} {meth : Method} {c : Code} {A : Nat → Prop} {dC : Nat → ClassId} {dI : Nat → Nat → Nat} {d : Nat → ClassId} {h : Nat → Nat} {K : St → Prop} (cx : Cx p s m args meth c cX12_joined RX12 6 none A dC dI d) : ∀ (n : Nat) (x1 : Int32) (x2 : Int32) (x3 : Int32) (x4 : Int32) (u : St) (H : Heap) (locs : List Loc) (ls : Array Slot), wp_X12_joined_38 K n x1 x2 x3 x4 u → Wd dC dI A ((wM d h) u) s H locs → lv_has ls 6 [(0, .ref (h 0)), (1, .int x1), (2, .int x2), (3, .int x3), (4, .int x4)] → W p l e ({ frames := 2, cells := 0, slots := 0, locals := 44 } : Room) s m args below meth c H locs 0 0 (MQ below (kQv dC dI (wM d h) K A) args s 0 0 A) (F0 m 38 ls []) := by
  intro n
  induction n with
  | zero =>
    intros; contradiction
  | succ n ih =>
    intro x1 x2 x3 x4 u H locs ls hwp hw hl
    unfold wp_X12_joined_38 at hwp
    refine lv_iload (pc := 38) cx.1 cx.2.1 dX12_joined_38 (lv_at hl 4 rfl) ?_
    refine lv_iload_n (pc := 40) cx.1 cx.2.1 dX12_joined_40 rfl (lv_at hl 1 rfl) ?_
    refine lv_iload_n (pc := 41) cx.1 cx.2.1 dX12_joined_41 rfl (lv_at hl 2 rfl) ?_
    refine lv_iadd (pc := 42) cx.1 cx.2.1 dX12_joined_42 ?_
    refine lv_icmp_ge (pc := 43) (tgt := 119) cx.1 cx.2.1 dX12_joined_43 (by decide) (fun c1 => ?_) (fun c1 => ?_)
    · replace hwp := hwp.1 c1
      exact k_vret (pc := 119) (wf := (wM d h)) (u := u) cx hw hwp (by decide) (by decide) dX12_joined_119
    · replace hwp := hwp.2 c1
      refine lv_iconst (pc := 46) (v := 0) cx.1 cx.2.1 dX12_joined_46 (by decide) ?_
      refine lv_istore (pc := 47) (lv' := [(5, .int (0 : Int32)), (0, .ref (h 0)), (1, .int x1), (2, .int x2), (3, .int x3), (4, .int x4)]) cx.1 cx.2.1 dX12_joined_47 hl (by decide) rfl (fun ls hl => ?_)
      obtain ⟨n49, hwp⟩ := hwp
      exact wk_X12_joined_49 cx ih n49 _ _ _ _ _ _ _ _ _ hwp hw (lv_sub hl [1, 2, 3, 4, 5, 0] rfl)
set_option maxHeartbeats 4000000 in
theorem m_X12_joined (l : Launch) (dC : Nat → ClassId) (dI : Nat → Nat → Nat) (d : Nat → ClassId) (h : Nat → Nat) (u : St) (x1 : Int32) (x2 : Int32) {K : St → Prop} (hwp : wp_X12_joined u x1 x2 K) : kM l yX12_joined cX12_joined 6 none ({ frames := 2, cells := 0, slots := 0, locals := 44 } : Room) dC dI d [.ref (h 0), .int x1, .int x2] (wM d h) u (kQv dC dI (wM d h) K) 0 0 := by
  refine kM_start rfl (Nat.le_of_ble_eq_true rfl) ?_
  intro p e s m below meth c A ls cx hnm hw hl
  generalize hargs : ([.ref (h 0), .int x1, .int x2] : List Value).toArray = args at cx ⊢
  unfold wp_X12_joined at hwp
  replace hl : lv_has ls 6 [(0, .ref (h 0)), (1, .int x1), (2, .int x2)] := hl
  generalize hH : s.heap = H at hw ⊢
  generalize hlo : ([] : List Loc) = locs at hw ⊢
  refine lv_aload_n (pc := 0) cx.1 cx.2.1 dX12_joined_0 rfl (lv_at hl 0 rfl) ?_
  refine k_whole_i (pc := 1) (wf := (wM d h)) (u := u) cx hw (k_runV (pc := 1) (rest := []) (As := []) cx hw.1 (hw.2.1.weaken (fun _ _ _ _ => trivial)) hw.2.2 (k_recv cx hw 0 (ci := 10) (q := (RX12, TX12, 40)) rfl rfl) (m_X12_freeSlot l dC dI d h  u  hwp H.size) (cwV 0 cx.2.2.2.2.1 (lw_V q1138 q1140 qs39 q89 q1141) rfl rfl rfl hdV_X12_freeSlot ⟨Nat.le_of_ble_eq_true rfl, Nat.le_of_ble_eq_true rfl⟩) rfl hl.1 rfl (Nat.le_of_ble_eq_true rfl) dX12_joined_1 ⟨Nat.le_of_ble_eq_true rfl, Nat.le_of_ble_eq_true rfl⟩) (fun r2 u1 H locs hwp hw => ?_)
  refine lv_istore_n (pc := 4) (lv' := [(3, .int r2), (0, .ref (h 0)), (1, .int x1), (2, .int x2)]) cx.1 cx.2.1 dX12_joined_4 rfl hl (by decide) rfl (fun ls hl => ?_)
  refine lv_aload_n (pc := 5) cx.1 cx.2.1 dX12_joined_5 rfl (lv_at hl 1 rfl) ?_
  refine k_getR (pc := 6) (u := u1) (v := .ref (h 2)) cx hw (lr_X12_this_11 d h) (C := RX12) (T := TX12) (N := 40) rfl in_X12 (by decide) q988 (fun _ h9 => h9) rfl dX12_joined_6 ?_
  refine lv_iload_n (pc := 9) cx.1 cx.2.1 dX12_joined_9 rfl (lv_at hl 0 rfl) ?_
  refine lv_aload_n (pc := 10) cx.1 cx.2.1 dX12_joined_10 rfl (lv_at hl 1 rfl) ?_
  refine k_getR (pc := 11) (u := u1) (v := .ref (h 2)) cx hw (lr_X12_this_11 d h) (C := RX12) (T := TX12) (N := 40) rfl in_X12 (by decide) q988 (fun _ h9 => h9) rfl dX12_joined_11 ?_
  refine lv_aload_n (pc := 14) cx.1 cx.2.1 dX12_joined_14 rfl (lv_at hl 1 rfl) ?_
  refine k_getR (pc := 15) (u := u1) (v := .ref (h 8)) cx hw (lr_X12_this_17 d h) (C := RX12) (T := TX12) (N := 40) rfl in_X12 (by decide) q994 (fun _ h9 => h9) rfl dX12_joined_15 ?_
  refine lv_iload_n (pc := 18) cx.1 cx.2.1 dX12_joined_18 rfl (lv_at hl 2 rfl) ?_
  refine k_iald (pc := 19) (u := u1) (f := (u1.2.1 17)) cx hw (lx_X12_this_17 d h) 0 rfl rfl hwp.1 dX12_joined_19 ?_
  replace hwp := hwp.2
  refine k_iald (pc := 20) (u := u1) (f := (u1.2.1 11)) cx hw (lx_X12_this_11 d h) 0 rfl rfl hwp.1 dX12_joined_20 ?_
  replace hwp := hwp.2
  refine lv_topi (fun y3 ey3 => ?_)
  replace hwp := hwp y3 ey3
  refine k_iast (pc := 21) (u := u1) (f := (u1.2.1 11)) cx hw (ln_X12_this_11 d h) 0 rfl rfl hwp.1 dX12_joined_21 (fun H locs hw => ?_)
  replace hwp := hwp.2
  refine lv_aload_n (pc := 22) cx.1 cx.2.1 dX12_joined_22 rfl (lv_at hl 1 rfl) ?_
  refine k_getR (pc := 23) (u := (st_A u1 11 (upd (u1.2.1 11) r2.toNatClampNeg y3))) (v := .ref (h 3)) cx hw (lr_X12_this_12 d h) (C := RX12) (T := TX12) (N := 40) rfl in_X12 (by decide) q989 (fun _ h9 => h9) rfl dX12_joined_23 ?_
  refine lv_iload_n (pc := 26) cx.1 cx.2.1 dX12_joined_26 rfl (lv_at hl 0 rfl) ?_
  refine lv_iconst (pc := 27) (v := 0) cx.1 cx.2.1 dX12_joined_27 (by decide) ?_
  refine k_iast (pc := 28) (u := (st_A u1 11 (upd (u1.2.1 11) r2.toNatClampNeg y3))) (f := (u1.2.1 12)) cx hw (ln_X12_this_12 d h) 0 rfl rfl hwp.1 dX12_joined_28 (fun H locs hw => ?_)
  replace hwp := hwp.2
  refine lv_aload_n (pc := 29) cx.1 cx.2.1 dX12_joined_29 rfl (lv_at hl 1 rfl) ?_
  refine lv_iload_n (pc := 30) cx.1 cx.2.1 dX12_joined_30 rfl (lv_at hl 0 rfl) ?_
  refine lv_iconst (pc := 31) (v := 1) cx.1 cx.2.1 dX12_joined_31 (by decide) ?_
  refine k_whole_v (pc := 32) (wf := (wM d h)) (u := (st_A (st_A u1 11 (upd (u1.2.1 11) r2.toNatClampNeg y3)) 12 (upd (u1.2.1 12) r2.toNatClampNeg (0 : Int32)))) cx hw (k_runV (pc := 32) (rest := []) (As := [.int r2, .int (1 : Int32)]) cx hw.1 (hw.2.1.weaken (fun _ _ _ _ => trivial)) hw.2.2 (k_recv cx hw 0 (ci := 10) (q := (RX12, TX12, 40)) rfl rfl) (m_X12_comes l dC dI d h  (st_A (st_A u1 11 (upd (u1.2.1 11) r2.toNatClampNeg y3)) 12 (upd (u1.2.1 12) r2.toNatClampNeg (0 : Int32))) r2 (1 : Int32) hwp H.size) (cwV 2 cx.2.2.2.2.1 (lw_V q1130 q1132 qs37 q89 q1133) rfl rfl rfl hdV_X12_comes ⟨Nat.le_of_ble_eq_true rfl, Nat.le_of_ble_eq_true rfl⟩) rfl hl.1 rfl (Nat.le_of_ble_eq_true rfl) dX12_joined_32 ⟨Nat.le_of_ble_eq_true rfl, Nat.le_of_ble_eq_true rfl⟩) (fun u4 H locs hwp hw => ?_)
  refine lv_iload_n (pc := 35) cx.1 cx.2.1 dX12_joined_35 rfl (lv_at hl 2 rfl) ?_
  refine lv_istore (pc := 36) (lv' := [(4, .int x1), (3, .int r2), (0, .ref (h 0)), (1, .int x1), (2, .int x2)]) cx.1 cx.2.1 dX12_joined_36 hl (by decide) rfl (fun ls hl => ?_)
  obtain ⟨n38, hwp⟩ := hwp
  exact wk_X12_joined_38 cx n38 _ _ _ _ _ _ _ _ hwp hw (lv_sub hl [2, 3, 4, 1, 0] rfl)
