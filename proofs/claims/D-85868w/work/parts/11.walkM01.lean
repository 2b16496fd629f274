set_option maxRecDepth 100000
set_option maxHeartbeats 4000000 in
theorem wk_X12_putStep_147 {p : Program} {l : Launch} {e : Env} {s : State} {m : MethodId} {args : Array Value} {below : List Frame} {meth : Method} {c : Code} {A : Nat → Prop} {dC : Nat → ClassId} {dI : Nat → Nat → Nat} {d : Nat → ClassId} {h : Nat → Nat} {K : St → Prop} (cx : Cx p s m args meth c cX12_putStep RX12 3 none A dC dI d) : ∀ (x1 : Int64) (u : St) (H : Heap) (locs : List Loc) (ls : Array Slot), wp_X12_putStep_147 K x1 u → Wd dC dI A ((wM d h) u) s H locs → lv_has ls 3 [(0, .ref (h 0)), (1, .long x1)] → W p l e ({ frames := 1, cells := 0, slots := 0, locals := 24 } : Room) s m args below meth c H locs 0 0 (MQ below (kQv dC dI (wM d h) K A) args s 0 0 A) (F0 m 147 ls []) := by
  intro x1 u H locs ls hwp hw hl
  unfold wp_X12_putStep_147 at hwp
  refine lv_aload_n (pc := 147) cx.1 cx.2.1 dX12_putStep_147 rfl (lv_at hl 0 rfl) ?_
  refine lv_ldc2 (pc := 148) (v := 15) cx.1 cx.2.1 cx.2.2.2.1 (cx.2.2.2.2.1 _ q1175) dX12_putStep_148 ?_
  refine lv_iconst (pc := 151) (v := 4) cx.1 cx.2.1 dX12_putStep_151 (by decide) ?_
  refine k_whole_v (pc := 152) (wf := (wM d h)) (u := u) cx hw (k_runV (pc := 152) (rest := []) (As := [.long (15 : Int64), .int (4 : Int32)]) cx hw.1 (hw.2.1.weaken (fun _ _ _ _ => trivial)) hw.2.2 (k_recv cx hw 0 (ci := 10) (q := (RX12, TX12, 40)) rfl rfl) (m_X12_put l dC dI d h  u (15 : Int64) (4 : Int32) hwp H.size) (cwV 2 cx.2.2.2.2.1 (lw_V q1162 q1164 qs45 q89 q1165) rfl rfl rfl hdV_X12_put ⟨Nat.le_of_ble_eq_true rfl, Nat.le_of_ble_eq_true rfl⟩) rfl hl.1 rfl (Nat.le_of_ble_eq_true rfl) dX12_putStep_152 ⟨Nat.le_of_ble_eq_true rfl, Nat.le_of_ble_eq_true rfl⟩) (fun u1 H locs hwp hw => ?_)
  refine lv_aload_n (pc := 155) cx.1 cx.2.1 dX12_putStep_155 rfl (lv_at hl 0 rfl) ?_
  refine lv_lload_n (pc := 156) cx.1 cx.2.1 dX12_putStep_156 rfl (lv_at hl 1 rfl) ?_
  refine lv_ldc2 (pc := 157) (v := 8589934592) cx.1 cx.2.1 cx.2.2.2.1 (cx.2.2.2.2.1 _ q1176) dX12_putStep_157 ?_
  refine lv_ladd (pc := 160) cx.1 cx.2.1 dX12_putStep_160 ?_
  refine lv_bipush (pc := 161) (v := 34) cx.1 cx.2.1 dX12_putStep_161 (by decide) ?_
  refine k_whole_v (pc := 163) (wf := (wM d h)) (u := u1) cx hw (k_runV (pc := 163) (rest := []) (As := [.long (x1 + (8589934592 : Int64)), .int (34 : Int32)]) cx hw.1 (hw.2.1.weaken (fun _ _ _ _ => trivial)) hw.2.2 (k_recv cx hw 0 (ci := 10) (q := (RX12, TX12, 40)) rfl rfl) (m_X12_put l dC dI d h  u1 (x1 + (8589934592 : Int64)) (34 : Int32) hwp H.size) (cwV 2 cx.2.2.2.2.1 (lw_V q1162 q1164 qs45 q89 q1165) rfl rfl rfl hdV_X12_put ⟨Nat.le_of_ble_eq_true rfl, Nat.le_of_ble_eq_true rfl⟩) rfl hl.1 rfl (Nat.le_of_ble_eq_true rfl) dX12_putStep_163 ⟨Nat.le_of_ble_eq_true rfl, Nat.le_of_ble_eq_true rfl⟩) (fun u3 H locs hwp hw => ?_)
  exact k_vret (pc := 166) (wf := (wM d h)) (u := u3) cx hw hwp (by decide) (by decide) dX12_putStep_166
set_option maxHeartbeats 4000000 in
theorem wk_X12_putStep_103 {p : Program} {l : Launch} {e : Env} {s : State} {m : MethodId} {args : Array Value} {below : List Frame} {meth : Method} {c : Code} {A : Nat → Prop} {dC : Nat → ClassId} {dI : Nat → Nat → Nat} {d : Nat → ClassId} {h : Nat → Nat} {K : St → Prop} (cx : Cx p s m args meth c cX12_putStep RX12 3 none A dC dI d) : ∀ (x1 : Int64) (u : St) (H : Heap) (locs : List Loc) (ls : Array Slot), wp_X12_putStep_103 K x1 u → Wd dC dI A ((wM d h) u) s H locs → lv_has ls 3 [(0, .ref (h 0)), (1, .long x1)] → W p l e ({ frames := 1, cells := 0, slots := 0, locals := 24 } : Room) s m args below meth c H locs 0 0 (MQ below (kQv dC dI (wM d h) K A) args s 0 0 A) (F0 m 103 ls []) := by
  intro x1 u H locs ls hwp hw hl
  unfold wp_X12_putStep_103 at hwp
  refine lv_lload_n (pc := 103) cx.1 cx.2.1 dX12_putStep_103 rfl (lv_at hl 1 rfl) ?_
  refine lv_ldc2 (pc := 104) (v := 2048) cx.1 cx.2.1 cx.2.2.2.1 (cx.2.2.2.2.1 _ q1172) dX12_putStep_104 ?_
  refine lv_ladd (pc := 107) cx.1 cx.2.1 dX12_putStep_107 ?_
  refine lv_lconst (pc := 108) (v := 0) cx.1 cx.2.1 dX12_putStep_108 (by decide) ?_
  refine W.lcmp (pc := 109) cx.1 cx.2.1 dX12_putStep_109 ?_
  refine lv_if_lt (pc := 110) (tgt := 147) cx.1 cx.2.1 dX12_putStep_110 (by decide) (fun c1 => ?_) (fun c1 => ?_)
  · replace hwp := hwp.1 ((lg_cmp_lt _ _).mp c1)
    exact wk_X12_putStep_147 cx _ _ _ _ _ hwp hw (lv_sub hl [0, 1] rfl)
  · replace hwp := hwp.2 (mt (lg_cmp_lt _ _).mpr c1)
    refine lv_lload_n (pc := 113) cx.1 cx.2.1 dX12_putStep_113 rfl (lv_at hl 1 rfl) ?_
    refine lv_ldc2 (pc := 114) (v := 2048) cx.1 cx.2.1 cx.2.2.2.1 (cx.2.2.2.2.1 _ q1172) dX12_putStep_114 ?_
    refine lv_ladd (pc := 117) cx.1 cx.2.1 dX12_putStep_117 ?_
    refine lv_ldc2 (pc := 118) (v := 4095) cx.1 cx.2.1 cx.2.2.2.1 (cx.2.2.2.2.1 _ q1173) dX12_putStep_118 ?_
    refine W.lcmp (pc := 121) cx.1 cx.2.1 dX12_putStep_121 ?_
    refine lv_if_gt (pc := 122) (tgt := 147) cx.1 cx.2.1 dX12_putStep_122 (by decide) (fun c2 => ?_) (fun c2 => ?_)
    · replace hwp := hwp.1 ((lg_cmp_gt _ _).mp c2)
      exact wk_X12_putStep_147 cx _ _ _ _ _ hwp hw (lv_sub hl [0, 1] rfl)
    · replace hwp := hwp.2 (mt (lg_cmp_gt _ _).mpr c2)
      refine lv_aload_n (pc := 125) cx.1 cx.2.1 dX12_putStep_125 rfl (lv_at hl 0 rfl) ?_
      refine lv_ldc2 (pc := 126) (v := 14) cx.1 cx.2.1 cx.2.2.2.1 (cx.2.2.2.2.1 _ q1174) dX12_putStep_126 ?_
      refine lv_iconst (pc := 129) (v := 4) cx.1 cx.2.1 dX12_putStep_129 (by decide) ?_
      refine k_whole_v (pc := 130) (wf := (wM d h)) (u := u) cx hw (k_runV (pc := 130) (rest := []) (As := [.long (14 : Int64), .int (4 : Int32)]) cx hw.1 (hw.2.1.weaken (fun _ _ _ _ => trivial)) hw.2.2 (k_recv cx hw 0 (ci := 10) (q := (RX12, TX12, 40)) rfl rfl) (m_X12_put l dC dI d h  u (14 : Int64) (4 : Int32) hwp H.size) (cwV 2 cx.2.2.2.2.1 (lw_V q1162 q1164 qs45 q89 q1165) rfl rfl rfl hdV_X12_put ⟨Nat.le_of_ble_eq_true rfl, Nat.le_of_ble_eq_true rfl⟩) rfl hl.1 rfl (Nat.le_of_ble_eq_true rfl) dX12_putStep_130 ⟨Nat.le_of_ble_eq_true rfl, Nat.le_of_ble_eq_true rfl⟩) (fun u3 H locs hwp hw => ?_)
      refine lv_aload_n (pc := 133) cx.1 cx.2.1 dX12_putStep_133 rfl (lv_at hl 0 rfl) ?_
      refine lv_lload_n (pc := 134) cx.1 cx.2.1 dX12_putStep_134 rfl (lv_at hl 1 rfl) ?_
      refine lv_ldc2 (pc := 135) (v := 2048) cx.1 cx.2.1 cx.2.2.2.1 (cx.2.2.2.2.1 _ q1172) dX12_putStep_135 ?_
      refine lv_ladd (pc := 138) cx.1 cx.2.1 dX12_putStep_138 ?_
      refine lv_bipush (pc := 139) (v := 12) cx.1 cx.2.1 dX12_putStep_139 (by decide) ?_
      refine k_whole_v (pc := 141) (wf := (wM d h)) (u := u3) cx hw (k_runV (pc := 141) (rest := []) (As := [.long (x1 + (2048 : Int64)), .int (12 : Int32)]) cx hw.1 (hw.2.1.weaken (fun _ _ _ _ => trivial)) hw.2.2 (k_recv cx hw 0 (ci := 10) (q := (RX12, TX12, 40)) rfl rfl) (m_X12_put l dC dI d h  u3 (x1 + (2048 : Int64)) (12 : Int32) hwp H.size) (cwV 2 cx.2.2.2.2.1 (lw_V q1162 q1164 qs45 q89 q1165) rfl rfl rfl hdV_X12_put ⟨Nat.le_of_ble_eq_true rfl, Nat.le_of_ble_eq_true rfl⟩) rfl hl.1 rfl (Nat.le_of_ble_eq_true rfl) dX12_putStep_141 ⟨Nat.le_of_ble_eq_true rfl, Nat.le_of_ble_eq_true rfl⟩) (fun u5 H locs hwp hw => ?_)
      refine lv_goto (pc := 144) (tgt := 166) cx.1 cx.2.1 dX12_putStep_144 (by decide) ?_
      exact k_vret (pc := 166) (wf := (wM d h)) (u := u5) cx hw hwp (by decide) (by decide) dX12_putStep_166
set_option maxHeartbeats 4000000 in
theorem wk_X12_putStep_59 {p : Program} {l : Launch} {e : Env} {s : State} {m : MethodId} {args : Array Value} {below : List Frame} {meth : Method} {c : Code} {A : Nat → Prop} {dC : Nat → ClassId} {dI : Nat → Nat → Nat} {d : Nat → ClassId} {h : Nat → Nat} {K : St → Prop} (cx : Cx p s m args meth c cX12_putStep RX12 3 none A dC dI d) : ∀ (x1 : Int64) (u : St) (H : Heap) (locs : List Loc) (ls : Array Slot), wp_X12_putStep_59 K x1 u → Wd dC dI A ((wM d h) u) s H locs → lv_has ls 3 [(0, .ref (h 0)), (1, .long x1)] → W p l e ({ frames := 1, cells := 0, slots := 0, locals := 24 } : Room) s m args below meth c H locs 0 0 (MQ below (kQv dC dI (wM d h) K A) args s 0 0 A) (F0 m 59 ls []) := by
  intro x1 u H locs ls hwp hw hl
  unfold wp_X12_putStep_59 at hwp
  refine lv_lload_n (pc := 59) cx.1 cx.2.1 dX12_putStep_59 rfl (lv_at hl 1 rfl) ?_
  refine lv_ldc2 (pc := 60) (v := 256) cx.1 cx.2.1 cx.2.2.2.1 (cx.2.2.2.2.1 _ q1169) dX12_putStep_60 ?_
  refine lv_ladd (pc := 63) cx.1 cx.2.1 dX12_putStep_63 ?_
  refine lv_lconst (pc := 64) (v := 0) cx.1 cx.2.1 dX12_putStep_64 (by decide) ?_
  refine W.lcmp (pc := 65) cx.1 cx.2.1 dX12_putStep_65 ?_
  refine lv_if_lt (pc := 66) (tgt := 103) cx.1 cx.2.1 dX12_putStep_66 (by decide) (fun c1 => ?_) (fun c1 => ?_)
  · replace hwp := hwp.1 ((lg_cmp_lt _ _).mp c1)
    exact wk_X12_putStep_103 cx _ _ _ _ _ hwp hw (lv_sub hl [0, 1] rfl)
  · replace hwp := hwp.2 (mt (lg_cmp_lt _ _).mpr c1)
    refine lv_lload_n (pc := 69) cx.1 cx.2.1 dX12_putStep_69 rfl (lv_at hl 1 rfl) ?_
    refine lv_ldc2 (pc := 70) (v := 256) cx.1 cx.2.1 cx.2.2.2.1 (cx.2.2.2.2.1 _ q1169) dX12_putStep_70 ?_
    refine lv_ladd (pc := 73) cx.1 cx.2.1 dX12_putStep_73 ?_
    refine lv_ldc2 (pc := 74) (v := 511) cx.1 cx.2.1 cx.2.2.2.1 (cx.2.2.2.2.1 _ q1170) dX12_putStep_74 ?_
    refine W.lcmp (pc := 77) cx.1 cx.2.1 dX12_putStep_77 ?_
    refine lv_if_gt (pc := 78) (tgt := 103) cx.1 cx.2.1 dX12_putStep_78 (by decide) (fun c2 => ?_) (fun c2 => ?_)
    · replace hwp := hwp.1 ((lg_cmp_gt _ _).mp c2)
      exact wk_X12_putStep_103 cx _ _ _ _ _ hwp hw (lv_sub hl [0, 1] rfl)
    · replace hwp := hwp.2 (mt (lg_cmp_gt _ _).mpr c2)
      refine lv_aload_n (pc := 81) cx.1 cx.2.1 dX12_putStep_81 rfl (lv_at hl 0 rfl) ?_
      refine lv_ldc2 (pc := 82) (v := 6) cx.1 cx.2.1 cx.2.2.2.1 (cx.2.2.2.2.1 _ q1171) dX12_putStep_82 ?_
      refine lv_iconst (pc := 85) (v := 3) cx.1 cx.2.1 dX12_putStep_85 (by decide) ?_
      refine k_whole_v (pc := 86) (wf := (wM d h)) (u := u) cx hw (k_runV (pc := 86) (rest := []) (As := [.long (6 : Int64), .int (3 : Int32)]) cx hw.1 (hw.2.1.weaken (fun _ _ _ _ => trivial)) hw.2.2 (k_recv cx hw 0 (ci := 10) (q := (RX12, TX12, 40)) rfl rfl) (m_X12_put l dC dI d h  u (6 : Int64) (3 : Int32) hwp H.size) (cwV 2 cx.2.2.2.2.1 (lw_V q1162 q1164 qs45 q89 q1165) rfl rfl rfl hdV_X12_put ⟨Nat.le_of_ble_eq_true rfl, Nat.le_of_ble_eq_true rfl⟩) rfl hl.1 rfl (Nat.le_of_ble_eq_true rfl) dX12_putStep_86 ⟨Nat.le_of_ble_eq_true rfl, Nat.le_of_ble_eq_true rfl⟩) (fun u3 H locs hwp hw => ?_)
      refine lv_aload_n (pc := 89) cx.1 cx.2.1 dX12_putStep_89 rfl (lv_at hl 0 rfl) ?_
      refine lv_lload_n (pc := 90) cx.1 cx.2.1 dX12_putStep_90 rfl (lv_at hl 1 rfl) ?_
      refine lv_ldc2 (pc := 91) (v := 256) cx.1 cx.2.1 cx.2.2.2.1 (cx.2.2.2.2.1 _ q1169) dX12_putStep_91 ?_
      refine lv_ladd (pc := 94) cx.1 cx.2.1 dX12_putStep_94 ?_
      refine lv_bipush (pc := 95) (v := 9) cx.1 cx.2.1 dX12_putStep_95 (by decide) ?_
      refine k_whole_v (pc := 97) (wf := (wM d h)) (u := u3) cx hw (k_runV (pc := 97) (rest := []) (As := [.long (x1 + (256 : Int64)), .int (9 : Int32)]) cx hw.1 (hw.2.1.weaken (fun _ _ _ _ => trivial)) hw.2.2 (k_recv cx hw 0 (ci := 10) (q := (RX12, TX12, 40)) rfl rfl) (m_X12_put l dC dI d h  u3 (x1 + (256 : Int64)) (9 : Int32) hwp H.size) (cwV 2 cx.2.2.2.2.1 (lw_V q1162 q1164 qs45 q89 q1165) rfl rfl rfl hdV_X12_put ⟨Nat.le_of_ble_eq_true rfl, Nat.le_of_ble_eq_true rfl⟩) rfl hl.1 rfl (Nat.le_of_ble_eq_true rfl) dX12_putStep_97 ⟨Nat.le_of_ble_eq_true rfl, Nat.le_of_ble_eq_true rfl⟩) (fun u5 H locs hwp hw => ?_)
      refine lv_goto (pc := 100) (tgt := 166) cx.1 cx.2.1 dX12_putStep_100 (by decide) ?_
      exact k_vret (pc := 166) (wf := (wM d h)) (u := u5) cx hw hwp (by decide) (by decide) dX12_putStep_166
set_option maxHeartbeats 4000000 in
theorem m_X12_putStep (l : Launch) (dC : Nat → ClassId) (dI : Nat → Nat → Nat) (d : Nat → ClassId) (h : Nat → Nat) (u : St) (x1 : Int64) {K : St → Prop} (hwp : wp_X12_putStep u x1 K) : kM l yX12_putStep cX12_putStep 3 none ({ frames := 1, cells := 0, slots := 0, locals := 24 } : Room) dC dI d [.ref (h 0), .long x1] (wM d h) u (kQv dC dI (wM d h) K) 0 0 := by
  refine kM_start rfl (Nat.le_of_ble_eq_true rfl) ?_
  intro p e s m below meth c A ls cx hnm hw hl
  generalize hargs : ([.ref (h 0), .long x1] : List Value).toArray = args at cx ⊢
  unfold wp_X12_putStep at hwp
  replace hl : lv_has ls 3 [(0, .ref (h 0)), (1, .long x1)] := hl
  generalize hH : s.heap = H at hw ⊢
  generalize hlo : ([] : List Loc) = locs at hw ⊢
  refine lv_lload_n (pc := 0) cx.1 cx.2.1 dX12_putStep_0 rfl (lv_at hl 1 rfl) ?_
  refine lv_lconst (pc := 1) (v := 0) cx.1 cx.2.1 dX12_putStep_1 (by decide) ?_
  refine W.lcmp (pc := 2) cx.1 cx.2.1 dX12_putStep_2 ?_
  refine lv_if_ne (pc := 3) (tgt := 15) cx.1 cx.2.1 dX12_putStep_3 (by decide) (fun c1 => ?_) (fun c1 => ?_)
  · replace hwp := hwp.1 (mt (lg_cmp_eq _ _).mpr c1)
    refine lv_lload_n (pc := 15) cx.1 cx.2.1 dX12_putStep_15 rfl (lv_at hl 1 rfl) ?_
    refine lv_ldc2 (pc := 16) (v := 64) cx.1 cx.2.1 cx.2.2.2.1 (cx.2.2.2.2.1 _ q1166) dX12_putStep_16 ?_
    refine lv_ladd (pc := 19) cx.1 cx.2.1 dX12_putStep_19 ?_
    refine lv_lconst (pc := 20) (v := 0) cx.1 cx.2.1 dX12_putStep_20 (by decide) ?_
    refine W.lcmp (pc := 21) cx.1 cx.2.1 dX12_putStep_21 ?_
    refine lv_if_lt (pc := 22) (tgt := 59) cx.1 cx.2.1 dX12_putStep_22 (by decide) (fun c2 => ?_) (fun c2 => ?_)
    · replace hwp := hwp.1 ((lg_cmp_lt _ _).mp c2)
      exact wk_X12_putStep_59 cx _ _ _ _ _ hwp hw (lv_sub hl [0, 1] rfl)
    · replace hwp := hwp.2 (mt (lg_cmp_lt _ _).mpr c2)
      refine lv_lload_n (pc := 25) cx.1 cx.2.1 dX12_putStep_25 rfl (lv_at hl 1 rfl) ?_
      refine lv_ldc2 (pc := 26) (v := 64) cx.1 cx.2.1 cx.2.2.2.1 (cx.2.2.2.2.1 _ q1166) dX12_putStep_26 ?_
      refine lv_ladd (pc := 29) cx.1 cx.2.1 dX12_putStep_29 ?_
      refine lv_ldc2 (pc := 30) (v := 127) cx.1 cx.2.1 cx.2.2.2.1 (cx.2.2.2.2.1 _ q1167) dX12_putStep_30 ?_
      refine W.lcmp (pc := 33) cx.1 cx.2.1 dX12_putStep_33 ?_
      refine lv_if_gt (pc := 34) (tgt := 59) cx.1 cx.2.1 dX12_putStep_34 (by decide) (fun c3 => ?_) (fun c3 => ?_)
      · replace hwp := hwp.1 ((lg_cmp_gt _ _).mp c3)
        exact wk_X12_putStep_59 cx _ _ _ _ _ hwp hw (lv_sub hl [0, 1] rfl)
      · replace hwp := hwp.2 (mt (lg_cmp_gt _ _).mpr c3)
        refine lv_aload_n (pc := 37) cx.1 cx.2.1 dX12_putStep_37 rfl (lv_at hl 0 rfl) ?_
        refine lv_ldc2 (pc := 38) (v := 2) cx.1 cx.2.1 cx.2.2.2.1 (cx.2.2.2.2.1 _ q1168) dX12_putStep_38 ?_
        refine lv_iconst (pc := 41) (v := 2) cx.1 cx.2.1 dX12_putStep_41 (by decide) ?_
        refine k_whole_v (pc := 42) (wf := (wM d h)) (u := u) cx hw (k_runV (pc := 42) (rest := []) (As := [.long (2 : Int64), .int (2 : Int32)]) cx hw.1 (hw.2.1.weaken (fun _ _ _ _ => trivial)) hw.2.2 (k_recv cx hw 0 (ci := 10) (q := (RX12, TX12, 40)) rfl rfl) (m_X12_put l dC dI d h  u (2 : Int64) (2 : Int32) hwp H.size) (cwV 2 cx.2.2.2.2.1 (lw_V q1162 q1164 qs45 q89 q1165) rfl rfl rfl hdV_X12_put ⟨Nat.le_of_ble_eq_true rfl, Nat.le_of_ble_eq_true rfl⟩) rfl hl.1 rfl (Nat.le_of_ble_eq_true rfl) dX12_putStep_42 ⟨Nat.le_of_ble_eq_true rfl, Nat.le_of_ble_eq_true rfl⟩) (fun u4 H locs hwp hw => ?_)
        refine lv_aload_n (pc := 45) cx.1 cx.2.1 dX12_putStep_45 rfl (lv_at hl 0 rfl) ?_
        refine lv_lload_n (pc := 46) cx.1 cx.2.1 dX12_putStep_46 rfl (lv_at hl 1 rfl) ?_
        refine lv_ldc2 (pc := 47) (v := 64) cx.1 cx.2.1 cx.2.2.2.1 (cx.2.2.2.2.1 _ q1166) dX12_putStep_47 ?_
        refine lv_ladd (pc := 50) cx.1 cx.2.1 dX12_putStep_50 ?_
        refine lv_bipush (pc := 51) (v := 7) cx.1 cx.2.1 dX12_putStep_51 (by decide) ?_
        refine k_whole_v (pc := 53) (wf := (wM d h)) (u := u4) cx hw (k_runV (pc := 53) (rest := []) (As := [.long (x1 + (64 : Int64)), .int (7 : Int32)]) cx hw.1 (hw.2.1.weaken (fun _ _ _ _ => trivial)) hw.2.2 (k_recv cx hw 0 (ci := 10) (q := (RX12, TX12, 40)) rfl rfl) (m_X12_put l dC dI d h  u4 (x1 + (64 : Int64)) (7 : Int32) hwp H.size) (cwV 2 cx.2.2.2.2.1 (lw_V q1162 q1164 qs45 q89 q1165) rfl rfl rfl hdV_X12_put ⟨Nat.le_of_ble_eq_true rfl, Nat.le_of_ble_eq_true rfl⟩) rfl hl.1 rfl (Nat.le_of_ble_eq_true rfl) dX12_putStep_53 ⟨Nat.le_of_ble_eq_true rfl, Nat.le_of_ble_eq_true rfl⟩) (fun u6 H locs hwp hw => ?_)
        refine lv_goto (pc := 56) (tgt := 166) cx.1 cx.2.1 dX12_putStep_56 (by decide) ?_
        exact k_vret (pc := 166) (wf := (wM d h)) (u := u6) cx hw hwp (by decide) (by decide) dX12_putStep_166
  · replace hwp := hwp.2 ((lg_cmp_eq _ _).mp c1)
    refine lv_aload_n (pc := 6) cx.1 cx.2.1 dX12_putStep_6 rfl (lv_at hl 0 rfl) ?_
    refine lv_lconst (pc := 7) (v := 0) cx.1 cx.2.1 dX12_putStep_7 (by decide) ?_
    refine lv_iconst (pc := 8) (v := 1) cx.1 cx.2.1 dX12_putStep_8 (by decide) ?_
    refine k_whole_v (pc := 9) (wf := (wM d h)) (u := u) cx hw (k_runV (pc := 9) (rest := []) (As := [.long (0 : Int64), .int (1 : Int32)]) cx hw.1 (hw.2.1.weaken (fun _ _ _ _ => trivial)) hw.2.2 (k_recv cx hw 0 (ci := 10) (q := (RX12, TX12, 40)) rfl rfl) (m_X12_put l dC dI d h  u (0 : Int64) (1 : Int32) hwp H.size) (cwV 2 cx.2.2.2.2.1 (lw_V q1162 q1164 qs45 q89 q1165) rfl rfl rfl hdV_X12_put ⟨Nat.le_of_ble_eq_true rfl, Nat.le_of_ble_eq_true rfl⟩) rfl hl.1 rfl (Nat.le_of_ble_eq_true rfl) dX12_putStep_9 ⟨Nat.le_of_ble_eq_true rfl, Nat.le_of_ble_eq_true rfl⟩) (fun u8 H locs hwp hw => ?_)
    refine lv_goto (pc := 12) (tgt := 166) cx.1 cx.2.1 dX12_putStep_12 (by decide) ?_
    exact k_vret (pc := 166) (wf := (wM d h)) (u := u8) cx hw hwp (by decide) (by decide) dX12_putStep_166
set_option maxHeartbeats 4000000 in
theorem wk_X12_putValue_55 {p : Program} {l : Launch} {e : Env} {s : State} {m : MethodId} {args : Array Value} {below : List Frame} {meth : Method} {c : Code} {A : Nat → Prop} {dC : Nat → ClassId} {dI : Nat → Nat → Nat} {d : Nat → ClassId} {h : Nat → Nat} {K : St → Prop} (cx : Cx p s m args meth c cX12_putValue RX12 4 none A dC dI d) : ∀  (u : St) (H : Heap) (locs : List Loc) (ls : Array Slot), wp_X12_putValue_55 K  u → Wd dC dI A ((wM d h) u) s H locs → lv_has ls 4 [(0, .ref (h 0))] → W p l e ({ frames := 1, cells := 0, slots := 0, locals := 24 } : Room) s m args below meth c H locs 0 0 (MQ below (kQv dC dI (wM d h) K A) args s 0 0 A) (F0 m 55 ls []) := by
  intro  u H locs ls hwp hw hl
  unfold wp_X12_putValue_55 at hwp
  refine lv_aload_n (pc := 55) cx.1 cx.2.1 dX12_putValue_55 rfl (lv_at hl 0 rfl) ?_
  refine lv_lconst (pc := 56) (v := 0) cx.1 cx.2.1 dX12_putValue_56 (by decide) ?_
  refine lv_iconst (pc := 57) (v := 1) cx.1 cx.2.1 dX12_putValue_57 (by decide) ?_
  refine k_whole_v (pc := 58) (wf := (wM d h)) (u := u) cx hw (k_runV (pc := 58) (rest := []) (As := [.long (0 : Int64), .int (1 : Int32)]) cx hw.1 (hw.2.1.weaken (fun _ _ _ _ => trivial)) hw.2.2 (k_recv cx hw 0 (ci := 10) (q := (RX12, TX12, 40)) rfl rfl) (m_X12_put l dC dI d h  u (0 : Int64) (1 : Int32) hwp H.size) (cwV 2 cx.2.2.2.2.1 (lw_V q1162 q1164 qs45 q89 q1165) rfl rfl rfl hdV_X12_put ⟨Nat.le_of_ble_eq_true rfl, Nat.le_of_ble_eq_true rfl⟩) rfl hl.1 rfl (Nat.le_of_ble_eq_true rfl) dX12_putValue_58 ⟨Nat.le_of_ble_eq_true rfl, Nat.le_of_ble_eq_true rfl⟩) (fun u1 H locs hwp hw => ?_)
  exact k_vret (pc := 61) (wf := (wM d h)) (u := u1) cx hw hwp (by decide) (by decide) dX12_putValue_61
set_option maxHeartbeats 4000000 in
theorem wk_X12_putValue_26 {p : Program} {l : Launch} {e : Env} {s : State} {m : MethodId} {args : Array Value} {below : List Frame} {meth : Method} {c : Code} {A : Nat → Prop} {dC : Nat → ClassId} {dI : Nat → Nat → Nat} {d : Nat → ClassId} {h : Nat → Nat} {K : St → Prop} (cx : Cx p s m args meth c cX12_putValue RX12 4 none A dC dI d) : ∀ (n : Nat) (x2 : Int64) (u : St) (H : Heap) (locs : List Loc) (ls : Array Slot), wp_X12_putValue_26 K n x2 u → Wd dC dI A ((wM d h) u) s H locs → lv_has ls 4 [(0, .ref (h 0)), (2, .long x2)] → W p l e ({ frames := 1, cells := 0, slots := 0, locals := 24 } : Room) s m args below meth c H locs 0 0 (MQ below (kQv dC dI (wM d h) K A) args s 0 0 A) (F0 m 26 ls []) := by
  intro n
  induction n with
  | zero =>
    intros; contradiction
  | succ n ih =>
    intro x2 u H locs ls hwp hw hl
    unfold wp_X12_putValue_26 at hwp
    refine lv_lload_n (pc := 26) cx.1 cx.2.1 dX12_putValue_26 rfl (lv_at hl 1 rfl) ?_
    refine lv_lconst (pc := 27) (v := 0) cx.1 cx.2.1 dX12_putValue_27 (by decide) ?_
    refine W.lcmp (pc := 28) cx.1 cx.2.1 dX12_putValue_28 ?_
    refine lv_if_eq (pc := 29) (tgt := 55) cx.1 cx.2.1 dX12_putValue_29 (by decide) (fun c1 => ?_) (fun c1 => ?_)
    · replace hwp := hwp.1 ((lg_cmp_eq _ _).mp c1)
      exact wk_X12_putValue_55 cx  _ _ _ _ hwp hw (lv_sub hl [0] rfl)
    · replace hwp := hwp.2 (mt (lg_cmp_eq _ _).mpr c1)
      refine lv_aload_n (pc := 32) cx.1 cx.2.1 dX12_putValue_32 rfl (lv_at hl 0 rfl) ?_
      refine lv_lconst (pc := 33) (v := 1) cx.1 cx.2.1 dX12_putValue_33 (by decide) ?_
      refine lv_iconst (pc := 34) (v := 1) cx.1 cx.2.1 dX12_putValue_34 (by decide) ?_
      refine k_whole_v (pc := 35) (wf := (wM d h)) (u := u) cx hw (k_runV (pc := 35) (rest := []) (As := [.long (1 : Int64), .int (1 : Int32)]) cx hw.1 (hw.2.1.weaken (fun _ _ _ _ => trivial)) hw.2.2 (k_recv cx hw 0 (ci := 10) (q := (RX12, TX12, 40)) rfl rfl) (m_X12_put l dC dI d h  u (1 : Int64) (1 : Int32) hwp H.size) (cwV 2 cx.2.2.2.2.1 (lw_V q1162 q1164 qs45 q89 q1165) rfl rfl rfl hdV_X12_put ⟨Nat.le_of_ble_eq_true rfl, Nat.le_of_ble_eq_true rfl⟩) rfl hl.1 rfl (Nat.le_of_ble_eq_true rfl) dX12_putValue_35 ⟨Nat.le_of_ble_eq_true rfl, Nat.le_of_ble_eq_true rfl⟩) (fun u2 H locs hwp hw => ?_)
      refine lv_aload_n (pc := 38) cx.1 cx.2.1 dX12_putValue_38 rfl (lv_at hl 0 rfl) ?_
      refine lv_lload_n (pc := 39) cx.1 cx.2.1 dX12_putValue_39 rfl (lv_at hl 1 rfl) ?_
      refine lv_ldc2 (pc := 40) (v := 15) cx.1 cx.2.1 cx.2.2.2.1 (cx.2.2.2.2.1 _ q1175) dX12_putValue_40 ?_
      refine lv_land (pc := 43) cx.1 cx.2.1 dX12_putValue_43 ?_
      refine lv_iconst (pc := 44) (v := 4) cx.1 cx.2.1 dX12_putValue_44 (by decide) ?_
      refine k_whole_v (pc := 45) (wf := (wM d h)) (u := u2) cx hw (k_runV (pc := 45) (rest := []) (As := [.long (x2 &&& (15 : Int64)), .int (4 : Int32)]) cx hw.1 (hw.2.1.weaken (fun _ _ _ _ => trivial)) hw.2.2 (k_recv cx hw 0 (ci := 10) (q := (RX12, TX12, 40)) rfl rfl) (m_X12_put l dC dI d h  u2 (x2 &&& (15 : Int64)) (4 : Int32) hwp H.size) (cwV 2 cx.2.2.2.2.1 (lw_V q1162 q1164 qs45 q89 q1165) rfl rfl rfl hdV_X12_put ⟨Nat.le_of_ble_eq_true rfl, Nat.le_of_ble_eq_true rfl⟩) rfl hl.1 rfl (Nat.le_of_ble_eq_true rfl) dX12_putValue_45 ⟨Nat.le_of_ble_eq_true rfl, Nat.le_of_ble_eq_true rfl⟩) (fun u4 H locs hwp hw => ?_)
      refine lv_lload_n (pc := 48) cx.1 cx.2.1 dX12_putValue_48 rfl (lv_at hl 1 rfl) ?_
      refine lv_iconst (pc := 49) (v := 4) cx.1 cx.2.1 dX12_putValue_49 (by decide) ?_
      refine lv_lshr (pc := 50) cx.1 cx.2.1 dX12_putValue_50 rfl ?_
      refine lv_lstore_n (pc := 51) (lv' := [(2, .long (x2 >>> ((4 : Int32).toInt64 &&& 63))), (0, .ref (h 0))]) cx.1 cx.2.1 dX12_putValue_51 rfl hl (by decide) rfl (fun ls hl => ?_)
      refine lv_goto (pc := 52) (tgt := 26) cx.1 cx.2.1 dX12_putValue_52 (by decide) ?_
      exact ih _ _ _ _ _ hwp hw (lv_sub hl [1, 0] rfl)
set_option maxHeartbeats 4000000 in
theorem m_X12_putValue (l : Launch) (dC : Nat → ClassId) (dI : Nat → Nat → Nat) (d : Nat → ClassId) (h : Nat → Nat) (u : St) (x1 : Int32) {K : St → Prop} (hwp : wp_X12_putValue u x1 K) : kM l yX12_putValue cX12_putValue 4 none ({ frames := 1, cells := 0, slots := 0, locals := 24 } : Room) dC dI d [.ref (h 0), .int x1] (wM d h) u (kQv dC dI (wM d h) K) 0 0 := by
  refine kM_start rfl (Nat.le_of_ble_eq_true rfl) ?_
  intro p e s m below meth c A ls cx hnm hw hl
  generalize hargs : ([.ref (h 0), .int x1] : List Value).toArray = args at cx ⊢
  unfold wp_X12_putValue at hwp
  replace hl : lv_has ls 4 [(0, .ref (h 0)), (1, .int x1)] := hl
  generalize hH : s.heap = H at hw ⊢
  generalize hlo : ([] : List Loc) = locs at hw ⊢
  refine lv_iload_n (pc := 0) cx.1 cx.2.1 dX12_putValue_0 rfl (lv_at hl 1 rfl) ?_
  have hJ2 : ∀ z1 : Int64, z1 = (if 0 ≤ x1 then ((2 : Int64) * x1.toInt64) else (((-2 : Int64) * x1.toInt64) - (1 : Int64))) → W p l e ({ frames := 1, cells := 0, slots := 0, locals := 24 } : Room) s m args below meth c H locs 0 0 (MQ below (kQv dC dI (wM d h) K A) args s 0 0 A) (F0 m 21 ls [.long z1]) := by
    intro z1 ez1
    replace hwp := hwp z1 ez1
    refine lv_ldc2 (pc := 21) (v := 4294967295) cx.1 cx.2.1 cx.2.2.2.1 (cx.2.2.2.2.1 _ q1182) dX12_putValue_21 ?_
    refine lv_land (pc := 24) cx.1 cx.2.1 dX12_putValue_24 ?_
    refine lv_lstore_n (pc := 25) (lv' := [(2, .long (z1 &&& (4294967295 : Int64))), (0, .ref (h 0)), (1, .int x1)]) cx.1 cx.2.1 dX12_putValue_25 rfl hl (by decide) rfl (fun ls hl => ?_)
    obtain ⟨n26, hwp⟩ := hwp
    exact wk_X12_putValue_26 cx n26 _ _ _ _ _ hwp hw (lv_sub hl [1, 0] rfl)
  clear hwp
  refine lv_if_ge (pc := 1) (tgt := 15) cx.1 cx.2.1 dX12_putValue_1 (by decide) (fun c3 => ?_) (fun c3 => ?_)
  · skip
    refine lv_ldc2 (pc := 15) (v := 2) cx.1 cx.2.1 cx.2.2.2.1 (cx.2.2.2.2.1 _ q1168) dX12_putValue_15 ?_
    refine lv_iload_n (pc := 18) cx.1 cx.2.1 dX12_putValue_18 rfl (lv_at hl 1 rfl) ?_
    refine lv_i2l (pc := 19) cx.1 cx.2.1 dX12_putValue_19 rfl ?_
    refine lv_lmul (pc := 20) cx.1 cx.2.1 dX12_putValue_20 ?_
    exact hJ2 _ (if_pos c3).symm
  · skip
    refine lv_ldc2 (pc := 4) (v := -2) cx.1 cx.2.1 cx.2.2.2.1 (cx.2.2.2.2.1 _ q1181) dX12_putValue_4 ?_
    refine lv_iload_n (pc := 7) cx.1 cx.2.1 dX12_putValue_7 rfl (lv_at hl 1 rfl) ?_
    refine lv_i2l (pc := 8) cx.1 cx.2.1 dX12_putValue_8 rfl ?_
    refine lv_lmul (pc := 9) cx.1 cx.2.1 dX12_putValue_9 ?_
    refine lv_lconst (pc := 10) (v := 1) cx.1 cx.2.1 dX12_putValue_10 (by decide) ?_
    refine lv_lsub (pc := 11) cx.1 cx.2.1 dX12_putValue_11 ?_
    refine lv_goto (pc := 12) (tgt := 21) cx.1 cx.2.1 dX12_putValue_12 (by decide) ?_
    exact hJ2 _ (if_neg c3).symm
set_option maxHeartbeats 4000000 in
theorem wk_X12_make_117 {p : Program} {l : Launch} {e : Env} {s : State} {m : MethodId} {args : Array Value} {below : List Frame} {meth : Method} {c : Code} {A : Nat → Prop} {dC : Nat → ClassId} {dI : Nat → Nat → Nat} {d : Nat → ClassId} {h : Nat → Nat} {K : Int32 → St → Prop} (cx : Cx p s m args meth c cX12_make RX12 8 (some .int) A dC dI d) : ∀  (u : St) (H : Heap) (locs : List Loc) (ls : Array Slot), wp_X12_make_117 K  u → Wd dC dI A ((wM d h) u) s H locs → lv_has ls 8 [(0, .ref (h 0))] → W p l e ({ frames := 2, cells := 0, slots := 0, locals := 47 } : Room) s m args below meth c H locs 0 0 (MQ below (kQi dC dI (wM d h) K A) args s 0 0 A) (F0 m 117 ls []) := by
  intro  u H locs ls hwp hw hl
  unfold wp_X12_make_117 at hwp
  refine lv_iconst (pc := 117) (v := 2) cx.1 cx.2.1 dX12_make_117 (by decide) ?_
  refine lv_aload_n (pc := 118) cx.1 cx.2.1 dX12_make_118 rfl (lv_at hl 0 rfl) ?_
  refine k_getI (pc := 119) (u := u) (v := (u.1 34)) cx hw (ln_X12_this_34 d h) (C := RX12) (T := TX12) (N := 40) rfl in_X12 (by decide) q1011 (fun _ h9 => h9) rfl dX12_make_119 ?_
  refine lv_bipush (pc := 122) (v := 31) cx.1 cx.2.1 dX12_make_122 (by decide) ?_
  refine lv_iadd (pc := 124) cx.1 cx.2.1 dX12_make_124 ?_
  refine lv_bipush (pc := 125) (v := 32) cx.1 cx.2.1 dX12_make_125 (by decide) ?_
  refine lv_idiv (pc := 127) cx.1 cx.2.1 dX12_make_127 (by decide) ?_
  refine lv_iadd (pc := 128) cx.1 cx.2.1 dX12_make_128 ?_
  exact k_iret (pc := 129) (wf := (wM d h)) (u := u) cx hw hwp (by decide) (by decide) dX12_make_129
set_option maxHeartbeats 4000000 in
theorem wk_X12_make_39 {p : Program} {l : Launch} {e : Env} {s : State} {m : MethodId} {args : Array Value} {below : List Frame} {meth : Method} {c : Code} {A : Nat → Prop} {dC : Nat → ClassId} {dI : Nat → Nat → Nat} {d : Nat → ClassId} {h : Nat → Nat} {K : Int32 → St → Prop} (cx : Cx p s m args meth c cX12_make RX12 8 (some .int) A dC dI d) : ∀ (n : Nat) (x1 : Int32) (x2 : Int32) (x3 : Int64) (x5 : Int32) (u : St) (H : Heap) (locs : List Loc) (ls : Array Slot), wp_X12_make_39 K n x1 x2 x3 x5 u → Wd dC dI A ((wM d h) u) s H locs → lv_has ls 8 [(0, .ref (h 0)), (1, .int x1), (2, .int x2), (3, .long x3), (5, .int x5)] → W p l e ({ frames := 2, cells := 0, slots := 0, locals := 47 } : Room) s m args below meth c H locs 0 0 (MQ below (kQi dC dI (wM d h) K A) args s 0 0 A) (F0 m 39 ls []) := by
  intro n
  induction n with
  | zero =>
    intros; contradiction
  | succ n ih =>
    intro x1 x2 x3 x5 u H locs ls hwp hw hl
    unfold wp_X12_make_39 at hwp
    refine lv_iload (pc := 39) cx.1 cx.2.1 dX12_make_39 (lv_at hl 4 rfl) ?_
    refine lv_aload_n (pc := 41) cx.1 cx.2.1 dX12_make_41 rfl (lv_at hl 0 rfl) ?_
    refine k_getR (pc := 42) (u := u) (v := .ref (h 3)) cx hw (lr_X12_this_12 d h) (C := RX12) (T := TX12) (N := 40) rfl in_X12 (by decide) q989 (fun _ h9 => h9) rfl dX12_make_42 ?_
    refine lv_iload_n (pc := 45) cx.1 cx.2.1 dX12_make_45 rfl (lv_at hl 1 rfl) ?_
    refine k_iald (pc := 46) (u := u) (f := (u.2.1 12)) cx hw (lx_X12_this_12 d h) 0 rfl rfl hwp.1 dX12_make_46 ?_
    replace hwp := hwp.2
    refine lv_icmp_ge (pc := 47) (tgt := 117) cx.1 cx.2.1 dX12_make_47 (by decide) (fun c1 => ?_) (fun c1 => ?_)
    · replace hwp := hwp.1 c1
      exact wk_X12_make_117 cx  _ _ _ _ hwp hw (lv_sub hl [0] rfl)
    · replace hwp := hwp.2 c1
      refine lv_aload_n (pc := 50) cx.1 cx.2.1 dX12_make_50 rfl (lv_at hl 0 rfl) ?_
      refine k_getR (pc := 51) (u := u) (v := .ref (h 6)) cx hw (lr_X12_this_15 d h) (C := RX12) (T := TX12) (N := 40) rfl in_X12 (by decide) q992 (fun _ h9 => h9) rfl dX12_make_51 ?_
      refine lv_iload_n (pc := 54) cx.1 cx.2.1 dX12_make_54 rfl (lv_at hl 2 rfl) ?_
      refine lv_iload (pc := 55) cx.1 cx.2.1 dX12_make_55 (lv_at hl 4 rfl) ?_
      refine lv_iadd (pc := 57) cx.1 cx.2.1 dX12_make_57 ?_
      refine k_iald (pc := 58) (u := u) (f := (u.2.1 15)) cx hw (lx_X12_this_15 d h) 0 rfl rfl hwp.1 dX12_make_58 ?_
      replace hwp := hwp.2
      refine lv_i2l (pc := 59) cx.1 cx.2.1 dX12_make_59 rfl ?_
      refine lv_aload_n (pc := 60) cx.1 cx.2.1 dX12_make_60 rfl (lv_at hl 0 rfl) ?_
      refine k_getR (pc := 61) (u := u) (v := .ref (h 6)) cx hw (lr_X12_this_15 d h) (C := RX12) (T := TX12) (N := 40) rfl in_X12 (by decide) q992 (fun _ h9 => h9) rfl dX12_make_61 ?_
      refine lv_iload_n (pc := 64) cx.1 cx.2.1 dX12_make_64 rfl (lv_at hl 2 rfl) ?_
      refine lv_iload (pc := 65) cx.1 cx.2.1 dX12_make_65 (lv_at hl 4 rfl) ?_
      refine lv_iadd (pc := 67) cx.1 cx.2.1 dX12_make_67 ?_
      refine lv_iconst (pc := 68) (v := 1) cx.1 cx.2.1 dX12_make_68 (by decide) ?_
      refine lv_isub (pc := 69) cx.1 cx.2.1 dX12_make_69 ?_
      refine k_iald (pc := 70) (u := u) (f := (u.2.1 15)) cx hw (lx_X12_this_15 d h) 0 rfl rfl hwp.1 dX12_make_70 ?_
      replace hwp := hwp.2
      refine lv_i2l (pc := 71) cx.1 cx.2.1 dX12_make_71 rfl ?_
      refine lv_lsub (pc := 72) cx.1 cx.2.1 dX12_make_72 ?_
      refine lv_lstore (pc := 73) (lv' := [(6, .long (((u.2.1 15) (x2 + x5).toNatClampNeg).toInt64 - ((u.2.1 15) ((x2 + x5) - (1 : Int32)).toNatClampNeg).toInt64)), (0, .ref (h 0)), (1, .int x1), (2, .int x2), (3, .long x3), (5, .int x5)]) cx.1 cx.2.1 dX12_make_73 hl (by decide) rfl (fun ls hl => ?_)
      refine lv_aload_n (pc := 75) cx.1 cx.2.1 dX12_make_75 rfl (lv_at hl 1 rfl) ?_
      refine lv_lload (pc := 76) cx.1 cx.2.1 dX12_make_76 (lv_at hl 0 rfl) ?_
      refine lv_lload_n (pc := 78) cx.1 cx.2.1 dX12_make_78 rfl (lv_at hl 4 rfl) ?_
      refine lv_lsub (pc := 79) cx.1 cx.2.1 dX12_make_79 ?_
      refine k_whole_v (pc := 80) (wf := (wM d h)) (u := u) cx hw (k_runV (pc := 80) (rest := []) (As := [.long ((((u.2.1 15) (x2 + x5).toNatClampNeg).toInt64 - ((u.2.1 15) ((x2 + x5) - (1 : Int32)).toNatClampNeg).toInt64) - x3)]) cx hw.1 (hw.2.1.weaken (fun _ _ _ _ => trivial)) hw.2.2 (k_recv cx hw 0 (ci := 10) (q := (RX12, TX12, 40)) rfl rfl) (m_X12_putStep l dC dI d h  u ((((u.2.1 15) (x2 + x5).toNatClampNeg).toInt64 - ((u.2.1 15) ((x2 + x5) - (1 : Int32)).toNatClampNeg).toInt64) - x3) hwp H.size) (cwV 1 cx.2.2.2.2.1 (lw_V q1158 q1160 qs44 q89 q1161) rfl rfl rfl hdV_X12_putStep ⟨Nat.le_of_ble_eq_true rfl, Nat.le_of_ble_eq_true rfl⟩) rfl hl.1 rfl (Nat.le_of_ble_eq_true rfl) dX12_make_80 ⟨Nat.le_of_ble_eq_true rfl, Nat.le_of_ble_eq_true rfl⟩) (fun u2 H locs hwp hw => ?_)
      refine lv_lload (pc := 83) cx.1 cx.2.1 dX12_make_83 (lv_at hl 0 rfl) ?_
      refine lv_lstore_n (pc := 85) (lv' := [(3, .long (((u.2.1 15) (x2 + x5).toNatClampNeg).toInt64 - ((u.2.1 15) ((x2 + x5) - (1 : Int32)).toNatClampNeg).toInt64)), (6, .long (((u.2.1 15) (x2 + x5).toNatClampNeg).toInt64 - ((u.2.1 15) ((x2 + x5) - (1 : Int32)).toNatClampNeg).toInt64)), (0, .ref (h 0)), (1, .int x1), (2, .int x2), (5, .int x5)]) cx.1 cx.2.1 dX12_make_85 rfl hl (by decide) rfl (fun ls hl => ?_)
      refine lv_aload_n (pc := 86) cx.1 cx.2.1 dX12_make_86 rfl (lv_at hl 2 rfl) ?_
      refine lv_aload_n (pc := 87) cx.1 cx.2.1 dX12_make_87 rfl (lv_at hl 2 rfl) ?_
      refine k_getR (pc := 88) (u := u2) (v := .ref (h 7)) cx hw (lr_X12_this_16 d h) (C := RX12) (T := TX12) (N := 40) rfl in_X12 (by decide) q993 (fun _ h9 => h9) rfl dX12_make_88 ?_
      refine lv_iload_n (pc := 91) cx.1 cx.2.1 dX12_make_91 rfl (lv_at hl 4 rfl) ?_
      refine lv_iload (pc := 92) cx.1 cx.2.1 dX12_make_92 (lv_at hl 5 rfl) ?_
      refine lv_iadd (pc := 94) cx.1 cx.2.1 dX12_make_94 ?_
      refine k_iald (pc := 95) (u := u2) (f := (u2.2.1 16)) cx hw (lx_X12_this_16 d h) 0 rfl rfl hwp.1 dX12_make_95 ?_
      replace hwp := hwp.2
      refine lv_aload_n (pc := 96) cx.1 cx.2.1 dX12_make_96 rfl (lv_at hl 2 rfl) ?_
      refine k_getR (pc := 97) (u := u2) (v := .ref (h 7)) cx hw (lr_X12_this_16 d h) (C := RX12) (T := TX12) (N := 40) rfl in_X12 (by decide) q993 (fun _ h9 => h9) rfl dX12_make_97 ?_
      refine lv_iload_n (pc := 100) cx.1 cx.2.1 dX12_make_100 rfl (lv_at hl 4 rfl) ?_
      refine lv_iload (pc := 101) cx.1 cx.2.1 dX12_make_101 (lv_at hl 5 rfl) ?_
      refine lv_iadd (pc := 103) cx.1 cx.2.1 dX12_make_103 ?_
      refine lv_iconst (pc := 104) (v := 1) cx.1 cx.2.1 dX12_make_104 (by decide) ?_
      refine lv_isub (pc := 105) cx.1 cx.2.1 dX12_make_105 ?_
      refine k_iald (pc := 106) (u := u2) (f := (u2.2.1 16)) cx hw (lx_X12_this_16 d h) 0 rfl rfl hwp.1 dX12_make_106 ?_
      replace hwp := hwp.2
      refine lv_isub (pc := 107) cx.1 cx.2.1 dX12_make_107 ?_
      refine k_whole_v (pc := 108) (wf := (wM d h)) (u := u2) cx hw (k_runV (pc := 108) (rest := []) (As := [.int (((u2.2.1 16) (x2 + x5).toNatClampNeg) - ((u2.2.1 16) ((x2 + x5) - (1 : Int32)).toNatClampNeg))]) cx hw.1 (hw.2.1.weaken (fun _ _ _ _ => trivial)) hw.2.2 (k_recv cx hw 0 (ci := 10) (q := (RX12, TX12, 40)) rfl rfl) (m_X12_putValue l dC dI d h  u2 (((u2.2.1 16) (x2 + x5).toNatClampNeg) - ((u2.2.1 16) ((x2 + x5) - (1 : Int32)).toNatClampNeg)) hwp H.size) (cwV 1 cx.2.2.2.2.1 (lw_V q1177 q1179 qs46 q89 q1180) rfl rfl rfl hdV_X12_putValue ⟨Nat.le_of_ble_eq_true rfl, Nat.le_of_ble_eq_true rfl⟩) rfl hl.1 rfl (Nat.le_of_ble_eq_true rfl) dX12_make_108 ⟨Nat.le_of_ble_eq_true rfl, Nat.le_of_ble_eq_true rfl⟩) (fun u4 H locs hwp hw => ?_)
      refine lv_iinc (pc := 111) (v := (x5 + (1 : Int32))) (lv' := [(5, .int (x5 + (1 : Int32))), (3, .long (((u.2.1 15) (x2 + x5).toNatClampNeg).toInt64 - ((u.2.1 15) ((x2 + x5) - (1 : Int32)).toNatClampNeg).toInt64)), (6, .long (((u.2.1 15) (x2 + x5).toNatClampNeg).toInt64 - ((u.2.1 15) ((x2 + x5) - (1 : Int32)).toNatClampNeg).toInt64)), (0, .ref (h 0)), (1, .int x1), (2, .int x2)]) cx.1 cx.2.1 dX12_make_111 hl (k := 5) rfl rfl (by decide) rfl (fun ls hl => ?_)
      refine lv_goto (pc := 114) (tgt := 39) cx.1 cx.2.1 dX12_make_114 (by decide) ?_
      exact ih _ _ _ _ _ _ _ _ hwp hw (lv_sub hl [3, 4, 5, 1, 0] rfl)
set_option maxHeartbeats 4000000 in
theorem m_X12_make (l : Launch) (dC : Nat → ClassId) (dI : Nat → Nat → Nat) (d : Nat → ClassId) (h : Nat → Nat) (u : St) (x1 : Int32) {K : Int32 → St → Prop} (hwp : wp_X12_make u x1 K) : kM l yX12_make cX12_make 8 (some .int) ({ frames := 2, cells := 0, slots := 0, locals := 47 } : Room) dC dI d [.ref (h 0), .int x1] (wM d h) u (kQi dC dI (wM d h) K) 0 0 := by
  refine kM_start rfl (Nat.le_of_ble_eq_true rfl) ?_
  intro p e s m below meth c A ls cx hnm hw hl
  generalize hargs : ([.ref (h 0), .int x1] : List Value).toArray = args at cx ⊢
  unfold wp_X12_make at hwp
  replace hl : lv_has ls 8 [(0, .ref (h 0)), (1, .int x1)] := hl
  generalize hH : s.heap = H at hw ⊢
  generalize hlo : ([] : List Loc) = locs at hw ⊢
  refine lv_bipush (pc := 0) (v := 64) cx.1 cx.2.1 dX12_make_0 (by decide) ?_
  refine lv_iload_n (pc := 2) cx.1 cx.2.1 dX12_make_2 rfl (lv_at hl 1 rfl) ?_
  refine lv_imul (pc := 3) cx.1 cx.2.1 dX12_make_3 ?_
  refine lv_istore_n (pc := 4) (lv' := [(2, .int ((64 : Int32) * x1)), (0, .ref (h 0)), (1, .int x1)]) cx.1 cx.2.1 dX12_make_4 rfl hl (by decide) rfl (fun ls hl => ?_)
  refine lv_aload_n (pc := 5) cx.1 cx.2.1 dX12_make_5 rfl (lv_at hl 1 rfl) ?_
  refine k_getR (pc := 6) (u := u) (v := .ref (h 16)) cx hw (lr_X12_this_33 d h) (C := RX12) (T := TX12) (N := 40) rfl in_X12 (by decide) q1010 (fun _ h9 => h9) rfl dX12_make_6 ?_
  refine lv_iconst (pc := 9) (v := 0) cx.1 cx.2.1 dX12_make_9 (by decide) ?_
  refine lv_aload_n (pc := 10) cx.1 cx.2.1 dX12_make_10 rfl (lv_at hl 1 rfl) ?_
  refine k_getR (pc := 11) (u := u) (v := .ref (h 6)) cx hw (lr_X12_this_15 d h) (C := RX12) (T := TX12) (N := 40) rfl in_X12 (by decide) q992 (fun _ h9 => h9) rfl dX12_make_11 ?_
  refine lv_iload_n (pc := 14) cx.1 cx.2.1 dX12_make_14 rfl (lv_at hl 0 rfl) ?_
  refine k_iald (pc := 15) (u := u) (f := (u.2.1 15)) cx hw (lx_X12_this_15 d h) 0 rfl rfl hwp.1 dX12_make_15 ?_
  replace hwp := hwp.2
  refine lv_topi (fun y1 ey1 => ?_)
  replace hwp := hwp y1 ey1
  refine k_iast (pc := 16) (u := u) (f := (u.2.1 33)) cx hw (ln_X12_this_33 d h) 0 rfl rfl (by unfold vp_in; decide) dX12_make_16 (fun H locs hw => ?_)
  refine lv_aload_n (pc := 17) cx.1 cx.2.1 dX12_make_17 rfl (lv_at hl 1 rfl) ?_
  refine k_getR (pc := 18) (u := (st_A u 33 (upd (u.2.1 33) (0 : Int32).toNatClampNeg y1))) (v := .ref (h 16)) cx hw (lr_X12_this_33 d h) (C := RX12) (T := TX12) (N := 40) rfl in_X12 (by decide) q1010 (fun _ h9 => h9) rfl dX12_make_18 ?_
  refine lv_iconst (pc := 21) (v := 1) cx.1 cx.2.1 dX12_make_21 (by decide) ?_
  refine lv_aload_n (pc := 22) cx.1 cx.2.1 dX12_make_22 rfl (lv_at hl 1 rfl) ?_
  refine k_getR (pc := 23) (u := (st_A u 33 (upd (u.2.1 33) (0 : Int32).toNatClampNeg y1))) (v := .ref (h 7)) cx hw (lr_X12_this_16 d h) (C := RX12) (T := TX12) (N := 40) rfl in_X12 (by decide) q993 (fun _ h9 => h9) rfl dX12_make_23 ?_
  refine lv_iload_n (pc := 26) cx.1 cx.2.1 dX12_make_26 rfl (lv_at hl 0 rfl) ?_
  refine k_iald (pc := 27) (u := (st_A u 33 (upd (u.2.1 33) (0 : Int32).toNatClampNeg y1))) (f := (u.2.1 16)) cx hw (lx_X12_this_16 d h) 0 rfl rfl hwp.1 dX12_make_27 ?_
  replace hwp := hwp.2
  refine lv_topi (fun y2 ey2 => ?_)
  replace hwp := hwp y2 ey2
  refine k_iast (pc := 28) (u := (st_A u 33 (upd (u.2.1 33) (0 : Int32).toNatClampNeg y1))) (f := (upd (u.2.1 33) (0 : Int32).toNatClampNeg y1)) cx hw (ln_X12_this_33 d h) 0 rfl rfl (by unfold vp_in; decide) dX12_make_28 (fun H locs hw => ?_)
  refine lv_aload_n (pc := 29) cx.1 cx.2.1 dX12_make_29 rfl (lv_at hl 1 rfl) ?_
  refine lv_iconst (pc := 30) (v := 0) cx.1 cx.2.1 dX12_make_30 (by decide) ?_
  refine k_putI (pc := 31) (u := (st_A (st_A u 33 (upd (u.2.1 33) (0 : Int32).toNatClampNeg y1)) 33 (upd (upd (u.2.1 33) (0 : Int32).toNatClampNeg y1) (1 : Int32).toNatClampNeg y2))) (v := (0 : Int32)) cx hw (ln_X12_this_34 d h) (C := RX12) (T := TX12) (N := 40) rfl in_X12 tyX12 tyX12_ok nmX12 (by decide) q1011 (fun _ h9 => h9) rfl rfl rfl dX12_make_31 (fun H locs hw => ?_)
  refine lv_lconst (pc := 34) (v := 0) cx.1 cx.2.1 dX12_make_34 (by decide) ?_
  refine lv_lstore_n (pc := 35) (lv' := [(3, .long (0 : Int64)), (2, .int ((64 : Int32) * x1)), (0, .ref (h 0)), (1, .int x1)]) cx.1 cx.2.1 dX12_make_35 rfl hl (by decide) rfl (fun ls hl => ?_)
  refine lv_iconst (pc := 36) (v := 1) cx.1 cx.2.1 dX12_make_36 (by decide) ?_
  refine lv_istore (pc := 37) (lv' := [(5, .int (1 : Int32)), (3, .long (0 : Int64)), (2, .int ((64 : Int32) * x1)), (0, .ref (h 0)), (1, .int x1)]) cx.1 cx.2.1 dX12_make_37 hl (by decide) rfl (fun ls hl => ?_)
  obtain ⟨n39, hwp⟩ := hwp
  exact wk_X12_make_39 cx n39 _ _ _ _ _ _ _ _ hwp hw (lv_sub hl [3, 4, 2, 1, 0] rfl)
set_option maxHeartbeats 4000000 in
theorem m_X12_isOf (l : Launch) (dC : Nat → ClassId) (dI : Nat → Nat → Nat) (d : Nat → ClassId) (h : Nat → Nat) (u : St) (x1 : Int32) (x2 : Int32) {K : Int32 → St → Prop} (hwp : wp_X12_isOf u x1 x2 K) : kM l yX12_isOf cX12_isOf 3 (some .boolean) ({ frames := 0, cells := 0, slots := 0, locals := 0 } : Room) dC dI d [.ref (h 0), .int x1, .int x2] (wM d h) u (kQi dC dI (wM d h) K) 0 0 := by
  refine kM_start rfl (Nat.le_of_ble_eq_true rfl) ?_
  intro p e s m below meth c A ls cx hnm hw hl
  generalize hargs : ([.ref (h 0), .int x1, .int x2] : List Value).toArray = args at cx ⊢
  unfold wp_X12_isOf at hwp
  replace hl : lv_has ls 3 [(0, .ref (h 0)), (1, .int x1), (2, .int x2)] := hl
  generalize hH : s.heap = H at hw ⊢
  generalize hlo : ([] : List Loc) = locs at hw ⊢
  refine lv_iload_n (pc := 0) cx.1 cx.2.1 dX12_isOf_0 rfl (lv_at hl 2 rfl) ?_
  refine lv_aload_n (pc := 1) cx.1 cx.2.1 dX12_isOf_1 rfl (lv_at hl 0 rfl) ?_
  refine k_getR (pc := 2) (u := u) (v := .ref (h 4)) cx hw (lr_X12_this_13 d h) (C := RX12) (T := TX12) (N := 40) rfl in_X12 (by decide) q990 (fun _ h9 => h9) rfl dX12_isOf_2 ?_
  refine lv_iload_n (pc := 5) cx.1 cx.2.1 dX12_isOf_5 rfl (lv_at hl 1 rfl) ?_
  refine k_iald (pc := 6) (u := u) (f := (u.2.1 13)) cx hw (lx_X12_this_13 d h) 0 rfl rfl hwp.1 dX12_isOf_6 ?_
  replace hwp := hwp.2
  refine lv_icmp_lt (pc := 7) (tgt := 31) cx.1 cx.2.1 dX12_isOf_7 (by decide) (fun c1 => ?_) (fun c1 => ?_)
  · replace hwp := hwp.1 c1
    refine lv_iconst (pc := 31) (v := 0) cx.1 cx.2.1 dX12_isOf_31 (by decide) ?_
    exact k_zret (pc := 32) (wf := (wM d h)) (u := u) cx hw rfl hwp (by decide) (by decide) dX12_isOf_32
  · replace hwp := hwp.2 c1
    refine lv_iload_n (pc := 10) cx.1 cx.2.1 dX12_isOf_10 rfl (lv_at hl 2 rfl) ?_
    refine lv_aload_n (pc := 11) cx.1 cx.2.1 dX12_isOf_11 rfl (lv_at hl 0 rfl) ?_
    refine k_getR (pc := 12) (u := u) (v := .ref (h 4)) cx hw (lr_X12_this_13 d h) (C := RX12) (T := TX12) (N := 40) rfl in_X12 (by decide) q990 (fun _ h9 => h9) rfl dX12_isOf_12 ?_
    refine lv_iload_n (pc := 15) cx.1 cx.2.1 dX12_isOf_15 rfl (lv_at hl 1 rfl) ?_
    refine k_iald (pc := 16) (u := u) (f := (u.2.1 13)) cx hw (lx_X12_this_13 d h) 0 rfl rfl hwp.1 dX12_isOf_16 ?_
    replace hwp := hwp.2
    refine lv_aload_n (pc := 17) cx.1 cx.2.1 dX12_isOf_17 rfl (lv_at hl 0 rfl) ?_
    refine k_getR (pc := 18) (u := u) (v := .ref (h 5)) cx hw (lr_X12_this_14 d h) (C := RX12) (T := TX12) (N := 40) rfl in_X12 (by decide) q991 (fun _ h9 => h9) rfl dX12_isOf_18 ?_
    refine lv_iload_n (pc := 21) cx.1 cx.2.1 dX12_isOf_21 rfl (lv_at hl 1 rfl) ?_
    refine k_iald (pc := 22) (u := u) (f := (u.2.1 14)) cx hw (lx_X12_this_14 d h) 0 rfl rfl hwp.1 dX12_isOf_22 ?_
    replace hwp := hwp.2
    refine lv_iadd (pc := 23) cx.1 cx.2.1 dX12_isOf_23 ?_
    refine lv_icmp_ge (pc := 24) (tgt := 31) cx.1 cx.2.1 dX12_isOf_24 (by decide) (fun c2 => ?_) (fun c2 => ?_)
    · replace hwp := hwp.1 c2
      refine lv_iconst (pc := 31) (v := 0) cx.1 cx.2.1 dX12_isOf_31 (by decide) ?_
      exact k_zret (pc := 32) (wf := (wM d h)) (u := u) cx hw rfl hwp (by decide) (by decide) dX12_isOf_32
    · replace hwp := hwp.2 c2
      refine lv_iconst (pc := 27) (v := 1) cx.1 cx.2.1 dX12_isOf_27 (by decide) ?_
      refine lv_goto (pc := 28) (tgt := 32) cx.1 cx.2.1 dX12_isOf_28 (by decide) ?_
      exact k_zret (pc := 32) (wf := (wM d h)) (u := u) cx hw rfl hwp (by decide) (by decide) dX12_isOf_32
set_option maxHeartbeats 4000000 in
theorem wk_X12_isTaken_48 {p : Program} {l : Launch} {e : Env} {s : State} {m : MethodId} {args : Array Value} {below : List Frame} {meth : Method} {c : Code} {A : Nat → Prop} {dC : Nat → ClassId} {dI : Nat → Nat → Nat} {d : Nat → ClassId} {h : Nat → Nat} {K : Int32 → St → Prop} (cx : Cx p s m args meth c cX12_isTaken RX12 5 (some .boolean) A dC dI d) : ∀ (n : Nat) (x1 : Int32) (x2 : Int32) (x3 : Int32) (x4 : Int32) (u : St) (H : Heap) (locs : List Loc) (ls : Array Slot), wp_X12_isTaken_48 K n x1 x2 x3 x4 u → Wd dC dI A ((wM d h) u) s H locs → lv_has ls 5 [(0, .ref (h 0)), (1, .int x1), (2, .int x2), (3, .int x3), (4, .int x4)] → W p l e ({ frames := 1, cells := 0, slots := 0, locals := 22 } : Room) s m args below meth c H locs 0 0 (MQ below (kQi dC dI (wM d h) K A) args s 0 0 A) (F0 m 48 ls []) := by
  intro n
  induction n with
  | zero =>
    intros; contradiction
  | succ n ih =>
    intro x1 x2 x3 x4 u H locs ls hwp hw hl
    unfold wp_X12_isTaken_48 at hwp
    refine lv_iload (pc := 48) cx.1 cx.2.1 dX12_isTaken_48 (lv_at hl 4 rfl) ?_
    refine lv_iload_n (pc := 50) cx.1 cx.2.1 dX12_isTaken_50 rfl (lv_at hl 2 rfl) ?_
    refine lv_icmp_ge (pc := 51) (tgt := 95) cx.1 cx.2.1 dX12_isTaken_51 (by decide) (fun c1 => ?_) (fun c1 => ?_)
    · replace hwp := hwp.1 c1
      refine lv_iload_n (pc := 95) cx.1 cx.2.1 dX12_isTaken_95 rfl (lv_at hl 3 rfl) ?_
      exact k_zret (pc := 96) (wf := (wM d h)) (u := u) cx hw (ok_Zn hwp.1) hwp.2 (by decide) (by decide) dX12_isTaken_96
    · replace hwp := hwp.2 c1
      refine lv_iload_n (pc := 54) cx.1 cx.2.1 dX12_isTaken_54 rfl (lv_at hl 3 rfl) ?_
      refine lv_if_ne (pc := 55) (tgt := 83) cx.1 cx.2.1 dX12_isTaken_55 (by decide) (fun c2 => ?_) (fun c2 => ?_)
      · replace hwp := hwp.1 c2
        refine lv_iconst (pc := 83) (v := 1) cx.1 cx.2.1 dX12_isTaken_83 (by decide) ?_
        refine lv_goto (pc := 84) (tgt := 88) cx.1 cx.2.1 dX12_isTaken_84 (by decide) ?_
        refine lv_istore_n (pc := 88) (lv' := [(3, .int (1 : Int32)), (0, .ref (h 0)), (1, .int x1), (2, .int x2), (4, .int x4)]) cx.1 cx.2.1 dX12_isTaken_88 rfl hl (by decide) rfl (fun ls hl => ?_)
        refine lv_iinc (pc := 89) (v := (x4 + (1 : Int32))) (lv' := [(4, .int (x4 + (1 : Int32))), (3, .int (1 : Int32)), (0, .ref (h 0)), (1, .int x1), (2, .int x2)]) cx.1 cx.2.1 dX12_isTaken_89 hl (k := 4) rfl rfl (by decide) rfl (fun ls hl => ?_)
        refine lv_goto (pc := 92) (tgt := 48) cx.1 cx.2.1 dX12_isTaken_92 (by decide) ?_
        exact ih _ _ _ _ _ _ _ _ hwp hw (lv_sub hl [2, 3, 4, 1, 0] rfl)
      · replace hwp := hwp.2 c2
        refine lv_aload_n (pc := 58) cx.1 cx.2.1 dX12_isTaken_58 rfl (lv_at hl 0 rfl) ?_
        refine k_getR (pc := 59) (u := u) (v := .ref (h 13)) cx hw (lr_X12_this_26 d h) (C := RX12) (T := TX12) (N := 40) rfl in_X12 (by decide) q1003 (fun _ h9 => h9) rfl dX12_isTaken_59 ?_
        refine lv_iload (pc := 62) cx.1 cx.2.1 dX12_isTaken_62 (lv_at hl 4 rfl) ?_
        refine k_zald (pc := 64) (u := u) (f := (u.2.1 26)) cx hw (lx_X12_this_26 d h) 5 rfl rfl hwp.1 dX12_isTaken_64 ?_
        replace hwp := hwp.2
        refine lv_if_eq (pc := 65) (tgt := 87) cx.1 cx.2.1 dX12_isTaken_65 (by decide) (fun c3 => ?_) (fun c3 => ?_)
        · replace hwp := hwp.1 c3
          refine lv_iconst (pc := 87) (v := 0) cx.1 cx.2.1 dX12_isTaken_87 (by decide) ?_
          refine lv_istore_n (pc := 88) (lv' := [(3, .int (0 : Int32)), (0, .ref (h 0)), (1, .int x1), (2, .int x2), (4, .int x4)]) cx.1 cx.2.1 dX12_isTaken_88 rfl hl (by decide) rfl (fun ls hl => ?_)
          refine lv_iinc (pc := 89) (v := (x4 + (1 : Int32))) (lv' := [(4, .int (x4 + (1 : Int32))), (3, .int (0 : Int32)), (0, .ref (h 0)), (1, .int x1), (2, .int x2)]) cx.1 cx.2.1 dX12_isTaken_89 hl (k := 4) rfl rfl (by decide) rfl (fun ls hl => ?_)
          refine lv_goto (pc := 92) (tgt := 48) cx.1 cx.2.1 dX12_isTaken_92 (by decide) ?_
          exact ih _ _ _ _ _ _ _ _ hwp hw (lv_sub hl [2, 3, 4, 1, 0] rfl)
        · replace hwp := hwp.2 c3
          refine lv_aload_n (pc := 68) cx.1 cx.2.1 dX12_isTaken_68 rfl (lv_at hl 0 rfl) ?_
          refine lv_aload_n (pc := 69) cx.1 cx.2.1 dX12_isTaken_69 rfl (lv_at hl 0 rfl) ?_
          refine k_getR (pc := 70) (u := u) (v := .ref (h 12)) cx hw (lr_X12_this_25 d h) (C := RX12) (T := TX12) (N := 40) rfl in_X12 (by decide) q1002 (fun _ h9 => h9) rfl dX12_isTaken_70 ?_
          refine lv_iload (pc := 73) cx.1 cx.2.1 dX12_isTaken_73 (lv_at hl 4 rfl) ?_
          refine k_iald (pc := 75) (u := u) (f := (u.2.1 25)) cx hw (lx_X12_this_25 d h) 0 rfl rfl hwp.1 dX12_isTaken_75 ?_
          replace hwp := hwp.2
          refine lv_iload_n (pc := 76) cx.1 cx.2.1 dX12_isTaken_76 rfl (lv_at hl 1 rfl) ?_
          refine k_whole_i (pc := 77) (wf := (wM d h)) (u := u) cx hw (k_runV (pc := 77) (rest := []) (As := [.int ((u.2.1 25) x4.toNatClampNeg), .int x1]) cx hw.1 (hw.2.1.weaken (fun _ _ _ _ => trivial)) hw.2.2 (k_recv cx hw 0 (ci := 10) (q := (RX12, TX12, 40)) rfl rfl) (m_X12_isOf l dC dI d h  u ((u.2.1 25) x4.toNatClampNeg) x1 hwp H.size) (cwV 2 cx.2.2.2.2.1 (lw_V q1191 q1193 qs49 q89 q1194) rfl rfl rfl hdV_X12_isOf ⟨Nat.le_of_ble_eq_true rfl, Nat.le_of_ble_eq_true rfl⟩) rfl hl.1 rfl (Nat.le_of_ble_eq_true rfl) dX12_isTaken_77 ⟨Nat.le_of_ble_eq_true rfl, Nat.le_of_ble_eq_true rfl⟩) (fun r5 u4 H locs hwp hw => ?_)
          refine lv_if_eq (pc := 80) (tgt := 87) cx.1 cx.2.1 dX12_isTaken_80 (by decide) (fun c6 => ?_) (fun c6 => ?_)
          · replace hwp := hwp.1 c6
            refine lv_iconst (pc := 87) (v := 0) cx.1 cx.2.1 dX12_isTaken_87 (by decide) ?_
            refine lv_istore_n (pc := 88) (lv' := [(3, .int (0 : Int32)), (0, .ref (h 0)), (1, .int x1), (2, .int x2), (4, .int x4)]) cx.1 cx.2.1 dX12_isTaken_88 rfl hl (by decide) rfl (fun ls hl => ?_)
            refine lv_iinc (pc := 89) (v := (x4 + (1 : Int32))) (lv' := [(4, .int (x4 + (1 : Int32))), (3, .int (0 : Int32)), (0, .ref (h 0)), (1, .int x1), (2, .int x2)]) cx.1 cx.2.1 dX12_isTaken_89 hl (k := 4) rfl rfl (by decide) rfl (fun ls hl => ?_)
            refine lv_goto (pc := 92) (tgt := 48) cx.1 cx.2.1 dX12_isTaken_92 (by decide) ?_
            exact ih _ _ _ _ _ _ _ _ hwp hw (lv_sub hl [2, 3, 4, 1, 0] rfl)
          · replace hwp := hwp.2 c6
            refine lv_iconst (pc := 83) (v := 1) cx.1 cx.2.1 dX12_isTaken_83 (by decide) ?_
            refine lv_goto (pc := 84) (tgt := 88) cx.1 cx.2.1 dX12_isTaken_84 (by decide) ?_
            refine lv_istore_n (pc := 88) (lv' := [(3, .int (1 : Int32)), (0, .ref (h 0)), (1, .int x1), (2, .int x2), (4, .int x4)]) cx.1 cx.2.1 dX12_isTaken_88 rfl hl (by decide) rfl (fun ls hl => ?_)
            refine lv_iinc (pc := 89) (v := (x4 + (1 : Int32))) (lv' := [(4, .int (x4 + (1 : Int32))), (3, .int (1 : Int32)), (0, .ref (h 0)), (1, .int x1), (2, .int x2)]) cx.1 cx.2.1 dX12_isTaken_89 hl (k := 4) rfl rfl (by decide) rfl (fun ls hl => ?_)
            refine lv_goto (pc := 92) (tgt := 48) cx.1 cx.2.1 dX12_isTaken_92 (by decide) ?_
            exact ih _ _ _ _ _ _ _ _ hwp hw (lv_sub hl [2, 3, 4, 1, 0] rfl)
set_option maxHeartbeats 4000000 in
theorem wk_X12_isTaken_5 {p : Program} {l : Launch} {e : Env} {s : State} {m : MethodId} {args : Array Value} {below : List Frame} {meth : Method} {c : Code} {A : Nat → Prop} {dC : Nat → ClassId} {dI : Nat → Nat → Nat} {d : Nat → ClassId} {h : Nat → Nat} {K : Int32 → St → Prop} (cx : Cx p s m args meth c cX12_isTaken RX12 5 (some .boolean) A dC dI d) : ∀ (n : Nat) (x1 : Int32) (x2 : Int32) (x3 : Int32) (x4 : Int32) (u : St) (H : Heap) (locs : List Loc) (ls : Array Slot), wp_X12_isTaken_5 K n x1 x2 x3 x4 u → Wd dC dI A ((wM d h) u) s H locs → lv_has ls 5 [(0, .ref (h 0)), (1, .int x1), (2, .int x2), (3, .int x3), (4, .int x4)] → W p l e ({ frames := 1, cells := 0, slots := 0, locals := 22 } : Room) s m args below meth c H locs 0 0 (MQ below (kQi dC dI (wM d h) K A) args s 0 0 A) (F0 m 5 ls []) := by
  intro n
  induction n with
  | zero =>
    intros; contradiction
  | succ n ih =>
    intro x1 x2 x3 x4 u H locs ls hwp hw hl
    unfold wp_X12_isTaken_5 at hwp
    refine lv_iload (pc := 5) cx.1 cx.2.1 dX12_isTaken_5 (lv_at hl 4 rfl) ?_
    refine lv_aload_n (pc := 7) cx.1 cx.2.1 dX12_isTaken_7 rfl (lv_at hl 0 rfl) ?_
    refine k_getI (pc := 8) (u := u) (v := (u.1 18)) cx hw (ln_X12_this_18 d h) (C := RX12) (T := TX12) (N := 40) rfl in_X12 (by decide) q995 (fun _ h9 => h9) rfl dX12_isTaken_8 ?_
    refine lv_icmp_ge (pc := 11) (tgt := 45) cx.1 cx.2.1 dX12_isTaken_11 (by decide) (fun c1 => ?_) (fun c1 => ?_)
    · replace hwp := hwp.1 c1
      refine lv_iconst (pc := 45) (v := 0) cx.1 cx.2.1 dX12_isTaken_45 (by decide) ?_
      refine lv_istore (pc := 46) (lv' := [(4, .int (0 : Int32)), (0, .ref (h 0)), (1, .int x1), (2, .int x2), (3, .int x3)]) cx.1 cx.2.1 dX12_isTaken_46 hl (by decide) rfl (fun ls hl => ?_)
      obtain ⟨n48, hwp⟩ := hwp
      exact wk_X12_isTaken_48 cx n48 _ _ _ _ _ _ _ _ hwp hw (lv_sub hl [1, 2, 3, 4, 0] rfl)
    · replace hwp := hwp.2 c1
      refine lv_iload_n (pc := 14) cx.1 cx.2.1 dX12_isTaken_14 rfl (lv_at hl 3 rfl) ?_
      refine lv_if_ne (pc := 15) (tgt := 33) cx.1 cx.2.1 dX12_isTaken_15 (by decide) (fun c2 => ?_) (fun c2 => ?_)
      · replace hwp := hwp.1 c2
        refine lv_iconst (pc := 33) (v := 1) cx.1 cx.2.1 dX12_isTaken_33 (by decide) ?_
        refine lv_goto (pc := 34) (tgt := 38) cx.1 cx.2.1 dX12_isTaken_34 (by decide) ?_
        refine lv_istore_n (pc := 38) (lv' := [(3, .int (1 : Int32)), (0, .ref (h 0)), (1, .int x1), (2, .int x2), (4, .int x4)]) cx.1 cx.2.1 dX12_isTaken_38 rfl hl (by decide) rfl (fun ls hl => ?_)
        refine lv_iinc (pc := 39) (v := (x4 + (1 : Int32))) (lv' := [(4, .int (x4 + (1 : Int32))), (3, .int (1 : Int32)), (0, .ref (h 0)), (1, .int x1), (2, .int x2)]) cx.1 cx.2.1 dX12_isTaken_39 hl (k := 4) rfl rfl (by decide) rfl (fun ls hl => ?_)
        refine lv_goto (pc := 42) (tgt := 5) cx.1 cx.2.1 dX12_isTaken_42 (by decide) ?_
        exact ih _ _ _ _ _ _ _ _ hwp hw (lv_sub hl [2, 3, 4, 1, 0] rfl)
      · replace hwp := hwp.2 c2
        refine lv_aload_n (pc := 18) cx.1 cx.2.1 dX12_isTaken_18 rfl (lv_at hl 0 rfl) ?_
        refine lv_aload_n (pc := 19) cx.1 cx.2.1 dX12_isTaken_19 rfl (lv_at hl 0 rfl) ?_
        refine k_getR (pc := 20) (u := u) (v := .ref (h 8)) cx hw (lr_X12_this_17 d h) (C := RX12) (T := TX12) (N := 40) rfl in_X12 (by decide) q994 (fun _ h9 => h9) rfl dX12_isTaken_20 ?_
        refine lv_iload (pc := 23) cx.1 cx.2.1 dX12_isTaken_23 (lv_at hl 4 rfl) ?_
        refine k_iald (pc := 25) (u := u) (f := (u.2.1 17)) cx hw (lx_X12_this_17 d h) 0 rfl rfl hwp.1 dX12_isTaken_25 ?_
        replace hwp := hwp.2
        refine lv_iload_n (pc := 26) cx.1 cx.2.1 dX12_isTaken_26 rfl (lv_at hl 1 rfl) ?_
        refine k_whole_i (pc := 27) (wf := (wM d h)) (u := u) cx hw (k_runV (pc := 27) (rest := []) (As := [.int ((u.2.1 17) x4.toNatClampNeg), .int x1]) cx hw.1 (hw.2.1.weaken (fun _ _ _ _ => trivial)) hw.2.2 (k_recv cx hw 0 (ci := 10) (q := (RX12, TX12, 40)) rfl rfl) (m_X12_isOf l dC dI d h  u ((u.2.1 17) x4.toNatClampNeg) x1 hwp H.size) (cwV 2 cx.2.2.2.2.1 (lw_V q1191 q1193 qs49 q89 q1194) rfl rfl rfl hdV_X12_isOf ⟨Nat.le_of_ble_eq_true rfl, Nat.le_of_ble_eq_true rfl⟩) rfl hl.1 rfl (Nat.le_of_ble_eq_true rfl) dX12_isTaken_27 ⟨Nat.le_of_ble_eq_true rfl, Nat.le_of_ble_eq_true rfl⟩) (fun r4 u3 H locs hwp hw => ?_)
        refine lv_if_eq (pc := 30) (tgt := 37) cx.1 cx.2.1 dX12_isTaken_30 (by decide) (fun c5 => ?_) (fun c5 => ?_)
        · replace hwp := hwp.1 c5
          refine lv_iconst (pc := 37) (v := 0) cx.1 cx.2.1 dX12_isTaken_37 (by decide) ?_
          refine lv_istore_n (pc := 38) (lv' := [(3, .int (0 : Int32)), (0, .ref (h 0)), (1, .int x1), (2, .int x2), (4, .int x4)]) cx.1 cx.2.1 dX12_isTaken_38 rfl hl (by decide) rfl (fun ls hl => ?_)
          refine lv_iinc (pc := 39) (v := (x4 + (1 : Int32))) (lv' := [(4, .int (x4 + (1 : Int32))), (3, .int (0 : Int32)), (0, .ref (h 0)), (1, .int x1), (2, .int x2)]) cx.1 cx.2.1 dX12_isTaken_39 hl (k := 4) rfl rfl (by decide) rfl (fun ls hl => ?_)
          refine lv_goto (pc := 42) (tgt := 5) cx.1 cx.2.1 dX12_isTaken_42 (by decide) ?_
          exact ih _ _ _ _ _ _ _ _ hwp hw (lv_sub hl [2, 3, 4, 1, 0] rfl)
        · replace hwp := hwp.2 c5
          refine lv_iconst (pc := 33) (v := 1) cx.1 cx.2.1 dX12_isTaken_33 (by decide) ?_
          refine lv_goto (pc := 34) (tgt := 38) cx.1 cx.2.1 dX12_isTaken_34 (by decide) ?_
          refine lv_istore_n (pc := 38) (lv' := [(3, .int (1 : Int32)), (0, .ref (h 0)), (1, .int x1), (2, .int x2), (4, .int x4)]) cx.1 cx.2.1 dX12_isTaken_38 rfl hl (by decide) rfl (fun ls hl => ?_)
          refine lv_iinc (pc := 39) (v := (x4 + (1 : Int32))) (lv' := [(4, .int (x4 + (1 : Int32))), (3, .int (1 : Int32)), (0, .ref (h 0)), (1, .int x1), (2, .int x2)]) cx.1 cx.2.1 dX12_isTaken_39 hl (k := 4) rfl rfl (by decide) rfl (fun ls hl => ?_)
          refine lv_goto (pc := 42) (tgt := 5) cx.1 cx.2.1 dX12_isTaken_42 (by decide) ?_
          exact ih _ _ _ _ _ _ _ _ hwp hw (lv_sub hl [2, 3, 4, 1, 0] rfl)
set_option maxHeartbeats 4000000 in
theorem m_X12_isTaken (l : Launch) (dC : Nat → ClassId) (dI : Nat → Nat → Nat) (d : Nat → ClassId) (h : Nat → Nat) (u : St) (x1 : Int32) (x2 : Int32) {K : Int32 → St → Prop} (hwp : wp_X12_isTaken u x1 x2 K) : kM l yX12_isTaken cX12_isTaken 5 (some .boolean) ({ frames := 1, cells := 0, slots := 0, locals := 22 } : Room) dC dI d [.ref (h 0), .int x1, .int x2] (wM d h) u (kQi dC dI (wM d h) K) 0 0 := by
  refine kM_start rfl (Nat.le_of_ble_eq_true rfl) ?_
  intro p e s m below meth c A ls cx hnm hw hl
  generalize hargs : ([.ref (h 0), .int x1, .int x2] : List Value).toArray = args at cx ⊢
  unfold wp_X12_isTaken at hwp
  replace hl : lv_has ls 5 [(0, .ref (h 0)), (1, .int x1), (2, .int x2)] := hl
  generalize hH : s.heap = H at hw ⊢
  generalize hlo : ([] : List Loc) = locs at hw ⊢
  refine lv_iconst (pc := 0) (v := 0) cx.1 cx.2.1 dX12_isTaken_0 (by decide) ?_
  refine lv_istore_n (pc := 1) (lv' := [(3, .int (0 : Int32)), (0, .ref (h 0)), (1, .int x1), (2, .int x2)]) cx.1 cx.2.1 dX12_isTaken_1 rfl hl (by decide) rfl (fun ls hl => ?_)
  refine lv_iconst (pc := 2) (v := 0) cx.1 cx.2.1 dX12_isTaken_2 (by decide) ?_
  refine lv_istore (pc := 3) (lv' := [(4, .int (0 : Int32)), (3, .int (0 : Int32)), (0, .ref (h 0)), (1, .int x1), (2, .int x2)]) cx.1 cx.2.1 dX12_isTaken_3 hl (by decide) rfl (fun ls hl => ?_)
  obtain ⟨n5, hwp⟩ := hwp
  exact wk_X12_isTaken_5 cx n5 _ _ _ _ _ _ _ _ hwp hw (lv_sub hl [2, 3, 4, 1, 0] rfl)
set_option maxHeartbeats 4000000 in
theorem wk_X12_find_7 {p : Program} {l : Launch} {e : Env} {s : State} {m : MethodId} {args : Array Value} {below : List Frame} {meth : Method} {c : Code} {A : Nat → Prop} {dC : Nat → ClassId} {dI : Nat → Nat → Nat} {d : Nat → ClassId} {h : Nat → Nat} {K : Int32 → St → Prop} (cx : Cx p s m args meth c cX12_find RX12 5 (some .int) A dC dI d) : ∀ (n : Nat) (x1 : Int32) (x2 : Int32) (x3 : Int32) (x4 : Int32) (u : St) (H : Heap) (locs : List Loc) (ls : Array Slot), wp_X12_find_7 K n x1 x2 x3 x4 u → Wd dC dI A ((wM d h) u) s H locs → lv_has ls 5 [(0, .ref (h 0)), (1, .int x1), (2, .int x2), (3, .int x3), (4, .int x4)] → W p l e ({ frames := 2, cells := 0, slots := 0, locals := 46 } : Room) s m args below meth c H locs 0 0 (MQ below (kQi dC dI (wM d h) K A) args s 0 0 A) (F0 m 7 ls []) := by
  intro n
  induction n with
  | zero =>
    intros; contradiction
  | succ n ih =>
    intro x1 x2 x3 x4 u H locs ls hwp hw hl
    unfold wp_X12_find_7 at hwp
    refine lv_iload (pc := 7) cx.1 cx.2.1 dX12_find_7 (lv_at hl 4 rfl) ?_
    refine lv_sipush (pc := 9) (v := 4096) cx.1 cx.2.1 dX12_find_9 (by decide) ?_
    refine lv_icmp_ge (pc := 12) (tgt := 51) cx.1 cx.2.1 dX12_find_12 (by decide) (fun c1 => ?_) (fun c1 => ?_)
    · replace hwp := hwp.1 c1
      refine lv_iconst (pc := 51) (v := -1) cx.1 cx.2.1 dX12_find_51 (by decide) ?_
      exact k_iret (pc := 52) (wf := (wM d h)) (u := u) cx hw hwp (by decide) (by decide) dX12_find_52
    · replace hwp := hwp.2 c1
      refine lv_aload_n (pc := 15) cx.1 cx.2.1 dX12_find_15 rfl (lv_at hl 0 rfl) ?_
      refine lv_iload (pc := 16) cx.1 cx.2.1 dX12_find_16 (lv_at hl 4 rfl) ?_
      refine lv_iload_n (pc := 18) cx.1 cx.2.1 dX12_find_18 rfl (lv_at hl 2 rfl) ?_
      refine k_whole_i (pc := 19) (wf := (wM d h)) (u := u) cx hw (k_runV (pc := 19) (rest := []) (As := [.int x4, .int x2]) cx hw.1 (hw.2.1.weaken (fun _ _ _ _ => trivial)) hw.2.2 (k_recv cx hw 0 (ci := 10) (q := (RX12, TX12, 40)) rfl rfl) (m_X12_isTaken l dC dI d h  u x4 x2 hwp H.size) (cwV 2 cx.2.2.2.2.1 (lw_V q1187 q1189 qs48 q89 q1190) rfl rfl rfl hdV_X12_isTaken ⟨Nat.le_of_ble_eq_true rfl, Nat.le_of_ble_eq_true rfl⟩) rfl hl.1 rfl (Nat.le_of_ble_eq_true rfl) dX12_find_19 ⟨Nat.le_of_ble_eq_true rfl, Nat.le_of_ble_eq_true rfl⟩) (fun r3 u2 H locs hwp hw => ?_)
      have hJ5 : ∀ z4 : Int32, z4 = (if r3 = 0 then (x3 + (1 : Int32)) else (0 : Int32)) → W p l e ({ frames := 2, cells := 0, slots := 0, locals := 46 } : Room) s m args below meth c H locs 0 0 (MQ below (kQi dC dI (wM d h) K A) args s 0 0 A) (F0 m 32 ls [.int z4]) := by
        intro z4 ez4
        replace hwp := hwp z4 ez4
        refine lv_istore_n (pc := 32) (lv' := [(3, .int z4), (0, .ref (h 0)), (1, .int x1), (2, .int x2), (4, .int x4)]) cx.1 cx.2.1 dX12_find_32 rfl hl (by decide) rfl (fun ls hl => ?_)
        refine lv_iload_n (pc := 33) cx.1 cx.2.1 dX12_find_33 rfl (lv_at hl 0 rfl) ?_
        refine lv_iload_n (pc := 34) cx.1 cx.2.1 dX12_find_34 rfl (lv_at hl 2 rfl) ?_
        refine lv_icmp_ne (pc := 35) (tgt := 45) cx.1 cx.2.1 dX12_find_35 (by decide) (fun c6 => ?_) (fun c6 => ?_)
        · replace hwp := hwp.1 c6
          refine lv_iinc (pc := 45) (v := (x4 + (1 : Int32))) (lv' := [(4, .int (x4 + (1 : Int32))), (3, .int z4), (0, .ref (h 0)), (1, .int x1), (2, .int x2)]) cx.1 cx.2.1 dX12_find_45 hl (k := 4) rfl rfl (by decide) rfl (fun ls hl => ?_)
          refine lv_goto (pc := 48) (tgt := 7) cx.1 cx.2.1 dX12_find_48 (by decide) ?_
          exact ih _ _ _ _ _ _ _ _ hwp hw (lv_sub hl [2, 3, 4, 1, 0] rfl)
        · replace hwp := hwp.2 c6
          refine lv_iload (pc := 38) cx.1 cx.2.1 dX12_find_38 (lv_at hl 4 rfl) ?_
          refine lv_iload_n (pc := 40) cx.1 cx.2.1 dX12_find_40 rfl (lv_at hl 2 rfl) ?_
          refine lv_isub (pc := 41) cx.1 cx.2.1 dX12_find_41 ?_
          refine lv_iconst (pc := 42) (v := 1) cx.1 cx.2.1 dX12_find_42 (by decide) ?_
          refine lv_iadd (pc := 43) cx.1 cx.2.1 dX12_find_43 ?_
          exact k_iret (pc := 44) (wf := (wM d h)) (u := u2) cx hw hwp (by decide) (by decide) dX12_find_44
      clear hwp
      refine lv_if_eq (pc := 22) (tgt := 29) cx.1 cx.2.1 dX12_find_22 (by decide) (fun c7 => ?_) (fun c7 => ?_)
      · skip
        refine lv_iload_n (pc := 29) cx.1 cx.2.1 dX12_find_29 rfl (lv_at hl 3 rfl) ?_
        refine lv_iconst (pc := 30) (v := 1) cx.1 cx.2.1 dX12_find_30 (by decide) ?_
        refine lv_iadd (pc := 31) cx.1 cx.2.1 dX12_find_31 ?_
        exact hJ5 _ (if_pos c7).symm
      · skip
        refine lv_iconst (pc := 25) (v := 0) cx.1 cx.2.1 dX12_find_25 (by decide) ?_
        refine lv_goto (pc := 26) (tgt := 32) cx.1 cx.2.1 dX12_find_26 (by decide) ?_
        exact hJ5 _ (if_neg c7).symm
set_option maxHeartbeats 4000000 in
theorem m_X12_find (l : Launch) (dC : Nat → ClassId) (dI : Nat → Nat → Nat) (d : Nat → ClassId) (h : Nat → Nat) (u : St) (x1 : Int32) (x2 : Int32) {K : Int32 → St → Prop} (hwp : wp_X12_find u x1 x2 K) : kM l yX12_find cX12_find 5 (some .int) ({ frames := 2, cells := 0, slots := 0, locals := 46 } : Room) dC dI d [.ref (h 0), .int x1, .int x2] (wM d h) u (kQi dC dI (wM d h) K) 0 0 := by
  refine kM_start rfl (Nat.le_of_ble_eq_true rfl) ?_
  intro p e s m below meth c A ls cx hnm hw hl
  generalize hargs : ([.ref (h 0), .int x1, .int x2] : List Value).toArray = args at cx ⊢
  unfold wp_X12_find at hwp
  replace hl : lv_has ls 5 [(0, .ref (h 0)), (1, .int x1), (2, .int x2)] := hl
  generalize hH : s.heap = H at hw ⊢
  generalize hlo : ([] : List Loc) = locs at hw ⊢
  refine lv_iconst (pc := 0) (v := 0) cx.1 cx.2.1 dX12_find_0 (by decide) ?_
  refine lv_istore_n (pc := 1) (lv' := [(3, .int (0 : Int32)), (0, .ref (h 0)), (1, .int x1), (2, .int x2)]) cx.1 cx.2.1 dX12_find_1 rfl hl (by decide) rfl (fun ls hl => ?_)
  refine lv_sipush (pc := 2) (v := 2435) cx.1 cx.2.1 dX12_find_2 (by decide) ?_
  refine lv_istore (pc := 5) (lv' := [(4, .int (2435 : Int32)), (3, .int (0 : Int32)), (0, .ref (h 0)), (1, .int x1), (2, .int x2)]) cx.1 cx.2.1 dX12_find_5 hl (by decide) rfl (fun ls hl => ?_)
  obtain ⟨n7, hwp⟩ := hwp
  exact wk_X12_find_7 cx n7 _ _ _ _ _ _ _ _ hwp hw (lv_sub hl [2, 3, 4, 1, 0] rfl)
set_option maxHeartbeats 4000000 in
theorem wk_X12_writeChunk_11 {p : Program} {l : Launch} {e : Env} {s : State} {m : MethodId} {args : Array Value} {below : List Frame} {meth : Method} {c : Code} {A : Nat → Prop} {dC : Nat → ClassId} {dI : Nat → Nat → Nat} {d : Nat → ClassId} {h : Nat → Nat} {K : Int32 → St → Prop} (cx : Cx p s m args meth c cX12_writeChunk RX12 5 (some .boolean) A dC dI d) : ∀ (n : Nat) (x1 : Int32) (x2 : Int32) (x3 : Int32) (x4 : Int32) (u : St) (H : Heap) (locs : List Loc) (ls : Array Slot), wp_X12_writeChunk_11 K n x1 x2 x3 x4 u → Wd dC dI A ((wM d h) u) s H locs → lv_has ls 5 [(0, .ref (h 0)), (1, .int x1), (2, .int x2), (3, .int x3), (4, .int x4)] → W p l e ({ frames := 3, cells := 0, slots := 0, locals := 74 } : Room) s m args below meth c H locs 0 0 (MQ below (kQi dC dI (wM d h) K A) args s 0 0 A) (F0 m 11 ls []) := by
  intro n
  induction n with
  | zero =>
    intros; contradiction
  | succ n ih =>
    intro x1 x2 x3 x4 u H locs ls hwp hw hl
    unfold wp_X12_writeChunk_11 at hwp
    refine lv_iload (pc := 11) cx.1 cx.2.1 dX12_writeChunk_11 (lv_at hl 4 rfl) ?_
    refine lv_iload_n (pc := 13) cx.1 cx.2.1 dX12_writeChunk_13 rfl (lv_at hl 2 rfl) ?_
    refine lv_icmp_ge (pc := 14) (tgt := 48) cx.1 cx.2.1 dX12_writeChunk_14 (by decide) (fun c1 => ?_) (fun c1 => ?_)
    · replace hwp := hwp.1 c1
      refine lv_iload_n (pc := 48) cx.1 cx.2.1 dX12_writeChunk_48 rfl (lv_at hl 3 rfl) ?_
      exact k_zret (pc := 49) (wf := (wM d h)) (u := u) cx hw (ok_Zn hwp.1) hwp.2 (by decide) (by decide) dX12_writeChunk_49
    · replace hwp := hwp.2 c1
      refine lv_iload_n (pc := 17) cx.1 cx.2.1 dX12_writeChunk_17 rfl (lv_at hl 3 rfl) ?_
      refine lv_if_eq (pc := 18) (tgt := 48) cx.1 cx.2.1 dX12_writeChunk_18 (by decide) (fun c2 => ?_) (fun c2 => ?_)
      · replace hwp := hwp.1 c2
        refine lv_iload_n (pc := 48) cx.1 cx.2.1 dX12_writeChunk_48 rfl (lv_at hl 3 rfl) ?_
        exact k_zret (pc := 49) (wf := (wM d h)) (u := u) cx hw (ok_Zn hwp.1) hwp.2 (by decide) (by decide) dX12_writeChunk_49
      · replace hwp := hwp.2 c2
        refine lv_aload_n (pc := 21) cx.1 cx.2.1 dX12_writeChunk_21 rfl (lv_at hl 0 rfl) ?_
        refine lv_aload_n (pc := 22) cx.1 cx.2.1 dX12_writeChunk_22 rfl (lv_at hl 0 rfl) ?_
        refine k_getR (pc := 23) (u := u) (v := .ref (h 4)) cx hw (lr_X12_this_13 d h) (C := RX12) (T := TX12) (N := 40) rfl in_X12 (by decide) q990 (fun _ h9 => h9) rfl dX12_writeChunk_23 ?_
        refine lv_iload_n (pc := 26) cx.1 cx.2.1 dX12_writeChunk_26 rfl (lv_at hl 1 rfl) ?_
        refine k_iald (pc := 27) (u := u) (f := (u.2.1 13)) cx hw (lx_X12_this_13 d h) 0 rfl rfl hwp.1 dX12_writeChunk_27 ?_
        replace hwp := hwp.2
        refine lv_iload (pc := 28) cx.1 cx.2.1 dX12_writeChunk_28 (lv_at hl 4 rfl) ?_
        refine lv_iadd (pc := 30) cx.1 cx.2.1 dX12_writeChunk_30 ?_
        refine lv_aload_n (pc := 31) cx.1 cx.2.1 dX12_writeChunk_31 rfl (lv_at hl 0 rfl) ?_
        refine k_getR (pc := 32) (u := u) (v := .ref (h 16)) cx hw (lr_X12_this_33 d h) (C := RX12) (T := TX12) (N := 40) rfl in_X12 (by decide) q1010 (fun _ h9 => h9) rfl dX12_writeChunk_32 ?_
        refine lv_iload (pc := 35) cx.1 cx.2.1 dX12_writeChunk_35 (lv_at hl 4 rfl) ?_
        refine k_iald (pc := 37) (u := u) (f := (u.2.1 33)) cx hw (lx_X12_this_33 d h) 0 rfl rfl hwp.1 dX12_writeChunk_37 ?_
        replace hwp := hwp.2
        refine k_whole_i (pc := 38) (wf := (wM d h)) (u := u) cx hw (k_runV (pc := 38) (rest := []) (As := [.int (((u.2.1 13) x1.toNatClampNeg) + x4), .int ((u.2.1 33) x4.toNatClampNeg)]) cx hw.1 (hw.2.1.weaken (fun _ _ _ _ => trivial)) hw.2.2 (k_recv cx hw 0 (ci := 10) (q := (RX12, TX12, 40)) rfl rfl) (m_X12_write l dC dI d h  u (((u.2.1 13) x1.toNatClampNeg) + x4) ((u.2.1 33) x4.toNatClampNeg) hwp H.size) (cwV 2 cx.2.2.2.2.1 (lw_V q1118 q1120 qs35 q89 q1121) rfl rfl rfl hdV_X12_write ⟨Nat.le_of_ble_eq_true rfl, Nat.le_of_ble_eq_true rfl⟩) rfl hl.1 rfl (Nat.le_of_ble_eq_true rfl) dX12_writeChunk_38 ⟨Nat.le_of_ble_eq_true rfl, Nat.le_of_ble_eq_true rfl⟩) (fun r4 u3 H locs hwp hw => ?_)
        refine lv_istore_n (pc := 41) (lv' := [(3, .int r4), (0, .ref (h 0)), (1, .int x1), (2, .int x2), (4, .int x4)]) cx.1 cx.2.1 dX12_writeChunk_41 rfl hl (by decide) rfl (fun ls hl => ?_)
        refine lv_iinc (pc := 42) (v := (x4 + (1 : Int32))) (lv' := [(4, .int (x4 + (1 : Int32))), (3, .int r4), (0, .ref (h 0)), (1, .int x1), (2, .int x2)]) cx.1 cx.2.1 dX12_writeChunk_42 hl (k := 4) rfl rfl (by decide) rfl (fun ls hl => ?_)
        refine lv_goto (pc := 45) (tgt := 11) cx.1 cx.2.1 dX12_writeChunk_45 (by decide) ?_
        exact ih _ _ _ _ _ _ _ _ hwp hw (lv_sub hl [2, 3, 4, 1, 0] rfl)
set_option maxHeartbeats 4000000 in
theorem m_X12_writeChunk (l : Launch) (dC : Nat → ClassId) (dI : Nat → Nat → Nat) (d : Nat → ClassId) (h : Nat → Nat) (u : St) (x1 : Int32) {K : Int32 → St → Prop} (hwp : wp_X12_writeChunk u x1 K) : kM l yX12_writeChunk cX12_writeChunk 5 (some .boolean) ({ frames := 3, cells := 0, slots := 0, locals := 74 } : Room) dC dI d [.ref (h 0), .int x1] (wM d h) u (kQi dC dI (wM d h) K) 0 0 := by
  refine kM_start rfl (Nat.le_of_ble_eq_true rfl) ?_
  intro p e s m below meth c A ls cx hnm hw hl
  generalize hargs : ([.ref (h 0), .int x1] : List Value).toArray = args at cx ⊢
  unfold wp_X12_writeChunk at hwp
  replace hl : lv_has ls 5 [(0, .ref (h 0)), (1, .int x1)] := hl
  generalize hH : s.heap = H at hw ⊢
  generalize hlo : ([] : List Loc) = locs at hw ⊢
  refine lv_aload_n (pc := 0) cx.1 cx.2.1 dX12_writeChunk_0 rfl (lv_at hl 0 rfl) ?_
  refine lv_iload_n (pc := 1) cx.1 cx.2.1 dX12_writeChunk_1 rfl (lv_at hl 1 rfl) ?_
  refine k_whole_i (pc := 2) (wf := (wM d h)) (u := u) cx hw (k_runV (pc := 2) (rest := []) (As := [.int x1]) cx hw.1 (hw.2.1.weaken (fun _ _ _ _ => trivial)) hw.2.2 (k_recv cx hw 0 (ci := 10) (q := (RX12, TX12, 40)) rfl rfl) (m_X12_make l dC dI d h  u x1 hwp H.size) (cwV 1 cx.2.2.2.2.1 (lw_V q1154 q1156 qs43 q89 q1157) rfl rfl rfl hdV_X12_make ⟨Nat.le_of_ble_eq_true rfl, Nat.le_of_ble_eq_true rfl⟩) rfl hl.1 rfl (Nat.le_of_ble_eq_true rfl) dX12_writeChunk_2 ⟨Nat.le_of_ble_eq_true rfl, Nat.le_of_ble_eq_true rfl⟩) (fun r2 u1 H locs hwp hw => ?_)
  refine lv_istore_n (pc := 5) (lv' := [(2, .int r2), (0, .ref (h 0)), (1, .int x1)]) cx.1 cx.2.1 dX12_writeChunk_5 rfl hl (by decide) rfl (fun ls hl => ?_)
  refine lv_iconst (pc := 6) (v := 1) cx.1 cx.2.1 dX12_writeChunk_6 (by decide) ?_
  refine lv_istore_n (pc := 7) (lv' := [(3, .int (1 : Int32)), (2, .int r2), (0, .ref (h 0)), (1, .int x1)]) cx.1 cx.2.1 dX12_writeChunk_7 rfl hl (by decide) rfl (fun ls hl => ?_)
  refine lv_iconst (pc := 8) (v := 0) cx.1 cx.2.1 dX12_writeChunk_8 (by decide) ?_
  refine lv_istore (pc := 9) (lv' := [(4, .int (0 : Int32)), (3, .int (1 : Int32)), (2, .int r2), (0, .ref (h 0)), (1, .int x1)]) cx.1 cx.2.1 dX12_writeChunk_9 hl (by decide) rfl (fun ls hl => ?_)
  obtain ⟨n11, hwp⟩ := hwp
  exact wk_X12_writeChunk_11 cx n11 _ _ _ _ _ _ _ _ hwp hw (lv_sub hl [3, 4, 2, 1, 0] rfl)
set_option maxHeartbeats 4000000 in
theorem m_X12_index (l : Launch) (dC : Nat → ClassId) (dI : Nat → Nat → Nat) (d : Nat → ClassId) (h : Nat → Nat) (u : St) (x1 : Int32) {K : Int32 → St → Prop} (hwp : wp_X12_index u x1 K) : kM l yX12_index cX12_index 2 (some .int) ({ frames := 0, cells := 0, slots := 0, locals := 0 } : Room) dC dI d [.ref (h 0), .int x1] (wM d h) u (kQi dC dI (wM d h) K) 0 0 := by
  refine kM_start rfl (Nat.le_of_ble_eq_true rfl) ?_
  intro p e s m below meth c A ls cx hnm hw hl
  generalize hargs : ([.ref (h 0), .int x1] : List Value).toArray = args at cx ⊢
  unfold wp_X12_index at hwp
  replace hl : lv_has ls 2 [(0, .ref (h 0)), (1, .int x1)] := hl
  generalize hH : s.heap = H at hw ⊢
  generalize hlo : ([] : List Loc) = locs at hw ⊢
  refine lv_iload_n (pc := 0) cx.1 cx.2.1 dX12_index_0 rfl (lv_at hl 1 rfl) ?_
  have hJ2 : ∀ z1 : Int32, z1 = (if x1 = 0 then (1 : Int32) else (962 : Int32)) → W p l e ({ frames := 0, cells := 0, slots := 0, locals := 0 } : Room) s m args below meth c H locs 0 0 (MQ below (kQi dC dI (wM d h) K A) args s 0 0 A) (F0 m 11 ls [.int z1]) := by
    intro z1 ez1
    replace hwp := hwp z1 ez1
    exact k_iret (pc := 11) (wf := (wM d h)) (u := u) cx hw hwp (by decide) (by decide) dX12_index_11
  clear hwp
  refine lv_if_ne (pc := 1) (tgt := 8) cx.1 cx.2.1 dX12_index_1 (by decide) (fun c3 => ?_) (fun c3 => ?_)
  · skip
    refine lv_sipush (pc := 8) (v := 962) cx.1 cx.2.1 dX12_index_8 (by decide) ?_
    exact hJ2 _ (if_neg c3).symm
  · skip
    refine lv_iconst (pc := 4) (v := 1) cx.1 cx.2.1 dX12_index_4 (by decide) ?_
    refine lv_goto (pc := 5) (tgt := 11) cx.1 cx.2.1 dX12_index_5 (by decide) ?_
    exact hJ2 _ (if_pos c3).symm
set_option maxHeartbeats 4000000 in
theorem wk_X12_sumOf_5 {p : Program} {l : Launch} {e : Env} {s : State} {m : MethodId} {args : Array Value} {below : List Frame} {meth : Method} {c : Code} {A : Nat → Prop} {dC : Nat → ClassId} {dI : Nat → Nat → Nat} {d : Nat → ClassId} {h : Nat → Nat} {K : Int64 → St → Prop} (cx : Cx p s m args meth c cX12_sumOf RX12 5 (some .long) A dC dI d) : ∀ (n : Nat) (x1 : Int32) (x2 : Int64) (x4 : Int32) (u : St) (H : Heap) (locs : List Loc) (ls : Array Slot), wp_X12_sumOf_5 K n x1 x2 x4 u → Wd dC dI A ((wM d h) u) s H locs → lv_has ls 5 [(0, .ref (h 0)), (1, .int x1), (2, .long x2), (4, .int x4)] → W p l e ({ frames := 0, cells := 0, slots := 0, locals := 0 } : Room) s m args below meth c H locs 0 0 (MQ below (kQl dC dI (wM d h) K A) args s 0 0 A) (F0 m 5 ls []) := by
  intro n
  induction n with
  | zero =>
    intros; contradiction
  | succ n ih =>
    intro x1 x2 x4 u H locs ls hwp hw hl
    unfold wp_X12_sumOf_5 at hwp
    refine lv_iload (pc := 5) cx.1 cx.2.1 dX12_sumOf_5 (lv_at hl 3 rfl) ?_
    refine lv_aload_n (pc := 7) cx.1 cx.2.1 dX12_sumOf_7 rfl (lv_at hl 0 rfl) ?_
    refine k_getR (pc := 8) (u := u) (v := .ref (h 3)) cx hw (lr_X12_this_12 d h) (C := RX12) (T := TX12) (N := 40) rfl in_X12 (by decide) q989 (fun _ h9 => h9) rfl dX12_sumOf_8 ?_
    refine lv_iload_n (pc := 11) cx.1 cx.2.1 dX12_sumOf_11 rfl (lv_at hl 1 rfl) ?_
    refine k_iald (pc := 12) (u := u) (f := (u.2.1 12)) cx hw (lx_X12_this_12 d h) 0 rfl rfl hwp.1 dX12_sumOf_12 ?_
    replace hwp := hwp.2
    refine lv_icmp_ge (pc := 13) (tgt := 38) cx.1 cx.2.1 dX12_sumOf_13 (by decide) (fun c1 => ?_) (fun c1 => ?_)
    · replace hwp := hwp.1 c1
      refine lv_lload_n (pc := 38) cx.1 cx.2.1 dX12_sumOf_38 rfl (lv_at hl 2 rfl) ?_
      exact k_lret (pc := 39) (wf := (wM d h)) (u := u) cx hw hwp (by decide) (by decide) dX12_sumOf_39
    · replace hwp := hwp.2 c1
      refine lv_lload_n (pc := 16) cx.1 cx.2.1 dX12_sumOf_16 rfl (lv_at hl 2 rfl) ?_
      refine lv_aload_n (pc := 17) cx.1 cx.2.1 dX12_sumOf_17 rfl (lv_at hl 0 rfl) ?_
      refine k_getR (pc := 18) (u := u) (v := .ref (h 7)) cx hw (lr_X12_this_16 d h) (C := RX12) (T := TX12) (N := 40) rfl in_X12 (by decide) q993 (fun _ h9 => h9) rfl dX12_sumOf_18 ?_
      refine lv_bipush (pc := 21) (v := 64) cx.1 cx.2.1 dX12_sumOf_21 (by decide) ?_
      refine lv_iload_n (pc := 23) cx.1 cx.2.1 dX12_sumOf_23 rfl (lv_at hl 1 rfl) ?_
      refine lv_imul (pc := 24) cx.1 cx.2.1 dX12_sumOf_24 ?_
      refine lv_iload (pc := 25) cx.1 cx.2.1 dX12_sumOf_25 (lv_at hl 3 rfl) ?_
      refine lv_iadd (pc := 27) cx.1 cx.2.1 dX12_sumOf_27 ?_
      refine k_iald (pc := 28) (u := u) (f := (u.2.1 16)) cx hw (lx_X12_this_16 d h) 0 rfl rfl hwp.1 dX12_sumOf_28 ?_
      replace hwp := hwp.2
      refine lv_i2l (pc := 29) cx.1 cx.2.1 dX12_sumOf_29 rfl ?_
      refine lv_ladd (pc := 30) cx.1 cx.2.1 dX12_sumOf_30 ?_
      refine lv_lstore_n (pc := 31) (lv' := [(2, .long (x2 + ((u.2.1 16) (((64 : Int32) * x1) + x4).toNatClampNeg).toInt64)), (0, .ref (h 0)), (1, .int x1), (4, .int x4)]) cx.1 cx.2.1 dX12_sumOf_31 rfl hl (by decide) rfl (fun ls hl => ?_)
      refine lv_iinc (pc := 32) (v := (x4 + (1 : Int32))) (lv' := [(4, .int (x4 + (1 : Int32))), (2, .long (x2 + ((u.2.1 16) (((64 : Int32) * x1) + x4).toNatClampNeg).toInt64)), (0, .ref (h 0)), (1, .int x1)]) cx.1 cx.2.1 dX12_sumOf_32 hl (k := 3) rfl rfl (by decide) rfl (fun ls hl => ?_)
      refine lv_goto (pc := 35) (tgt := 5) cx.1 cx.2.1 dX12_sumOf_35 (by decide) ?_
      exact ih _ _ _ _ _ _ _ hwp hw (lv_sub hl [2, 3, 1, 0] rfl)
set_option maxHeartbeats 4000000 in
theorem m_X12_sumOf (l : Launch) (dC : Nat → ClassId) (dI : Nat → Nat → Nat) (d : Nat → ClassId) (h : Nat → Nat) (u : St) (x1 : Int32) {K : Int64 → St → Prop} (hwp : wp_X12_sumOf u x1 K) : kM l yX12_sumOf cX12_sumOf 5 (some .long) ({ frames := 0, cells := 0, slots := 0, locals := 0 } : Room) dC dI d [.ref (h 0), .int x1] (wM d h) u (kQl dC dI (wM d h) K) 0 0 := by
  refine kM_start rfl (Nat.le_of_ble_eq_true rfl) ?_
  intro p e s m below meth c A ls cx hnm hw hl
  generalize hargs : ([.ref (h 0), .int x1] : List Value).toArray = args at cx ⊢
  unfold wp_X12_sumOf at hwp
  replace hl : lv_has ls 5 [(0, .ref (h 0)), (1, .int x1)] := hl
  generalize hH : s.heap = H at hw ⊢
  generalize hlo : ([] : List Loc) = locs at hw ⊢
  refine lv_lconst (pc := 0) (v := 0) cx.1 cx.2.1 dX12_sumOf_0 (by decide) ?_
  refine lv_lstore_n (pc := 1) (lv' := [(2, .long (0 : Int64)), (0, .ref (h 0)), (1, .int x1)]) cx.1 cx.2.1 dX12_sumOf_1 rfl hl (by decide) rfl (fun ls hl => ?_)
  refine lv_iconst (pc := 2) (v := 0) cx.1 cx.2.1 dX12_sumOf_2 (by decide) ?_
  refine lv_istore (pc := 3) (lv' := [(4, .int (0 : Int32)), (2, .long (0 : Int64)), (0, .ref (h 0)), (1, .int x1)]) cx.1 cx.2.1 dX12_sumOf_3 hl (by decide) rfl (fun ls hl => ?_)
  obtain ⟨n5, hwp⟩ := hwp
  exact wk_X12_sumOf_5 cx n5 _ _ _ _ _ _ _ hwp hw (lv_sub hl [2, 3, 1, 0] rfl)
set_option maxHeartbeats 4000000 in
theorem m_X12_firstTime (l : Launch) (dC : Nat → ClassId) (dI : Nat → Nat → Nat) (d : Nat → ClassId) (h : Nat → Nat) (u : St) (x1 : Int32) {K : Int32 → St → Prop} (hwp : wp_X12_firstTime u x1 K) : kM l yX12_firstTime cX12_firstTime 2 (some .int) ({ frames := 0, cells := 0, slots := 0, locals := 0 } : Room) dC dI d [.ref (h 0), .int x1] (wM d h) u (kQi dC dI (wM d h) K) 0 0 := by
  refine kM_start rfl (Nat.le_of_ble_eq_true rfl) ?_
  intro p e s m below meth c A ls cx hnm hw hl
  generalize hargs : ([.ref (h 0), .int x1] : List Value).toArray = args at cx ⊢
  unfold wp_X12_firstTime at hwp
  replace hl : lv_has ls 2 [(0, .ref (h 0)), (1, .int x1)] := hl
  generalize hH : s.heap = H at hw ⊢
  generalize hlo : ([] : List Loc) = locs at hw ⊢
  refine lv_aload_n (pc := 0) cx.1 cx.2.1 dX12_firstTime_0 rfl (lv_at hl 0 rfl) ?_
  refine k_getR (pc := 1) (u := u) (v := .ref (h 6)) cx hw (lr_X12_this_15 d h) (C := RX12) (T := TX12) (N := 40) rfl in_X12 (by decide) q992 (fun _ h9 => h9) rfl dX12_firstTime_1 ?_
  refine lv_bipush (pc := 4) (v := 64) cx.1 cx.2.1 dX12_firstTime_4 (by decide) ?_
  refine lv_iload_n (pc := 6) cx.1 cx.2.1 dX12_firstTime_6 rfl (lv_at hl 1 rfl) ?_
  refine lv_imul (pc := 7) cx.1 cx.2.1 dX12_firstTime_7 ?_
  refine k_iald (pc := 8) (u := u) (f := (u.2.1 15)) cx hw (lx_X12_this_15 d h) 0 rfl rfl hwp.1 dX12_firstTime_8 ?_
  replace hwp := hwp.2
  exact k_iret (pc := 9) (wf := (wM d h)) (u := u) cx hw hwp (by decide) (by decide) dX12_firstTime_9
set_option maxHeartbeats 4000000 in
theorem m_X12_lastTime (l : Launch) (dC : Nat → ClassId) (dI : Nat → Nat → Nat) (d : Nat → ClassId) (h : Nat → Nat) (u : St) (x1 : Int32) {K : Int32 → St → Prop} (hwp : wp_X12_lastTime u x1 K) : kM l yX12_lastTime cX12_lastTime 2 (some .int) ({ frames := 0, cells := 0, slots := 0, locals := 0 } : Room) dC dI d [.ref (h 0), .int x1] (wM d h) u (kQi dC dI (wM d h) K) 0 0 := by
  refine kM_start rfl (Nat.le_of_ble_eq_true rfl) ?_
  intro p e s m below meth c A ls cx hnm hw hl
  generalize hargs : ([.ref (h 0), .int x1] : List Value).toArray = args at cx ⊢
  unfold wp_X12_lastTime at hwp
  replace hl : lv_has ls 2 [(0, .ref (h 0)), (1, .int x1)] := hl
  generalize hH : s.heap = H at hw ⊢
  generalize hlo : ([] : List Loc) = locs at hw ⊢
  refine lv_aload_n (pc := 0) cx.1 cx.2.1 dX12_lastTime_0 rfl (lv_at hl 0 rfl) ?_
  refine k_getR (pc := 1) (u := u) (v := .ref (h 6)) cx hw (lr_X12_this_15 d h) (C := RX12) (T := TX12) (N := 40) rfl in_X12 (by decide) q992 (fun _ h9 => h9) rfl dX12_lastTime_1 ?_
  refine lv_bipush (pc := 4) (v := 64) cx.1 cx.2.1 dX12_lastTime_4 (by decide) ?_
  refine lv_iload_n (pc := 6) cx.1 cx.2.1 dX12_lastTime_6 rfl (lv_at hl 1 rfl) ?_
  refine lv_imul (pc := 7) cx.1 cx.2.1 dX12_lastTime_7 ?_
  refine lv_aload_n (pc := 8) cx.1 cx.2.1 dX12_lastTime_8 rfl (lv_at hl 0 rfl) ?_
  refine k_getR (pc := 9) (u := u) (v := .ref (h 3)) cx hw (lr_X12_this_12 d h) (C := RX12) (T := TX12) (N := 40) rfl in_X12 (by decide) q989 (fun _ h9 => h9) rfl dX12_lastTime_9 ?_
  refine lv_iload_n (pc := 12) cx.1 cx.2.1 dX12_lastTime_12 rfl (lv_at hl 1 rfl) ?_
  refine k_iald (pc := 13) (u := u) (f := (u.2.1 12)) cx hw (lx_X12_this_12 d h) 0 rfl rfl hwp.1 dX12_lastTime_13 ?_
  replace hwp := hwp.2
  refine lv_iadd (pc := 14) cx.1 cx.2.1 dX12_lastTime_14 ?_
  refine lv_iconst (pc := 15) (v := 1) cx.1 cx.2.1 dX12_lastTime_15 (by decide) ?_
  refine lv_isub (pc := 16) cx.1 cx.2.1 dX12_lastTime_16 ?_
  refine k_iald (pc := 17) (u := u) (f := (u.2.1 15)) cx hw (lx_X12_this_15 d h) 0 rfl rfl hwp.1 dX12_lastTime_17 ?_
  replace hwp := hwp.2
  exact k_iret (pc := 18) (wf := (wM d h)) (u := u) cx hw hwp (by decide) (by decide) dX12_lastTime_18
set_option maxHeartbeats 4000000 in
theorem wk_X12_leastOf_12 {p : Program} {l : Launch} {e : Env} {s : State} {m : MethodId} {args : Array Value} {below : List Frame} {meth : Method} {c : Code} {A : Nat → Prop} {dC : Nat → ClassId} {dI : Nat → Nat → Nat} {d : Nat → ClassId} {h : Nat → Nat} {K : Int32 → St → Prop} (cx : Cx p s m args meth c cX12_leastOf RX12 4 (some .int) A dC dI d) : ∀ (n : Nat) (x1 : Int32) (x2 : Int32) (x3 : Int32) (u : St) (H : Heap) (locs : List Loc) (ls : Array Slot), wp_X12_leastOf_12 K n x1 x2 x3 u → Wd dC dI A ((wM d h) u) s H locs → lv_has ls 4 [(0, .ref (h 0)), (1, .int x1), (2, .int x2), (3, .int x3)] → W p l e ({ frames := 0, cells := 0, slots := 0, locals := 0 } : Room) s m args below meth c H locs 0 0 (MQ below (kQi dC dI (wM d h) K A) args s 0 0 A) (F0 m 12 ls []) := by
  intro n
  induction n with
  | zero =>
    intros; contradiction
  | succ n ih =>
    intro x1 x2 x3 u H locs ls hwp hw hl
    unfold wp_X12_leastOf_12 at hwp
    refine lv_iload_n (pc := 12) cx.1 cx.2.1 dX12_leastOf_12 rfl (lv_at hl 3 rfl) ?_
    refine lv_aload_n (pc := 13) cx.1 cx.2.1 dX12_leastOf_13 rfl (lv_at hl 0 rfl) ?_
    refine k_getR (pc := 14) (u := u) (v := .ref (h 3)) cx hw (lr_X12_this_12 d h) (C := RX12) (T := TX12) (N := 40) rfl in_X12 (by decide) q989 (fun _ h9 => h9) rfl dX12_leastOf_14 ?_
    refine lv_iload_n (pc := 17) cx.1 cx.2.1 dX12_leastOf_17 rfl (lv_at hl 1 rfl) ?_
    refine k_iald (pc := 18) (u := u) (f := (u.2.1 12)) cx hw (lx_X12_this_12 d h) 0 rfl rfl hwp.1 dX12_leastOf_18 ?_
    replace hwp := hwp.2
    refine lv_icmp_ge (pc := 19) (tgt := 59) cx.1 cx.2.1 dX12_leastOf_19 (by decide) (fun c1 => ?_) (fun c1 => ?_)
    · replace hwp := hwp.1 c1
      refine lv_iload_n (pc := 59) cx.1 cx.2.1 dX12_leastOf_59 rfl (lv_at hl 2 rfl) ?_
      exact k_iret (pc := 60) (wf := (wM d h)) (u := u) cx hw hwp (by decide) (by decide) dX12_leastOf_60
    · replace hwp := hwp.2 c1
      refine lv_aload_n (pc := 22) cx.1 cx.2.1 dX12_leastOf_22 rfl (lv_at hl 0 rfl) ?_
      refine k_getR (pc := 23) (u := u) (v := .ref (h 7)) cx hw (lr_X12_this_16 d h) (C := RX12) (T := TX12) (N := 40) rfl in_X12 (by decide) q993 (fun _ h9 => h9) rfl dX12_leastOf_23 ?_
      refine lv_bipush (pc := 26) (v := 64) cx.1 cx.2.1 dX12_leastOf_26 (by decide) ?_
      refine lv_iload_n (pc := 28) cx.1 cx.2.1 dX12_leastOf_28 rfl (lv_at hl 1 rfl) ?_
      refine lv_imul (pc := 29) cx.1 cx.2.1 dX12_leastOf_29 ?_
      refine lv_iload_n (pc := 30) cx.1 cx.2.1 dX12_leastOf_30 rfl (lv_at hl 3 rfl) ?_
      refine lv_iadd (pc := 31) cx.1 cx.2.1 dX12_leastOf_31 ?_
      refine k_iald (pc := 32) (u := u) (f := (u.2.1 16)) cx hw (lx_X12_this_16 d h) 0 rfl rfl hwp.1 dX12_leastOf_32 ?_
      replace hwp := hwp.2
      refine lv_iload_n (pc := 33) cx.1 cx.2.1 dX12_leastOf_33 rfl (lv_at hl 2 rfl) ?_
      have gF3 := hwp.1
      replace hwp := hwp.2
      have hJ4 : ∀ z2 : Int32, z2 = (if x2 ≤ ((u.2.1 16) (((64 : Int32) * x1) + x3).toNatClampNeg) then x2 else ((u.2.1 16) (((64 : Int32) * x1) + x3).toNatClampNeg)) → W p l e ({ frames := 0, cells := 0, slots := 0, locals := 0 } : Room) s m args below meth c H locs 0 0 (MQ below (kQi dC dI (wM d h) K A) args s 0 0 A) (F0 m 52 ls [.int z2]) := by
        intro z2 ez2
        replace hwp := hwp z2 ez2
        refine lv_istore_n (pc := 52) (lv' := [(2, .int z2), (0, .ref (h 0)), (1, .int x1), (3, .int x3)]) cx.1 cx.2.1 dX12_leastOf_52 rfl hl (by decide) rfl (fun ls hl => ?_)
        refine lv_iinc (pc := 53) (v := (x3 + (1 : Int32))) (lv' := [(3, .int (x3 + (1 : Int32))), (2, .int z2), (0, .ref (h 0)), (1, .int x1)]) cx.1 cx.2.1 dX12_leastOf_53 hl (k := 3) rfl rfl (by decide) rfl (fun ls hl => ?_)
        refine lv_goto (pc := 56) (tgt := 12) cx.1 cx.2.1 dX12_leastOf_56 (by decide) ?_
        exact ih _ _ _ _ _ _ _ hwp hw (lv_sub hl [2, 3, 1, 0] rfl)
      clear hwp
      refine lv_icmp_ge (pc := 34) (tgt := 51) cx.1 cx.2.1 dX12_leastOf_34 (by decide) (fun c5 => ?_) (fun c5 => ?_)
      · skip
        refine lv_iload_n (pc := 51) cx.1 cx.2.1 dX12_leastOf_51 rfl (lv_at hl 2 rfl) ?_
        exact hJ4 _ (if_pos c5).symm
      · have hwp := gF3 c5
        replace hwp := And.intro hwp trivial
        refine lv_aload_n (pc := 37) cx.1 cx.2.1 dX12_leastOf_37 rfl (lv_at hl 0 rfl) ?_
        refine k_getR (pc := 38) (u := u) (v := .ref (h 7)) cx hw (lr_X12_this_16 d h) (C := RX12) (T := TX12) (N := 40) rfl in_X12 (by decide) q993 (fun _ h9 => h9) rfl dX12_leastOf_38 ?_
        refine lv_bipush (pc := 41) (v := 64) cx.1 cx.2.1 dX12_leastOf_41 (by decide) ?_
        refine lv_iload_n (pc := 43) cx.1 cx.2.1 dX12_leastOf_43 rfl (lv_at hl 1 rfl) ?_
        refine lv_imul (pc := 44) cx.1 cx.2.1 dX12_leastOf_44 ?_
        refine lv_iload_n (pc := 45) cx.1 cx.2.1 dX12_leastOf_45 rfl (lv_at hl 3 rfl) ?_
        refine lv_iadd (pc := 46) cx.1 cx.2.1 dX12_leastOf_46 ?_
        refine k_iald (pc := 47) (u := u) (f := (u.2.1 16)) cx hw (lx_X12_this_16 d h) 0 rfl rfl hwp.1 dX12_leastOf_47 ?_
        replace hwp := hwp.2
        refine lv_goto (pc := 48) (tgt := 52) cx.1 cx.2.1 dX12_leastOf_48 (by decide) ?_
        exact hJ4 _ (if_neg c5).symm
set_option maxHeartbeats 4000000 in
theorem m_X12_leastOf (l : Launch) (dC : Nat → ClassId) (dI : Nat → Nat → Nat) (d : Nat → ClassId) (h : Nat → Nat) (u : St) (x1 : Int32) {K : Int32 → St → Prop} (hwp : wp_X12_leastOf u x1 K) : kM l yX12_leastOf cX12_leastOf 4 (some .int) ({ frames := 0, cells := 0, slots := 0, locals := 0 } : Room) dC dI d [.ref (h 0), .int x1] (wM d h) u (kQi dC dI (wM d h) K) 0 0 := by
  refine kM_start rfl (Nat.le_of_ble_eq_true rfl) ?_
  intro p e s m below meth c A ls cx hnm hw hl
  generalize hargs : ([.ref (h 0), .int x1] : List Value).toArray = args at cx ⊢
  unfold wp_X12_leastOf at hwp
  replace hl : lv_has ls 4 [(0, .ref (h 0)), (1, .int x1)] := hl
  generalize hH : s.heap = H at hw ⊢
  generalize hlo : ([] : List Loc) = locs at hw ⊢
  refine lv_aload_n (pc := 0) cx.1 cx.2.1 dX12_leastOf_0 rfl (lv_at hl 0 rfl) ?_
  refine k_getR (pc := 1) (u := u) (v := .ref (h 7)) cx hw (lr_X12_this_16 d h) (C := RX12) (T := TX12) (N := 40) rfl in_X12 (by decide) q993 (fun _ h9 => h9) rfl dX12_leastOf_1 ?_
  refine lv_bipush (pc := 4) (v := 64) cx.1 cx.2.1 dX12_leastOf_4 (by decide) ?_
  refine lv_iload_n (pc := 6) cx.1 cx.2.1 dX12_leastOf_6 rfl (lv_at hl 1 rfl) ?_
  refine lv_imul (pc := 7) cx.1 cx.2.1 dX12_leastOf_7 ?_
  refine k_iald (pc := 8) (u := u) (f := (u.2.1 16)) cx hw (lx_X12_this_16 d h) 0 rfl rfl hwp.1 dX12_leastOf_8 ?_
  replace hwp := hwp.2
  refine lv_istore_n (pc := 9) (lv' := [(2, .int ((u.2.1 16) ((64 : Int32) * x1).toNatClampNeg)), (0, .ref (h 0)), (1, .int x1)]) cx.1 cx.2.1 dX12_leastOf_9 rfl hl (by decide) rfl (fun ls hl => ?_)
  refine lv_iconst (pc := 10) (v := 1) cx.1 cx.2.1 dX12_leastOf_10 (by decide) ?_
  refine lv_istore_n (pc := 11) (lv' := [(3, .int (1 : Int32)), (2, .int ((u.2.1 16) ((64 : Int32) * x1).toNatClampNeg)), (0, .ref (h 0)), (1, .int x1)]) cx.1 cx.2.1 dX12_leastOf_11 rfl hl (by decide) rfl (fun ls hl => ?_)
  obtain ⟨n12, hwp⟩ := hwp
  exact wk_X12_leastOf_12 cx n12 _ _ _ _ _ _ _ hwp hw (lv_sub hl [2, 3, 1, 0] rfl)
set_option maxHeartbeats 4000000 in
theorem wk_X12_greatestOf_12 {p : Program} {l : Launch} {e : Env} {s : State} {m : MethodId} {args : Array Value} {below : List Frame} {meth : Method} {c : Code} {A : Nat → Prop} {dC : Nat → ClassId} {dI : Nat → Nat → Nat} {d : Nat → ClassId} {h : Nat → Nat} {K : Int32 → St → Prop} (cx : Cx p s m args meth c cX12_greatestOf RX12 4 (some .int) A dC dI d) : ∀ (n : Nat) (x1 : Int32) (x2 : Int32) (x3 : Int32) (u : St) (H : Heap) (locs : List Loc) (ls : Array Slot), wp_X12_greatestOf_12 K n x1 x2 x3 u → Wd dC dI A ((wM d h) u) s H locs → lv_has ls 4 [(0, .ref (h 0)), (1, .int x1), (2, .int x2), (3, .int x3)] → W p l e ({ frames := 0, cells := 0, slots := 0, locals := 0 } : Room) s m args below meth c H locs 0 0 (MQ below (kQi dC dI (wM d h) K A) args s 0 0 A) (F0 m 12 ls []) := by
  intro n
  induction n with
  | zero =>
    intros; contradiction
  | succ n ih =>
    intro x1 x2 x3 u H locs ls hwp hw hl
    unfold wp_X12_greatestOf_12 at hwp
    refine lv_iload_n (pc := 12) cx.1 cx.2.1 dX12_greatestOf_12 rfl (lv_at hl 3 rfl) ?_
    refine lv_aload_n (pc := 13) cx.1 cx.2.1 dX12_greatestOf_13 rfl (lv_at hl 0 rfl) ?_
    refine k_getR (pc := 14) (u := u) (v := .ref (h 3)) cx hw (lr_X12_this_12 d h) (C := RX12) (T := TX12) (N := 40) rfl in_X12 (by decide) q989 (fun _ h9 => h9) rfl dX12_greatestOf_14 ?_
    refine lv_iload_n (pc := 17) cx.1 cx.2.1 dX12_greatestOf_17 rfl (lv_at hl 1 rfl) ?_
    refine k_iald (pc := 18) (u := u) (f := (u.2.1 12)) cx hw (lx_X12_this_12 d h) 0 rfl rfl hwp.1 dX12_greatestOf_18 ?_
    replace hwp := hwp.2
    refine lv_icmp_ge (pc := 19) (tgt := 59) cx.1 cx.2.1 dX12_greatestOf_19 (by decide) (fun c1 => ?_) (fun c1 => ?_)
    · replace hwp := hwp.1 c1
      refine lv_iload_n (pc := 59) cx.1 cx.2.1 dX12_greatestOf_59 rfl (lv_at hl 2 rfl) ?_
      exact k_iret (pc := 60) (wf := (wM d h)) (u := u) cx hw hwp (by decide) (by decide) dX12_greatestOf_60
    · replace hwp := hwp.2 c1
      refine lv_aload_n (pc := 22) cx.1 cx.2.1 dX12_greatestOf_22 rfl (lv_at hl 0 rfl) ?_
      refine k_getR (pc := 23) (u := u) (v := .ref (h 7)) cx hw (lr_X12_this_16 d h) (C := RX12) (T := TX12) (N := 40) rfl in_X12 (by decide) q993 (fun _ h9 => h9) rfl dX12_greatestOf_23 ?_
      refine lv_bipush (pc := 26) (v := 64) cx.1 cx.2.1 dX12_greatestOf_26 (by decide) ?_
      refine lv_iload_n (pc := 28) cx.1 cx.2.1 dX12_greatestOf_28 rfl (lv_at hl 1 rfl) ?_
      refine lv_imul (pc := 29) cx.1 cx.2.1 dX12_greatestOf_29 ?_
      refine lv_iload_n (pc := 30) cx.1 cx.2.1 dX12_greatestOf_30 rfl (lv_at hl 3 rfl) ?_
      refine lv_iadd (pc := 31) cx.1 cx.2.1 dX12_greatestOf_31 ?_
      refine k_iald (pc := 32) (u := u) (f := (u.2.1 16)) cx hw (lx_X12_this_16 d h) 0 rfl rfl hwp.1 dX12_greatestOf_32 ?_
      replace hwp := hwp.2
      refine lv_iload_n (pc := 33) cx.1 cx.2.1 dX12_greatestOf_33 rfl (lv_at hl 2 rfl) ?_
      have gF3 := hwp.1
      replace hwp := hwp.2
      have hJ4 : ∀ z2 : Int32, z2 = (if ((u.2.1 16) (((64 : Int32) * x1) + x3).toNatClampNeg) ≤ x2 then x2 else ((u.2.1 16) (((64 : Int32) * x1) + x3).toNatClampNeg)) → W p l e ({ frames := 0, cells := 0, slots := 0, locals := 0 } : Room) s m args below meth c H locs 0 0 (MQ below (kQi dC dI (wM d h) K A) args s 0 0 A) (F0 m 52 ls [.int z2]) := by
        intro z2 ez2
        replace hwp := hwp z2 ez2
        refine lv_istore_n (pc := 52) (lv' := [(2, .int z2), (0, .ref (h 0)), (1, .int x1), (3, .int x3)]) cx.1 cx.2.1 dX12_greatestOf_52 rfl hl (by decide) rfl (fun ls hl => ?_)
        refine lv_iinc (pc := 53) (v := (x3 + (1 : Int32))) (lv' := [(3, .int (x3 + (1 : Int32))), (2, .int z2), (0, .ref (h 0)), (1, .int x1)]) cx.1 cx.2.1 dX12_greatestOf_53 hl (k := 3) rfl rfl (by decide) rfl (fun ls hl => ?_)
        refine lv_goto (pc := 56) (tgt := 12) cx.1 cx.2.1 dX12_greatestOf_56 (by decide) ?_
        exact ih _ _ _ _ _ _ _ hwp hw (lv_sub hl [2, 3, 1, 0] rfl)
      clear hwp
      refine lv_icmp_le (pc := 34) (tgt := 51) cx.1 cx.2.1 dX12_greatestOf_34 (by decide) (fun c5 => ?_) (fun c5 => ?_)
      · skip
        refine lv_iload_n (pc := 51) cx.1 cx.2.1 dX12_greatestOf_51 rfl (lv_at hl 2 rfl) ?_
        exact hJ4 _ (if_pos c5).symm
      · have hwp := gF3 c5
        replace hwp := And.intro hwp trivial
        refine lv_aload_n (pc := 37) cx.1 cx.2.1 dX12_greatestOf_37 rfl (lv_at hl 0 rfl) ?_
        refine k_getR (pc := 38) (u := u) (v := .ref (h 7)) cx hw (lr_X12_this_16 d h) (C := RX12) (T := TX12) (N := 40) rfl in_X12 (by decide) q993 (fun _ h9 => h9) rfl dX12_greatestOf_38 ?_
        refine lv_bipush (pc := 41) (v := 64) cx.1 cx.2.1 dX12_greatestOf_41 (by decide) ?_
        refine lv_iload_n (pc := 43) cx.1 cx.2.1 dX12_greatestOf_43 rfl (lv_at hl 1 rfl) ?_
        refine lv_imul (pc := 44) cx.1 cx.2.1 dX12_greatestOf_44 ?_
        refine lv_iload_n (pc := 45) cx.1 cx.2.1 dX12_greatestOf_45 rfl (lv_at hl 3 rfl) ?_
        refine lv_iadd (pc := 46) cx.1 cx.2.1 dX12_greatestOf_46 ?_
        refine k_iald (pc := 47) (u := u) (f := (u.2.1 16)) cx hw (lx_X12_this_16 d h) 0 rfl rfl hwp.1 dX12_greatestOf_47 ?_
        replace hwp := hwp.2
        refine lv_goto (pc := 48) (tgt := 52) cx.1 cx.2.1 dX12_greatestOf_48 (by decide) ?_
        exact hJ4 _ (if_neg c5).symm
set_option maxHeartbeats 4000000 in
theorem m_X12_greatestOf (l : Launch) (dC : Nat → ClassId) (dI : Nat → Nat → Nat) (d : Nat → ClassId) (h : Nat → Nat) (u : St) (x1 : Int32) {K : Int32 → St → Prop} (hwp : wp_X12_greatestOf u x1 K) : kM l yX12_greatestOf cX12_greatestOf 4 (some .int) ({ frames := 0, cells := 0, slots := 0, locals := 0 } : Room) dC dI d [.ref (h 0), .int x1] (wM d h) u (kQi dC dI (wM d h) K) 0 0 := by
  refine kM_start rfl (Nat.le_of_ble_eq_true rfl) ?_
  intro p e s m below meth c A ls cx hnm hw hl
  generalize hargs : ([.ref (h 0), .int x1] : List Value).toArray = args at cx ⊢
  unfold wp_X12_greatestOf at hwp
  replace hl : lv_has ls 4 [(0, .ref (h 0)), (1, .int x1)] := hl
  generalize hH : s.heap = H at hw ⊢
  generalize hlo : ([] : List Loc) = locs at hw ⊢
  refine lv_aload_n (pc := 0) cx.1 cx.2.1 dX12_greatestOf_0 rfl (lv_at hl 0 rfl) ?_
  refine k_getR (pc := 1) (u := u) (v := .ref (h 7)) cx hw (lr_X12_this_16 d h) (C := RX12) (T := TX12) (N := 40) rfl in_X12 (by decide) q993 (fun _ h9 => h9) rfl dX12_greatestOf_1 ?_
  refine lv_bipush (pc := 4) (v := 64) cx.1 cx.2.1 dX12_greatestOf_4 (by decide) ?_
  refine lv_iload_n (pc := 6) cx.1 cx.2.1 dX12_greatestOf_6 rfl (lv_at hl 1 rfl) ?_
  refine lv_imul (pc := 7) cx.1 cx.2.1 dX12_greatestOf_7 ?_
  refine k_iald (pc := 8) (u := u) (f := (u.2.1 16)) cx hw (lx_X12_this_16 d h) 0 rfl rfl hwp.1 dX12_greatestOf_8 ?_
  replace hwp := hwp.2
  refine lv_istore_n (pc := 9) (lv' := [(2, .int ((u.2.1 16) ((64 : Int32) * x1).toNatClampNeg)), (0, .ref (h 0)), (1, .int x1)]) cx.1 cx.2.1 dX12_greatestOf_9 rfl hl (by decide) rfl (fun ls hl => ?_)
  refine lv_iconst (pc := 10) (v := 1) cx.1 cx.2.1 dX12_greatestOf_10 (by decide) ?_
  refine lv_istore_n (pc := 11) (lv' := [(3, .int (1 : Int32)), (2, .int ((u.2.1 16) ((64 : Int32) * x1).toNatClampNeg)), (0, .ref (h 0)), (1, .int x1)]) cx.1 cx.2.1 dX12_greatestOf_11 rfl hl (by decide) rfl (fun ls hl => ?_)
  obtain ⟨n12, hwp⟩ := hwp
  exact wk_X12_greatestOf_12 cx n12 _ _ _ _ _ _ _ hwp hw (lv_sub hl [2, 3, 1, 0] rfl)
