set_option maxRecDepth 100000
theorem hdS_X0_aggMin : yX0_aggMin.cls ≠ "java/lang/invoke/MethodHandle" ∧ yX0_aggMin.cls ≠ "java/lang/invoke/VarHandle" ∧ (parseMethodDescriptor yX0_aggMin.desc).map (fun d => d.parameters.length) = some 5 := by decide +kernel
def wp_X0_aggMin (nh : Nat) (u : PS × (Nat → Int64)) (x1 : Int32) (x2 : Int32) (x3 : Int32) (K : Int32 → PS × (Nat → Int64) → Prop) : Prop := wp_X1_aggMin nh u.1 x1 x2 x3 (fun r v => K 0 (v, vp_updL u.2 0 r.toInt64)) (fun k v => (k = 14 → K 1 (v, u.2)) ∧ ((k = 11 → K 2 (v, u.2)) ∧ (k = 14 ∨ k = 11)))
set_option maxHeartbeats 4000000 in
theorem m_X0_aggMin (l : Launch) (hlt : l.stackTraces = false) (dC : Nat → ClassId) (dI : Nat → Nat → Nat) (d : Nat → ClassId) (z : Nat → Nat → Nat) (hh : Nat → Nat → Nat) (cf : List Value) (g nh : Nat) (u : PS × (Nat → Int64)) (x1 : Int32) (x2 : Int32) (x3 : Int32) {K : Int32 → PS × (Nat → Int64) → Prop} (hwp : wp_X0_aggMin nh u x1 x2 x3 K) : kMW l yX0_aggMin cX0_aggMin 6 (some .int) [(0, 12, 15, 13), (0, 12, 19, 15)] ({ frames := 14, cells := 5, slots := 320, locals := 10487 } : Room) dC dI d [.ref (z 0 0), .int x1, .int x2, .int x3, .ref g] (wLo d nh hh cf z g) u (kQi dC dI (wLo d nh hh cf z g) K) 5 320 := by
  refine kMW_start rfl (Nat.le_of_ble_eq_true rfl) ?_
  intro p e s m below meth c A ls cx hnm xt hw hl
  generalize hargs : ([.ref (z 0 0), .int x1, .int x2, .int x3, .ref g] : List Value).toArray = args at cx ⊢
  unfold wp_X0_aggMin at hwp
  replace hl : lv_has ls 6 [(0, .ref (z 0 0)), (1, .int x1), (2, .int x2), (3, .int x3), (4, .ref g)] := hl
  generalize hH : s.heap = H at hw ⊢
  generalize hlo : ([] : List Loc) = locs at hw ⊢
  replace hw : Wd dC dI A (wP d nh hh cf z u.1 ++ [(g, .inl (d 2, 1, .inr (.inl u.2)))]) s H locs := hw
  refine lv_aload (pc := 0) cx.1 cx.2.1 dX0_aggMin_0 (lv_at hl 4 rfl) ?_
  refine lv_iconst (pc := 2) (v := 0) cx.1 cx.2.1 dX0_aggMin_2 (by decide) ?_
  refine lv_aload_n (pc := 3) cx.1 cx.2.1 dX0_aggMin_3 rfl (lv_at hl 0 rfl) ?_
  refine lv_iload_n (pc := 4) cx.1 cx.2.1 dX0_aggMin_4 rfl (lv_at hl 1 rfl) ?_
  refine lv_iload_n (pc := 5) cx.1 cx.2.1 dX0_aggMin_5 rfl (lv_at hl 2 rfl) ?_
  refine lv_iload_n (pc := 6) cx.1 cx.2.1 dX0_aggMin_6 rfl (lv_at hl 3 rfl) ?_
  have hpt := l_pt hw
  refine l_Ti (pc := 7) (wf := wP d nh hh cf z) (u := u.1) cx hw (k_runVT (pc := 7) (rest := [.int (0 : Int32), .ref g]) (As := [.int x1, .int x2, .int x3]) cx hpt.1 hpt.2 hw.2.2 (k_recv cx hw 0 (ci := 0) (q := (RX1, TX1, 21)) rfl rfl) (m_X1_aggMin l hlt dC dI d z hh cf nh u.1 x1 x2 x3 hwp H.size) (cwV 3 cx.2.2.2.2.1 (lw_V q869 q870 q871 q75 q872) rfl rfl rfl hdV_X1_aggMin ⟨Nat.le_of_ble_eq_true rfl, Nat.le_of_ble_eq_true rfl⟩) rfl hl.1 rfl (Nat.le_of_ble_eq_true rfl) dX0_aggMin_7 ⟨Nat.le_of_ble_eq_true rfl, Nat.le_of_ble_eq_true rfl⟩) (fun r v H locs hwp hw => ?_) (fun k v a H locs hwp hw hx => ?_)
  · clear hpt
    refine lv_i2l (pc := 10) cx.1 cx.2.1 dX0_aggMin_10 rfl ?_
    refine l_outW (pc := 11) cx hw dX0_aggMin_11 (fun H locs hw => ?_)
    refine lv_goto (pc := 12) (tgt := 23) cx.1 cx.2.1 dX0_aggMin_12 (by decide) ?_
    refine lv_iconst (pc := 23) (v := 0) cx.1 cx.2.1 dX0_aggMin_23 (by decide) ?_
    exact k_iret (pc := 24) (wf := wLo d nh hh cf z g) (K := K) (u := (v, vp_updL u.2 0 r.toInt64)) cx hw hwp (Nat.le_of_ble_eq_true rfl) (Nat.le_of_ble_eq_true rfl) dX0_aggMin_24
  · obtain ⟨hk14, hk11, hor⟩ := hwp
    rcases hor with rfl | rfl
    · replace hwp := hk14 rfl
      refine k_catch0 (pc := 7) (tgt := 15) (q := (RJ8, TJ8, 6)) cx xt rfl (by decide) q867 hx rfl ?_
      refine lv_astore (pc := 15) (lv' := [(5, .ref a), (0, .ref (z 0 0)), (1, .int x1), (2, .int x2), (3, .int x3), (4, .ref g)]) cx.1 cx.2.1 dX0_aggMin_15 hl (by decide) rfl (fun ls hl => ?_)
      refine lv_iconst (pc := 17) (v := 1) cx.1 cx.2.1 dX0_aggMin_17 (by decide) ?_
      exact k_iret (pc := 18) (wf := wLo d nh hh cf z g) (K := K) (u := (v, u.2)) cx hw hwp (Nat.le_of_ble_eq_true rfl) (Nat.le_of_ble_eq_true rfl) dX0_aggMin_18
    · replace hwp := hk11 rfl
      refine k_catch1 (pc := 7) (tgt := 19) (q := (RJ4, TJ4, 6)) cx xt rfl (by decide) q867 q868 hx (List.mem_of_getElem? (i := 58) rfl) rfl ?_
      refine lv_astore (pc := 19) (lv' := [(5, .ref a), (0, .ref (z 0 0)), (1, .int x1), (2, .int x2), (3, .int x3), (4, .ref g)]) cx.1 cx.2.1 dX0_aggMin_19 hl (by decide) rfl (fun ls hl => ?_)
      refine lv_iconst (pc := 21) (v := 2) cx.1 cx.2.1 dX0_aggMin_21 (by decide) ?_
      exact k_iret (pc := 22) (wf := wLo d nh hh cf z g) (K := K) (u := (v, u.2)) cx hw hwp (Nat.le_of_ble_eq_true rfl) (Nat.le_of_ble_eq_true rfl) dX0_aggMin_22
theorem hdS_X0_aggMax : yX0_aggMax.cls ≠ "java/lang/invoke/MethodHandle" ∧ yX0_aggMax.cls ≠ "java/lang/invoke/VarHandle" ∧ (parseMethodDescriptor yX0_aggMax.desc).map (fun d => d.parameters.length) = some 5 := by decide +kernel
def wp_X0_aggMax (nh : Nat) (u : PS × (Nat → Int64)) (x1 : Int32) (x2 : Int32) (x3 : Int32) (K : Int32 → PS × (Nat → Int64) → Prop) : Prop := wp_X1_aggMax nh u.1 x1 x2 x3 (fun r v => K 0 (v, vp_updL u.2 0 r.toInt64)) (fun k v => (k = 14 → K 1 (v, u.2)) ∧ ((k = 11 → K 2 (v, u.2)) ∧ (k = 14 ∨ k = 11)))
set_option maxHeartbeats 4000000 in
theorem m_X0_aggMax (l : Launch) (hlt : l.stackTraces = false) (dC : Nat → ClassId) (dI : Nat → Nat → Nat) (d : Nat → ClassId) (z : Nat → Nat → Nat) (hh : Nat → Nat → Nat) (cf : List Value) (g nh : Nat) (u : PS × (Nat → Int64)) (x1 : Int32) (x2 : Int32) (x3 : Int32) {K : Int32 → PS × (Nat → Int64) → Prop} (hwp : wp_X0_aggMax nh u x1 x2 x3 K) : kMW l yX0_aggMax cX0_aggMax 6 (some .int) [(0, 12, 15, 13), (0, 12, 19, 15)] ({ frames := 14, cells := 5, slots := 320, locals := 10487 } : Room) dC dI d [.ref (z 0 0), .int x1, .int x2, .int x3, .ref g] (wLo d nh hh cf z g) u (kQi dC dI (wLo d nh hh cf z g) K) 5 320 := by
  refine kMW_start rfl (Nat.le_of_ble_eq_true rfl) ?_
  intro p e s m below meth c A ls cx hnm xt hw hl
  generalize hargs : ([.ref (z 0 0), .int x1, .int x2, .int x3, .ref g] : List Value).toArray = args at cx ⊢
  unfold wp_X0_aggMax at hwp
  replace hl : lv_has ls 6 [(0, .ref (z 0 0)), (1, .int x1), (2, .int x2), (3, .int x3), (4, .ref g)] := hl
  generalize hH : s.heap = H at hw ⊢
  generalize hlo : ([] : List Loc) = locs at hw ⊢
  replace hw : Wd dC dI A (wP d nh hh cf z u.1 ++ [(g, .inl (d 2, 1, .inr (.inl u.2)))]) s H locs := hw
  refine lv_aload (pc := 0) cx.1 cx.2.1 dX0_aggMax_0 (lv_at hl 4 rfl) ?_
  refine lv_iconst (pc := 2) (v := 0) cx.1 cx.2.1 dX0_aggMax_2 (by decide) ?_
  refine lv_aload_n (pc := 3) cx.1 cx.2.1 dX0_aggMax_3 rfl (lv_at hl 0 rfl) ?_
  refine lv_iload_n (pc := 4) cx.1 cx.2.1 dX0_aggMax_4 rfl (lv_at hl 1 rfl) ?_
  refine lv_iload_n (pc := 5) cx.1 cx.2.1 dX0_aggMax_5 rfl (lv_at hl 2 rfl) ?_
  refine lv_iload_n (pc := 6) cx.1 cx.2.1 dX0_aggMax_6 rfl (lv_at hl 3 rfl) ?_
  have hpt := l_pt hw
  refine l_Ti (pc := 7) (wf := wP d nh hh cf z) (u := u.1) cx hw (k_runVT (pc := 7) (rest := [.int (0 : Int32), .ref g]) (As := [.int x1, .int x2, .int x3]) cx hpt.1 hpt.2 hw.2.2 (k_recv cx hw 0 (ci := 0) (q := (RX1, TX1, 21)) rfl rfl) (m_X1_aggMax l hlt dC dI d z hh cf nh u.1 x1 x2 x3 hwp H.size) (cwV 3 cx.2.2.2.2.1 (lw_V q910 q911 q912 q75 q913) rfl rfl rfl hdV_X1_aggMax ⟨Nat.le_of_ble_eq_true rfl, Nat.le_of_ble_eq_true rfl⟩) rfl hl.1 rfl (Nat.le_of_ble_eq_true rfl) dX0_aggMax_7 ⟨Nat.le_of_ble_eq_true rfl, Nat.le_of_ble_eq_true rfl⟩) (fun r v H locs hwp hw => ?_) (fun k v a H locs hwp hw hx => ?_)
  · clear hpt
    refine lv_i2l (pc := 10) cx.1 cx.2.1 dX0_aggMax_10 rfl ?_
    refine l_outW (pc := 11) cx hw dX0_aggMax_11 (fun H locs hw => ?_)
    refine lv_goto (pc := 12) (tgt := 23) cx.1 cx.2.1 dX0_aggMax_12 (by decide) ?_
    refine lv_iconst (pc := 23) (v := 0) cx.1 cx.2.1 dX0_aggMax_23 (by decide) ?_
    exact k_iret (pc := 24) (wf := wLo d nh hh cf z g) (K := K) (u := (v, vp_updL u.2 0 r.toInt64)) cx hw hwp (Nat.le_of_ble_eq_true rfl) (Nat.le_of_ble_eq_true rfl) dX0_aggMax_24
  · obtain ⟨hk14, hk11, hor⟩ := hwp
    rcases hor with rfl | rfl
    · replace hwp := hk14 rfl
      refine k_catch0 (pc := 7) (tgt := 15) (q := (RJ8, TJ8, 6)) cx xt rfl (by decide) q867 hx rfl ?_
      refine lv_astore (pc := 15) (lv' := [(5, .ref a), (0, .ref (z 0 0)), (1, .int x1), (2, .int x2), (3, .int x3), (4, .ref g)]) cx.1 cx.2.1 dX0_aggMax_15 hl (by decide) rfl (fun ls hl => ?_)
      refine lv_iconst (pc := 17) (v := 1) cx.1 cx.2.1 dX0_aggMax_17 (by decide) ?_
      exact k_iret (pc := 18) (wf := wLo d nh hh cf z g) (K := K) (u := (v, u.2)) cx hw hwp (Nat.le_of_ble_eq_true rfl) (Nat.le_of_ble_eq_true rfl) dX0_aggMax_18
    · replace hwp := hk11 rfl
      refine k_catch1 (pc := 7) (tgt := 19) (q := (RJ4, TJ4, 6)) cx xt rfl (by decide) q867 q868 hx (List.mem_of_getElem? (i := 58) rfl) rfl ?_
      refine lv_astore (pc := 19) (lv' := [(5, .ref a), (0, .ref (z 0 0)), (1, .int x1), (2, .int x2), (3, .int x3), (4, .ref g)]) cx.1 cx.2.1 dX0_aggMax_19 hl (by decide) rfl (fun ls hl => ?_)
      refine lv_iconst (pc := 21) (v := 2) cx.1 cx.2.1 dX0_aggMax_21 (by decide) ?_
      exact k_iret (pc := 22) (wf := wLo d nh hh cf z g) (K := K) (u := (v, u.2)) cx hw hwp (Nat.le_of_ble_eq_true rfl) (Nat.le_of_ble_eq_true rfl) dX0_aggMax_22
theorem hdS_X0_aggSum : yX0_aggSum.cls ≠ "java/lang/invoke/MethodHandle" ∧ yX0_aggSum.cls ≠ "java/lang/invoke/VarHandle" ∧ (parseMethodDescriptor yX0_aggSum.desc).map (fun d => d.parameters.length) = some 5 := by decide +kernel
def wp_X0_aggSum (nh : Nat) (u : PS × (Nat → Int64)) (x1 : Int32) (x2 : Int32) (x3 : Int32) (K : Int32 → PS × (Nat → Int64) → Prop) : Prop := wp_X1_aggSum nh u.1 x1 x2 x3 (fun r v => K 0 (v, vp_updL u.2 0 r)) (fun k v => (k = 14 → K 1 (v, u.2)) ∧ ((k = 11 → K 2 (v, u.2)) ∧ (k = 14 ∨ k = 11)))
set_option maxHeartbeats 4000000 in
theorem m_X0_aggSum (l : Launch) (hlt : l.stackTraces = false) (dC : Nat → ClassId) (dI : Nat → Nat → Nat) (d : Nat → ClassId) (z : Nat → Nat → Nat) (hh : Nat → Nat → Nat) (cf : List Value) (g nh : Nat) (u : PS × (Nat → Int64)) (x1 : Int32) (x2 : Int32) (x3 : Int32) {K : Int32 → PS × (Nat → Int64) → Prop} (hwp : wp_X0_aggSum nh u x1 x2 x3 K) : kMW l yX0_aggSum cX0_aggSum 6 (some .int) [(0, 11, 14, 13), (0, 11, 18, 15)] ({ frames := 14, cells := 5, slots := 320, locals := 10487 } : Room) dC dI d [.ref (z 0 0), .int x1, .int x2, .int x3, .ref g] (wLo d nh hh cf z g) u (kQi dC dI (wLo d nh hh cf z g) K) 5 320 := by
  refine kMW_start rfl (Nat.le_of_ble_eq_true rfl) ?_
  intro p e s m below meth c A ls cx hnm xt hw hl
  generalize hargs : ([.ref (z 0 0), .int x1, .int x2, .int x3, .ref g] : List Value).toArray = args at cx ⊢
  unfold wp_X0_aggSum at hwp
  replace hl : lv_has ls 6 [(0, .ref (z 0 0)), (1, .int x1), (2, .int x2), (3, .int x3), (4, .ref g)] := hl
  generalize hH : s.heap = H at hw ⊢
  generalize hlo : ([] : List Loc) = locs at hw ⊢
  replace hw : Wd dC dI A (wP d nh hh cf z u.1 ++ [(g, .inl (d 2, 1, .inr (.inl u.2)))]) s H locs := hw
  refine lv_aload (pc := 0) cx.1 cx.2.1 dX0_aggSum_0 (lv_at hl 4 rfl) ?_
  refine lv_iconst (pc := 2) (v := 0) cx.1 cx.2.1 dX0_aggSum_2 (by decide) ?_
  refine lv_aload_n (pc := 3) cx.1 cx.2.1 dX0_aggSum_3 rfl (lv_at hl 0 rfl) ?_
  refine lv_iload_n (pc := 4) cx.1 cx.2.1 dX0_aggSum_4 rfl (lv_at hl 1 rfl) ?_
  refine lv_iload_n (pc := 5) cx.1 cx.2.1 dX0_aggSum_5 rfl (lv_at hl 2 rfl) ?_
  refine lv_iload_n (pc := 6) cx.1 cx.2.1 dX0_aggSum_6 rfl (lv_at hl 3 rfl) ?_
  have hpt := l_pt hw
  refine l_Tl (pc := 7) (wf := wP d nh hh cf z) (u := u.1) cx hw (k_runVT (pc := 7) (rest := [.int (0 : Int32), .ref g]) (As := [.int x1, .int x2, .int x3]) cx hpt.1 hpt.2 hw.2.2 (k_recv cx hw 0 (ci := 0) (q := (RX1, TX1, 21)) rfl rfl) (m_X1_aggSum l hlt dC dI d z hh cf nh u.1 x1 x2 x3 hwp H.size) (cwV 3 cx.2.2.2.2.1 (lw_V q917 q918 q919 q75 q920) rfl rfl rfl hdV_X1_aggSum ⟨Nat.le_of_ble_eq_true rfl, Nat.le_of_ble_eq_true rfl⟩) rfl hl.1 rfl (Nat.le_of_ble_eq_true rfl) dX0_aggSum_7 ⟨Nat.le_of_ble_eq_true rfl, Nat.le_of_ble_eq_true rfl⟩) (fun r v H locs hwp hw => ?_) (fun k v a H locs hwp hw hx => ?_)
  · clear hpt
    refine l_outW (pc := 10) cx hw dX0_aggSum_10 (fun H locs hw => ?_)
    refine lv_goto (pc := 11) (tgt := 22) cx.1 cx.2.1 dX0_aggSum_11 (by decide) ?_
    refine lv_iconst (pc := 22) (v := 0) cx.1 cx.2.1 dX0_aggSum_22 (by decide) ?_
    exact k_iret (pc := 23) (wf := wLo d nh hh cf z g) (K := K) (u := (v, vp_updL u.2 0 r)) cx hw hwp (Nat.le_of_ble_eq_true rfl) (Nat.le_of_ble_eq_true rfl) dX0_aggSum_23
  · obtain ⟨hk14, hk11, hor⟩ := hwp
    rcases hor with rfl | rfl
    · replace hwp := hk14 rfl
      refine k_catch0 (pc := 7) (tgt := 14) (q := (RJ8, TJ8, 6)) cx xt rfl (by decide) q867 hx rfl ?_
      refine lv_astore (pc := 14) (lv' := [(5, .ref a), (0, .ref (z 0 0)), (1, .int x1), (2, .int x2), (3, .int x3), (4, .ref g)]) cx.1 cx.2.1 dX0_aggSum_14 hl (by decide) rfl (fun ls hl => ?_)
      refine lv_iconst (pc := 16) (v := 1) cx.1 cx.2.1 dX0_aggSum_16 (by decide) ?_
      exact k_iret (pc := 17) (wf := wLo d nh hh cf z g) (K := K) (u := (v, u.2)) cx hw hwp (Nat.le_of_ble_eq_true rfl) (Nat.le_of_ble_eq_true rfl) dX0_aggSum_17
    · replace hwp := hk11 rfl
      refine k_catch1 (pc := 7) (tgt := 18) (q := (RJ4, TJ4, 6)) cx xt rfl (by decide) q867 q868 hx (List.mem_of_getElem? (i := 58) rfl) rfl ?_
      refine lv_astore (pc := 18) (lv' := [(5, .ref a), (0, .ref (z 0 0)), (1, .int x1), (2, .int x2), (3, .int x3), (4, .ref g)]) cx.1 cx.2.1 dX0_aggSum_18 hl (by decide) rfl (fun ls hl => ?_)
      refine lv_iconst (pc := 20) (v := 2) cx.1 cx.2.1 dX0_aggSum_20 (by decide) ?_
      exact k_iret (pc := 21) (wf := wLo d nh hh cf z g) (K := K) (u := (v, u.2)) cx hw hwp (Nat.le_of_ble_eq_true rfl) (Nat.le_of_ble_eq_true rfl) dX0_aggSum_21
theorem hdS_X0_sizes : yX0_sizes.cls ≠ "java/lang/invoke/MethodHandle" ∧ yX0_sizes.cls ≠ "java/lang/invoke/VarHandle" ∧ (parseMethodDescriptor yX0_sizes.desc).map (fun d => d.parameters.length) = some 4 := by decide +kernel
def wp_X0_sizes (nh : Nat) (u : PS × (Nat → Int64)) (x1 : Int32) (x2 : Int32) (K : Int32 → PS × (Nat → Int64) → Prop) : Prop := wp_X1_sizes nh u.1 x1 x2 (fun r v => K 0 (v, vp_updL u.2 0 r.toInt64)) (fun k v => (k = 14 → K 1 (v, u.2)) ∧ ((k = 11 → K 2 (v, u.2)) ∧ ((k = 15 → K 3 (v, u.2)) ∧ (k = 14 ∨ k = 11 ∨ k = 15))))
set_option maxHeartbeats 4000000 in
theorem m_X0_sizes (l : Launch) (hlt : l.stackTraces = false) (dC : Nat → ClassId) (dI : Nat → Nat → Nat) (d : Nat → ClassId) (z : Nat → Nat → Nat) (hh : Nat → Nat → Nat) (cf : List Value) (g nh : Nat) (u : PS × (Nat → Int64)) (x1 : Int32) (x2 : Int32) {K : Int32 → PS × (Nat → Int64) → Prop} (hwp : wp_X0_sizes nh u x1 x2 K) : kMW l yX0_sizes cX0_sizes 5 (some .int) [(0, 10, 13, 13), (0, 10, 17, 15), (0, 10, 21, 28)] ({ frames := 14, cells := 6, slots := 330, locals := 10486 } : Room) dC dI d [.ref (z 0 0), .int x1, .int x2, .ref g] (wLo d nh hh cf z g) u (kQi dC dI (wLo d nh hh cf z g) K) 6 330 := by
  refine kMW_start rfl (Nat.le_of_ble_eq_true rfl) ?_
  intro p e s m below meth c A ls cx hnm xt hw hl
  generalize hargs : ([.ref (z 0 0), .int x1, .int x2, .ref g] : List Value).toArray = args at cx ⊢
  unfold wp_X0_sizes at hwp
  replace hl : lv_has ls 5 [(0, .ref (z 0 0)), (1, .int x1), (2, .int x2), (3, .ref g)] := hl
  generalize hH : s.heap = H at hw ⊢
  generalize hlo : ([] : List Loc) = locs at hw ⊢
  replace hw : Wd dC dI A (wP d nh hh cf z u.1 ++ [(g, .inl (d 2, 1, .inr (.inl u.2)))]) s H locs := hw
  refine lv_aload_n (pc := 0) cx.1 cx.2.1 dX0_sizes_0 rfl (lv_at hl 3 rfl) ?_
  refine lv_iconst (pc := 1) (v := 0) cx.1 cx.2.1 dX0_sizes_1 (by decide) ?_
  refine lv_aload_n (pc := 2) cx.1 cx.2.1 dX0_sizes_2 rfl (lv_at hl 0 rfl) ?_
  refine lv_iload_n (pc := 3) cx.1 cx.2.1 dX0_sizes_3 rfl (lv_at hl 1 rfl) ?_
  refine lv_iload_n (pc := 4) cx.1 cx.2.1 dX0_sizes_4 rfl (lv_at hl 2 rfl) ?_
  have hpt := l_pt hw
  refine l_Ti (pc := 5) (wf := wP d nh hh cf z) (u := u.1) cx hw (k_runVT (pc := 5) (rest := [.int (0 : Int32), .ref g]) (As := [.int x1, .int x2]) cx hpt.1 hpt.2 hw.2.2 (k_recv cx hw 0 (ci := 0) (q := (RX1, TX1, 21)) rfl rfl) (m_X1_sizes l hlt dC dI d z hh cf nh u.1 x1 x2 hwp H.size) (cwV 2 cx.2.2.2.2.1 (lw_V q925 q926 q927 q75 q928) rfl rfl rfl hdV_X1_sizes ⟨Nat.le_of_ble_eq_true rfl, Nat.le_of_ble_eq_true rfl⟩) rfl hl.1 rfl (Nat.le_of_ble_eq_true rfl) dX0_sizes_5 ⟨Nat.le_of_ble_eq_true rfl, Nat.le_of_ble_eq_true rfl⟩) (fun r v H locs hwp hw => ?_) (fun k v a H locs hwp hw hx => ?_)
  · clear hpt
    refine lv_i2l (pc := 8) cx.1 cx.2.1 dX0_sizes_8 rfl ?_
    refine l_outW (pc := 9) cx hw dX0_sizes_9 (fun H locs hw => ?_)
    refine lv_goto (pc := 10) (tgt := 25) cx.1 cx.2.1 dX0_sizes_10 (by decide) ?_
    refine lv_iconst (pc := 25) (v := 0) cx.1 cx.2.1 dX0_sizes_25 (by decide) ?_
    exact k_iret (pc := 26) (wf := wLo d nh hh cf z g) (K := K) (u := (v, vp_updL u.2 0 r.toInt64)) cx hw hwp (Nat.le_of_ble_eq_true rfl) (Nat.le_of_ble_eq_true rfl) dX0_sizes_26
  · obtain ⟨hk14, hk11, hk15, hor⟩ := hwp
    rcases hor with rfl | rfl | rfl
    · replace hwp := hk14 rfl
      refine k_catch0 (pc := 5) (tgt := 13) (q := (RJ8, TJ8, 6)) cx xt rfl (by decide) q867 hx rfl ?_
      refine lv_astore (pc := 13) (lv' := [(4, .ref a), (0, .ref (z 0 0)), (1, .int x1), (2, .int x2), (3, .ref g)]) cx.1 cx.2.1 dX0_sizes_13 hl (by decide) rfl (fun ls hl => ?_)
      refine lv_iconst (pc := 15) (v := 1) cx.1 cx.2.1 dX0_sizes_15 (by decide) ?_
      exact k_iret (pc := 16) (wf := wLo d nh hh cf z g) (K := K) (u := (v, u.2)) cx hw hwp (Nat.le_of_ble_eq_true rfl) (Nat.le_of_ble_eq_true rfl) dX0_sizes_16
    · replace hwp := hk11 rfl
      refine k_catch1 (pc := 5) (tgt := 17) (q := (RJ4, TJ4, 6)) cx xt rfl (by decide) q867 q868 hx (List.mem_of_getElem? (i := 58) rfl) rfl ?_
      refine lv_astore (pc := 17) (lv' := [(4, .ref a), (0, .ref (z 0 0)), (1, .int x1), (2, .int x2), (3, .ref g)]) cx.1 cx.2.1 dX0_sizes_17 hl (by decide) rfl (fun ls hl => ?_)
      refine lv_iconst (pc := 19) (v := 2) cx.1 cx.2.1 dX0_sizes_19 (by decide) ?_
      exact k_iret (pc := 20) (wf := wLo d nh hh cf z g) (K := K) (u := (v, u.2)) cx hw hwp (Nat.le_of_ble_eq_true rfl) (Nat.le_of_ble_eq_true rfl) dX0_sizes_20
    · replace hwp := hk15 rfl
      refine k_catch2 (pc := 5) (tgt := 21) (q := (RJ9, TJ9, 6)) cx xt rfl (by decide) q867 q868 q924 hx (List.mem_of_getElem? (i := 59) rfl) (List.mem_of_getElem? (i := 73) rfl) rfl ?_
      refine lv_astore (pc := 21) (lv' := [(4, .ref a), (0, .ref (z 0 0)), (1, .int x1), (2, .int x2), (3, .ref g)]) cx.1 cx.2.1 dX0_sizes_21 hl (by decide) rfl (fun ls hl => ?_)
      refine lv_iconst (pc := 23) (v := 3) cx.1 cx.2.1 dX0_sizes_23 (by decide) ?_
      exact k_iret (pc := 24) (wf := wLo d nh hh cf z g) (K := K) (u := (v, u.2)) cx hw hwp (Nat.le_of_ble_eq_true rfl) (Nat.le_of_ble_eq_true rfl) dX0_sizes_24
theorem hdS_X0_chunk : yX0_chunk.cls ≠ "java/lang/invoke/MethodHandle" ∧ yX0_chunk.cls ≠ "java/lang/invoke/VarHandle" ∧ (parseMethodDescriptor yX0_chunk.desc).map (fun d => d.parameters.length) = some 5 := by decide +kernel
def wp_X0_chunk (nh : Nat) (u : PS × (Nat → Int64)) (x1 : Int32) (x2 : Int32) (x3 : Int32) (K : Int32 → PS × (Nat → Int64) → Prop) : Prop := wp_X1_chunk nh u.1 x1 x2 x3 (fun r v => K 0 (v, vp_updL u.2 0 r.toInt64)) (fun k v => (k = 14 → K 1 (v, u.2)) ∧ ((k = 11 → K 2 (v, u.2)) ∧ ((k = 15 → K 3 (v, u.2)) ∧ (k = 14 ∨ k = 11 ∨ k = 15))))
set_option maxHeartbeats 4000000 in
theorem m_X0_chunk (l : Launch) (hlt : l.stackTraces = false) (dC : Nat → ClassId) (dI : Nat → Nat → Nat) (d : Nat → ClassId) (z : Nat → Nat → Nat) (hh : Nat → Nat → Nat) (cf : List Value) (g nh : Nat) (u : PS × (Nat → Int64)) (x1 : Int32) (x2 : Int32) (x3 : Int32) {K : Int32 → PS × (Nat → Int64) → Prop} (hwp : wp_X0_chunk nh u x1 x2 x3 K) : kMW l yX0_chunk cX0_chunk 6 (some .int) [(0, 12, 15, 13), (0, 12, 19, 15), (0, 12, 23, 28)] ({ frames := 14, cells := 7, slots := 340, locals := 10488 } : Room) dC dI d [.ref (z 0 0), .int x1, .int x2, .int x3, .ref g] (wLo d nh hh cf z g) u (kQi dC dI (wLo d nh hh cf z g) K) 7 340 := by
  refine kMW_start rfl (Nat.le_of_ble_eq_true rfl) ?_
  intro p e s m below meth c A ls cx hnm xt hw hl
  generalize hargs : ([.ref (z 0 0), .int x1, .int x2, .int x3, .ref g] : List Value).toArray = args at cx ⊢
  unfold wp_X0_chunk at hwp
  replace hl : lv_has ls 6 [(0, .ref (z 0 0)), (1, .int x1), (2, .int x2), (3, .int x3), (4, .ref g)] := hl
  generalize hH : s.heap = H at hw ⊢
  generalize hlo : ([] : List Loc) = locs at hw ⊢
  replace hw : Wd dC dI A (wP d nh hh cf z u.1 ++ [(g, .inl (d 2, 1, .inr (.inl u.2)))]) s H locs := hw
  refine lv_aload (pc := 0) cx.1 cx.2.1 dX0_chunk_0 (lv_at hl 4 rfl) ?_
  refine lv_iconst (pc := 2) (v := 0) cx.1 cx.2.1 dX0_chunk_2 (by decide) ?_
  refine lv_aload_n (pc := 3) cx.1 cx.2.1 dX0_chunk_3 rfl (lv_at hl 0 rfl) ?_
  refine lv_iload_n (pc := 4) cx.1 cx.2.1 dX0_chunk_4 rfl (lv_at hl 1 rfl) ?_
  refine lv_iload_n (pc := 5) cx.1 cx.2.1 dX0_chunk_5 rfl (lv_at hl 2 rfl) ?_
  refine lv_iload_n (pc := 6) cx.1 cx.2.1 dX0_chunk_6 rfl (lv_at hl 3 rfl) ?_
  have hpt := l_pt hw
  refine l_Ti (pc := 7) (wf := wP d nh hh cf z) (u := u.1) cx hw (k_runVT (pc := 7) (rest := [.int (0 : Int32), .ref g]) (As := [.int x1, .int x2, .int x3]) cx hpt.1 hpt.2 hw.2.2 (k_recv cx hw 0 (ci := 0) (q := (RX1, TX1, 21)) rfl rfl) (m_X1_chunk l hlt dC dI d z hh cf nh u.1 x1 x2 x3 hwp H.size) (cwV 3 cx.2.2.2.2.1 (lw_V q951 q952 q953 q75 q954) rfl rfl rfl hdV_X1_chunk ⟨Nat.le_of_ble_eq_true rfl, Nat.le_of_ble_eq_true rfl⟩) rfl hl.1 rfl (Nat.le_of_ble_eq_true rfl) dX0_chunk_7 ⟨Nat.le_of_ble_eq_true rfl, Nat.le_of_ble_eq_true rfl⟩) (fun r v H locs hwp hw => ?_) (fun k v a H locs hwp hw hx => ?_)
  · clear hpt
    refine lv_i2l (pc := 10) cx.1 cx.2.1 dX0_chunk_10 rfl ?_
    refine l_outW (pc := 11) cx hw dX0_chunk_11 (fun H locs hw => ?_)
    refine lv_goto (pc := 12) (tgt := 27) cx.1 cx.2.1 dX0_chunk_12 (by decide) ?_
    refine lv_iconst (pc := 27) (v := 0) cx.1 cx.2.1 dX0_chunk_27 (by decide) ?_
    exact k_iret (pc := 28) (wf := wLo d nh hh cf z g) (K := K) (u := (v, vp_updL u.2 0 r.toInt64)) cx hw hwp (Nat.le_of_ble_eq_true rfl) (Nat.le_of_ble_eq_true rfl) dX0_chunk_28
  · obtain ⟨hk14, hk11, hk15, hor⟩ := hwp
    rcases hor with rfl | rfl | rfl
    · replace hwp := hk14 rfl
      refine k_catch0 (pc := 7) (tgt := 15) (q := (RJ8, TJ8, 6)) cx xt rfl (by decide) q867 hx rfl ?_
      refine lv_astore (pc := 15) (lv' := [(5, .ref a), (0, .ref (z 0 0)), (1, .int x1), (2, .int x2), (3, .int x3), (4, .ref g)]) cx.1 cx.2.1 dX0_chunk_15 hl (by decide) rfl (fun ls hl => ?_)
      refine lv_iconst (pc := 17) (v := 1) cx.1 cx.2.1 dX0_chunk_17 (by decide) ?_
      exact k_iret (pc := 18) (wf := wLo d nh hh cf z g) (K := K) (u := (v, u.2)) cx hw hwp (Nat.le_of_ble_eq_true rfl) (Nat.le_of_ble_eq_true rfl) dX0_chunk_18
    · replace hwp := hk11 rfl
      refine k_catch1 (pc := 7) (tgt := 19) (q := (RJ4, TJ4, 6)) cx xt rfl (by decide) q867 q868 hx (List.mem_of_getElem? (i := 58) rfl) rfl ?_
      refine lv_astore (pc := 19) (lv' := [(5, .ref a), (0, .ref (z 0 0)), (1, .int x1), (2, .int x2), (3, .int x3), (4, .ref g)]) cx.1 cx.2.1 dX0_chunk_19 hl (by decide) rfl (fun ls hl => ?_)
      refine lv_iconst (pc := 21) (v := 2) cx.1 cx.2.1 dX0_chunk_21 (by decide) ?_
      exact k_iret (pc := 22) (wf := wLo d nh hh cf z g) (K := K) (u := (v, u.2)) cx hw hwp (Nat.le_of_ble_eq_true rfl) (Nat.le_of_ble_eq_true rfl) dX0_chunk_22
    · replace hwp := hk15 rfl
      refine k_catch2 (pc := 7) (tgt := 23) (q := (RJ9, TJ9, 6)) cx xt rfl (by decide) q867 q868 q924 hx (List.mem_of_getElem? (i := 59) rfl) (List.mem_of_getElem? (i := 73) rfl) rfl ?_
      refine lv_astore (pc := 23) (lv' := [(5, .ref a), (0, .ref (z 0 0)), (1, .int x1), (2, .int x2), (3, .int x3), (4, .ref g)]) cx.1 cx.2.1 dX0_chunk_23 hl (by decide) rfl (fun ls hl => ?_)
      refine lv_iconst (pc := 25) (v := 3) cx.1 cx.2.1 dX0_chunk_25 (by decide) ?_
      exact k_iret (pc := 26) (wf := wLo d nh hh cf z g) (K := K) (u := (v, u.2)) cx hw hwp (Nat.le_of_ble_eq_true rfl) (Nat.le_of_ble_eq_true rfl) dX0_chunk_26
theorem hdS_X0_group : yX0_group.cls ≠ "java/lang/invoke/MethodHandle" ∧ yX0_group.cls ≠ "java/lang/invoke/VarHandle" ∧ (parseMethodDescriptor yX0_group.desc).map (fun d => d.parameters.length) = some 5 := by decide +kernel
def wp_X0_group (nh : Nat) (u : PS × (Nat → Int64)) (x1 : Int32) (x2 : Int32) (x3 : Int32) (K : Int32 → PS × (Nat → Int64) → Prop) : Prop := wp_X1_group nh u.1 x1 x2 x3 (fun r v => K 0 (v, vp_updL u.2 0 r.toInt64)) (fun k v => (k = 14 → K 1 (v, u.2)) ∧ ((k = 11 → K 2 (v, u.2)) ∧ ((k = 15 → K 3 (v, u.2)) ∧ (k = 14 ∨ k = 11 ∨ k = 15))))
set_option maxHeartbeats 4000000 in
theorem m_X0_group (l : Launch) (hlt : l.stackTraces = false) (dC : Nat → ClassId) (dI : Nat → Nat → Nat) (d : Nat → ClassId) (z : Nat → Nat → Nat) (hh : Nat → Nat → Nat) (cf : List Value) (g nh : Nat) (u : PS × (Nat → Int64)) (x1 : Int32) (x2 : Int32) (x3 : Int32) {K : Int32 → PS × (Nat → Int64) → Prop} (hwp : wp_X0_group nh u x1 x2 x3 K) : kMW l yX0_group cX0_group 6 (some .int) [(0, 12, 15, 13), (0, 12, 19, 15), (0, 12, 23, 28)] ({ frames := 14, cells := 7, slots := 340, locals := 10488 } : Room) dC dI d [.ref (z 0 0), .int x1, .int x2, .int x3, .ref g] (wLo d nh hh cf z g) u (kQi dC dI (wLo d nh hh cf z g) K) 7 340 := by
  refine kMW_start rfl (Nat.le_of_ble_eq_true rfl) ?_
  intro p e s m below meth c A ls cx hnm xt hw hl
  generalize hargs : ([.ref (z 0 0), .int x1, .int x2, .int x3, .ref g] : List Value).toArray = args at cx ⊢
  unfold wp_X0_group at hwp
  replace hl : lv_has ls 6 [(0, .ref (z 0 0)), (1, .int x1), (2, .int x2), (3, .int x3), (4, .ref g)] := hl
  generalize hH : s.heap = H at hw ⊢
  generalize hlo : ([] : List Loc) = locs at hw ⊢
  replace hw : Wd dC dI A (wP d nh hh cf z u.1 ++ [(g, .inl (d 2, 1, .inr (.inl u.2)))]) s H locs := hw
  refine lv_aload (pc := 0) cx.1 cx.2.1 dX0_group_0 (lv_at hl 4 rfl) ?_
  refine lv_iconst (pc := 2) (v := 0) cx.1 cx.2.1 dX0_group_2 (by decide) ?_
  refine lv_aload_n (pc := 3) cx.1 cx.2.1 dX0_group_3 rfl (lv_at hl 0 rfl) ?_
  refine lv_iload_n (pc := 4) cx.1 cx.2.1 dX0_group_4 rfl (lv_at hl 1 rfl) ?_
  refine lv_iload_n (pc := 5) cx.1 cx.2.1 dX0_group_5 rfl (lv_at hl 2 rfl) ?_
  refine lv_iload_n (pc := 6) cx.1 cx.2.1 dX0_group_6 rfl (lv_at hl 3 rfl) ?_
  have hpt := l_pt hw
  refine l_Ti (pc := 7) (wf := wP d nh hh cf z) (u := u.1) cx hw (k_runVT (pc := 7) (rest := [.int (0 : Int32), .ref g]) (As := [.int x1, .int x2, .int x3]) cx hpt.1 hpt.2 hw.2.2 (k_recv cx hw 0 (ci := 0) (q := (RX1, TX1, 21)) rfl rfl) (m_X1_group l hlt dC dI d z hh cf nh u.1 x1 x2 x3 hwp H.size) (cwV 3 cx.2.2.2.2.1 (lw_V q964 q965 q966 q75 q967) rfl rfl rfl hdV_X1_group ⟨Nat.le_of_ble_eq_true rfl, Nat.le_of_ble_eq_true rfl⟩) rfl hl.1 rfl (Nat.le_of_ble_eq_true rfl) dX0_group_7 ⟨Nat.le_of_ble_eq_true rfl, Nat.le_of_ble_eq_true rfl⟩) (fun r v H locs hwp hw => ?_) (fun k v a H locs hwp hw hx => ?_)
  · clear hpt
    refine lv_i2l (pc := 10) cx.1 cx.2.1 dX0_group_10 rfl ?_
    refine l_outW (pc := 11) cx hw dX0_group_11 (fun H locs hw => ?_)
    refine lv_goto (pc := 12) (tgt := 27) cx.1 cx.2.1 dX0_group_12 (by decide) ?_
    refine lv_iconst (pc := 27) (v := 0) cx.1 cx.2.1 dX0_group_27 (by decide) ?_
    exact k_iret (pc := 28) (wf := wLo d nh hh cf z g) (K := K) (u := (v, vp_updL u.2 0 r.toInt64)) cx hw hwp (Nat.le_of_ble_eq_true rfl) (Nat.le_of_ble_eq_true rfl) dX0_group_28
  · obtain ⟨hk14, hk11, hk15, hor⟩ := hwp
    rcases hor with rfl | rfl | rfl
    · replace hwp := hk14 rfl
      refine k_catch0 (pc := 7) (tgt := 15) (q := (RJ8, TJ8, 6)) cx xt rfl (by decide) q867 hx rfl ?_
      refine lv_astore (pc := 15) (lv' := [(5, .ref a), (0, .ref (z 0 0)), (1, .int x1), (2, .int x2), (3, .int x3), (4, .ref g)]) cx.1 cx.2.1 dX0_group_15 hl (by decide) rfl (fun ls hl => ?_)
      refine lv_iconst (pc := 17) (v := 1) cx.1 cx.2.1 dX0_group_17 (by decide) ?_
      exact k_iret (pc := 18) (wf := wLo d nh hh cf z g) (K := K) (u := (v, u.2)) cx hw hwp (Nat.le_of_ble_eq_true rfl) (Nat.le_of_ble_eq_true rfl) dX0_group_18
    · replace hwp := hk11 rfl
      refine k_catch1 (pc := 7) (tgt := 19) (q := (RJ4, TJ4, 6)) cx xt rfl (by decide) q867 q868 hx (List.mem_of_getElem? (i := 58) rfl) rfl ?_
      refine lv_astore (pc := 19) (lv' := [(5, .ref a), (0, .ref (z 0 0)), (1, .int x1), (2, .int x2), (3, .int x3), (4, .ref g)]) cx.1 cx.2.1 dX0_group_19 hl (by decide) rfl (fun ls hl => ?_)
      refine lv_iconst (pc := 21) (v := 2) cx.1 cx.2.1 dX0_group_21 (by decide) ?_
      exact k_iret (pc := 22) (wf := wLo d nh hh cf z g) (K := K) (u := (v, u.2)) cx hw hwp (Nat.le_of_ble_eq_true rfl) (Nat.le_of_ble_eq_true rfl) dX0_group_22
    · replace hwp := hk15 rfl
      refine k_catch2 (pc := 7) (tgt := 23) (q := (RJ9, TJ9, 6)) cx xt rfl (by decide) q867 q868 q924 hx (List.mem_of_getElem? (i := 59) rfl) (List.mem_of_getElem? (i := 73) rfl) rfl ?_
      refine lv_astore (pc := 23) (lv' := [(5, .ref a), (0, .ref (z 0 0)), (1, .int x1), (2, .int x2), (3, .int x3), (4, .ref g)]) cx.1 cx.2.1 dX0_group_23 hl (by decide) rfl (fun ls hl => ?_)
      refine lv_iconst (pc := 25) (v := 3) cx.1 cx.2.1 dX0_group_25 (by decide) ?_
      exact k_iret (pc := 26) (wf := wLo d nh hh cf z g) (K := K) (u := (v, u.2)) cx hw hwp (Nat.le_of_ble_eq_true rfl) (Nat.le_of_ble_eq_true rfl) dX0_group_26
theorem hdS_X0_cell : yX0_cell.cls ≠ "java/lang/invoke/MethodHandle" ∧ yX0_cell.cls ≠ "java/lang/invoke/VarHandle" ∧ (parseMethodDescriptor yX0_cell.desc).map (fun d => d.parameters.length) = some 2 := by decide +kernel
