set_option maxRecDepth 100000
def z0 : St := (fun _ => 0, fun _ _ => 0, fun _ => 0, fun _ _ => 0)
theorem Wd.sub {dC : Nat → ClassId} {dI : Nat → Nat → Nat} {A : Nat → Prop} {ws ws' : va_W} {s : State} {H : Heap} {locs : List Loc} (hw : Wd dC dI A ws s H locs) (is : List Nat) (hnd : va_nd is = true) (hC : is.map (fun i => ws[i]?) = ws'.map some) : Wd dC dI A ws' s H locs :=
  ⟨fun k q hq => by obtain ⟨i, -, h⟩ := w_part_at hC hq; exact hw.1 i q h, hw.2.1.sub is hnd hC, hw.2.2⟩
/-- a static of Throwable holds a reference or null -/
theorem kS_Z {s : State} {A : Nat → Prop} {args : Array Value} (hs : kS s) (hns : ∀ (q : Nat) (cell : Cell), A q → s.heap[q]? = some cell → cell.vm.isStatics = false) (hini : (Cond.initialized "java/lang/Throwable").before args s = true) {n d : String} (hq : (n, d) ∈ kSt) : ∃ u : RefV, va_Z "java/lang/Throwable" n d u.v A s s.heap := by
  obtain ⟨h1, h2⟩ := hs (n, d) hq args
  obtain ⟨c, k, i, f, a, cell, hc, hi, hst, ha, hcell, hss, hcls, hlt, hty⟩ := Cond.laysStatic_spec h1
  obtain ⟨u, hu⟩ := Cond.staticRefV hi hst ha hcell hss h2
  exact ⟨u, c, k, i, f, a, cell, hi, hst, Cond.initialized_spec hc (State.fieldFound?_spec hi).1 hini, ha, hcell, hss, hu, fun hA => by rw [hns a cell hA hcell] at hss; cases hss⟩
theorem fits_rA (t : FieldType) (u : RefV) : fits (.array t) u.v = true := fits_refV_array t u
theorem fits_rO (n : String) (u : RefV) : fits (.object n) u.v = true := fits_refV_object n u
theorem hdI_X2_init : yX2_init.cls ≠ "java/lang/invoke/MethodHandle" ∧ yX2_init.cls ≠ "java/lang/invoke/VarHandle" ∧ (parseMethodDescriptor yX2_init.desc).map (fun d => d.parameters.length) = some 0 := by decide +kernel
theorem hdI_X3_init : yX3_init.cls ≠ "java/lang/invoke/MethodHandle" ∧ yX3_init.cls ≠ "java/lang/invoke/VarHandle" ∧ (parseMethodDescriptor yX3_init.desc).map (fun d => d.parameters.length) = some 0 := by decide +kernel
theorem hdI_X4_init : yX4_init.cls ≠ "java/lang/invoke/MethodHandle" ∧ yX4_init.cls ≠ "java/lang/invoke/VarHandle" ∧ (parseMethodDescriptor yX4_init.desc).map (fun d => d.parameters.length) = some 0 := by decide +kernel
theorem hdI_X5_init : yX5_init.cls ≠ "java/lang/invoke/MethodHandle" ∧ yX5_init.cls ≠ "java/lang/invoke/VarHandle" ∧ (parseMethodDescriptor yX5_init.desc).map (fun d => d.parameters.length) = some 0 := by decide +kernel
theorem hdI_X6_init : yX6_init.cls ≠ "java/lang/invoke/MethodHandle" ∧ yX6_init.cls ≠ "java/lang/invoke/VarHandle" ∧ (parseMethodDescriptor yX6_init.desc).map (fun d => d.parameters.length) = some 1 := by decide +kernel
theorem hdI_X7_init : yX7_init.cls ≠ "java/lang/invoke/MethodHandle" ∧ yX7_init.cls ≠ "java/lang/invoke/VarHandle" ∧ (parseMethodDescriptor yX7_init.desc).map (fun d => d.parameters.length) = some 0 := by decide +kernel
theorem hdI_X8_init : yX8_init.cls ≠ "java/lang/invoke/MethodHandle" ∧ yX8_init.cls ≠ "java/lang/invoke/VarHandle" ∧ (parseMethodDescriptor yX8_init.desc).map (fun d => d.parameters.length) = some 1 := by decide +kernel
theorem hdI_X9_init : yX9_init.cls ≠ "java/lang/invoke/MethodHandle" ∧ yX9_init.cls ≠ "java/lang/invoke/VarHandle" ∧ (parseMethodDescriptor yX9_init.desc).map (fun d => d.parameters.length) = some 1 := by decide +kernel
theorem hdI_X10_init : yX10_init.cls ≠ "java/lang/invoke/MethodHandle" ∧ yX10_init.cls ≠ "java/lang/invoke/VarHandle" ∧ (parseMethodDescriptor yX10_init.desc).map (fun d => d.parameters.length) = some 1 := by decide +kernel
theorem hdI_X11_init : yX11_init.cls ≠ "java/lang/invoke/MethodHandle" ∧ yX11_init.cls ≠ "java/lang/invoke/VarHandle" ∧ (parseMethodDescriptor yX11_init.desc).map (fun d => d.parameters.length) = some 0 := by decide +kernel
theorem hdI_X12_init : yX12_init.cls ≠ "java/lang/invoke/MethodHandle" ∧ yX12_init.cls ≠ "java/lang/invoke/VarHandle" ∧ (parseMethodDescriptor yX12_init.desc).map (fun d => d.parameters.length) = some 3 := by decide +kernel
theorem hdI_X1_init : yX1_init.cls ≠ "java/lang/invoke/MethodHandle" ∧ yX1_init.cls ≠ "java/lang/invoke/VarHandle" ∧ (parseMethodDescriptor yX1_init.desc).map (fun d => d.parameters.length) = some 3 := by decide +kernel
theorem hdI_J1_init : yJ1_init.cls ≠ "java/lang/invoke/MethodHandle" ∧ yJ1_init.cls ≠ "java/lang/invoke/VarHandle" ∧ (parseMethodDescriptor yJ1_init.desc).map (fun d => d.parameters.length) = some 4 := by decide +kernel
theorem hdI_J0_init_2 : yJ0_init_2.cls ≠ "java/lang/invoke/MethodHandle" ∧ yJ0_init_2.cls ≠ "java/lang/invoke/VarHandle" ∧ (parseMethodDescriptor yJ0_init_2.desc).map (fun d => d.parameters.length) = some 4 := by decide +kernel
set_option maxHeartbeats 4000000 in
theorem m_X8_init (l : Launch) (dC : Nat → ClassId) (dI : Nat → Nat → Nat) (d : Nat → ClassId) (h0 : Nat) : kM l yX8_init cX8_init 2 none ({ frames := 1, cells := 6, slots := 576, locals := 20 } : Room) dC dI d [.ref h0, .int (96 : Int32)] (fun _ : Unit => [(h0, .inr (6, [.null, .null, .null, .null, .null, .null]))]) () (kQv dC dI (fun h : Nat → Nat => wSp d h z0) (fun h => h 0 = h0)) 6 576 := by
  refine kM_start rfl (Nat.le_of_ble_eq_true rfl) ?_
  intro p e s m below meth c A ls cx hnm hw hl
  generalize hargs : ([.ref h0, .int (96 : Int32)] : List Value).toArray = args at cx ⊢
  replace hl : lv_has ls 2 [(0, .ref h0), (1, .int (96 : Int32))] := hl
  replace hw : Wd dC dI A [(h0, .inr (6, [.null, .null, .null, .null, .null, .null]))] s s.heap [] := hw
  generalize hH : s.heap = H at hw ⊢
  generalize hlo : ([] : List Loc) = locs at hw ⊢
  refine lv_aload_n (pc := 0) cx.1 cx.2.1 dX8_init_0 rfl (lv_at hl 0 rfl) ?_
  refine c_objInit (pc := 1) cx hl.1 q294 q103 q104 ⟨Nat.le_of_ble_eq_true rfl, Nat.le_of_ble_eq_true rfl⟩ dX8_init_1 ?_
  refine lv_aload_n (pc := 4) cx.1 cx.2.1 dX8_init_4 rfl (lv_at hl 0 rfl) ?_
  refine lv_iload_n (pc := 5) cx.1 cx.2.1 dX8_init_5 rfl (lv_at hl 1 rfl) ?_
  refine c_newa (pc := 6) (a0 := (96, .inl (fun _ => 0))) cx hw (atype := .int) (ty := .int) rfl q188 0 rfl (fun _ h => h) (fun _ => rfl) (by decide) (by decide) (by decide) ⟨Nat.le_of_ble_eq_true rfl, Nat.le_of_ble_eq_true rfl⟩ dX8_init_6 (fun q1 H hw => ?_)
  replace hw : Wd dC dI A [(h0, .inr (6, [.null, .null, .null, .null, .null, .null])), (q1, .inl (d 0, 96, .inl (fun _ => 0)))] s H locs := hw
  refine c_putF (pc := 8) (v := .ref q1) hnm cx hw 0 rfl (C := RX8) (T := TX8) (N := 6) rfl in_X8 tyX8 tyX8_ok nmX8 0 (by decide) q295 (fun _ h9 => h9) rfl rfl rfl rfl (Nat.le_of_ble_eq_true rfl) dX8_init_8 (fun H locs hw => ?_)
  replace hw : Wd dC dI A [(h0, .inr (6, [.ref q1, .null, .null, .null, .null, .null])), (q1, .inl (d 0, 96, .inl (fun _ => 0)))] s H locs := hw
  refine lv_aload_n (pc := 11) cx.1 cx.2.1 dX8_init_11 rfl (lv_at hl 0 rfl) ?_
  refine lv_iload_n (pc := 12) cx.1 cx.2.1 dX8_init_12 rfl (lv_at hl 1 rfl) ?_
  refine c_newa (pc := 13) (a0 := (96, .inl (fun _ => 0))) cx hw (atype := .int) (ty := .int) rfl q188 0 rfl (fun _ h => h) (fun _ => rfl) (by decide) (by decide) (by decide) ⟨Nat.le_of_ble_eq_true rfl, Nat.le_of_ble_eq_true rfl⟩ dX8_init_13 (fun q2 H hw => ?_)
  replace hw : Wd dC dI A [(h0, .inr (6, [.ref q1, .null, .null, .null, .null, .null])), (q1, .inl (d 0, 96, .inl (fun _ => 0))), (q2, .inl (d 0, 96, .inl (fun _ => 0)))] s H locs := hw
  refine c_putF (pc := 15) (v := .ref q2) hnm cx hw 0 rfl (C := RX8) (T := TX8) (N := 6) rfl in_X8 tyX8 tyX8_ok nmX8 1 (by decide) q297 (fun _ h9 => h9) rfl rfl rfl rfl (Nat.le_of_ble_eq_true rfl) dX8_init_15 (fun H locs hw => ?_)
  replace hw : Wd dC dI A [(h0, .inr (6, [.ref q1, .ref q2, .null, .null, .null, .null])), (q1, .inl (d 0, 96, .inl (fun _ => 0))), (q2, .inl (d 0, 96, .inl (fun _ => 0)))] s H locs := hw
  refine lv_aload_n (pc := 18) cx.1 cx.2.1 dX8_init_18 rfl (lv_at hl 0 rfl) ?_
  refine lv_iload_n (pc := 19) cx.1 cx.2.1 dX8_init_19 rfl (lv_at hl 1 rfl) ?_
  refine c_newa (pc := 20) (a0 := (96, .inl (fun _ => 0))) cx hw (atype := .int) (ty := .int) rfl q188 0 rfl (fun _ h => h) (fun _ => rfl) (by decide) (by decide) (by decide) ⟨Nat.le_of_ble_eq_true rfl, Nat.le_of_ble_eq_true rfl⟩ dX8_init_20 (fun q3 H hw => ?_)
  replace hw : Wd dC dI A [(h0, .inr (6, [.ref q1, .ref q2, .null, .null, .null, .null])), (q1, .inl (d 0, 96, .inl (fun _ => 0))), (q2, .inl (d 0, 96, .inl (fun _ => 0))), (q3, .inl (d 0, 96, .inl (fun _ => 0)))] s H locs := hw
  refine c_putF (pc := 22) (v := .ref q3) hnm cx hw 0 rfl (C := RX8) (T := TX8) (N := 6) rfl in_X8 tyX8 tyX8_ok nmX8 2 (by decide) q299 (fun _ h9 => h9) rfl rfl rfl rfl (Nat.le_of_ble_eq_true rfl) dX8_init_22 (fun H locs hw => ?_)
  replace hw : Wd dC dI A [(h0, .inr (6, [.ref q1, .ref q2, .ref q3, .null, .null, .null])), (q1, .inl (d 0, 96, .inl (fun _ => 0))), (q2, .inl (d 0, 96, .inl (fun _ => 0))), (q3, .inl (d 0, 96, .inl (fun _ => 0)))] s H locs := hw
  refine lv_aload_n (pc := 25) cx.1 cx.2.1 dX8_init_25 rfl (lv_at hl 0 rfl) ?_
  refine lv_iload_n (pc := 26) cx.1 cx.2.1 dX8_init_26 rfl (lv_at hl 1 rfl) ?_
  refine c_newa (pc := 27) (a0 := (96, .inl (fun _ => 0))) cx hw (atype := .int) (ty := .int) rfl q188 0 rfl (fun _ h => h) (fun _ => rfl) (by decide) (by decide) (by decide) ⟨Nat.le_of_ble_eq_true rfl, Nat.le_of_ble_eq_true rfl⟩ dX8_init_27 (fun q4 H hw => ?_)
  replace hw : Wd dC dI A [(h0, .inr (6, [.ref q1, .ref q2, .ref q3, .null, .null, .null])), (q1, .inl (d 0, 96, .inl (fun _ => 0))), (q2, .inl (d 0, 96, .inl (fun _ => 0))), (q3, .inl (d 0, 96, .inl (fun _ => 0))), (q4, .inl (d 0, 96, .inl (fun _ => 0)))] s H locs := hw
  refine c_putF (pc := 29) (v := .ref q4) hnm cx hw 0 rfl (C := RX8) (T := TX8) (N := 6) rfl in_X8 tyX8 tyX8_ok nmX8 3 (by decide) q302 (fun _ h9 => h9) rfl rfl rfl rfl (Nat.le_of_ble_eq_true rfl) dX8_init_29 (fun H locs hw => ?_)
  replace hw : Wd dC dI A [(h0, .inr (6, [.ref q1, .ref q2, .ref q3, .ref q4, .null, .null])), (q1, .inl (d 0, 96, .inl (fun _ => 0))), (q2, .inl (d 0, 96, .inl (fun _ => 0))), (q3, .inl (d 0, 96, .inl (fun _ => 0))), (q4, .inl (d 0, 96, .inl (fun _ => 0)))] s H locs := hw
  refine lv_aload_n (pc := 32) cx.1 cx.2.1 dX8_init_32 rfl (lv_at hl 0 rfl) ?_
  refine lv_iload_n (pc := 33) cx.1 cx.2.1 dX8_init_33 rfl (lv_at hl 1 rfl) ?_
  refine c_newa (pc := 34) (a0 := (96, .inl (fun _ => 0))) cx hw (atype := .short) (ty := .short) rfl q325 1 rfl (fun _ h => h) (fun _ => rfl) (by decide) (by decide) (by decide) ⟨Nat.le_of_ble_eq_true rfl, Nat.le_of_ble_eq_true rfl⟩ dX8_init_34 (fun q5 H hw => ?_)
  replace hw : Wd dC dI A [(h0, .inr (6, [.ref q1, .ref q2, .ref q3, .ref q4, .null, .null])), (q1, .inl (d 0, 96, .inl (fun _ => 0))), (q2, .inl (d 0, 96, .inl (fun _ => 0))), (q3, .inl (d 0, 96, .inl (fun _ => 0))), (q4, .inl (d 0, 96, .inl (fun _ => 0))), (q5, .inl (d 1, 96, .inl (fun _ => 0)))] s H locs := hw
  refine c_putF (pc := 36) (v := .ref q5) hnm cx hw 0 rfl (C := RX8) (T := TX8) (N := 6) rfl in_X8 tyX8 tyX8_ok nmX8 4 (by decide) q305 (fun _ h9 => h9) rfl rfl rfl rfl (Nat.le_of_ble_eq_true rfl) dX8_init_36 (fun H locs hw => ?_)
  replace hw : Wd dC dI A [(h0, .inr (6, [.ref q1, .ref q2, .ref q3, .ref q4, .ref q5, .null])), (q1, .inl (d 0, 96, .inl (fun _ => 0))), (q2, .inl (d 0, 96, .inl (fun _ => 0))), (q3, .inl (d 0, 96, .inl (fun _ => 0))), (q4, .inl (d 0, 96, .inl (fun _ => 0))), (q5, .inl (d 1, 96, .inl (fun _ => 0)))] s H locs := hw
  refine lv_aload_n (pc := 39) cx.1 cx.2.1 dX8_init_39 rfl (lv_at hl 0 rfl) ?_
  refine lv_iload_n (pc := 40) cx.1 cx.2.1 dX8_init_40 rfl (lv_at hl 1 rfl) ?_
  refine c_newa (pc := 41) (a0 := (96, .inr (.inl (fun _ => 0)))) cx hw (atype := .long) (ty := .long) rfl q326 2 rfl (fun _ h => h) (fun _ => rfl) (by decide) (by decide) (by decide) ⟨Nat.le_of_ble_eq_true rfl, Nat.le_of_ble_eq_true rfl⟩ dX8_init_41 (fun q6 H hw => ?_)
  replace hw : Wd dC dI A [(h0, .inr (6, [.ref q1, .ref q2, .ref q3, .ref q4, .ref q5, .null])), (q1, .inl (d 0, 96, .inl (fun _ => 0))), (q2, .inl (d 0, 96, .inl (fun _ => 0))), (q3, .inl (d 0, 96, .inl (fun _ => 0))), (q4, .inl (d 0, 96, .inl (fun _ => 0))), (q5, .inl (d 1, 96, .inl (fun _ => 0))), (q6, .inl (d 2, 96, .inr (.inl (fun _ => 0))))] s H locs := hw
  refine c_putF (pc := 43) (v := .ref q6) hnm cx hw 0 rfl (C := RX8) (T := TX8) (N := 6) rfl in_X8 tyX8 tyX8_ok nmX8 5 (by decide) q309 (fun _ h9 => h9) rfl rfl rfl rfl (Nat.le_of_ble_eq_true rfl) dX8_init_43 (fun H locs hw => ?_)
  replace hw : Wd dC dI A [(h0, .inr (6, [.ref q1, .ref q2, .ref q3, .ref q4, .ref q5, .ref q6])), (q1, .inl (d 0, 96, .inl (fun _ => 0))), (q2, .inl (d 0, 96, .inl (fun _ => 0))), (q3, .inl (d 0, 96, .inl (fun _ => 0))), (q4, .inl (d 0, 96, .inl (fun _ => 0))), (q5, .inl (d 1, 96, .inl (fun _ => 0))), (q6, .inl (d 2, 96, .inr (.inl (fun _ => 0))))] s H locs := hw
  exact k_vret (pc := 46) (wf := (fun h : Nat → Nat => wSp d h z0)) (K := (fun h => h 0 = h0)) (u := (fun j => [h0, q1, q2, q3, q4, q5, q6].getD j 0)) cx (hw.sub [0, 1, 2, 3, 4, 5, 6] rfl rfl) rfl (Nat.le_of_ble_eq_true rfl) (Nat.le_of_ble_eq_true rfl) dX8_init_46
set_option maxHeartbeats 4000000 in
theorem m_X4_init (l : Launch) (dC : Nat → ClassId) (dI : Nat → Nat → Nat) (d : Nat → ClassId) (h0 : Nat) : kM l yX4_init cX4_init 1 none ({ frames := 1, cells := 1, slots := 2560, locals := 20 } : Room) dC dI d [.ref h0] (fun _ : Unit => [(h0, .inr (3, [.null, .int 0, .int 0, .int 0, .int 0, .int 0, .long 0]))]) () (kQv dC dI (fun h : Nat → Nat => wPk d h z0) (fun h => h 0 = h0)) 1 2560 := by
  refine kM_start rfl (Nat.le_of_ble_eq_true rfl) ?_
  intro p e s m below meth c A ls cx hnm hw hl
  generalize hargs : ([.ref h0] : List Value).toArray = args at cx ⊢
  replace hl : lv_has ls 1 [(0, .ref h0)] := hl
  replace hw : Wd dC dI A [(h0, .inr (3, [.null, .int 0, .int 0, .int 0, .int 0, .int 0, .long 0]))] s s.heap [] := hw
  generalize hH : s.heap = H at hw ⊢
  generalize hlo : ([] : List Loc) = locs at hw ⊢
  refine lv_aload_n (pc := 0) cx.1 cx.2.1 dX4_init_0 rfl (lv_at hl 0 rfl) ?_
  refine c_objInit (pc := 1) cx hl.1 q215 q103 q104 ⟨Nat.le_of_ble_eq_true rfl, Nat.le_of_ble_eq_true rfl⟩ dX4_init_1 ?_
  refine lv_aload_n (pc := 4) cx.1 cx.2.1 dX4_init_4 rfl (lv_at hl 0 rfl) ?_
  refine lv_sipush (pc := 5) (v := 2560) cx.1 cx.2.1 dX4_init_5 (by decide) ?_
  refine c_newa (pc := 8) (a0 := (2560, .inl (fun _ => 0))) cx hw (atype := .int) (ty := .int) rfl q188 0 rfl (fun _ h => h) (fun _ => rfl) (by decide) (by decide) (by decide) ⟨Nat.le_of_ble_eq_true rfl, Nat.le_of_ble_eq_true rfl⟩ dX4_init_8 (fun q1 H hw => ?_)
  replace hw : Wd dC dI A [(h0, .inr (3, [.null, .int 0, .int 0, .int 0, .int 0, .int 0, .long 0])), (q1, .inl (d 0, 2560, .inl (fun _ => 0)))] s H locs := hw
  refine c_putF (pc := 10) (v := .ref q1) hnm cx hw 0 rfl (C := RX4) (T := TX4) (N := 7) rfl in_X4 tyX4 tyX4_ok nmX4 0 (by decide) q216 (fun _ h9 => h9) rfl rfl rfl rfl (Nat.le_of_ble_eq_true rfl) dX4_init_10 (fun H locs hw => ?_)
  replace hw : Wd dC dI A [(h0, .inr (3, [.ref q1, .int 0, .int 0, .int 0, .int 0, .int 0, .long 0])), (q1, .inl (d 0, 2560, .inl (fun _ => 0)))] s H locs := hw
  exact k_vret (pc := 13) (wf := (fun h : Nat → Nat => wPk d h z0)) (K := (fun h => h 0 = h0)) (u := (fun j => [h0, q1].getD j 0)) cx (hw.sub [0, 1] rfl rfl) rfl (Nat.le_of_ble_eq_true rfl) (Nat.le_of_ble_eq_true rfl) dX4_init_13
set_option maxHeartbeats 4000000 in
theorem m_X11_init (l : Launch) (dC : Nat → ClassId) (dI : Nat → Nat → Nat) (d : Nat → ClassId) (h0 : Nat) : kM l yX11_init cX11_init 1 none ({ frames := 1, cells := 2, slots := 256, locals := 20 } : Room) dC dI d [.ref h0] (fun _ : Unit => [(h0, .inr (9, [.null, .null, .int 0]))]) () (kQv dC dI (fun h : Nat → Nat => wHd d h z0) (fun h => h 0 = h0)) 2 256 := by
  refine kM_start rfl (Nat.le_of_ble_eq_true rfl) ?_
  intro p e s m below meth c A ls cx hnm hw hl
  generalize hargs : ([.ref h0] : List Value).toArray = args at cx ⊢
  replace hl : lv_has ls 1 [(0, .ref h0)] := hl
  replace hw : Wd dC dI A [(h0, .inr (9, [.null, .null, .int 0]))] s s.heap [] := hw
  generalize hH : s.heap = H at hw ⊢
  generalize hlo : ([] : List Loc) = locs at hw ⊢
  refine lv_aload_n (pc := 0) cx.1 cx.2.1 dX11_init_0 rfl (lv_at hl 0 rfl) ?_
  refine c_objInit (pc := 1) cx hl.1 q441 q103 q104 ⟨Nat.le_of_ble_eq_true rfl, Nat.le_of_ble_eq_true rfl⟩ dX11_init_1 ?_
  refine lv_aload_n (pc := 4) cx.1 cx.2.1 dX11_init_4 rfl (lv_at hl 0 rfl) ?_
  refine lv_sipush (pc := 5) (v := 128) cx.1 cx.2.1 dX11_init_5 (by decide) ?_
  refine c_newa (pc := 8) (a0 := (128, .inl (fun _ => 0))) cx hw (atype := .int) (ty := .int) rfl q188 0 rfl (fun _ h => h) (fun _ => rfl) (by decide) (by decide) (by decide) ⟨Nat.le_of_ble_eq_true rfl, Nat.le_of_ble_eq_true rfl⟩ dX11_init_8 (fun q1 H hw => ?_)
  replace hw : Wd dC dI A [(h0, .inr (9, [.null, .null, .int 0])), (q1, .inl (d 0, 128, .inl (fun _ => 0)))] s H locs := hw
  refine c_putF (pc := 10) (v := .ref q1) hnm cx hw 0 rfl (C := RX11) (T := TX11) (N := 3) rfl in_X11 tyX11 tyX11_ok nmX11 0 (by decide) q442 (fun _ h9 => h9) rfl rfl rfl rfl (Nat.le_of_ble_eq_true rfl) dX11_init_10 (fun H locs hw => ?_)
  replace hw : Wd dC dI A [(h0, .inr (9, [.ref q1, .null, .int 0])), (q1, .inl (d 0, 128, .inl (fun _ => 0)))] s H locs := hw
  refine lv_aload_n (pc := 13) cx.1 cx.2.1 dX11_init_13 rfl (lv_at hl 0 rfl) ?_
  refine lv_sipush (pc := 14) (v := 128) cx.1 cx.2.1 dX11_init_14 (by decide) ?_
  refine c_newa (pc := 17) (a0 := (128, .inl (fun _ => 0))) cx hw (atype := .int) (ty := .int) rfl q188 0 rfl (fun _ h => h) (fun _ => rfl) (by decide) (by decide) (by decide) ⟨Nat.le_of_ble_eq_true rfl, Nat.le_of_ble_eq_true rfl⟩ dX11_init_17 (fun q2 H hw => ?_)
  replace hw : Wd dC dI A [(h0, .inr (9, [.ref q1, .null, .int 0])), (q1, .inl (d 0, 128, .inl (fun _ => 0))), (q2, .inl (d 0, 128, .inl (fun _ => 0)))] s H locs := hw
  refine c_putF (pc := 19) (v := .ref q2) hnm cx hw 0 rfl (C := RX11) (T := TX11) (N := 3) rfl in_X11 tyX11 tyX11_ok nmX11 1 (by decide) q445 (fun _ h9 => h9) rfl rfl rfl rfl (Nat.le_of_ble_eq_true rfl) dX11_init_19 (fun H locs hw => ?_)
  replace hw : Wd dC dI A [(h0, .inr (9, [.ref q1, .ref q2, .int 0])), (q1, .inl (d 0, 128, .inl (fun _ => 0))), (q2, .inl (d 0, 128, .inl (fun _ => 0)))] s H locs := hw
  exact k_vret (pc := 22) (wf := (fun h : Nat → Nat => wHd d h z0)) (K := (fun h => h 0 = h0)) (u := (fun j => [h0, q1, q2].getD j 0)) cx (hw.sub [0, 1, 2] rfl rfl) rfl (Nat.le_of_ble_eq_true rfl) (Nat.le_of_ble_eq_true rfl) dX11_init_22
set_option maxHeartbeats 4000000 in
theorem m_X5_init (l : Launch) (dC : Nat → ClassId) (dI : Nat → Nat → Nat) (d : Nat → ClassId) (h0 : Nat) : kM l yX5_init cX5_init 1 none ({ frames := 1, cells := 0, slots := 0, locals := 20 } : Room) dC dI d [.ref h0] (fun _ : Unit => []) () (kQv dC dI (fun _ : Unit => ([] : va_W)) (fun _ : Unit => True)) 0 0 := by
  refine kM_start rfl (Nat.le_of_ble_eq_true rfl) ?_
  intro p e s m below meth c A ls cx hnm hw hl
  generalize hargs : ([.ref h0] : List Value).toArray = args at cx ⊢
  replace hl : lv_has ls 1 [(0, .ref h0)] := hl
  replace hw : Wd dC dI A [] s s.heap [] := hw
  generalize hH : s.heap = H at hw ⊢
  generalize hlo : ([] : List Loc) = locs at hw ⊢
  refine lv_aload_n (pc := 0) cx.1 cx.2.1 dX5_init_0 rfl (lv_at hl 0 rfl) ?_
  refine c_objInit (pc := 1) cx hl.1 q248 q103 q104 ⟨Nat.le_of_ble_eq_true rfl, Nat.le_of_ble_eq_true rfl⟩ dX5_init_1 ?_
  exact k_vret (pc := 4) (wf := (fun _ : Unit => ([] : va_W))) (K := (fun _ : Unit => True)) (u := ()) cx (hw.sub [] rfl rfl) trivial (Nat.le_of_ble_eq_true rfl) (Nat.le_of_ble_eq_true rfl) dX5_init_4
set_option maxHeartbeats 4000000 in
theorem m_X6_init (l : Launch) (dC : Nat → ClassId) (dI : Nat → Nat → Nat) (d : Nat → ClassId) (h0 g : Nat) : kM l yX6_init cX6_init 2 none ({ frames := 2, cells := 0, slots := 0, locals := 60 } : Room) dC dI d [.ref h0, .ref g] (fun _ : Unit => [(h0, .inr (4, [.int 0, .int 0, .null, .int 0, .int 0, .int 0, .long 0]))]) () (kQv dC dI (fun h : Nat → Nat => wUn d h g z0) (fun h => h 0 = h0)) 0 0 := by
  refine kM_start rfl (Nat.le_of_ble_eq_true rfl) ?_
  intro p e s m below meth c A ls cx hnm hw hl
  generalize hargs : ([.ref h0, .ref g] : List Value).toArray = args at cx ⊢
  replace hl : lv_has ls 2 [(0, .ref h0), (1, .ref g)] := hl
  replace hw : Wd dC dI A [(h0, .inr (4, [.int 0, .int 0, .null, .int 0, .int 0, .int 0, .long 0]))] s s.heap [] := hw
  generalize hH : s.heap = H at hw ⊢
  generalize hlo : ([] : List Loc) = locs at hw ⊢
  refine lv_aload_n (pc := 0) cx.1 cx.2.1 dX6_init_0 rfl (lv_at hl 0 rfl) ?_
  have hpt := k_part (w := []) (is := []) hw rfl rfl
  refine c_call (pc := 1) (wc := []) (wr := [(h0, .inr (4, [.int 0, .int 0, .null, .int 0, .int 0, .int 0, .long 0]))]) cx hw [] [0] rfl rfl rfl (by decide) (k_runIN (pc := 1) (rest := []) (As := []) cx hpt.1 hpt.2 hw.2.2 (m_X5_init l dC dI d h0 H.size) ⟨va_cnB 0 cx.2.2.2.2.1 (lw_meth q247) rfl rfl rfl (nq245 cx.2.2.2.2.2.1) (cx.2.2.2.2.1 _ q81) hdI_X5_init ⟨Nat.le_of_ble_eq_true rfl, Nat.le_of_ble_eq_true rfl⟩, rfl, cx.2.2.2.2.1 _ q246⟩ rfl hl.1 rfl (Nat.le_of_ble_eq_true rfl) dX6_init_1 ⟨Nat.le_of_ble_eq_true rfl, Nat.le_of_ble_eq_true rfl⟩) (fun u1 H locs hk hw9 => ?_)
  clear hw hpt
  have hw : Wd dC dI A [(h0, .inr (4, [.int 0, .int 0, .null, .int 0, .int 0, .int 0, .long 0]))] s H locs := hw9
  clear hw9
  refine lv_aload_n (pc := 4) cx.1 cx.2.1 dX6_init_4 rfl (lv_at hl 0 rfl) ?_
  refine lv_aload_n (pc := 5) cx.1 cx.2.1 dX6_init_5 rfl (lv_at hl 1 rfl) ?_
  refine c_putF (pc := 6) (v := .ref g) hnm cx hw 0 rfl (C := RX6) (T := TX6) (N := 7) rfl in_X6 tyX6 tyX6_ok nmX6 2 (by decide) q249 (fun _ h9 => h9) rfl rfl rfl rfl (Nat.le_of_ble_eq_true rfl) dX6_init_6 (fun H locs hw => ?_)
  replace hw : Wd dC dI A [(h0, .inr (4, [.int 0, .int 0, .ref g, .int 0, .int 0, .int 0, .long 0]))] s H locs := hw
  exact k_vret (pc := 9) (wf := (fun h : Nat → Nat => wUn d h g z0)) (K := (fun h => h 0 = h0)) (u := (fun j => [h0].getD j 0)) cx (hw.sub [0] rfl rfl) rfl (Nat.le_of_ble_eq_true rfl) (Nat.le_of_ble_eq_true rfl) dX6_init_9
set_option maxHeartbeats 4000000 in
theorem m_X10_init (l : Launch) (dC : Nat → ClassId) (dI : Nat → Nat → Nat) (d : Nat → ClassId) (h0 g : Nat) : kM l yX10_init cX10_init 2 none ({ frames := 1, cells := 0, slots := 0, locals := 20 } : Room) dC dI d [.ref h0, .ref g] (fun _ : Unit => [(h0, .inr (8, [.int 0, .int 0, .int 0, .long 0, .null]))]) () (kQv dC dI (fun h : Nat → Nat => wTo d h g z0) (fun h => h 0 = h0)) 0 0 := by
  refine kM_start rfl (Nat.le_of_ble_eq_true rfl) ?_
  intro p e s m below meth c A ls cx hnm hw hl
  generalize hargs : ([.ref h0, .ref g] : List Value).toArray = args at cx ⊢
  replace hl : lv_has ls 2 [(0, .ref h0), (1, .ref g)] := hl
  replace hw : Wd dC dI A [(h0, .inr (8, [.int 0, .int 0, .int 0, .long 0, .null]))] s s.heap [] := hw
  generalize hH : s.heap = H at hw ⊢
  generalize hlo : ([] : List Loc) = locs at hw ⊢
  refine lv_aload_n (pc := 0) cx.1 cx.2.1 dX10_init_0 rfl (lv_at hl 0 rfl) ?_
  refine lv_aload_n (pc := 1) cx.1 cx.2.1 dX10_init_1 rfl (lv_at hl 1 rfl) ?_
  refine c_putF (pc := 2) (v := .ref g) hnm cx hw 0 rfl (C := RX10) (T := TX10) (N := 5) rfl in_X10 tyX10 tyX10_ok nmX10 4 (by decide) q417 (fun _ h9 => h9) rfl rfl rfl rfl (Nat.le_of_ble_eq_true rfl) dX10_init_2 (fun H locs hw => ?_)
  replace hw : Wd dC dI A [(h0, .inr (8, [.int 0, .int 0, .int 0, .long 0, .ref g]))] s H locs := hw
  refine lv_aload_n (pc := 5) cx.1 cx.2.1 dX10_init_5 rfl (lv_at hl 0 rfl) ?_
  refine c_objInit (pc := 6) cx hl.1 q408 q103 q104 ⟨Nat.le_of_ble_eq_true rfl, Nat.le_of_ble_eq_true rfl⟩ dX10_init_6 ?_
  exact k_vret (pc := 9) (wf := (fun h : Nat → Nat => wTo d h g z0)) (K := (fun h => h 0 = h0)) (u := (fun j => [h0].getD j 0)) cx (hw.sub [0] rfl rfl) rfl (Nat.le_of_ble_eq_true rfl) (Nat.le_of_ble_eq_true rfl) dX10_init_9
set_option maxHeartbeats 4000000 in
theorem m_X7_init (l : Launch) (dC : Nat → ClassId) (dI : Nat → Nat → Nat) (d : Nat → ClassId) (h0 : Nat) : kM l yX7_init cX7_init 1 none ({ frames := 2, cells := 12, slots := 1041, locals := 60 } : Room) dC dI d [.ref h0] (fun _ : Unit => [(h0, .inr (5, [.null, .null, .null, .null, .null, .int 0, .null]))]) () (kQv dC dI (fun h : (Nat → Nat) × (Nat → Nat) => wf_X7 d h.1 h.2 (z0, z0)) (fun h : (Nat → Nat) × (Nat → Nat) => h.1 0 = h0)) 12 1041 := by
  refine kM_start rfl (Nat.le_of_ble_eq_true rfl) ?_
  intro p e s m below meth c A ls cx hnm hw hl
  generalize hargs : ([.ref h0] : List Value).toArray = args at cx ⊢
  replace hl : lv_has ls 1 [(0, .ref h0)] := hl
  replace hw : Wd dC dI A [(h0, .inr (5, [.null, .null, .null, .null, .null, .int 0, .null]))] s s.heap [] := hw
  generalize hH : s.heap = H at hw ⊢
  generalize hlo : ([] : List Loc) = locs at hw ⊢
  refine lv_aload_n (pc := 0) cx.1 cx.2.1 dX7_init_0 rfl (lv_at hl 0 rfl) ?_
  refine c_objInit (pc := 1) cx hl.1 q288 q103 q104 ⟨Nat.le_of_ble_eq_true rfl, Nat.le_of_ble_eq_true rfl⟩ dX7_init_1 ?_
  refine lv_aload_n (pc := 4) cx.1 cx.2.1 dX7_init_4 rfl (lv_at hl 0 rfl) ?_
  refine c_new (pc := 5) (fs := [.null, .null, .null, .null, .null, .null]) cx hw (C := RX8) (T := TX8) (N := 6) (ci := 6) rfl in_X8 tyX8 tyX8_ok q289 q290 q84 (by decide) ⟨Nat.le_of_ble_eq_true rfl, Nat.le_of_ble_eq_true rfl⟩ dX7_init_5 (fun q1 H hw => ?_)
  replace hw : Wd dC dI A [(h0, .inr (5, [.null, .null, .null, .null, .null, .int 0, .null])), (q1, .inr (6, [.null, .null, .null, .null, .null, .null]))] s H locs := hw
  refine lv_dup (pc := 8) cx.1 cx.2.1 dX7_init_8 rfl ?_
  refine lv_bipush (pc := 9) (v := 96) cx.1 cx.2.1 dX7_init_9 (by decide) ?_
  have hpt := k_part (w := [(q1, .inr (6, [.null, .null, .null, .null, .null, .null]))]) (is := [1]) hw rfl rfl
  refine c_call (pc := 11) (wc := [(q1, .inr (6, [.null, .null, .null, .null, .null, .null]))]) (wr := [(h0, .inr (5, [.null, .null, .null, .null, .null, .int 0, .null]))]) cx hw [1] [0] rfl rfl rfl (by decide) (k_runI (pc := 11) (rest := [.ref q1, .ref h0]) (As := [.int (96 : Int32)]) cx hpt.1 hpt.2 hw.2.2 (m_X8_init l dC dI d q1 H.size) (cwI 1 cx.2.2.2.2.1 (lw_meth q293) rfl rfl rfl (cx.2.2.2.2.1 _ q84) (cx.2.2.2.2.1 _ q291) (cx.2.2.2.2.1 _ q292) rfl hdI_X8_init ⟨Nat.le_of_ble_eq_true rfl, Nat.le_of_ble_eq_true rfl⟩) rfl hl.1 rfl (Nat.le_of_ble_eq_true rfl) dX7_init_11 ⟨Nat.le_of_ble_eq_true rfl, Nat.le_of_ble_eq_true rfl⟩) (fun u2 H locs hk hw9 => ?_)
  clear hw hpt
  subst hk
  have hw : Wd dC dI A [(h0, .inr (5, [.null, .null, .null, .null, .null, .int 0, .null])), ((u2 0), .inr (6, [.ref (u2 1), .ref (u2 2), .ref (u2 3), .ref (u2 4), .ref (u2 5), .ref (u2 6)])), ((u2 1), .inl (d 0, 96, .inl (fun _ => 0))), ((u2 2), .inl (d 0, 96, .inl (fun _ => 0))), ((u2 3), .inl (d 0, 96, .inl (fun _ => 0))), ((u2 4), .inl (d 0, 96, .inl (fun _ => 0))), ((u2 5), .inl (d 1, 96, .inl (fun _ => 0))), ((u2 6), .inl (d 2, 96, .inr (.inl (fun _ => 0))))] s H locs := hw9
  clear hw9
  refine c_putF (pc := 14) (v := .ref (u2 0)) hnm cx hw 0 rfl (C := RX7) (T := TX7) (N := 7) rfl in_X7 tyX7 tyX7_ok nmX7 0 (by decide) q327 (fun _ h9 => h9) rfl rfl rfl rfl (Nat.le_of_ble_eq_true rfl) dX7_init_14 (fun H locs hw => ?_)
  replace hw : Wd dC dI A [(h0, .inr (5, [.ref (u2 0), .null, .null, .null, .null, .int 0, .null])), ((u2 0), .inr (6, [.ref (u2 1), .ref (u2 2), .ref (u2 3), .ref (u2 4), .ref (u2 5), .ref (u2 6)])), ((u2 1), .inl (d 0, 96, .inl (fun _ => 0))), ((u2 2), .inl (d 0, 96, .inl (fun _ => 0))), ((u2 3), .inl (d 0, 96, .inl (fun _ => 0))), ((u2 4), .inl (d 0, 96, .inl (fun _ => 0))), ((u2 5), .inl (d 1, 96, .inl (fun _ => 0))), ((u2 6), .inl (d 2, 96, .inr (.inl (fun _ => 0))))] s H locs := hw
  refine lv_aload_n (pc := 17) cx.1 cx.2.1 dX7_init_17 rfl (lv_at hl 0 rfl) ?_
  refine lv_bipush (pc := 18) (v := 96) cx.1 cx.2.1 dX7_init_18 (by decide) ?_
  refine c_newa (pc := 20) (a0 := (96, .inl (fun _ => 0))) cx hw (atype := .byte) (ty := .byte) rfl q359 3 rfl (fun _ h => h) (fun _ => rfl) (by decide) (by decide) (by decide) ⟨Nat.le_of_ble_eq_true rfl, Nat.le_of_ble_eq_true rfl⟩ dX7_init_20 (fun q3 H hw => ?_)
  replace hw : Wd dC dI A [(h0, .inr (5, [.ref (u2 0), .null, .null, .null, .null, .int 0, .null])), ((u2 0), .inr (6, [.ref (u2 1), .ref (u2 2), .ref (u2 3), .ref (u2 4), .ref (u2 5), .ref (u2 6)])), ((u2 1), .inl (d 0, 96, .inl (fun _ => 0))), ((u2 2), .inl (d 0, 96, .inl (fun _ => 0))), ((u2 3), .inl (d 0, 96, .inl (fun _ => 0))), ((u2 4), .inl (d 0, 96, .inl (fun _ => 0))), ((u2 5), .inl (d 1, 96, .inl (fun _ => 0))), ((u2 6), .inl (d 2, 96, .inr (.inl (fun _ => 0)))), (q3, .inl (d 3, 96, .inl (fun _ => 0)))] s H locs := hw
  refine c_putF (pc := 22) (v := .ref q3) hnm cx hw 0 rfl (C := RX7) (T := TX7) (N := 7) rfl in_X7 tyX7 tyX7_ok nmX7 1 (by decide) q330 (fun _ h9 => h9) rfl rfl rfl rfl (Nat.le_of_ble_eq_true rfl) dX7_init_22 (fun H locs hw => ?_)
  replace hw : Wd dC dI A [(h0, .inr (5, [.ref (u2 0), .ref q3, .null, .null, .null, .int 0, .null])), ((u2 0), .inr (6, [.ref (u2 1), .ref (u2 2), .ref (u2 3), .ref (u2 4), .ref (u2 5), .ref (u2 6)])), ((u2 1), .inl (d 0, 96, .inl (fun _ => 0))), ((u2 2), .inl (d 0, 96, .inl (fun _ => 0))), ((u2 3), .inl (d 0, 96, .inl (fun _ => 0))), ((u2 4), .inl (d 0, 96, .inl (fun _ => 0))), ((u2 5), .inl (d 1, 96, .inl (fun _ => 0))), ((u2 6), .inl (d 2, 96, .inr (.inl (fun _ => 0)))), (q3, .inl (d 3, 96, .inl (fun _ => 0)))] s H locs := hw
  refine lv_aload_n (pc := 25) cx.1 cx.2.1 dX7_init_25 rfl (lv_at hl 0 rfl) ?_
  refine lv_bipush (pc := 26) (v := 96) cx.1 cx.2.1 dX7_init_26 (by decide) ?_
  refine c_newa (pc := 28) (a0 := (96, .inl (fun _ => 0))) cx hw (atype := .char) (ty := .char) rfl q360 4 rfl (fun _ h => h) (fun _ => rfl) (by decide) (by decide) (by decide) ⟨Nat.le_of_ble_eq_true rfl, Nat.le_of_ble_eq_true rfl⟩ dX7_init_28 (fun q4 H hw => ?_)
  replace hw : Wd dC dI A [(h0, .inr (5, [.ref (u2 0), .ref q3, .null, .null, .null, .int 0, .null])), ((u2 0), .inr (6, [.ref (u2 1), .ref (u2 2), .ref (u2 3), .ref (u2 4), .ref (u2 5), .ref (u2 6)])), ((u2 1), .inl (d 0, 96, .inl (fun _ => 0))), ((u2 2), .inl (d 0, 96, .inl (fun _ => 0))), ((u2 3), .inl (d 0, 96, .inl (fun _ => 0))), ((u2 4), .inl (d 0, 96, .inl (fun _ => 0))), ((u2 5), .inl (d 1, 96, .inl (fun _ => 0))), ((u2 6), .inl (d 2, 96, .inr (.inl (fun _ => 0)))), (q3, .inl (d 3, 96, .inl (fun _ => 0))), (q4, .inl (d 4, 96, .inl (fun _ => 0)))] s H locs := hw
  refine c_putF (pc := 30) (v := .ref q4) hnm cx hw 0 rfl (C := RX7) (T := TX7) (N := 7) rfl in_X7 tyX7 tyX7_ok nmX7 2 (by decide) q332 (fun _ h9 => h9) rfl rfl rfl rfl (Nat.le_of_ble_eq_true rfl) dX7_init_30 (fun H locs hw => ?_)
  replace hw : Wd dC dI A [(h0, .inr (5, [.ref (u2 0), .ref q3, .ref q4, .null, .null, .int 0, .null])), ((u2 0), .inr (6, [.ref (u2 1), .ref (u2 2), .ref (u2 3), .ref (u2 4), .ref (u2 5), .ref (u2 6)])), ((u2 1), .inl (d 0, 96, .inl (fun _ => 0))), ((u2 2), .inl (d 0, 96, .inl (fun _ => 0))), ((u2 3), .inl (d 0, 96, .inl (fun _ => 0))), ((u2 4), .inl (d 0, 96, .inl (fun _ => 0))), ((u2 5), .inl (d 1, 96, .inl (fun _ => 0))), ((u2 6), .inl (d 2, 96, .inr (.inl (fun _ => 0)))), (q3, .inl (d 3, 96, .inl (fun _ => 0))), (q4, .inl (d 4, 96, .inl (fun _ => 0)))] s H locs := hw
  refine lv_aload_n (pc := 33) cx.1 cx.2.1 dX7_init_33 rfl (lv_at hl 0 rfl) ?_
  refine lv_bipush (pc := 34) (v := 96) cx.1 cx.2.1 dX7_init_34 (by decide) ?_
  refine c_newa (pc := 36) (a0 := (96, .inl (fun _ => 0))) cx hw (atype := .short) (ty := .short) rfl q325 1 rfl (fun _ h => h) (fun _ => rfl) (by decide) (by decide) (by decide) ⟨Nat.le_of_ble_eq_true rfl, Nat.le_of_ble_eq_true rfl⟩ dX7_init_36 (fun q5 H hw => ?_)
  replace hw : Wd dC dI A [(h0, .inr (5, [.ref (u2 0), .ref q3, .ref q4, .null, .null, .int 0, .null])), ((u2 0), .inr (6, [.ref (u2 1), .ref (u2 2), .ref (u2 3), .ref (u2 4), .ref (u2 5), .ref (u2 6)])), ((u2 1), .inl (d 0, 96, .inl (fun _ => 0))), ((u2 2), .inl (d 0, 96, .inl (fun _ => 0))), ((u2 3), .inl (d 0, 96, .inl (fun _ => 0))), ((u2 4), .inl (d 0, 96, .inl (fun _ => 0))), ((u2 5), .inl (d 1, 96, .inl (fun _ => 0))), ((u2 6), .inl (d 2, 96, .inr (.inl (fun _ => 0)))), (q3, .inl (d 3, 96, .inl (fun _ => 0))), (q4, .inl (d 4, 96, .inl (fun _ => 0))), (q5, .inl (d 1, 96, .inl (fun _ => 0)))] s H locs := hw
  refine c_putF (pc := 38) (v := .ref q5) hnm cx hw 0 rfl (C := RX7) (T := TX7) (N := 7) rfl in_X7 tyX7 tyX7_ok nmX7 3 (by decide) q335 (fun _ h9 => h9) rfl rfl rfl rfl (Nat.le_of_ble_eq_true rfl) dX7_init_38 (fun H locs hw => ?_)
  replace hw : Wd dC dI A [(h0, .inr (5, [.ref (u2 0), .ref q3, .ref q4, .ref q5, .null, .int 0, .null])), ((u2 0), .inr (6, [.ref (u2 1), .ref (u2 2), .ref (u2 3), .ref (u2 4), .ref (u2 5), .ref (u2 6)])), ((u2 1), .inl (d 0, 96, .inl (fun _ => 0))), ((u2 2), .inl (d 0, 96, .inl (fun _ => 0))), ((u2 3), .inl (d 0, 96, .inl (fun _ => 0))), ((u2 4), .inl (d 0, 96, .inl (fun _ => 0))), ((u2 5), .inl (d 1, 96, .inl (fun _ => 0))), ((u2 6), .inl (d 2, 96, .inr (.inl (fun _ => 0)))), (q3, .inl (d 3, 96, .inl (fun _ => 0))), (q4, .inl (d 4, 96, .inl (fun _ => 0))), (q5, .inl (d 1, 96, .inl (fun _ => 0)))] s H locs := hw
  refine lv_aload_n (pc := 41) cx.1 cx.2.1 dX7_init_41 rfl (lv_at hl 0 rfl) ?_
  refine lv_bipush (pc := 42) (v := 96) cx.1 cx.2.1 dX7_init_42 (by decide) ?_
  refine c_newa (pc := 44) (a0 := (96, .inl (fun _ => 0))) cx hw (atype := .int) (ty := .int) rfl q188 0 rfl (fun _ h => h) (fun _ => rfl) (by decide) (by decide) (by decide) ⟨Nat.le_of_ble_eq_true rfl, Nat.le_of_ble_eq_true rfl⟩ dX7_init_44 (fun q6 H hw => ?_)
  replace hw : Wd dC dI A [(h0, .inr (5, [.ref (u2 0), .ref q3, .ref q4, .ref q5, .null, .int 0, .null])), ((u2 0), .inr (6, [.ref (u2 1), .ref (u2 2), .ref (u2 3), .ref (u2 4), .ref (u2 5), .ref (u2 6)])), ((u2 1), .inl (d 0, 96, .inl (fun _ => 0))), ((u2 2), .inl (d 0, 96, .inl (fun _ => 0))), ((u2 3), .inl (d 0, 96, .inl (fun _ => 0))), ((u2 4), .inl (d 0, 96, .inl (fun _ => 0))), ((u2 5), .inl (d 1, 96, .inl (fun _ => 0))), ((u2 6), .inl (d 2, 96, .inr (.inl (fun _ => 0)))), (q3, .inl (d 3, 96, .inl (fun _ => 0))), (q4, .inl (d 4, 96, .inl (fun _ => 0))), (q5, .inl (d 1, 96, .inl (fun _ => 0))), (q6, .inl (d 0, 96, .inl (fun _ => 0)))] s H locs := hw
  refine c_putF (pc := 46) (v := .ref q6) hnm cx hw 0 rfl (C := RX7) (T := TX7) (N := 7) rfl in_X7 tyX7 tyX7_ok nmX7 4 (by decide) q337 (fun _ h9 => h9) rfl rfl rfl rfl (Nat.le_of_ble_eq_true rfl) dX7_init_46 (fun H locs hw => ?_)
  replace hw : Wd dC dI A [(h0, .inr (5, [.ref (u2 0), .ref q3, .ref q4, .ref q5, .ref q6, .int 0, .null])), ((u2 0), .inr (6, [.ref (u2 1), .ref (u2 2), .ref (u2 3), .ref (u2 4), .ref (u2 5), .ref (u2 6)])), ((u2 1), .inl (d 0, 96, .inl (fun _ => 0))), ((u2 2), .inl (d 0, 96, .inl (fun _ => 0))), ((u2 3), .inl (d 0, 96, .inl (fun _ => 0))), ((u2 4), .inl (d 0, 96, .inl (fun _ => 0))), ((u2 5), .inl (d 1, 96, .inl (fun _ => 0))), ((u2 6), .inl (d 2, 96, .inr (.inl (fun _ => 0)))), (q3, .inl (d 3, 96, .inl (fun _ => 0))), (q4, .inl (d 4, 96, .inl (fun _ => 0))), (q5, .inl (d 1, 96, .inl (fun _ => 0))), (q6, .inl (d 0, 96, .inl (fun _ => 0)))] s H locs := hw
  refine lv_aload_n (pc := 49) cx.1 cx.2.1 dX7_init_49 rfl (lv_at hl 0 rfl) ?_
  refine lv_bipush (pc := 50) (v := 9) cx.1 cx.2.1 dX7_init_50 (by decide) ?_
  refine c_newa (pc := 52) (a0 := (9, .inl (fun _ => 0))) cx hw (atype := .int) (ty := .int) rfl q188 0 rfl (fun _ h => h) (fun _ => rfl) (by decide) (by decide) (by decide) ⟨Nat.le_of_ble_eq_true rfl, Nat.le_of_ble_eq_true rfl⟩ dX7_init_52 (fun q7 H hw => ?_)
  replace hw : Wd dC dI A [(h0, .inr (5, [.ref (u2 0), .ref q3, .ref q4, .ref q5, .ref q6, .int 0, .null])), ((u2 0), .inr (6, [.ref (u2 1), .ref (u2 2), .ref (u2 3), .ref (u2 4), .ref (u2 5), .ref (u2 6)])), ((u2 1), .inl (d 0, 96, .inl (fun _ => 0))), ((u2 2), .inl (d 0, 96, .inl (fun _ => 0))), ((u2 3), .inl (d 0, 96, .inl (fun _ => 0))), ((u2 4), .inl (d 0, 96, .inl (fun _ => 0))), ((u2 5), .inl (d 1, 96, .inl (fun _ => 0))), ((u2 6), .inl (d 2, 96, .inr (.inl (fun _ => 0)))), (q3, .inl (d 3, 96, .inl (fun _ => 0))), (q4, .inl (d 4, 96, .inl (fun _ => 0))), (q5, .inl (d 1, 96, .inl (fun _ => 0))), (q6, .inl (d 0, 96, .inl (fun _ => 0))), (q7, .inl (d 0, 9, .inl (fun _ => 0)))] s H locs := hw
  refine c_putF (pc := 54) (v := .ref q7) hnm cx hw 0 rfl (C := RX7) (T := TX7) (N := 7) rfl in_X7 tyX7 tyX7_ok nmX7 6 (by decide) q341 (fun _ h9 => h9) rfl rfl rfl rfl (Nat.le_of_ble_eq_true rfl) dX7_init_54 (fun H locs hw => ?_)
  replace hw : Wd dC dI A [(h0, .inr (5, [.ref (u2 0), .ref q3, .ref q4, .ref q5, .ref q6, .int 0, .ref q7])), ((u2 0), .inr (6, [.ref (u2 1), .ref (u2 2), .ref (u2 3), .ref (u2 4), .ref (u2 5), .ref (u2 6)])), ((u2 1), .inl (d 0, 96, .inl (fun _ => 0))), ((u2 2), .inl (d 0, 96, .inl (fun _ => 0))), ((u2 3), .inl (d 0, 96, .inl (fun _ => 0))), ((u2 4), .inl (d 0, 96, .inl (fun _ => 0))), ((u2 5), .inl (d 1, 96, .inl (fun _ => 0))), ((u2 6), .inl (d 2, 96, .inr (.inl (fun _ => 0)))), (q3, .inl (d 3, 96, .inl (fun _ => 0))), (q4, .inl (d 4, 96, .inl (fun _ => 0))), (q5, .inl (d 1, 96, .inl (fun _ => 0))), (q6, .inl (d 0, 96, .inl (fun _ => 0))), (q7, .inl (d 0, 9, .inl (fun _ => 0)))] s H locs := hw
  exact k_vret (pc := 57) (wf := (fun h : (Nat → Nat) × (Nat → Nat) => wf_X7 d h.1 h.2 (z0, z0))) (K := (fun h : (Nat → Nat) × (Nat → Nat) => h.1 0 = h0)) (u := ((fun j => [h0, q3, q4, q5, q6, q7].getD j 0), (fun j => [(u2 0), (u2 1), (u2 2), (u2 3), (u2 4), (u2 5), (u2 6)].getD j 0))) cx (hw.sub [0, 8, 9, 10, 11, 12, 1, 2, 3, 4, 5, 6, 7] rfl rfl) rfl (Nat.le_of_ble_eq_true rfl) (Nat.le_of_ble_eq_true rfl) dX7_init_57
set_option maxHeartbeats 4000000 in
theorem m_J0_init_2 (l : Launch) (dC : Nat → ClassId) (dI : Nat → Nat → Nat) (d : Nat → ClassId) (h0 : Nat) : kM l yJ0_init_2 cJ0_init_2 5 none ({ frames := 1, cells := 0, slots := 0, locals := 20 } : Room) dC dI d [.ref h0, .null, .null, .int (0 : Int32), .int (0 : Int32)] (fun _ : Unit => [(h0, .inr (2, [.null, .null, .null, .null, .null, .int 0]))]) () (kQv dC dI (fun cf : List Value => [(h0, .inr (2, cf))]) (fun _ : List Value => True)) 0 0 := by
  refine kM_start rfl (Nat.le_of_ble_eq_true rfl) ?_
  intro p e s m below meth c A ls cx hnm hw hl
  generalize hargs : ([.ref h0, .null, .null, .int (0 : Int32), .int (0 : Int32)] : List Value).toArray = args at cx ⊢
  replace hl : lv_has ls 5 [(0, .ref h0), (1, .null), (2, .null), (3, .int (0 : Int32)), (4, .int (0 : Int32))] := hl
  replace hw : Wd dC dI A [(h0, .inr (2, [.null, .null, .null, .null, .null, .int 0]))] s s.heap [] := hw
  generalize hH : s.heap = H at hw ⊢
  generalize hlo : ([] : List Loc) = locs at hw ⊢
  obtain ⟨u1, hz1⟩ := kS_Z (A := A) (args := args) cx.2.2.2.2.2.2.2.2.2.1 cx.2.2.2.2.2.2.2.2.2.2 (cx.2.2.2.2.1 _ q77) (n := "UNASSIGNED_STACK") (d := "[Ljava/lang/StackTraceElement;") (List.mem_of_getElem? (i := 0) rfl)
  obtain ⟨u2, hz2⟩ := kS_Z (A := A) (args := args) cx.2.2.2.2.2.2.2.2.2.1 cx.2.2.2.2.2.2.2.2.2.2 (cx.2.2.2.2.1 _ q77) (n := "SUPPRESSED_SENTINEL") (d := "Ljava/util/List;") (List.mem_of_getElem? (i := 1) rfl)
  skip
  refine lv_aload_n (pc := 0) cx.1 cx.2.1 dJ0_init_2_0 rfl (lv_at hl 0 rfl) ?_
  refine c_objInit (pc := 1) cx hl.1 q134 q103 q104 ⟨Nat.le_of_ble_eq_true rfl, Nat.le_of_ble_eq_true rfl⟩ dJ0_init_2_1 ?_
  refine lv_aload_n (pc := 4) cx.1 cx.2.1 dJ0_init_2_4 rfl (lv_at hl 0 rfl) ?_
  refine lv_aload_n (pc := 5) cx.1 cx.2.1 dJ0_init_2_5 rfl (lv_at hl 0 rfl) ?_
  refine c_put (pc := 6) (v := .ref h0) cx hw 0 rfl (C := RX3) (T := TX3) (N := 6) rfl in_X3 tyX3 tyX3_ok nmX3 0 (by decide) q177 (fun _ h9 => h9) rfl rfl rfl (Nat.le_of_ble_eq_true rfl) dJ0_init_2_6 (fun H locs hw => ?_)
  replace hw : Wd dC dI A [(h0, .inr (2, [.ref h0, .null, .null, .null, .null, .int 0]))] s H locs := hw
  refine lv_aload_n (pc := 9) cx.1 cx.2.1 dJ0_init_2_9 rfl (lv_at hl 0 rfl) ?_
  refine va_gets (pc := 10) cx.1 cx.2.1 hz1 hw.2.2 cx.2.2.2.1 (cx.2.2.2.2.1 _ q135) (fun _ h9 => h9) dJ0_init_2_10 ?_
  refine c_put (pc := 13) (v := u1.v) cx hw 0 rfl (C := RX3) (T := TX3) (N := 6) rfl in_X3 tyX3 tyX3_ok nmX3 1 (by decide) q178 (fun _ h9 => h9) rfl (narrow_refV _ u1) (fits_rA _ u1) (Nat.le_of_ble_eq_true rfl) dJ0_init_2_13 (fun H locs hw => ?_)
  replace hw : Wd dC dI A [(h0, .inr (2, [.ref h0, u1.v, .null, .null, .null, .int 0]))] s H locs := hw
  refine lv_aload_n (pc := 16) cx.1 cx.2.1 dJ0_init_2_16 rfl (lv_at hl 0 rfl) ?_
  refine va_gets (pc := 17) cx.1 cx.2.1 hz2 hw.2.2 cx.2.2.2.1 (cx.2.2.2.2.1 _ q137) (fun _ h9 => h9) dJ0_init_2_17 ?_
  refine c_put (pc := 20) (v := u2.v) cx hw 0 rfl (C := RX3) (T := TX3) (N := 6) rfl in_X3 tyX3 tyX3_ok nmX3 2 (by decide) q179 (fun _ h9 => h9) rfl (narrow_refV _ u2) (fits_rO _ u2) (Nat.le_of_ble_eq_true rfl) dJ0_init_2_20 (fun H locs hw => ?_)
  replace hw : Wd dC dI A [(h0, .inr (2, [.ref h0, u1.v, u2.v, .null, .null, .int 0]))] s H locs := hw
  refine lv_iload (pc := 23) cx.1 cx.2.1 dJ0_init_2_23 (lv_at hl 4 rfl) ?_
  refine lv_if_eq (pc := 25) (tgt := 36) cx.1 cx.2.1 dJ0_init_2_25 (by decide) (fun c9 => ?_) (fun c9 => ?_)
  case refine_2 => exact absurd (by decide) c9
  refine lv_aload_n (pc := 36) cx.1 cx.2.1 dJ0_init_2_36 rfl (lv_at hl 0 rfl) ?_
  refine lv_null (pc := 37) cx.1 cx.2.1 dJ0_init_2_37 ?_
  refine c_put (pc := 38) (v := .null) cx hw 0 rfl (C := RX3) (T := TX3) (N := 6) rfl in_X3 tyX3 tyX3_ok nmX3 1 (by decide) q178 (fun _ h9 => h9) rfl rfl rfl (Nat.le_of_ble_eq_true rfl) dJ0_init_2_38 (fun H locs hw => ?_)
  replace hw : Wd dC dI A [(h0, .inr (2, [.ref h0, .null, u2.v, .null, .null, .int 0]))] s H locs := hw
  refine lv_aload_n (pc := 41) cx.1 cx.2.1 dJ0_init_2_41 rfl (lv_at hl 0 rfl) ?_
  refine lv_aload_nN (pc := 42) cx.1 cx.2.1 dJ0_init_2_42 rfl (lv_at hl 1 rfl) ?_
  refine c_put (pc := 43) (v := .null) cx hw 0 rfl (C := RX3) (T := TX3) (N := 6) rfl in_X3 tyX3 tyX3_ok nmX3 3 (by decide) q176 (fun _ h9 => h9) rfl rfl rfl (Nat.le_of_ble_eq_true rfl) dJ0_init_2_43 (fun H locs hw => ?_)
  replace hw : Wd dC dI A [(h0, .inr (2, [.ref h0, .null, u2.v, .null, .null, .int 0]))] s H locs := hw
  refine lv_aload_n (pc := 46) cx.1 cx.2.1 dJ0_init_2_46 rfl (lv_at hl 0 rfl) ?_
  refine lv_aload_nN (pc := 47) cx.1 cx.2.1 dJ0_init_2_47 rfl (lv_at hl 2 rfl) ?_
  refine c_put (pc := 48) (v := .null) cx hw 0 rfl (C := RX3) (T := TX3) (N := 6) rfl in_X3 tyX3 tyX3_ok nmX3 0 (by decide) q177 (fun _ h9 => h9) rfl rfl rfl (Nat.le_of_ble_eq_true rfl) dJ0_init_2_48 (fun H locs hw => ?_)
  replace hw : Wd dC dI A [(h0, .inr (2, [.null, .null, u2.v, .null, .null, .int 0]))] s H locs := hw
  refine lv_iload_n (pc := 51) cx.1 cx.2.1 dJ0_init_2_51 rfl (lv_at hl 3 rfl) ?_
  refine lv_if_ne (pc := 52) (tgt := 60) cx.1 cx.2.1 dJ0_init_2_52 (by decide) (fun c9 => ?_) (fun c9 => ?_)
  case refine_1 => exact absurd c9 (by decide)
  refine lv_aload_n (pc := 55) cx.1 cx.2.1 dJ0_init_2_55 rfl (lv_at hl 0 rfl) ?_
  refine lv_null (pc := 56) cx.1 cx.2.1 dJ0_init_2_56 ?_
  refine c_put (pc := 57) (v := .null) cx hw 0 rfl (C := RX3) (T := TX3) (N := 6) rfl in_X3 tyX3 tyX3_ok nmX3 2 (by decide) q179 (fun _ h9 => h9) rfl rfl rfl (Nat.le_of_ble_eq_true rfl) dJ0_init_2_57 (fun H locs hw => ?_)
  replace hw : Wd dC dI A [(h0, .inr (2, [.null, .null, .null, .null, .null, .int 0]))] s H locs := hw
  exact k_vret (pc := 60) (wf := (fun cf : List Value => [(h0, .inr (2, cf))])) (K := (fun _ : List Value => True)) (u := [.null, .null, .null, .null, .null, .int 0]) cx (hw.sub [0] rfl rfl) trivial (Nat.le_of_ble_eq_true rfl) (Nat.le_of_ble_eq_true rfl) dJ0_init_2_60
set_option maxHeartbeats 4000000 in
theorem m_J1_init (l : Launch) (dC : Nat → ClassId) (dI : Nat → Nat → Nat) (d : Nat → ClassId) (h0 : Nat) : kM l yJ1_init cJ1_init 5 none ({ frames := 2, cells := 0, slots := 0, locals := 60 } : Room) dC dI d [.ref h0, .null, .null, .int (0 : Int32), .int (0 : Int32)] (fun _ : Unit => [(h0, .inr (2, [.null, .null, .null, .null, .null, .int 0]))]) () (kQv dC dI (fun cf : List Value => [(h0, .inr (2, cf))]) (fun _ : List Value => True)) 0 0 := by
  refine kM_start rfl (Nat.le_of_ble_eq_true rfl) ?_
  intro p e s m below meth c A ls cx hnm hw hl
  generalize hargs : ([.ref h0, .null, .null, .int (0 : Int32), .int (0 : Int32)] : List Value).toArray = args at cx ⊢
  replace hl : lv_has ls 5 [(0, .ref h0), (1, .null), (2, .null), (3, .int (0 : Int32)), (4, .int (0 : Int32))] := hl
  replace hw : Wd dC dI A [(h0, .inr (2, [.null, .null, .null, .null, .null, .int 0]))] s s.heap [] := hw
  generalize hH : s.heap = H at hw ⊢
  generalize hlo : ([] : List Loc) = locs at hw ⊢
  refine lv_aload_n (pc := 0) cx.1 cx.2.1 dJ1_init_0 rfl (lv_at hl 0 rfl) ?_
  refine lv_aload_nN (pc := 1) cx.1 cx.2.1 dJ1_init_1 rfl (lv_at hl 1 rfl) ?_
  refine lv_aload_nN (pc := 2) cx.1 cx.2.1 dJ1_init_2 rfl (lv_at hl 2 rfl) ?_
  refine lv_iload_n (pc := 3) cx.1 cx.2.1 dJ1_init_3 rfl (lv_at hl 3 rfl) ?_
  refine lv_iload (pc := 4) cx.1 cx.2.1 dJ1_init_4 (lv_at hl 4 rfl) ?_
  have hpt := k_part (w := [(h0, .inr (2, [.null, .null, .null, .null, .null, .int 0]))]) (is := [0]) hw rfl rfl
  refine c_call (pc := 6) (wc := [(h0, .inr (2, [.null, .null, .null, .null, .null, .int 0]))]) (wr := []) cx hw [0] [] rfl rfl rfl (by decide) (k_runI (pc := 6) (rest := []) (As := [.null, .null, .int (0 : Int32), .int (0 : Int32)]) cx hpt.1 hpt.2 hw.2.2 (m_J0_init_2 l dC dI d h0 H.size) (cwI 4 cx.2.2.2.2.1 (lw_meth q174) rfl rfl rfl (cx.2.2.2.2.1 _ q77) (cx.2.2.2.2.1 _ q172) (cx.2.2.2.2.1 _ q173) rfl hdI_J0_init_2 ⟨Nat.le_of_ble_eq_true rfl, Nat.le_of_ble_eq_true rfl⟩) rfl hl.1 rfl (Nat.le_of_ble_eq_true rfl) dJ1_init_6 ⟨Nat.le_of_ble_eq_true rfl, Nat.le_of_ble_eq_true rfl⟩) (fun u1 H locs hk hw9 => ?_)
  clear hw hpt
  have hw : Wd dC dI A [(h0, .inr (2, u1))] s H locs := hw9
  clear hw9
  exact k_vret (pc := 9) (wf := (fun cf : List Value => [(h0, .inr (2, cf))])) (K := (fun _ : List Value => True)) (u := u1) cx (hw.sub [0] rfl rfl) trivial (Nat.le_of_ble_eq_true rfl) (Nat.le_of_ble_eq_true rfl) dJ1_init_9
set_option maxHeartbeats 4000000 in
theorem m_X3_init (l : Launch) (dC : Nat → ClassId) (dI : Nat → Nat → Nat) (d : Nat → ClassId) (h0 : Nat) : kM l yX3_init cX3_init 1 none ({ frames := 3, cells := 0, slots := 0, locals := 100 } : Room) dC dI d [.ref h0] (fun _ : Unit => [(h0, .inr (2, [.null, .null, .null, .null, .null, .int 0]))]) () (kQv dC dI (fun cf : List Value => [(h0, .inr (2, cf))]) (fun _ : List Value => True)) 0 0 := by
  refine kM_start rfl (Nat.le_of_ble_eq_true rfl) ?_
  intro p e s m below meth c A ls cx hnm hw hl
  generalize hargs : ([.ref h0] : List Value).toArray = args at cx ⊢
  replace hl : lv_has ls 1 [(0, .ref h0)] := hl
  replace hw : Wd dC dI A [(h0, .inr (2, [.null, .null, .null, .null, .null, .int 0]))] s s.heap [] := hw
  generalize hH : s.heap = H at hw ⊢
  generalize hlo : ([] : List Loc) = locs at hw ⊢
  refine lv_aload_n (pc := 0) cx.1 cx.2.1 dX3_init_0 rfl (lv_at hl 0 rfl) ?_
  refine lv_null (pc := 1) cx.1 cx.2.1 dX3_init_1 ?_
  refine lv_null (pc := 2) cx.1 cx.2.1 dX3_init_2 ?_
  refine lv_iconst (pc := 3) (v := 0) cx.1 cx.2.1 dX3_init_3 (by decide) ?_
  refine lv_iconst (pc := 4) (v := 0) cx.1 cx.2.1 dX3_init_4 (by decide) ?_
  have hpt := k_part (w := [(h0, .inr (2, [.null, .null, .null, .null, .null, .int 0]))]) (is := [0]) hw rfl rfl
  refine c_call (pc := 5) (wc := [(h0, .inr (2, [.null, .null, .null, .null, .null, .int 0]))]) (wr := []) cx hw [0] [] rfl rfl rfl (by decide) (k_runI (pc := 5) (rest := []) (As := [.null, .null, .int (0 : Int32), .int (0 : Int32)]) cx hpt.1 hpt.2 hw.2.2 (m_J1_init l dC dI d h0 H.size) (cwI 4 cx.2.2.2.2.1 (lw_meth q171) rfl rfl rfl (cx.2.2.2.2.1 _ q78) (cx.2.2.2.2.1 _ q169) (cx.2.2.2.2.1 _ q170) rfl hdI_J1_init ⟨Nat.le_of_ble_eq_true rfl, Nat.le_of_ble_eq_true rfl⟩) rfl hl.1 rfl (Nat.le_of_ble_eq_true rfl) dX3_init_5 ⟨Nat.le_of_ble_eq_true rfl, Nat.le_of_ble_eq_true rfl⟩) (fun u1 H locs hk hw9 => ?_)
  clear hw hpt
  have hw : Wd dC dI A [(h0, .inr (2, u1))] s H locs := hw9
  clear hw9
  exact k_vret (pc := 8) (wf := (fun cf : List Value => [(h0, .inr (2, cf))])) (K := (fun _ : List Value => True)) (u := u1) cx (hw.sub [0] rfl rfl) trivial (Nat.le_of_ble_eq_true rfl) (Nat.le_of_ble_eq_true rfl) dX3_init_8
set_option maxHeartbeats 4000000 in
theorem m_X2_init (l : Launch) (dC : Nat → ClassId) (dI : Nat → Nat → Nat) (d : Nat → ClassId) (h0 : Nat) : kM l yX2_init cX2_init 1 none ({ frames := 4, cells := 2, slots := 4102, locals := 140 } : Room) dC dI d [.ref h0] (fun _ : Unit => [(h0, .inr (1, [.null, .null, .int 0, .int 0, .int 0]))]) () (kQv dC dI (fun u : (Nat → Nat) × List Value => wDk d u.1 u.2 (st_I z0 2 (-1))) (fun u : (Nat → Nat) × List Value => u.1 0 = h0)) 2 4102 := by
  refine kM_start rfl (Nat.le_of_ble_eq_true rfl) ?_
  intro p e s m below meth c A ls cx hnm hw hl
  generalize hargs : ([.ref h0] : List Value).toArray = args at cx ⊢
  replace hl : lv_has ls 1 [(0, .ref h0)] := hl
  replace hw : Wd dC dI A [(h0, .inr (1, [.null, .null, .int 0, .int 0, .int 0]))] s s.heap [] := hw
  generalize hH : s.heap = H at hw ⊢
  generalize hlo : ([] : List Loc) = locs at hw ⊢
  refine lv_aload_n (pc := 0) cx.1 cx.2.1 dX2_init_0 rfl (lv_at hl 0 rfl) ?_
  refine c_objInit (pc := 1) cx hl.1 q110 q103 q104 ⟨Nat.le_of_ble_eq_true rfl, Nat.le_of_ble_eq_true rfl⟩ dX2_init_1 ?_
  refine lv_aload_n (pc := 4) cx.1 cx.2.1 dX2_init_4 rfl (lv_at hl 0 rfl) ?_
  refine lv_sipush (pc := 5) (v := 4096) cx.1 cx.2.1 dX2_init_5 (by decide) ?_
  refine c_newa (pc := 8) (a0 := (4096, .inl (fun _ => 0))) cx hw (atype := .int) (ty := .int) rfl q188 0 rfl (fun _ h => h) (fun _ => rfl) (by decide) (by decide) (by decide) ⟨Nat.le_of_ble_eq_true rfl, Nat.le_of_ble_eq_true rfl⟩ dX2_init_8 (fun q1 H hw => ?_)
  replace hw : Wd dC dI A [(h0, .inr (1, [.null, .null, .int 0, .int 0, .int 0])), (q1, .inl (d 0, 4096, .inl (fun _ => 0)))] s H locs := hw
  refine c_putF (pc := 10) (v := .ref q1) hnm cx hw 0 rfl (C := RX2) (T := TX2) (N := 5) rfl in_X2 tyX2 tyX2_ok nmX2 0 (by decide) q189 (fun _ h9 => h9) rfl rfl rfl rfl (Nat.le_of_ble_eq_true rfl) dX2_init_10 (fun H locs hw => ?_)
  replace hw : Wd dC dI A [(h0, .inr (1, [.ref q1, .null, .int 0, .int 0, .int 0])), (q1, .inl (d 0, 4096, .inl (fun _ => 0)))] s H locs := hw
  refine lv_aload_n (pc := 13) cx.1 cx.2.1 dX2_init_13 rfl (lv_at hl 0 rfl) ?_
  refine c_new (pc := 14) (fs := [.null, .null, .null, .null, .null, .int 0]) cx hw (C := RX3) (T := TX3) (N := 6) (ci := 2) rfl in_X3 tyX3 tyX3_ok q111 q112 q79 (by decide) ⟨Nat.le_of_ble_eq_true rfl, Nat.le_of_ble_eq_true rfl⟩ dX2_init_14 (fun q2 H hw => ?_)
  replace hw : Wd dC dI A [(h0, .inr (1, [.ref q1, .null, .int 0, .int 0, .int 0])), (q1, .inl (d 0, 4096, .inl (fun _ => 0))), (q2, .inr (2, [.null, .null, .null, .null, .null, .int 0]))] s H locs := hw
  refine lv_dup (pc := 17) cx.1 cx.2.1 dX2_init_17 rfl ?_
  have hpt := k_part (w := [(q2, .inr (2, [.null, .null, .null, .null, .null, .int 0]))]) (is := [2]) hw rfl rfl
  refine c_call (pc := 18) (wc := [(q2, .inr (2, [.null, .null, .null, .null, .null, .int 0]))]) (wr := [(h0, .inr (1, [.ref q1, .null, .int 0, .int 0, .int 0])), (q1, .inl (d 0, 4096, .inl (fun _ => 0)))]) cx hw [2] [0, 1] rfl rfl rfl (by decide) (k_runI (pc := 18) (rest := [.ref q2, .ref h0]) (As := []) cx hpt.1 hpt.2 hw.2.2 (m_X3_init l dC dI d q2 H.size) (cwI 0 cx.2.2.2.2.1 (lw_meth q168) rfl rfl rfl (cx.2.2.2.2.1 _ q79) (cx.2.2.2.2.1 _ q166) (cx.2.2.2.2.1 _ q167) rfl hdI_X3_init ⟨Nat.le_of_ble_eq_true rfl, Nat.le_of_ble_eq_true rfl⟩) rfl hl.1 rfl (Nat.le_of_ble_eq_true rfl) dX2_init_18 ⟨Nat.le_of_ble_eq_true rfl, Nat.le_of_ble_eq_true rfl⟩) (fun u3 H locs hk hw9 => ?_)
  clear hw hpt
  have hw : Wd dC dI A [(h0, .inr (1, [.ref q1, .null, .int 0, .int 0, .int 0])), (q1, .inl (d 0, 4096, .inl (fun _ => 0))), (q2, .inr (2, u3))] s H locs := hw9
  clear hw9
  refine c_putF (pc := 21) (v := .ref q2) hnm cx hw 0 rfl (C := RX2) (T := TX2) (N := 5) rfl in_X2 tyX2 tyX2_ok nmX2 1 (by decide) q192 (fun _ h9 => h9) rfl rfl rfl rfl (Nat.le_of_ble_eq_true rfl) dX2_init_21 (fun H locs hw => ?_)
  replace hw : Wd dC dI A [(h0, .inr (1, [.ref q1, .ref q2, .int 0, .int 0, .int 0])), (q1, .inl (d 0, 4096, .inl (fun _ => 0))), (q2, .inr (2, u3))] s H locs := hw
  refine lv_aload_n (pc := 24) cx.1 cx.2.1 dX2_init_24 rfl (lv_at hl 0 rfl) ?_
  refine lv_iconst (pc := 25) (v := -1) cx.1 cx.2.1 dX2_init_25 (by decide) ?_
  refine c_put (pc := 26) (v := .int (-1 : Int32)) cx hw 0 rfl (C := RX2) (T := TX2) (N := 5) rfl in_X2 tyX2 tyX2_ok nmX2 2 (by decide) q193 (fun _ h9 => h9) rfl rfl rfl (Nat.le_of_ble_eq_true rfl) dX2_init_26 (fun H locs hw => ?_)
  replace hw : Wd dC dI A [(h0, .inr (1, [.ref q1, .ref q2, .int (-1 : Int32), .int 0, .int 0])), (q1, .inl (d 0, 4096, .inl (fun _ => 0))), (q2, .inr (2, u3))] s H locs := hw
  exact k_vret (pc := 29) (wf := (fun u : (Nat → Nat) × List Value => wDk d u.1 u.2 (st_I z0 2 (-1)))) (K := (fun u : (Nat → Nat) × List Value => u.1 0 = h0)) (u := ((fun j => [h0, q1, q2].getD j 0), u3)) cx (hw.sub [0, 1, 2] rfl rfl) rfl (Nat.le_of_ble_eq_true rfl) (Nat.le_of_ble_eq_true rfl) dX2_init_29
def wf_X9i (d : Nat → ClassId) (gp gd gc : Nat) (FP FD : List Value) (h : (Nat → Nat) × (Nat → Nat)) : va_W := [(gp, .inr (0, FP)), (gd, .inr (1, FD))] ++ (wWk d h.1 (h.2 0) gp z0 ++ wUn d h.2 gc z0)
set_option maxHeartbeats 4000000 in
theorem m_X9_init (l : Launch) (dC : Nat → ClassId) (dI : Nat → Nat → Nat) (d : Nat → ClassId) (h0 gp gd gc : Nat) (FP FD : List Value) (hf3 : FP[3]? = some (.ref gd)) (hf0 : FD[0]? = some (.ref gc)) : kM l yX9_init cX9_init 2 none ({ frames := 3, cells := 1, slots := 7, locals := 100 } : Room) dC dI d [.ref h0, .ref gp] (fun _ : Unit => [(h0, .inr (7, [.int 0, .int 0, .null, .int 0, .int 0, .int 0, .int 0, .int 0, .int 0, .int 0, .null])), (gp, .inr (0, FP)), (gd, .inr (1, FD))]) () (kQv dC dI (wf_X9i d gp gd gc FP FD) (fun h : (Nat → Nat) × (Nat → Nat) => h.1 0 = h0)) 1 7 := by
  refine kM_start rfl (Nat.le_of_ble_eq_true rfl) ?_
  intro p e s m below meth c A ls cx hnm hw hl
  generalize hargs : ([.ref h0, .ref gp] : List Value).toArray = args at cx ⊢
  replace hl : lv_has ls 2 [(0, .ref h0), (1, .ref gp)] := hl
  replace hw : Wd dC dI A [(h0, .inr (7, [.int 0, .int 0, .null, .int 0, .int 0, .int 0, .int 0, .int 0, .int 0, .int 0, .null])), (gp, .inr (0, FP)), (gd, .inr (1, FD))] s s.heap [] := hw
  generalize hH : s.heap = H at hw ⊢
  generalize hlo : ([] : List Loc) = locs at hw ⊢
  refine lv_aload_n (pc := 0) cx.1 cx.2.1 dX9_init_0 rfl (lv_at hl 0 rfl) ?_
  refine lv_aload_n (pc := 1) cx.1 cx.2.1 dX9_init_1 rfl (lv_at hl 1 rfl) ?_
  refine c_putF (pc := 2) (v := .ref gp) hnm cx hw 0 rfl (C := RX9) (T := TX9) (N := 11) rfl in_X9 tyX9 tyX9_ok nmX9 10 (by decide) q380 (fun _ h9 => h9) rfl rfl rfl rfl (Nat.le_of_ble_eq_true rfl) dX9_init_2 (fun H locs hw => ?_)
  replace hw : Wd dC dI A [(h0, .inr (7, [.int 0, .int 0, .null, .int 0, .int 0, .int 0, .int 0, .int 0, .int 0, .int 0, .ref gp])), (gp, .inr (0, FP)), (gd, .inr (1, FD))] s H locs := hw
  refine lv_aload_n (pc := 5) cx.1 cx.2.1 dX9_init_5 rfl (lv_at hl 0 rfl) ?_
  have hpt := k_part (w := []) (is := []) hw rfl rfl
  refine c_call (pc := 6) (wc := []) (wr := [(h0, .inr (7, [.int 0, .int 0, .null, .int 0, .int 0, .int 0, .int 0, .int 0, .int 0, .int 0, .ref gp])), (gp, .inr (0, FP)), (gd, .inr (1, FD))]) cx hw [] [0, 1, 2] rfl rfl rfl (by decide) (k_runIN (pc := 6) (rest := []) (As := []) cx hpt.1 hpt.2 hw.2.2 (m_X5_init l dC dI d h0 H.size) ⟨va_cnB 0 cx.2.2.2.2.1 (lw_meth q247) rfl rfl rfl (nq368 cx.2.2.2.2.2.1) (cx.2.2.2.2.1 _ q81) hdI_X5_init ⟨Nat.le_of_ble_eq_true rfl, Nat.le_of_ble_eq_true rfl⟩, rfl, cx.2.2.2.2.1 _ q246⟩ rfl hl.1 rfl (Nat.le_of_ble_eq_true rfl) dX9_init_6 ⟨Nat.le_of_ble_eq_true rfl, Nat.le_of_ble_eq_true rfl⟩) (fun u1 H locs hk hw9 => ?_)
  clear hw hpt
  have hw : Wd dC dI A [(h0, .inr (7, [.int 0, .int 0, .null, .int 0, .int 0, .int 0, .int 0, .int 0, .int 0, .int 0, .ref gp])), (gp, .inr (0, FP)), (gd, .inr (1, FD))] s H locs := hw9
  clear hw9
  refine lv_aload_n (pc := 9) cx.1 cx.2.1 dX9_init_9 rfl (lv_at hl 0 rfl) ?_
  refine c_new (pc := 10) (fs := [.int 0, .int 0, .null, .int 0, .int 0, .int 0, .long 0]) cx hw (C := RX6) (T := TX6) (N := 7) (ci := 4) rfl in_X6 tyX6 tyX6_ok q369 q241 q82 (by decide) ⟨Nat.le_of_ble_eq_true rfl, Nat.le_of_ble_eq_true rfl⟩ dX9_init_10 (fun q2 H hw => ?_)
  replace hw : Wd dC dI A [(h0, .inr (7, [.int 0, .int 0, .null, .int 0, .int 0, .int 0, .int 0, .int 0, .int 0, .int 0, .ref gp])), (gp, .inr (0, FP)), (gd, .inr (1, FD)), (q2, .inr (4, [.int 0, .int 0, .null, .int 0, .int 0, .int 0, .long 0]))] s H locs := hw
  refine lv_dup (pc := 13) cx.1 cx.2.1 dX9_init_13 rfl ?_
  refine lv_aload_n (pc := 14) cx.1 cx.2.1 dX9_init_14 rfl (lv_at hl 0 rfl) ?_
  refine c_get (pc := 15) (v := .ref gp) cx hw 0 rfl (C := RX9) (T := TX9) (N := 11) rfl in_X9 10 (by decide) q380 (fun _ h9 => h9) rfl dX9_init_15 ?_
  refine c_getN (pc := 18) (v := .ref gd) cx hw 1 rfl (C := RX1) (T := TX1) (N := 21) rfl in_X1 3 (by decide) (nq480 cx.2.2.2.2.2.1) (fun _ h9 => h9) hf3 dX9_init_18 ?_
  refine c_getN (pc := 21) (v := .ref gc) cx hw 2 rfl (C := RX2) (T := TX2) (N := 5) rfl in_X2 0 (by decide) (nq190 cx.2.2.2.2.2.1) (fun _ h9 => h9) hf0 dX9_init_21 ?_
  have hpt := k_part (w := [(q2, .inr (4, [.int 0, .int 0, .null, .int 0, .int 0, .int 0, .long 0]))]) (is := [3]) hw rfl rfl
  refine c_call (pc := 24) (wc := [(q2, .inr (4, [.int 0, .int 0, .null, .int 0, .int 0, .int 0, .long 0]))]) (wr := [(h0, .inr (7, [.int 0, .int 0, .null, .int 0, .int 0, .int 0, .int 0, .int 0, .int 0, .int 0, .ref gp])), (gp, .inr (0, FP)), (gd, .inr (1, FD))]) cx hw [3] [0, 1, 2] rfl rfl rfl (by decide) (k_runI (pc := 24) (rest := [.ref q2, .ref h0]) (As := [.ref gc]) cx hpt.1 hpt.2 hw.2.2 (m_X6_init l dC dI d q2 gc H.size) (cwI 1 cx.2.2.2.2.1 (lw_meth q244) rfl rfl rfl (cx.2.2.2.2.1 _ q82) (cx.2.2.2.2.1 _ q370) (cx.2.2.2.2.1 _ q243) rfl hdI_X6_init ⟨Nat.le_of_ble_eq_true rfl, Nat.le_of_ble_eq_true rfl⟩) rfl hl.1 rfl (Nat.le_of_ble_eq_true rfl) dX9_init_24 ⟨Nat.le_of_ble_eq_true rfl, Nat.le_of_ble_eq_true rfl⟩) (fun u3 H locs hk hw9 => ?_)
  clear hw hpt
  subst hk
  have hw : Wd dC dI A [(h0, .inr (7, [.int 0, .int 0, .null, .int 0, .int 0, .int 0, .int 0, .int 0, .int 0, .int 0, .ref gp])), (gp, .inr (0, FP)), (gd, .inr (1, FD)), ((u3 0), .inr (4, [.int 0, .int 0, .ref gc, .int 0, .int 0, .int 0, .long 0]))] s H locs := hw9
  clear hw9
  refine c_putF (pc := 27) (v := .ref (u3 0)) hnm cx hw 0 rfl (C := RX9) (T := TX9) (N := 11) rfl in_X9 tyX9 tyX9_ok nmX9 2 (by decide) q371 (fun _ h9 => h9) rfl rfl rfl rfl (Nat.le_of_ble_eq_true rfl) dX9_init_27 (fun H locs hw => ?_)
  replace hw : Wd dC dI A [(h0, .inr (7, [.int 0, .int 0, .ref (u3 0), .int 0, .int 0, .int 0, .int 0, .int 0, .int 0, .int 0, .ref gp])), (gp, .inr (0, FP)), (gd, .inr (1, FD)), ((u3 0), .inr (4, [.int 0, .int 0, .ref gc, .int 0, .int 0, .int 0, .long 0]))] s H locs := hw
  exact k_vret (pc := 30) (wf := (wf_X9i d gp gd gc FP FD)) (K := (fun h : (Nat → Nat) × (Nat → Nat) => h.1 0 = h0)) (u := ((fun j => [h0].getD j 0), (fun j => [(u3 0)].getD j 0))) cx (hw.sub [1, 2, 0, 3] rfl rfl) rfl (Nat.le_of_ble_eq_true rfl) (Nat.le_of_ble_eq_true rfl) dX9_init_30
