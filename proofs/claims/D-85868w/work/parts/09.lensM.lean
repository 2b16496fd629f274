set_option maxRecDepth 100000
theorem ln_X12_this_0 (d : Nat → ClassId) (h : Nat → Nat) : LnI (wM d h) 0 10 0 (fun u => (h 0)) (fun u => u.1 0) (fun u v => (st_I u 0 v)) := fun _ => ⟨_, rfl, rfl, Nat.le_of_ble_eq_true rfl, fun _ => rfl⟩
theorem ln_X12_this_30 (d : Nat → ClassId) (h : Nat → Nat) : LnI (wM d h) 0 10 30 (fun u => (h 0)) (fun u => u.1 30) (fun u v => (st_I u 30 v)) := fun _ => ⟨_, rfl, rfl, Nat.le_of_ble_eq_true rfl, fun _ => rfl⟩
theorem ln_X12_this_31 (d : Nat → ClassId) (h : Nat → Nat) : LnI (wM d h) 0 10 31 (fun u => (h 0)) (fun u => u.1 31) (fun u v => (st_I u 31 v)) := fun _ => ⟨_, rfl, rfl, Nat.le_of_ble_eq_true rfl, fun _ => rfl⟩
theorem ln_X12_this_32 (d : Nat → ClassId) (h : Nat → Nat) : LnI (wM d h) 0 10 32 (fun u => (h 0)) (fun u => u.1 32) (fun u v => (st_I u 32 v)) := fun _ => ⟨_, rfl, rfl, Nat.le_of_ble_eq_true rfl, fun _ => rfl⟩
theorem ln_X12_this_1 (d : Nat → ClassId) (h : Nat → Nat) : LnI (wM d h) 0 10 1 (fun u => (h 0)) (fun u => u.1 1) (fun u v => (st_I u 1 v)) := fun _ => ⟨_, rfl, rfl, Nat.le_of_ble_eq_true rfl, fun _ => rfl⟩
theorem ln_X12_this_18 (d : Nat → ClassId) (h : Nat → Nat) : LnI (wM d h) 0 10 18 (fun u => (h 0)) (fun u => u.1 18) (fun u v => (st_I u 18 v)) := fun _ => ⟨_, rfl, rfl, Nat.le_of_ble_eq_true rfl, fun _ => rfl⟩
theorem lr_X12_this_17 (d : Nat → ClassId) (h : Nat → Nat) : LnR (wM d h) 0 10 17 (fun u => (h 0)) (fun u => .ref (h 8)) := fun _ => ⟨_, rfl, rfl⟩
theorem lx_X12_this_17 (d : Nat → ClassId) (h : Nat → Nat) : LnX (wM d h) 8 (fun u => (h 8)) (d 0) 96 (fun u => u.2.1 17) := fun _ => rfl
theorem lr_X12_this_12 (d : Nat → ClassId) (h : Nat → Nat) : LnR (wM d h) 0 10 12 (fun u => (h 0)) (fun u => .ref (h 3)) := fun _ => ⟨_, rfl, rfl⟩
theorem lx_X12_this_12 (d : Nat → ClassId) (h : Nat → Nat) : LnX (wM d h) 3 (fun u => (h 3)) (d 0) 240 (fun u => u.2.1 12) := fun _ => rfl
theorem lr_X12_this_11 (d : Nat → ClassId) (h : Nat → Nat) : LnR (wM d h) 0 10 11 (fun u => (h 0)) (fun u => .ref (h 2)) := fun _ => ⟨_, rfl, rfl⟩
theorem lx_X12_this_11 (d : Nat → ClassId) (h : Nat → Nat) : LnX (wM d h) 2 (fun u => (h 2)) (d 0) 240 (fun u => u.2.1 11) := fun _ => rfl
theorem lr_X12_this_15 (d : Nat → ClassId) (h : Nat → Nat) : LnR (wM d h) 0 10 15 (fun u => (h 0)) (fun u => .ref (h 6)) := fun _ => ⟨_, rfl, rfl⟩
theorem lx_X12_this_15 (d : Nat → ClassId) (h : Nat → Nat) : LnX (wM d h) 6 (fun u => (h 6)) (d 0) 15360 (fun u => u.2.1 15) := fun _ => rfl
theorem ln_X12_this_24 (d : Nat → ClassId) (h : Nat → Nat) : LnI (wM d h) 0 10 24 (fun u => (h 0)) (fun u => u.1 24) (fun u v => (st_I u 24 v)) := fun _ => ⟨_, rfl, rfl, Nat.le_of_ble_eq_true rfl, fun _ => rfl⟩
theorem lr_X12_this_21 (d : Nat → ClassId) (h : Nat → Nat) : LnR (wM d h) 0 10 21 (fun u => (h 0)) (fun u => .ref (h 9)) := fun _ => ⟨_, rfl, rfl⟩
theorem lx_X12_this_21 (d : Nat → ClassId) (h : Nat → Nat) : LnX (wM d h) 9 (fun u => (h 9)) (d 0) 128 (fun u => u.2.1 21) := fun _ => rfl
theorem lr_X12_this_22 (d : Nat → ClassId) (h : Nat → Nat) : LnR (wM d h) 0 10 22 (fun u => (h 0)) (fun u => .ref (h 10)) := fun _ => ⟨_, rfl, rfl⟩
theorem lx_X12_this_22 (d : Nat → ClassId) (h : Nat → Nat) : LnX (wM d h) 10 (fun u => (h 10)) (d 0) 128 (fun u => u.2.1 22) := fun _ => rfl
theorem ln_X12_this_6 (d : Nat → ClassId) (h : Nat → Nat) : LnI (wM d h) 0 10 6 (fun u => (h 0)) (fun u => u.1 6) (fun u v => (st_I u 6 v)) := fun _ => ⟨_, rfl, rfl, Nat.le_of_ble_eq_true rfl, fun _ => rfl⟩
theorem ln_X12_this_7 (d : Nat → ClassId) (h : Nat → Nat) : LnI (wM d h) 0 10 7 (fun u => (h 0)) (fun u => u.1 7) (fun u v => (st_I u 7 v)) := fun _ => ⟨_, rfl, rfl, Nat.le_of_ble_eq_true rfl, fun _ => rfl⟩
theorem ln_X12_this_5 (d : Nat → ClassId) (h : Nat → Nat) : LnI (wM d h) 0 10 5 (fun u => (h 0)) (fun u => u.1 5) (fun u v => (st_I u 5 v)) := fun _ => ⟨_, rfl, rfl, Nat.le_of_ble_eq_true rfl, fun _ => rfl⟩
theorem lr_X12_this_4 (d : Nat → ClassId) (h : Nat → Nat) : LnR (wM d h) 0 10 4 (fun u => (h 0)) (fun u => .ref (h 1)) := fun _ => ⟨_, rfl, rfl⟩
theorem ln_X12_this_4 (d : Nat → ClassId) (h : Nat → Nat) : LnA (wM d h) 1 (fun u => (h 1)) (d 0) 4096 (fun u => u.2.1 4) (fun u f => (st_A u 4 f)) := fun _ => ⟨rfl, fun _ => rfl⟩
theorem ln_X12_this_19 (d : Nat → ClassId) (h : Nat → Nat) : LnI (wM d h) 0 10 19 (fun u => (h 0)) (fun u => u.1 19) (fun u v => (st_I u 19 v)) := fun _ => ⟨_, rfl, rfl, Nat.le_of_ble_eq_true rfl, fun _ => rfl⟩
theorem ln_X12_this_21 (d : Nat → ClassId) (h : Nat → Nat) : LnA (wM d h) 9 (fun u => (h 9)) (d 0) 128 (fun u => u.2.1 21) (fun u f => (st_A u 21 f)) := fun _ => ⟨rfl, fun _ => rfl⟩
theorem ln_X12_this_22 (d : Nat → ClassId) (h : Nat → Nat) : LnA (wM d h) 10 (fun u => (h 10)) (d 0) 128 (fun u => u.2.1 22) (fun u f => (st_A u 22 f)) := fun _ => ⟨rfl, fun _ => rfl⟩
theorem lr_X12_this_23 (d : Nat → ClassId) (h : Nat → Nat) : LnR (wM d h) 0 10 23 (fun u => (h 0)) (fun u => .ref (h 11)) := fun _ => ⟨_, rfl, rfl⟩
theorem ln_X12_this_23 (d : Nat → ClassId) (h : Nat → Nat) : LnA (wM d h) 11 (fun u => (h 11)) (d 0) 128 (fun u => u.2.1 23) (fun u f => (st_A u 23 f)) := fun _ => ⟨rfl, fun _ => rfl⟩
theorem ln_X12_this_27 (d : Nat → ClassId) (h : Nat → Nat) : LnI (wM d h) 0 10 27 (fun u => (h 0)) (fun u => u.1 27) (fun u v => (st_I u 27 v)) := fun _ => ⟨_, rfl, rfl, Nat.le_of_ble_eq_true rfl, fun _ => rfl⟩
theorem lr_X12_this_25 (d : Nat → ClassId) (h : Nat → Nat) : LnR (wM d h) 0 10 25 (fun u => (h 0)) (fun u => .ref (h 12)) := fun _ => ⟨_, rfl, rfl⟩
theorem ln_X12_this_25 (d : Nat → ClassId) (h : Nat → Nat) : LnA (wM d h) 12 (fun u => (h 12)) (d 0) 240 (fun u => u.2.1 25) (fun u f => (st_A u 25 f)) := fun _ => ⟨rfl, fun _ => rfl⟩
theorem lr_X12_this_26 (d : Nat → ClassId) (h : Nat → Nat) : LnR (wM d h) 0 10 26 (fun u => (h 0)) (fun u => .ref (h 13)) := fun _ => ⟨_, rfl, rfl⟩
theorem ln_X12_this_26 (d : Nat → ClassId) (h : Nat → Nat) : LnA (wM d h) 13 (fun u => (h 13)) (d 5) 240 (fun u => u.2.1 26) (fun u f => (st_A u 26 f)) := fun _ => ⟨rfl, fun _ => rfl⟩
theorem lx_X12_this_25 (d : Nat → ClassId) (h : Nat → Nat) : LnX (wM d h) 12 (fun u => (h 12)) (d 0) 240 (fun u => u.2.1 25) := fun _ => rfl
theorem ln_X12_this_15 (d : Nat → ClassId) (h : Nat → Nat) : LnA (wM d h) 6 (fun u => (h 6)) (d 0) 15360 (fun u => u.2.1 15) (fun u f => (st_A u 15 f)) := fun _ => ⟨rfl, fun _ => rfl⟩
theorem lr_X12_this_16 (d : Nat → ClassId) (h : Nat → Nat) : LnR (wM d h) 0 10 16 (fun u => (h 0)) (fun u => .ref (h 7)) := fun _ => ⟨_, rfl, rfl⟩
theorem ln_X12_this_16 (d : Nat → ClassId) (h : Nat → Nat) : LnA (wM d h) 7 (fun u => (h 7)) (d 0) 15360 (fun u => u.2.1 16) (fun u f => (st_A u 16 f)) := fun _ => ⟨rfl, fun _ => rfl⟩
theorem ln_X12_this_12 (d : Nat → ClassId) (h : Nat → Nat) : LnA (wM d h) 3 (fun u => (h 3)) (d 0) 240 (fun u => u.2.1 12) (fun u f => (st_A u 12 f)) := fun _ => ⟨rfl, fun _ => rfl⟩
theorem ln_X12_this_2 (d : Nat → ClassId) (h : Nat → Nat) : LnI (wM d h) 0 10 2 (fun u => (h 0)) (fun u => u.1 2) (fun u v => (st_I u 2 v)) := fun _ => ⟨_, rfl, rfl, Nat.le_of_ble_eq_true rfl, fun _ => rfl⟩
theorem ln_X12_this_11 (d : Nat → ClassId) (h : Nat → Nat) : LnA (wM d h) 2 (fun u => (h 2)) (d 0) 240 (fun u => u.2.1 11) (fun u f => (st_A u 11 f)) := fun _ => ⟨rfl, fun _ => rfl⟩
theorem lx_X12_this_23 (d : Nat → ClassId) (h : Nat → Nat) : LnX (wM d h) 11 (fun u => (h 11)) (d 0) 128 (fun u => u.2.1 23) := fun _ => rfl
theorem ln_X12_this_34 (d : Nat → ClassId) (h : Nat → Nat) : LnI (wM d h) 0 10 34 (fun u => (h 0)) (fun u => u.1 34) (fun u v => (st_I u 34 v)) := fun _ => ⟨_, rfl, rfl, Nat.le_of_ble_eq_true rfl, fun _ => rfl⟩
theorem lr_X12_this_33 (d : Nat → ClassId) (h : Nat → Nat) : LnR (wM d h) 0 10 33 (fun u => (h 0)) (fun u => .ref (h 16)) := fun _ => ⟨_, rfl, rfl⟩
theorem ln_X12_this_33 (d : Nat → ClassId) (h : Nat → Nat) : LnA (wM d h) 16 (fun u => (h 16)) (d 0) 200 (fun u => u.2.1 33) (fun u f => (st_A u 33 f)) := fun _ => ⟨rfl, fun _ => rfl⟩
theorem lx_X12_this_33 (d : Nat → ClassId) (h : Nat → Nat) : LnX (wM d h) 16 (fun u => (h 16)) (d 0) 200 (fun u => u.2.1 33) := fun _ => rfl
theorem lx_X12_this_16 (d : Nat → ClassId) (h : Nat → Nat) : LnX (wM d h) 7 (fun u => (h 7)) (d 0) 15360 (fun u => u.2.1 16) := fun _ => rfl
theorem lr_X12_this_13 (d : Nat → ClassId) (h : Nat → Nat) : LnR (wM d h) 0 10 13 (fun u => (h 0)) (fun u => .ref (h 4)) := fun _ => ⟨_, rfl, rfl⟩
theorem lx_X12_this_13 (d : Nat → ClassId) (h : Nat → Nat) : LnX (wM d h) 4 (fun u => (h 4)) (d 0) 240 (fun u => u.2.1 13) := fun _ => rfl
theorem lr_X12_this_14 (d : Nat → ClassId) (h : Nat → Nat) : LnR (wM d h) 0 10 14 (fun u => (h 0)) (fun u => .ref (h 5)) := fun _ => ⟨_, rfl, rfl⟩
theorem lx_X12_this_14 (d : Nat → ClassId) (h : Nat → Nat) : LnX (wM d h) 5 (fun u => (h 5)) (d 0) 240 (fun u => u.2.1 14) := fun _ => rfl
theorem lx_X12_this_26 (d : Nat → ClassId) (h : Nat → Nat) : LnX (wM d h) 13 (fun u => (h 13)) (d 5) 240 (fun u => u.2.1 26) := fun _ => rfl
theorem ln_X12_this_13 (d : Nat → ClassId) (h : Nat → Nat) : LnA (wM d h) 4 (fun u => (h 4)) (d 0) 240 (fun u => u.2.1 13) (fun u f => (st_A u 13 f)) := fun _ => ⟨rfl, fun _ => rfl⟩
theorem ln_X12_this_14 (d : Nat → ClassId) (h : Nat → Nat) : LnA (wM d h) 5 (fun u => (h 5)) (d 0) 240 (fun u => u.2.1 14) (fun u f => (st_A u 14 f)) := fun _ => ⟨rfl, fun _ => rfl⟩
theorem ln_X12_this_20 (d : Nat → ClassId) (h : Nat → Nat) : LnI (wM d h) 0 10 20 (fun u => (h 0)) (fun u => u.1 20) (fun u v => (st_I u 20 v)) := fun _ => ⟨_, rfl, rfl, Nat.le_of_ble_eq_true rfl, fun _ => rfl⟩
theorem ln_X12_this_17 (d : Nat → ClassId) (h : Nat → Nat) : LnA (wM d h) 8 (fun u => (h 8)) (d 0) 96 (fun u => u.2.1 17) (fun u f => (st_A u 17 f)) := fun _ => ⟨rfl, fun _ => rfl⟩
theorem ln_X12_this_36 (d : Nat → ClassId) (h : Nat → Nat) : LnI (wM d h) 0 10 36 (fun u => (h 0)) (fun u => u.1 36) (fun u v => (st_I u 36 v)) := fun _ => ⟨_, rfl, rfl, Nat.le_of_ble_eq_true rfl, fun _ => rfl⟩
theorem ln_X12_this_37 (d : Nat → ClassId) (h : Nat → Nat) : LnI (wM d h) 0 10 37 (fun u => (h 0)) (fun u => u.1 37) (fun u v => (st_I u 37 v)) := fun _ => ⟨_, rfl, rfl, Nat.le_of_ble_eq_true rfl, fun _ => rfl⟩
theorem ln_X12_this_38 (d : Nat → ClassId) (h : Nat → Nat) : LnI (wM d h) 0 10 38 (fun u => (h 0)) (fun u => u.1 38) (fun u v => (st_I u 38 v)) := fun _ => ⟨_, rfl, rfl, Nat.le_of_ble_eq_true rfl, fun _ => rfl⟩
theorem ln_X12_this_39 (d : Nat → ClassId) (h : Nat → Nat) : LnJ (wM d h) 0 10 39 (fun u => (h 0)) (fun u => u.2.2.1 39) (fun u v => (st_L u 39 v)) := fun _ => ⟨_, rfl, rfl, Nat.le_of_ble_eq_true rfl, fun _ => rfl⟩
theorem lr_X12_this_28 (d : Nat → ClassId) (h : Nat → Nat) : LnR (wM d h) 0 10 28 (fun u => (h 0)) (fun u => .ref (h 14)) := fun _ => ⟨_, rfl, rfl⟩
theorem ln_X12_this_28 (d : Nat → ClassId) (h : Nat → Nat) : LnA (wM d h) 14 (fun u => (h 14)) (d 0) 6300 (fun u => u.2.1 28) (fun u f => (st_A u 28 f)) := fun _ => ⟨rfl, fun _ => rfl⟩
theorem lr_X12_this_29 (d : Nat → ClassId) (h : Nat → Nat) : LnR (wM d h) 0 10 29 (fun u => (h 0)) (fun u => .ref (h 15)) := fun _ => ⟨_, rfl, rfl⟩
theorem ln_X12_this_29 (d : Nat → ClassId) (h : Nat → Nat) : LnA (wM d h) 15 (fun u => (h 15)) (d 0) 6300 (fun u => u.2.1 29) (fun u f => (st_A u 29 f)) := fun _ => ⟨rfl, fun _ => rfl⟩
theorem ln_X12_this_3 (d : Nat → ClassId) (h : Nat → Nat) : LnI (wM d h) 0 10 3 (fun u => (h 0)) (fun u => u.1 3) (fun u v => (st_I u 3 v)) := fun _ => ⟨_, rfl, rfl, Nat.le_of_ble_eq_true rfl, fun _ => rfl⟩
theorem ln_X12_this_9 (d : Nat → ClassId) (h : Nat → Nat) : LnI (wM d h) 0 10 9 (fun u => (h 0)) (fun u => u.1 9) (fun u v => (st_I u 9 v)) := fun _ => ⟨_, rfl, rfl, Nat.le_of_ble_eq_true rfl, fun _ => rfl⟩
theorem ln_X12_this_10 (d : Nat → ClassId) (h : Nat → Nat) : LnI (wM d h) 0 10 10 (fun u => (h 0)) (fun u => u.1 10) (fun u v => (st_I u 10 v)) := fun _ => ⟨_, rfl, rfl, Nat.le_of_ble_eq_true rfl, fun _ => rfl⟩
theorem lx_X12_this_28 (d : Nat → ClassId) (h : Nat → Nat) : LnX (wM d h) 14 (fun u => (h 14)) (d 0) 6300 (fun u => u.2.1 28) := fun _ => rfl
theorem lx_X12_this_29 (d : Nat → ClassId) (h : Nat → Nat) : LnX (wM d h) 15 (fun u => (h 15)) (d 0) 6300 (fun u => u.2.1 29) := fun _ => rfl
theorem ln_X12_this_35 (d : Nat → ClassId) (h : Nat → Nat) : LnI (wM d h) 0 10 35 (fun u => (h 0)) (fun u => u.1 35) (fun u v => (st_I u 35 v)) := fun _ => ⟨_, rfl, rfl, Nat.le_of_ble_eq_true rfl, fun _ => rfl⟩
theorem lx_X12_this_4 (d : Nat → ClassId) (h : Nat → Nat) : LnX (wM d h) 1 (fun u => (h 1)) (d 0) 4096 (fun u => u.2.1 4) := fun _ => rfl
theorem ln_X12_this_8 (d : Nat → ClassId) (h : Nat → Nat) : LnI (wM d h) 0 10 8 (fun u => (h 0)) (fun u => u.1 8) (fun u v => (st_I u 8 v)) := fun _ => ⟨_, rfl, rfl, Nat.le_of_ble_eq_true rfl, fun _ => rfl⟩
