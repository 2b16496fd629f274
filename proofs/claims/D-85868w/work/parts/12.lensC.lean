set_option maxRecDepth 100000
theorem lr_X8_this_4 (d : Nat → ClassId) (h : Nat → Nat) : LnR (wSp d h) 0 6 4 (fun u => (h 0)) (fun u => .ref (h 5)) := fun _ => ⟨_, rfl, rfl⟩
theorem ln_X8_this_4 (d : Nat → ClassId) (h : Nat → Nat) : LnA (wSp d h) 5 (fun u => (h 5)) (d 1) 96 (fun u => u.2.1 4) (fun u f => (st_A u 4 f)) := fun _ => ⟨rfl, fun _ => rfl⟩
theorem lr_X8_this_5 (d : Nat → ClassId) (h : Nat → Nat) : LnR (wSp d h) 0 6 5 (fun u => (h 0)) (fun u => .ref (h 6)) := fun _ => ⟨_, rfl, rfl⟩
theorem ln_X8_this_5 (d : Nat → ClassId) (h : Nat → Nat) : LnB (wSp d h) 6 (fun u => (h 6)) (d 2) 96 (fun u => u.2.2.2 5) (fun u f => (st_B u 5 f)) := fun _ => ⟨rfl, fun _ => rfl⟩
theorem lx_X8_this_4 (d : Nat → ClassId) (h : Nat → Nat) : LnX (wSp d h) 5 (fun u => (h 5)) (d 1) 96 (fun u => u.2.1 4) := fun _ => rfl
theorem lr_X8_this_0 (d : Nat → ClassId) (h : Nat → Nat) : LnR (wSp d h) 0 6 0 (fun u => (h 0)) (fun u => .ref (h 1)) := fun _ => ⟨_, rfl, rfl⟩
theorem ln_X8_this_0 (d : Nat → ClassId) (h : Nat → Nat) : LnA (wSp d h) 1 (fun u => (h 1)) (d 0) 96 (fun u => u.2.1 0) (fun u f => (st_A u 0 f)) := fun _ => ⟨rfl, fun _ => rfl⟩
theorem lr_X8_this_1 (d : Nat → ClassId) (h : Nat → Nat) : LnR (wSp d h) 0 6 1 (fun u => (h 0)) (fun u => .ref (h 2)) := fun _ => ⟨_, rfl, rfl⟩
theorem ln_X8_this_1 (d : Nat → ClassId) (h : Nat → Nat) : LnA (wSp d h) 2 (fun u => (h 2)) (d 0) 96 (fun u => u.2.1 1) (fun u f => (st_A u 1 f)) := fun _ => ⟨rfl, fun _ => rfl⟩
theorem lr_X8_this_2 (d : Nat → ClassId) (h : Nat → Nat) : LnR (wSp d h) 0 6 2 (fun u => (h 0)) (fun u => .ref (h 3)) := fun _ => ⟨_, rfl, rfl⟩
theorem lx_X8_this_2 (d : Nat → ClassId) (h : Nat → Nat) : LnX (wSp d h) 3 (fun u => (h 3)) (d 0) 96 (fun u => u.2.1 2) := fun _ => rfl
theorem ln_X8_this_2 (d : Nat → ClassId) (h : Nat → Nat) : LnA (wSp d h) 3 (fun u => (h 3)) (d 0) 96 (fun u => u.2.1 2) (fun u f => (st_A u 2 f)) := fun _ => ⟨rfl, fun _ => rfl⟩
theorem lr_X8_this_3 (d : Nat → ClassId) (h : Nat → Nat) : LnR (wSp d h) 0 6 3 (fun u => (h 0)) (fun u => .ref (h 4)) := fun _ => ⟨_, rfl, rfl⟩
theorem lx_X8_this_3 (d : Nat → ClassId) (h : Nat → Nat) : LnX (wSp d h) 4 (fun u => (h 4)) (d 0) 96 (fun u => u.2.1 3) := fun _ => rfl
theorem ln_X8_this_3 (d : Nat → ClassId) (h : Nat → Nat) : LnA (wSp d h) 4 (fun u => (h 4)) (d 0) 96 (fun u => u.2.1 3) (fun u f => (st_A u 3 f)) := fun _ => ⟨rfl, fun _ => rfl⟩
theorem lx_X8_this_5 (d : Nat → ClassId) (h : Nat → Nat) : LnY (wSp d h) 6 (fun u => (h 6)) (d 2) 96 (fun u => u.2.2.2 5) := fun _ => rfl
theorem lx_X8_this_1 (d : Nat → ClassId) (h : Nat → Nat) : LnX (wSp d h) 2 (fun u => (h 2)) (d 0) 96 (fun u => u.2.1 1) := fun _ => rfl
theorem lx_X8_this_0 (d : Nat → ClassId) (h : Nat → Nat) : LnX (wSp d h) 1 (fun u => (h 1)) (d 0) 96 (fun u => u.2.1 0) := fun _ => rfl
theorem lr_X8j_this_4 (d : Nat → ClassId) (h h2 : Nat → Nat) (b : St) : LnR (wf_X8j d h h2 b) 0 6 4 (fun u => (h 0)) (fun u => .ref (h 5)) := fun _ => ⟨_, rfl, rfl⟩
theorem lx_X8j_this_4 (d : Nat → ClassId) (h h2 : Nat → Nat) (b : St) : LnX (wf_X8j d h h2 b) 5 (fun u => (h 5)) (d 1) 96 (fun u => u.2.1 4) := fun _ => rfl
theorem lr_X8j_this_0 (d : Nat → ClassId) (h h2 : Nat → Nat) (b : St) : LnR (wf_X8j d h h2 b) 0 6 0 (fun u => (h 0)) (fun u => .ref (h 1)) := fun _ => ⟨_, rfl, rfl⟩
theorem lr_X8j_other_0 (d : Nat → ClassId) (h h2 : Nat → Nat) (b : St) : LnR (wf_X8j d h h2 b) 7 6 0 (fun u => (h2 0)) (fun u => .ref (h2 1)) := fun _ => ⟨_, rfl, rfl⟩
theorem lx_X8j_other_0 (d : Nat → ClassId) (h h2 : Nat → Nat) (b : St) : LnX (wf_X8j d h h2 b) 8 (fun u => (h2 1)) (d 0) 96 (fun u => b.2.1 0) := fun _ => rfl
theorem ln_X8j_this_0 (d : Nat → ClassId) (h h2 : Nat → Nat) (b : St) : LnA (wf_X8j d h h2 b) 1 (fun u => (h 1)) (d 0) 96 (fun u => u.2.1 0) (fun u f => (st_A u 0 f)) := fun _ => ⟨rfl, fun _ => rfl⟩
theorem lr_X8j_this_1 (d : Nat → ClassId) (h h2 : Nat → Nat) (b : St) : LnR (wf_X8j d h h2 b) 0 6 1 (fun u => (h 0)) (fun u => .ref (h 2)) := fun _ => ⟨_, rfl, rfl⟩
theorem lr_X8j_other_1 (d : Nat → ClassId) (h h2 : Nat → Nat) (b : St) : LnR (wf_X8j d h h2 b) 7 6 1 (fun u => (h2 0)) (fun u => .ref (h2 2)) := fun _ => ⟨_, rfl, rfl⟩
theorem lx_X8j_other_1 (d : Nat → ClassId) (h h2 : Nat → Nat) (b : St) : LnX (wf_X8j d h h2 b) 9 (fun u => (h2 2)) (d 0) 96 (fun u => b.2.1 1) := fun _ => rfl
theorem ln_X8j_this_1 (d : Nat → ClassId) (h h2 : Nat → Nat) (b : St) : LnA (wf_X8j d h h2 b) 2 (fun u => (h 2)) (d 0) 96 (fun u => u.2.1 1) (fun u f => (st_A u 1 f)) := fun _ => ⟨rfl, fun _ => rfl⟩
theorem lr_X8j_this_2 (d : Nat → ClassId) (h h2 : Nat → Nat) (b : St) : LnR (wf_X8j d h h2 b) 0 6 2 (fun u => (h 0)) (fun u => .ref (h 3)) := fun _ => ⟨_, rfl, rfl⟩
theorem lx_X8j_this_2 (d : Nat → ClassId) (h h2 : Nat → Nat) (b : St) : LnX (wf_X8j d h h2 b) 3 (fun u => (h 3)) (d 0) 96 (fun u => u.2.1 2) := fun _ => rfl
theorem lr_X8j_other_2 (d : Nat → ClassId) (h h2 : Nat → Nat) (b : St) : LnR (wf_X8j d h h2 b) 7 6 2 (fun u => (h2 0)) (fun u => .ref (h2 3)) := fun _ => ⟨_, rfl, rfl⟩
theorem lx_X8j_other_2 (d : Nat → ClassId) (h h2 : Nat → Nat) (b : St) : LnX (wf_X8j d h h2 b) 10 (fun u => (h2 3)) (d 0) 96 (fun u => b.2.1 2) := fun _ => rfl
theorem ln_X8j_this_2 (d : Nat → ClassId) (h h2 : Nat → Nat) (b : St) : LnA (wf_X8j d h h2 b) 3 (fun u => (h 3)) (d 0) 96 (fun u => u.2.1 2) (fun u f => (st_A u 2 f)) := fun _ => ⟨rfl, fun _ => rfl⟩
theorem lr_X8j_this_3 (d : Nat → ClassId) (h h2 : Nat → Nat) (b : St) : LnR (wf_X8j d h h2 b) 0 6 3 (fun u => (h 0)) (fun u => .ref (h 4)) := fun _ => ⟨_, rfl, rfl⟩
theorem lx_X8j_this_3 (d : Nat → ClassId) (h h2 : Nat → Nat) (b : St) : LnX (wf_X8j d h h2 b) 4 (fun u => (h 4)) (d 0) 96 (fun u => u.2.1 3) := fun _ => rfl
theorem lr_X8j_other_3 (d : Nat → ClassId) (h h2 : Nat → Nat) (b : St) : LnR (wf_X8j d h h2 b) 7 6 3 (fun u => (h2 0)) (fun u => .ref (h2 4)) := fun _ => ⟨_, rfl, rfl⟩
theorem lx_X8j_other_3 (d : Nat → ClassId) (h h2 : Nat → Nat) (b : St) : LnX (wf_X8j d h h2 b) 11 (fun u => (h2 4)) (d 0) 96 (fun u => b.2.1 3) := fun _ => rfl
theorem ln_X8j_this_3 (d : Nat → ClassId) (h h2 : Nat → Nat) (b : St) : LnA (wf_X8j d h h2 b) 4 (fun u => (h 4)) (d 0) 96 (fun u => u.2.1 3) (fun u f => (st_A u 3 f)) := fun _ => ⟨rfl, fun _ => rfl⟩
theorem lr_X8j_other_4 (d : Nat → ClassId) (h h2 : Nat → Nat) (b : St) : LnR (wf_X8j d h h2 b) 7 6 4 (fun u => (h2 0)) (fun u => .ref (h2 5)) := fun _ => ⟨_, rfl, rfl⟩
theorem lx_X8j_other_4 (d : Nat → ClassId) (h h2 : Nat → Nat) (b : St) : LnX (wf_X8j d h h2 b) 12 (fun u => (h2 5)) (d 1) 96 (fun u => b.2.1 4) := fun _ => rfl
theorem ln_X8j_this_4 (d : Nat → ClassId) (h h2 : Nat → Nat) (b : St) : LnA (wf_X8j d h h2 b) 5 (fun u => (h 5)) (d 1) 96 (fun u => u.2.1 4) (fun u f => (st_A u 4 f)) := fun _ => ⟨rfl, fun _ => rfl⟩
theorem lr_X8j_this_5 (d : Nat → ClassId) (h h2 : Nat → Nat) (b : St) : LnR (wf_X8j d h h2 b) 0 6 5 (fun u => (h 0)) (fun u => .ref (h 6)) := fun _ => ⟨_, rfl, rfl⟩
theorem lx_X8j_this_5 (d : Nat → ClassId) (h h2 : Nat → Nat) (b : St) : LnY (wf_X8j d h h2 b) 6 (fun u => (h 6)) (d 2) 96 (fun u => u.2.2.2 5) := fun _ => rfl
theorem lr_X8j_other_5 (d : Nat → ClassId) (h h2 : Nat → Nat) (b : St) : LnR (wf_X8j d h h2 b) 7 6 5 (fun u => (h2 0)) (fun u => .ref (h2 6)) := fun _ => ⟨_, rfl, rfl⟩
theorem lx_X8j_other_5 (d : Nat → ClassId) (h h2 : Nat → Nat) (b : St) : LnY (wf_X8j d h h2 b) 13 (fun u => (h2 6)) (d 2) 96 (fun u => b.2.2.2 5) := fun _ => rfl
theorem ln_X8j_this_5 (d : Nat → ClassId) (h h2 : Nat → Nat) (b : St) : LnB (wf_X8j d h h2 b) 6 (fun u => (h 6)) (d 2) 96 (fun u => u.2.2.2 5) (fun u f => (st_B u 5 f)) := fun _ => ⟨rfl, fun _ => rfl⟩
theorem ln_X7_this_5 (d : Nat → ClassId) (h h2 : Nat → Nat) : LnI (wf_X7 d h h2) 0 5 5 (fun u => (h 0)) (fun u => u.1.1 5) (fun u v => (p1_I u 5 v)) := fun _ => ⟨_, rfl, rfl, Nat.le_of_ble_eq_true rfl, fun _ => rfl⟩
theorem lr_X7_this_1 (d : Nat → ClassId) (h h2 : Nat → Nat) : LnR (wf_X7 d h h2) 0 5 1 (fun u => (h 0)) (fun u => .ref (h 1)) := fun _ => ⟨_, rfl, rfl⟩
theorem ln_X7_this_1 (d : Nat → ClassId) (h h2 : Nat → Nat) : LnA (wf_X7 d h h2) 1 (fun u => (h 1)) (d 3) 96 (fun u => u.1.2.1 1) (fun u f => (p1_A u 1 f)) := fun _ => ⟨rfl, fun _ => rfl⟩
theorem lr_X7_this_4 (d : Nat → ClassId) (h h2 : Nat → Nat) : LnR (wf_X7 d h h2) 0 5 4 (fun u => (h 0)) (fun u => .ref (h 4)) := fun _ => ⟨_, rfl, rfl⟩
theorem ln_X7_this_4 (d : Nat → ClassId) (h h2 : Nat → Nat) : LnA (wf_X7 d h h2) 4 (fun u => (h 4)) (d 0) 96 (fun u => u.1.2.1 4) (fun u f => (p1_A u 4 f)) := fun _ => ⟨rfl, fun _ => rfl⟩
theorem lr_X7_this_0 (d : Nat → ClassId) (h h2 : Nat → Nat) : LnR (wf_X7 d h h2) 0 5 0 (fun u => (h 0)) (fun u => .ref (h2 0)) := fun _ => ⟨_, rfl, rfl⟩
theorem pc_X7_X8_spans (d : Nat → ClassId) (h h2 : Nat → Nat) (u : St × St) : ([6, 7, 8, 9, 10, 11, 12] : List Nat).map (fun i => ((wf_X7 d h h2) u)[i]?) = ((wSp d h2) u.2).map some := rfl
theorem pw_X7_X8_spans (d : Nat → ClassId) (h h2 : Nat → Nat) (u : St × St) (v : St) : w_put ((wf_X7 d h h2) u) [6, 7, 8, 9, 10, 11, 12] ((wSp d h2) v) = (wf_X7 d h h2) (p2_O u v) := rfl
theorem lx_X7_this_1 (d : Nat → ClassId) (h h2 : Nat → Nat) : LnX (wf_X7 d h h2) 1 (fun u => (h 1)) (d 3) 96 (fun u => u.1.2.1 1) := fun _ => rfl
theorem lr_X7_this_6 (d : Nat → ClassId) (h h2 : Nat → Nat) : LnR (wf_X7 d h h2) 0 5 6 (fun u => (h 0)) (fun u => .ref (h 5)) := fun _ => ⟨_, rfl, rfl⟩
theorem ln_X7_this_6 (d : Nat → ClassId) (h h2 : Nat → Nat) : LnA (wf_X7 d h h2) 5 (fun u => (h 5)) (d 0) 9 (fun u => u.1.2.1 6) (fun u f => (p1_A u 6 f)) := fun _ => ⟨rfl, fun _ => rfl⟩
theorem lr_X7c_other_1 (d : Nat → ClassId) (h h2 h3 h4 : Nat → Nat) (b b2 : St) : LnR (wf_X7c d h h2 h3 h4 b b2) 13 5 1 (fun u => (h3 0)) (fun u => .ref (h3 1)) := fun _ => ⟨_, rfl, rfl⟩
theorem lx_X7c_other_1 (d : Nat → ClassId) (h h2 h3 h4 : Nat → Nat) (b b2 : St) : LnX (wf_X7c d h h2 h3 h4 b b2) 14 (fun u => (h3 1)) (d 3) 96 (fun u => b.2.1 1) := fun _ => rfl
theorem pc_X7c_X7_this_spans (d : Nat → ClassId) (h h2 h3 h4 : Nat → Nat) (b b2 : St) (u : St × St) : ([0, 1, 2, 3, 4, 5, 6, 7, 8, 9, 10, 11, 12] : List Nat).map (fun i => ((wf_X7c d h h2 h3 h4 b b2) u)[i]?) = ((wf_X7 d h h2) (u.1, u.2)).map some := rfl
theorem pw_X7c_X7_this_spans (d : Nat → ClassId) (h h2 h3 h4 : Nat → Nat) (b b2 : St) (u : St × St) (v : St × St) : w_put ((wf_X7c d h h2 h3 h4 b b2) u) [0, 1, 2, 3, 4, 5, 6, 7, 8, 9, 10, 11, 12] ((wf_X7 d h h2) v) = (wf_X7c d h h2 h3 h4 b b2) v := rfl
theorem lr_X7c_this_0 (d : Nat → ClassId) (h h2 h3 h4 : Nat → Nat) (b b2 : St) : LnR (wf_X7c d h h2 h3 h4 b b2) 0 5 0 (fun u => (h 0)) (fun u => .ref (h2 0)) := fun _ => ⟨_, rfl, rfl⟩
theorem ln_X7c_this_5 (d : Nat → ClassId) (h h2 h3 h4 : Nat → Nat) (b b2 : St) : LnI (wf_X7c d h h2 h3 h4 b b2) 0 5 5 (fun u => (h 0)) (fun u => u.1.1 5) (fun u v => (p1_I u 5 v)) := fun _ => ⟨_, rfl, rfl, Nat.le_of_ble_eq_true rfl, fun _ => rfl⟩
theorem lr_X7c_other_0 (d : Nat → ClassId) (h h2 h3 h4 : Nat → Nat) (b b2 : St) : LnR (wf_X7c d h h2 h3 h4 b b2) 13 5 0 (fun u => (h3 0)) (fun u => .ref (h4 0)) := fun _ => ⟨_, rfl, rfl⟩
theorem pc_X7c_X8j_spans_ospans (d : Nat → ClassId) (h h2 h3 h4 : Nat → Nat) (b b2 : St) (u : St × St) : ([6, 7, 8, 9, 10, 11, 12, 19, 20, 21, 22, 23, 24, 25] : List Nat).map (fun i => ((wf_X7c d h h2 h3 h4 b b2) u)[i]?) = ((wf_X8j d h2 h4 b2) u.2).map some := rfl
theorem pw_X7c_X8j_spans_ospans (d : Nat → ClassId) (h h2 h3 h4 : Nat → Nat) (b b2 : St) (u : St × St) (v : St) : w_put ((wf_X7c d h h2 h3 h4 b b2) u) [6, 7, 8, 9, 10, 11, 12, 19, 20, 21, 22, 23, 24, 25] ((wf_X8j d h2 h4 b2) v) = (wf_X7c d h h2 h3 h4 b b2) (p2_O u v) := rfl
theorem lr_X7c_this_2 (d : Nat → ClassId) (h h2 h3 h4 : Nat → Nat) (b b2 : St) : LnR (wf_X7c d h h2 h3 h4 b b2) 0 5 2 (fun u => (h 0)) (fun u => .ref (h 2)) := fun _ => ⟨_, rfl, rfl⟩
theorem lr_X7c_other_2 (d : Nat → ClassId) (h h2 h3 h4 : Nat → Nat) (b b2 : St) : LnR (wf_X7c d h h2 h3 h4 b b2) 13 5 2 (fun u => (h3 0)) (fun u => .ref (h3 2)) := fun _ => ⟨_, rfl, rfl⟩
theorem lx_X7c_other_2 (d : Nat → ClassId) (h h2 h3 h4 : Nat → Nat) (b b2 : St) : LnX (wf_X7c d h h2 h3 h4 b b2) 15 (fun u => (h3 2)) (d 4) 96 (fun u => b.2.1 2) := fun _ => rfl
theorem ln_X7c_this_2 (d : Nat → ClassId) (h h2 h3 h4 : Nat → Nat) (b b2 : St) : LnA (wf_X7c d h h2 h3 h4 b b2) 2 (fun u => (h 2)) (d 4) 96 (fun u => u.1.2.1 2) (fun u f => (p1_A u 2 f)) := fun _ => ⟨rfl, fun _ => rfl⟩
theorem lr_X7c_this_3 (d : Nat → ClassId) (h h2 h3 h4 : Nat → Nat) (b b2 : St) : LnR (wf_X7c d h h2 h3 h4 b b2) 0 5 3 (fun u => (h 0)) (fun u => .ref (h 3)) := fun _ => ⟨_, rfl, rfl⟩
theorem lr_X7c_other_3 (d : Nat → ClassId) (h h2 h3 h4 : Nat → Nat) (b b2 : St) : LnR (wf_X7c d h h2 h3 h4 b b2) 13 5 3 (fun u => (h3 0)) (fun u => .ref (h3 3)) := fun _ => ⟨_, rfl, rfl⟩
theorem lx_X7c_other_3 (d : Nat → ClassId) (h h2 h3 h4 : Nat → Nat) (b b2 : St) : LnX (wf_X7c d h h2 h3 h4 b b2) 16 (fun u => (h3 3)) (d 1) 96 (fun u => b.2.1 3) := fun _ => rfl
theorem ln_X7c_this_3 (d : Nat → ClassId) (h h2 h3 h4 : Nat → Nat) (b b2 : St) : LnA (wf_X7c d h h2 h3 h4 b b2) 3 (fun u => (h 3)) (d 1) 96 (fun u => u.1.2.1 3) (fun u f => (p1_A u 3 f)) := fun _ => ⟨rfl, fun _ => rfl⟩
theorem ln_X4_this_1 (d : Nat → ClassId) (h : Nat → Nat) : LnI (wPk d h) 0 3 1 (fun u => (h 0)) (fun u => u.1 1) (fun u v => (st_I u 1 v)) := fun _ => ⟨_, rfl, rfl, Nat.le_of_ble_eq_true rfl, fun _ => rfl⟩
theorem ln_X4_this_2 (d : Nat → ClassId) (h : Nat → Nat) : LnI (wPk d h) 0 3 2 (fun u => (h 0)) (fun u => u.1 2) (fun u v => (st_I u 2 v)) := fun _ => ⟨_, rfl, rfl, Nat.le_of_ble_eq_true rfl, fun _ => rfl⟩
theorem ln_X4_this_3 (d : Nat → ClassId) (h : Nat → Nat) : LnI (wPk d h) 0 3 3 (fun u => (h 0)) (fun u => u.1 3) (fun u v => (st_I u 3 v)) := fun _ => ⟨_, rfl, rfl, Nat.le_of_ble_eq_true rfl, fun _ => rfl⟩
theorem ln_X4_this_6 (d : Nat → ClassId) (h : Nat → Nat) : LnJ (wPk d h) 0 3 6 (fun u => (h 0)) (fun u => u.2.2.1 6) (fun u v => (st_L u 6 v)) := fun _ => ⟨_, rfl, rfl, Nat.le_of_ble_eq_true rfl, fun _ => rfl⟩
theorem lr_X4_this_0 (d : Nat → ClassId) (h : Nat → Nat) : LnR (wPk d h) 0 3 0 (fun u => (h 0)) (fun u => .ref (h 1)) := fun _ => ⟨_, rfl, rfl⟩
theorem ln_X4_this_0 (d : Nat → ClassId) (h : Nat → Nat) : LnA (wPk d h) 1 (fun u => (h 1)) (d 0) 2560 (fun u => u.2.1 0) (fun u f => (st_A u 0 f)) := fun _ => ⟨rfl, fun _ => rfl⟩
theorem lx_X4_this_0 (d : Nat → ClassId) (h : Nat → Nat) : LnX (wPk d h) 1 (fun u => (h 1)) (d 0) 2560 (fun u => u.2.1 0) := fun _ => rfl
theorem ln_X4_this_4 (d : Nat → ClassId) (h : Nat → Nat) : LnI (wPk d h) 0 3 4 (fun u => (h 0)) (fun u => u.1 4) (fun u v => (st_I u 4 v)) := fun _ => ⟨_, rfl, rfl, Nat.le_of_ble_eq_true rfl, fun _ => rfl⟩
theorem ln_X4_this_5 (d : Nat → ClassId) (h : Nat → Nat) : LnI (wPk d h) 0 3 5 (fun u => (h 0)) (fun u => u.1 5) (fun u v => (st_I u 5 v)) := fun _ => ⟨_, rfl, rfl, Nat.le_of_ble_eq_true rfl, fun _ => rfl⟩
theorem lr_X11_this_0 (d : Nat → ClassId) (h : Nat → Nat) : LnR (wHd d h) 0 9 0 (fun u => (h 0)) (fun u => .ref (h 1)) := fun _ => ⟨_, rfl, rfl⟩
theorem ln_X11_this_2 (d : Nat → ClassId) (h : Nat → Nat) : LnI (wHd d h) 0 9 2 (fun u => (h 0)) (fun u => u.1 2) (fun u v => (st_I u 2 v)) := fun _ => ⟨_, rfl, rfl, Nat.le_of_ble_eq_true rfl, fun _ => rfl⟩
theorem ln_X11_this_0 (d : Nat → ClassId) (h : Nat → Nat) : LnA (wHd d h) 1 (fun u => (h 1)) (d 0) 128 (fun u => u.2.1 0) (fun u f => (st_A u 0 f)) := fun _ => ⟨rfl, fun _ => rfl⟩
theorem lr_X11_this_1 (d : Nat → ClassId) (h : Nat → Nat) : LnR (wHd d h) 0 9 1 (fun u => (h 0)) (fun u => .ref (h 2)) := fun _ => ⟨_, rfl, rfl⟩
theorem ln_X11_this_1 (d : Nat → ClassId) (h : Nat → Nat) : LnA (wHd d h) 2 (fun u => (h 2)) (d 0) 128 (fun u => u.2.1 1) (fun u f => (st_A u 1 f)) := fun _ => ⟨rfl, fun _ => rfl⟩
theorem ln_X10_this_0 (d : Nat → ClassId) (h : Nat → Nat) (g : Nat) : LnI (wTo d h g) 0 8 0 (fun u => (h 0)) (fun u => u.1 0) (fun u v => (st_I u 0 v)) := fun _ => ⟨_, rfl, rfl, Nat.le_of_ble_eq_true rfl, fun _ => rfl⟩
theorem ln_X10_this_1 (d : Nat → ClassId) (h : Nat → Nat) (g : Nat) : LnI (wTo d h g) 0 8 1 (fun u => (h 0)) (fun u => u.1 1) (fun u v => (st_I u 1 v)) := fun _ => ⟨_, rfl, rfl, Nat.le_of_ble_eq_true rfl, fun _ => rfl⟩
theorem ln_X10_this_2 (d : Nat → ClassId) (h : Nat → Nat) (g : Nat) : LnI (wTo d h g) 0 8 2 (fun u => (h 0)) (fun u => u.1 2) (fun u v => (st_I u 2 v)) := fun _ => ⟨_, rfl, rfl, Nat.le_of_ble_eq_true rfl, fun _ => rfl⟩
theorem ln_X10_this_3 (d : Nat → ClassId) (h : Nat → Nat) (g : Nat) : LnJ (wTo d h g) 0 8 3 (fun u => (h 0)) (fun u => u.2.2.1 3) (fun u v => (st_L u 3 v)) := fun _ => ⟨_, rfl, rfl, Nat.le_of_ble_eq_true rfl, fun _ => rfl⟩
theorem ln_X10j_this_0 (d : Nat → ClassId) (h : Nat → Nat) (g : Nat) (h2 : Nat → Nat) (b : St) : LnI (wf_X10j d h g h2 b) 0 8 0 (fun u => (h 0)) (fun u => u.1 0) (fun u v => (st_I u 0 v)) := fun _ => ⟨_, rfl, rfl, Nat.le_of_ble_eq_true rfl, fun _ => rfl⟩
theorem ln_X10j_this_1 (d : Nat → ClassId) (h : Nat → Nat) (g : Nat) (h2 : Nat → Nat) (b : St) : LnI (wf_X10j d h g h2 b) 0 8 1 (fun u => (h 0)) (fun u => u.1 1) (fun u v => (st_I u 1 v)) := fun _ => ⟨_, rfl, rfl, Nat.le_of_ble_eq_true rfl, fun _ => rfl⟩
theorem lr_X10j_other_2 (d : Nat → ClassId) (h : Nat → Nat) (g : Nat) (h2 : Nat → Nat) (b : St) : LnR (wf_X10j d h g h2 b) 1 6 2 (fun u => (h2 0)) (fun u => .ref (h2 3)) := fun _ => ⟨_, rfl, rfl⟩
theorem lx_X10j_other_2 (d : Nat → ClassId) (h : Nat → Nat) (g : Nat) (h2 : Nat → Nat) (b : St) : LnX (wf_X10j d h g h2 b) 4 (fun u => (h2 3)) (d 0) 96 (fun u => b.2.1 2) := fun _ => rfl
theorem ln_X10j_this_2 (d : Nat → ClassId) (h : Nat → Nat) (g : Nat) (h2 : Nat → Nat) (b : St) : LnI (wf_X10j d h g h2 b) 0 8 2 (fun u => (h 0)) (fun u => u.1 2) (fun u v => (st_I u 2 v)) := fun _ => ⟨_, rfl, rfl, Nat.le_of_ble_eq_true rfl, fun _ => rfl⟩
theorem lr_X10j_other_3 (d : Nat → ClassId) (h : Nat → Nat) (g : Nat) (h2 : Nat → Nat) (b : St) : LnR (wf_X10j d h g h2 b) 1 6 3 (fun u => (h2 0)) (fun u => .ref (h2 4)) := fun _ => ⟨_, rfl, rfl⟩
theorem lx_X10j_other_3 (d : Nat → ClassId) (h : Nat → Nat) (g : Nat) (h2 : Nat → Nat) (b : St) : LnX (wf_X10j d h g h2 b) 5 (fun u => (h2 4)) (d 0) 96 (fun u => b.2.1 3) := fun _ => rfl
theorem lr_X10j_other_4 (d : Nat → ClassId) (h : Nat → Nat) (g : Nat) (h2 : Nat → Nat) (b : St) : LnR (wf_X10j d h g h2 b) 1 6 4 (fun u => (h2 0)) (fun u => .ref (h2 5)) := fun _ => ⟨_, rfl, rfl⟩
theorem lx_X10j_other_4 (d : Nat → ClassId) (h : Nat → Nat) (g : Nat) (h2 : Nat → Nat) (b : St) : LnX (wf_X10j d h g h2 b) 6 (fun u => (h2 5)) (d 1) 96 (fun u => b.2.1 4) := fun _ => rfl
theorem ln_X10j_this_3 (d : Nat → ClassId) (h : Nat → Nat) (g : Nat) (h2 : Nat → Nat) (b : St) : LnJ (wf_X10j d h g h2 b) 0 8 3 (fun u => (h 0)) (fun u => u.2.2.1 3) (fun u v => (st_L u 3 v)) := fun _ => ⟨_, rfl, rfl, Nat.le_of_ble_eq_true rfl, fun _ => rfl⟩
theorem lr_X10j_other_5 (d : Nat → ClassId) (h : Nat → Nat) (g : Nat) (h2 : Nat → Nat) (b : St) : LnR (wf_X10j d h g h2 b) 1 6 5 (fun u => (h2 0)) (fun u => .ref (h2 6)) := fun _ => ⟨_, rfl, rfl⟩
theorem lx_X10j_other_5 (d : Nat → ClassId) (h : Nat → Nat) (g : Nat) (h2 : Nat → Nat) (b : St) : LnY (wf_X10j d h g h2 b) 7 (fun u => (h2 6)) (d 2) 96 (fun u => b.2.2.2 5) := fun _ => rfl
theorem ln_X6_this_4 (d : Nat → ClassId) (h : Nat → Nat) (g : Nat) (b : Nat → Int32) : LnI (wf_X6 d h g b) 0 4 4 (fun u => (h 0)) (fun u => u.1 4) (fun u v => (st_I u 4 v)) := fun _ => ⟨_, rfl, rfl, Nat.le_of_ble_eq_true rfl, fun _ => rfl⟩
theorem ln_X6_this_3 (d : Nat → ClassId) (h : Nat → Nat) (g : Nat) (b : Nat → Int32) : LnI (wf_X6 d h g b) 0 4 3 (fun u => (h 0)) (fun u => u.1 3) (fun u v => (st_I u 3 v)) := fun _ => ⟨_, rfl, rfl, Nat.le_of_ble_eq_true rfl, fun _ => rfl⟩
theorem ln_X6_this_5 (d : Nat → ClassId) (h : Nat → Nat) (g : Nat) (b : Nat → Int32) : LnI (wf_X6 d h g b) 0 4 5 (fun u => (h 0)) (fun u => u.1 5) (fun u v => (st_I u 5 v)) := fun _ => ⟨_, rfl, rfl, Nat.le_of_ble_eq_true rfl, fun _ => rfl⟩
theorem ln_X6_this_6 (d : Nat → ClassId) (h : Nat → Nat) (g : Nat) (b : Nat → Int32) : LnJ (wf_X6 d h g b) 0 4 6 (fun u => (h 0)) (fun u => u.2.2.1 6) (fun u v => (st_L u 6 v)) := fun _ => ⟨_, rfl, rfl, Nat.le_of_ble_eq_true rfl, fun _ => rfl⟩
theorem lr_X6_this_2 (d : Nat → ClassId) (h : Nat → Nat) (g : Nat) (b : Nat → Int32) : LnR (wf_X6 d h g b) 0 4 2 (fun u => (h 0)) (fun u => .ref g) := fun _ => ⟨_, rfl, rfl⟩
theorem lx_X6_ext (d : Nat → ClassId) (h : Nat → Nat) (g : Nat) (b : Nat → Int32) : LnX (wf_X6 d h g b) 1 (fun _ => g) (d 0) 4096 (fun _ => b) := fun _ => rfl
theorem ln_X6_this_0 (d : Nat → ClassId) (h : Nat → Nat) (g : Nat) (b : Nat → Int32) : LnI (wf_X6 d h g b) 0 4 0 (fun u => (h 0)) (fun u => u.1 0) (fun u v => (st_I u 0 v)) := fun _ => ⟨_, rfl, rfl, Nat.le_of_ble_eq_true rfl, fun _ => rfl⟩
theorem ln_X6_this_1 (d : Nat → ClassId) (h : Nat → Nat) (g : Nat) (b : Nat → Int32) : LnI (wf_X6 d h g b) 0 4 1 (fun u => (h 0)) (fun u => u.1 1) (fun u v => (st_I u 1 v)) := fun _ => ⟨_, rfl, rfl, Nat.le_of_ble_eq_true rfl, fun _ => rfl⟩
