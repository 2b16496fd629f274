set_option maxRecDepth 100000
/-! ===== heads, cursor, the two indexes changed about ===== -/
theorem wHs_len (d : Nat → ClassId) (hh : Nat → Nat → Nat) (g : Nat → St) : ∀ n, (wHs d hh g n).length = 3 * n
  | 0 => rfl
  | n + 1 => by
    show (wHs d hh g n ++ wHd d (hh n) (g n)).length = 3 * (n + 1)
    rw [List.length_append, wHs_len d hh g n]
    show 3 * n + 3 = 3 * (n + 1)
    omega
theorem wHs_get {d : Nat → ClassId} {hh : Nat → Nat → Nat} {g : Nat → St} {c : Nat} (hc : c < 3) {i : Nat} : ∀ n, i < n → (wHs d hh g n)[3 * i + c]? = (wHd d (hh i) (g i))[c]?
  | 0, h => absurd h (Nat.not_lt_zero _)
  | n + 1, h => by
    show (wHs d hh g n ++ wHd d (hh n) (g n))[3 * i + c]? = _
    by_cases q : i < n
    · rw [List.getElem?_append_left (by rw [wHs_len]; omega)]
      exact wHs_get hc n q
    · have e : i = n := by omega
      subst e
      rw [List.getElem?_append_right (by rw [wHs_len]; omega), wHs_len, Nat.add_sub_cancel_left]
theorem wHs_congr {d : Nat → ClassId} {hh : Nat → Nat → Nat} {g g' : Nat → St} : ∀ n, (∀ i, i < n → g i = g' i) → wHs d hh g n = wHs d hh g' n
  | 0, _ => rfl
  | n + 1, h => by
    show wHs d hh g n ++ wHd d (hh n) (g n) = wHs d hh g' n ++ wHd d (hh n) (g' n)
    rw [wHs_congr n (fun i hi => h i (Nat.lt_succ_of_lt hi)), h n (Nat.lt_succ_self n)]
theorem wHs_set {d : Nat → ClassId} {hh : Nat → Nat → Nat} {g : Nat → St} {c : Nat} (hc : c < 3) {i : Nat} {a : St} {x : Nat × va_E} (hx : (wHd d (hh i) (g i)).set c x = wHd d (hh i) a) : ∀ n, i < n → (wHs d hh g n).set (3 * i + c) x = wHs d hh (va_up g i a) n
  | 0, h => absurd h (Nat.not_lt_zero _)
  | n + 1, h => by
    show (wHs d hh g n ++ wHd d (hh n) (g n)).set (3 * i + c) x = wHs d hh (va_up g i a) n ++ wHd d (hh n) (va_up g i a n)
    by_cases q : i < n
    · have e : va_up g i a n = g n := if_neg (by omega)
      rw [List.set_append, if_pos (by rw [wHs_len]; omega), wHs_set hc hx n q, e]
    · have e : i = n := by omega
      subst e
      have e1 : va_up g i a i = a := if_pos rfl
      rw [List.set_append, if_neg (by rw [wHs_len]; omega), wHs_len, Nat.add_sub_cancel_left, hx, e1, wHs_congr (g := g) (g' := va_up g i a) i (fun j hj => (if_neg (by omega)).symm)]
theorem wHs_put {d : Nat → ClassId} {hh : Nat → Nat → Nat} {g : Nat → St} {v : St} {i : Nat} {x0 x1 x2 : Nat × va_E} (hx : wHd d (hh i) v = [x0, x1, x2]) : ∀ n, i < n → (((wHs d hh g n).set (3 * i) x0).set (3 * i + 1) x1).set (3 * i + 2) x2 = wHs d hh (va_up g i v) n
  | 0, h => absurd h (Nat.not_lt_zero _)
  | n + 1, h => by
    show (((wHs d hh g n ++ wHd d (hh n) (g n)).set (3 * i) x0).set (3 * i + 1) x1).set (3 * i + 2) x2 = wHs d hh (va_up g i v) n ++ wHd d (hh n) (va_up g i v n)
    by_cases q : i < n
    · have e : va_up g i v n = g n := if_neg (by omega)
      rw [List.set_append, if_pos (by rw [wHs_len]; omega), List.set_append, if_pos (by rw [List.length_set, wHs_len]; omega), List.set_append, if_pos (by rw [List.length_set, List.length_set, wHs_len]; omega), wHs_put hx n q, e]
    · have e : i = n := by omega
      subst e
      have e1 : va_up g i v i = v := if_pos rfl
      rw [List.set_append, if_neg (by rw [wHs_len]; omega), List.set_append, if_neg (by rw [wHs_len]; omega), List.set_append, if_neg (by rw [wHs_len]; omega), wHs_len, Nat.sub_self, Nat.add_sub_cancel_left, Nat.add_sub_cancel_left, e1, hx, wHs_congr (g := g) (g' := va_up g i v) i (fun j hj => (if_neg (by omega)).symm)]
      rfl
theorem set_app46 {A L : va_W} (hA : A.length = 46) (j : Nat) (x : Nat × va_E) : (A ++ L).set (46 + j) x = A ++ L.set j x := by
  rw [List.set_append, if_neg (by omega), hA, Nat.add_sub_cancel_left]
section HD
variable {d : Nat → ClassId} {nh : Nat} {hh : Nat → Nat → Nat} {cf : List Value} {z : Nat → Nat → Nat} {u : PS} {i : Nat}
theorem wP_app : wP d nh hh cf z u = wP0 d nh hh cf z u ++ wHs d hh u.2 nh := rfl
theorem wP0_len : (wP0 d nh hh cf z u).length = 46 := rfl
theorem wP_at (j : Nat) : (wP d nh hh cf z u)[46 + j]? = (wHs d hh u.2 nh)[j]? := by
  rw [wP_app, List.getElem?_append_right (by rw [wP0_len]; omega), wP0_len, Nat.add_sub_cancel_left]
theorem wP_h (hi : i < nh) (c : Nat) (hc : c < 3) : (wP d nh hh cf z u)[46 + (3 * i + c)]? = (wHd d (hh i) (u.2 i))[c]? := by
  rw [wP_at, wHs_get hc nh hi]
theorem wP_h0 (hi : i < nh) : (wP d nh hh cf z u)[46 + 3 * i]? = some (hh i 0, .inr (9, [.ref (hh i 1), .ref (hh i 2), .int ((u.2 i).1 2)])) := wP_h hi 0 (by decide)
theorem wP_hset (hi : i < nh) (c : Nat) (hc : c < 3) {a : St} {x : Nat × va_E} (hx : (wHd d (hh i) (u.2 i)).set c x = wHd d (hh i) a) : (wP d nh hh cf z u).set (46 + (3 * i + c)) x = wP d nh hh cf z (ps_H u i a) := by
  rw [wP_app, set_app46 wP0_len, wHs_set hc hx nh hi]
  rfl
theorem wP_hnd : va_nd [46 + 3 * i, 46 + 3 * i + 1, 46 + 3 * i + 2] = true := by
  simp [va_nd]
end HD
section HL
variable (d : Nat → ClassId) (z : Nat → Nat → Nat) (hh : Nat → Nat → Nat) (cf : List Value) (nh : Nat) {i : Nat}
theorem lhn_PL_2 (hi : i < nh) : LnI (wP d nh hh cf z) (46 + 3 * i) 9 2 (fun _ => hh i 0) (fun u => (u.2 i).1 2) (fun u v => ps_HI u i 2 v) := fun u => ⟨_, wP_h0 hi, rfl, Nat.le_of_ble_eq_true rfl, fun v => wP_hset hi 0 (by decide) (a := st_I (u.2 i) 2 v) rfl⟩
theorem lhr_PL_0 (hi : i < nh) : LnR (wP d nh hh cf z) (46 + 3 * i) 9 0 (fun _ => hh i 0) (fun _ => .ref (hh i 1)) := fun _ => ⟨_, wP_h0 hi, rfl⟩
theorem lhr_PL_1 (hi : i < nh) : LnR (wP d nh hh cf z) (46 + 3 * i) 9 1 (fun _ => hh i 0) (fun _ => .ref (hh i 2)) := fun _ => ⟨_, wP_h0 hi, rfl⟩
theorem lhx_PL_0 (hi : i < nh) : LnX (wP d nh hh cf z) (46 + 3 * i + 1) (fun _ => hh i 1) (d 0) 128 (fun u => (u.2 i).2.1 0) := fun _ => wP_h hi 1 (by decide)
theorem lhx_PL_1 (hi : i < nh) : LnX (wP d nh hh cf z) (46 + 3 * i + 2) (fun _ => hh i 2) (d 0) 128 (fun u => (u.2 i).2.1 1) := fun _ => wP_h hi 2 (by decide)
theorem lhn_PLs_2 (hi : i < nh) : LnI (wPb d nh hh cf z) (46 + 3 * i) 9 2 (fun _ => hh i 0) (fun u => (u.1.2 i).1 2) (fun u v => pb_HI u i 2 v) := fun u => lhn_PL_2 d (sw_A u.2 z) hh cf nh hi u.1
theorem lhr_PLs_0 (hi : i < nh) : LnR (wPb d nh hh cf z) (46 + 3 * i) 9 0 (fun _ => hh i 0) (fun _ => .ref (hh i 1)) := fun u => lhr_PL_0 d (sw_A u.2 z) hh cf nh hi u.1
theorem lhr_PLs_1 (hi : i < nh) : LnR (wPb d nh hh cf z) (46 + 3 * i) 9 1 (fun _ => hh i 0) (fun _ => .ref (hh i 2)) := fun u => lhr_PL_1 d (sw_A u.2 z) hh cf nh hi u.1
theorem lhx_PLs_0 (hi : i < nh) : LnX (wPb d nh hh cf z) (46 + 3 * i + 1) (fun _ => hh i 1) (d 0) 128 (fun u => (u.1.2 i).2.1 0) := fun u => lhx_PL_0 d (sw_A u.2 z) hh cf nh hi u.1
theorem lhx_PLs_1 (hi : i < nh) : LnX (wPb d nh hh cf z) (46 + 3 * i + 2) (fun _ => hh i 2) (d 0) 128 (fun u => (u.1.2 i).2.1 1) := fun u => lhx_PL_1 d (sw_A u.2 z) hh cf nh hi u.1
theorem wP_hpart_PL (hi : i < nh) (u : PS) : ([46 + 3 * i, 46 + 3 * i + 1, 46 + 3 * i + 2] : List Nat).map (fun j => (wP d nh hh cf z u)[j]?) = (wHd d (hh i) (u.2 i)).map some := by
  show [(wP d nh hh cf z u)[46 + (3 * i + 0)]?, (wP d nh hh cf z u)[46 + (3 * i + 1)]?, (wP d nh hh cf z u)[46 + (3 * i + 2)]?] = _
  rw [wP_h hi 0 (by decide), wP_h hi 1 (by decide), wP_h hi 2 (by decide)]
  rfl
theorem wP_hput_PL (hi : i < nh) (u : PS) (v : St) : w_put (wP d nh hh cf z u) [46 + 3 * i, 46 + 3 * i + 1, 46 + 3 * i + 2] (wHd d (hh i) v) = wP d nh hh cf z (ps_H u i v) := by
  show (((wP d nh hh cf z u).set (46 + 3 * i) _).set (46 + (3 * i + 1)) _).set (46 + (3 * i + 2)) _ = _
  rw [wP_app, set_app46 wP0_len, set_app46 wP0_len, set_app46 wP0_len, wHs_put rfl nh hi]
  rfl
theorem wP_hpart_PLs (hi : i < nh) (u : PS × Bool) : ([46 + 3 * i, 46 + 3 * i + 1, 46 + 3 * i + 2] : List Nat).map (fun j => (wPb d nh hh cf z u)[j]?) = (wHd d (hh i) (u.1.2 i)).map some := wP_hpart_PL d (sw_A u.2 z) hh cf nh hi u.1
theorem wP_hput_PLs (hi : i < nh) (u : PS × Bool) (v : St) : w_put (wPb d nh hh cf z u) [46 + 3 * i, 46 + 3 * i + 1, 46 + 3 * i + 2] (wHd d (hh i) v) = wPb d nh hh cf z (pb_H u i v) := wP_hput_PL d (sw_A u.2 z) hh cf nh hi u.1 v
end HL
theorem cu_N {f : Int32} {a : Nat} (h : f = 0) : cu_R f a = .null := if_pos h
theorem cu_P {f : Int32} {a : Nat} (h : ¬ f = 0) : cu_R f a = .ref a := if_neg h
/-- the world's cells in another order -/
theorem wd_nodup {A : Nat → Prop} {ws : va_W} (h : va_D A ws) : (ws.map Prod.fst).Nodup := by
  refine List.pairwise_iff_getElem.mpr fun i j hi hj hij he => ?_
  rw [List.length_map] at hi hj
  rw [List.getElem_map, List.getElem_map] at he
  have := h.1 i j _ _ (List.getElem?_eq_getElem hi) (List.getElem?_eq_getElem hj) he
  omega
theorem wd_of_nodup {ws : va_W} (h : (ws.map Prod.fst).Nodup) : ∀ (i j : Nat) (p q : Nat × va_E), ws[i]? = some p → ws[j]? = some q → p.1 = q.1 → i = j := by
  intro i j p q hi hj he
  obtain ⟨hil, rfl⟩ := List.getElem?_eq_some_iff.mp hi
  obtain ⟨hjl, rfl⟩ := List.getElem?_eq_some_iff.mp hj
  have h := List.pairwise_iff_getElem.mp h
  have hil' : i < (ws.map Prod.fst).length := by rw [List.length_map]; exact hil
  have hjl' : j < (ws.map Prod.fst).length := by rw [List.length_map]; exact hjl
  rcases Nat.lt_trichotomy i j with q | q | q
  · exact absurd (by rw [List.getElem_map, List.getElem_map]; exact he) (h i j hil' hjl' q)
  · exact q
  · exact absurd (by rw [List.getElem_map, List.getElem_map]; exact he.symm) (h j i hjl' hil' q)
theorem Wd.perm {dC : Nat → ClassId} {dI : Nat → Nat → Nat} {A : Nat → Prop} {ws ws' : va_W} {s : State} {H : Heap} {locs : List Loc} (h : Wd dC dI A ws s H locs) (hp : ws.Perm ws') : Wd dC dI A ws' s H locs := by
  refine ⟨fun k q hq => ?_, ⟨wd_of_nodup ((hp.map Prod.fst).nodup_iff.mp (wd_nodup h.2.1)), fun k q hq => ?_⟩, h.2.2⟩
  · obtain ⟨k', hk'⟩ := List.getElem?_of_mem (hp.mem_iff.mpr (List.mem_of_getElem? hq))
    exact h.1 k' q hk'
  · obtain ⟨k', hk'⟩ := List.getElem?_of_mem (hp.mem_iff.mpr (List.mem_of_getElem? hq))
    exact h.2.1.2 k' q hk'
theorem perm_swap4 (a x y r : va_W) : (a ++ (x ++ (y ++ r))).Perm (a ++ (y ++ (x ++ r))) := by
  refine List.Perm.append_left a ?_
  rw [← List.append_assoc, ← List.append_assoc]
  exact List.Perm.append_right r List.perm_append_comm
def pb_sw (u : PS × Bool) : PS × Bool := ((sw_S u.1.1, u.1.2), !u.2)
/-- the first cell, an object, with one field written -/
def w_h0 (ws : va_W) (k : Nat) (v : Value) : va_W := match ws with
  | (a, .inr (ci, fs)) :: r => (a, .inr (ci, fs.set k v)) :: r
  | r => r
section KH
variable {p : Program} {l : Launch} {e : Env} {R : Room} {s : State} {m : MethodId} {args : Array Value} {below : List Frame} {meth : Method} {c : Code} {H : Heap} {locs : List Loc} {cells slots : Nat} {Q : State → Prop}
variable {cc : ByteArray} {own : String} {nL : Nat} {ret : Option FieldType} {A : Nat → Prop} {dC : Nat → ClassId} {dI : Nat → Nat → Nat} {d : Nat → ClassId} {ws : va_W} {pc : Nat} {ls : Array Slot} {rest : List Value}
variable {nh : Nat} {hh : Nat → Nat → Nat} {cf : List Value} {z : Nat → Nat → Nat}
theorem k_hald_PL {u : PS} (cx : Cx p s m args meth c cc own nL ret A dC dI d) (hw : Wd dC dI A (wP d nh hh cf z u) s H locs) {i : Int32} (hin : vp_in i nh) (hdg : decode cc pc = .ok (.aaload, 1))
    (kk : W p l e R s m args below meth c H locs cells slots Q (F0 m (pc + 1) ls (.ref (hh i.toNatClampNeg 0) :: rest))) : W p l e R s m args below meth c H locs cells slots Q (F0 m pc ls (.int i :: .ref (z 0 3) :: rest)) :=
  va_aldq cx.1 cx.2.1 cx.2.2.2.2.2.1.1 hw.1 3 6 rfl rfl hin hdg kk
theorem k_hald_PLs {u : PS × Bool} (cx : Cx p s m args meth c cc own nL ret A dC dI d) (hw : Wd dC dI A (wPb d nh hh cf z u) s H locs) {i : Int32} (hin : vp_in i nh) (hdg : decode cc pc = .ok (.aaload, 1))
    (kk : W p l e R s m args below meth c H locs cells slots Q (F0 m (pc + 1) ls (.ref (hh i.toNatClampNeg 0) :: rest))) : W p l e R s m args below meth c H locs cells slots Q (F0 m pc ls (.int i :: .ref (z 0 3) :: rest)) :=
  va_aldq cx.1 cx.2.1 cx.2.2.2.2.2.1.1 hw.1 3 6 rfl rfl hin hdg kk
theorem wP_cuN (u : PS) : w_h0 (wP d nh hh cf z u) 17 .null = wP d nh hh cf z (ps_I u 0 17 0) := by
  have h : cu_R (((ps_I u 0 17 0).1 0).1 17) (z 9 0) = .null := cu_N rfl
  unfold wP wPl0
  rw [h]
  rfl
theorem wP_cuR (u : PS) : w_h0 (wP d nh hh cf z u) 17 (.ref (z 9 0)) = wP d nh hh cf z (ps_I u 0 17 1) := by
  have h : cu_R (((ps_I u 0 17 1).1 0).1 17) (z 9 0) = .ref (z 9 0) := cu_P (by show ¬ (1 : Int32) = 0; decide)
  unfold wP wPl0
  rw [h]
  rfl
theorem k_putCuN_PL {u : PS} (cx : Cx p s m args meth c cc own nL ret A dC dI d) (hw : Wd dC dI A (wP d nh hh cf z u) s H locs) {index : Nat} (hlink : Cond.fieldLink own index "PointLedger" "cursor" "LPointLedger$Walk;" ∈ lw_all) (hdg : decode cc pc = .ok (.putfield index, 3))
    (kk : ∀ (H : Heap) (locs : List Loc), Wd dC dI A (wP d nh hh cf z (ps_I u 0 17 0)) s H locs → W p l e R s m args below meth c H locs cells slots Q (F0 m (pc + 3) ls rest)) : W p l e R s m args below meth c H locs cells slots Q (F0 m pc ls (.null :: .ref (z 0 0) :: rest)) :=
  va_put cx.1 cx.2.1 cx.2.2.2.2.1 in_X1 tyX1 tyX1_ok nmX1 cx.2.2.2.1 cx.2.2.2.2.2.1.1 hw.1 hw.2.1 hw.2.2 0 rfl rfl 17 (by decide) (cx.2.2.2.2.1 _ hlink) (fun _ h => h) rfl (tyX1_ok 17 (by decide)) rfl rfl (Nat.le_of_ble_eq_true rfl) hdg (fun H1 locs1 g1 g2 g3 => kk H1 locs1 ⟨by rw [← wP_cuN u]; exact g1, by rw [← wP_cuN u]; exact g2, g3⟩)
theorem k_putCuR_PL {u : PS} (cx : Cx p s m args meth c cc own nL ret A dC dI d) (hw : Wd dC dI A (wP d nh hh cf z u) s H locs) {index : Nat} (hlink : Cond.fieldLink own index "PointLedger" "cursor" "LPointLedger$Walk;" ∈ lw_all) (hdg : decode cc pc = .ok (.putfield index, 3))
    (kk : ∀ (H : Heap) (locs : List Loc), Wd dC dI A (wP d nh hh cf z (ps_I u 0 17 1)) s H locs → W p l e R s m args below meth c H locs cells slots Q (F0 m (pc + 3) ls rest)) : W p l e R s m args below meth c H locs cells slots Q (F0 m pc ls (.ref (z 9 0) :: .ref (z 0 0) :: rest)) :=
  va_put cx.1 cx.2.1 cx.2.2.2.2.1 in_X1 tyX1 tyX1_ok nmX1 cx.2.2.2.1 cx.2.2.2.2.2.1.1 hw.1 hw.2.1 hw.2.2 0 rfl rfl 17 (by decide) (cx.2.2.2.2.1 _ hlink) (fun _ h => h) rfl (tyX1_ok 17 (by decide)) rfl rfl (Nat.le_of_ble_eq_true rfl) hdg (fun H1 locs1 g1 g2 g3 => kk H1 locs1 ⟨by rw [← wP_cuR u]; exact g1, by rw [← wP_cuR u]; exact g2, g3⟩)
theorem k_putCuN_PLs {u : PS × Bool} (cx : Cx p s m args meth c cc own nL ret A dC dI d) (hw : Wd dC dI A (wPb d nh hh cf z u) s H locs) {index : Nat} (hlink : Cond.fieldLink own index "PointLedger" "cursor" "LPointLedger$Walk;" ∈ lw_all) (hdg : decode cc pc = .ok (.putfield index, 3))
    (kk : ∀ (H : Heap) (locs : List Loc), Wd dC dI A (wPb d nh hh cf z (pb_I u 0 17 0)) s H locs → W p l e R s m args below meth c H locs cells slots Q (F0 m (pc + 3) ls rest)) : W p l e R s m args below meth c H locs cells slots Q (F0 m pc ls (.null :: .ref (z 0 0) :: rest)) :=
  k_putCuN_PL (z := sw_A u.2 z) (u := u.1) cx hw hlink hdg kk
/-- now = next; next = was: between the two -/
def wSw (d : Nat → ClassId) (nh : Nat) (hh : Nat → Nat → Nat) (cf : List Value) (z : Nat → Nat → Nat) (u : PS × Bool) : va_W := w_h0 (wPb d nh hh cf z u) 7 (.ref (sw_A u.2 z 6 0))
theorem k_putNow {u : PS × Bool} (cx : Cx p s m args meth c cc own nL ret A dC dI d) (hw : Wd dC dI A (wPb d nh hh cf z u) s H locs) {index : Nat} (hlink : Cond.fieldLink own index "PointLedger" "now" "LPointLedger$Index;" ∈ lw_all) (hdg : decode cc pc = .ok (.putfield index, 3))
    (kk : ∀ (H : Heap) (locs : List Loc), Wd dC dI A (wSw d nh hh cf z u) s H locs → W p l e R s m args below meth c H locs cells slots Q (F0 m (pc + 3) ls rest)) : W p l e R s m args below meth c H locs cells slots Q (F0 m pc ls (.ref (sw_A u.2 z 6 0) :: .ref (z 0 0) :: rest)) :=
  va_put cx.1 cx.2.1 cx.2.2.2.2.1 in_X1 tyX1 tyX1_ok nmX1 cx.2.2.2.1 cx.2.2.2.2.2.1.1 hw.1 hw.2.1 hw.2.2 0 rfl rfl 7 (by decide) (cx.2.2.2.2.1 _ hlink) (fun _ h => h) rfl (tyX1_ok 7 (by decide)) rfl rfl (Nat.le_of_ble_eq_true rfl) hdg (fun H1 locs1 g1 g2 g3 => kk H1 locs1 ⟨g1, g2, g3⟩)
theorem wSw_perm (u : PS × Bool) : (w_h0 (wSw d nh hh cf z u) 8 (.ref (sw_A u.2 z 4 0))).Perm (wPb d nh hh cf z (pb_sw u)) := by
  obtain ⟨⟨u1, u2⟩, b⟩ := u
  cases b
  · exact perm_swap4 (w_h0 (w_h0 (wPl0 d ((sw_A false z) 0) (sw_A false z) nh hh (u1 0)) 7 (.ref (sw_A false z 6 0))) 8 (.ref (sw_A false z 4 0)) ++ (wDk d ((sw_A false z) 1) cf (u1 1) ++ (wPk d ((sw_A false z) 2) (u1 2) ++ wUn d ((sw_A false z) 3) ((sw_A false z) 1 1) (u1 3)))) (wIx d ((sw_A false z) 4) ((sw_A false z) 5 0) (u1 4) ++ wSp d ((sw_A false z) 5) (u1 5)) (wIx d ((sw_A false z) 6) ((sw_A false z) 7 0) (u1 6) ++ wSp d ((sw_A false z) 7) (u1 7)) (wSp d ((sw_A false z) 8) (u1 8) ++ (wWk d ((sw_A false z) 9) ((sw_A false z) 10 0) ((sw_A false z) 0 0) (u1 9) ++ (wUn d ((sw_A false z) 10) ((sw_A false z) 1 1) (u1 10) ++ (wTo d ((sw_A false z) 11) ((sw_A false z) 0 0) (u1 11) ++ (wHs d hh u2 nh)))))
  · exact perm_swap4 (w_h0 (w_h0 (wPl0 d ((sw_A true z) 0) (sw_A true z) nh hh (u1 0)) 7 (.ref (sw_A true z 6 0))) 8 (.ref (sw_A true z 4 0)) ++ (wDk d ((sw_A true z) 1) cf (u1 1) ++ (wPk d ((sw_A true z) 2) (u1 2) ++ wUn d ((sw_A true z) 3) ((sw_A true z) 1 1) (u1 3)))) (wIx d ((sw_A true z) 4) ((sw_A true z) 5 0) (u1 4) ++ wSp d ((sw_A true z) 5) (u1 5)) (wIx d ((sw_A true z) 6) ((sw_A true z) 7 0) (u1 6) ++ wSp d ((sw_A true z) 7) (u1 7)) (wSp d ((sw_A true z) 8) (u1 8) ++ (wWk d ((sw_A true z) 9) ((sw_A true z) 10 0) ((sw_A true z) 0 0) (u1 9) ++ (wUn d ((sw_A true z) 10) ((sw_A true z) 1 1) (u1 10) ++ (wTo d ((sw_A true z) 11) ((sw_A true z) 0 0) (u1 11) ++ (wHs d hh u2 nh)))))
theorem k_putNext {u : PS × Bool} (cx : Cx p s m args meth c cc own nL ret A dC dI d) (hw : Wd dC dI A (wSw d nh hh cf z u) s H locs) {index : Nat} (hlink : Cond.fieldLink own index "PointLedger" "next" "LPointLedger$Index;" ∈ lw_all) (hdg : decode cc pc = .ok (.putfield index, 3))
    (kk : ∀ (H : Heap) (locs : List Loc), Wd dC dI A (wPb d nh hh cf z (pb_sw u)) s H locs → W p l e R s m args below meth c H locs cells slots Q (F0 m (pc + 3) ls rest)) : W p l e R s m args below meth c H locs cells slots Q (F0 m pc ls (.ref (sw_A u.2 z 4 0) :: .ref (z 0 0) :: rest)) :=
  va_put cx.1 cx.2.1 cx.2.2.2.2.1 in_X1 tyX1 tyX1_ok nmX1 cx.2.2.2.1 cx.2.2.2.2.2.1.1 hw.1 hw.2.1 hw.2.2 0 rfl rfl 8 (by decide) (cx.2.2.2.2.1 _ hlink) (fun _ h => h) rfl (tyX1_ok 8 (by decide)) rfl rfl (Nat.le_of_ble_eq_true rfl) hdg (fun H1 locs1 g1 g2 g3 => kk H1 locs1 (Wd.perm (ws := w_h0 (wSw d nh hh cf z u) 8 (.ref (sw_A u.2 z 4 0))) ⟨g1, g2, g3⟩ (wSw_perm u)))
end KH
