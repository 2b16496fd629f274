set_option maxRecDepth 100000

def scAt (L : Nat) (xs : Nat → Int32) (k : Int32) : Int32 := if Int32.ofNat L ≤ k then 0 else xs k.toNatClampNeg
def kPc (dC : Nat → ClassId) (dI : Nat → Nat → Nat) (d : Nat → ClassId) (b L : Nat) (xs : Nat → Int32) (av : List Value) (sz : Nat) : Array Value → State → Prop :=
  va_Pc av (fun U => U.heap.size = sz ∧ va_X b L xs U U.heap ∧ b < sz ∧ kE dC dI d U ∧ kS U)
theorem kPc_blind {dC : Nat → ClassId} {dI : Nat → Nat → Nat} {d : Nat → ClassId} {b L : Nat} {xs : Nat → Int32} {av : List Value} {sz : Nat} : FrameBlind (kPc dC dI d b L xs av sz) := fun v U g mk q => by
  obtain ⟨q0, q1, qX, qb, qE, qS⟩ := q
  exact ⟨q0, q1, va_X.moved (u := U) (U := U.calling g mk v) (Vm.Alike.refl U.vm) qX, qb, kE.warm (s := U) (U := U.calling g mk v) (State.WarmedH.refl U) qE, fun q hq a => kS_one (s := U) (U := U.calling g mk v) (Vm.Alike.refl U.vm) (fun _ _ h _ => h) (qS q hq a).1 (qS q hq a).2 a⟩
theorem wd_nil {dC : Nat → ClassId} {dI : Nat → Nat → Nat} {A : Nat → Prop} {s : State} : Wd dC dI A [] s s.heap [] :=
  ⟨fun k q h => absurd h (by simp), ⟨fun _ _ _ _ h => absurd h (by simp), fun k q h => absurd h (by simp)⟩, va_S.rf⟩
theorem sc_in {L : Nat} {k : Int32} (hk : ¬ k < 0) (hL : L < 2 ^ 31) (h : ¬ Int32.ofNat L ≤ k) : vp_in k L := by
  intro q
  rcases q with q | q
  · exact hk q
  · apply h
    rw [Int32.le_iff_toInt_le, Int32.toInt_ofNat_of_lt (by omega)]
    have h0 : 0 ≤ k.toInt := by
      rw [Int32.lt_iff_toInt_lt] at hk
      have e0 : (0 : Int32).toInt = 0 := rfl
      omega
    have : L ≤ k.toInt.toNat := q
    omega
set_option maxHeartbeats 4000000 in
theorem m_X0_cell (l : Launch) (dC : Nat → ClassId) (dI : Nat → Nat → Nat) (d : Nat → ClassId) (b L : Nat) (xs : Nat → Int32) (k : Int32) (hk : ¬ k < 0) (hL : L < 2 ^ 31) (sz : Nat) : Met l yX0_cell (ws_ yX0_cell cX0_cell 2 (some .int)) ({ frames := 0, cells := 0, slots := 0, locals := 0 } : Room) (kPc dC dI d b L xs [.ref b, .int k] sz) (va_Qi (fun r (_ : Unit) => r = scAt L xs k) (kB dC dI (fun _ : Unit => ([] : va_W)) (fun q => sz ≤ q)) (fun q => sz ≤ q)) 0 0 (fun q => sz ≤ q) := by
  refine Met.ofW (cc := cX0_cell) (maxL := 2) (ret := some .int) rfl rfl ?_
  intro p e s m args below meth c s₁ B hml hv
  obtain ⟨rfl, hsz, hX, hbl, hE, hkS⟩ := hv
  have hts := atoms_spec (ws := ws_ yX0_cell cX0_cell 2 (some .int)) B.pre
  subst hsz
  have hl := lv_entry [.ref b, .int k] (n := 2) (Nat.le_of_ble_eq_true rfl)
  rw [lg_entry_eq]
  generalize (lg_sl [.ref b, .int k] ++ List.replicate (2 - (lg_sl [.ref b, .int k]).length) Slot.unset).toArray = ls at hl ⊢
  replace hl : lv_has ls 2 [(0, .ref b), (1, .int k)] := hl
  have cx : Cx p s m ([.ref b, .int k] : List Value).toArray meth c cX0_cell "PointLedgerLaw" 2 (some .int) (fun q => s.heap.size ≤ q) dC dI d := ⟨B.exec, B.bytes, hml, findClass_of_methodNamed B.named, fun w h => hts w (List.mem_cons_of_mem _ h), hE, fun q h => h, B.notSynchronized, B.returns, hkS, fun q cell h h2 => absurd (Array.getElem?_eq_some_iff.mp h2).1 (Nat.not_lt.mpr h)⟩
  have hw : Wd dC dI (fun q => s.heap.size ≤ q) ((fun _ : Unit => ([] : va_W)) ()) s s.heap [] := wd_nil
  have hbA : ¬ (fun q => s.heap.size ≤ q) b := Nat.not_le.mpr hbl
  refine lv_iload_n (pc := 0) cx.1 cx.2.1 dX0_cell_0 rfl (lv_at hl 1 rfl) ?_
  refine lv_aload_n (pc := 1) cx.1 cx.2.1 dX0_cell_1 rfl (lv_at hl 0 rfl) ?_
  refine va_slen (pc := 2) cx.1 cx.2.1 hX hbl hbA hw.2.2 dX0_cell_2 ?_
  refine lv_icmp_ge (pc := 3) (tgt := 12) cx.1 cx.2.1 dX0_cell_3 (by decide) (fun c1 => ?_) (fun c1 => ?_)
  · refine lv_iconst (pc := 12) (v := 0) cx.1 cx.2.1 dX0_cell_12 (by decide) ?_
    exact k_iret (pc := 13) (wf := fun _ : Unit => ([] : va_W)) (K := fun r _ => r = scAt L xs k) (u := ()) cx hw (by unfold scAt; rw [if_pos c1]) (Nat.le_refl _) (Nat.le_refl _) dX0_cell_13
  · refine lv_aload_n (pc := 6) cx.1 cx.2.1 dX0_cell_6 rfl (lv_at hl 0 rfl) ?_
    refine lv_iload_n (pc := 7) cx.1 cx.2.1 dX0_cell_7 rfl (lv_at hl 1 rfl) ?_
    refine va_sld (pc := 8) cx.1 cx.2.1 hX hbl hbA hw.2.2 (sc_in hk hL c1) dX0_cell_8 ?_
    refine lv_goto (pc := 9) (tgt := 13) cx.1 cx.2.1 dX0_cell_9 (by decide) ?_
    exact k_iret (pc := 13) (wf := fun _ : Unit => ([] : va_W)) (K := fun r _ => r = scAt L xs k) (u := ()) cx hw (by unfold scAt; rw [if_neg c1]) (Nat.le_refl _) (Nat.le_refl _) dX0_cell_13
section LC
variable {p : Program} {l : Launch} {e : Env} {R : Room} {s : State} {m : MethodId} {args : Array Value} {below : List Frame} {meth : Method} {c : Code} {H : Heap} {locs : List Loc} {cells slots : Nat} {Q : State → Prop}
variable {A : Nat → Prop} {dC : Nat → ClassId} {dI : Nat → Nat → Nat} {d : Nat → ClassId} {pc : Nat} {ls : Array Slot} {rest : List Value}
/-- the law's call of cell(script, k) -/
theorem l_cell {ret : Option FieldType} (cx : Cx p s m args meth c cL_law "PointLedgerLaw" 8 ret A dC dI d) {ws : va_W} (hw : Wd dC dI A ws s H locs) {b L : Nat} {xs : Nat → Int32} (hX : va_X b L xs s s.heap) (hbl : b < s.heap.size) (hbA : ¬ A b) (hL : L < 2 ^ 31) {k : Int32} (hk : ¬ k < 0) (hsz : ls.size = 8) (hRm : 1 ≤ R.frames ∧ 21 ≤ R.locals) (hrm : (rest.map fun v => v.category).sum ≤ 8) (hdg : decode cL_law pc = .ok (.invokestatic 36, 3)) (hf : cells ≤ R.cells ∧ slots ≤ R.slots)
    (kk : ∀ (H : Heap) (locs : List Loc), Wd dC dI A ws s H locs → W p l e R s m args below meth c H locs cells slots Q (F0 m (pc + 3) ls (.int (scAt L xs k) :: rest))) : W p l e R s m args below meth c H locs cells slots Q (F0 m pc ls (.int k :: .ref b :: rest)) := by
  have hsz1 : s.heap.size ≤ H.size := hw.2.2.1
  have hr := va_runS (g := F0 m pc ls (.int k :: .ref b :: rest)) (As := [.ref b, .int k]) (rest := rest) (locs := locs) (cells := cells) (slots := slots) (R := R) (e := e) (below := below) (meth := meth) ⟨cx.1, cx.2.1, cx.2.2.1, cx.2.2.2.1, cx.2.2.2.2.1⟩ (m_X0_cell l dC dI d b L xs k hk hL H.size) (va_cwS 2 cx.2.2.2.2.1 (lw_S q861 q862 q74 q863) rfl rfl rfl hdS_X0_cell ⟨hRm.1, hRm.2⟩) ⟨kPc_blind, fun U hU hW => ⟨rfl, by rw [hU], by rw [hU]; exact (hX.kept (hw.2.2.2.1 b hbl hbA)).moved hW.alike, Nat.lt_of_lt_of_le hbl hsz1, kE.warm hW cx.2.2.2.2.2.1, kS_at cx.2.2.2.2.2.2.2.2.2.1 cx.2.2.2.2.2.2.2.2.2.2 hw.2.2 hU hW⟩⟩ rfl rfl hsz rfl (lv_room (m := m) (pc := pc) (ls := ls) (rest := _) hrm) hdg hf
  refine va_calli (S := Unit) hr hw.2.2 (fun q h1 h2 => absurd h1 (Nat.not_lt.mpr h2)) (fun q h => cx.2.2.2.2.2.2.1 q (Nat.le_trans hsz1 h)) (fun r u' t H1 locs1 ht _ hK hB _ hk9 hS => ?_)
  subst hK
  refine kk H1 locs1 ⟨hw.1.kept (fun k q hq => ?_), hw.2.1, hS⟩
  have hlt := (hw.1 k q hq).lt
  exact hk9 q.1 hlt (Nat.not_le.mpr hlt)
end LC

def wp_op0 (nh : Nat) (p1 p2 p3 : Int32) (w : (PS × Bool) × (Nat → Int64) × St) (K : (PS × Bool) × (Nat → Int64) × St → Prop) : Prop := wp_X1_append nh w.1.1 p1 p2 p3 (fun r1 u2 => wp_X12_append w.2.2 p1 p2 p3 (fun r3 v4 => r1 = r3 ∧ (K ((u2, w.1.2), w.2.1, v4))))
def wp_op1 (nh : Nat) (p1 p2 p3 : Int32) (w : (PS × Bool) × (Nat → Int64) × St) (K : (PS × Bool) × (Nat → Int64) × St → Prop) : Prop := wp_X1_flush nh w.1  (fun r1 u2 => wp_X12_flush w.2.2  (fun r3 v4 => r1 = r3 ∧ (K (u2, w.2.1, v4))))
def wp_op2 (nh : Nat) (p1 p2 p3 : Int32) (w : (PS × Bool) × (Nat → Int64) × St) (K : (PS × Bool) × (Nat → Int64) × St → Prop) : Prop := wp_X1_compact nh w.1 p1 (fun r1 u2 => wp_X12_compact w.2.2 p1 (fun r3 v4 => r1 = r3 ∧ (K (u2, w.2.1, v4))))
def wp_op3 (nh : Nat) (p1 p2 p3 : Int32) (w : (PS × Bool) × (Nat → Int64) × St) (K : (PS × Bool) × (Nat → Int64) × St → Prop) : Prop := wp_X1_expire nh w.1 p1 (fun r1 u2 => wp_X12_expire w.2.2 p1 (fun r3 v4 => r1 = r3 ∧ (K (u2, w.2.1, v4))))
def wp_op4 (nh : Nat) (p1 p2 p3 : Int32) (w : (PS × Bool) × (Nat → Int64) × St) (K : (PS × Bool) × (Nat → Int64) × St → Prop) : Prop := wp_X1_seek nh w.1.1 p1 p2 p3 (fun r1 u2 => wp_X12_seek w.2.2 p1 p2 p3 (fun r3 v4 => r1 = r3 ∧ (K ((u2, w.1.2), w.2.1, v4))))
def wp_op5 (nh : Nat) (p1 p2 p3 : Int32) (w : (PS × Bool) × (Nat → Int64) × St) (K : (PS × Bool) × (Nat → Int64) × St → Prop) : Prop := wp_X1_next nh w.1.1  (fun r1 u2 => wp_X12_next w.2.2  (fun r3 v4 => r1 = r3 ∧ (K ((u2, w.1.2), w.2.1, v4))))
def wp_op6 (nh : Nat) (p1 p2 p3 : Int32) (w : (PS × Bool) × (Nat → Int64) × St) (K : (PS × Bool) × (Nat → Int64) × St → Prop) : Prop := wp_X1_curTime nh w.1.1  (fun r1 u2 => wp_X12_curTime w.2.2  (fun r3 v4 => r1 = r3 ∧ (K ((u2, w.1.2), w.2.1, v4))))
def wp_op7 (nh : Nat) (p1 p2 p3 : Int32) (w : (PS × Bool) × (Nat → Int64) × St) (K : (PS × Bool) × (Nat → Int64) × St → Prop) : Prop := wp_X1_curVal nh w.1.1  (fun r1 u2 => wp_X12_curVal w.2.2  (fun r3 v4 => r1 = r3 ∧ (K ((u2, w.1.2), w.2.1, v4))))
def wp_op8 (nh : Nat) (p1 p2 p3 : Int32) (w : (PS × Bool) × (Nat → Int64) × St) (K : (PS × Bool) × (Nat → Int64) × St → Prop) : Prop := wp_X1_aggCount nh w.1.1 p1 p2 p3 (fun r1 u2 => wp_X12_aggCount w.2.2 p1 p2 p3 (fun r3 v4 => r1 = r3 ∧ (K ((u2, w.1.2), w.2.1, v4))))
def wp_op9 (nh : Nat) (p1 p2 p3 : Int32) (w : (PS × Bool) × (Nat → Int64) × St) (K : (PS × Bool) × (Nat → Int64) × St → Prop) : Prop := wp_X0_aggMin nh (w.1.1, w.2.1) p1 p2 p3 (fun r1 u2 => wp_X12_aggMin w.2.2 p1 p2 p3 (fun r3 v4 => wp_X12_thrown v4  (fun r5 v6 => r5 = r1 ∧ ((r1 ≠ 0 → K ((u2.1, w.1.2), u2.2, v6)) ∧ (r1 = 0 → ((u2.2 0) = r3.toInt64 ∧ (K ((u2.1, w.1.2), u2.2, v6))))))))
def wp_op10 (nh : Nat) (p1 p2 p3 : Int32) (w : (PS × Bool) × (Nat → Int64) × St) (K : (PS × Bool) × (Nat → Int64) × St → Prop) : Prop := wp_X0_aggMax nh (w.1.1, w.2.1) p1 p2 p3 (fun r1 u2 => wp_X12_aggMax w.2.2 p1 p2 p3 (fun r3 v4 => wp_X12_thrown v4  (fun r5 v6 => r5 = r1 ∧ ((r1 ≠ 0 → K ((u2.1, w.1.2), u2.2, v6)) ∧ (r1 = 0 → ((u2.2 0) = r3.toInt64 ∧ (K ((u2.1, w.1.2), u2.2, v6))))))))
def wp_op11 (nh : Nat) (p1 p2 p3 : Int32) (w : (PS × Bool) × (Nat → Int64) × St) (K : (PS × Bool) × (Nat → Int64) × St → Prop) : Prop := wp_X0_aggSum nh (w.1.1, w.2.1) p1 p2 p3 (fun r1 u2 => wp_X12_aggSum w.2.2 p1 p2 p3 (fun r3 v4 => wp_X12_thrown v4  (fun r5 v6 => r5 = r1 ∧ ((r1 ≠ 0 → K ((u2.1, w.1.2), u2.2, v6)) ∧ (r1 = 0 → ((u2.2 0) = r3 ∧ (K ((u2.1, w.1.2), u2.2, v6))))))))
def wp_op12 (nh : Nat) (p1 p2 p3 : Int32) (w : (PS × Bool) × (Nat → Int64) × St) (K : (PS × Bool) × (Nat → Int64) × St → Prop) : Prop := wp_X1_crashAfter nh w.1.1 p1 (fun r1 u2 => wp_X12_crashAfter w.2.2 p1 (fun r3 v4 => r1 = r3 ∧ (K ((u2, w.1.2), w.2.1, v4))))
def wp_op13 (nh : Nat) (p1 p2 p3 : Int32) (w : (PS × Bool) × (Nat → Int64) × St) (K : (PS × Bool) × (Nat → Int64) × St → Prop) : Prop := wp_X1_recover nh w.1.1  (fun r1 u2 => wp_X12_recover w.2.2  (fun r3 v4 => r1 = r3 ∧ (K ((u2, w.1.2), w.2.1, v4))))
def wp_op14 (nh : Nat) (p1 p2 p3 : Int32) (w : (PS × Bool) × (Nat → Int64) × St) (K : (PS × Bool) × (Nat → Int64) × St → Prop) : Prop := wp_X1_cell nh w.1.1 p1 (fun r1 u2 => wp_X12_cell w.2.2 p1 (fun r3 v4 => r1 = r3 ∧ (K ((u2, w.1.2), w.2.1, v4))))
def wp_op15 (nh : Nat) (p1 p2 p3 : Int32) (w : (PS × Bool) × (Nat → Int64) × St) (K : (PS × Bool) × (Nat → Int64) × St → Prop) : Prop := wp_X0_sizes nh (w.1.1, w.2.1) p1 p2 (fun r1 u2 => wp_X12_sizes w.2.2 p1 p2 (fun r3 v4 => wp_X12_thrown v4  (fun r5 v6 => r5 = r1 ∧ ((r1 ≠ 0 → K ((u2.1, w.1.2), u2.2, v6)) ∧ (r1 = 0 → ((u2.2 0) = r3.toInt64 ∧ (K ((u2.1, w.1.2), u2.2, v6))))))))
def wp_op16 (nh : Nat) (p1 p2 p3 : Int32) (w : (PS × Bool) × (Nat → Int64) × St) (K : (PS × Bool) × (Nat → Int64) × St → Prop) : Prop := wp_X0_chunk nh (w.1.1, w.2.1) p1 p2 p3 (fun r1 u2 => wp_X12_chunk w.2.2 p1 p2 p3 (fun r3 v4 => wp_X12_thrown v4  (fun r5 v6 => r5 = r1 ∧ ((r1 ≠ 0 → K ((u2.1, w.1.2), u2.2, v6)) ∧ (r1 = 0 → ((u2.2 0) = r3.toInt64 ∧ (K ((u2.1, w.1.2), u2.2, v6))))))))
def wp_op17 (nh : Nat) (p1 p2 p3 : Int32) (w : (PS × Bool) × (Nat → Int64) × St) (K : (PS × Bool) × (Nat → Int64) × St → Prop) : Prop := wp_X0_group nh (w.1.1, w.2.1) p1 p2 p3 (fun r1 u2 => wp_X12_group w.2.2 p1 p2 p3 (fun r3 v4 => wp_X12_thrown v4  (fun r5 v6 => r5 = r1 ∧ ((r1 ≠ 0 → K ((u2.1, w.1.2), u2.2, v6)) ∧ (r1 = 0 → ((u2.2 0) = r3.toInt64 ∧ (K ((u2.1, w.1.2), u2.2, v6))))))))
def wp_op18 (nh : Nat) (p1 p2 p3 : Int32) (w : (PS × Bool) × (Nat → Int64) × St) (K : (PS × Bool) × (Nat → Int64) × St → Prop) : Prop := wp_X1_look nh w.1.1 p1 (fun r1 u2 => wp_X12_look w.2.2 p1 (fun r3 v4 => r1 = r3 ∧ (K ((u2, w.1.2), w.2.1, v4))))
