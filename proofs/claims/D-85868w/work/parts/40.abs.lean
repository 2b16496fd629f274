set_option maxRecDepth 100000
/-! ===== plain: the disk ===== -/
/-- cells, fuse, written, down -/
abbrev DS : Type := (Nat → Int32) × Int32 × Int32 × Int32
def wr1 (d : DS) (a : Nat) (x : Int32) : DS := (upd d.1 a x, (if d.2.1 ≤ 0 then d.2.1 else d.2.1 - 1), d.2.2.1 + 1, d.2.2.2)
def wdn (d : DS) : DS := (d.1, d.2.1, d.2.2.1, 1)
/-- writes one by one, up to the cut -/
def doW : DS → List (Nat × Int32) → DS × Bool
  | d, [] => (d, true)
  | d, w :: ws => if d.2.1 = 0 then (wdn d, false) else doW (wr1 d w.1 w.2) ws
theorem doW_app (ws vs : List (Nat × Int32)) : ∀ d, doW d (ws ++ vs) = if (doW d ws).2 then doW (doW d ws).1 vs else doW d ws := by
  induction ws with
  | nil => intro d; simp [doW]
  | cons w ws ih =>
    intro d
    simp only [List.cons_append, doW]
    split
    · simp
    · exact ih _
theorem St.ext4 {a b : St} (h1 : ∀ k, a.1 k = b.1 k) (h2 : ∀ k, a.2.1 k = b.2.1 k) (h3 : ∀ k, a.2.2.1 k = b.2.2.1 k) (h4 : ∀ k, a.2.2.2 k = b.2.2.2 k) : a = b :=
  Prod.ext (funext h1) (Prod.ext (funext h2) (Prod.ext (funext h3) (funext h4)))
/-- the twin's disk -/
def tdO (v : St) : DS := (v.2.1 4, v.1 6, v.1 5, v.1 7)
def tdS (v : St) (d : DS) : St := st_I (st_I (st_I (st_A v 4 d.1) 6 d.2.1) 5 d.2.2.1) 7 d.2.2.2
theorem tdS_I (v : St) (d : DS) (k : Nat) : (tdS v d).1 k = if k = 7 then d.2.2.2 else if k = 5 then d.2.2.1 else if k = 6 then d.2.1 else v.1 k := rfl
theorem tdS_A (v : St) (d : DS) (k : Nat) : (tdS v d).2.1 k = if k = 4 then d.1 else v.2.1 k := rfl
theorem tdO_S (v : St) (d : DS) : tdO (tdS v d) = d := rfl
theorem tdS_O (v : St) : tdS v (tdO v) = v := by
  refine St.ext4 (fun k => ?_) (fun k => ?_) (fun _ => rfl) (fun _ => rfl)
  · rw [tdS_I]; unfold tdO; repeat' split
    all_goals simp_all
  · rw [tdS_A]; unfold tdO; split
    all_goals simp_all
theorem tdS_S (v : St) (d d' : DS) : tdS (tdS v d) d' = tdS v d' := by
  refine St.ext4 (fun k => ?_) (fun k => ?_) (fun _ => rfl) (fun _ => rfl)
  · rw [tdS_I, tdS_I, tdS_I]; repeat' split
    all_goals rfl
  · rw [tdS_A, tdS_A, tdS_A]; split
    all_goals rfl
theorem twr {K : Int32 → St → Prop} {v : St} {d : DS} {a : Nat} {x : Int32} (ha : a < 4096) (h0 : d.2.1 = 0 → K 0 (tdS v (wdn d))) (h1 : ¬ d.2.1 = 0 → K 1 (tdS v (wr1 d a x))) : wp_X12_write (tdS v d) (nI a) x K := by
  have e6 : (tdS v d).1 6 = d.2.1 := rfl
  have hcl : (nI a).toNatClampNeg = a := nI_clamp (by omega)
  unfold wp_X12_write
  rw [e6]
  refine ⟨fun h => ⟨fun h2 => ?_, fun h2 => ?_⟩, fun h => ?_⟩
  · unfold wp_X12_write_31
    refine ⟨vp_in_nI ha (by decide), ?_⟩
    have e : tdS v (wr1 d a x) = st_A (st_I (tdS v d) 5 ((tdS v d).1 5 + 1)) 4 (upd ((tdS v d).2.1 4) (nI a).toNatClampNeg x) := by
      rw [hcl]
      refine St.ext4 (fun k => ?_) (fun k => ?_) (fun _ => rfl) (fun _ => rfl)
      · rw [tdS_I]; simp only [sA1, sI, tdS_I, wr1, if_pos h2]
        by_cases h7 : k = 7
        · subst h7; rfl
        by_cases h5 : k = 5
        · subst h5; rfl
        simp [h7, h5]
      · rw [tdS_A, sA, sIA, tdS_A, tdS_A]; simp only [wr1]
        split <;> rfl
    rw [← e]
    exact h1 h
  · unfold wp_X12_write_31
    refine ⟨vp_in_nI ha (by decide), ?_⟩
    have e : tdS v (wr1 d a x) = st_A (st_I (st_I (tdS v d) 6 (d.2.1 - 1)) 5 ((st_I (tdS v d) 6 (d.2.1 - 1)).1 5 + 1)) 4 (upd ((st_I (tdS v d) 6 (d.2.1 - 1)).2.1 4) (nI a).toNatClampNeg x) := by
      rw [hcl]
      refine St.ext4 (fun k => ?_) (fun k => ?_) (fun _ => rfl) (fun _ => rfl)
      · rw [tdS_I]; simp only [sA1, sI, tdS_I, wr1, if_neg h2]
        by_cases h7 : k = 7
        · subst h7; rfl
        by_cases h5 : k = 5
        · subst h5; rfl
        by_cases h6 : k = 6
        · subst h6; rfl
        simp [h7, h5, h6]
      · simp only [tdS_A, sA, sIA, wr1]
        split <;> rfl
    rw [← e]
    exact h1 h
  · have e : tdS v (wdn d) = st_I (tdS v d) 7 1 := by unfold tdS wdn; rw [stI_I]
    rw [← e]
    exact h0 h
/-- the component's disk -/
def cdO (v : St) : DS := (v.2.1 0, v.1 2, v.1 4, v.1 3)
def cdS (v : St) (d : DS) : St := st_I (st_I (st_I (st_A v 0 d.1) 2 d.2.1) 4 d.2.2.1) 3 d.2.2.2
theorem cdS_I (v : St) (d : DS) (k : Nat) : (cdS v d).1 k = if k = 3 then d.2.2.2 else if k = 4 then d.2.2.1 else if k = 2 then d.2.1 else v.1 k := rfl
theorem cdS_A (v : St) (d : DS) (k : Nat) : (cdS v d).2.1 k = if k = 0 then d.1 else v.2.1 k := rfl
theorem cdO_S (v : St) (d : DS) : cdO (cdS v d) = d := rfl
theorem cdS_O (v : St) : cdS v (cdO v) = v := by
  refine St.ext4 (fun k => ?_) (fun k => ?_) (fun _ => rfl) (fun _ => rfl)
  · rw [cdS_I]; unfold cdO; repeat' split
    all_goals simp_all
  · rw [cdS_A]; unfold cdO; split
    all_goals simp_all
theorem cdS_S (v : St) (d d' : DS) : cdS (cdS v d) d' = cdS v d' := by
  refine St.ext4 (fun k => ?_) (fun k => ?_) (fun _ => rfl) (fun _ => rfl)
  · rw [cdS_I, cdS_I, cdS_I]; repeat' split
    all_goals rfl
  · rw [cdS_A, cdS_A, cdS_A]; split
    all_goals rfl
theorem cwr {K : St → Prop} {E : Nat → St → Prop} {v : St} {d : DS} {a : Nat} {x : Int32} (ha : a < 4096) (h0 : d.2.1 = 0 → E 2 (cdS v (wdn d))) (h1 : ¬ d.2.1 = 0 → K (cdS v (wr1 d a x))) : wp_X2_write (cdS v d) (nI a) x K E := by
  have e6 : (cdS v d).1 2 = d.2.1 := rfl
  have hcl : (nI a).toNatClampNeg = a := nI_clamp (by omega)
  unfold wp_X2_write
  rw [e6]
  refine ⟨fun h => ⟨fun h2 => ?_, fun h2 => ?_⟩, fun h => ?_⟩
  · unfold wp_X2_write_34
    refine ⟨vp_in_nI ha (by decide), ?_⟩
    have e : cdS v (wr1 d a x) = st_I (st_A (cdS v d) 0 (upd ((cdS v d).2.1 0) (nI a).toNatClampNeg x)) 4 ((cdS v d).1 4 + 1) := by
      rw [hcl]
      refine St.ext4 (fun k => ?_) (fun k => ?_) (fun _ => rfl) (fun _ => rfl)
      · rw [cdS_I]; simp only [sA1, sI, cdS_I, wr1, if_pos h2]
        by_cases h7 : k = 3
        · subst h7; rfl
        by_cases h5 : k = 4
        · subst h5; rfl
        simp [h7, h5]
      · rw [cdS_A, sIA, sA, cdS_A, cdS_A]; simp only [wr1]
        split <;> rfl
    rw [← e]
    exact h1 h
  · unfold wp_X2_write_34
    refine ⟨vp_in_nI ha (by decide), ?_⟩
    have e : cdS v (wr1 d a x) = st_I (st_A (st_I (cdS v d) 2 (d.2.1 - 1)) 0 (upd ((st_I (cdS v d) 2 (d.2.1 - 1)).2.1 0) (nI a).toNatClampNeg x)) 4 ((st_I (cdS v d) 2 (d.2.1 - 1)).1 4 + 1) := by
      rw [hcl]
      refine St.ext4 (fun k => ?_) (fun k => ?_) (fun _ => rfl) (fun _ => rfl)
      · rw [cdS_I]; simp only [sA1, sI, cdS_I, wr1, if_neg h2]
        by_cases h7 : k = 3
        · subst h7; rfl
        by_cases h5 : k = 4
        · subst h5; rfl
        by_cases h6 : k = 2
        · subst h6; rfl
        simp [h7, h5, h6]
      · simp only [cdS_A, sA, sIA, wr1]
        split <;> rfl
    rw [← e]
    exact h1 h
  · have e : cdS v (wdn d) = st_I (cdS v d) 3 1 := by unfold cdS wdn; rw [stI_I]
    rw [← e]
    exact h0 h
