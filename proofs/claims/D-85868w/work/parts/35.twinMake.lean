set_option maxRecDepth 100000
theorem bo_get (v : Int64) : ∀ (n j : Nat), j < n → (bo v n).getD j false = lb v (n - 1 - j)
  | n + 1, 0, _ => by simp [bo]
  | n + 1, j + 1, h => by
    have := bo_get v n j (by omega)
    rw [show n + 1 - 1 - (j + 1) = n - 1 - j by omega, ← this]
    simp [bo]
theorem lb_t (t : Int32) (k : Nat) (hk : k < 32) : lb t.toInt64 k = t.toBitVec.getLsbD k := by
  show (t.toBitVec.signExtend 64).getLsbD k = _
  rw [BitVec.getLsbD_signExtend]
  simp [hk, show k < 64 by omega]
theorem wOf_hdr (t : Int32) (r : List Bool) : wOf (bo t.toInt64 32 ++ r) 0 = t := by
  apply tb_ext
  intro j hj
  rw [tb_wOf _ _ _ hj, gD_app1 _ _ _ _ (by rw [bo_len]; omega), Nat.mul_zero, Nat.zero_add, bo_get _ _ _ hj, lb_t _ _ (by omega)]
  rfl
theorem wOf_shift (l r : List Bool) (k i : Nat) (h : l.length = 32 * k) : wOf (l ++ r) (k + i) = wOf r i := by
  apply tb_ext
  intro j hj
  rw [tb_wOf _ _ _ hj, tb_wOf _ _ _ hj, gD_app2 _ _ _ _ (by omega)]
  congr 1
  omega
/-- slot c of the twin holds the points ps -/
def SlotP (u : St) (c : Nat) (ps : List (Int32 × Int32)) : Prop := u.2.1 12 c = nI ps.length ∧ ∀ (i : Nat) (p : Int32 × Int32), ps[i]? = some p → u.2.1 15 (64 * c + i) = p.1 ∧ u.2.1 16 (64 * c + i) = p.2
/-- times rise -/
def Asc (ps : List (Int32 × Int32)) : Prop := ps.Pairwise (fun a b => a.1 < b.1)
theorem make_loop {K : Int32 → St → Prop} {u0 : St} {c : Nat} {ps : List (Int32 × Int32)} (hc : c < 240) (hS : SlotP u0 c ps) (hA : Asc ps) (hlen : ps.length ≤ 64) (hdr : List Bool) (hh : hdr.length = 64)
    (hK : ∀ (u' : St) (bs : List Bool), enc ps = hdr ++ bs → TkB u0 u' bs → K (nI (cel (enc ps).length)) u') :
    ∀ (rest d : List (Int32 × Int32)) (t v : Int32) (r : Int64) (bs : List Bool) (u : St), ps = (d ++ [(t, v)]) ++ rest → esL (d ++ [(t, v)]) = (false, t, v, r, hdr ++ bs) → 0 ≤ r.toInt ∧ r.toInt < 4294967296 → TkB u0 u bs →
      wp_X12_make_39 K (rest.length + 1) (nI c) (nI (64 * c)) r (nI (d.length + 1)) u := by
  intro rest
  induction rest with
  | nil =>
    intro d t v r bs u hps he hr hT
    rw [List.append_nil] at hps
    have hm : u.2.1 12 (nI c).toNatClampNeg = nI ps.length := by
      rw [nI_clamp (by omega)]
      obtain ⟨f, rfl, -, -⟩ := hT
      exact hS.1
    have hl : ps.length = d.length + 1 := by rw [hps]; simp
    have henc : enc ps = hdr ++ bs := by rw [hps]; unfold enc; rw [he]
    unfold wp_X12_make_39
    refine ⟨vp_in_nI hc (by decide), fun _ => ?_, fun h => absurd (by rw [hm, hl]; exact Int32.le_refl _) h⟩
    unfold wp_X12_make_117
    have hb : u.1 34 = nI bs.length := by obtain ⟨f, rfl, -, -⟩ := hT; rfl
    have hel := enc_len ps
    have hel2 : (enc ps).length = 64 + bs.length := by rw [henc, List.length_append, hh]
    have e1 : nI bs.length + 31 = nI (bs.length + 31) := nI_add _ 31
    have e2 : (2 : Int32) + (u.1 34 + 31) / 32 = nI (cel (enc ps).length) := by
      rw [hb, e1, d32 (by omega), show (2 : Int32) + nI ((bs.length + 31) / 32) = nI (2 + (bs.length + 31) / 32) from nI_add 2 _, hel2]
      unfold cel
      congr 1
      omega
    rw [e2]
    exact hK u bs henc hT
  | cons q rest ih =>
    intro d t v r bs u hps he hr hT
    have hl : ps.length = d.length + 1 + (rest.length + 1) := by rw [hps]; simp; omega
    have hcl : (nI c).toNatClampNeg = c := nI_clamp (by omega)
    have g0 : ps[d.length]? = some (t, v) := by rw [hps]; simp
    have g1 : ps[d.length + 1]? = some q := by rw [hps, List.append_assoc, List.getElem?_append_right (by omega)]; simp
    obtain ⟨s0, s1⟩ := hS.2 _ _ g0
    replace s0 : u0.2.1 15 (64 * c + d.length) = t := s0
    replace s1 : u0.2.1 16 (64 * c + d.length) = v := s1
    obtain ⟨s2, s3⟩ := hS.2 _ _ g1
    have f12 : ∀ u, TkB u0 u bs → u.2.1 12 = u0.2.1 12 ∧ u.2.1 15 = u0.2.1 15 ∧ u.2.1 16 = u0.2.1 16 := fun u h => by obtain ⟨f, rfl, -, -⟩ := h; exact ⟨rfl, rfl, rfl⟩
    obtain ⟨f1, f2, f3⟩ := f12 u hT
    have e1 : nI (64 * c) + nI (d.length + 1) = nI (64 * c + (d.length + 1)) := nI_add _ _
    have e2 : nI (64 * c + (d.length + 1)) - 1 = nI (64 * c + d.length) := nI_pred _
    have c1 : (nI (64 * c + (d.length + 1))).toNatClampNeg = 64 * c + (d.length + 1) := nI_clamp (by omega)
    have c2 : (nI (64 * c + d.length)).toNatClampNeg = 64 * c + d.length := nI_clamp (by omega)
    have i1 : vp_in (nI (64 * c + (d.length + 1))) 15360 := vp_in_nI (by omega) (by decide)
    have i2 : vp_in (nI (64 * c + d.length)) 15360 := vp_in_nI (by omega) (by decide)
    have hlt : t < q.1 := by
      rw [hps, List.append_assoc] at hA
      have := (List.pairwise_append.mp hA).2.1
      exact (List.pairwise_cons.mp this).1 q (by simp)
    have hg := gap hlt
    have hst : stepOk (q.1.toInt64 - t.toInt64 - r) := by
      unfold stepOk
      rw [Int64.toInt_sub, Int.bmod_eq_of_le (by omega) (by omega)]
      omega
    have hbl : (hdr ++ bs).length ≤ 84 * (d.length + 1) := by
      have := enc_len (d ++ [(t, v)])
      unfold enc at this
      rw [he] at this
      simpa using this
    rw [List.length_append, hh] at hbl
    have hl1 := chg_len (q.1.toInt64 - t.toInt64 - r)
    unfold wp_X12_make_39
    rw [hcl, f1, hS.1, f2, e1, e2, c1, c2, s0, s2]
    refine ⟨vp_in_nI hc (by decide), fun h => absurd h (nI_ge (by omega) (by omega)), fun _ => ⟨i1, i2, ?_⟩⟩
    refine tchg hst hT (by omega) (fun u1 h1 => ⟨i1, i2, ?_⟩)
    obtain ⟨f, hf, -, -⟩ := id h1
    have f4 : u1.2.1 16 = u0.2.1 16 := by rw [hf]; rfl
    rw [f4, s1, s3]
    refine tval h1 (by rw [List.length_append]; omega) (fun u2 h2 => ?_)
    rw [List.append_assoc] at h2
    rw [show nI (d.length + 1) + 1 = nI ((d ++ [(t, v)]).length + 1) by rw [nI_1]; simp]
    refine ih (d ++ [(t, v)]) q.1 q.2 (q.1.toInt64 - t.toInt64) _ u2 (by rw [hps]; simp) ?_ ⟨by omega, by omega⟩ h2
    rw [esL_snoc, he]
    simp [esT, List.append_assoc]
theorem esT1 (e : ES) (p : Int32 × Int32) (h : e.1 = true) : esT e p = (false, p.1, p.2, e.2.2.2.1, e.2.2.2.2 ++ (bo p.1.toInt64 32 ++ bo p.2.toInt64 32)) := by
  unfold esT; rw [if_pos h]
theorem esL1 (t v : Int32) : esL [(t, v)] = (false, t, v, 0, bo t.toInt64 32 ++ bo v.toInt64 32) := by
  have := esT1 es0 (t, v) rfl
  rw [show es0.2.2.2.2 = [] from rfl, List.nil_append] at this
  exact this
theorem nI1e : (1 : Int32) = nI (0 + 1) := by decide +kernel
theorem make_loop1 {K : Int32 → St → Prop} {u : St} {c : Nat} {t v : Int32} {rest : List (Int32 × Int32)} {f0 : Nat → Int32} (hc : c < 240) (hS : SlotP u c ((t, v) :: rest)) (hA : Asc ((t, v) :: rest)) (hlen : ((t, v) :: rest).length ≤ 64)
    (hK : ∀ (u' : St) (bs : List Bool), enc ((t, v) :: rest) = (bo t.toInt64 32 ++ bo v.toInt64 32) ++ bs → TkB (st_I (st_A u 33 f0) 34 (nI 0)) u' bs → K (nI (cel (enc ((t, v) :: rest)).length)) u') (hr : 0 ≤ (0 : Int64).toInt ∧ (0 : Int64).toInt < 4294967296) :
    wp_X12_make_39 K (rest.length + 1) (nI c) (nI (64 * c)) 0 (nI (0 + 1)) (st_I (st_A u 33 f0) 34 (nI 0)) := by
  have hS2 : SlotP (st_I (st_A u 33 f0) 34 (nI 0)) c ((t, v) :: rest) := hS
  have h2 : esL ([] ++ [(t, v)]) = (false, t, v, 0, (bo t.toInt64 32 ++ bo v.toInt64 32) ++ []) := by rw [List.nil_append, List.append_nil]; exact esL1 t v
  have h3 : TkB (st_I (st_A u 33 f0) 34 (nI 0)) (st_I (st_A u 33 f0) 34 (nI 0)) [] := ⟨f0, by rw [stA_I, stA_A, stI_I]; rfl, fun i hi => by simp at hi, fun _ _ => rfl⟩
  have h1 : (t, v) :: rest = ([] ++ [(t, v)]) ++ rest := by simp
  exact make_loop hc hS2 hA hlen (bo t.toInt64 32 ++ bo v.toInt64 32) (by simp [bo_len]) hK rest [] t v 0 [] _ h1 h2 hr h3
theorem cl0 : (0 : Int32).toNatClampNeg = 0 := by decide +kernel
theorem cl1 : (1 : Int32).toNatClampNeg = 1 := by decide +kernel
theorem z64b : 0 ≤ (0 : Int64).toInt ∧ (0 : Int64).toInt < 4294967296 := by decide +kernel
theorem SlotP.keep {u u' : St} {c : Nat} {ps : List (Int32 × Int32)} (h : SlotP u c ps) (h1 : u'.2.1 12 = u.2.1 12) (h2 : u'.2.1 15 = u.2.1 15) (h3 : u'.2.1 16 = u.2.1 16) : SlotP u' c ps := by
  unfold SlotP; rw [h1, h2, h3]; exact h
theorem make_spec {K : Int32 → St → Prop} {u : St} {c : Nat} {ps : List (Int32 × Int32)} (hc : c < 240) (hS : SlotP u c ps) (hA : Asc ps) (h0 : ps ≠ []) (hlen : ps.length ≤ 64)
    (hK : ∀ (f : Nat → Int32) (n : Int32), (∀ i, i < cel (enc ps).length → f i = wOf (enc ps) i) → K (nI (cel (enc ps).length)) (st_I (st_A u 33 f) 34 n)) : wp_X12_make u (nI c) K := by
  obtain ⟨⟨t, v⟩, rest, rfl⟩ := List.exists_cons_of_ne_nil h0
  obtain ⟨s0, s1⟩ := hS.2 0 (t, v) rfl
  have e1 : (64 : Int32) * nI c = nI (64 * c) := pk_mul 64 c
  have c1 : (nI (64 * c)).toNatClampNeg = 64 * c := nI_clamp (by omega)
  have i1 : vp_in (nI (64 * c)) 15360 := vp_in_nI (by omega) (by decide)
  rw [Nat.add_zero] at s0 s1
  replace s0 : u.2.1 15 (64 * c) = t := s0
  replace s1 : u.2.1 16 (64 * c) = v := s1
  unfold wp_X12_make
  rw [e1, c1, s0, s1]
  refine ⟨i1, fun y hy => ⟨i1, fun w hw => ⟨rest.length + 1, ?_⟩⟩⟩
  rw [hy, hw, stA_A]
  rw [cl0, cl1]
  have hf0 : (upd (upd (u.2.1 33) 0 t) 1 v) 0 = t := by rw [upd_ne _ _ (by decide), upd_self]
  have hf1 : (upd (upd (u.2.1 33) 0 t) 1 v) 1 = v := upd_self _ _ _
  generalize upd (upd (u.2.1 33) 0 t) 1 v = f0 at hf0 hf1
  rw [nI1e]
  refine make_loop1 hc hS hA hlen (fun u' bs henc hT => ?_) z64b
  obtain ⟨f, rfl, hP, hf⟩ := hT
  rw [stA_I, stA_A, stI_I]
  refine hK f _ (fun i hi => ?_)
  rw [henc, List.length_append, List.length_append, bo_len, bo_len] at hi
  rw [henc, List.append_assoc]
  match i, hi with
  | 0, _ => rw [hf 0 (by decide), wOf_hdr]; exact hf0
  | 1, _ => rw [hf 1 (by decide), show (1 : Nat) = 1 + 0 from rfl, wOf_shift _ _ 1 0 (by rw [bo_len]), wOf_hdr]; exact hf1
  | i + 2, hi =>
    rw [show i + 2 = 2 + i by omega, ← List.append_assoc, wOf_shift _ _ 2 i (by simp [bo_len])]
    exact hP i (by unfold cel at hi; omega)
