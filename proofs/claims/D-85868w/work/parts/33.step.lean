set_option maxRecDepth 100000
theorem of32 (m : Nat) : (Int64.ofNat m).toInt32 = nI m := by
  apply Int32.toBitVec_inj.mp
  show (BitVec.ofNat 64 m).signExtend 32 = BitVec.ofNat 32 m
  rw [BitVec.signExtend_eq_setWidth_of_le _ (by decide)]
  apply BitVec.eq_of_toNat_eq
  rw [BitVec.toNat_setWidth, BitVec.toNat_ofNat, BitVec.toNat_ofNat]
  omega
theorem or_add (a c k : Nat) (ha : a < 2 ^ k) (h : a + c * 2 ^ k < 2 ^ 32) : nI a ||| nI (c * 2 ^ k) = nI (a + c * 2 ^ k) := by
  apply Int32.toBitVec_inj.mp
  apply BitVec.eq_of_toNat_eq
  rw [Int32.toBitVec_or, BitVec.toNat_or, nI_tn _ (by omega), nI_tn _ (by omega), nI_tn _ h, ← Nat.shiftLeft_eq, Nat.or_comm, ← Nat.shiftLeft_add_eq_or_of_lt ha]
  omega
theorem s4k : ∀ k, k < 8 → ((nI (4 * k) &&& 31).toBitVec.smod 32).toNat = 4 * k := by decide +kernel
theorem nb16 : ∀ m, m < 16 → voF 0 (bo (Int64.ofNat m) 4) = m := by decide +kernel
theorem dif_loop {b : Nat → Int32} {K : Int32 → St → Prop} {r : List Bool} : ∀ (n k zl zr p : Nat) (u : St), zl < 16 ^ k → zl + zr * 16 ^ k < 2 ^ 32 → zr < 16 ^ n → u.1 4 = nI p → Rd b p (nibs n zr ++ r) → p + 5 * n + 1 ≤ 131072 →
    wp_X6_difference_28 b K (nI (zl + zr * 16 ^ k)) (st_I u 4 (nI (p + (nibs n zr).length))) → wp_X6_difference_4 b K (n + 1) (nI zl) (nI (4 * k)) u := by
  intro n
  induction n with
  | zero =>
    intro k zl zr p u hl hz hr hp hR hb hK
    have : zr = 0 := by simpa using hr
    subst this
    rw [Nat.zero_mul, Nat.add_zero] at hK
    unfold wp_X6_difference_4
    exact bit_spec hp hR (by omega) ⟨fun _ => hK, fun h => absurd rfl h⟩
  | succ n ih =>
    intro k zl zr p u hl hz hr hp hR hb hK
    unfold wp_X6_difference_4
    by_cases h0 : zr = 0
    · subst h0
      rw [show nibs (n + 1) 0 = [false] from rfl] at hR hK
      rw [Nat.zero_mul, Nat.add_zero] at hK
      exact bit_spec hp hR (by omega) ⟨fun _ => hK, fun h => absurd rfl h⟩
    · have e3 : nibs (n + 1) zr = true :: (bo (Int64.ofNat (zr % 16)) 4 ++ nibs n (zr / 16)) := by rw [nibs, if_neg h0]
      rw [e3] at hR hK
      have h16 : zr % 16 < 16 := Nat.mod_lt _ (by decide)
      have e16 : (16 : Nat) ^ k = 2 ^ (4 * k) := by rw [Nat.pow_mul]
      have hk8 : k < 8 := by
        refine Nat.lt_of_not_le fun hk => ?_
        have h1 : 16 ^ 8 ≤ 16 ^ k := Nat.pow_le_pow_right (by decide) hk
        have h2 : 1 * 16 ^ k ≤ zr * 16 ^ k := Nat.mul_le_mul_right _ (by omega)
        have h3 : (16 : Nat) ^ 8 = 2 ^ 32 := by decide
        omega
      refine bit_spec hp hR (by omega) ⟨fun h => absurd h one_ne, fun _ => ?_⟩
      have hR1 : Rd b (p + 1) ((bo (Int64.ofNat (zr % 16)) 4 ++ nibs n (zr / 16)) ++ r) := bitR hR
      rw [List.append_assoc] at hR1
      refine bits_spec (n := 4) (by decide) (bo_len _ _) rfl hR1 (by omega) ?_
      rw [nb16 _ h16, of32]
      have hm : zr * 16 ^ k = zr % 16 * 16 ^ k + zr / 16 * 16 ^ (k + 1) := by
        rw [Nat.pow_succ, ← Nat.mul_assoc, Nat.mul_right_comm, ← Nat.add_mul]
        congr 1
        omega
      have hle : zl + zr % 16 * 16 ^ k < 2 ^ 32 := by omega
      have e4 : nI (zr % 16) <<< (nI (4 * k) &&& 31) = nI (zr % 16 * 2 ^ (4 * k)) := pk_shlN _ _ (s4k k hk8) (by rw [← e16]; omega)
      have hlow : zl + zr % 16 * 16 ^ k < 16 ^ (k + 1) := by
        rw [Nat.pow_succ]
        have : zr % 16 * 16 ^ k ≤ 15 * 16 ^ k := Nat.mul_le_mul_right _ (by omega)
        omega
      have e5 : nI (4 * k) + 4 = nI (4 * (k + 1)) := nI_add (4 * k) 4
      have e6 : nI zl ||| nI (zr % 16 * 2 ^ (4 * k)) = nI (zl + zr % 16 * 16 ^ k) := by
        rw [or_add _ _ _ (by rw [← e16]; exact hl) (by rw [← e16]; exact hle), e16]
      rw [e4, e6, e5]
      have hR2 := hR1.right
      rw [bo_len] at hR2
      refine ih (k + 1) (zl + zr % 16 * 16 ^ k) (zr / 16) (p + 1 + 4) _ hlow (by omega) (by rw [Nat.div_lt_iff_lt_mul (by decide)]; rw [Nat.pow_succ] at hr; exact hr) rfl hR2 (by omega) ?_
      rw [stI_I, stI_I, Nat.add_assoc zl, ← hm, show p + 1 + 4 + (nibs n (zr / 16)).length = p + (true :: (bo (Int64.ofNat (zr % 16)) 4 ++ nibs n (zr / 16))).length by simp [bo_len]; omega]
      exact hK
theorem difR {b : Nat → Int32} {K : Int32 → St → Prop} {p : Nat} {d : Int32} {r : List Bool} {u : St} (hp : u.1 4 = nI p) (hR : Rd b p (dif d ++ r)) (hb : p + 46 ≤ 131072)
    (hK : K d (st_I u 4 (nI (p + (dif d).length)))) : wp_X6_difference b u K := by
  refine ⟨10, dif_loop 9 0 0 (zz d) p u (by decide) (by simpa using zz_lt d) (Nat.lt_trans (zz_lt d) (by decide)) hp hR (by omega) ?_⟩
  unfold wp_X6_difference_28
  rw [Nat.zero_add, Nat.pow_zero, Nat.mul_one, unzz]
  exact hK
/-! the bits of points still to come -/
def er (f : Bool) (t v : Int32) (r : Int64) : List (Int32 × Int32) → List Bool
  | [] => []
  | p :: ps => (if f then bo p.1.toInt64 32 ++ bo p.2.toInt64 32 else chg (p.1.toInt64 - t.toInt64 - r) ++ dif (p.2 - v)) ++ er false p.1 p.2 (if f then r else p.1.toInt64 - t.toInt64) ps
theorem er_fold (ps : List (Int32 × Int32)) : ∀ (f : Bool) (t v : Int32) (r : Int64) (bs : List Bool), (ps.foldl esT (f, t, v, r, bs)).2.2.2.2 = bs ++ er f t v r ps := by
  induction ps with
  | nil => intro f t v r bs; simp [er]
  | cons p ps ih =>
    intro f t v r bs
    rw [List.foldl_cons]
    cases f
    · exact (ih _ _ _ _ _).trans (by simp [er, List.append_assoc])
    · exact (ih _ _ _ _ _).trans (by simp [er, List.append_assoc])
theorem enc_er (ps : List (Int32 × Int32)) : enc ps = er true 0 0 0 ps := er_fold ps true 0 0 0 []
theorem rt32 (t : Int32) : (Int64.ofNat (voF 0 (bo t.toInt64 32))).toInt32 = t := by
  rw [of32, voF_bo, Nat.zero_mul, Nat.zero_add]
  apply Int32.toBitVec_inj.mp
  apply BitVec.eq_of_toNat_eq
  rw [nI_tn _ (Nat.mod_lt _ (by decide))]
  show (t.toBitVec.signExtend 64).toNat % 2 ^ 32 = _
  have : (t.toBitVec.signExtend 64).setWidth 32 = t.toBitVec := by
    apply BitVec.eq_of_getLsbD_eq
    intro i hi
    rw [BitVec.getLsbD_setWidth, BitVec.getLsbD_signExtend]
    simp [hi, show i < 64 by omega]
  rw [← BitVec.toNat_setWidth, this]
theorem a_ba (a b : Int64) : a + (b - a) = b := by rw [Int64.add_comm, Int64.sub_add_cancel]
theorem a_ba32 (a b : Int32) : a + (b - a) = b := by rw [Int32.add_comm, Int32.sub_add_cancel]
/-- the unpacker stands ahead of ps; the point at hand is (t, v), unless none came yet -/
def UnR (u : St) (b : Nat → Int32) (p : Nat) (f : Bool) (t v : Int32) (r : Int64) (ps : List (Int32 × Int32)) : Prop :=
  u.1 4 = nI p ∧ u.1 3 = nI ps.length ∧ u.1 5 = (if f then 1 else 0) ∧ u.2.2.1 6 = r ∧ (f = false → u.1 0 = t ∧ u.1 1 = v) ∧ Rd b p (er f t v r ps) ∧ (0 ≤ r.toInt ∧ r.toInt < 4294967296) ∧
  (if f then ps else (t, v) :: ps).Pairwise (fun a b => a.1 < b.1) ∧ p + 90 * ps.length ≤ 131072
theorem t64 (t : Int32) : t.toInt64.toInt = t.toInt := Int32.toInt_toInt64 t
theorem gap {t q : Int32} (h : t < q) : 0 < (q.toInt64 - t.toInt64).toInt ∧ (q.toInt64 - t.toInt64).toInt < 4294967296 := by
  have h1 := Int32.lt_iff_toInt_lt.mp h
  have a1 := Int32.toInt_lt t; have a2 := Int32.le_toInt t; have a3 := Int32.toInt_lt q; have a4 := Int32.le_toInt q
  rw [Int64.toInt_sub, t64, t64, Int.bmod_eq_of_le (by omega) (by omega)]
  omega
theorem step_none {b : Nat → Int32} {K : Int32 → St → Prop} {u : St} (h : u.1 3 = 0) (hK : K 0 u) : wp_X6_step b u K := by
  unfold wp_X6_step
  exact ⟨fun h2 => absurd h h2, fun _ => hK⟩
theorem step_one {b : Nat → Int32} {K : Int32 → St → Prop} {u : St} {p : Nat} {f : Bool} {t v : Int32} {r : Int64} {q : Int32 × Int32} {ps : List (Int32 × Int32)} (h : UnR u b p f t v r (q :: ps)) (hlen : ps.length < 1000)
    (hK : ∀ (u' : St) (p' : Nat) (r' : Int64), UnR u' b p' false q.1 q.2 r' ps → u'.1 0 = q.1 → u'.1 1 = q.2 → K 1 u') : wp_X6_step b u K := by
  obtain ⟨h1, h2, h3, h4, h5, h6, h7, h8, h9⟩ := h
  rw [List.length_cons] at h2 h9
  have e2 : nI (ps.length + 1) - 1 = nI ps.length := nI_pred _
  unfold wp_X6_step
  refine ⟨fun _ => ⟨fun hf => ?_, fun hf => ?_⟩, fun h => absurd h (by rw [h2]; exact nI_ne0 (by omega) (by omega))⟩
  · have hf : f = false := by
      cases f
      · rfl
      · rw [h3] at hf; exact absurd hf one_ne
    subst hf
    obtain ⟨g1, g2⟩ := h5 rfl
    have h6 : Rd b p ((chg (q.1.toInt64 - t.toInt64 - r) ++ dif (q.2 - v)) ++ er false q.1 q.2 (q.1.toInt64 - t.toInt64) ps) := h6
    rw [List.append_assoc] at h6
    have h8 : ((t, v) :: q :: ps).Pairwise (fun a b => a.1 < b.1) := h8
    have hlt : t < q.1 := (List.pairwise_cons.mp h8).1 q (by simp)
    have hg := gap hlt
    have hst : stepOk (q.1.toInt64 - t.toInt64 - r) := by
      unfold stepOk
      rw [Int64.toInt_sub, Int.bmod_eq_of_le (by omega) (by omega)]
      omega
    have hl1 := chg_len (q.1.toInt64 - t.toInt64 - r)
    have hl2 := dif_len (q.2 - v)
    refine chgR hst h1 h6 (by omega) (fun y hy => ?_)
    rw [h4, a_ba] at hy ⊢
    have hy : y = q.1 := by
      rw [hy]
      show (((st_I (st_I u 3 _) 4 _).1 0).toInt64 + (q.1.toInt64 - t.toInt64)).toInt32 = q.1
      rw [show (st_I (st_I u 3 (u.1 3 - 1)) 4 (nI (p + (chg (q.1.toInt64 - t.toInt64 - r)).length))).1 0 = u.1 0 from rfl, g1, a_ba, Int32.toInt32_toInt64]
    subst hy
    refine difR rfl (Rd.right h6) (by omega) ?_
    refine hK _ (p + (chg (q.1.toInt64 - t.toInt64 - r)).length + (dif (q.2 - v)).length) (q.1.toInt64 - t.toInt64) ?_ rfl ?_
    · refine ⟨rfl, ?_, h3, rfl, fun _ => ⟨rfl, ?_⟩, Rd.right (Rd.right h6), ⟨by omega, by omega⟩, (List.pairwise_cons.mp h8).2, by omega⟩
      · show u.1 3 - 1 = _
        rw [h2, e2]
      · show u.1 1 + (q.2 - v) = q.2
        rw [g2, a_ba32]
    · show u.1 1 + (q.2 - v) = q.2
      rw [g2, a_ba32]
  · have hf : f = true := by
      cases f
      · rw [h3] at hf; exact absurd rfl hf
      · rfl
    subst hf
    have h6 : Rd b p ((bo q.1.toInt64 32 ++ bo q.2.toInt64 32) ++ er false q.1 q.2 r ps) := h6
    rw [List.append_assoc] at h6
    refine bits_spec (n := 32) (by decide) (bo_len _ _) h1 h6 (by omega) ?_
    have hR1 := Rd.right h6
    rw [bo_len] at hR1
    refine bits_spec (n := 32) (by decide) (bo_len _ _) rfl hR1 (by omega) ?_
    have hR2 := Rd.right hR1
    rw [bo_len] at hR2
    rw [rt32, rt32]
    refine hK _ (p + 32 + 32) r ?_ rfl rfl
    refine ⟨rfl, ?_, rfl, h4, fun _ => ⟨rfl, rfl⟩, hR2, h7, h8, by omega⟩
    show u.1 3 - 1 = _
    rw [h2, e2]
