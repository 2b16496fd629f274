set_option maxRecDepth 100000
theorem sh31s (x : Int32) (r : Nat) (hr : r < 32) : ((x >>> nI (31 - r)) &&& (1 : Int32)).toInt64 = Int64.ofNat (tb x r).toNat := by
  have h1 : ((x >>> nI (31 - r)) &&& (1 : Int32)) = if tb x r then 1 else 0 := by
    apply Int32.toBitVec_inj.mp
    rw [Int32.toBitVec_and, Int32.toBitVec_shiftRight, show (1 : Int32).toBitVec = 1#32 from rfl, BitVec.and_one_eq_setWidth_ofBool_getLsbD, BitVec.sshiftRight', sm32 _ (by omega), BitVec.getLsbD_sshiftRight, Nat.add_zero]
    unfold tb
    simp only [show 31 - r < 32 by omega, if_true]
    cases x.toBitVec.getLsbD (31 - r) <;> decide
  rw [h1]
  cases tb x r <;> rfl
theorem dbl (a : Nat) (c : Bool) (h : a < 2 ^ 62) : (2 : Int64) * Int64.ofNat a + Int64.ofNat c.toNat = Int64.ofNat (2 * a + c.toNat) := by
  rw [Int64.ofNat_add, Int64.ofNat_mul]; rfl
theorem ttake_loop {K : Int64 → St → Prop} {n fr : Nat} (hn : n ≤ 60) (hf : fr ≤ 4096) : ∀ (l : List Bool) (a k p : Nat) (u : St), k + l.length = n → a < 2 ^ k → u.1 34 = nI p → u.1 35 = nI fr → Rd (u.2.1 4) (32 * fr + p) l → 32 * fr + p + l.length ≤ 131072 →
    K (Int64.ofNat (voF a l)) (st_I u 34 (nI (p + l.length))) → wp_X12_take_5 K (l.length + 1) (nI n) (Int64.ofNat a) (nI k) u := by
  intro l
  induction l with
  | nil =>
    intro a k p u hk ha hp hf2 hR hb hK
    have hk : k = n := by simpa using hk
    subst hk
    unfold wp_X12_take_5
    refine ⟨fun _ => ?_, fun h => absurd (Int32.le_refl _) h⟩
    have : st_I u 34 (nI (p + ([] : List Bool).length)) = u := by rw [List.length_nil, Nat.add_zero, ← hp, stI_id]
    rw [this] at hK
    exact hK
  | cons c l ih =>
    intro a k p u hk ha hp hf2 hR hb hK
    rw [List.length_cons] at hk hb
    unfold wp_X12_take_5
    refine ⟨fun h => absurd h (nI_ge (by omega) (by omega)), fun _ => ?_⟩
    have hpow : (2 : Nat) ^ k ≤ 2 ^ 60 := Nat.pow_le_pow_right (by decide) (by omega)
    rw [hp, hf2, r32 (by omega), d32 (by omega), sh31 _ (Nat.mod_lt _ (by decide)), sh31s _ _ (Nat.mod_lt _ (by decide)), show nI fr + nI (p / 32) = nI (fr + p / 32) from nI_add _ _, nI_clamp (by omega), nI_1, nI_1]
    have hc := hR 0 (by simp)
    rw [Nat.add_zero, show (32 * fr + p) / 32 = fr + p / 32 by omega, show (32 * fr + p) % 32 = p % 32 by omega] at hc
    have hc : tb (u.2.1 4 (fr + p / 32)) (p % 32) = c := hc
    rw [hc, dbl a c (Nat.lt_of_lt_of_le ha (Nat.le_trans hpow (by decide)))]
    have hcl : c.toNat < 2 := by cases c <;> decide
    refine ⟨vp_in_nI (by omega) (by decide), ih (2 * a + c.toNat) (k + 1) (p + 1) (st_I u 34 (nI (p + 1))) (by omega) (by rw [Nat.pow_succ]; omega) rfl hf2 (Rd.right (l := [c]) hR) (by omega) ?_⟩
    rw [stI_I, show p + 1 + l.length = p + (c :: l).length by rw [List.length_cons]; omega]
    exact hK
/-- the twin's place of reading -/
def TrA (u : St) (fr p : Nat) : Prop := u.1 34 = nI p ∧ u.1 35 = nI fr
theorem ttake {K : Int64 → St → Prop} {n fr p : Nat} {l r : List Bool} {u : St} (hn : n ≤ 60) (hf : fr ≤ 4096) (hl : l.length = n) (hp : TrA u fr p) (hR : Rd (u.2.1 4) (32 * fr + p) (l ++ r)) (hb : 32 * fr + p + n ≤ 131072)
    (hK : K (Int64.ofNat (voF 0 l)) (st_I u 34 (nI (p + n)))) : wp_X12_take u (nI n) K := by
  refine ⟨l.length + 1, ?_⟩
  subst hl
  exact ttake_loop hn hf l 0 0 p u (by omega) (by decide) hp.1 hp.2 hR.left hb hK
theorem ttake1 {K : Int64 → St → Prop} {fr p : Nat} {c : Bool} {r : List Bool} {u : St} (hf : fr ≤ 4096) (hp : TrA u fr p) (hR : Rd (u.2.1 4) (32 * fr + p) (c :: r)) (hb : 32 * fr + p + 1 ≤ 131072)
    (hK : K (if c then 1 else 0) (st_I u 34 (nI (p + 1)))) : wp_X12_take u 1 K := by
  refine ttake (n := 1) (l := [c]) (r := r) (by decide) hf rfl hp hR hb ?_
  have : Int64.ofNat (voF 0 [c]) = if c then 1 else 0 := by cases c <;> rfl
  rw [this]
  exact hK
theorem one_ne64 : ¬ (if true = true then (1 : Int64) else 0) = 0 := by decide +kernel
theorem one_ne1 : ¬ (if false = true then (1 : Int64) else 0) = 1 := by decide +kernel
theorem tchgR {K : Int64 → St → Prop} {p fr : Nat} {e : Int64} {r : List Bool} {u : St} (hf : fr ≤ 4096) (he : stepOk e) (hp : TrA u fr p) (hR : Rd (u.2.1 4) (32 * fr + p) (chg e ++ r)) (hb : 32 * fr + p + 40 ≤ 131072)
    (hK : K e (st_I u 34 (nI (p + (chg e).length)))) : wp_X12_takeStep u K := by
  obtain ⟨he1, he2⟩ := he
  unfold wp_X12_takeStep
  by_cases h0 : e = 0
  · have ec : chg e = [false] := by unfold chg; rw [if_pos h0]; rfl
    rw [ec] at hR hK
    refine ttake1 hf hp hR (by omega) ⟨fun h => absurd rfl h, fun _ => ?_⟩
    rw [h0] at hK
    exact hK
  by_cases h1 : ¬ e < -64 ∧ ¬ 64 ≤ e
  · have ec : chg e = [true, false] ++ bo (e + 64) 7 := by unfold chg; rw [if_neg h0, if_pos h1]; rfl
    have el : (chg e).length = 9 := by rw [ec, List.length_append, bo_len]; rfl
    rw [ec, List.append_assoc] at hR; rw [el] at hK
    have hR1 := bitR hR
    refine ttake1 hf (p := p) hp hR (by omega) ⟨fun _ => ?_, fun h => absurd h one_ne64⟩
    have hR2 := bitR hR1
    refine ttake1 hf (p := p + 1) ⟨rfl, hp.2⟩ hR1 (by omega) ⟨fun h => absurd rfl h, fun _ => ?_⟩
    refine ttake (n := 7) (p := p + 1 + 1) (by decide) hf (bo_len _ _) ⟨rfl, hp.2⟩ hR2 (by omega) ?_
    have b1 := mt Int64.lt_iff_toInt_lt.mpr h1.1; have b2 := mt Int64.le_iff_toInt_le.mpr h1.2
    rw [tI_m64] at b1; rw [tI_64] at b2
    have ea := i64c e 64 64 tI_64 (by omega) (by omega)
    rw [rt e 64 7 (by decide) (by omega) (by omega), stI_I, stI_I, show p + 1 + 1 + 7 = p + 9 by omega]
    exact hK
  by_cases h2 : ¬ e < -256 ∧ ¬ 256 ≤ e
  · have ec : chg e = [true, true, false] ++ bo (e + 256) 9 := by unfold chg; rw [if_neg h0, if_neg h1, if_pos h2]; rfl
    have el : (chg e).length = 12 := by rw [ec, List.length_append, bo_len]; rfl
    rw [ec, List.append_assoc] at hR; rw [el] at hK
    have hR1 := bitR hR
    refine ttake1 hf (p := p) hp hR (by omega) ⟨fun _ => ?_, fun h => absurd h one_ne64⟩
    have hR2 := bitR hR1
    refine ttake1 hf (p := p + 1) ⟨rfl, hp.2⟩ hR1 (by omega) ⟨fun _ => ?_, fun h => absurd h one_ne64⟩
    have hR3 := bitR hR2
    refine ttake1 hf (p := p + 1 + 1) ⟨rfl, hp.2⟩ hR2 (by omega) ⟨fun h => absurd rfl h, fun _ => ?_⟩
    refine ttake (n := 9) (p := p + 1 + 1 + 1) (by decide) hf (bo_len _ _) ⟨rfl, hp.2⟩ hR3 (by omega) ?_
    have b1 := mt Int64.lt_iff_toInt_lt.mpr h2.1; have b2 := mt Int64.le_iff_toInt_le.mpr h2.2
    rw [tI_m256] at b1; rw [tI_256] at b2
    have ea := i64c e 256 256 tI_256 (by omega) (by omega)
    rw [rt e 256 9 (by decide) (by omega) (by omega), stI_I, stI_I, stI_I, show p + 1 + 1 + 1 + 9 = p + 12 by omega]
    exact hK
  by_cases h3 : ¬ e < -2048 ∧ ¬ 2048 ≤ e
  · have ec : chg e = [true, true, true, false] ++ bo (e + 2048) 12 := by unfold chg; rw [if_neg h0, if_neg h1, if_neg h2, if_pos h3]; rfl
    have el : (chg e).length = 16 := by rw [ec, List.length_append, bo_len]; rfl
    rw [ec, List.append_assoc] at hR; rw [el] at hK
    have hR1 := bitR hR
    refine ttake1 hf (p := p) hp hR (by omega) ⟨fun _ => ?_, fun h => absurd h one_ne64⟩
    have hR2 := bitR hR1
    refine ttake1 hf (p := p + 1) ⟨rfl, hp.2⟩ hR1 (by omega) ⟨fun _ => ?_, fun h => absurd h one_ne64⟩
    have hR3 := bitR hR2
    refine ttake1 hf (p := p + 1 + 1) ⟨rfl, hp.2⟩ hR2 (by omega) ⟨fun _ => ?_, fun h => absurd h one_ne64⟩
    have hR4 := bitR hR3
    refine ttake1 hf (p := p + 1 + 1 + 1) ⟨rfl, hp.2⟩ hR3 (by omega) ⟨fun h => absurd rfl h, fun _ => ?_⟩
    refine ttake (n := 12) (p := p + 1 + 1 + 1 + 1) (by decide) hf (bo_len _ _) ⟨rfl, hp.2⟩ hR4 (by omega) ?_
    have b1 := mt Int64.lt_iff_toInt_lt.mpr h3.1; have b2 := mt Int64.le_iff_toInt_le.mpr h3.2
    rw [tI_m2048] at b1; rw [tI_2048] at b2
    have ea := i64c e 2048 2048 tI_2048 (by omega) (by omega)
    rw [rt e 2048 12 (by decide) (by omega) (by omega), stI_I, stI_I, stI_I, stI_I, show p + 1 + 1 + 1 + 1 + 12 = p + 16 by omega]
    exact hK
  · have ec : chg e = [true, true, true, true] ++ bo (e + 8589934592) 34 := by unfold chg; rw [if_neg h0, if_neg h1, if_neg h2, if_neg h3]; rfl
    have el : (chg e).length = 38 := by rw [ec, List.length_append, bo_len]; rfl
    rw [ec, List.append_assoc] at hR; rw [el] at hK
    have hR1 := bitR hR
    refine ttake1 hf (p := p) hp hR (by omega) ⟨fun _ => ?_, fun h => absurd h one_ne64⟩
    have hR2 := bitR hR1
    refine ttake1 hf (p := p + 1) ⟨rfl, hp.2⟩ hR1 (by omega) ⟨fun _ => ?_, fun h => absurd h one_ne64⟩
    have hR3 := bitR hR2
    refine ttake1 hf (p := p + 1 + 1) ⟨rfl, hp.2⟩ hR2 (by omega) ⟨fun _ => ?_, fun h => absurd h one_ne64⟩
    have hR4 := bitR hR3
    refine ttake1 hf (p := p + 1 + 1 + 1) ⟨rfl, hp.2⟩ hR3 (by omega) ⟨fun _ => ?_, fun h => absurd h one_ne64⟩
    refine ttake (n := 34) (p := p + 1 + 1 + 1 + 1) (by decide) hf (bo_len _ _) ⟨rfl, hp.2⟩ hR4 (by omega) ?_
    have ea := i64c e 8589934592 8589934592 tI_8589934592 (by omega) (by omega)
    rw [rt e 8589934592 34 (by decide) (by omega) (by omega), stI_I, stI_I, stI_I, stI_I, show p + 1 + 1 + 1 + 1 + 34 = p + 38 by omega]
    exact hK
theorem s4kL : ∀ k, k < 16 → (((nI (4 * k)).toInt64 &&& 63).toBitVec.smod 64).toNat = 4 * k := by decide +kernel
theorem orL (a c k : Nat) (hk : k < 16) (ha : a < 2 ^ (4 * k)) (h : a + c * 2 ^ (4 * k) < 2 ^ 63) : Int64.ofNat a ||| (Int64.ofNat c <<< ((nI (4 * k)).toInt64 &&& 63)) = Int64.ofNat (a + c * 2 ^ (4 * k)) := by
  have hp : 0 < 2 ^ (4 * k) := Nat.two_pow_pos _
  have hc : c < 2 ^ 63 := Nat.lt_of_le_of_lt (Nat.le_trans (Nat.le_mul_of_pos_right c hp) (Nat.le_add_left _ a)) h
  apply Int64.toBitVec_inj.mp
  apply BitVec.eq_of_toNat_eq
  rw [Int64.toBitVec_or, Int64.toBitVec_shiftLeft, BitVec.toNat_or, BitVec.shiftLeft_eq', s4kL k hk, BitVec.toNat_shiftLeft, ofN_tn (by omega), ofN_tn (by omega), ofN_tn (by omega), Nat.mod_eq_of_lt (by rw [Nat.shiftLeft_eq]; omega), Nat.or_comm, ← Nat.shiftLeft_add_eq_or_of_lt ha, Nat.shiftLeft_eq]
  omega
theorem tdif_loop {K : Int32 → St → Prop} {r : List Bool} {fr : Nat} (hf : fr ≤ 4096) : ∀ (n k zl zr p : Nat) (u : St), zl < 16 ^ k → zl + zr * 16 ^ k < 2 ^ 32 → zr < 16 ^ n → TrA u fr p → Rd (u.2.1 4) (32 * fr + p) (nibs n zr ++ r) → 32 * fr + p + 5 * n + 1 ≤ 131072 →
    wp_X12_takeValue_30 K (Int64.ofNat (zl + zr * 16 ^ k)) (st_I u 34 (nI (p + (nibs n zr).length))) → wp_X12_takeValue_4 K (n + 1) (Int64.ofNat zl) (nI (4 * k)) u := by
  intro n
  induction n with
  | zero =>
    intro k zl zr p u hl hz hr hp hR hb hK
    have : zr = 0 := by simpa using hr
    subst this
    rw [Nat.zero_mul, Nat.add_zero] at hK
    unfold wp_X12_takeValue_4
    exact ttake1 hf hp hR (by omega) ⟨fun _ => hK, fun h => absurd h one_ne1⟩
  | succ n ih =>
    intro k zl zr p u hl hz hr hp hR hb hK
    unfold wp_X12_takeValue_4
    by_cases h0 : zr = 0
    · subst h0
      rw [show nibs (n + 1) 0 = [false] from rfl] at hR hK
      rw [Nat.zero_mul, Nat.add_zero] at hK
      exact ttake1 hf hp hR (by omega) ⟨fun _ => hK, fun h => absurd h one_ne1⟩
    · have e3 : nibs (n + 1) zr = true :: (bo (Int64.ofNat (zr % 16)) 4 ++ nibs n (zr / 16)) := by rw [nibs, if_neg h0]
      rw [e3] at hR hK
      have h16 : zr % 16 < 16 := Nat.mod_lt _ (by decide)
      have e16 : (16 : Nat) ^ k = 2 ^ (4 * k) := by rw [Nat.pow_mul]
      have hk8 : k < 8 := by
        refine Nat.lt_of_not_le fun hk => ?_
        have h1 : 16 ^ 8 ≤ 16 ^ k := Nat.pow_le_pow_right (by decide) hk
        have h2 : 1 * 16 ^ k ≤ zr * 16 ^ k := Nat.mul_le_mul_right _ (by omega)
        have h3 : (16 : Nat) ^ 8 = 2 ^ 32 := by decide
        omega
      refine ttake1 hf hp hR (by omega) ⟨fun h => absurd rfl h, fun _ => ?_⟩
      have hR1 : Rd (u.2.1 4) (32 * fr + (p + 1)) ((bo (Int64.ofNat (zr % 16)) 4 ++ nibs n (zr / 16)) ++ r) := bitR hR
      rw [List.append_assoc] at hR1
      refine ttake (n := 4) (by decide) hf (bo_len _ _) ⟨rfl, hp.2⟩ hR1 (by omega) ?_
      rw [nb16 _ h16]
      have hm : zr * 16 ^ k = zr % 16 * 16 ^ k + zr / 16 * 16 ^ (k + 1) := by
        rw [Nat.pow_succ, ← Nat.mul_assoc, Nat.mul_right_comm, ← Nat.add_mul]
        congr 1
        omega
      have hle : zl + zr % 16 * 16 ^ k < 2 ^ 32 := by omega
      have hlow : zl + zr % 16 * 16 ^ k < 16 ^ (k + 1) := by
        rw [Nat.pow_succ]
        have : zr % 16 * 16 ^ k ≤ 15 * 16 ^ k := Nat.mul_le_mul_right _ (by omega)
        omega
      have e5 : nI (4 * k) + 4 = nI (4 * (k + 1)) := nI_add (4 * k) 4
      have e6 : Int64.ofNat zl ||| (Int64.ofNat (zr % 16) <<< ((nI (4 * k)).toInt64 &&& 63)) = Int64.ofNat (zl + zr % 16 * 16 ^ k) := by
        rw [orL _ _ _ (by omega) (by rw [← e16]; exact hl) (by rw [← e16]; omega), e16]
      rw [e6, e5]
      have hR2 := hR1.right
      rw [bo_len, show 32 * fr + (p + 1) + 4 = 32 * fr + (p + 1 + 4) by omega] at hR2
      refine ih (k + 1) (zl + zr % 16 * 16 ^ k) (zr / 16) (p + 1 + 4) _ hlow (by omega) (by rw [Nat.div_lt_iff_lt_mul (by decide)]; rw [Nat.pow_succ] at hr; exact hr) ⟨rfl, hp.2⟩ hR2 (by omega) ?_
      rw [stI_I, stI_I, Nat.add_assoc zl, ← hm, show p + 1 + 4 + (nibs n (zr / 16)).length = p + (true :: (bo (Int64.ofNat (zr % 16)) 4 ++ nibs n (zr / 16))).length by simp [bo_len]; omega]
      exact hK
theorem ofN_d2 {m : Nat} (h : m < 2 ^ 62) : Int64.ofNat m / 2 = Int64.ofNat (m / 2) := by
  apply Int64.toInt_inj.mp
  have h2 : (2 : Int64).toInt = 2 := by decide +kernel
  rw [Int64.toInt_div, ofN_toInt (by omega), ofN_toInt (by omega), h2]
  rw [Int.tdiv_eq_ediv_of_nonneg (by omega), Int.bmod_eq_of_le (by omega) (by omega)]
  rfl
theorem unzzL (d : Int32) (z1 : Int64) (hz1 : z1 = if (Int64.ofNat (zz d) - Int64.ofNat (zz d) / 2 * 2) = 0 then Int64.ofNat (zz d) / 2 else -(Int64.ofNat (zz d) / 2) - 1) : z1.toInt32 = d := by
  have hz := zz_lt d
  have hv := zz_val d
  have hd1 := Int32.toInt_lt d
  have hd2 := Int32.le_toInt d
  have e1 : Int64.ofNat (zz d) - Int64.ofNat (zz d) / 2 * 2 = Int64.ofNat (zz d % 2) := by
    rw [ofN_d2 (by omega)]
    apply Int64.toInt_inj.mp
    have h2 : (2 : Int64).toInt = 2 := by decide +kernel
    rw [Int64.toInt_sub, Int64.toInt_mul, ofN_toInt (by omega), ofN_toInt (by omega), ofN_toInt (by omega), h2, Int.bmod_eq_of_le (n := ((zz d / 2 : Nat) : Int) * 2) (by omega) (by omega), Int.bmod_eq_of_le (by omega) (by omega)]
    omega
  rw [e1, ofN_d2 (by omega)] at hz1
  have h1 : (1 : Int64).toInt = 1 := by decide +kernel
  have e2 : z1.toInt = d.toInt := by
    rcases Nat.mod_two_eq_zero_or_one (zz d) with h | h
    · rw [h, if_pos (by rfl)] at hz1
      rw [hz1, ofN_toInt (by omega)]
      split at hv <;> omega
    · rw [h, if_neg (by decide +kernel)] at hz1
      rw [hz1, Int64.toInt_sub, Int64.toInt_neg, ofN_toInt (by omega), h1, Int.bmod_eq_of_le (n := -((zz d / 2 : Nat) : Int)) (by omega) (by omega), Int.bmod_eq_of_le (by omega) (by omega)]
      split at hv <;> omega
  have e3 : z1 = d.toInt64 := Int64.toInt_inj.mp (by rw [e2, t64])
  rw [e3, Int32.toInt32_toInt64]
theorem tdif {K : Int32 → St → Prop} {p fr : Nat} {d : Int32} {r : List Bool} {u : St} (hf : fr ≤ 4096) (hp : TrA u fr p) (hR : Rd (u.2.1 4) (32 * fr + p) (dif d ++ r)) (hb : 32 * fr + p + 46 ≤ 131072)
    (hK : K d (st_I u 34 (nI (p + (dif d).length)))) : wp_X12_takeValue u K := by
  refine ⟨10, tdif_loop hf 9 0 0 (zz d) p u (by decide) (by simpa using zz_lt d) (Nat.lt_trans (zz_lt d) (by decide)) hp hR (by omega) ?_⟩
  unfold wp_X12_takeValue_30
  rw [Nat.zero_add, Nat.pow_zero, Nat.mul_one]
  intro z1 hz1
  rw [unzzL d z1 hz1]
  exact hK
/-! reading a slot's points from the disk -/
theorem SlotT {times : Nat → Int32} {c : Nat} {d : List (Int32 × Int32)} {g : Int32 × Int32 → Int32} {x : Int32 × Int32} (h : ∀ (i : Nat) (p : Int32 × Int32), d[i]? = some p → times (64 * c + i) = g p) :
    ∀ (i : Nat) (p : Int32 × Int32), (d ++ [x])[i]? = some p → upd times (64 * c + d.length) (g x) (64 * c + i) = g p := by
  intro i p hp
  by_cases hi : i = d.length
  · subst hi
    rw [List.getElem?_append_right (Nat.le_refl _), Nat.sub_self] at hp
    cases hp
    exact upd_self _ _ _
  · have hlt : i < (d ++ [x]).length := (List.getElem?_eq_some_iff.mp hp).1
    rw [List.length_append, List.length_singleton] at hlt
    rw [List.getElem?_append_left (by omega)] at hp
    rw [upd_ne _ _ (by omega)]
    exact h i p hp
/-- what reading leaves: u but bits, the rows of times and values at the slot -/
def RdF (u u' : St) (c : Nat) : Prop := ∃ (t v : Nat → Int32) (n fr : Int32), u' = st_I (st_I (st_A (st_A u 15 t) 16 v) 35 fr) 34 n ∧ ∀ j, j < 64 * c ∨ 64 * c + 64 ≤ j → t j = u.2.1 15 j ∧ v j = u.2.1 16 j
theorem stA_1615 (u : St) (f g : Nat → Int32) : st_A (st_A u 16 f) 15 g = st_A (st_A u 15 g) 16 f := by
  unfold st_A
  refine Prod.ext rfl (Prod.ext ?_ rfl)
  funext j
  show va_up (va_up u.2.1 16 f) 15 g j = va_up (va_up u.2.1 15 g) 16 f j
  unfold va_up
  by_cases h : j = 15
  · subst h; simp
  · simp [h]
theorem tread_loop {K : St → Prop} {u0 : St} {c fr : Nat} {ps : List (Int32 × Int32)} (hc : c < 240) (hfr : fr ≤ 4096) (hA : Asc ps) (hlen : ps.length ≤ 64) (hm : u0.2.1 12 c = nI ps.length)
    (hK : ∀ u', RdF u0 u' c → SlotP u' c ps → K u') :
    ∀ (rest d : List (Int32 × Int32)) (t v : Int32) (r : Int64) (p : Nat) (tt vv : Nat → Int32), ps = (d ++ [(t, v)]) ++ rest → 0 ≤ r.toInt ∧ r.toInt < 4294967296 → Rd (u0.2.1 4) (32 * fr + p) (er false t v r rest) → 32 * fr + p + 90 * rest.length ≤ 131072 →
      (∀ (i : Nat) (q : Int32 × Int32), (d ++ [(t, v)])[i]? = some q → tt (64 * c + i) = q.1) → (∀ (i : Nat) (q : Int32 × Int32), (d ++ [(t, v)])[i]? = some q → vv (64 * c + i) = q.2) → (∀ j, j < 64 * c ∨ 64 * c + 64 ≤ j → tt j = u0.2.1 15 j ∧ vv j = u0.2.1 16 j) →
      wp_X12_read_63 K (rest.length + 1) (nI c) (nI (64 * c)) r (nI (d.length + 1)) (st_I (st_I (st_A (st_A u0 15 tt) 16 vv) 35 (nI fr)) 34 (nI p)) := by
  intro rest
  induction rest with
  | nil =>
    intro d t v r p tt vv hps hr hR hb ht hv ho
    rw [List.append_nil] at hps
    have hcl : (nI c).toNatClampNeg = c := nI_clamp (by omega)
    have hl : ps.length = d.length + 1 := by rw [hps]; simp
    have e12 : (st_I (st_I (st_A (st_A u0 15 tt) 16 vv) 35 (nI fr)) 34 (nI p)).2.1 12 = u0.2.1 12 := rfl
    unfold wp_X12_read_63
    rw [hcl, e12, hm, hl]
    refine ⟨vp_in_nI hc (by decide), fun _ => ?_, fun h => absurd (Int32.le_refl _) h⟩
    refine hK _ ⟨tt, vv, _, _, rfl, ho⟩ ⟨hm, fun i q hq => ?_⟩
    rw [hps] at hq
    exact ⟨ht i q hq, hv i q hq⟩
  | cons q rest ih =>
    intro d t v r p tt vv hps hr hR hb ht hv ho
    rw [List.length_cons] at hb
    have hl : ps.length = d.length + 1 + (rest.length + 1) := by rw [hps]; simp; omega
    have hcl : (nI c).toNatClampNeg = c := nI_clamp (by omega)
    have e1 : nI (64 * c) + nI (d.length + 1) = nI (64 * c + (d.length + 1)) := nI_add _ _
    have e2 : nI (64 * c + (d.length + 1)) - 1 = nI (64 * c + d.length) := nI_pred _
    have c1 : (nI (64 * c + (d.length + 1))).toNatClampNeg = 64 * c + (d.length + 1) := nI_clamp (by omega)
    have c2 : (nI (64 * c + d.length)).toNatClampNeg = 64 * c + d.length := nI_clamp (by omega)
    have i1 : vp_in (nI (64 * c + (d.length + 1))) 15360 := vp_in_nI (by omega) (by decide)
    have i2 : vp_in (nI (64 * c + d.length)) 15360 := vp_in_nI (by omega) (by decide)
    have hlt : t < q.1 := by
      rw [hps, List.append_assoc] at hA
      have := (List.pairwise_append.mp hA).2.1
      exact (List.pairwise_cons.mp this).1 q (by simp)
    have hg := gap hlt
    have hst : stepOk (q.1.toInt64 - t.toInt64 - r) := by
      unfold stepOk
      rw [Int64.toInt_sub, Int.bmod_eq_of_le (by omega) (by omega)]
      omega
    have hl1 := chg_len (q.1.toInt64 - t.toInt64 - r)
    have hl2 := dif_len (q.2 - v)
    have hR : Rd (u0.2.1 4) (32 * fr + p) ((chg (q.1.toInt64 - t.toInt64 - r) ++ dif (q.2 - v)) ++ er false q.1 q.2 (q.1.toInt64 - t.toInt64) rest) := hR
    rw [List.append_assoc] at hR
    have hR1 := Rd.right hR
    have hR2 := Rd.right hR1
    have hR1' : Rd (u0.2.1 4) (32 * fr + (p + (chg (q.1.toInt64 - t.toInt64 - r)).length)) (dif (q.2 - v) ++ er false q.1 q.2 (q.1.toInt64 - t.toInt64) rest) := by rw [← Nat.add_assoc]; exact hR1
    have hR2' : Rd (u0.2.1 4) (32 * fr + (p + (chg (q.1.toInt64 - t.toInt64 - r)).length + (dif (q.2 - v)).length)) (er false q.1 q.2 (q.1.toInt64 - t.toInt64) rest) := by rw [← Nat.add_assoc, ← Nat.add_assoc]; exact hR2
    have et : tt (64 * c + d.length) = t := ht d.length (t, v) (by simp)
    have ev : vv (64 * c + d.length) = v := hv d.length (t, v) (by simp)
    have e12 : (st_I (st_I (st_A (st_A u0 15 tt) 16 vv) 35 (nI fr)) 34 (nI p)).2.1 12 = u0.2.1 12 := rfl
    unfold wp_X12_read_63
    rw [hcl, e12, hm]
    refine ⟨vp_in_nI hc (by decide), fun h => absurd h (nI_ge (by omega) (by omega)), fun _ => ?_⟩
    refine tchgR (fr := fr) (p := p) hfr hst ⟨rfl, rfl⟩ hR (by omega) ?_
    rw [e1, e2, c1, c2]
    refine ⟨i2, fun y hy => ⟨i1, i2, ?_⟩⟩
    have hy : y = q.1 := by
      rw [hy, a_ba]
      show ((tt (64 * c + d.length)).toInt64 + (q.1.toInt64 - t.toInt64)).toInt32 = q.1
      rw [et, a_ba, Int32.toInt32_toInt64]
    subst hy
    refine tdif (fr := fr) (p := p + (chg (q.1.toInt64 - t.toInt64 - r)).length) (d := q.2 - v) (r := er false q.1 q.2 (q.1.toInt64 - t.toInt64) rest) hfr ⟨rfl, rfl⟩ hR1' (by omega) (fun w hw => ⟨i1, ?_⟩)
    have hw : w = q.2 := by
      rw [hw]
      show vv (64 * c + d.length) + (q.2 - v) = q.2
      rw [ev, a_ba32]
    subst hw
    rw [a_ba, show nI (d.length + 1) + 1 = nI ((d ++ [(t, v)]).length + 1) by rw [nI_1]; simp]
    have := ih (d ++ [(t, v)]) q.1 q.2 (q.1.toInt64 - t.toInt64) (p + (chg (q.1.toInt64 - t.toInt64 - r)).length + (dif (q.2 - v)).length) (upd tt (64 * c + (d.length + 1)) q.1) (upd vv (64 * c + (d.length + 1)) q.2) (by rw [hps]; simp) ⟨by omega, by omega⟩ hR2' (by omega)
      (by have := SlotT (g := Prod.fst) (x := q) ht; simpa using this) (by have := SlotT (g := Prod.snd) (x := q) hv; simpa using this) (fun j hj => by rw [upd_ne _ _ (by omega), upd_ne _ _ (by omega)]; exact ho j hj)
    refine Eq.mp (congrArg (wp_X12_read_63 K (rest.length + 1) (nI c) (nI (64 * c)) (q.1.toInt64 - t.toInt64) (nI ((d ++ [(t, v)]).length + 1))) ?_) this
    simp only [stA_I, stI_I, stA_A, stA_1615]
    rfl
theorem read_spec {K : St → Prop} {u : St} {c pl : Nat} {ps : List (Int32 × Int32)} (hc : c < 240) (hpl : pl ≤ 4000) (hA : Asc ps) (h0 : ps ≠ []) (hlen : ps.length ≤ 64) (hm : u.2.1 12 c = nI ps.length) (hp : u.2.1 13 c = nI pl)
    (hR : ∀ i, 32 * i < (enc ps).length → u.2.1 4 (pl + i) = wOf (enc ps) i) (hb : 32 * pl + 90 * ps.length ≤ 131072)
    (hK : ∀ u', RdF u u' c → SlotP u' c ps → K u') : wp_X12_read u (nI c) K := by
  obtain ⟨⟨t, v⟩, rest, rfl⟩ := List.exists_cons_of_ne_nil h0
  rw [List.length_cons] at hb
  have hcl : (nI c).toNatClampNeg = c := nI_clamp (by omega)
  have hpc : (nI pl).toNatClampNeg = pl := nI_clamp (by omega)
  have hpc1 : (nI (pl + 1)).toNatClampNeg = pl + 1 := nI_clamp (by omega)
  have e1 : (64 : Int32) * nI c = nI (64 * c) := pk_mul 64 c
  have c1 : (nI (64 * c)).toNatClampNeg = 64 * c := nI_clamp (by omega)
  have i1 : vp_in (nI (64 * c)) 15360 := vp_in_nI (by omega) (by decide)
  have i0 : vp_in (nI c) 240 := vp_in_nI hc (by decide)
  have henc : enc ((t, v) :: rest) = (bo t.toInt64 32 ++ bo v.toInt64 32) ++ er false t v 0 rest := by
    rw [enc_er]; rfl
  have hRd := Rd.of hR
  rw [henc] at hRd hR
  have hl64 : (bo t.toInt64 32 ++ bo v.toInt64 32 ++ er false t v 0 rest).length = 64 + (er false t v 0 rest).length := by
    rw [List.length_append, List.length_append, bo_len, bo_len]
  have g0 := hR 0 (by omega)
  rw [List.append_assoc, wOf_hdr, Nat.add_zero] at g0
  have g1 := hR 1 (by omega)
  rw [List.append_assoc, show (1 : Nat) = 1 + 0 from rfl, wOf_shift _ _ 1 0 (by rw [bo_len]), wOf_hdr] at g1
  have hRd2 := Rd.right hRd
  rw [List.length_append, bo_len, bo_len] at hRd2
  unfold wp_X12_read
  rw [hcl, hp, hpc, nI_1, hpc1, e1, c1, g0, show u.2.1 4 (pl + 1) = v from g1]
  refine ⟨i0, vp_in_nI (by omega) (by decide), fun y1 h1 => ⟨i1, i0, vp_in_nI (by omega) (by decide), fun y2 h2 => ⟨i1, i0, fun y3 h3 => ⟨rest.length + 1, ?_⟩⟩⟩⟩
  rw [h1, h2, h3, show nI pl + (2 : Int32) = nI (pl + 2) from nI_add pl 2, nI1e]
  refine tread_loop (u0 := u) (fr := pl + 2) hc (by omega) hA hlen hm hK rest [] t v 0 0 (upd (u.2.1 15) (64 * c) t) (upd (u.2.1 16) (64 * c) v) (by simp) z64b (by rw [show 32 * (pl + 2) + 0 = 32 * pl + (32 + 32) by omega]; exact hRd2) (by omega) (fun i q hq => ?_) (fun i q hq => ?_) (fun j hj => ⟨upd_ne _ _ (by omega), upd_ne _ _ (by omega)⟩)
  · match i, hq with
    | 0, hq => cases hq; exact upd_self _ _ _
    | i + 1, hq => simp at hq
  · match i, hq with
    | 0, hq => cases hq; exact upd_self _ _ _
    | i + 1, hq => simp at hq
