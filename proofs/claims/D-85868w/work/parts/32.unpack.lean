set_option maxRecDepth 100000
/-! ===== plain: reading bits ===== -/
/-- from bit p on the row b reads l -/
def Rd (b : Nat → Int32) (p : Nat) (l : List Bool) : Prop := ∀ i, i < l.length → tb (b ((p + i) / 32)) ((p + i) % 32) = l.getD i false
theorem Rd.right {b : Nat → Int32} {p : Nat} {l r : List Bool} (h : Rd b p (l ++ r)) : Rd b (p + l.length) r := fun i hi => by
  have := h (l.length + i) (by rw [List.length_append]; omega)
  rw [gD_app2 _ _ _ _ (by omega), show l.length + i - l.length = i by omega] at this
  rw [Nat.add_assoc]
  exact this
theorem Rd.left {b : Nat → Int32} {p : Nat} {l r : List Bool} (h : Rd b p (l ++ r)) : Rd b p l := fun i hi => by
  have := h i (by rw [List.length_append]; omega)
  rwa [gD_app1 _ _ _ _ hi] at this
theorem Rd.of {b : Nat → Int32} {pl : Nat} {l : List Bool} (h : ∀ i, 32 * i < l.length → b (pl + i) = wOf l i) : Rd b (32 * pl) l := fun i hi => by
  have e1 : (32 * pl + i) / 32 = pl + i / 32 := by omega
  have e2 : (32 * pl + i) % 32 = i % 32 := by omega
  rw [e1, e2, h (i / 32) (by omega), tb_wOf _ _ _ (Nat.mod_lt _ (by decide)), show 32 * (i / 32) + i % 32 = i by omega]
/-- the number that bits spell -/
def voF (a : Nat) (l : List Bool) : Nat := l.foldl (fun a b => 2 * a + b.toNat) a
theorem bitN {x n : Nat} : (n.testBit x).toNat = n / 2 ^ x % 2 := by
  rw [Nat.testBit_eq_decide_div_mod_eq]
  rcases Nat.mod_two_eq_zero_or_one (n / 2 ^ x) with h | h <;> simp [h]
theorem voF_bo (v : Int64) (n : Nat) : ∀ a, voF a (bo v n) = a * 2 ^ n + v.toBitVec.toNat % 2 ^ n := by
  induction n with
  | zero => intro a; simp [voF, bo, Nat.mod_one]
  | succ n ih =>
    intro a
    have : voF a (bo v (n + 1)) = voF (2 * a + (lb v n).toNat) (bo v n) := rfl
    rw [this, ih, Nat.mod_pow_succ]
    have e : (lb v n).toNat = v.toBitVec.toNat / 2 ^ n % 2 := bitN
    rw [e, Nat.pow_succ, Nat.add_mul]
    have h1 : 2 * a * 2 ^ n = a * (2 ^ n * 2) := by rw [Nat.mul_comm 2 a, Nat.mul_assoc, Nat.mul_comm 2]
    rw [h1, Nat.mul_comm (v.toBitVec.toNat / 2 ^ n % 2)]
    omega
theorem us31 : ∀ r, r < 32 → ((((31 : Int32) - nI r).toUInt32 &&& Int32.toUInt32 31).toBitVec % 32).toNat = 31 - r := by decide +kernel
theorem nI_64 : ∀ r, r < 2 → (nI r).toInt64 = Int64.ofNat r := by decide +kernel
theorem rdbit (x : Int32) (r : Nat) (hr : r < 32) : ((x.toUInt32 >>> (((31 : Int32) - nI r).toUInt32 &&& Int32.toUInt32 31)).toInt32 &&& (1 : Int32)).toInt64 = Int64.ofNat (tb x r).toNat := by
  have h1 := pk_ushrN (n := x.toBitVec.toNat) (BitVec.isLt _) ((31 : Int32) - nI r) (31 - r) (us31 r hr)
  rw [tn_nI] at h1
  have hlt : x.toBitVec.toNat / 2 ^ (31 - r) < 2 ^ 32 := Nat.lt_of_le_of_lt (Nat.div_le_self _ _) (BitVec.isLt _)
  rw [h1, show nI (x.toBitVec.toNat / 2 ^ (31 - r)) &&& (1 : Int32) = nI (x.toBitVec.toNat / 2 ^ (31 - r) % 2) from pk_andN hlt 1 (by decide +kernel), nI_64 _ (Nat.mod_lt _ (by decide))]
  congr 1
  exact bitN.symm
theorem shor (a : Nat) (c : Bool) (h : a < 2 ^ 62) : (Int64.ofNat a <<< ((1 : Int32).toInt64 &&& 63)) ||| Int64.ofNat c.toNat = Int64.ofNat (2 * a + c.toNat) := by
  have hc : c.toNat < 2 := by cases c <;> decide
  apply Int64.toBitVec_inj.mp
  rw [Int64.toBitVec_or, Int64.toBitVec_shiftLeft]
  apply BitVec.eq_of_toNat_eq
  rw [BitVec.toNat_or, BitVec.shiftLeft_eq', show ((((1 : Int32).toInt64 &&& 63).toBitVec.smod 64)).toNat = 1 by decide +kernel, BitVec.toNat_shiftLeft]
  show ((BitVec.ofNat 64 a).toNat <<< 1 % 2 ^ 64) ||| (BitVec.ofNat 64 c.toNat).toNat = (BitVec.ofNat 64 (2 * a + c.toNat)).toNat
  rw [BitVec.toNat_ofNat, BitVec.toNat_ofNat, BitVec.toNat_ofNat, Nat.mod_eq_of_lt (show a < 2 ^ 64 by omega), Nat.mod_eq_of_lt (show c.toNat < 2 ^ 64 by omega), Nat.mod_eq_of_lt (show 2 * a + c.toNat < 2 ^ 64 by omega), Nat.mod_eq_of_lt (show a <<< 1 < 2 ^ 64 by rw [Nat.shiftLeft_eq]; omega)]
  rw [← Nat.shiftLeft_add_eq_or_of_lt (by simpa using hc), Nat.shiftLeft_eq]
  omega
theorem voF_lt (l : List Bool) : ∀ (a k : Nat), a < 2 ^ k → voF a l < 2 ^ (k + l.length) := by
  induction l with
  | nil => intro a k h; exact h
  | cons c l ih =>
    intro a k h
    have hc : c.toNat < 2 := by cases c <;> decide
    have := ih (2 * a + c.toNat) (k + 1) (by rw [Nat.pow_succ]; omega)
    rw [List.length_cons, show k + (l.length + 1) = k + 1 + l.length by omega]
    exact this
theorem bits_loop {b : Nat → Int32} {K : Int64 → St → Prop} {n : Nat} (hn : n ≤ 60) : ∀ (l : List Bool) (a k p : Nat) (u : St), k + l.length = n → a < 2 ^ k → u.1 4 = nI p → Rd b p l → p + l.length ≤ 131072 →
    K (Int64.ofNat (voF a l)) (st_I u 4 (nI (p + l.length))) → wp_X6_bits_5 b K (l.length + 1) (nI n) (Int64.ofNat a) (nI k) u := by
  intro l
  induction l with
  | nil =>
    intro a k p u hk ha hp hR hb hK
    have hk : k = n := by simpa using hk
    subst hk
    unfold wp_X6_bits_5
    refine ⟨fun _ => ?_, fun h => absurd (Int32.le_refl _) h⟩
    have : st_I u 4 (nI (p + ([] : List Bool).length)) = u := by rw [List.length_nil, Nat.add_zero, ← hp, stI_id]
    rw [this] at hK
    exact hK
  | cons c l ih =>
    intro a k p u hk ha hp hR hb hK
    rw [List.length_cons] at hk hb
    unfold wp_X6_bits_5
    refine ⟨fun h => absurd h (nI_ge (by omega) (by omega)), fun _ => ?_⟩
    have hpow : (2 : Nat) ^ k ≤ 2 ^ 60 := Nat.pow_le_pow_right (by decide) (by omega)
    rw [hp, sh5 (by omega), and31 (by omega), rdbit _ _ (Nat.mod_lt _ (by decide)), nI_clamp (by omega), nI_1, nI_1]
    have hc := hR 0 (by simp)
    have hc : tb (b (p / 32)) (p % 32) = c := hc
    rw [hc, shor a c (Nat.lt_of_lt_of_le ha (Nat.le_trans hpow (by decide)))]
    have hcl : c.toNat < 2 := by cases c <;> decide
    refine ⟨vp_in_nI (by omega) (by decide), ih (2 * a + c.toNat) (k + 1) (p + 1) (st_I u 4 (nI (p + 1))) (by omega) (by rw [Nat.pow_succ]; omega) rfl (Rd.right (l := [c]) hR) (by omega) ?_⟩
    rw [stI_I, show p + 1 + l.length = p + (c :: l).length by rw [List.length_cons]; omega]
    exact hK
theorem bits_spec {b : Nat → Int32} {K : Int64 → St → Prop} {n p : Nat} {l r : List Bool} {u : St} (hn : n ≤ 60) (hl : l.length = n) (hp : u.1 4 = nI p) (hR : Rd b p (l ++ r)) (hb : p + n ≤ 131072)
    (hK : K (Int64.ofNat (voF 0 l)) (st_I u 4 (nI (p + n)))) : wp_X6_bits b u (nI n) K := by
  refine ⟨l.length + 1, ?_⟩
  subst hl
  exact bits_loop hn l 0 0 p u (by omega) (by decide) hp hR.left hb hK
theorem bit_spec {b : Nat → Int32} {K : Int32 → St → Prop} {p : Nat} {c : Bool} {r : List Bool} {u : St} (hp : u.1 4 = nI p) (hR : Rd b p (c :: r)) (hb : p + 1 ≤ 131072)
    (hK : K (if c then 1 else 0) (st_I u 4 (nI (p + 1)))) : wp_X6_bit b u K := by
  unfold wp_X6_bit
  refine bits_spec (n := 1) (l := [c]) (r := r) (by decide) rfl hp hR hb (fun z hz => ?_)
  have : z = (if c then 1 else 0) := by rw [hz]; cases c <;> rfl
  rw [this]
  exact ⟨by cases c <;> first | exact Or.inl rfl | exact Or.inr rfl | decide, hK⟩
theorem rt (e c : Int64) (n : Nat) (hn : n ≤ 62) (h1 : 0 ≤ (e + c).toInt) (h2 : (e + c).toInt < 2 ^ n) : Int64.ofNat (voF 0 (bo (e + c) n)) - c = e := by
  rw [voF_bo, Nat.zero_mul, Nat.zero_add]
  have hpow : (2 : Nat) ^ n ≤ 2 ^ 62 := Nat.pow_le_pow_right (by decide) hn
  have e1 : ((e + c).toBitVec.toNat : Int) = (e + c).toInt := by
    have h3 : (e + c).toInt = (e + c).toBitVec.toInt := rfl
    rw [h3] at h1 ⊢
    rw [BitVec.toInt_eq_toNat_cond] at h1 ⊢
    split
    · rfl
    · rename_i h; rw [if_neg h] at h1; have := (e + c).toBitVec.isLt; omega
  have e2 : (e + c).toBitVec.toNat < 2 ^ n := by
    have : ((2 ^ n : Nat) : Int) = 2 ^ n := by norm_cast
    omega
  rw [Nat.mod_eq_of_lt e2]
  have e3 : Int64.ofNat (e + c).toBitVec.toNat = e + c := by
    apply Int64.toBitVec_inj.mp
    show BitVec.ofNat 64 _ = _
    rw [BitVec.ofNat_toNat, BitVec.setWidth_eq]
  rw [e3, Int64.add_sub_cancel]
theorem i64c (e c : Int64) (C : Int) (hc : c.toInt = C) (h1 : -9223372036854775808 ≤ e.toInt + C) (h2 : e.toInt + C < 9223372036854775808) : (e + c).toInt = e.toInt + C := by
  rw [Int64.toInt_add, hc]
  exact Int.bmod_eq_of_le (by omega) (by omega)
/-- a step of times as it can come -/
def stepOk (e : Int64) : Prop := -8589934592 ≤ e.toInt ∧ e.toInt < 8589934592
theorem tI_64 : (64 : Int64).toInt = 64 := by decide +kernel
theorem tI_m64 : (-64 : Int64).toInt = -64 := by decide +kernel
theorem tI_256 : (256 : Int64).toInt = 256 := by decide +kernel
theorem tI_m256 : (-256 : Int64).toInt = -256 := by decide +kernel
theorem tI_2048 : (2048 : Int64).toInt = 2048 := by decide +kernel
theorem tI_m2048 : (-2048 : Int64).toInt = -2048 := by decide +kernel
theorem tI_8589934592 : (8589934592 : Int64).toInt = 8589934592 := by decide +kernel
theorem one_ne : ¬ (if true = true then (1 : Int32) else 0) = 0 := by decide +kernel
theorem bitR {b : Nat → Int32} {p : Nat} {c : Bool} {r : List Bool} (h : Rd b p (c :: r)) : Rd b (p + 1) r := Rd.right (l := [c]) h
theorem chgR {b : Nat → Int32} {K : Int64 → St → Prop} {p : Nat} {e : Int64} {r : List Bool} {u : St} (he : stepOk e) (hp : u.1 4 = nI p) (hR : Rd b p (chg e ++ r)) (hb : p + 40 ≤ 131072)
    (hK : K e (st_I u 4 (nI (p + (chg e).length)))) : wp_X6_change b u K := by
  obtain ⟨he1, he2⟩ := he
  unfold wp_X6_change
  by_cases h0 : e = 0
  · have ec : chg e = [false] := by unfold chg; rw [if_pos h0]; rfl
    rw [ec] at hR hK
    refine bit_spec hp hR (by omega) ⟨fun h => absurd rfl h, fun _ => ?_⟩
    rw [h0] at hK
    exact hK
  by_cases h1 : ¬ e < -64 ∧ ¬ 64 ≤ e
  · have ec : chg e = [true, false] ++ bo (e + 64) 7 := by unfold chg; rw [if_neg h0, if_pos h1]; rfl
    have el : (chg e).length = 9 := by rw [ec, List.length_append, bo_len]; rfl
    rw [ec, List.append_assoc] at hR; rw [el] at hK
    have hR1 := bitR hR
    refine bit_spec hp hR (by omega) ⟨fun _ => ?_, fun h => absurd h one_ne⟩
    have hR2 := bitR hR1
    refine bit_spec rfl hR1 (by omega) ⟨fun h => absurd rfl h, fun _ => ?_⟩
    refine bits_spec (n := 7) (by decide) (bo_len _ _) rfl hR2 (by omega) ?_
    have b1 := mt Int64.lt_iff_toInt_lt.mpr h1.1; have b2 := mt Int64.le_iff_toInt_le.mpr h1.2
    rw [tI_m64] at b1; rw [tI_64] at b2
    have ea := i64c e 64 64 tI_64 (by omega) (by omega)
    rw [rt e 64 7 (by decide) (by omega) (by omega), stI_I, stI_I, show p + 1 + 1 + 7 = p + 9 by omega]
    exact hK
  by_cases h2 : ¬ e < -256 ∧ ¬ 256 ≤ e
  · have ec : chg e = [true, true, false] ++ bo (e + 256) 9 := by unfold chg; rw [if_neg h0, if_neg h1, if_pos h2]; rfl
    have el : (chg e).length = 12 := by rw [ec, List.length_append, bo_len]; rfl
    rw [ec, List.append_assoc] at hR; rw [el] at hK
    have hR1 := bitR hR
    refine bit_spec hp hR (by omega) ⟨fun _ => ?_, fun h => absurd h one_ne⟩
    have hR2 := bitR hR1
    refine bit_spec rfl hR1 (by omega) ⟨fun _ => ?_, fun h => absurd h one_ne⟩
    have hR3 := bitR hR2
    refine bit_spec rfl hR2 (by omega) ⟨fun h => absurd rfl h, fun _ => ?_⟩
    refine bits_spec (n := 9) (by decide) (bo_len _ _) rfl hR3 (by omega) ?_
    have b1 := mt Int64.lt_iff_toInt_lt.mpr h2.1; have b2 := mt Int64.le_iff_toInt_le.mpr h2.2
    rw [tI_m256] at b1; rw [tI_256] at b2
    have ea := i64c e 256 256 tI_256 (by omega) (by omega)
    rw [rt e 256 9 (by decide) (by omega) (by omega), stI_I, stI_I, stI_I, show p + 1 + 1 + 1 + 9 = p + 12 by omega]
    exact hK
  by_cases h3 : ¬ e < -2048 ∧ ¬ 2048 ≤ e
  · have ec : chg e = [true, true, true, false] ++ bo (e + 2048) 12 := by unfold chg; rw [if_neg h0, if_neg h1, if_neg h2, if_pos h3]; rfl
    have el : (chg e).length = 16 := by rw [ec, List.length_append, bo_len]; rfl
    rw [ec, List.append_assoc] at hR; rw [el] at hK
    have hR1 := bitR hR
    refine bit_spec hp hR (by omega) ⟨fun _ => ?_, fun h => absurd h one_ne⟩
    have hR2 := bitR hR1
    refine bit_spec rfl hR1 (by omega) ⟨fun _ => ?_, fun h => absurd h one_ne⟩
    have hR3 := bitR hR2
    refine bit_spec rfl hR2 (by omega) ⟨fun _ => ?_, fun h => absurd h one_ne⟩
    have hR4 := bitR hR3
    refine bit_spec rfl hR3 (by omega) ⟨fun _ => ?_, fun h => absurd rfl h⟩
    refine bits_spec (n := 12) (by decide) (bo_len _ _) rfl hR4 (by omega) ?_
    have b1 := mt Int64.lt_iff_toInt_lt.mpr h3.1; have b2 := mt Int64.le_iff_toInt_le.mpr h3.2
    rw [tI_m2048] at b1; rw [tI_2048] at b2
    have ea := i64c e 2048 2048 tI_2048 (by omega) (by omega)
    rw [rt e 2048 12 (by decide) (by omega) (by omega), stI_I, stI_I, stI_I, stI_I, show p + 1 + 1 + 1 + 1 + 12 = p + 16 by omega]
    exact hK
  · have ec : chg e = [true, true, true, true] ++ bo (e + 8589934592) 34 := by unfold chg; rw [if_neg h0, if_neg h1, if_neg h2, if_neg h3]; rfl
    have el : (chg e).length = 38 := by rw [ec, List.length_append, bo_len]; rfl
    rw [ec, List.append_assoc] at hR; rw [el] at hK
    have hR1 := bitR hR
    refine bit_spec hp hR (by omega) ⟨fun _ => ?_, fun h => absurd h one_ne⟩
    have hR2 := bitR hR1
    refine bit_spec rfl hR1 (by omega) ⟨fun _ => ?_, fun h => absurd h one_ne⟩
    have hR3 := bitR hR2
    refine bit_spec rfl hR2 (by omega) ⟨fun _ => ?_, fun h => absurd h one_ne⟩
    have hR4 := bitR hR3
    refine bit_spec rfl hR3 (by omega) ⟨fun h => absurd h one_ne, fun _ => ?_⟩
    refine bits_spec (n := 34) (by decide) (bo_len _ _) rfl hR4 (by omega) ?_
    have ea := i64c e 8589934592 8589934592 tI_8589934592 (by omega) (by omega)
    rw [rt e 8589934592 34 (by decide) (by omega) (by omega), stI_I, stI_I, stI_I, stI_I, show p + 1 + 1 + 1 + 1 + 34 = p + 38 by omega]
    exact hK
/-! zig-zag -/
theorem zz_val (d : Int32) : (zz d : Int) = if 0 ≤ d.toInt then 2 * d.toInt else -2 * d.toInt - 1 := by
  unfold zz
  have hd := d.toBitVec.isLt
  have eD : d.toInt = if 2 * d.toBitVec.toNat < 2 ^ 32 then (d.toBitVec.toNat : Int) else (d.toBitVec.toNat : Int) - (2 ^ 32 : Nat) := BitVec.toInt_eq_toNat_cond _
  rw [Int32.toBitVec_xor, Int32.toBitVec_shiftLeft, Int32.toBitVec_shiftRight, BitVec.shiftLeft_eq', BitVec.sshiftRight', show ((1 : Int32).toBitVec.smod 32).toNat = 1 by decide +kernel, show ((31 : Int32).toBitVec.smod 32).toNat = 31 by decide +kernel]
  by_cases hm : 2 * d.toBitVec.toNat < 2 ^ 32
  · rw [if_pos hm] at eD
    have hs : d.toBitVec.sshiftRight 31 = 0#32 := by
      rw [BitVec.sshiftRight_eq_of_msb_false (by rw [BitVec.msb_eq_decide]; exact decide_eq_false (by omega))]
      apply BitVec.eq_of_toNat_eq
      rw [BitVec.toNat_ushiftRight, Nat.shiftRight_eq_div_pow]
      show d.toBitVec.toNat / 2 ^ 31 = 0
      omega
    rw [hs, BitVec.xor_zero, BitVec.toNat_shiftLeft, Nat.shiftLeft_eq, Nat.mod_eq_of_lt (by omega), if_pos (by omega)]
    omega
  · rw [if_neg hm] at eD
    have hs : d.toBitVec.sshiftRight 31 = BitVec.allOnes 32 := by
      rw [BitVec.sshiftRight_eq_of_msb_true (by rw [BitVec.msb_eq_decide]; exact decide_eq_true (by omega))]
      apply BitVec.eq_of_toNat_eq
      rw [BitVec.toNat_not, BitVec.toNat_ushiftRight, BitVec.toNat_not, Nat.shiftRight_eq_div_pow, BitVec.toNat_allOnes]
      omega
    rw [hs, BitVec.xor_allOnes, BitVec.toNat_not, BitVec.toNat_shiftLeft, Nat.shiftLeft_eq, if_neg (by omega)]
    omega
theorem zz_lt (d : Int32) : zz d < 2 ^ 32 := BitVec.isLt _
theorem unzz (d : Int32) : ((nI (zz d)).toUInt32 >>> ((1 : Int32).toUInt32 &&& Int32.toUInt32 31)).toInt32 ^^^ (-(nI (zz d) &&& (1 : Int32))) = d := by
  have hz := zz_lt d
  have hv := zz_val d
  rw [pk_ushrN hz 1 1 (by decide +kernel), show nI (zz d) &&& (1 : Int32) = nI (zz d % 2) from pk_andN hz 1 (by decide +kernel)]
  apply Int32.toInt_inj.mp
  have hd1 := Int32.toInt_lt d
  have hd2 := Int32.le_toInt d
  rcases Nat.mod_two_eq_zero_or_one (zz d) with h | h
  · rw [h, show -nI 0 = 0 from by decide +kernel, Int32.xor_zero, nI_toInt (by omega)]
    split at hv <;> omega
  · rw [h, show -nI 1 = (-1 : Int32) from by decide +kernel]
    have e1 : nI (zz d / 2 ^ 1) ^^^ (-1 : Int32) = ~~~ nI (zz d / 2 ^ 1) := by
      apply Int32.toBitVec_inj.mp
      rw [Int32.toBitVec_xor, Int32.toBitVec_not, show (-1 : Int32).toBitVec = BitVec.allOnes 32 by decide +kernel, BitVec.xor_allOnes]
    rw [e1, Int32.toInt_not, nI_toInt (by omega), Int.bmod_eq_of_le (by omega) (by omega)]
    split at hv <;> omega
