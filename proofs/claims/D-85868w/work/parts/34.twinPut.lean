set_option maxRecDepth 100000
theorem lb64 (v : Int64) (n : Nat) (hn : n < 64) : ((v >>> ((nI n).toInt64 &&& 63)) &&& (1 : Int64)) = if lb v n then 1 else 0 := by
  rw [sh63 n hn]
  apply Int64.toBitVec_inj.mp
  rw [Int64.toBitVec_and, Int64.toBitVec_shiftRight, show (1 : Int64).toBitVec = 1#64 from rfl, BitVec.and_one_eq_setWidth_ofBool_getLsbD, BitVec.sshiftRight', sm64 n hn, BitVec.getLsbD_sshiftRight, Nat.add_zero]
  unfold lb
  simp only [hn, if_true]
  cases v.toBitVec.getLsbD n <;> decide
theorem d32 {p : Nat} (h : p < 2 ^ 31) : nI p / (32 : Int32) = nI (p / 32) := pk_div h (by decide) (by decide)
theorem r32 {p : Nat} (h : p < 2 ^ 31) : nI p - nI p / (32 : Int32) * (32 : Int32) = nI (p % 32) := pk_rem h (by decide) (by decide)
theorem tput_loop (K : St → Prop) (u : St) (v : Int64) : ∀ (n : Nat) (f : Nat → Int32) (bs : List Bool), n ≤ 64 → PkH f 2 bs → bs.length + n ≤ 6300 →
    (∀ f', PkH f' 2 (bs ++ bo v n) → (∀ i, i < 2 → f' i = f i) → K (st_I (st_A u 33 f') 34 (nI (bs.length + n)))) → wp_X12_put_5 K (n + 1) v (nI n - 1) (st_I (st_A u 33 f) 34 (nI bs.length)) := by
  intro n
  induction n with
  | zero =>
    intro f bs hn hH hb hk
    unfold wp_X12_put_5
    refine ⟨fun _ => ?_, fun h => absurd (by decide +kernel) h⟩
    have := hk f (by simpa [bo] using hH) (fun _ _ => rfl)
    rwa [Nat.add_zero] at this
  | succ n ih =>
    intro f bs hn hH hb hk
    have hp : bs.length < 2 ^ 31 := by omega
    have e1 : nI (n + 1) - 1 = nI n := nI_pred n
    have e2 : (2 : Int32) + nI (bs.length / 32) = nI (2 + bs.length / 32) := nI_add 2 _
    have hin : vp_in (nI (2 + bs.length / 32)) 200 := vp_in_nI (by omega) (by decide)
    have hcl : (nI (2 + bs.length / 32)).toNatClampNeg = 2 + bs.length / 32 := nI_clamp (by omega)
    have fin : ∀ g : Nat → Int32, g = upd f (2 + bs.length / 32) ((if bs.length % 32 = 0 then 0 else f (2 + bs.length / 32)) ||| ((if lb v n then 1 else 0 : Int32) <<< nI (31 - bs.length % 32))) →
        wp_X12_put_75 (fun x1 x4 u => wp_X12_put_5 K (n + 1) x1 x4 u) K v (nI n) (st_I (st_A u 33 g) 34 (nI bs.length)) := by
      intro g hg
      unfold wp_X12_put_75
      have hH2 := hH.put (lb v n)
      rw [← hg] at hH2
      have e3 : (st_I (st_A u 33 g) 34 (nI bs.length)).1 34 = nI bs.length := rfl
      rw [e3, show nI n + (-1 : Int32) = nI n - 1 from (Int32.sub_eq_add_neg (nI n) 1).symm, nI_1, stI_I]
      have := ih g (bs ++ [lb v n]) (by omega) hH2 (by simp; omega) (fun f' h1 h2 => by
        rw [List.append_assoc] at h1
        have h3 := hk f' h1 (fun i hi => by rw [h2 i hi, hg, upd_ne _ _ (by omega)])
        rw [List.length_append, List.length_singleton, show bs.length + 1 + n = bs.length + (n + 1) by omega]
        exact h3)
      rw [List.length_append, List.length_singleton] at this
      exact this
    have step : ∀ g : Nat → Int32, (∀ i, i ≠ 2 + bs.length / 32 → g i = f i) → g (2 + bs.length / 32) = (if bs.length % 32 = 0 then 0 else f (2 + bs.length / 32)) →
        wp_X12_put_35 (fun x1 x4 u => wp_X12_put_5 K (n + 1) x1 x4 u) K v (nI n) (st_I (st_A u 33 g) 34 (nI bs.length)) := by
      intro g hg1 hg2
      have e3 : (st_I (st_A u 33 g) 34 (nI bs.length)).1 34 = nI bs.length := rfl
      have e4 : (st_I (st_A u 33 g) 34 (nI bs.length)).2.1 33 = g := rfl
      have hup : ∀ y, upd g (2 + bs.length / 32) y = upd f (2 + bs.length / 32) y := by
        intro y
        funext i
        by_cases hi : i = 2 + bs.length / 32
        · subst hi; rw [upd_self, upd_self]
        · rw [upd_ne _ _ hi, upd_ne _ _ hi, hg1 i hi]
      unfold wp_X12_put_35
      rw [lb64 v n (by omega), e3, d32 hp, e2]
      refine ⟨fun h => ?_, fun h => ⟨hin, fun y hy w hw => ?_⟩⟩
      · have hl : lb v n = false := by
          cases hl : lb v n
          · rfl
          · rw [hl] at h; exact absurd rfl h
        refine fin g ?_
        rw [hl]
        simp only [Bool.false_eq_true, if_false, zero_shl, Int32.or_zero]
        rw [← hg2, ← hup, upd_id]
      · have hl : lb v n = true := by
          cases hl : lb v n
          · rw [hl] at h; exact absurd h (by decide)
          · rfl
        subst hw
        rw [hcl] at hy ⊢
        have hr : nI bs.length - nI (bs.length / 32) * 32 = nI (bs.length % 32) := by rw [← d32 hp]; exact r32 hp
        rw [hr, e4, hg2, sh31 _ (Nat.mod_lt _ (by decide))] at hy
        refine ⟨hin, ?_⟩
        rw [stA_I, stA_A]
        refine fin _ ?_
        rw [e4, hup, hl, if_pos rfl, hy]
    unfold wp_X12_put_5
    rw [e1]
    refine ⟨fun h => absurd h (nI_pos (by omega)), fun _ => ?_⟩
    have e3 : (st_I (st_A u 33 f) 34 (nI bs.length)).1 34 = nI bs.length := rfl
    rw [e3, r32 hp, d32 hp, e2]
    refine ⟨fun h => ?_, fun h w hw => ?_⟩
    · exact step f (fun _ _ => rfl) (by rw [if_neg (fun h2 => h (by rw [h2]; rfl))])
    · have h0 : bs.length % 32 = 0 := by
        by_cases h2 : bs.length % 32 = 0
        · exact h2
        · exact absurd h (nI_ne0 (by omega) (by omega))
      subst hw
      refine ⟨hin, ?_⟩
      rw [hcl, stA_I, stA_A]
      exact step _ (fun i hi => upd_ne _ _ hi) (by rw [show (st_I (st_A u 33 f) 34 (nI bs.length)).2.1 33 = f from rfl, upd_self, if_pos h0])
/-- what the twin's making of bits leaves: u but the row and the number of bits -/
def TkB (u u' : St) (bs : List Bool) : Prop := ∃ f', u' = st_I (st_A u 33 f') 34 (nI bs.length) ∧ PkH f' 2 bs ∧ ∀ i, i < 2 → f' i = u.2.1 33 i
theorem TkB.trans {u v w : St} {a b : List Bool} (h : TkB u v a) (h2 : TkB v w b) : TkB u w b := by
  obtain ⟨f, rfl, h3, h4⟩ := h
  obtain ⟨g, rfl, h5, h6⟩ := h2
  exact ⟨g, by rw [stA_I, stA_A, stI_I], h5, fun i hi => (h6 i hi).trans (h4 i hi)⟩
theorem tput {K : St → Prop} {u u0 : St} {v : Int64} {n : Nat} {bs : List Bool} (hn : n ≤ 64) (h : TkB u0 u bs) (hb : bs.length + n ≤ 6300)
    (hk : ∀ u', TkB u0 u' (bs ++ bo v n) → K u') : wp_X12_put u v (nI n) K := by
  obtain ⟨f, rfl, h3, h4⟩ := h
  refine ⟨n + 1, ?_⟩
  exact tput_loop K u0 v n f bs hn h3 hb (fun f' h1 h2 => hk _ ⟨f', by rw [List.length_append, bo_len], h1, fun i hi => (h2 i hi).trans (h4 i hi)⟩)
theorem cmpc (e : Int64) (he : stepOk e) (c m : Int64) (C : Int) (h1 : c.toInt = C) (h2 : (-c).toInt = -C) (h3 : m.toInt = 2 * C - 1) (hC : 0 < C ∧ C ≤ 4096) : (e + c < 0 ↔ e < -c) ∧ (m < e + c ↔ c ≤ e) := by
  obtain ⟨a, b⟩ := he
  rw [Int64.lt_iff_toInt_lt, Int64.lt_iff_toInt_lt, Int64.lt_iff_toInt_lt, Int64.le_iff_toInt_le, i64c e c C h1 (by omega) (by omega), h1, h2, h3]
  have h0 : (0 : Int64).toInt = 0 := by decide +kernel
  rw [h0]
  constructor <;> constructor <;> omega
theorem tchg {K : St → Prop} {u u0 : St} {e : Int64} {bs : List Bool} (he : stepOk e) (h : TkB u0 u bs) (hb : bs.length + 40 ≤ 6300)
    (hk : ∀ u', TkB u0 u' (bs ++ chg e) → K u') : wp_X12_putStep u e K := by
  have two : ∀ (v1 v2 : Int64) (n1 n2 : Nat), n1 + n2 ≤ 38 → chg e = bo v1 n1 ++ bo v2 n2 → wp_X12_put u v1 (nI n1) (fun u1 => wp_X12_put u1 v2 (nI n2) (fun u2 => K u2)) := by
    intro v1 v2 n1 n2 hn he
    refine tput (by omega) h (by omega) (fun u1 h1 => tput (by omega) h1 (by rw [List.length_append, bo_len]; omega) (fun u2 h2 => hk u2 ?_))
    rw [List.append_assoc, ← he] at h2
    exact h2
  have c1 := cmpc e he 64 127 64 tI_64 tI_m64 (by decide +kernel) (by decide)
  have c2 := cmpc e he 256 511 256 tI_256 tI_m256 (by decide +kernel) (by decide)
  have c3 := cmpc e he 2048 4095 2048 tI_2048 tI_m2048 (by decide +kernel) (by decide)
  unfold wp_X12_putStep
  refine ⟨fun h0 => ⟨fun h1 => ?_, fun h1 => ⟨fun h2 => ?_, fun h2 => two 2 (e + 64) 2 7 (by decide) (by unfold chg; rw [if_neg h0, if_pos ⟨mt c1.1.mpr h1, mt c1.2.mpr h2⟩])⟩⟩, fun h0 => ?_⟩
  case refine_3 =>
    refine tput (n := 1) (by omega) h (by omega) (fun u1 h1 => hk u1 ?_)
    rw [show chg e = bo 0 1 by unfold chg; rw [if_pos h0]]
    exact h1
  all_goals
    have n1 : ¬ (¬ e < -64 ∧ ¬ 64 ≤ e) := fun q => by first | exact q.1 (c1.1.mp h1) | exact q.2 (c1.2.mp h2)
    unfold wp_X12_putStep_59
    refine ⟨fun h3 => ?_, fun h3 => ⟨fun h4 => ?_, fun h4 => two 6 (e + 256) 3 9 (by decide) (by unfold chg; rw [if_neg h0, if_neg n1, if_pos ⟨mt c2.1.mpr h3, mt c2.2.mpr h4⟩])⟩⟩
    all_goals
      have n2 : ¬ (¬ e < -256 ∧ ¬ 256 ≤ e) := fun q => by first | exact q.1 (c2.1.mp h3) | exact q.2 (c2.2.mp h4)
      unfold wp_X12_putStep_103
      refine ⟨fun h5 => ?_, fun h5 => ⟨fun h6 => ?_, fun h6 => two 14 (e + 2048) 4 12 (by decide) (by unfold chg; rw [if_neg h0, if_neg n1, if_neg n2, if_pos ⟨mt c3.1.mpr h5, mt c3.2.mpr h6⟩])⟩⟩
      all_goals
        have n3 : ¬ (¬ e < -2048 ∧ ¬ 2048 ≤ e) := fun q => by first | exact q.1 (c3.1.mp h5) | exact q.2 (c3.2.mp h6)
        exact two 15 (e + 8589934592) 4 34 (by decide) (by unfold chg; rw [if_neg h0, if_neg n1, if_neg n2, if_neg n3])
theorem ofN_toInt {m : Nat} (h : m < 2 ^ 63) : (Int64.ofNat m).toInt = m := Int64.toInt_ofNat_of_lt h
theorem ofN_tn {m : Nat} (h : m < 2 ^ 64) : (Int64.ofNat m).toBitVec.toNat = m := by
  show (BitVec.ofNat 64 m).toNat = m
  rw [BitVec.toNat_ofNat, Nat.mod_eq_of_lt h]
theorem ofN_0 {m : Nat} (h : m < 2 ^ 63) : Int64.ofNat m = 0 ↔ m = 0 := by
  constructor
  · intro h2
    have := congrArg Int64.toInt h2
    rw [ofN_toInt h] at this
    have h0 : (0 : Int64).toInt = 0 := by decide +kernel
    omega
  · intro h2; subst h2; rfl
theorem ofN_and {m k : Nat} (c : Int64) (hc : c.toBitVec.toNat = 2 ^ k - 1) (h : m < 2 ^ 63) : Int64.ofNat m &&& c = Int64.ofNat (m % 2 ^ k) := by
  apply Int64.toBitVec_inj.mp
  apply BitVec.eq_of_toNat_eq
  have : m % 2 ^ k ≤ m := Nat.mod_le _ _
  rw [Int64.toBitVec_and, BitVec.toNat_and, ofN_tn (by omega), ofN_tn (by omega), hc, Nat.and_two_pow_sub_one_eq_mod]
theorem ofN_shr4 {m : Nat} (h : m < 2 ^ 63) : Int64.ofNat m >>> ((4 : Int32).toInt64 &&& 63) = Int64.ofNat (m / 16) := by
  apply Int64.toBitVec_inj.mp
  apply BitVec.eq_of_toNat_eq
  rw [Int64.toBitVec_shiftRight, BitVec.sshiftRight', show (((4 : Int32).toInt64 &&& 63).toBitVec.smod 64).toNat = 4 by decide +kernel, BitVec.sshiftRight_eq_of_msb_false (by rw [BitVec.msb_eq_decide]; exact decide_eq_false (by rw [ofN_tn (by omega)]; omega)), BitVec.toNat_ushiftRight, ofN_tn (by omega), ofN_tn (by omega), Nat.shiftRight_eq_div_pow]
theorem tnib {K : St → Prop} {u0 : St} : ∀ (n : Nat) (z : Nat) (u : St) (bs : List Bool), z < 16 ^ n → z < 2 ^ 32 → TkB u0 u bs → bs.length + 5 * n + 1 ≤ 6300 →
    (∀ u', TkB u0 u' (bs ++ nibs n z) → K u') → wp_X12_putValue_26 K (n + 1) (Int64.ofNat z) u := by
  intro n
  induction n with
  | zero =>
    intro z u bs hz hz2 h hb hk
    have : z = 0 := by simpa using hz
    subst this
    unfold wp_X12_putValue_26
    refine ⟨fun _ => ?_, fun h => absurd rfl h⟩
    unfold wp_X12_putValue_55
    exact tput (n := 1) (by omega) h (by omega) (fun u1 h1 => hk u1 h1)
  | succ n ih =>
    intro z u bs hz hz2 h hb hk
    unfold wp_X12_putValue_26
    refine ⟨fun h0 => ?_, fun h0 => ?_⟩
    · have h0 := (ofN_0 (by omega)).mp h0
      subst h0
      unfold wp_X12_putValue_55
      exact tput (n := 1) (by omega) h (by omega) (fun u1 h1 => hk u1 (by rw [show nibs (n + 1) 0 = bo 0 1 from rfl]; exact h1))
    · have h0 : ¬ z = 0 := fun h => h0 ((ofN_0 (by omega)).mpr h)
      rw [ofN_and (k := 4) 15 (by decide +kernel) (by omega), ofN_shr4 (by omega)]
      refine tput (n := 1) (by omega) h (by omega) (fun u1 h1 => tput (n := 4) (by omega) h1 (by simp [bo_len]; omega) (fun u2 h2 => ?_))
      refine ih (z / 16) u2 _ (by rw [Nat.div_lt_iff_lt_mul (by decide)]; rw [Nat.pow_succ] at hz; exact hz) (by omega) h2 (by simp [bo_len]; omega) (fun u3 h3 => hk u3 ?_)
      have e3 : nibs (n + 1) z = bo 1 1 ++ (bo (Int64.ofNat (z % 16)) 4 ++ nibs n (z / 16)) := by rw [nibs, if_neg h0]; rfl
      rw [e3]
      simpa [List.append_assoc] using h3
theorem zz_long (d : Int32) : (if 0 ≤ d then ((2 : Int64) * d.toInt64) else (((-2 : Int64) * d.toInt64) - (1 : Int64))) &&& (4294967295 : Int64) = Int64.ofNat (zz d) := by
  have hz := zz_lt d
  have hv := zz_val d
  have hd1 := Int32.toInt_lt d
  have hd2 := Int32.le_toInt d
  have e : (if 0 ≤ d then ((2 : Int64) * d.toInt64) else (((-2 : Int64) * d.toInt64) - (1 : Int64))) = Int64.ofNat (zz d) := by
    apply Int64.toInt_inj.mp
    rw [ofN_toInt (by omega), hv]
    have h0 : (0 : Int32).toInt = 0 := by decide +kernel
    have h2 : (2 : Int64).toInt = 2 := by decide +kernel
    have h3 : (-2 : Int64).toInt = -2 := by decide +kernel
    have h1 : (1 : Int64).toInt = 1 := by decide +kernel
    by_cases h : 0 ≤ d
    · have hh := Int32.le_iff_toInt_le.mp h
      rw [if_pos h, if_pos (by omega), Int64.toInt_mul, t64, h2, Int.bmod_eq_of_le (by omega) (by omega)]
    · have hh := mt Int32.le_iff_toInt_le.mpr h
      rw [if_neg h, if_neg (by omega), Int64.toInt_sub, Int64.toInt_mul, t64, h3, h1, Int.bmod_eq_of_le (n := -2 * d.toInt) (by omega) (by omega), Int.bmod_eq_of_le (by omega) (by omega)]
  rw [e, ofN_and (k := 32) 4294967295 (by decide +kernel) (by omega), Nat.mod_eq_of_lt hz]
theorem tval {K : St → Prop} {u u0 : St} {d : Int32} {bs : List Bool} (h : TkB u0 u bs) (hb : bs.length + 46 ≤ 6300)
    (hk : ∀ u', TkB u0 u' (bs ++ dif d) → K u') : wp_X12_putValue u d K := by
  unfold wp_X12_putValue
  intro z hz
  refine ⟨10, ?_⟩
  rw [hz, zz_long]
  exact tnib 9 (zz d) u bs (Nat.lt_trans (zz_lt d) (by decide)) (zz_lt d) h (by omega) hk
