set_option maxRecDepth 100000
/-! ===== plain: how points become bits ===== -/
def chg (e : Int64) : List Bool :=
  if e = 0 then bo 0 1
  else if ¬ e < -64 ∧ ¬ 64 ≤ e then bo 2 2 ++ bo (e + 64) 7
  else if ¬ e < -256 ∧ ¬ 256 ≤ e then bo 6 3 ++ bo (e + 256) 9
  else if ¬ e < -2048 ∧ ¬ 2048 ≤ e then bo 14 4 ++ bo (e + 2048) 12
  else bo 15 4 ++ bo (e + 8589934592) 34
/-- nibbles from the low end, each behind a 1, then a 0 -/
def nibs : Nat → Nat → List Bool
  | 0, _ => [false]
  | n + 1, z => if z = 0 then [false] else true :: (bo (Int64.ofNat (z % 16)) 4 ++ nibs n (z / 16))
def zz (d : Int32) : Nat := ((d <<< (1 : Int32)) ^^^ (d >>> (31 : Int32))).toBitVec.toNat
def dif (d : Int32) : List Bool := nibs 9 (zz d)
/-- whether none came yet; the last one's time and value; by how much it rose; the bits -/
abbrev ES : Type := Bool × Int32 × Int32 × Int64 × List Bool
def es0 : ES := (true, 0, 0, 0, [])
def esT (e : ES) (p : Int32 × Int32) : ES := if e.1 then (false, p.1, p.2, e.2.2.2.1, e.2.2.2.2 ++ (bo p.1.toInt64 32 ++ bo p.2.toInt64 32))
  else (false, p.1, p.2, p.1.toInt64 - e.2.1.toInt64, e.2.2.2.2 ++ (chg (p.1.toInt64 - e.2.1.toInt64 - e.2.2.2.1) ++ dif (p.2 - e.2.2.1)))
def esL (ps : List (Int32 × Int32)) : ES := ps.foldl esT es0
def enc (ps : List (Int32 × Int32)) : List Bool := (esL ps).2.2.2.2
theorem chg_len (e : Int64) : (chg e).length ≤ 38 := by
  unfold chg
  repeat' split
  all_goals simp [bo_len]
theorem nibs_len : ∀ n z, (nibs n z).length ≤ 5 * n + 1
  | 0, _ => by simp [nibs]
  | n + 1, z => by
    unfold nibs
    split
    · simp
    · have := nibs_len n (z / 16)
      simp [bo_len]
      omega
theorem dif_len (d : Int32) : (dif d).length ≤ 46 := nibs_len 9 _
theorem esT_len (e : ES) (p : Int32 × Int32) : (esT e p).2.2.2.2.length ≤ e.2.2.2.2.length + 84 := by
  unfold esT
  split
  · simp [bo_len]
  · have := chg_len (p.1.toInt64 - e.2.1.toInt64 - e.2.2.2.1)
    have := dif_len (p.2 - e.2.2.1)
    simp only [List.length_append]
    omega
theorem esL_snoc (ps : List (Int32 × Int32)) (p : Int32 × Int32) : esL (ps ++ [p]) = esT (esL ps) p := by
  unfold esL; rw [List.foldl_append]; rfl
theorem enc_len (ps : List (Int32 × Int32)) : (enc ps).length ≤ 84 * ps.length := by
  unfold enc esL
  have : ∀ (ps : List (Int32 × Int32)) (e : ES), (ps.foldl esT e).2.2.2.2.length ≤ e.2.2.2.2.length + 84 * ps.length := by
    intro ps
    induction ps with
    | nil => intro e; simp
    | cons p ps ih =>
      intro e
      have h1 := ih (esT e p)
      have h2 := esT_len e p
      simp only [List.foldl_cons, List.length_cons]
      omega
  have := this ps es0
  simpa [es0] using this
/-! ===== the packer ===== -/
/-- the packer holds e's bits from cell q on -/
def PkR (u : St) (q : Nat) (e : ES) : Prop :=
  u.1 1 = nI (32 * q + e.2.2.2.2.length) ∧ PkH (u.2.1 0) q e.2.2.2.2 ∧ u.1 2 = nI (32 * q) ∧ u.1 3 = (if e.1 then 1 else 0) ∧ (e.1 = false → u.1 4 = e.2.1 ∧ u.1 5 = e.2.2.1) ∧ u.2.2.1 6 = e.2.2.2.1
/-- bits alone -/
def PkB (u : St) (q : Nat) (bs : List Bool) : Prop := u.1 1 = nI (32 * q + bs.length) ∧ PkH (u.2.1 0) q bs
/-- the packer but its row and its place -/
def PkF (u u' : St) (q : Nat) : Prop := (∀ k, k ≠ 1 → u'.1 k = u.1 k) ∧ u'.2.2 = u.2.2 ∧ ∀ i, i < q → u'.2.1 0 i = u.2.1 0 i
theorem PkF.refl (u : St) (q : Nat) : PkF u u q := ⟨fun _ _ => rfl, rfl, fun _ _ => rfl⟩
theorem PkF.trans {u v w : St} {q : Nat} (h : PkF u v q) (h2 : PkF v w q) : PkF u w q := ⟨fun k hk => (h2.1 k hk).trans (h.1 k hk), h2.2.1.trans h.2.1, fun i hi => (h2.2.2 i hi).trans (h.2.2 i hi)⟩
theorem putB {K : St → Prop} {u : St} {v : Int64} {q n : Nat} {bs : List Bool} (hn : n ≤ 64) (h : PkB u q bs) (hb : 32 * q + bs.length + n ≤ 81920)
    (hk : ∀ u', PkB u' q (bs ++ bo v n) → PkF u u' q → K u') : wp_X4_put u v (nI n) K := by
  refine put_spec hn h.1 h.2 hb (fun f' h1 h2 => hk _ ⟨rfl, h1⟩ ⟨fun k hk => ?_, rfl, fun i hi => h2 i hi⟩)
  show (if k = 1 then _ else u.1 k) = u.1 k
  rw [if_neg hk]
theorem chg_spec {K : St → Prop} {u : St} {e : Int64} {q : Nat} {bs : List Bool} (h : PkB u q bs) (hb : 32 * q + bs.length + 40 ≤ 81920)
    (hk : ∀ u', PkB u' q (bs ++ chg e) → PkF u u' q → K u') : wp_X4_change u e K := by
  have two : ∀ (v1 v2 : Int64) (n1 n2 : Nat), n1 + n2 ≤ 38 → chg e = bo v1 n1 ++ bo v2 n2 → wp_X4_put u v1 (nI n1) (fun u1 => wp_X4_put u1 v2 (nI n2) (fun u2 => K u2)) := by
    intro v1 v2 n1 n2 hn he
    refine putB (by omega) h (by omega) (fun u1 h1 f1 => putB (by omega) h1 (by rw [List.length_append, bo_len]; omega) (fun u2 h2 f2 => hk u2 ?_ (f1.trans f2)))
    rw [List.append_assoc, ← he] at h2
    exact h2
  unfold wp_X4_change
  refine ⟨fun h0 => ⟨fun h1 => ?_, fun h1 => ⟨fun h2 => ?_, fun h2 => two 2 (e + 64) 2 7 (by decide) (by unfold chg; rw [if_neg h0, if_pos ⟨h1, h2⟩])⟩⟩, fun h0 => ?_⟩
  case refine_3 =>
    refine putB (n := 1) (by omega) h (by omega) (fun u1 h1 f1 => hk u1 ?_ f1)
    rw [show chg e = bo 0 1 by unfold chg; rw [if_pos h0]]
    exact h1
  all_goals
    have n1 : ¬ (¬ e < -64 ∧ ¬ 64 ≤ e) := fun q => by first | exact q.1 h1 | exact q.2 h2
    unfold wp_X4_change_53
    refine ⟨fun h3 => ?_, fun h3 => ⟨fun h4 => ?_, fun h4 => two 6 (e + 256) 3 9 (by decide) (by unfold chg; rw [if_neg h0, if_neg n1, if_pos ⟨h3, h4⟩])⟩⟩
    all_goals
      have n2 : ¬ (¬ e < -256 ∧ ¬ 256 ≤ e) := fun q => by first | exact q.1 h3 | exact q.2 h4
      unfold wp_X4_change_91
      refine ⟨fun h5 => ?_, fun h5 => ⟨fun h6 => ?_, fun h6 => two 14 (e + 2048) 4 12 (by decide) (by unfold chg; rw [if_neg h0, if_neg n1, if_neg n2, if_pos ⟨h5, h6⟩])⟩⟩
      all_goals
        have n3 : ¬ (¬ e < -2048 ∧ ¬ 2048 ≤ e) := fun q => by first | exact q.1 h5 | exact q.2 h6
        exact two 15 (e + 8589934592) 4 34 (by decide) (by unfold chg; rw [if_neg h0, if_neg n1, if_neg n2, if_neg n3])
theorem nI_tn (z : Nat) (h : z < 2 ^ 32) : (nI z).toBitVec.toNat = z := pk_tn h
theorem tn_nI (x : Int32) : nI x.toBitVec.toNat = x := by
  apply Int32.toBitVec_inj.mp
  show BitVec.ofNat 32 x.toBitVec.toNat = _
  rw [BitVec.ofNat_toNat, BitVec.setWidth_eq]
theorem nI_0' {z : Nat} (h : z < 2 ^ 32) : nI z = 0 ↔ z = 0 := by
  constructor
  · intro h2
    have := congrArg (fun x : Int32 => x.toBitVec.toNat) h2
    simpa [nI_tn z h] using this
  · intro h2; subst h2; rfl
theorem b16 : ∀ r, r < 16 → bo ((16 : Int64) ||| (nI r).toInt64) 5 = true :: bo (Int64.ofNat r) 4 := by decide +kernel
theorem nib_loop {C : Int32 → Int32 → St → Prop} {K : St → Prop} {q : Nat} (x1 x2 : Int32) : ∀ (n : Nat) (z : Nat) (u : St) (bs : List Bool), z < 16 ^ n → z < 2 ^ 32 → PkB u q bs → 32 * q + bs.length + 5 * n + 1 ≤ 81920 →
    (∀ u', PkB u' q (bs ++ nibs n z) → PkF u u' q → C x1 x2 u') → wp_X4_take_75 C K (n + 1) x1 x2 (nI z) u := by
  intro n
  induction n with
  | zero =>
    intro z u bs hz hz2 h hb hk
    have : z = 0 := by simpa using hz
    subst this
    unfold wp_X4_take_75
    refine ⟨fun _ => ?_, fun h => absurd rfl h⟩
    unfold wp_X4_take_104
    exact putB (n := 1) (by omega) h (by omega) (fun u1 h1 f1 => hk u1 h1 f1)
  | succ n ih =>
    intro z u bs hz hz2 h hb hk
    unfold wp_X4_take_75
    refine ⟨fun h0 => ?_, fun h0 => ?_⟩
    · have h0 := (nI_0' hz2).mp h0
      subst h0
      unfold wp_X4_take_104
      exact putB (n := 1) (by omega) h (by omega) (fun u1 h1 f1 => hk u1 (by rw [show nibs (n + 1) 0 = bo 0 1 from rfl]; exact h1) f1)
    · have h0 : ¬ z = 0 := fun h => h0 ((nI_0' hz2).mpr h)
      have e1 : nI z &&& (15 : Int32) = nI (z % 16) := pk_andN hz2 4 (by decide +kernel)
      have e2 : ((nI z).toUInt32 >>> ((4 : Int32).toUInt32 &&& Int32.toUInt32 31)).toInt32 = nI (z / 16) := pk_ushrN hz2 4 4 (by decide +kernel)
      rw [e1, e2]
      refine putB (n := 5) (by omega) h (by omega) (fun u1 h1 f1 => ?_)
      rw [b16 _ (Nat.mod_lt _ (by decide))] at h1
      refine ih (z / 16) u1 _ (by rw [Nat.div_lt_iff_lt_mul (by decide)]; rw [Nat.pow_succ] at hz; exact hz) (by omega) h1 (by simp [bo_len]; omega) (fun u2 h2 f2 => hk u2 ?_ (f1.trans f2))
      have e3 : nibs (n + 1) z = true :: (bo (Int64.ofNat (z % 16)) 4 ++ nibs n (z / 16)) := by rw [nibs, if_neg h0]
      rw [e3]
      simpa using h2
theorem take_spec {K : St → Prop} {u : St} {q : Nat} {e : ES} (t v : Int32) (h : PkR u q e) (hb : 32 * q + e.2.2.2.2.length + 90 ≤ 81920)
    (hk : ∀ u', PkR u' q (esT e (t, v)) → (∀ i, i < q → u'.2.1 0 i = u.2.1 0 i) → K u') : wp_X4_take u t v K := by
  obtain ⟨h1, h2, h3, h4, h5, h6⟩ := h
  unfold wp_X4_take
  refine ⟨fun h0 => ?_, fun h0 => ?_⟩
  · have hf : e.1 = false := by
      cases he : e.1
      · rfl
      · rw [he] at h4; rw [h4] at h0; exact absurd h0 (by decide)
    obtain ⟨h7, h8⟩ := h5 hf
    rw [h7, h6]
    refine chg_spec ⟨h1, h2⟩ (by omega) (fun u1 g1 f1 => ⟨10, ?_⟩)
    have e1 : u1.1 5 = e.2.2.1 := (f1.1 5 (by decide)).trans h8
    rw [e1]
    have ez : ((v - e.2.2.1) <<< ((1 : Int32) &&& 31)) ^^^ ((v - e.2.2.1) >>> ((31 : Int32) &&& 31)) = nI (zz (v - e.2.2.1)) := (tn_nI _).symm
    rw [ez]
    have hl := chg_len (t.toInt64 - e.2.1.toInt64 - e.2.2.2.1)
    refine nib_loop t v 9 (zz (v - e.2.2.1)) (st_L u1 6 (t.toInt64 - e.2.1.toInt64)) _ (Nat.lt_of_lt_of_le (BitVec.isLt _) (by decide)) (BitVec.isLt _) (show PkB (st_L u1 6 _) q _ from g1) (by rw [List.length_append]; omega) (fun u2 g2 f2 => ?_)
    unfold wp_X4_take_110
    have eb : (esT e (t, v)) = (false, t, v, t.toInt64 - e.2.1.toInt64, e.2.2.2.2 ++ (chg (t.toInt64 - e.2.1.toInt64 - e.2.2.2.1) ++ dif (v - e.2.2.1))) := by unfold esT; rw [hf]; rfl
    refine hk _ ?_ (fun i hi => (f2.2.2 i hi).trans (f1.2.2 i hi))
    rw [eb]
    rw [List.append_assoc] at g2
    refine ⟨g2.1, g2.2, ?_, ?_, fun _ => ⟨rfl, rfl⟩, ?_⟩
    · exact (f2.1 2 (by decide)).trans ((f1.1 2 (by decide)).trans h3)
    · exact (f2.1 3 (by decide)).trans ((f1.1 3 (by decide)).trans h0)
    · show u2.2.2.1 6 = _
      rw [f2.2.1]; rfl
  · have hf : e.1 = true := by
      cases he : e.1
      · rw [he] at h4; exact absurd h4 h0
      · rfl
    refine putB (n := 32) (by omega) ⟨h1, h2⟩ (by omega) (fun u1 g1 f1 => putB (n := 32) (by omega) g1 (by rw [List.length_append, bo_len]; omega) (fun u2 g2 f2 => ?_))
    unfold wp_X4_take_110
    have eb : (esT e (t, v)) = (false, t, v, e.2.2.2.1, e.2.2.2.2 ++ (bo t.toInt64 32 ++ bo v.toInt64 32)) := by unfold esT; rw [hf]; rfl
    refine hk _ ?_ (fun i hi => (f2.2.2 i hi).trans (f1.2.2 i hi))
    rw [eb]
    rw [List.append_assoc] at g2
    refine ⟨g2.1, g2.2, ?_, rfl, fun _ => ⟨rfl, rfl⟩, ?_⟩
    · exact (f2.1 2 (by decide)).trans ((f1.1 2 (by decide)).trans h3)
    · show u2.2.2.1 6 = _
      rw [f2.2.1, f1.2.1]; exact h6
theorem and_m32 {p : Nat} (h : p < 2 ^ 30) : (nI p + 31) &&& (-32 : Int32) = nI (32 * ((p + 31) / 32)) := by
  have e1 : nI p + 31 = nI (p + 31) := nI_add p 31
  rw [e1]
  apply Int32.toBitVec_inj.mp
  apply BitVec.eq_of_getLsbD_eq
  intro i hi
  rw [Int32.toBitVec_and, BitVec.getLsbD_and]
  show ((BitVec.ofNat 32 (p + 31)).getLsbD i && (BitVec.ofNat 32 4294967264).getLsbD i) = (BitVec.ofNat 32 (32 * ((p + 31) / 32))).getLsbD i
  rw [BitVec.getLsbD_ofNat, BitVec.getLsbD_ofNat, BitVec.getLsbD_ofNat]
  have e2 : 32 * ((p + 31) / 32) = ((p + 31) / 2 ^ 5) * 2 ^ 5 := by omega
  rw [e2, Nat.testBit_mul_two_pow, Nat.testBit_div_two_pow]
  have e3 : ∀ i, i < 32 → Nat.testBit 4294967264 i = decide (5 ≤ i) := by decide +kernel
  rw [e3 i hi]
  by_cases h5 : 5 ≤ i
  · simp [h5, hi, show i - 5 + 5 = i by omega]
  · simp [h5]
/-- how many cells bits take -/
def cel (n : Nat) : Nat := (n + 31) / 32
theorem end_spec {K : Int32 → St → Prop} {u : St} {q : Nat} {e : ES} (h : PkR u q e) (hb : 32 * q + e.2.2.2.2.length ≤ 81920)
    (hk : ∀ u', u'.1 1 = nI (32 * (q + cel e.2.2.2.2.length)) → u'.2 = u.2 → K (nI (cel e.2.2.2.2.length)) u') : wp_X4_end u K := by
  obtain ⟨h1, h2, h3, -⟩ := h
  unfold wp_X4_end
  intro y hy
  have e0 : 32 * ((32 * q + e.2.2.2.2.length + 31) / 32) = 32 * (q + cel e.2.2.2.2.length) := by unfold cel; omega
  rw [h1, and_m32 (by omega), e0] at hy
  have e1 : (y - u.1 2) >>> ((5 : Int32) &&& 31) = nI (cel e.2.2.2.2.length) := by
    rw [hy, h3, pk_sub (by omega), show 32 * (q + cel e.2.2.2.2.length) - 32 * q = 32 * cel e.2.2.2.2.length by omega, sh5 (by unfold cel; omega), Nat.mul_div_cancel_left _ (by decide)]
  rw [e1]
  exact hk _ hy rfl
