set_option maxRecDepth 100000
/-! ===== plain: bits and words ===== -/
def tb (x : Int32) (j : Nat) : Bool := x.toBitVec.getLsbD (31 - j)
theorem tb_ext {x y : Int32} (h : ∀ j, j < 32 → tb x j = tb y j) : x = y := by
  apply Int32.toBitVec_inj.mp
  apply BitVec.eq_of_getLsbD_eq
  intro i hi
  have := h (31 - i) (by omega)
  unfold tb at this
  rwa [show 31 - (31 - i) = i by omega] at this
/-- word i of a row of bits, from the top -/
def wOf (bs : List Bool) (i : Nat) : Int32 := Int32.ofBitVec (BitVec.iunfoldr (fun (k : Fin 32) (_ : Unit) => ((), bs.getD (32 * i + (31 - k.val)) false)) ()).2
theorem tb_wOf (bs : List Bool) (i j : Nat) (hj : j < 32) : tb (wOf bs i) j = bs.getD (32 * i + j) false := by
  unfold tb wOf
  rw [Int32.toBitVec_ofBitVec]
  have := BitVec.iunfoldr_getLsbD (f := fun (k : Fin 32) (_ : Unit) => ((), bs.getD (32 * i + (31 - k.val)) false)) (fun _ => ()) ⟨31 - j, by omega⟩ (fun _ => rfl)
  refine this.trans ?_
  show bs.getD (32 * i + (31 - (31 - j))) false = _
  rw [show 31 - (31 - j) = j by omega]
/-- bit k of a long -/
def lb (v : Int64) (k : Nat) : Bool := v.toBitVec.getLsbD k
/-- the n low bits of a long, from the top -/
def bo (v : Int64) : Nat → List Bool
  | 0 => []
  | n + 1 => lb v n :: bo v n
theorem bo_len (v : Int64) (n : Nat) : (bo v n).length = n := by
  induction n with
  | zero => rfl
  | succ n ih => simp [bo, ih]
theorem sh63 : ∀ n, n < 64 → (nI n).toInt64 &&& 63 = Int64.ofNat n := by decide +kernel
theorem sm64 : ∀ n, n < 64 → ((Int64.ofNat n).toBitVec.smod 64).toNat = n := by decide +kernel
theorem lb_eq (v : Int64) (n : Nat) (hn : n < 64) : ((v >>> ((nI n).toInt64 &&& 63)) &&& (1 : Int64)).toInt32 = if lb v n then 1 else 0 := by
  rw [sh63 n hn]
  have h1 : ((v >>> Int64.ofNat n) &&& (1 : Int64)) = if lb v n then 1 else 0 := by
    apply Int64.toBitVec_inj.mp
    rw [Int64.toBitVec_and, Int64.toBitVec_shiftRight, show (1 : Int64).toBitVec = 1#64 from rfl, BitVec.and_one_eq_setWidth_ofBool_getLsbD, BitVec.sshiftRight', sm64 n hn, BitVec.getLsbD_sshiftRight, Nat.add_zero]
    unfold lb
    simp only [hn, if_true]
    cases v.toBitVec.getLsbD n <;> decide
  rw [h1]
  cases lb v n <;> rfl
theorem sh31 : ∀ r, r < 32 → (((31 : Int32) - nI r) &&& 31) = nI (31 - r) := by decide +kernel
theorem sm32 : ∀ r, r < 32 → ((nI r).toBitVec.smod 32).toNat = r := by decide +kernel
theorem one_shl (r j : Nat) (hr : r < 32) (hj : j < 32) : tb ((1 : Int32) <<< nI (31 - r)) j = decide (j = r) := by
  unfold tb
  rw [Int32.toBitVec_shiftLeft, BitVec.shiftLeft_eq', sm32 _ (by omega), show (1 : Int32).toBitVec = 1#32 from rfl, BitVec.getLsbD_shiftLeft]
  rw [BitVec.getLsbD_one]
  by_cases h : j = r
  · subst h
    simp
    omega
  · have h2 : ¬ ((31 - j) - (31 - r) = 0 ∧ ¬ (31 - j) < 31 - r) := by omega
    by_cases h3 : (31 - j) < 31 - r
    · simp [h, h3]
    · have h4 : ¬ (31 - j) - (31 - r) = 0 := fun q => h2 ⟨q, h3⟩
      simp [h, h4]
theorem sh5 {p : Nat} (h : p < 2 ^ 31) : nI p >>> ((5 : Int32) &&& 31) = nI (p / 32) := pk_shrN h _ 5 (by decide +kernel)
theorem and31 {p : Nat} (h : p < 2 ^ 31) : nI p &&& (31 : Int32) = nI (p % 32) := pk_andN (by omega) 5 (by decide +kernel)
theorem tb_or (x y : Int32) (j : Nat) : tb (x ||| y) j = (tb x j || tb y j) := by
  unfold tb; rw [Int32.toBitVec_or, BitVec.getLsbD_or]
theorem tb_zero (j : Nat) : tb 0 j = false := by
  unfold tb; rw [show (0 : Int32).toBitVec = 0#32 from rfl, BitVec.getLsbD_zero]
theorem zero_shl (r : Nat) : (0 : Int32) <<< nI r = 0 := by
  apply Int32.toBitVec_inj.mp
  rw [Int32.toBitVec_shiftLeft, show (0 : Int32).toBitVec = 0#32 from rfl, BitVec.shiftLeft_eq', BitVec.zero_shiftLeft]
theorem gD_out {α : Type} (l : List α) (i : Nat) (d : α) (h : l.length ≤ i) : l.getD i d = d := by
  rw [List.getD_eq_getElem?_getD, List.getElem?_eq_none h]; rfl
theorem gD_app1 {α : Type} (l m : List α) (i : Nat) (d : α) (h : i < l.length) : (l ++ m).getD i d = l.getD i d := by
  rw [List.getD_eq_getElem?_getD, List.getD_eq_getElem?_getD, List.getElem?_append_left h]
theorem gD_app2 {α : Type} (l m : List α) (i : Nat) (d : α) (h : l.length ≤ i) : (l ++ m).getD i d = m.getD (i - l.length) d := by
  rw [List.getD_eq_getElem?_getD, List.getD_eq_getElem?_getD, List.getElem?_append_right h]
/-- one more bit: the word at hand -/
theorem wOf_put (bs : List Bool) (b : Bool) : wOf (bs ++ [b]) (bs.length / 32) = (if bs.length % 32 = 0 then 0 else wOf bs (bs.length / 32)) ||| ((if b then 1 else 0 : Int32) <<< nI (31 - bs.length % 32)) := by
  apply tb_ext
  intro j hj
  rw [tb_wOf _ _ _ hj, tb_or]
  have e1 : tb ((if b then 1 else 0 : Int32) <<< nI (31 - bs.length % 32)) j = (b && decide (j = bs.length % 32)) := by
    cases b
    · simp only [Bool.false_eq_true, if_false, zero_shl, tb_zero, Bool.false_and]
    · simp only [if_true, Bool.true_and]
      exact one_shl _ _ (Nat.mod_lt _ (by decide)) hj
  have e2 : tb (if bs.length % 32 = 0 then 0 else wOf bs (bs.length / 32)) j = bs.getD (32 * (bs.length / 32) + j) false := by
    split
    · rename_i h
      rw [tb_zero, gD_out _ _ _ (by omega)]
    · rw [tb_wOf _ _ _ hj]
  rw [e1, e2]
  by_cases h : 32 * (bs.length / 32) + j < bs.length
  · rw [gD_app1 _ _ _ _ h, show decide (j = bs.length % 32) = false from decide_eq_false (by omega), Bool.and_false, Bool.or_false]
  · rw [gD_app2 _ _ _ _ (by omega), gD_out bs _ _ (by omega), Bool.false_or]
    by_cases h2 : j = bs.length % 32
    · rw [show 32 * (bs.length / 32) + j - bs.length = 0 by omega]
      simp [h2]
    · rw [gD_out _ _ _ (by simp; omega)]
      simp [h2]
theorem wOf_pre (bs cs : List Bool) (i : Nat) (h : 32 * i + 32 ≤ bs.length) : wOf (bs ++ cs) i = wOf bs i := by
  apply tb_ext
  intro j hj
  rw [tb_wOf _ _ _ hj, tb_wOf _ _ _ hj, gD_app1 _ _ _ _ (by omega)]
/-! ===== the packer's put ===== -/
/-- the row f holds bs from cell q on -/
def PkH (f : Nat → Int32) (q : Nat) (bs : List Bool) : Prop := ∀ i, 32 * i < bs.length → f (q + i) = wOf bs i
theorem PkH.put {f : Nat → Int32} {q : Nat} {bs : List Bool} (h : PkH f q bs) (b : Bool) :
    PkH (upd f (q + bs.length / 32) ((if bs.length % 32 = 0 then 0 else f (q + bs.length / 32)) ||| ((if b then 1 else 0 : Int32) <<< nI (31 - bs.length % 32)))) q (bs ++ [b]) := by
  intro i hi
  rw [List.length_append, List.length_singleton] at hi
  unfold upd
  by_cases h2 : i = bs.length / 32
  · subst h2
    rw [if_pos rfl, wOf_put]
    congr 1
    split
    · rfl
    · exact h _ (by omega)
  · rw [if_neg (by omega), h i (by omega), wOf_pre _ _ _ (by omega)]
/-! reading states -/
theorem sI (u : St) (k : Nat) (v : Int32) (j : Nat) : (st_I u k v).1 j = if j = k then v else u.1 j := rfl
theorem sIA (u : St) (k : Nat) (v : Int32) : (st_I u k v).2 = u.2 := rfl
theorem sA (u : St) (k : Nat) (f : Nat → Int32) (j : Nat) : (st_A u k f).2.1 j = if j = k then f else u.2.1 j := rfl
theorem sA1 (u : St) (k : Nat) (f : Nat → Int32) : (st_A u k f).1 = u.1 := rfl
theorem sA2 (u : St) (k : Nat) (f : Nat → Int32) : (st_A u k f).2.2 = u.2.2 := rfl
theorem sL (u : St) (k : Nat) (v : Int64) (j : Nat) : (st_L u k v).2.2.1 j = if j = k then v else u.2.2.1 j := rfl
theorem sL1 (u : St) (k : Nat) (v : Int64) : (st_L u k v).1 = u.1 := rfl
theorem sL2 (u : St) (k : Nat) (v : Int64) : (st_L u k v).2.1 = u.2.1 := rfl
theorem sL3 (u : St) (k : Nat) (v : Int64) : (st_L u k v).2.2.2 = u.2.2.2 := rfl
theorem sB (u : St) (k : Nat) (f : Nat → Int64) (j : Nat) : (st_B u k f).2.2.2 j = if j = k then f else u.2.2.2 j := rfl
theorem sB1 (u : St) (k : Nat) (f : Nat → Int64) : (st_B u k f).1 = u.1 := rfl
theorem sB2 (u : St) (k : Nat) (f : Nat → Int64) : (st_B u k f).2.1 = u.2.1 := rfl
theorem sB3 (u : St) (k : Nat) (f : Nat → Int64) : (st_B u k f).2.2.1 = u.2.2.1 := rfl
theorem upd_id (f : Nat → Int32) (k : Nat) : upd f k (f k) = f := by funext j; unfold upd; split <;> simp_all
theorem upd_upd (f : Nat → Int32) (k : Nat) (a b : Int32) : upd (upd f k a) k b = upd f k b := by funext j; unfold upd; split <;> rfl
theorem up_id {α : Type} (f : Nat → α) (k : Nat) : va_up f k (f k) = f := by funext j; unfold va_up; split <;> simp_all
theorem up_up {α : Type} (f : Nat → α) (k : Nat) (a b : α) : va_up (va_up f k a) k b = va_up f k b := by funext j; unfold va_up; split <;> rfl
theorem stI_id (u : St) (k : Nat) : st_I u k (u.1 k) = u := by unfold st_I; rw [upd_id]
theorem stA_id (u : St) (k : Nat) : st_A u k (u.2.1 k) = u := by unfold st_A; rw [up_id]
theorem stI_I (u : St) (k : Nat) (a b : Int32) : st_I (st_I u k a) k b = st_I u k b := by unfold st_I; rw [upd_upd]
theorem stA_A (u : St) (k : Nat) (a b : Nat → Int32) : st_A (st_A u k a) k b = st_A u k b := by unfold st_A; rw [up_up]
theorem stA_I (u : St) (k j : Nat) (v : Int32) (f : Nat → Int32) : st_A (st_I u k v) j f = st_I (st_A u j f) k v := rfl
theorem upd_self (f : Nat → Int32) (k : Nat) (x : Int32) : upd f k x k = x := if_pos rfl
theorem upd_ne (f : Nat → Int32) {k j : Nat} (x : Int32) (h : j ≠ k) : upd f k x j = f j := if_neg h
/-- put: the bits come behind those that are there -/
theorem put_loop (K : St → Prop) (u : St) (v : Int64) (q : Nat) : ∀ (n : Nat) (f : Nat → Int32) (bs : List Bool), n ≤ 64 → PkH f q bs → 32 * q + bs.length + n ≤ 81920 →
    (∀ f', PkH f' q (bs ++ bo v n) → (∀ i, i < q → f' i = f i) → K (st_I (st_A u 0 f') 1 (nI (32 * q + bs.length + n)))) → wp_X4_put_5 K (n + 1) v (nI n - 1) (st_I (st_A u 0 f) 1 (nI (32 * q + bs.length))) := by
  intro n
  induction n with
  | zero =>
    intro f bs hn hH hb hk
    unfold wp_X4_put_5
    refine ⟨fun _ => ?_, fun h => absurd (by decide +kernel) h⟩
    have := hk f (by simpa [bo] using hH) (fun _ _ => rfl)
    rwa [Nat.add_zero] at this
  | succ n ih =>
    intro f bs hn hH hb hk
    have hp : 32 * q + bs.length < 2 ^ 31 := by omega
    have hd : (32 * q + bs.length) / 32 = q + bs.length / 32 := by omega
    have hm : (32 * q + bs.length) % 32 = bs.length % 32 := by omega
    have e1 : nI (n + 1) - 1 = nI n := nI_pred n
    have hin : vp_in (nI (q + bs.length / 32)) 2560 := vp_in_nI (by omega) (by decide)
    have hcl : (nI (q + bs.length / 32)).toNatClampNeg = q + bs.length / 32 := nI_clamp (by omega)
    have step : ∀ g : Nat → Int32, (∀ i, i ≠ q + bs.length / 32 → g i = f i) → g (q + bs.length / 32) = (if bs.length % 32 = 0 then 0 else f (q + bs.length / 32)) →
        wp_X4_put_36 (fun x1 x4 u => wp_X4_put_5 K (n + 1) x1 x4 u) K v (nI n) (nI (q + bs.length / 32)) (st_I (st_A u 0 g) 1 (nI (32 * q + bs.length))) := by
      intro g hg1 hg2
      unfold wp_X4_put_36
      refine ⟨hin, fun y hy => ⟨hin, ?_⟩⟩
      rw [hcl] at hy ⊢
      rw [lb_eq v n (by omega)] at hy
      have e3 : (st_I (st_A u 0 g) 1 (nI (32 * q + bs.length))).1 1 = nI (32 * q + bs.length) := rfl
      have e4 : (st_I (st_A u 0 g) 1 (nI (32 * q + bs.length))).2.1 0 = g := rfl
      rw [e3, and31 hp, hm, sh31 _ (Nat.mod_lt _ (by decide)), e4, hg2] at hy
      rw [e3, e4, show nI n + (-1 : Int32) = nI n - 1 from (Int32.sub_eq_add_neg (nI n) 1).symm, nI_1, stA_I, stA_A, stI_I]
      have hup : upd g (q + bs.length / 32) y = upd f (q + bs.length / 32) y := by
        funext i
        by_cases hi : i = q + bs.length / 32
        · subst hi; rw [upd_self, upd_self]
        · rw [upd_ne _ _ hi, upd_ne _ _ hi, hg1 i hi]
      rw [hup]
      have hH2 := hH.put (lb v n)
      rw [← hy] at hH2
      have := ih (upd f (q + bs.length / 32) y) (bs ++ [lb v n]) (by omega) hH2 (by simp; omega) (fun f' h1 h2 => by
        rw [List.append_assoc] at h1
        have h3 := hk f' h1 (fun i hi => by rw [h2 i hi, upd_ne _ _ (by omega)])
        rw [List.length_append, List.length_singleton, show 32 * q + (bs.length + 1) + n = 32 * q + bs.length + (n + 1) by omega]
        exact h3)
      rw [List.length_append, List.length_singleton] at this
      exact this
    unfold wp_X4_put_5
    rw [e1]
    refine ⟨fun h => absurd h (nI_pos (by omega)), fun _ => ?_⟩
    have e3 : (st_I (st_A u 0 f) 1 (nI (32 * q + bs.length))).1 1 = nI (32 * q + bs.length) := rfl
    rw [e3, and31 hp, hm, sh5 hp, hd]
    refine ⟨fun h => ?_, fun h => ⟨hin, ?_⟩⟩
    · exact step f (fun _ _ => rfl) (by rw [if_neg (fun h2 => h (by rw [h2]; rfl))])
    · have h0 : bs.length % 32 = 0 := by
        by_cases h2 : bs.length % 32 = 0
        · exact h2
        · exact absurd h (nI_ne0 (by omega) (by omega))
      have e5 : st_A (st_I (st_A u 0 f) 1 (nI (32 * q + bs.length))) 0 (upd ((st_I (st_A u 0 f) 1 (nI (32 * q + bs.length))).2.1 0) (nI (q + bs.length / 32)).toNatClampNeg 0) = st_I (st_A u 0 (upd f (q + bs.length / 32) 0)) 1 (nI (32 * q + bs.length)) := by
        rw [hcl, stA_I, stA_A]; rfl
      rw [e5]
      exact step _ (fun i hi => upd_ne _ _ hi) (by rw [upd_self, if_pos h0])
theorem put_spec {K : St → Prop} {u : St} {v : Int64} {q n : Nat} {bs : List Bool} (hn : n ≤ 64) (hat : u.1 1 = nI (32 * q + bs.length)) (hH : PkH (u.2.1 0) q bs) (hb : 32 * q + bs.length + n ≤ 81920)
    (hk : ∀ f', PkH f' q (bs ++ bo v n) → (∀ i, i < q → f' i = u.2.1 0 i) → K (st_I (st_A u 0 f') 1 (nI (32 * q + (bs ++ bo v n).length)))) : wp_X4_put u v (nI n) K := by
  refine ⟨n + 1, ?_⟩
  have h := put_loop K u v q n (u.2.1 0) bs hn hH hb (fun f' h1 h2 => by
    have := hk f' h1 h2
    rwa [List.length_append, bo_len, ← Nat.add_assoc] at this)
  rwa [stA_id, ← hat, stI_id] at h
