set_option maxRecDepth 100000
/-! ===== plain: places ===== -/
def inR (q : Nat × Nat) (x : Nat) : Bool := decide (q.1 ≤ x) && decide (x < q.1 + q.2)
/-- the least place for n cells: from cell x on, k cells still to look at, run free ones ahead -/
def ff (tk : Nat → Bool) (n : Nat) : Nat → Nat → Nat → Option Nat
  | 0, _, _ => none
  | k + 1, x, run => if tk x then (if 0 = n then some (x + 1 - n) else ff tk n k (x + 1) 0) else (if run + 1 = n then some (x + 1 - n) else ff tk n k (x + 1) (run + 1))
theorem ff_bound (tk : Nat → Bool) (n : Nat) : ∀ (k x run p : Nat), run ≤ x → ff tk n k x run = some p → p + n ≤ x + k ∧ x ≤ p + run ∨ n = 0 := by
  intro k
  induction k with
  | zero => intro x run p _ h; simp [ff] at h
  | succ k ih =>
    intro x run p hr h
    unfold ff at h
    split at h
    · split at h
      · right; omega
      · rcases ih (x + 1) 0 p (by omega) h with h2 | h2
        · left; omega
        · right; exact h2
    · split at h
      · cases h; left; omega
      · rcases ih (x + 1) (run + 1) p (by omega) h with h2 | h2
        · left; omega
        · right; exact h2
theorem t_isOf {K : Int32 → St → Prop} {u : St} {s p l x : Nat} (hs : s < 240) (hp : u.2.1 13 s = nI p) (hl : u.2.1 14 s = nI l) (hb : p + l ≤ 4096) (hx : x < 4096) (hK : K (if inR (p, l) x then 1 else 0) u) : wp_X12_isOf u (nI s) (nI x) K := by
  unfold wp_X12_isOf
  rw [nI_clamp (show s < 2 ^ 31 by omega), hp, hl, nI_add]
  refine ⟨vp_in_nI hs (by decide), fun h => ?_, fun h => ⟨vp_in_nI hs (by decide), vp_in_nI hs (by decide), fun h2 => ?_, fun h2 => ?_⟩⟩
  · have h := (nI_ltI (by omega) (by omega)).mp h
    have e : inR (p, l) x = false := by simp [inR]; omega
    rw [e] at hK; exact hK
  · have h2 := (nI_leI (by omega) (by omega)).mp h2
    have e : inR (p, l) x = false := by simp [inR]; omega
    rw [e] at hK; exact hK
  · have h := mt (nI_ltI (by omega) (by omega)).mpr h
    have h2 := mt (nI_leI (by omega) (by omega)).mpr h2
    have e : inR (p, l) x = true := by simp [inR]; omega
    rw [e] at hK; exact hK
/-- entries of the plan so far: none for an old one; place and length of a new one -/
def NwOk (v : St) (en : List (Option (Nat × Nat))) : Prop := ∀ (i : Nat) (o : Option (Nat × Nat)), en[i]? = some o → match o with
  | none => v.2.1 26 i = 0
  | some q => ¬ v.2.1 26 i = 0 ∧ ∃ s, s < 240 ∧ v.2.1 25 i = nI s ∧ v.2.1 13 s = nI q.1 ∧ v.2.1 14 s = nI q.2 ∧ q.1 + q.2 ≤ 4096
def tkN (en : List (Option (Nat × Nat))) (x : Nat) : Bool := en.any (fun o => match o with | none => false | some q => inR q x)
def tkC (cs : List Ch) (x : Nat) : Bool := cs.any (fun c => inR c.2.2 x)
theorem isTaken48 {K : Int32 → St → Prop} {u : St} {en : List (Option (Nat × Nat))} (hn : NwOk u en) (hl : en.length ≤ 200) {x : Nat} (hx : x < 4096) : ∀ (rest d : List (Option (Nat × Nat))) (b : Bool), en = d ++ rest →
    K (if b || tkN rest x then 1 else 0) u → wp_X12_isTaken_48 K (rest.length + 1) (nI x) (nI en.length) (if b then 1 else 0) (nI d.length) u := by
  intro rest
  induction rest with
  | nil =>
    intro d b hd hK
    rw [List.append_nil] at hd
    subst hd
    unfold wp_X12_isTaken_48
    refine ⟨fun _ => ⟨by cases b <;> first | exact Or.inl rfl | exact Or.inr rfl, by simpa [tkN] using hK⟩, fun h => absurd (Int32.le_refl _) h⟩
  | cons q rest ih =>
    intro d b hd hK
    have hln : en.length = d.length + (rest.length + 1) := by rw [hd]; simp
    have hv := hn d.length q (by rw [hd]; exact mid_get? _ _ _)
    have step : ∀ b', (b' || tkN rest x) = (b || tkN (q :: rest) x) → wp_X12_isTaken_48 K (rest.length + 1) (nI x) (nI en.length) (if b' then 1 else 0) (nI (d.length + 1)) u := fun b' hb => by
      have := ih (d ++ [q]) b' (by rw [hd]; simp) (by rw [hb]; exact hK)
      rwa [List.length_append, List.length_singleton] at this
    unfold wp_X12_isTaken_48
    rw [nI_1, nI_clamp (show d.length < 2 ^ 31 by omega)]
    refine ⟨fun h => absurd h (nI_ge (by omega) (by omega)), fun _ => ⟨fun h => ?_, fun h => ⟨vp_in_nI (by omega) (by decide), fun h2 => ?_, fun h2 => ⟨vp_in_nI (by omega) (by decide), ?_⟩⟩⟩⟩
    · have hb : b = true := by cases b; exact absurd rfl h; rfl
      subst hb
      exact step true (by simp)
    · have hb : b = false := by cases b; rfl; exact absurd h (by decide)
      subst hb
      cases q with
      | none => exact step false (by simp [tkN])
      | some q => exact absurd h2 hv.1
    · have hb : b = false := by cases b; rfl; exact absurd h (by decide)
      subst hb
      cases q with
      | none => exact absurd hv h2
      | some q =>
        obtain ⟨-, s, hs, e1, e2, e3, e4⟩ := hv
        rw [e1]
        refine t_isOf hs e2 e3 e4 hx ?_
        cases hq : inR q x
        · refine ⟨fun _ => step false (by simp [tkN, hq]), fun h => absurd rfl h⟩
        · refine ⟨fun h => absurd h (by decide), fun _ => step true (by simp [tkN, hq])⟩
theorem isTaken5 {K : Int32 → St → Prop} {u : St} {sl : List Nat} {cs : List Ch} (h18 : u.1 18 = nI sl.length) (ho : SlOk u sl cs) (hsl : sl.length ≤ 96) (hcb : ∀ c ∈ cs, c.2.2.1 + c.2.2.2 ≤ 4096) {en : List (Option (Nat × Nat))} (hn : NwOk u en) (hl : en.length ≤ 200) {x : Nat} (hx : x < 4096) :
    ∀ (rest : List Nat) (rc : List Ch) (d : List Nat) (dc : List Ch) (b : Bool), sl = d ++ rest → cs = dc ++ rc → d.length = dc.length → K (if b || tkC rc x || tkN en x then 1 else 0) u → wp_X12_isTaken_5 K (rest.length + 1) (nI x) (nI en.length) (if b then 1 else 0) (nI d.length) u := by
  intro rest
  induction rest with
  | nil =>
    intro rc d dc b hd hdc hdl hK
    rw [List.append_nil] at hd
    subst hd
    have : rc = [] := by
      have := ho.1
      rw [hdc, List.length_append] at this
      exact List.length_eq_zero_iff.mp (by omega)
    subst this
    unfold wp_X12_isTaken_5
    rw [h18]
    refine ⟨fun _ => ?_, fun h => absurd (Int32.le_refl _) h⟩
    rw [nI0e]
    exact ⟨_, isTaken48 hn hl hx en [] b rfl (by simpa [tkC] using hK)⟩
  | cons q rest ih =>
    intro rc d dc b hd hdc hdl hK
    have hln : sl.length = d.length + (rest.length + 1) := by rw [hd]; simp
    obtain ⟨c, rc, rfl⟩ : ∃ c r, rc = c :: r := by
      cases rc with
      | nil => have := ho.1; rw [hdc] at this; simp at this; omega
      | cons c r => exact ⟨c, r, rfl⟩
    have hg : sl[d.length]? = some q := by rw [hd]; exact mid_get? _ _ _
    have hgc : cs[d.length]? = some c := by rw [hdc, hdl]; exact mid_get? _ _ _
    obtain ⟨hq, hv⟩ := ho.2.2.1 d.length q hg
    obtain ⟨-, -, e2, e3⟩ := ho.2.2.2 d.length q c hg hgc
    have hb4 := hcb c (by rw [hdc]; simp)
    have step : ∀ b', (b' || tkC rc x) = (b || tkC (c :: rc) x) → wp_X12_isTaken_5 K (rest.length + 1) (nI x) (nI en.length) (if b' then 1 else 0) (nI (d.length + 1)) u := fun b' hb => by
      have := ih rc (d ++ [q]) (dc ++ [c]) b' (by rw [hd]; simp) (by rw [hdc]; simp) (by simp [hdl]) (by rw [hb]; exact hK)
      rwa [List.length_append, List.length_singleton] at this
    unfold wp_X12_isTaken_5
    rw [h18, nI_1, nI_clamp (show d.length < 2 ^ 31 by omega), hv]
    refine ⟨fun h => absurd h (nI_ge (by omega) (by omega)), fun _ => ⟨fun h => ?_, fun h => ⟨vp_in_nI (by omega) (by decide), ?_⟩⟩⟩
    · have hb : b = true := by cases b; exact absurd rfl h; rfl
      subst hb
      exact step true (by simp)
    · have hb : b = false := by cases b; rfl; exact absurd h (by decide)
      subst hb
      refine t_isOf hq e2 e3 hb4 hx ?_
      cases hq2 : inR c.2.2 x
      · refine ⟨fun _ => step false (by simp [tkC, hq2]), fun h => absurd rfl h⟩
      · refine ⟨fun h => absurd h (by decide), fun _ => step true (by simp [tkC, hq2])⟩
theorem find_loop {K : Int32 → St → Prop} {u : St} {sl : List Nat} {cs : List Ch} (h18 : u.1 18 = nI sl.length) (ho : SlOk u sl cs) (hsl : sl.length ≤ 96) (hcb : ∀ c ∈ cs, c.2.2.1 + c.2.2.2 ≤ 4096) {en : List (Option (Nat × Nat))} (hn : NwOk u en) (hl : en.length ≤ 200) {n : Nat} (hn0 : 0 < n) (hn1 : n < 4000) :
    ∀ (k x run : Nat), x + k = 4096 → run < n → (ff (fun x => tkC cs x || tkN en x) n k x run = none → K (-1) u) → (∀ p, ff (fun x => tkC cs x || tkN en x) n k x run = some p → K (nI p) u) → run < x → wp_X12_find_7 K (k + 1) (nI n) (nI en.length) (nI run) (nI x) u := by
  intro k
  induction k with
  | zero =>
    intro x run hx hr h1 h2 h3
    unfold wp_X12_find_7
    have : x = 4096 := by omega
    subst this
    exact ⟨fun _ => h1 rfl, fun h => absurd (by decide +kernel) h⟩
  | succ k ih =>
    intro x run hx hr h1 h2 h3
    have hx2 : x < 4096 := by omega
    unfold wp_X12_find_7
    refine ⟨fun h => absurd ((nI_leI (by decide) (by omega)).mp (show nI 4096 ≤ nI x from h)) (by omega), fun _ => ?_⟩
    refine ⟨_, isTaken5 h18 ho hsl hcb hn hl hx2 sl cs [] [] false rfl rfl rfl ?_⟩
    rw [Bool.false_or]
    intro z hz
    unfold ff at h1 h2
    cases ht : (tkC cs x || tkN en x)
    · simp only [ht, Bool.false_eq_true, if_false] at h1 h2 hz
      have hz : z = nI (run + 1) := by rw [hz, if_pos trivial, nI_1]
      rw [hz]
      refine ⟨fun h => ?_, fun h => ?_⟩
      · have hne : ¬ run + 1 = n := fun e => h (by rw [e])
        rw [if_neg hne] at h1 h2
        rw [nI_1]
        exact ih (x + 1) (run + 1) (by omega) (by omega) h1 h2 (by omega)
      · have he : run + 1 = n := (nI_eq (by omega) (by omega)).mp h
        rw [if_pos he] at h2
        have := h2 _ rfl
        rw [pk_sub (by omega), nI_1, show x - n + 1 = x + 1 - n by omega]
        exact this
    · simp only [ht, if_true] at h1 h2 hz
      have hz : z = nI 0 := by rw [hz, if_neg (by decide)]; rfl
      rw [hz]
      have hne : ¬ 0 = n := by omega
      rw [if_neg hne] at h1 h2
      refine ⟨fun h => ?_, fun h => absurd ((nI_eq (by omega) (by omega)).mp h) hne⟩
      rw [nI_1]
      exact ih (x + 1) 0 (by omega) (by omega) h1 h2 (by omega)
theorem t_find {K : Int32 → St → Prop} {u : St} {sl : List Nat} {cs : List Ch} (h18 : u.1 18 = nI sl.length) (ho : SlOk u sl cs) (hsl : sl.length ≤ 96) (hcb : ∀ c ∈ cs, c.2.2.1 + c.2.2.2 ≤ 4096) {en : List (Option (Nat × Nat))} (hn : NwOk u en) (hl : en.length ≤ 200) {n : Nat} (hn0 : 0 < n) (hn1 : n < 4000)
    (h1 : ff (fun x => tkC cs x || tkN en x) n 1661 2435 0 = none → K (-1) u) (h2 : ∀ p, ff (fun x => tkC cs x || tkN en x) n 1661 2435 0 = some p → K (nI p) u) : wp_X12_find u (nI n) (nI en.length) K :=
  ⟨1662, find_loop h18 ho hsl hcb hn hl hn0 hn1 1661 2435 0 rfl hn0 h1 h2 (by omega)⟩
