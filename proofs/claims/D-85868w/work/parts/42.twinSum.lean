set_option maxRecDepth 100000
abbrev Pt : Type := Int32 × Int32
/-- series, points, place, length -/
abbrev Ch : Type := Nat × List Pt × Nat × Nat
def mn (a b : Int32) : Int32 := if a ≤ b then a else b
def mx (a b : Int32) : Int32 := if b ≤ a then a else b
def pmin : List Pt → Int32
  | [] => 0
  | p :: ps => ps.foldl (fun a q => mn a q.2) p.2
def pmax : List Pt → Int32
  | [] => 0
  | p :: ps => ps.foldl (fun a q => mx a q.2) p.2
def psum (ps : List Pt) : Int64 := ps.foldl (fun a q => a + q.2.toInt64) 0
def pfst : List Pt → Int32
  | [] => 0
  | p :: _ => p.1
def plst (ps : List Pt) : Int32 := (ps.getLast?.map Prod.fst).getD 0
theorem mid_get? {α : Type} (d rest : List α) (q : α) : (d ++ q :: rest)[d.length]? = some q := by
  rw [List.getElem?_append_right (Nat.le_refl _), Nat.sub_self]; rfl
theorem ix64 {c i : Nat} (hc : c < 240) (hi : i < 64) : (64 : Int32) * nI c + nI i = nI (64 * c + i) ∧ vp_in (nI (64 * c + i)) 15360 ∧ (nI (64 * c + i)).toNatClampNeg = 64 * c + i :=
  ⟨by rw [show (64 : Int32) * nI c = nI (64 * c) from pk_mul 64 c, nI_add], vp_in_nI (by omega) (by decide), nI_clamp (by omega)⟩
theorem leastOf_loop {K : Int32 → St → Prop} {u : St} {c : Nat} {ps : List Pt} (hc : c < 240) (hS : SlotP u c ps) (hlen : ps.length ≤ 64) :
    ∀ (rest d : List Pt) (a : Int32), ps = d ++ rest → K (rest.foldl (fun a q => mn a q.2) a) u → wp_X12_leastOf_12 K (rest.length + 1) (nI c) a (nI d.length) u := by
  intro rest
  induction rest with
  | nil =>
    intro d a hps hK
    rw [List.append_nil] at hps
    subst hps
    unfold wp_X12_leastOf_12
    rw [nI_clamp (by omega), hS.1]
    exact ⟨vp_in_nI hc (by decide), fun _ => hK, fun h => absurd (Int32.le_refl _) h⟩
  | cons q rest ih =>
    intro d a hps hK
    have hl : ps.length = d.length + (rest.length + 1) := by rw [hps]; simp
    obtain ⟨e1, i1, c1⟩ := ix64 hc (show d.length < 64 by omega)
    have hv := (hS.2 d.length q (by rw [hps]; exact mid_get? _ _ _)).2
    unfold wp_X12_leastOf_12
    rw [nI_clamp (show c < 2 ^ 31 by omega), hS.1, e1, c1, hv]
    refine ⟨vp_in_nI hc (by decide), fun h => absurd h (nI_ge (by omega) (by omega)), fun _ => ⟨i1, fun _ => i1, fun z hz => ?_⟩⟩
    rw [nI_1, hz]
    have := ih (d ++ [q]) (mn a q.2) (by rw [hps]; simp) hK
    rwa [List.length_append, List.length_singleton] at this
theorem greatestOf_loop {K : Int32 → St → Prop} {u : St} {c : Nat} {ps : List Pt} (hc : c < 240) (hS : SlotP u c ps) (hlen : ps.length ≤ 64) :
    ∀ (rest d : List Pt) (a : Int32), ps = d ++ rest → K (rest.foldl (fun a q => mx a q.2) a) u → wp_X12_greatestOf_12 K (rest.length + 1) (nI c) a (nI d.length) u := by
  intro rest
  induction rest with
  | nil =>
    intro d a hps hK
    rw [List.append_nil] at hps
    subst hps
    unfold wp_X12_greatestOf_12
    rw [nI_clamp (by omega), hS.1]
    exact ⟨vp_in_nI hc (by decide), fun _ => hK, fun h => absurd (Int32.le_refl _) h⟩
  | cons q rest ih =>
    intro d a hps hK
    have hl : ps.length = d.length + (rest.length + 1) := by rw [hps]; simp
    obtain ⟨e1, i1, c1⟩ := ix64 hc (show d.length < 64 by omega)
    have hv := (hS.2 d.length q (by rw [hps]; exact mid_get? _ _ _)).2
    unfold wp_X12_greatestOf_12
    rw [nI_clamp (show c < 2 ^ 31 by omega), hS.1, e1, c1, hv]
    refine ⟨vp_in_nI hc (by decide), fun h => absurd h (nI_ge (by omega) (by omega)), fun _ => ⟨i1, fun _ => i1, fun z hz => ?_⟩⟩
    rw [nI_1, hz]
    have := ih (d ++ [q]) (mx a q.2) (by rw [hps]; simp) hK
    rwa [List.length_append, List.length_singleton] at this
theorem sumOf_loop {K : Int64 → St → Prop} {u : St} {c : Nat} {ps : List Pt} (hc : c < 240) (hS : SlotP u c ps) (hlen : ps.length ≤ 64) :
    ∀ (rest d : List Pt) (a : Int64), ps = d ++ rest → K (rest.foldl (fun a q => a + q.2.toInt64) a) u → wp_X12_sumOf_5 K (rest.length + 1) (nI c) a (nI d.length) u := by
  intro rest
  induction rest with
  | nil =>
    intro d a hps hK
    rw [List.append_nil] at hps
    subst hps
    unfold wp_X12_sumOf_5
    rw [nI_clamp (by omega), hS.1]
    exact ⟨vp_in_nI hc (by decide), fun _ => hK, fun h => absurd (Int32.le_refl _) h⟩
  | cons q rest ih =>
    intro d a hps hK
    have hl : ps.length = d.length + (rest.length + 1) := by rw [hps]; simp
    obtain ⟨e1, i1, c1⟩ := ix64 hc (show d.length < 64 by omega)
    have hv := (hS.2 d.length q (by rw [hps]; exact mid_get? _ _ _)).2
    unfold wp_X12_sumOf_5
    rw [nI_clamp (show c < 2 ^ 31 by omega), hS.1, e1, c1, hv]
    refine ⟨vp_in_nI hc (by decide), fun h => absurd h (nI_ge (by omega) (by omega)), fun _ => ⟨i1, ?_⟩⟩
    rw [nI_1]
    have := ih (d ++ [q]) (a + q.2.toInt64) (by rw [hps]; simp) hK
    rwa [List.length_append, List.length_singleton] at this
theorem nI0e : (0 : Int32) = nI 0 := rfl
theorem m64 (c : Nat) : (64 : Int32) * nI c = nI (64 * c) := pk_mul 64 c
theorem t_least {K : Int32 → St → Prop} {u : St} {c : Nat} {ps : List Pt} (hc : c < 240) (hS : SlotP u c ps) (h0 : ps ≠ []) (hlen : ps.length ≤ 64) (hK : K (pmin ps) u) : wp_X12_leastOf u (nI c) K := by
  obtain ⟨q, rest, rfl⟩ := List.exists_cons_of_ne_nil h0
  have hv := (hS.2 0 q rfl).2
  unfold wp_X12_leastOf
  rw [m64, nI_clamp (show 64 * c < 2 ^ 31 by omega), show u.2.1 16 (64 * c) = q.2 from hv, nI1e]
  exact ⟨vp_in_nI (by omega) (by decide), _, leastOf_loop hc hS hlen rest [q] q.2 rfl hK⟩
theorem t_greatest {K : Int32 → St → Prop} {u : St} {c : Nat} {ps : List Pt} (hc : c < 240) (hS : SlotP u c ps) (h0 : ps ≠ []) (hlen : ps.length ≤ 64) (hK : K (pmax ps) u) : wp_X12_greatestOf u (nI c) K := by
  obtain ⟨q, rest, rfl⟩ := List.exists_cons_of_ne_nil h0
  have hv := (hS.2 0 q rfl).2
  unfold wp_X12_greatestOf
  rw [m64, nI_clamp (show 64 * c < 2 ^ 31 by omega), show u.2.1 16 (64 * c) = q.2 from hv, nI1e]
  exact ⟨vp_in_nI (by omega) (by decide), _, greatestOf_loop hc hS hlen rest [q] q.2 rfl hK⟩
theorem t_sum {K : Int64 → St → Prop} {u : St} {c : Nat} {ps : List Pt} (hc : c < 240) (hS : SlotP u c ps) (hlen : ps.length ≤ 64) (hK : K (psum ps) u) : wp_X12_sumOf u (nI c) K := by
  unfold wp_X12_sumOf
  rw [nI0e]
  exact ⟨_, sumOf_loop hc hS hlen ps [] 0 rfl hK⟩
theorem t_first {K : Int32 → St → Prop} {u : St} {c : Nat} {ps : List Pt} (hc : c < 240) (hS : SlotP u c ps) (h0 : ps ≠ []) (hK : K (pfst ps) u) : wp_X12_firstTime u (nI c) K := by
  obtain ⟨q, rest, rfl⟩ := List.exists_cons_of_ne_nil h0
  have hv := (hS.2 0 q rfl).1
  unfold wp_X12_firstTime
  rw [m64, nI_clamp (show 64 * c < 2 ^ 31 by omega), show u.2.1 15 (64 * c) = q.1 from hv]
  exact ⟨vp_in_nI (by omega) (by decide), hK⟩
theorem plst_snoc (d : List Pt) (q : Pt) : plst (d ++ [q]) = q.1 := by unfold plst; simp
theorem t_last {K : Int32 → St → Prop} {u : St} {c : Nat} {ps : List Pt} (hc : c < 240) (hS : SlotP u c ps) (h0 : ps ≠ []) (hlen : ps.length ≤ 64) (hK : K (plst ps) u) : wp_X12_lastTime u (nI c) K := by
  obtain ⟨d, q, rfl⟩ : ∃ d q, ps = d ++ [q] := ⟨ps.dropLast, ps.getLast h0, (List.dropLast_concat_getLast h0).symm⟩
  rw [plst_snoc] at hK
  have hv := (hS.2 d.length q (by simp)).1
  rw [List.length_append, List.length_singleton] at hlen
  have e1 : nI (64 * c) + nI (d ++ [q]).length - 1 = nI (64 * c + d.length) := by
    rw [nI_add, List.length_append, List.length_singleton, ← Nat.add_assoc, nI_pred]
  unfold wp_X12_lastTime
  rw [nI_clamp (show c < 2 ^ 31 by omega), hS.1, m64, e1, nI_clamp (show 64 * c + d.length < 2 ^ 31 by omega), hv]
  exact ⟨vp_in_nI hc (by decide), vp_in_nI (by omega) (by decide), hK⟩
/-! ===== slots ===== -/
/-- the chunks cs lie in the slots sl, in the order of entries -/
def SlOk (v : St) (sl : List Nat) (cs : List Ch) : Prop :=
  sl.length = cs.length ∧ sl.Nodup ∧ (∀ (k s : Nat), sl[k]? = some s → s < 240 ∧ v.2.1 17 k = nI s) ∧ ∀ (k s : Nat) (c : Ch), sl[k]? = some s → cs[k]? = some c → v.2.1 11 s = nI c.1 ∧ SlotP v s c.2.1 ∧ v.2.1 13 s = nI c.2.2.1 ∧ v.2.1 14 s = nI c.2.2.2
/-- the row next -/
def NxOk (v : St) (nx : List Nat) : Prop := v.1 27 = nI nx.length ∧ ∀ (k s : Nat), nx[k]? = some s → v.2.1 25 k = nI s
theorem isUsed40 {K : Int32 → St → Prop} {u : St} {nx : List Nat} (hn : NxOk u nx) (hl : nx.length ≤ 200) (hs : ∀ s ∈ nx, s < 240) {c : Nat} (hc : c < 2 ^ 31) : ∀ (rest d : List Nat) (b : Bool), nx = d ++ rest →
    K (if b || rest.contains c then 1 else 0) u → wp_X12_isUsed_40 K (rest.length + 1) (nI c) (if b then 1 else 0) (nI d.length) u := by
  intro rest
  induction rest with
  | nil =>
    intro d b hd hK
    rw [List.append_nil] at hd
    subst hd
    unfold wp_X12_isUsed_40
    rw [hn.1]
    refine ⟨fun _ => ⟨by cases b <;> first | exact Or.inl rfl | exact Or.inr rfl, by simpa using hK⟩, fun h => absurd (Int32.le_refl _) h⟩
  | cons q rest ih =>
    intro d b hd hK
    have hln : nx.length = d.length + (rest.length + 1) := by rw [hd]; simp
    have hv := hn.2 d.length q (by rw [hd]; exact mid_get? _ _ _)
    have hq : q < 240 := hs q (by rw [hd]; simp)
    have step : ∀ b', (b' || rest.contains c) = (b || (q :: rest).contains c) → wp_X12_isUsed_40 K (rest.length + 1) (nI c) (if b' then 1 else 0) (nI (d.length + 1)) u := fun b' hb => by
      have := ih (d ++ [q]) b' (by rw [hd]; simp) (by rw [hb]; exact hK)
      rwa [List.length_append, List.length_singleton] at this
    unfold wp_X12_isUsed_40
    rw [hn.1, nI_1, nI_clamp (show d.length < 2 ^ 31 by omega), hv]
    refine ⟨fun h => absurd h (nI_ge (by omega) (by omega)), fun _ => ⟨fun h => ?_, fun h => ⟨vp_in_nI (by omega) (by decide), fun h2 => ?_, fun h2 => ?_⟩⟩⟩
    · have hb : b = true := by cases b; exact absurd rfl h; rfl
      subst hb
      exact step true (by simp)
    · have hb : b = false := by cases b; rfl; exact absurd h (by decide)
      subst hb
      have hne : ¬ c = q := fun e => h2 (by rw [e])
      exact step false (by simp [hne])
    · have he : c = q := ((nI_eq (by omega) (by omega)).mp h2).symm
      exact step true (by simp [he])
theorem isUsed4 {K : Int32 → St → Prop} {u : St} {sl nx : List Nat} (h18 : u.1 18 = nI sl.length) (ho : ∀ (k s : Nat), sl[k]? = some s → s < 240 ∧ u.2.1 17 k = nI s) (hsl : sl.length ≤ 96) (hn : NxOk u nx) (hl : nx.length ≤ 200) (hs : ∀ s ∈ nx, s < 240) {c : Nat} (hc : c < 2 ^ 31) : ∀ (rest d : List Nat) (b : Bool), sl = d ++ rest →
    K (if b || rest.contains c || nx.contains c then 1 else 0) u → wp_X12_isUsed_4 K (rest.length + 1) (nI c) (if b then 1 else 0) (nI d.length) u := by
  intro rest
  induction rest with
  | nil =>
    intro d b hd hK
    rw [List.append_nil] at hd
    subst hd
    unfold wp_X12_isUsed_4
    rw [h18]
    refine ⟨fun _ => ?_, fun h => absurd (Int32.le_refl _) h⟩
    rw [nI0e]
    exact ⟨_, isUsed40 hn hl hs hc nx [] b rfl (by simpa using hK)⟩
  | cons q rest ih =>
    intro d b hd hK
    have hln : sl.length = d.length + (rest.length + 1) := by rw [hd]; simp
    obtain ⟨hq, hv⟩ := ho d.length q (by rw [hd]; exact mid_get? _ _ _)
    have step : ∀ b', (b' || rest.contains c) = (b || (q :: rest).contains c) → wp_X12_isUsed_4 K (rest.length + 1) (nI c) (if b' then 1 else 0) (nI (d.length + 1)) u := fun b' hb => by
      have := ih (d ++ [q]) b' (by rw [hd]; simp) (by rw [hb]; exact hK)
      rwa [List.length_append, List.length_singleton] at this
    unfold wp_X12_isUsed_4
    rw [h18, nI_1, nI_clamp (show d.length < 2 ^ 31 by omega), hv]
    refine ⟨fun h => absurd h (nI_ge (by omega) (by omega)), fun _ => ⟨fun h => ?_, fun h => ⟨vp_in_nI (by omega) (by decide), fun h2 => ?_, fun h2 => ?_⟩⟩⟩
    · have hb : b = true := by cases b; exact absurd rfl h; rfl
      subst hb
      exact step true (by simp)
    · have hb : b = false := by cases b; rfl; exact absurd h (by decide)
      subst hb
      have hne : ¬ c = q := fun e => h2 (by rw [e])
      exact step false (by simp [hne])
    · have he : c = q := ((nI_eq (by omega) (by omega)).mp h2).symm
      exact step true (by simp [he])
theorem pigeon : ∀ (n : Nat) (l : List Nat), (∀ c, c < n → c ∈ l) → n ≤ l.length
  | 0, _, _ => Nat.zero_le _
  | n + 1, l, h => by
    have h1 := pigeon n (l.erase n) (fun c hc => (List.mem_erase_of_ne (by omega)).mpr (h c (by omega)))
    rw [List.length_erase_of_mem (h n (by omega))] at h1
    have : 0 < l.length := List.length_pos_of_mem (h n (by omega))
    omega
theorem freeSlot_loop {K : Int32 → St → Prop} {u : St} {sl nx : List Nat} (h18 : u.1 18 = nI sl.length) (ho : ∀ (k s : Nat), sl[k]? = some s → s < 240 ∧ u.2.1 17 k = nI s) (hsl : sl.length ≤ 96) (hn : NxOk u nx) (hl : nx.length ≤ 100) (hs : ∀ s ∈ nx, s < 240)
    (hK : ∀ c, c < 240 → c ∉ sl → c ∉ nx → K (nI c) u) : ∀ (k c : Nat), c + k = 240 → (∀ c', c' < c → c' ∈ sl ++ nx) → wp_X12_freeSlot_2 K k (nI c) u := by
  intro k
  induction k with
  | zero =>
    intro c hck hall
    have := pigeon 240 (sl ++ nx) (fun c' h => hall c' (by omega))
    rw [List.length_append] at this
    omega
  | succ k ih =>
    intro c hck hall
    unfold wp_X12_freeSlot_2
    refine ⟨_, isUsed4 h18 ho hsl hn (by omega) hs (show c < 2 ^ 31 by omega) sl [] false rfl ?_⟩
    by_cases hc : c ∈ sl ++ nx
    · have e : (false || sl.contains c || nx.contains c) = true := by simpa using hc
      rw [e]
      refine ⟨fun h => absurd h (by decide), fun _ => ?_⟩
      rw [nI_1]
      exact ih (c + 1) (by omega) (fun c' h => by
        by_cases h2 : c' = c
        · rw [h2]; exact hc
        · exact hall c' (by omega))
    · have e : (false || sl.contains c || nx.contains c) = false := by simpa using hc
      rw [e]
      rw [List.mem_append, not_or] at hc
      exact ⟨fun _ => hK c (by omega) hc.1 hc.2, fun h => absurd rfl h⟩
theorem t_free {K : Int32 → St → Prop} {u : St} {sl nx : List Nat} (h18 : u.1 18 = nI sl.length) (ho : ∀ (k s : Nat), sl[k]? = some s → s < 240 ∧ u.2.1 17 k = nI s) (hsl : sl.length ≤ 96) (hn : NxOk u nx) (hl : nx.length ≤ 100) (hs : ∀ s ∈ nx, s < 240)
    (hK : ∀ c, c < 240 → c ∉ sl → c ∉ nx → K (nI c) u) : wp_X12_freeSlot u K := by
  unfold wp_X12_freeSlot
  rw [nI0e]
  exact ⟨240, freeSlot_loop h18 ho hsl hn hl hs hK 240 0 rfl (fun c h => absurd h (Nat.not_lt_zero c))⟩
