set_option maxRecDepth 100000
/-! ===== the twin: chunks of a series ===== -/
theorem chunksOf_loop {K : Int32 → St → Prop} {v : St} {sl : List Nat} {cs : List Ch} {s : Nat} (h18 : v.1 18 = nI sl.length) (ho : SlOk v sl cs) (hsl : sl.length ≤ 96) (hss : ∀ c ∈ cs, c.1 < 100) (hs2 : s < 100) (hK : K (nI (ofS cs s).length) v) :
    ∀ (rs k : List Nat) (rc kc : List Ch), sl = k ++ rs → cs = kc ++ rc → k.length = kc.length → wp_X12_chunksOf_4 K (rs.length + 1) (nI s) (nI (ofS kc s).length) (nI k.length) v := by
  intro rs
  induction rs with
  | nil =>
    intro k rc kc hk hkc hl
    rw [List.append_nil] at hk
    subst hk
    have : rc = [] := by
      have := ho.1
      rw [hkc, List.length_append] at this
      exact List.length_eq_zero_iff.mp (by omega)
    subst this
    rw [List.append_nil] at hkc
    subst hkc
    unfold wp_X12_chunksOf_4
    rw [h18]
    exact ⟨fun _ => hK, fun h => absurd (Int32.le_refl _) h⟩
  | cons t rs ih =>
    intro k rc kc hk hkc hl
    obtain ⟨c, rc, rfl⟩ : ∃ c r, rc = c :: r := by
      cases rc with
      | nil => have := ho.1; rw [hk, hkc] at this; simp at this; omega
      | cons c r => exact ⟨c, r, rfl⟩
    have hln : sl.length = k.length + (rs.length + 1) := by rw [hk]; simp
    have hg : sl[k.length]? = some t := by rw [hk]; exact mid_get? _ _ _
    have hgc : cs[k.length]? = some c := by rw [hkc, hl]; exact mid_get? _ _ _
    obtain ⟨ht, e17⟩ := ho.2.2.1 k.length t hg
    obtain ⟨b1, b2, b3, b4⟩ := ho.2.2.2 k.length t c hg hgc
    have hc1 := hss c (List.mem_of_getElem? hgc)
    unfold wp_X12_chunksOf_4
    rw [h18, nI_clamp (show k.length < 2 ^ 31 by omega), e17, nI_clamp (show t < 2 ^ 31 by omega), b1, nI_1]
    refine ⟨fun h => absurd h (nI_ge (by omega) (by omega)), fun _ => ⟨vp_in_nI (by omega) (by decide), vp_in_nI ht (by decide), fun z hz => ?_⟩⟩
    have := ih (k ++ [t]) rc (kc ++ [c]) (by rw [hk]; simp) (by rw [hkc]; simp) (by simp [hl])
    rw [List.length_append, List.length_singleton] at this
    by_cases he : c.1 = s
    · have eo : ofS (kc ++ [c]) s = ofS kc s ++ [c] := by unfold ofS; simp [List.filter_append, he]
      rw [he, if_pos rfl] at hz
      rw [eo, List.length_append, List.length_singleton] at this
      rw [hz, nI_1]
      exact this
    · have eo : ofS (kc ++ [c]) s = ofS kc s := by unfold ofS; simp [List.filter_append, he]
      rw [if_neg (fun q => he ((nI_eq (by omega) (by omega)).mp q))] at hz
      rw [eo] at this
      rw [hz, Int32.add_zero]
      exact this
theorem t_chunksOf {K : Int32 → St → Prop} {v : St} {sl : List Nat} {cs : List Ch} {s : Nat} (h18 : v.1 18 = nI sl.length) (ho : SlOk v sl cs) (hsl : sl.length ≤ 96) (hss : ∀ c ∈ cs, c.1 < 100) (hs2 : s < 100) (hK : K (nI (ofS cs s).length) v) : wp_X12_chunksOf v (nI s) K := by
  unfold wp_X12_chunksOf
  rw [nI0e]
  exact ⟨_, chunksOf_loop h18 ho hsl hss hs2 hK sl [] cs [] rfl rfl rfl⟩
theorem slot_loop {K : Int32 → St → Prop} {v : St} {sl : List Nat} {cs : List Ch} {s i : Nat} {c0 : Ch} (h18 : v.1 18 = nI sl.length) (ho : SlOk v sl cs) (hsl : sl.length ≤ 96) (hss : ∀ c ∈ cs, c.1 < 100) (hs2 : s < 100) (hi : (ofS cs s)[i]? = some c0) (hK : ∀ t, ChS v t c0 → K (nI t) v) :
    ∀ (rs k : List Nat) (rc kc : List Ch), sl = k ++ rs → cs = kc ++ rc → k.length = kc.length → (ofS kc s).length ≤ i → wp_X12_slot_5 K (rs.length + 1) (nI s) (nI i) (nI (ofS kc s).length) (nI k.length) v := by
  have hil := (List.getElem?_eq_some_iff.mp hi).1
  have hofl : (ofS cs s).length ≤ cs.length := List.length_filter_le _ _
  have hlc := ho.1
  intro rs
  induction rs with
  | nil =>
    intro k rc kc hk hkc hl hle
    rw [List.append_nil] at hk
    subst hk
    have : rc = [] := by
      rw [hkc, List.length_append] at hlc
      exact List.length_eq_zero_iff.mp (by omega)
    subst this
    rw [List.append_nil] at hkc
    subst hkc
    omega
  | cons t rs ih =>
    intro k rc kc hk hkc hl hle
    obtain ⟨c, rc, rfl⟩ : ∃ c r, rc = c :: r := by
      cases rc with
      | nil => rw [hk, hkc] at hlc; simp at hlc; omega
      | cons c r => exact ⟨c, r, rfl⟩
    have hln : sl.length = k.length + (rs.length + 1) := by rw [hk]; simp
    have hg : sl[k.length]? = some t := by rw [hk]; exact mid_get? _ _ _
    have hgc : cs[k.length]? = some c := by rw [hkc, hl]; exact mid_get? _ _ _
    obtain ⟨ht, e17⟩ := ho.2.2.1 k.length t hg
    obtain ⟨b1, b2, b3, b4⟩ := ho.2.2.2 k.length t c hg hgc
    have hc1 := hss c (List.mem_of_getElem? hgc)
    have next := ih (k ++ [t]) rc (kc ++ [c]) (by rw [hk]; simp) (by rw [hkc]; simp) (by simp [hl])
    rw [List.length_append, List.length_singleton] at next
    unfold wp_X12_slot_5
    rw [h18, nI_clamp (show k.length < 2 ^ 31 by omega), e17, nI_clamp (show t < 2 ^ 31 by omega), b1, nI_1, nI_1]
    refine ⟨fun h => absurd h (nI_ge (by omega) (by omega)), fun _ => ⟨vp_in_nI (by omega) (by decide), vp_in_nI ht (by decide), fun h => ⟨fun h3 => ?_, fun h3 => ⟨vp_in_nI (by omega) (by decide), ?_⟩⟩, fun h => ?_⟩⟩
    · have he : c.1 = s := (nI_eq (by omega) (by omega)).mp h
      have eo : ofS (kc ++ [c]) s = ofS kc s ++ [c] := by unfold ofS; simp [List.filter_append, he]
      rw [eo, List.length_append, List.length_singleton] at next
      have hne : ¬ (ofS kc s).length = i := fun e => h3 (by rw [e])
      exact next (by omega)
    · have he : c.1 = s := (nI_eq (by omega) (by omega)).mp h
      have h3 : (ofS kc s).length = i := (nI_eq (by omega) (by omega)).mp h3
      have ec : c0 = c := by
        have : ofS cs s = ofS kc s ++ c :: ofS rc s := by rw [hkc]; unfold ofS; simp [List.filter_append, he]
        rw [this, ← h3, mid_get?] at hi
        exact (Option.some.inj hi).symm
      subst ec
      exact hK t ⟨ht, b1, b2, b3, b4⟩
    · have he : ¬ c.1 = s := fun e => h (by rw [e])
      have eo : ofS (kc ++ [c]) s = ofS kc s := by unfold ofS; simp [List.filter_append, he]
      rw [eo] at next
      exact next hle
theorem t_slot {K : Int32 → St → Prop} {v : St} {sl : List Nat} {cs : List Ch} {s i : Nat} {c0 : Ch} (h18 : v.1 18 = nI sl.length) (ho : SlOk v sl cs) (hsl : sl.length ≤ 96) (hss : ∀ c ∈ cs, c.1 < 100) (hs2 : s < 100) (hi : (ofS cs s)[i]? = some c0) (hK : ∀ t, ChS v t c0 → K (nI t) v) : wp_X12_slot v (nI s) (nI i) K := by
  have := slot_loop h18 ho hsl hss hs2 hi hK sl [] cs [] rfl rfl rfl (Nat.zero_le _)
  unfold wp_X12_slot
  exact ⟨_, this⟩
