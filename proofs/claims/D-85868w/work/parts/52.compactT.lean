set_option maxRecDepth 100000
/-! ===== the twin's compact ===== -/
/-- how many of the next ones come along -/
def togN (m s : Nat) : Nat → List Ch → Nat
  | _, [] => 0
  | all, c :: r => if c.1 = s ∧ all + c.2.1.length ≤ m then togN m s (all + c.2.1.length) r + 1 else 0
theorem togN_le (m s : Nat) : ∀ (r : List Ch) (all : Nat), togN m s all r ≤ r.length
  | [], _ => Nat.le_refl _
  | c :: r, all => by
    unfold togN
    split
    · have := togN_le m s r (all + c.2.1.length)
      rw [List.length_cons]; omega
    · omega
theorem together_loop {K : Int32 → St → Prop} {v : St} {sl : List Nat} {cs : List Ch} {m s : Nat} (hm : m ≤ 64) (h2 : v.1 2 = nI m) (h18 : v.1 18 = nI sl.length) (ho : SlOk v sl cs) (hsl : sl.length ≤ 96) (hpt : ∀ c ∈ cs, PtOk c.2.1) (hss : ∀ c ∈ cs, c.1 < 100) {k : Nat} {t0 : Nat} {c0 : Ch} (hk : sl[k]? = some t0) (hkc : cs[k]? = some c0) (hs : c0.1 = s) :
    ∀ (rc dc : List Ch) (n all : Nat), cs = dc ++ rc → dc.length = k + n → all ≤ 64 → K (nI (n + togN m s all rc)) v → wp_X12_together_14 K (rc.length + 1) (nI k) (nI n) (nI all) v := by
  intro rc
  induction rc with
  | nil =>
    intro dc n all hd hl ha hK
    rw [List.append_nil] at hd
    subst hd
    have hlc := ho.1
    unfold wp_X12_together_14
    rw [h18, nI_add, hlc, hl]
    exact ⟨fun _ => hK, fun h => absurd (Int32.le_refl _) h⟩
  | cons c rc ih =>
    intro dc n all hd hl ha hK
    have hlc := ho.1
    have hln : cs.length = k + n + (rc.length + 1) := by rw [hd, List.length_append, hl]; rfl
    have hgc : cs[k + n]? = some c := by rw [hd, ← hl]; exact mid_get? _ _ _
    have hg : sl[k + n]? = some (sl[k + n]'(by omega)) := List.getElem?_eq_getElem _
    obtain ⟨ht, e17⟩ := ho.2.2.1 _ _ hg
    obtain ⟨b1, b2, -, -⟩ := ho.2.2.2 _ _ c hg hgc
    obtain ⟨ht0, e170⟩ := ho.2.2.1 _ _ hk
    obtain ⟨b10, -, -, -⟩ := ho.2.2.2 _ _ c0 hk hkc
    have hkl : k < sl.length := (List.getElem?_eq_some_iff.mp hk).1
    have hcm := hpt c (List.mem_of_getElem? hgc)
    have hc1 := hss c (List.mem_of_getElem? hgc)
    have hc0 := hss c0 (List.mem_of_getElem? hkc)
    have i1 : vp_in (nI (k + n)) 96 := vp_in_nI (by omega) (by decide)
    have i0 : vp_in (nI k) 96 := vp_in_nI (by omega) (by decide)
    have j1 := vp_in_nI ht (N := 240) (by decide)
    unfold wp_X12_together_14
    rw [h18, nI_add, nI_clamp (show k + n < 2 ^ 31 by omega), e17, nI_clamp (show k < 2 ^ 31 by omega), e170, nI_clamp (show t0 < 2 ^ 31 by omega), nI_clamp (show sl[k + n]'(by omega) < 2 ^ 31 by omega), b1, b10, b2.1, h2, nI_add, nI_1]
    refine ⟨fun h => absurd h (nI_ge (by omega) (by omega)), fun _ => ⟨i1, j1, i0, vp_in_nI ht0 (by decide), fun h => ?_, fun h => ⟨i1, j1, fun h3 => ?_, fun h3 => ⟨i1, j1, ?_⟩⟩⟩⟩
    · have hne : ¬ c.1 = s := fun e => h (by rw [e, hs])
      unfold togN at hK
      rw [if_neg (fun q => hne q.1), Nat.add_zero] at hK
      exact hK
    · have h3 := (nI_ltI (by omega) (by have := hcm.2.2; omega)).mp h3
      unfold togN at hK
      rw [if_neg (fun q => by have := q.2; omega), Nat.add_zero] at hK
      exact hK
    · have h3 := mt (nI_ltI (by omega) (by have := hcm.2.2; omega)).mpr h3
      have he : c.1 = s := by rw [← hs]; exact (nI_eq (by omega) (by omega)).mp h
      unfold togN at hK
      rw [if_pos ⟨he, by omega⟩] at hK
      refine ih (dc ++ [c]) (n + 1) (all + c.2.1.length) (by rw [hd]; simp) (by simp [hl]; omega) (by omega) ?_
      rw [show n + 1 + togN m s (all + c.2.1.length) rc = n + (togN m s (all + c.2.1.length) rc + 1) by omega]
      exact hK
theorem t_together {K : Int32 → St → Prop} {v : St} {sl : List Nat} {cs : List Ch} {m : Nat} (hm : m ≤ 64) (h2 : v.1 2 = nI m) (h18 : v.1 18 = nI sl.length) (ho : SlOk v sl cs) (hsl : sl.length ≤ 96) (hpt : ∀ c ∈ cs, PtOk c.2.1) (hss : ∀ c ∈ cs, c.1 < 100) {dc rc : List Ch} {c0 : Ch} (hd : cs = dc ++ c0 :: rc)
    (hK : K (nI (1 + togN m c0.1 c0.2.1.length rc)) v) : wp_X12_together v (nI dc.length) K := by
  have hlc := ho.1
  have hkc : cs[dc.length]? = some c0 := by rw [hd]; exact mid_get? _ _ _
  have hln : cs.length = dc.length + (rc.length + 1) := by rw [hd]; simp
  have hk : sl[dc.length]? = some (sl[dc.length]'(by omega)) := List.getElem?_eq_getElem _
  obtain ⟨ht0, e17⟩ := ho.2.2.1 _ _ hk
  obtain ⟨b1, b2, -, -⟩ := ho.2.2.2 _ _ c0 hk hkc
  have hcm := hpt c0 (List.mem_of_getElem? hkc)
  unfold wp_X12_together
  rw [nI_clamp (show dc.length < 2 ^ 31 by omega), e17, nI_clamp (show sl[dc.length]'(by omega) < 2 ^ 31 by omega), b2.1, nI1e]
  refine ⟨vp_in_nI (by omega) (by decide), vp_in_nI ht0 (by decide), _, together_loop hm h2 h18 ho hsl hpt hss hk hkc rfl rc (dc ++ [c0]) 1 c0.2.1.length (by rw [hd]; simp) (by simp) hcm.2.2 hK⟩
