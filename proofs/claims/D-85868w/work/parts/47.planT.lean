set_option maxRecDepth 100000
/-! ===== the twin's planning ===== -/
/-- v' is v but for the rows of the plan and for slots outside sl -/
def PfR (sl : List Nat) (v v' : St) : Prop := (∀ k, k ≠ 27 → v'.1 k = v.1 k) ∧ (∀ k, k ≠ 11 → k ≠ 12 → k ≠ 15 → k ≠ 16 → k ≠ 25 → k ≠ 26 → v'.2.1 k = v.2.1 k) ∧ (∀ s, s ∈ sl → v'.2.1 11 s = v.2.1 11 s ∧ v'.2.1 12 s = v.2.1 12 s ∧ ∀ i, i < 64 → v'.2.1 15 (64 * s + i) = v.2.1 15 (64 * s + i) ∧ v'.2.1 16 (64 * s + i) = v.2.1 16 (64 * s + i)) ∧ v'.2.2 = v.2.2
theorem PfR.refl (sl : List Nat) (v : St) : PfR sl v v := ⟨fun _ _ => rfl, fun _ _ _ _ _ _ _ => rfl, fun _ _ => ⟨rfl, rfl, fun _ _ => ⟨rfl, rfl⟩⟩, rfl⟩
theorem PfR.trans {sl : List Nat} {u v w : St} (h : PfR sl u v) (h2 : PfR sl v w) : PfR sl u w := by
  refine ⟨fun k hk => (h2.1 k hk).trans (h.1 k hk), fun k a b c d e f => (h2.2.1 k a b c d e f).trans (h.2.1 k a b c d e f), fun s hs => ?_, h2.2.2.2.trans h.2.2.2⟩
  obtain ⟨a1, a2, a3⟩ := h.2.2.1 s hs
  obtain ⟨b1, b2, b3⟩ := h2.2.2.1 s hs
  exact ⟨b1.trans a1, b2.trans a2, fun i hi => ⟨(b3 i hi).1.trans (a3 i hi).1, (b3 i hi).2.trans (a3 i hi).2⟩⟩
theorem SlotP.keepS {v v' : St} {s : Nat} {ps : List Pt} (hl : ps.length ≤ 64) (h : SlotP v s ps) (h1 : v'.2.1 12 s = v.2.1 12 s) (h2 : ∀ i, i < 64 → v'.2.1 15 (64 * s + i) = v.2.1 15 (64 * s + i) ∧ v'.2.1 16 (64 * s + i) = v.2.1 16 (64 * s + i)) : SlotP v' s ps := by
  refine ⟨h1.trans h.1, fun i p hp => ?_⟩
  have hi : i < 64 := by have := (List.getElem?_eq_some_iff.mp hp).1; omega
  exact ⟨(h2 i hi).1.trans (h.2 i p hp).1, (h2 i hi).2.trans (h.2 i p hp).2⟩
theorem PfR.sl {sl : List Nat} {v v' : St} (h : PfR sl v v') {cs : List Ch} (hcl : ∀ c ∈ cs, c.2.1.length ≤ 64) (ho : SlOk v sl cs) : SlOk v' sl cs := by
  refine ⟨ho.1, ho.2.1, fun k s hk => ?_, fun k s c hk hc => ?_⟩
  · rw [h.2.1 17 (by decide) (by decide) (by decide) (by decide) (by decide) (by decide)]; exact ho.2.2.1 k s hk
  · obtain ⟨a1, a2, a3, a4⟩ := ho.2.2.2 k s c hk hc
    obtain ⟨b1, b2, b3⟩ := h.2.2.1 s (List.mem_of_getElem? hk)
    refine ⟨b1.trans a1, a2.keepS (hcl c (List.mem_of_getElem? hc)) b2 b3, ?_, ?_⟩
    · rw [h.2.1 13 (by decide) (by decide) (by decide) (by decide) (by decide) (by decide)]; exact a3
    · rw [h.2.1 14 (by decide) (by decide) (by decide) (by decide) (by decide) (by decide)]; exact a4
theorem nar01 : vp_nar .boolean 0 = 0 ∧ vp_nar .boolean 1 = 1 := by decide +kernel
theorem stA_comm (u : St) {j k : Nat} (hjk : j ≠ k) (f g : Nat → Int32) : st_A (st_A u j f) k g = st_A (st_A u k g) j f := by
  refine St.ext4 (fun _ => rfl) (fun i => ?_) (fun _ => rfl) (fun _ => rfl)
  rw [sA, sA, sA, sA]
  by_cases h1 : i = k
  · subst h1; rw [if_pos rfl, if_neg (Ne.symm hjk), if_pos rfl]
  · rw [if_neg h1, if_neg h1]
/-- one more in the row next -/
theorem t_comes {K : St → Prop} {v : St} {nx : List Nat} (hN : NxOk v nx) (hl : nx.length < 200) (s : Nat) (b : Bool)
    (hK : ∀ v' : St, (∀ k, k ≠ 27 → v'.1 k = v.1 k) → (∀ k, k ≠ 25 → k ≠ 26 → v'.2.1 k = v.2.1 k) → v'.2.2 = v.2.2 → NxOk v' (nx ++ [s]) → (∀ k, k < nx.length → v'.2.1 26 k = v.2.1 26 k) → v'.2.1 26 nx.length = (if b then 1 else 0) → K v') : wp_X12_comes v (nI s) (if b then 1 else 0) K := by
  unfold wp_X12_comes
  rw [hN.1, nI_clamp (show nx.length < 2 ^ 31 by omega), nI_1]
  refine ⟨vp_in_nI (by omega) (by decide), vp_in_nI (by omega) (by decide), hK _ (fun k hk => ?_) (fun k h1 h2 => ?_) rfl ⟨?_, fun k t hk => ?_⟩ (fun k hk => ?_) ?_⟩
  · rw [sI, if_neg hk]; rfl
  · rw [sIA, sA, if_neg h2, sA, if_neg h1]
  · rw [List.length_append, List.length_singleton]; rfl
  · show upd (v.2.1 25) nx.length (nI s) k = nI t
    by_cases hkl : k < nx.length
    · rw [List.getElem?_append_left hkl] at hk
      rw [upd_ne _ _ (by omega)]
      exact hN.2 k t hk
    · have hk2 : k = nx.length := by
        have := (List.getElem?_eq_some_iff.mp hk).1
        rw [List.length_append, List.length_singleton] at this
        omega
      subst hk2
      rw [List.getElem?_append_right (Nat.le_refl _), Nat.sub_self] at hk
      cases hk
      exact upd_self _ _ _
  · show upd (v.2.1 26) nx.length _ k = _
    exact upd_ne _ _ (by omega)
  · show upd (v.2.1 26) nx.length _ nx.length = _
    rw [upd_self]
    cases b
    · exact nar01.1
    · exact nar01.2
/-- an old chunk comes into the plan -/
def peO (c : Ch) : Pe := (c.1, c.2.1, some c.2.2)
theorem PlT.old {v v' : St} {sl nx : List Nat} {pe : List Pe} {cs : List Ch} (hP : PlT v sl nx pe) {s : Nat} {c : Ch} {j : Nat} (ho : SlOk v sl cs) (hj : sl[j]? = some s) (hc : cs[j]? = some c) (hpt : PtOk c.2.1) (hs : s ∉ nx)
    (h2 : ∀ k, k ≠ 25 → k ≠ 26 → v'.2.1 k = v.2.1 k) (h4 : NxOk v' (nx ++ [s])) (h5 : ∀ k, k < nx.length → v'.2.1 26 k = v.2.1 26 k) (h6 : v'.2.1 26 nx.length = 0) : PlT v' sl (nx ++ [s]) (pe ++ [peO c]) := by
  obtain ⟨p1, p2, p3, p4⟩ := hP
  refine ⟨h4, by simp [p2], ?_, fun k t e hk he => ?_⟩
  · rw [List.nodup_append]
    exact ⟨p3, by simp, fun a ha b hb => by rw [List.mem_singleton] at hb; subst hb; exact fun q => hs (q ▸ ha)⟩
  · have k11 := h2 11 (by decide) (by decide)
    have k12 := h2 12 (by decide) (by decide)
    have k13 := h2 13 (by decide) (by decide)
    have k14 := h2 14 (by decide) (by decide)
    have k15 := h2 15 (by decide) (by decide)
    have k16 := h2 16 (by decide) (by decide)
    by_cases hkl : k < nx.length
    · rw [List.getElem?_append_left hkl] at hk
      rw [List.getElem?_append_left (by omega)] at he
      obtain ⟨a1, a2, a3, a4, a5⟩ := p4 k t e hk he
      refine ⟨a1, by rw [k11]; exact a2, a3.keep k12 k15 k16, a4, ?_⟩
      rw [h5 k hkl, k13, k14]
      exact a5
    · have hk2 : k = nx.length := by
        have := (List.getElem?_eq_some_iff.mp hk).1
        rw [List.length_append, List.length_singleton] at this
        omega
      subst hk2
      rw [List.getElem?_append_right (Nat.le_refl _), Nat.sub_self] at hk
      rw [p2, List.getElem?_append_right (Nat.le_refl _), Nat.sub_self] at he
      cases hk
      cases he
      obtain ⟨b1, b2, b3, b4⟩ := ho.2.2.2 j s c hj hc
      exact ⟨(ho.2.2.1 j s hj).1, by rw [k11]; exact b1, b2.keep k12 k15 k16, hpt, h6, List.mem_of_getElem? hj, by rw [k13]; exact b3, by rw [k14]; exact b4⟩
/-! expire -/
def exK (x : Int32) (c : Ch) : Bool := decide (x ≤ plst c.2.1)
def wentE (x : Int32) (cs : List Ch) : Nat := ((cs.filter (fun c => !exK x c)).map (fun c => c.2.1.length)).sum
theorem expire_loop {K : Int32 → St → Prop} {v : St} {sl : List Nat} {cs : List Ch} {x : Int32} (h18 : v.1 18 = nI sl.length) (ho : SlOk v sl cs) (hsl : sl.length ≤ 96) (hpt : ∀ c ∈ cs, PtOk c.2.1) (hsum : (cs.map (fun c => c.2.1.length)).sum ≤ 1000) (w0 : St)
    (hK : ∀ (w : St) (nx : List Nat), PfR sl v w → PlT w sl nx ((cs.filter (exK x)).map peO) → nx.length = (cs.filter (exK x)).length → (∀ s ∈ nx, s ∈ sl) → wp_X12_expire_83 K (nI (wentE x cs)) w) :
    ∀ (rs k : List Nat) (rc kc : List Ch) (w : St) (nx : List Nat), sl = k ++ rs → cs = kc ++ rc → k.length = kc.length → PfR sl v w → PlT w sl nx ((kc.filter (exK x)).map peO) → (∀ s ∈ nx, s ∈ k) → wp_X12_expire_27 K (rs.length + 1) x (nI (wentE x kc)) (nI k.length) w := by
  intro rs
  induction rs with
  | nil =>
    intro k rc kc w nx hk hkc hl hF hP hnx
    rw [List.append_nil] at hk
    subst hk
    have : rc = [] := by
      have := ho.1
      rw [hkc, List.length_append] at this
      exact List.length_eq_zero_iff.mp (by omega)
    subst this
    rw [List.append_nil] at hkc
    subst hkc
    unfold wp_X12_expire_27
    rw [hF.1 18 (by decide), h18]
    refine ⟨fun _ => hK w nx hF hP (by have := hP.2.1; simpa using this) hnx, fun h => absurd (Int32.le_refl _) h⟩
  | cons s rs ih =>
    intro k rc kc w nx hk hkc hl hF hP hnx
    obtain ⟨c, rc, rfl⟩ : ∃ c r, rc = c :: r := by
      cases rc with
      | nil => have := ho.1; rw [hk, hkc] at this; simp at this; omega
      | cons c r => exact ⟨c, r, rfl⟩
    have hln : sl.length = k.length + (rs.length + 1) := by rw [hk]; simp
    have hg : sl[k.length]? = some s := by rw [hk]; exact mid_get? _ _ _
    have hgc : cs[k.length]? = some c := by rw [hkc, hl]; exact mid_get? _ _ _
    have hcm : c ∈ cs := List.mem_of_getElem? hgc
    have hpc := hpt c hcm
    have ho' := hF.sl (fun c hc => (hpt c hc).2.2) ho
    obtain ⟨hs, e17⟩ := ho'.2.2.1 k.length s hg
    obtain ⟨b1, b2, b3, b4⟩ := ho'.2.2.2 k.length s c hg hgc
    have hsk : s ∉ k := by
      have hnd := ho.2.1
      rw [hk] at hnd
      intro hm
      exact (List.nodup_append.mp hnd).2.2 s hm s (by simp) rfl
    have hnl : nx.length ≤ 96 := by
      have h1 := hP.2.1
      rw [List.length_map] at h1
      have h2 := List.length_filter_le (exK x) kc
      omega
    unfold wp_X12_expire_27
    rw [hF.1 18 (by decide), h18, nI_clamp (show k.length < 2 ^ 31 by omega), e17, nI_1]
    refine ⟨fun h => absurd h (nI_ge (by omega) (by omega)), fun _ => ⟨vp_in_nI (by omega) (by decide), t_last hs b2 hpc.2.1 hpc.2.2 ⟨fun h => ⟨vp_in_nI (by omega) (by decide), ?_⟩, fun h => ⟨vp_in_nI (by omega) (by decide), ?_, ?_⟩⟩⟩⟩
    · rw [e17]
      have hex : exK x c = true := by unfold exK; exact decide_eq_true h
      refine t_comes (b := false) hP.1 (by omega) s (fun v' a1 a2 a3 a4 a5 a6 => ?_)
      have hP2 := hP.old ho' hg hgc hpc (fun hm => hsk (hnx s hm)) a2 a4 a5 a6
      have := ih (k ++ [s]) rc (kc ++ [c]) v' (nx ++ [s]) (by rw [hk]; simp) (by rw [hkc]; simp) (by simp [hl]) (hF.trans ⟨fun k hk => a1 k hk, fun k q1 q2 q3 q4 q5 q6 => a2 k q5 q6, fun t ht => ⟨by rw [a2 11 (by decide) (by decide)], by rw [a2 12 (by decide) (by decide)], fun i hi => ⟨by rw [a2 15 (by decide) (by decide)], by rw [a2 16 (by decide) (by decide)]⟩⟩, a3⟩) (by rw [List.filter_append, List.map_append]; simpa [hex] using hP2) (fun t ht => by
        rw [List.mem_append, List.mem_singleton] at ht
        rcases ht with ht | ht
        · simp [hnx t ht]
        · simp [ht])
      have ew : wentE x (kc ++ [c]) = wentE x kc := by unfold wentE; simp [List.filter_append, hex]
      rw [ew, List.length_append, List.length_singleton] at this
      exact this
    · rw [e17]; exact vp_in_nI hs (by decide)
    · rw [e17, nI_clamp (show s < 2 ^ 31 by omega), b2.1, nI_add]
      have hex : exK x c = false := by unfold exK; exact decide_eq_false h
      have := ih (k ++ [s]) rc (kc ++ [c]) w nx (by rw [hk]; simp) (by rw [hkc]; simp) (by simp [hl]) hF (by rw [List.filter_append, List.map_append]; simpa [hex] using hP) (fun t ht => by simp [hnx t ht])
      have ew : wentE x (kc ++ [c]) = wentE x kc + c.2.1.length := by unfold wentE; simp [List.filter_append, hex]
      rw [ew, List.length_append, List.length_singleton] at this
      exact this
