set_option maxRecDepth 100000
/-! ===== the twin's flush: its plan ===== -/
def ofS (cs : List Ch) (s : Nat) : List Ch := cs.filter (fun c => decide (c.1 = s))
def planF (m : Nat) (cs : List Ch) (lg : List Lg) : Nat → List Pe
  | 0 => []
  | n + 1 => planF m cs lg n ++ ((ofS cs n).map peO ++ (pcs m (hpts lg n)).map (peN n))
/-- how many points lie in series below n -/
theorem flush44 {C : Int32 → St → Prop} {K : Int32 → St → Prop} {v : St} {sl : List Nat} {cs : List Ch} {s : Nat} {nx0 : List Nat} {pe0 : List Pe} (h18 : v.1 18 = nI sl.length) (ho : SlOk v sl cs) (hsl : sl.length ≤ 96) (hpt : ∀ c ∈ cs, PtOk c.2.1) (hss : ∀ c ∈ cs, c.1 < 100) (hs2 : s < 100) (hb : nx0.length + sl.length ≤ 190)
    (hd : ∀ (i t : Nat) (c : Ch), sl[i]? = some t → cs[i]? = some c → c.1 = s → t ∉ nx0)
    (hK : ∀ (w : St) (ns : List Nat), PfR sl v w → PlT w sl (nx0 ++ ns) (pe0 ++ (ofS cs s).map peO) → ns.length = (ofS cs s).length → (∀ t ∈ ns, ∃ (i : Nat) (c : Ch), sl[i]? = some t ∧ cs[i]? = some c ∧ c.1 = s) → wp_X12_flush_84 C K (nI s) w) :
    ∀ (rs k : List Nat) (rc kc : List Ch) (w : St) (ns : List Nat), sl = k ++ rs → cs = kc ++ rc → k.length = kc.length → PfR sl v w → PlT w sl (nx0 ++ ns) (pe0 ++ (ofS kc s).map peO) → ns.length = (ofS kc s).length → (∀ t ∈ ns, ∃ (i : Nat) (c : Ch), k[i]? = some t ∧ cs[i]? = some c ∧ c.1 = s) →
      wp_X12_flush_44 C K (rs.length + 1) (nI s) (nI k.length) w := by
  intro rs
  induction rs with
  | nil =>
    intro k rc kc w ns hk hkc hl hF hP hn hm
    rw [List.append_nil] at hk
    subst hk
    have : rc = [] := by
      have := ho.1
      rw [hkc, List.length_append] at this
      exact List.length_eq_zero_iff.mp (by omega)
    subst this
    rw [List.append_nil] at hkc
    subst hkc
    unfold wp_X12_flush_44
    rw [hF.1 18 (by decide), h18]
    exact ⟨fun _ => hK w ns hF hP hn hm, fun h => absurd (Int32.le_refl _) h⟩
  | cons t rs ih =>
    intro k rc kc w ns hk hkc hl hF hP hn hm
    obtain ⟨c, rc, rfl⟩ : ∃ c r, rc = c :: r := by
      cases rc with
      | nil => have := ho.1; rw [hk, hkc] at this; simp at this; omega
      | cons c r => exact ⟨c, r, rfl⟩
    have hln : sl.length = k.length + (rs.length + 1) := by rw [hk]; simp
    have hg : sl[k.length]? = some t := by rw [hk]; exact mid_get? _ _ _
    have hgc : cs[k.length]? = some c := by rw [hkc, hl]; exact mid_get? _ _ _
    have hcm : c ∈ cs := List.mem_of_getElem? hgc
    have ho' := hF.sl (fun c hc => (hpt c hc).2.2) ho
    obtain ⟨ht, e17⟩ := ho'.2.2.1 k.length t hg
    obtain ⟨b1, b2, b3, b4⟩ := ho'.2.2.2 k.length t c hg hgc
    have htk : t ∉ k := by
      have hnd := ho.2.1
      rw [hk] at hnd
      intro hm
      exact (List.nodup_append.mp hnd).2.2 t hm t (by simp) rfl
    have hnl : ns.length ≤ kc.length := by rw [hn]; exact List.length_filter_le _ _
    have hm' : ∀ u ∈ ns, ∃ (i : Nat) (c : Ch), (k ++ [t])[i]? = some u ∧ cs[i]? = some c ∧ c.1 = s := fun u hu => by
      obtain ⟨i, c, a, b⟩ := hm u hu
      exact ⟨i, c, by rw [List.getElem?_append_left (List.getElem?_eq_some_iff.mp a).1]; exact a, b⟩
    unfold wp_X12_flush_44
    rw [hF.1 18 (by decide), h18, nI_clamp (show k.length < 2 ^ 31 by omega), e17, nI_clamp (show t < 2 ^ 31 by omega), b1, nI_1]
    refine ⟨fun h => absurd h (nI_ge (by omega) (by omega)), fun _ => ⟨vp_in_nI (by omega) (by decide), vp_in_nI ht (by decide), fun h => ?_, fun h => ⟨vp_in_nI (by omega) (by decide), ?_⟩⟩⟩
    · have hne : ¬ c.1 = s := fun e => h (by rw [e])
      have eo : ofS (kc ++ [c]) s = ofS kc s := by unfold ofS; simp [List.filter_append, hne]
      have := ih (k ++ [t]) rc (kc ++ [c]) w ns (by rw [hk]; simp) (by rw [hkc]; simp) (by simp [hl]) hF (by rw [eo]; exact hP) (by rw [eo]; exact hn) hm'
      rwa [List.length_append, List.length_singleton] at this
    · have he : c.1 = s := (nI_eq (by have := hss c hcm; omega) (by omega)).mp h
      have eo : ofS (kc ++ [c]) s = ofS kc s ++ [c] := by unfold ofS; simp [List.filter_append, he]
      refine t_comes (b := false) hP.1 (by rw [List.length_append]; omega) t (fun v' a1 a2 a3 a4 a5 a6 => ?_)
      have hP2 := hP.old ho' hg hgc (hpt c hcm) (fun hmem => by
        rw [List.mem_append] at hmem
        rcases hmem with hmem | hmem
        · exact hd k.length t c hg hgc he hmem
        · obtain ⟨i, c', q1, -⟩ := hm t hmem
          exact htk (List.mem_of_getElem? q1)) a2 a4 a5 a6
      have := ih (k ++ [t]) rc (kc ++ [c]) v' (ns ++ [t]) (by rw [hk]; simp) (by rw [hkc]; simp) (by simp [hl]) (hF.trans ⟨fun k hk => a1 k hk, fun k q1 q2 q3 q4 q5 q6 => a2 k q5 q6, fun t ht => ⟨by rw [a2 11 (by decide) (by decide)], by rw [a2 12 (by decide) (by decide)], fun i hi => ⟨by rw [a2 15 (by decide) (by decide)], by rw [a2 16 (by decide) (by decide)]⟩⟩, a3⟩) (by rw [eo, List.map_append, ← List.append_assoc, ← List.append_assoc]; exact hP2) (by rw [eo]; simp [hn]) (fun u hu => by
        rw [List.mem_append, List.mem_singleton] at hu
        rcases hu with hu | hu
        · exact hm' u hu
        · subst hu; exact ⟨k.length, c, mid_get? k [] u, hgc, he⟩)
      rwa [List.length_append, List.length_singleton] at this
