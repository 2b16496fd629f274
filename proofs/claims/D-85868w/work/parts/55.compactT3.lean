set_option maxRecDepth 100000
theorem tog_ser (m s : Nat) : ∀ (r : List Ch) (all : Nat), ∀ c ∈ r.take (togN m s all r), c.1 = s
  | [], all, c, h => by simp at h
  | c0 :: r, all, c, h => by
    unfold togN at h
    split at h
    · rename_i hc
      rw [List.take_succ_cons, List.mem_cons] at h
      rcases h with h | h
      · rw [h]; exact hc.1
      · exact tog_ser m s r _ c h
    · simp at h
theorem compact36 {K : Int32 → St → Prop} {v : St} {sl : List Nat} {cs : List Ch} {m s : Nat} {PL : List Pe} (hm : 2 ≤ m ∧ m ≤ 64) (h2 : v.1 2 = nI m) (h18 : v.1 18 = nI sl.length) (ho : SlOk v sl cs) (hsl : sl.length ≤ 96) (hpt : ∀ c ∈ cs, PtOk c.2.1) (hss : ∀ c ∈ cs, c.1 < 100) (hs2 : s < 100)
    (hA : ∀ dc sg rc, cs = dc ++ (sg ++ rc) → (∀ c ∈ sg, c.1 = s) → Asc (allP sg)) (hcm : ∀ c ∈ cs, c.2.1.length ≤ m)
    (hK : ∀ (w : St) (nx : List Nat), PfR sl v w → PlT w sl nx PL → wp_X12_compact_101 K w) :
    ∀ (f : Nat) (rc dc : List Ch) (w : St) (nx : List Nat) (P : List Pe), cs = dc ++ rc → rc.length ≤ f → P ++ planC m s f rc = PL → P.length ≤ dc.length → PfR sl v w → PlT w sl nx P → (∀ t ∈ nx, t ∈ sl → ∃ i, i < dc.length ∧ sl[i]? = some t) →
      wp_X12_compact_36 K (f + 1) (nI s) (nI dc.length) w := by
  have hlc := ho.1
  have hcl : ∀ c ∈ cs, c.2.1.length ≤ 64 := fun c hc => (hpt c hc).2.2
  intro f
  induction f with
  | zero =>
    intro rc dc w nx P hd hf hPL hPl hF hP hnx
    have : rc = [] := List.length_eq_zero_iff.mp (by omega)
    subst this
    rw [List.append_nil] at hd
    subst hd
    unfold wp_X12_compact_36
    rw [hF.1 18 (by decide), h18, hlc]
    have : P = PL := by simpa [planC] using hPL
    subst this
    exact ⟨fun _ => hK w nx hF hP, fun h => absurd (Int32.le_refl _) h⟩
  | succ f ih =>
    intro rc dc w nx P hd hf hPL hPl hF hP hnx
    cases rc with
    | nil =>
      rw [List.append_nil] at hd
      subst hd
      unfold wp_X12_compact_36
      rw [hF.1 18 (by decide), h18, hlc]
      have : P = PL := by simpa [planC] using hPL
      subst this
      exact ⟨fun _ => hK w nx hF hP, fun h => absurd (Int32.le_refl _) h⟩
    | cons c r =>
      have hln : cs.length = dc.length + (r.length + 1) := by rw [hd]; simp
      have hgc : cs[dc.length]? = some c := by rw [hd]; exact mid_get? _ _ _
      have hg : sl[dc.length]? = some (sl[dc.length]'(by omega)) := List.getElem?_eq_getElem _
      have ho' := hF.sl hcl ho
      obtain ⟨ht, e17⟩ := ho'.2.2.1 _ _ hg
      obtain ⟨b1, b2, b3, b4⟩ := ho'.2.2.2 _ _ c hg hgc
      have hcM := List.mem_of_getElem? hgc
      have hc1 := hss c hcM
      have hnl := hP.2.1
      have hnot : sl[dc.length]'(by omega) ∉ nx := fun hmem => by
        obtain ⟨i, hi, hi2⟩ := hnx _ hmem (List.getElem_mem _)
        have hil := (List.getElem?_eq_some_iff.mp hi2)
        have := (List.getElem_inj ho.2.1).mp hil.2
        omega
      rw [List.length_cons] at hf
      -- an old one comes
      have old : (planC m s (f + 1) (c :: r) = peO c :: planC m s f r) → wp_X12_compact_68 (fun x1 x2 u => wp_X12_compact_36 K (f + 1) x1 x2 u) K (nI s) (nI dc.length) 1 w := by
        intro hpc
        unfold wp_X12_compact_68
        rw [nI_clamp (show dc.length < 2 ^ 31 by omega), e17, nI_1]
        refine ⟨fun h => absurd rfl h, fun _ => ⟨vp_in_nI (by omega) (by decide), t_comes (b := false) hP.1 (by omega) _ (fun v' a1 a2 a3 a4 a5 a6 => ?_)⟩⟩
        have hP2 := hP.old ho' hg hgc (hpt c hcM) hnot a2 a4 a5 a6
        have := ih r (dc ++ [c]) v' _ (P ++ [peO c]) (by rw [hd]; simp) (by omega) (by rw [← hPL, hpc]; simp) (by simp; omega) (hF.trans ⟨fun k hk => a1 k hk, fun k q1 q2 q3 q4 q5 q6 => a2 k q5 q6, fun t ht => ⟨by rw [a2 11 (by decide) (by decide)], by rw [a2 12 (by decide) (by decide)], fun i hi => ⟨by rw [a2 15 (by decide) (by decide)], by rw [a2 16 (by decide) (by decide)]⟩⟩, a3⟩) hP2 (fun t ht hts => by
          rw [List.mem_append, List.mem_singleton] at ht
          rcases ht with ht | ht
          · obtain ⟨i, hi, hi2⟩ := hnx t ht hts
            exact ⟨i, by simp; omega, hi2⟩
          · exact ⟨dc.length, by simp, by rw [ht]; exact hg⟩)
        rw [List.length_append, List.length_singleton] at this
        exact this
      unfold wp_X12_compact_36
      rw [hF.1 18 (by decide), h18, nI_clamp (show dc.length < 2 ^ 31 by omega), e17, nI_clamp (show sl[dc.length]'(by omega) < 2 ^ 31 by omega), b1]
      refine ⟨fun h => absurd h (nI_ge (by omega) (by omega)), fun _ => ⟨vp_in_nI (by omega) (by decide), vp_in_nI ht (by decide), fun h => ?_, fun h => ?_⟩⟩
      · have hne : ¬ c.1 = s := fun e => h (by rw [e])
        exact old (by rw [planC, if_neg (fun q => hne q.1)])
      · have he : c.1 = s := (nI_eq (by omega) (by omega)).mp h
        refine t_together hm.2 ((hF.1 2 (by decide)).trans h2) ((hF.1 18 (by decide)).trans h18) ho' hsl hpt hss hd ?_
        by_cases hn0 : togN m c.1 c.2.1.length r = 0
        · rw [hn0]
          exact old (by rw [planC, if_neg (fun q => q.2 hn0)])
        · generalize hN : togN m c.1 c.2.1.length r = N at hn0
          have hNl : N ≤ r.length := by rw [← hN]; exact togN_le _ _ _ _
          have hpc : planC m s (f + 1) (c :: r) = peN s (allP (c :: r.take N)) :: planC m s f (r.drop N) := by rw [planC, hN, if_pos ⟨he, hn0⟩]
          have hsplit : cs = dc ++ ((c :: r.take N) ++ r.drop N) := by rw [hd, List.cons_append, List.take_append_drop]
          have hser : ∀ c' ∈ c :: r.take N, c'.1 = s := fun c' hc' => by
            rw [List.mem_cons] at hc'
            rcases hc' with hc' | hc'
            · rw [hc']; exact he
            · rw [← hN] at hc'; rw [← he]; exact tog_ser m c.1 r _ c' hc'
          have hlen : (allP (c :: r.take N)).length ≤ m := by
            have := tog_len m c.1 r c.2.1.length (hcm c hcM)
            rw [hN] at this
            have e9 : (allP (c :: r.take N)).length = c.2.1.length + (allP (r.take N)).length := by unfold allP; simp
            omega
          have hok : PtOk (allP (c :: r.take N)) := ⟨hA dc _ _ hsplit hser, by unfold allP; simp [(hpt c hcM).2.1], by omega⟩
          unfold wp_X12_compact_68
          refine ⟨fun _ => ?_, fun h => absurd ((nI_eq (by omega) (by decide)).mp (show nI (1 + N) = nI 1 from h)) (by omega)⟩
          refine t_joined (sg := c :: r.take N) (c0 := c) (ser := s) ((hF.1 18 (by decide)).trans h18) ho' hcl hsl hP (by omega) (by omega) (by omega) (by simp; omega) (fun i c' hi => ?_) hgc he hok (fun w2 t f2 q1 q2 q3 => ?_)
          · have hil := (List.getElem?_eq_some_iff.mp hi).1
            rw [hsplit, List.getElem?_append_right (by omega), show dc.length + i - dc.length = i by omega, List.getElem?_append_left hil]
            exact hi
          · rw [nI_add]
            have := ih (r.drop N) (dc ++ (c :: r.take N)) w2 (nx ++ [t]) (P ++ [peN s (allP (c :: r.take N))]) (by rw [hsplit]; simp) (by rw [List.length_drop]; omega) (by rw [← hPL, hpc]; simp) (by simp; omega) (hF.trans f2) q3 (fun u hu hus => by
              rw [List.mem_append, List.mem_singleton] at hu
              rcases hu with hu | hu
              · obtain ⟨i, hi, hi2⟩ := hnx u hu hus
                exact ⟨i, by simp; omega, hi2⟩
              · exact absurd (hu ▸ hus) q1)
            have el : (dc ++ (c :: r.take N)).length = dc.length + (1 + N) := by simp; omega
            rw [el] at this
            exact this
