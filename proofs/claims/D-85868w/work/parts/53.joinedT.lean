set_option maxRecDepth 100000
theorem joined49 {C : Int32 → Int32 → Int32 → Int32 → St → Prop} {K : St → Prop} {v : St} {sl nx : List Nat} {cs : List Ch} {pe : List Pe} {s ser j t : Nat} {c : Ch} (x1 x2 : Int32) (ho : SlOk v sl cs) (hcl : ∀ c ∈ cs, c.2.1.length ≤ 64) (hsl : sl.length ≤ 96) (hj : sl[j]? = some t) (hjc : cs[j]? = some c) (ps0 : List Pt) (hlen : ps0.length + c.2.1.length ≤ 64)
    (hK : ∀ w, PfR sl v w → PlQ w sl nx pe s ser (ps0 ++ c.2.1) → C x1 x2 (nI s) (nI (j + 1)) w) :
    ∀ (rp dp : List Pt) (w : St), c.2.1 = dp ++ rp → PfR sl v w → PlQ w sl nx pe s ser (ps0 ++ dp) → wp_X12_joined_49 C K (rp.length + 1) x1 x2 (nI s) (nI j) (nI dp.length) w := by
  have hjl := (List.getElem?_eq_some_iff.mp hj).1
  intro rp
  induction rp with
  | nil =>
    intro dp w hd hF hQ
    rw [List.append_nil] at hd
    have ho' := hF.sl hcl ho
    obtain ⟨ht, e17⟩ := ho'.2.2.1 _ _ hj
    obtain ⟨-, b2, -, -⟩ := ho'.2.2.2 _ _ c hj hjc
    unfold wp_X12_joined_49
    rw [nI_clamp (show j < 2 ^ 31 by omega), e17, nI_clamp (show t < 2 ^ 31 by omega), b2.1, hd, nI_1]
    refine ⟨vp_in_nI (by omega) (by decide), vp_in_nI ht (by decide), fun _ => hK w hF (by rw [hd]; exact hQ), fun h => absurd (Int32.le_refl _) h⟩
  | cons p rp ih =>
    intro dp w hd hF hQ
    have hln : c.2.1.length = dp.length + (rp.length + 1) := by rw [hd]; simp
    have ho' := hF.sl hcl ho
    obtain ⟨ht, e17⟩ := ho'.2.2.1 _ _ hj
    obtain ⟨-, b2, -, -⟩ := ho'.2.2.2 _ _ c hj hjc
    obtain ⟨e1, i1, c1⟩ := ix64 ht (show dp.length < 64 by omega)
    obtain ⟨g1, g2⟩ := b2.2 dp.length p (by rw [hd]; exact mid_get? _ _ _)
    unfold wp_X12_joined_49
    rw [nI_clamp (show j < 2 ^ 31 by omega), e17, nI_clamp (show t < 2 ^ 31 by omega), b2.1, e1, c1, g1, g2]
    refine ⟨vp_in_nI (by omega) (by decide), vp_in_nI ht (by decide), fun h => absurd h (nI_ge (by omega) (by omega)), fun _ => ⟨vp_in_nI (by omega) (by decide), i1, vp_in_nI (by omega) (by decide), i1, ?_⟩⟩
    refine t_add hQ.2.2.2.2.1 hQ.2.2.2.2.2.2.2.1 (by rw [List.length_append]; omega) p.1 p.2 (fun w2 f2 S2 => ?_)
    rw [nI_1]
    have := ih (dp ++ [p]) w2 (by rw [hd]; simp) (hF.trans (f2.pf hQ.2.2.2.2.2.1)) (hQ.add f2 (by rw [← List.append_assoc]; exact S2))
    rwa [List.length_append, List.length_singleton] at this
/-- points of chunks, one behind the other -/
def allP (cs : List Ch) : List Pt := (cs.map (fun c => c.2.1)).flatten
theorem joined38 {K : St → Prop} {v : St} {sl nx : List Nat} {cs : List Ch} {pe : List Pe} {s ser k n : Nat} (ho : SlOk v sl cs) (hcl : ∀ c ∈ cs, c.2.1.length ≤ 64) (hsl : sl.length ≤ 96) (hkn : k + n ≤ cs.length) (sg : List Ch) (hsg : (allP sg).length ≤ 64)
    (hK : ∀ w, PfR sl v w → PlQ w sl nx pe s ser (allP sg) → K w) :
    ∀ (rc dc : List Ch) (w : St), sg = dc ++ rc → (∀ i c, rc[i]? = some c → cs[k + dc.length + i]? = some c) → dc.length + rc.length = n → PfR sl v w → PlQ w sl nx pe s ser (allP dc) → wp_X12_joined_38 K (rc.length + 1) (nI k) (nI n) (nI s) (nI (k + dc.length)) w := by
  have hlc := ho.1
  intro rc
  induction rc with
  | nil =>
    intro dc w hd hg hl hF hQ
    rw [List.append_nil] at hd
    subst hd
    have hl : sg.length = n := by simpa using hl
    unfold wp_X12_joined_38
    rw [nI_add, hl]
    exact ⟨fun _ => hK w hF hQ, fun h => absurd (Int32.le_refl _) h⟩
  | cons c rc ih =>
    intro dc w hd hg hl hF hQ
    rw [List.length_cons] at hl
    have hgc : cs[k + dc.length]? = some c := hg 0 c rfl
    have hj : sl[k + dc.length]? = some (sl[k + dc.length]'(by omega)) := List.getElem?_eq_getElem _
    have hap : (allP dc).length + c.2.1.length ≤ 64 := by
      have : (allP sg).length = (allP dc).length + c.2.1.length + (allP rc).length := by rw [hd]; unfold allP; simp; omega
      omega
    unfold wp_X12_joined_38
    rw [nI_add]
    refine ⟨fun h => absurd h (nI_ge (by omega) (by omega)), fun _ => ?_⟩
    rw [nI0e]
    refine ⟨_, joined49 (nI k) (nI n) ho hcl hsl hj hgc (allP dc) hap (fun w1 f1 q1 => ?_) c.2.1 [] w rfl hF (by rw [List.append_nil]; exact hQ)⟩
    have e1 : allP (dc ++ [c]) = allP dc ++ c.2.1 := by unfold allP; simp
    have := ih (dc ++ [c]) w1 (by rw [hd]; simp) (fun i c' hi => by
      have := hg (i + 1) c' hi
      rwa [List.length_append, List.length_singleton, show k + (dc.length + 1) + i = k + dc.length + (i + 1) by omega]) (by simp; omega) f1 (by rw [e1]; exact q1)
    rwa [List.length_append, List.length_singleton] at this
