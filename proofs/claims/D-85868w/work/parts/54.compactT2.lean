set_option maxRecDepth 100000
def planC (m s : Nat) : Nat → List Ch → List Pe
  | 0, _ => []
  | _, [] => []
  | f + 1, c :: r => if c.1 = s ∧ togN m c.1 c.2.1.length r ≠ 0 then peN s (allP (c :: r.take (togN m c.1 c.2.1.length r))) :: planC m s f (r.drop (togN m c.1 c.2.1.length r)) else peO c :: planC m s f r
theorem tog_len (m s : Nat) : ∀ (r : List Ch) (all : Nat), all ≤ m → all + (allP (r.take (togN m s all r))).length ≤ m
  | [], all, h => by simpa [togN, allP] using h
  | c :: r, all, h => by
    unfold togN
    split
    · rename_i hc
      have := tog_len m s r (all + c.2.1.length) hc.2
      rw [List.take_succ_cons]
      unfold allP at this ⊢
      simp at this ⊢
      omega
    · simpa [allP] using h
theorem t_joined {K : St → Prop} {v : St} {sl nx : List Nat} {cs : List Ch} {pe : List Pe} {ser k n : Nat} {sg : List Ch} {c0 : Ch} (h18 : v.1 18 = nI sl.length) (ho : SlOk v sl cs) (hcl : ∀ c ∈ cs, c.2.1.length ≤ 64) (hsl : sl.length ≤ 96) (hP : PlT v sl nx pe) (hnl : nx.length ≤ 96) (hkn : k + n ≤ cs.length) (hn0 : 0 < n) (hsl2 : sg.length = n) (hg : ∀ i c, sg[i]? = some c → cs[k + i]? = some c) (h0 : cs[k]? = some c0) (hser : c0.1 = ser) (hsg : PtOk (allP sg))
    (hK : ∀ (w : St) (s : Nat), PfR sl v w → s ∉ sl → s ∉ nx → PlT w sl (nx ++ [s]) (pe ++ [peN ser (allP sg)]) → K w) : wp_X12_joined v (nI k) (nI n) K := by
  have hlc := ho.1
  have hj : sl[k]? = some (sl[k]'(by omega)) := List.getElem?_eq_getElem _
  obtain ⟨ht, e17⟩ := ho.2.2.1 _ _ hj
  obtain ⟨b1, -, -, -⟩ := ho.2.2.2 _ _ c0 hj h0
  unfold wp_X12_joined
  refine t_free h18 ho.2.2.1 hsl hP.1 (by omega) (fun t ht => ?_) (fun c hc h1 h2 => ?_)
  · obtain ⟨i, hi⟩ := List.getElem?_of_mem ht
    have hil := (List.getElem?_eq_some_iff.mp hi).1
    have hpl2 := hP.2.1
    exact (hP.2.2.2 i t _ hi (List.getElem?_eq_getElem (by omega))).1
  · rw [nI_clamp (show k < 2 ^ 31 by omega), e17, nI_clamp (show sl[k]'(by omega) < 2 ^ 31 by omega), b1, nI_clamp (show c < 2 ^ 31 by omega)]
    refine ⟨vp_in_nI (by omega) (by decide), vp_in_nI ht (by decide), fun y hy => ⟨vp_in_nI hc (by decide), vp_in_nI hc (by decide), ?_⟩⟩
    rw [hy]
    refine t_open hP (by omega) hc h1 h2 c0.1 (fun v1 f1 q1 => ?_)
    have := joined38 (K := K) (v := v) (k := k) (n := n) (s := c) (ser := c0.1) (nx := nx) (pe := pe) ho hcl hsl hkn sg hsg.2.2 (fun w f q => hK w c f h1 h2 (by rw [← hser]; exact q.close hsg)) sg [] v1 rfl (fun i c' hi => by simpa using hg i c' hi) (by simpa using hsl2) f1 (by simpa [allP] using q1)
    exact ⟨_, this⟩
