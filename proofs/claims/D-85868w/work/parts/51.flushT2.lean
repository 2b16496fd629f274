set_option maxRecDepth 100000
theorem len_split {α : Type} (f : α → Nat) (n : Nat) (l : List α) : (l.filter (fun a => decide (f a < n + 1))).length = (l.filter (fun a => decide (f a < n))).length + (l.filter (fun a => decide (f a = n))).length := by
  induction l with
  | nil => rfl
  | cons a l ih =>
    simp only [List.filter_cons]
    by_cases h1 : f a < n
    · have h2 : ¬ f a = n := by omega
      have h3 : f a < n + 1 := by omega
      simp [h1, h2, h3, ih]; omega
    · by_cases h2 : f a = n
      · simp [h2, ih]; omega
      · have h3 : ¬ f a < n + 1 := by omega
        simp [h1, h2, h3, ih]
theorem planF_len (m : Nat) (hm : 1 ≤ m) (cs : List Ch) (lg : List Lg) : ∀ n, (planF m cs lg n).length ≤ (cs.filter (fun c => decide (c.1 < n))).length + (lg.filter (fun g => decide (g.1 < n))).length
  | 0 => by simp [planF]
  | n + 1 => by
    have h1 := planF_len m hm cs lg n
    have h2 := len_split (fun c : Ch => c.1) n cs
    have h3 := len_split (fun g : Lg => g.1) n lg
    have h4 := (pcs_ok m hm (hpts lg n)).2
    have h5 : (hpts lg n).length = (lg.filter (fun g => decide (g.1 = n))).length := by unfold hpts; rw [List.length_map]
    rw [planF, List.length_append, List.length_append, List.length_map, List.length_map]
    unfold ofS
    omega
theorem planF_ser (m : Nat) (cs : List Ch) (lg : List Lg) : ∀ n, ∀ e ∈ planF m cs lg n, e.1 < n
  | 0 => by intro e h; simp [planF] at h
  | n + 1 => by
    intro e he
    rw [planF, List.mem_append, List.mem_append] at he
    rcases he with he | he | he
    · have := planF_ser m cs lg n e he; omega
    · obtain ⟨c, hc, rfl⟩ := List.mem_map.mp he
      have hc := (List.mem_filter.mp hc).2
      have hc := of_decide_eq_true hc
      show c.1 < n + 1
      omega
    · obtain ⟨c, hc, rfl⟩ := List.mem_map.mp he
      show n < n + 1
      omega
theorem t_heads {K : St → Prop} {v : St} {sl nx0 : List Nat} {pe0 : List Pe} {cs : List Ch} {lg : List Lg} {s m : Nat} (hm : 1 ≤ m ∧ m ≤ 64) (h2 : v.1 2 = nI m) (h18 : v.1 18 = nI sl.length) (ho : SlOk v sl cs) (hcl : ∀ c ∈ cs, c.2.1.length ≤ 64) (hsl : sl.length ≤ 96) (hlg : LgT v lg) (hll : lg.length ≤ 100) (hs : ∀ g ∈ lg, g.1 < 100) (hs2 : s < 100) (hA : Asc (hpts lg s)) (hb : nx0.length + (hpts lg s).length ≤ 96)
    (hP : PlT v sl nx0 pe0) (hK : ∀ (w : St) (ns : List Nat), PfR sl v w → PlT w sl (nx0 ++ ns) (pe0 ++ (pcs m (hpts lg s)).map (peN s)) → ns.length = (pcs m (hpts lg s)).length → K w) : wp_X12_headsOf v (nI s) K := by
  have := heads_loop hm h2 h18 ho hcl hsl hlg hll hs hs2 hA hb hK lg [] v [] rfl (PfR.refl sl v) (by simpa [hpts, pcs] using hP) rfl
  exact ⟨_, this⟩
theorem flush34 {K : Int32 → St → Prop} {v : St} {sl : List Nat} {cs : List Ch} {lg : List Lg} {n m : Nat} (hn8 : n ≤ 8) (h1 : v.1 1 = nI n) (hm : 1 ≤ m ∧ m ≤ 64) (h2 : v.1 2 = nI m) (h18 : v.1 18 = nI sl.length) (ho : SlOk v sl cs) (hsl : sl.length ≤ 96) (hpt : ∀ c ∈ cs, PtOk c.2.1) (hss : ∀ c ∈ cs, c.1 < 100) (hlg : LgT v lg) (hs : ∀ g ∈ lg, g.1 < 100) (hA : ∀ s, Asc (hpts lg s)) (hb : cs.length + lg.length ≤ 90)
    (hK : ∀ (w : St) (nx : List Nat), PfR sl v w → PlT w sl nx (planF m cs lg n) → wp_X12_flush_95 K w) :
    ∀ (k s : Nat) (w : St) (nx : List Nat), k + s = n → PfR sl v w → PlT w sl nx (planF m cs lg s) → wp_X12_flush_34 K (k + 1) (nI s) w := by
  intro k
  induction k with
  | zero =>
    intro s w nx hks hF hP
    have : s = n := by omega
    subst this
    unfold wp_X12_flush_34
    rw [hF.1 1 (by decide), h1]
    exact ⟨fun _ => hK w nx hF hP, fun h => absurd (Int32.le_refl _) h⟩
  | succ k ih =>
    intro s w nx hks hF hP
    have hcl : ∀ c ∈ cs, c.2.1.length ≤ 64 := fun c hc => (hpt c hc).2.2
    have ho' := hF.sl hcl ho
    have hlc := ho.1
    have hpl := planF_len m hm.1 cs lg s
    have hpl2 := planF_len m hm.1 cs lg (s + 1)
    have hf1 := List.length_filter_le (fun c : Ch => decide (c.1 < s)) cs
    have hf2 := List.length_filter_le (fun g : Lg => decide (g.1 < s)) lg
    have hf3 := List.length_filter_le (fun c : Ch => decide (c.1 < s + 1)) cs
    have hf4 := List.length_filter_le (fun g : Lg => decide (g.1 < s + 1)) lg
    have hc3 := len_split (fun c : Ch => c.1) s cs
    have hg3 := len_split (fun g : Lg => g.1) s lg
    have hnxl := hP.2.1
    unfold wp_X12_flush_34
    rw [hF.1 1 (by decide), h1]
    refine ⟨fun h => absurd h (nI_ge (by omega) (by omega)), fun _ => ?_⟩
    rw [nI0e]
    refine ⟨_, flush44 (v := w) (nx0 := nx) (pe0 := planF m cs lg s) ((hF.1 18 (by decide)).trans h18) ho' hsl hpt hss (by omega) (by omega) (fun i t c a b e hmem => ?_) (fun w1 ns f1 q1 hn1 hm1 => ?_) sl [] cs [] w [] rfl rfl rfl (PfR.refl sl w) (by simpa [ofS] using hP) rfl (fun t ht => by simp at ht)⟩
    · obtain ⟨j, hj⟩ := List.getElem?_of_mem hmem
      have hjl := (List.getElem?_eq_some_iff.mp hj).1
      have he : (planF m cs lg s)[j]? = some (planF m cs lg s)[j] := List.getElem?_eq_getElem (by omega)
      have h11 := (hP.2.2.2 j t _ hj he).2.1
      have hlt := planF_ser m cs lg s _ (List.getElem_mem (show j < (planF m cs lg s).length by omega))
      have h12 := (ho'.2.2.2 i t c a b).1
      rw [h11] at h12
      have := (nI_eq (by omega) (by omega)).mp h12
      omega
    · unfold wp_X12_flush_84
      have hF1 := hF.trans f1
      have hh : (hpts lg s).length = (lg.filter (fun g => decide (g.1 = s))).length := by unfold hpts; rw [List.length_map]
      have ho2 : (ofS cs s).length = (cs.filter (fun c => decide (c.1 = s))).length := rfl
      refine t_heads hm ((hF1.1 2 (by decide)).trans h2) ((hF1.1 18 (by decide)).trans h18) (hF1.sl hcl ho) hcl hsl (hF1.lg hlg) (by omega) hs (by omega) (hA s) (by rw [List.length_append]; omega) q1 (fun w2 ns2 f2 q2 hn2 => ?_)
      rw [nI_1]
      refine ih (s + 1) w2 (nx ++ ns ++ ns2) (by omega) (hF1.trans f2) ?_
      rw [planF, ← List.append_assoc]
      exact q2
