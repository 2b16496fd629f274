set_option maxRecDepth 100000
abbrev Lg : Type := Nat × Pt
def hpts (lg : List Lg) (s : Nat) : List Pt := (lg.filter (fun g => decide (g.1 = s))).map Prod.snd
/-- one more point of a head: most points in each piece -/
def addP (m : Nat) (l : List (List Pt)) (p : Pt) : List (List Pt) := match l.getLast? with
  | none => [[p]]
  | some q => if q.length = m then l ++ [[p]] else l.dropLast ++ [q ++ [p]]
def pcs (m : Nat) (ps : List Pt) : List (List Pt) := ps.foldl (addP m) []
theorem addP_nil (m : Nat) (p : Pt) : addP m [] p = [[p]] := rfl
theorem addP_snoc (m : Nat) (l : List (List Pt)) (q : List Pt) (p : Pt) : addP m (l ++ [q]) p = if q.length = m then l ++ [q] ++ [[p]] else l ++ [q ++ [p]] := by
  unfold addP; simp
theorem snoc_cases {α : Type} (l : List α) : l = [] ∨ ∃ l' q, l = l' ++ [q] := by
  rcases List.eq_nil_or_concat l with h | ⟨l', q, h⟩
  · exact Or.inl h
  · exact Or.inr ⟨l', q, by rw [h]; simp⟩
theorem pcs_snoc (m : Nat) (ps : List Pt) (p : Pt) : pcs m (ps ++ [p]) = addP m (pcs m ps) p := by unfold pcs; rw [List.foldl_append]; rfl
theorem addP_flat (m : Nat) (l : List (List Pt)) (p : Pt) : (addP m l p).flatten = l.flatten ++ [p] := by
  rcases snoc_cases l with rfl | ⟨l', q, rfl⟩
  · rfl
  · rw [addP_snoc]; split <;> simp
theorem pcs_flat (m : Nat) (ps : List Pt) : (pcs m ps).flatten = ps := by
  have : ∀ (n : Nat) (ps : List Pt), ps.length = n → (pcs m ps).flatten = ps := by
    intro n
    induction n with
    | zero => intro ps h; rw [List.length_eq_zero_iff.mp h]; rfl
    | succ n ih =>
      intro ps h
      rcases snoc_cases ps with rfl | ⟨d, p, rfl⟩
      · simp at h
      · rw [pcs_snoc, addP_flat, ih d (by simpa using h)]
  exact this _ ps rfl
theorem addP_len (m : Nat) (l : List (List Pt)) (p : Pt) : l.length ≤ (addP m l p).length ∧ (addP m l p).length ≤ l.length + 1 := by
  rcases snoc_cases l with rfl | ⟨l', q, rfl⟩
  · simp [addP_nil]
  · rw [addP_snoc]; split <;> simp
theorem addP_ok (m : Nat) (hm : 1 ≤ m) (l : List (List Pt)) (p : Pt) (h : ∀ q ∈ l, q ≠ [] ∧ q.length ≤ m) : ∀ q ∈ addP m l p, q ≠ [] ∧ q.length ≤ m := by
  rcases snoc_cases l with rfl | ⟨l', q, rfl⟩
  · intro q hq; rw [addP_nil, List.mem_singleton] at hq; subst hq; exact ⟨by simp, hm⟩
  · intro r hr
    rw [addP_snoc] at hr
    have hq := h q (by simp)
    split at hr
    · rw [List.mem_append, List.mem_singleton] at hr
      rcases hr with hr | hr
      · exact h r hr
      · subst hr; exact ⟨by simp, hm⟩
    · rename_i hne
      rw [List.mem_append, List.mem_singleton] at hr
      rcases hr with hr | hr
      · exact h r (by simp [hr])
      · subst hr; refine ⟨by simp, ?_⟩
        rw [List.length_append, List.length_singleton]
        have := hq.2
        omega
theorem pcs_ok (m : Nat) (hm : 1 ≤ m) (ps : List Pt) : (∀ q ∈ pcs m ps, q ≠ [] ∧ q.length ≤ m) ∧ (pcs m ps).length ≤ ps.length := by
  have : ∀ (n : Nat) (ps : List Pt), ps.length = n → (∀ q ∈ pcs m ps, q ≠ [] ∧ q.length ≤ m) ∧ (pcs m ps).length ≤ ps.length := by
    intro n
    induction n with
    | zero => intro ps h; rw [List.length_eq_zero_iff.mp h]; exact ⟨fun q h => by simp [pcs] at h, Nat.le_refl _⟩
    | succ n ih =>
      intro ps h
      rcases snoc_cases ps with rfl | ⟨d, p, rfl⟩
      · simp at h
      · obtain ⟨a, b⟩ := ih d (by simpa using h)
        rw [pcs_snoc]
        refine ⟨addP_ok m hm _ p a, ?_⟩
        have := (addP_len m (pcs m d) p).2
        rw [List.length_append, List.length_singleton]
        omega
  exact this _ ps rfl
/-- the twin's log -/
def LgT (v : St) (lg : List Lg) : Prop := v.1 24 = nI lg.length ∧ ∀ (i : Nat) (g : Lg), lg[i]? = some g → v.2.1 21 i = nI g.1 ∧ v.2.1 22 i = g.2.1 ∧ v.2.1 23 i = g.2.2
theorem PfR.lg {sl : List Nat} {v v' : St} (h : PfR sl v v') {lg : List Lg} (hl : LgT v lg) : LgT v' lg := by
  refine ⟨(h.1 24 (by decide)).trans hl.1, fun i g hg => ?_⟩
  rw [h.2.1 21 (by decide) (by decide) (by decide) (by decide) (by decide) (by decide), h.2.1 22 (by decide) (by decide) (by decide) (by decide) (by decide) (by decide), h.2.1 23 (by decide) (by decide) (by decide) (by decide) (by decide) (by decide)]
  exact hl.2 i g hg
def peN (s : Nat) (ps : List Pt) : Pe := (s, ps, none)
theorem hpts_snoc (dl : List Lg) (g : Lg) (s : Nat) : hpts (dl ++ [g]) s = if g.1 = s then hpts dl s ++ [g.2] else hpts dl s := by
  unfold hpts
  rw [List.filter_append, List.map_append]
  by_cases h : g.1 = s
  · simp [h]
  · simp [h]
theorem hpts_app (a b : List Lg) (s : Nat) : hpts (a ++ b) s = hpts a s ++ hpts b s := by unfold hpts; simp
theorem hpts_len (lg : List Lg) (s : Nat) : (hpts lg s).length ≤ lg.length := by unfold hpts; rw [List.length_map]; exact List.length_filter_le _ _
/-- where the slots of a head's pieces end -/
def lastS (ns : List Nat) : Int32 := match ns.getLast? with
  | none => -1
  | some c => nI c
theorem heads_loop {K : St → Prop} {v : St} {sl nx0 : List Nat} {pe0 : List Pe} {cs : List Ch} {lg : List Lg} {s m : Nat} (hm : 1 ≤ m ∧ m ≤ 64) (h2 : v.1 2 = nI m) (h18 : v.1 18 = nI sl.length) (ho : SlOk v sl cs) (hcl : ∀ c ∈ cs, c.2.1.length ≤ 64) (hsl : sl.length ≤ 96) (hlg : LgT v lg) (hll : lg.length ≤ 100) (hs : ∀ g ∈ lg, g.1 < 100) (hs2 : s < 100) (hA : Asc (hpts lg s)) (hb : nx0.length + (hpts lg s).length ≤ 96)
    (hK : ∀ (w : St) (ns : List Nat), PfR sl v w → PlT w sl (nx0 ++ ns) (pe0 ++ (pcs m (hpts lg s)).map (peN s)) → ns.length = (pcs m (hpts lg s)).length → K w) :
    ∀ (rl dl : List Lg) (w : St) (ns : List Nat), lg = dl ++ rl → PfR sl v w → PlT w sl (nx0 ++ ns) (pe0 ++ (pcs m (hpts dl s)).map (peN s)) → ns.length = (pcs m (hpts dl s)).length →
      wp_X12_headsOf_4 K (rl.length + 1) (nI s) (lastS ns) (nI dl.length) w := by
  intro rl
  induction rl with
  | nil =>
    intro dl w ns hd hF hP hn
    rw [List.append_nil] at hd
    subst hd
    unfold wp_X12_headsOf_4
    rw [hF.1 24 (by decide), hlg.1]
    exact ⟨fun _ => hK w ns hF hP hn, fun h => absurd (Int32.le_refl _) h⟩
  | cons g rl ih =>
    intro dl w ns hd hF hP hn
    have hln : lg.length = dl.length + (rl.length + 1) := by rw [hd]; simp
    have hg : lg[dl.length]? = some g := by rw [hd]; exact mid_get? _ _ _
    obtain ⟨e21, e22, e23⟩ := (hF.lg hlg).2 _ _ hg
    have hgs := hs g (List.mem_of_getElem? hg)
    have hpl := (pcs_ok m hm.1 (hpts dl s)).2
    have hdl : (hpts dl s).length ≤ (hpts lg s).length := by rw [hd, hpts_app, List.length_append]; omega
    have hnsl : (nx0 ++ ns).length ≤ 96 := by rw [List.length_append]; omega
    have i3 : vp_in (nI dl.length) 128 := vp_in_nI (by omega) (by decide)
    have next : ∀ (w2 : St) (ns2 : List Nat), PfR sl v w2 → PlT w2 sl (nx0 ++ ns2) (pe0 ++ (pcs m (hpts (dl ++ [g]) s)).map (peN s)) → ns2.length = (pcs m (hpts (dl ++ [g]) s)).length → wp_X12_headsOf_4 K (rl.length + 1) (nI s) (lastS ns2) (nI (dl.length + 1)) w2 := by
      intro w2 ns2 a b c
      have := ih (dl ++ [g]) w2 ns2 (by rw [hd]; simp) a b c
      rwa [List.length_append, List.length_singleton] at this
    unfold wp_X12_headsOf_4
    rw [hF.1 24 (by decide), hlg.1, nI_clamp (show dl.length < 2 ^ 31 by omega), e21]
    refine ⟨fun h => absurd h (nI_ge (by omega) (by omega)), fun _ => ⟨i3, fun h => ?_, fun h => ?_⟩⟩
    · have hgs : g.1 = s := (nI_eq (by omega) (by omega)).mp h
      have hsn : hpts (dl ++ [g]) s = hpts dl s ++ [g.2] := by rw [hpts_snoc, if_pos hgs]
      have hAp : Asc (hpts dl s ++ [g.2]) := by
        rw [← hsn]
        have h3 : hpts lg s = hpts (dl ++ [g]) s ++ hpts rl s := by rw [← hpts_app, hd]; simp
        unfold Asc at hA ⊢
        rw [h3] at hA
        exact (List.pairwise_append.mp hA).1
      rw [hsn, pcs_snoc] at next
      -- a new piece
      have fresh : addP m (pcs m (hpts dl s)) g.2 = pcs m (hpts dl s) ++ [[g.2]] → wp_X12_headsOf_43 (fun x1 x2 x3 u => wp_X12_headsOf_68 (fun x1 x2 x3 u => wp_X12_headsOf_4 K (rl.length + 1) x1 x2 x3 u) K x1 x2 x3 u) K (nI s) (nI dl.length) w := by
        intro hap
        unfold wp_X12_headsOf_43
        have ho' := hF.sl hcl ho
        refine t_free ((hF.1 18 (by decide)).trans h18) ho'.2.2.1 hsl hP.1 (by omega) (fun t ht => ?_) (fun c hc h1 h2 => ?_)
        · obtain ⟨i, hi⟩ := List.getElem?_of_mem ht
          have hil := (List.getElem?_eq_some_iff.mp hi).1
          have hpl2 := hP.2.1
          exact (hP.2.2.2 i t _ hi (List.getElem?_eq_getElem (by omega))).1
        · rw [nI_clamp (show c < 2 ^ 31 by omega)]
          refine ⟨vp_in_nI hc (by decide), vp_in_nI hc (by decide), t_open hP (by omega) hc h1 h2 s (fun v1 f1 q1 => ?_)⟩
          have hF1 := hF.trans f1
          obtain ⟨-, e22, e23⟩ := (hF1.lg hlg).2 _ _ hg
          show wp_X12_headsOf_68 (fun x1 x2 x3 u => wp_X12_headsOf_4 K (rl.length + 1) x1 x2 x3 u) K (nI s) (nI c) (nI dl.length) v1
          unfold wp_X12_headsOf_68
          rw [nI_clamp (show dl.length < 2 ^ 31 by omega), e22, e23, nI_1]
          refine ⟨i3, i3, t_add hc q1.2.2.2.2.2.2.2.1 (by decide) g.2.1 g.2.2 (fun v2 f2 S2 => ?_)⟩
          have q2 := (q1.add f2 S2).close ⟨by unfold Asc; simp, by simp, by simp⟩
          have := next v2 (ns ++ [c]) (hF1.trans (f2.pf h1)) (by rw [hap, List.map_append, ← List.append_assoc, ← List.append_assoc]; exact q2) (by rw [hap]; simp [hn])
          have el : lastS (ns ++ [c]) = nI c := by unfold lastS; simp
          rw [el] at this
          exact this
      rcases snoc_cases ns with rfl | ⟨ns', c, rfl⟩
      · have hp0 : pcs m (hpts dl s) = [] := List.length_eq_zero_iff.mp (by simpa using hn.symm)
        refine ⟨fun _ => fresh (by rw [hp0]; rfl), fun h => absurd rfl h⟩
      · have el : lastS (ns' ++ [c]) = nI c := by unfold lastS; simp
        rw [el]
        obtain ⟨P, q, hPq⟩ : ∃ P q, pcs m (hpts dl s) = P ++ [q] := by
          rcases snoc_cases (pcs m (hpts dl s)) with h0 | h0
          · rw [h0] at hn; simp at hn
          · exact h0
        rw [hPq] at hn hP fresh next
        have hqm := (pcs_ok m hm.1 (hpts dl s)).1 q (by rw [hPq]; simp)
        rw [List.map_append, ← List.append_assoc, ← List.append_assoc] at hP
        have hq := PlT.reopen (ser := s) (ps := q) hP
        have hc := hq.2.2.2.2.1
        refine ⟨fun h => absurd h (nI_nm1 (by omega)), fun _ => ⟨vp_in_nI hc (by decide), ?_, ?_⟩⟩
        · rw [nI_clamp (show c < 2 ^ 31 by omega), hq.2.2.2.2.2.2.2.1.1, hF.1 2 (by decide), h2]
          intro hne
          have hne : ¬ q.length = m := fun e => hne (by rw [e])
          unfold wp_X12_headsOf_68
          rw [nI_clamp (show dl.length < 2 ^ 31 by omega), e22, e23, nI_1]
          refine ⟨i3, i3, t_add hc hq.2.2.2.2.2.2.2.1 (by have := hqm.2; omega) g.2.1 g.2.2 (fun v2 f2 S2 => ?_)⟩
          have hAq : Asc (q ++ [g.2]) := by
            have h5 := pcs_flat m (hpts dl s)
            rw [hPq] at h5
            rw [← h5, List.flatten_append] at hAp
            have h6 : ([q] : List (List Pt)).flatten = q := by simp
            rw [h6, List.append_assoc] at hAp
            exact (List.pairwise_append.mp hAp).2.1
          have q2 := (hq.add f2 S2).close ⟨hAq, by simp, by have := hqm.2; rw [List.length_append, List.length_singleton]; omega⟩
          rw [addP_snoc, if_neg hne] at next
          have := next v2 (ns' ++ [c]) (hF.trans (f2.pf hq.2.2.2.2.2.1)) (by rw [List.map_append, ← List.append_assoc, ← List.append_assoc]; exact q2) (by simpa using hn)
          rw [el] at this
          exact this
        · rw [nI_clamp (show c < 2 ^ 31 by omega), hq.2.2.2.2.2.2.2.1.1, hF.1 2 (by decide), h2]
          intro he
          have he : q.length = m := (nI_eq (by have := hqm.2; omega) (by omega)).mp he
          exact fresh (by rw [addP_snoc, if_pos he])
    · have hgs : ¬ g.1 = s := fun e => h (by rw [e])
      have hsn : hpts (dl ++ [g]) s = hpts dl s := by rw [hpts_snoc, if_neg hgs]
      rw [hsn] at next
      rw [nI_1]
      exact next w ns hF hP hn
