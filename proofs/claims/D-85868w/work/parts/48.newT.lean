set_option maxRecDepth 100000
/-! ===== the twin: a new chunk of the plan ===== -/
/-- v' is v but for the points of slot s -/
def AdR (s : Nat) (v v' : St) : Prop := v'.1 = v.1 ∧ (∀ k, k ≠ 12 → k ≠ 15 → k ≠ 16 → v'.2.1 k = v.2.1 k) ∧ (∀ t, t ≠ s → v'.2.1 12 t = v.2.1 12 t ∧ ∀ i, i < 64 → v'.2.1 15 (64 * t + i) = v.2.1 15 (64 * t + i) ∧ v'.2.1 16 (64 * t + i) = v.2.1 16 (64 * t + i)) ∧ v'.2.2 = v.2.2
theorem t_add {K : St → Prop} {v : St} {s : Nat} {ps : List Pt} (hs : s < 240) (hS : SlotP v s ps) (hl : ps.length < 64) (t x : Int32) (hK : ∀ v', AdR s v v' → SlotP v' s (ps ++ [(t, x)]) → K v') : wp_X12_add v (nI s) t x K := by
  have hcl : (nI s).toNatClampNeg = s := nI_clamp (by omega)
  have e1 : (64 : Int32) * nI s + nI ps.length = nI (64 * s + ps.length) := by rw [m64, nI_add]
  have c1 : (nI (64 * s + ps.length)).toNatClampNeg = 64 * s + ps.length := nI_clamp (by omega)
  have i1 : vp_in (nI (64 * s + ps.length)) 15360 := vp_in_nI (by omega) (by decide)
  have i0 : vp_in (nI s) 240 := vp_in_nI hs (by decide)
  unfold wp_X12_add
  rw [hcl, hS.1, e1, nI_1]
  refine ⟨i0, fun y1 h1 => ⟨by rw [h1]; exact i1, i0, fun y2 h2 => ⟨by rw [h2]; exact i1, i0, fun y3 h3 => ⟨i0, ?_⟩⟩⟩⟩
  rw [h1, h2, h3, c1]
  refine hK _ ⟨rfl, fun k a b c => ?_, fun t' ht => ⟨upd_ne _ _ ht, fun i hi => ⟨upd_ne _ _ (by omega), upd_ne _ _ (by omega)⟩⟩, rfl⟩ ⟨?_, fun i p hp => ?_⟩
  · rw [sA, if_neg a, sA, if_neg c, sA, if_neg b]
  · rw [List.length_append, List.length_singleton]; exact upd_self _ _ _
  · exact ⟨SlotT (g := Prod.fst) (x := (t, x)) (fun i p hp => (hS.2 i p hp).1) i p hp, SlotT (g := Prod.snd) (x := (t, x)) (fun i p hp => (hS.2 i p hp).2) i p hp⟩
/-- the plan pe, and behind it a new chunk in slot s with the points ps -/
def PlQ (v : St) (sl nx : List Nat) (pe : List Pe) (s ser : Nat) (ps : List Pt) : Prop :=
  NxOk v (nx ++ [s]) ∧ nx.length = pe.length ∧ (nx ++ [s]).Nodup ∧ (∀ (k t : Nat) (e : Pe), nx[k]? = some t → pe[k]? = some e → PeS v sl k t e) ∧ s < 240 ∧ s ∉ sl ∧ v.2.1 11 s = nI ser ∧ SlotP v s ps ∧ ¬ v.2.1 26 nx.length = 0
theorem PlQ.close {v : St} {sl nx : List Nat} {pe : List Pe} {s ser : Nat} {ps : List Pt} (h : PlQ v sl nx pe s ser ps) (hp : PtOk ps) : PlT v sl (nx ++ [s]) (pe ++ [(ser, ps, none)]) := by
  obtain ⟨h1, h2, h3, h4, h5, h6, h7, h8, h9⟩ := h
  refine ⟨h1, by simp [h2], h3, fun k t e hk he => ?_⟩
  by_cases hkl : k < nx.length
  · rw [List.getElem?_append_left hkl] at hk
    rw [List.getElem?_append_left (by omega)] at he
    exact h4 k t e hk he
  · have hk2 : k = nx.length := by
      have := (List.getElem?_eq_some_iff.mp hk).1
      rw [List.length_append, List.length_singleton] at this
      omega
    subst hk2
    rw [List.getElem?_append_right (Nat.le_refl _), Nat.sub_self] at hk
    rw [h2, List.getElem?_append_right (Nat.le_refl _), Nat.sub_self] at he
    cases hk
    cases he
    exact ⟨h5, h7, h8, hp, h9, h6⟩
theorem PlT.reopen {v : St} {sl nx : List Nat} {pe : List Pe} {s ser : Nat} {ps : List Pt} (h : PlT v sl (nx ++ [s]) (pe ++ [(ser, ps, none)])) : PlQ v sl nx pe s ser ps := by
  obtain ⟨h1, h2, h3, h4⟩ := h
  have hl : nx.length = pe.length := by simpa using h2
  obtain ⟨a1, a2, a3, -, a5, a6⟩ := h4 nx.length s (ser, ps, none) (mid_get? nx [] s) (by rw [hl]; exact mid_get? pe [] _)
  refine ⟨h1, hl, h3, fun k t e hk he => ?_, a1, a6, a2, a3, a5⟩
  have hkl := (List.getElem?_eq_some_iff.mp hk).1
  exact h4 k t e (by rw [List.getElem?_append_left hkl]; exact hk) (by rw [List.getElem?_append_left (by omega)]; exact he)
theorem PlQ.add {v v' : St} {sl nx : List Nat} {pe : List Pe} {s ser : Nat} {ps : List Pt} (h : PlQ v sl nx pe s ser ps) (hA : AdR s v v') {qs : List Pt} (hS : SlotP v' s qs) : PlQ v' sl nx pe s ser qs := by
  obtain ⟨h1, h2, h3, h4, h5, h6, h7, h8, h9⟩ := h
  have k11 := hA.2.1 11 (by decide) (by decide) (by decide)
  have k13 := hA.2.1 13 (by decide) (by decide) (by decide)
  have k14 := hA.2.1 14 (by decide) (by decide) (by decide)
  have k25 := hA.2.1 25 (by decide) (by decide) (by decide)
  have k26 := hA.2.1 26 (by decide) (by decide) (by decide)
  refine ⟨⟨by rw [hA.1]; exact h1.1, fun k t hk => by rw [k25]; exact h1.2 k t hk⟩, h2, h3, fun k t e hk he => ?_, h5, h6, by rw [k11]; exact h7, hS, by rw [k26]; exact h9⟩
  obtain ⟨a1, a2, a3, a4, a5⟩ := h4 k t e hk he
  have hne : t ≠ s := fun q => (List.nodup_append.mp h3).2.2 t (List.mem_of_getElem? hk) s (by simp) q
  obtain ⟨b1, b2⟩ := hA.2.2.1 t hne
  refine ⟨a1, by rw [k11]; exact a2, a3.keepS a4.2.2 b1 b2, a4, ?_⟩
  rw [k26, k13, k14]
  exact a5
theorem AdR.pf {s : Nat} {v v' : St} (h : AdR s v v') {sl : List Nat} (hs : s ∉ sl) : PfR sl v v' := by
  refine ⟨fun k _ => by rw [h.1], fun k _ a b c _ _ => h.2.1 k a b c, fun t ht => ?_, h.2.2.2⟩
  obtain ⟨b1, b2⟩ := h.2.2.1 t (fun q => hs (q ▸ ht))
  exact ⟨by rw [h.2.1 11 (by decide) (by decide) (by decide)], b1, b2⟩
/-- a new chunk begins -/
theorem t_open {K : St → Prop} {v : St} {sl nx : List Nat} {pe : List Pe} (hP : PlT v sl nx pe) (hnl : nx.length < 200) {s : Nat} (hs : s < 240) (h1 : s ∉ sl) (h2 : s ∉ nx) (ser : Nat) (hK : ∀ v', PfR sl v v' → PlQ v' sl nx pe s ser [] → K v') :
    wp_X12_comes (st_A (st_A v 11 (upd (v.2.1 11) s (nI ser))) 12 (upd (v.2.1 12) s 0)) (nI s) 1 K := by
  obtain ⟨p1, p2, p3, p4⟩ := hP
  refine t_comes (b := true) (v := st_A (st_A v 11 (upd (v.2.1 11) s (nI ser))) 12 (upd (v.2.1 12) s 0)) (nx := nx) p1 hnl s (fun v' a1 a2 a3 a4 a5 a6 => ?_)
  have k11 : v'.2.1 11 = upd (v.2.1 11) s (nI ser) := a2 11 (by decide) (by decide)
  have k12 : v'.2.1 12 = upd (v.2.1 12) s 0 := a2 12 (by decide) (by decide)
  have kk : ∀ k, k ≠ 11 → k ≠ 12 → k ≠ 25 → k ≠ 26 → v'.2.1 k = v.2.1 k := fun k b1 b2 b3 b4 => by
    rw [a2 k b3 b4, sA, if_neg b2, sA, if_neg b1]
  refine hK v' ⟨fun k hk => a1 k hk, fun k b1 b2 _ _ b5 b6 => kk k b1 b2 b5 b6, fun t ht => ?_, a3⟩ ⟨a4, p2, ?_, fun k t e hk he => ?_, hs, h1, by rw [k11, upd_self], ⟨by rw [k12, upd_self]; rfl, fun i p hp => by simp at hp⟩, by rw [a6]; decide⟩
  · have hne : t ≠ s := fun q => h1 (q ▸ ht)
    exact ⟨by rw [k11, upd_ne _ _ hne], by rw [k12, upd_ne _ _ hne], fun i _ => ⟨by rw [kk 15 (by decide) (by decide) (by decide) (by decide)], by rw [kk 16 (by decide) (by decide) (by decide) (by decide)]⟩⟩
  · rw [List.nodup_append]
    exact ⟨p3, by simp, fun a ha b hb => by rw [List.mem_singleton] at hb; subst hb; exact fun q => h2 (q ▸ ha)⟩
  · have hkl := (List.getElem?_eq_some_iff.mp hk).1
    obtain ⟨c1, c2, c3, c4, c5⟩ := p4 k t e hk he
    have hne : t ≠ s := fun q => h2 (q ▸ List.mem_of_getElem? hk)
    refine ⟨c1, by rw [k11, upd_ne _ _ hne]; exact c2, c3.keepS c4.2.2 (by rw [k12, upd_ne _ _ hne]) (fun i _ => ⟨by rw [kk 15 (by decide) (by decide) (by decide) (by decide)], by rw [kk 16 (by decide) (by decide) (by decide) (by decide)]⟩), c4, ?_⟩
    rw [a5 k hkl, kk 13 (by decide) (by decide) (by decide) (by decide), kk 14 (by decide) (by decide) (by decide) (by decide)]
    exact c5
