set_option maxRecDepth 100000
/-- v' is v but for made, bits, and places and lengths of slots outside sl -/
def TfR (sl : List Nat) (v v' : St) : Prop := (∀ k, k ≠ 34 → v'.1 k = v.1 k) ∧ (∀ k, k ≠ 33 → k ≠ 13 → k ≠ 14 → v'.2.1 k = v.2.1 k) ∧ (∀ s, s ∈ sl → v'.2.1 13 s = v.2.1 13 s ∧ v'.2.1 14 s = v.2.1 14 s) ∧ v'.2.2 = v.2.2
theorem TfR.refl (sl : List Nat) (v : St) : TfR sl v v := ⟨fun _ _ => rfl, fun _ _ _ _ => rfl, fun _ _ => ⟨rfl, rfl⟩, rfl⟩
theorem TfR.trans {sl : List Nat} {u v w : St} (h : TfR sl u v) (h2 : TfR sl v w) : TfR sl u w :=
  ⟨fun k hk => (h2.1 k hk).trans (h.1 k hk), fun k a b c => (h2.2.1 k a b c).trans (h.2.1 k a b c), fun s hs => ⟨(h2.2.2.1 s hs).1.trans (h.2.2.1 s hs).1, (h2.2.2.1 s hs).2.trans (h.2.2.1 s hs).2⟩, h2.2.2.2.trans h.2.2.2⟩
theorem TfR.made (sl : List Nat) (v : St) (f : Nat → Int32) (n : Int32) : TfR sl v (st_I (st_A v 33 f) 34 n) := by
  refine ⟨fun k hk => ?_, fun k a _ _ => ?_, fun s _ => ⟨rfl, rfl⟩, rfl⟩
  · rw [sI, if_neg hk]; rfl
  · rw [sIA, sA, if_neg a]
theorem TfR.place (sl : List Nat) (v : St) (s : Nat) (hs : s ∉ sl) (p l : Int32) : TfR sl v (st_A (st_A v 13 (upd (v.2.1 13) s p)) 14 (upd (v.2.1 14) s l)) := by
  refine ⟨fun k hk => rfl, fun k a b c => ?_, fun s' h => ?_, rfl⟩
  · rw [sA, if_neg c, sA, if_neg b]
  · have hne : s' ≠ s := fun e => hs (e ▸ h)
    exact ⟨upd_ne _ _ hne, upd_ne _ _ hne⟩
theorem TfR.slot {sl : List Nat} {v v' : St} (h : TfR sl v v') {s : Nat} {ps : List Pt} (hS : SlotP v s ps) : SlotP v' s ps := hS.keep (h.2.1 12 (by decide) (by decide) (by decide)) (h.2.1 15 (by decide) (by decide) (by decide)) (h.2.1 16 (by decide) (by decide) (by decide))
theorem TfR.sl {sl : List Nat} {v v' : St} (h : TfR sl v v') {cs : List Ch} (ho : SlOk v sl cs) : SlOk v' sl cs := by
  refine ⟨ho.1, ho.2.1, fun k s hk => ?_, fun k s c hk hc => ?_⟩
  · rw [h.2.1 17 (by decide) (by decide) (by decide)]; exact ho.2.2.1 k s hk
  · obtain ⟨a1, a2, a3, a4⟩ := ho.2.2.2 k s c hk hc
    have hm := h.2.2.1 s (List.mem_of_getElem? hk)
    exact ⟨by rw [h.2.1 11 (by decide) (by decide) (by decide)]; exact a1, h.slot a2, by rw [hm.1]; exact a3, by rw [hm.2]; exact a4⟩
theorem TfR.nx {sl : List Nat} {v v' : St} (h : TfR sl v v') {nx : List Nat} (hn : NxOk v nx) : NxOk v' nx := ⟨(h.1 27 (by decide)).trans hn.1, fun k s hk => by rw [h.2.1 25 (by decide) (by decide) (by decide)]; exact hn.2 k s hk⟩
/-- entry e of the plan, in slot s, at place k of the row next -/
def PeS (v : St) (sl : List Nat) (k s : Nat) (e : Pe) : Prop := s < 240 ∧ v.2.1 11 s = nI e.1 ∧ SlotP v s e.2.1 ∧ PtOk e.2.1 ∧ match e.2.2 with
  | none => ¬ v.2.1 26 k = 0 ∧ s ∉ sl
  | some q => v.2.1 26 k = 0 ∧ s ∈ sl ∧ v.2.1 13 s = nI q.1 ∧ v.2.1 14 s = nI q.2
def PlT (v : St) (sl nx : List Nat) (pe : List Pe) : Prop := NxOk v nx ∧ nx.length = pe.length ∧ nx.Nodup ∧ ∀ (k s : Nat) (e : Pe), nx[k]? = some s → pe[k]? = some e → PeS v sl k s e
theorem PtOk.cel {ps : List Pt} (h : PtOk ps) : 0 < cel (enc ps).length ∧ cel (enc ps).length < 200 := by
  obtain ⟨p, r, rfl⟩ := List.exists_cons_of_ne_nil h.2.1
  have h1 := enc_len (p :: r)
  have h2 : 64 ≤ (enc (p :: r)).length := by
    rw [enc_er]
    show 64 ≤ ((bo p.1.toInt64 32 ++ bo p.2.toInt64 32) ++ er false p.1 p.2 0 r).length
    rw [List.length_append, List.length_append, bo_len, bo_len]
    omega
  have h3 := h.2.2
  unfold Jvm.Pilot.CPointLedgerLaw_law_r5250_ccae66.cel
  omega
theorem nI_nm1 {p : Nat} (h : p < 2 ^ 31) : ¬ nI p = -1 := by
  intro h3
  have h4 := congrArg Int32.toInt h3
  rw [nI_toInt h, show (-1 : Int32).toInt = -1 by decide +kernel] at h4
  omega
theorem turn14 {K : Int32 → St → Prop} {x1 : Int32} {v : St} {sl nx : List Nat} {cs : List Ch} {pe : List Pe} (h18 : v.1 18 = nI sl.length) (ho : SlOk v sl cs) (hsl : sl.length ≤ 96) (hcb : ∀ c ∈ cs, c.2.2.1 + c.2.2.2 ≤ 4096) (hP : PlT v sl nx pe) (hnl : nx.length ≤ 96) :
    ∀ (rs k : List Nat) (es : List Pe) (kp : List Pe) (en : List (Option (Nat × Nat))) (cd : List Ch) (v' : St), nx = k ++ rs → pe = kp ++ es → k.length = kp.length → en.length = k.length → cd.length = k.length → TfR sl v v' → NwOk v' en → (∀ (i s : Nat) (c : Ch), k[i]? = some s → cd[i]? = some c → ChS v' s c) →
      (plAll cs en es = none → ∀ w, TfR sl v w → K (-3) w) → (∀ r, plAll cs en es = some r → ∀ w, TfR sl v w → (∀ (i s : Nat) (c : Ch), nx[i]? = some s → (cd ++ r)[i]? = some c → ChS w s c) → ∃ n95, wp_X12_turn_95 K n95 x1 0 w) →
      wp_X12_turn_14 K (rs.length + 1) x1 (nI k.length) v' := by
  intro rs
  induction rs with
  | nil =>
    intro k es kp en cd v' hk hkp hl1 hl2 hl3 hT hN hC h1 h2
    have hpl := hP.2.1
    rw [hk, hkp, List.length_append, List.length_append, List.length_nil] at hpl
    have : es = [] := List.length_eq_zero_iff.mp (by omega)
    subst this
    rw [List.append_nil] at hk
    subst hk
    unfold wp_X12_turn_14
    rw [(hT.nx hP.1).1]
    refine ⟨fun _ => h2 [] rfl v' hT (fun i s c a b => hC i s c a (by rwa [List.append_nil] at b)), fun h => absurd (Int32.le_refl _) h⟩
  | cons s rs ih =>
    intro k es kp en cd v' hk hkp hl1 hl2 hl3 hT hN hC h1 h2
    obtain ⟨e, es, rfl⟩ : ∃ e r, es = e :: r := by
      cases es with
      | nil => have hpl := hP.2.1; rw [hk, hkp] at hpl; simp at hpl; omega
      | cons c r => exact ⟨c, r, rfl⟩
    have hln : nx.length = k.length + (rs.length + 1) := by rw [hk]; simp
    have hgk : nx[k.length]? = some s := by rw [hk]; exact mid_get? _ _ _
    have hge : pe[k.length]? = some e := by rw [hkp, hl1]; exact mid_get? _ _ _
    obtain ⟨hs, e11, eS, eP, eM⟩ := hP.2.2.2 k.length s e hgk hge
    have hnk : s ∉ k := by
      have hnd := hP.2.2.1
      rw [hk] at hnd
      intro hm
      exact (List.nodup_append.mp hnd).2.2 s hm s (by simp) rfl
    have e25 : v'.2.1 25 k.length = nI s := (hT.nx hP.1).2 _ _ hgk
    have e26 : v'.2.1 26 = v.2.1 26 := hT.2.1 26 (by decide) (by decide) (by decide)
    have e11' : v'.2.1 11 s = nI e.1 := by rw [hT.2.1 11 (by decide) (by decide) (by decide)]; exact e11
    have hcl : (nI s).toNatClampNeg = s := nI_clamp (by omega)
    unfold wp_X12_turn_14
    rw [(hT.nx hP.1).1, nI_clamp (show k.length < 2 ^ 31 by omega), e26, e25, nI_1]
    refine ⟨fun h => absurd h (nI_ge (by omega) (by omega)), fun _ => ⟨vp_in_nI (by omega) (by decide), fun h => ⟨vp_in_nI (by omega) (by decide), ?_⟩, fun h => ?_⟩⟩
    · have hq : e.2.2 = none := by
        cases hq : e.2.2 with
        | none => rfl
        | some q => rw [hq] at eM; exact absurd eM.1 h
      rw [hq] at eM
      have hce := eP.cel
      refine make_spec hs (hT.slot eS) eP.1 eP.2.1 eP.2.2 (fun f n hf => ?_)
      have hT2 := hT.trans (TfR.made sl v' f n)
      have hN2 : NwOk (st_I (st_A v' 33 f) 34 n) en := hN
      rw [← hl2]
      have hpa : plAll cs en (e :: es) = match ff (fun x => tkC cs x || tkN en x) (cel (enc e.2.1).length) 1661 2435 0 with
        | none => none
        | some p => (plAll cs (en ++ [some (p, cel (enc e.2.1).length)]) es).map (fun r => (e.1, e.2.1, p, cel (enc e.2.1).length) :: r) := by
        rw [plAll, hq]; rfl
      refine t_find ((hT2.1 18 (by decide)).trans h18) (hT2.sl ho) hsl hcb hN2 (by omega) hce.1 (by omega) (fun hff => ?_) (fun p hff => ?_)
      · refine ⟨fun h => absurd rfl h, fun _ => h1 ?_ _ hT2⟩
        rw [hpa, hff]
      · have hpb := ff_bound _ _ 1661 2435 0 p (by omega) hff
        have hpb : p + cel (enc e.2.1).length ≤ 4096 ∧ 2435 ≤ p := by omega
        rw [hff] at hpa
        replace hpa : plAll cs en (e :: es) = (plAll cs (en ++ [some (p, cel (enc e.2.1).length)]) es).map (fun r => (e.1, e.2.1, p, cel (enc e.2.1).length) :: r) := hpa
        refine ⟨fun _ => ?_, fun h => absurd h (nI_nm1 (by omega))⟩
        rw [hl2]
        refine ⟨vp_in_nI (by omega) (by decide), fun y8 h8 => ⟨?_, vp_in_nI (by omega) (by decide), fun y9 h9 => ⟨?_, ?_⟩⟩⟩
        · rw [h8]; show vp_in (v'.2.1 25 k.length) 240; rw [e25]; exact vp_in_nI hs (by decide)
        · rw [h9]; show vp_in (v'.2.1 25 k.length) 240; rw [e25]; exact vp_in_nI hs (by decide)
        · have h8 : y8 = nI s := h8.trans e25
          have h9 : y9 = nI s := h9.trans e25
          rw [h8, h9, hcl]
          have hT3 := hT2.trans (TfR.place sl (st_I (st_A v' 33 f) 34 n) s eM.2 (nI p) (nI (cel (enc e.2.1).length)))
          have := ih (k ++ [s]) es (kp ++ [e]) (en ++ [some (p, cel (enc e.2.1).length)]) (cd ++ [(e.1, e.2.1, p, cel (enc e.2.1).length)]) _ (by rw [hk]; simp) (by rw [hkp]; simp) (by simp [hl1]) (by simp [hl2]) (by simp [hl3]) hT3 ?_ ?_ (fun hn => h1 (by rw [hpa, hn]; rfl)) (fun r hr w a b => h2 _ (by rw [hpa, hr]; rfl) w a (by simpa using b))
          · rwa [List.length_append, List.length_singleton] at this
          · intro i o hi
            by_cases hil : i < en.length
            · rw [List.getElem?_append_left hil] at hi
              have hh := hN i o hi
              cases o with
              | none => exact hh
              | some q =>
                obtain ⟨a1, s', a2, a3, a4, a5, a6⟩ := hh
                have hki : k[i]? = some k[i] := List.getElem?_eq_getElem (by omega)
                have hn25 : v'.2.1 25 i = nI k[i] := (hT.nx hP.1).2 i _ (by rw [hk, List.getElem?_append_left (by omega)]; exact hki)
                have hk2 : k[i] < 240 := by
                  obtain ⟨e2, he2⟩ : ∃ e2, pe[i]? = some e2 := ⟨pe[i]'(by have := hP.2.1; omega), List.getElem?_eq_getElem _⟩
                  exact (hP.2.2.2 i k[i] e2 (by rw [hk, List.getElem?_append_left (by omega)]; exact hki) he2).1
                have hs' : s' = k[i] := (nI_eq (by omega) (by omega)).mp (a3.symm.trans hn25)
                have hne : s' ≠ s := fun q => hnk (by rw [← q, hs']; exact List.getElem_mem _)
                exact ⟨a1, s', a2, a3, (upd_ne _ _ hne).trans a4, (upd_ne _ _ hne).trans a5, a6⟩
            · have hil2 : i = en.length := by
                have := (List.getElem?_eq_some_iff.mp hi).1
                rw [List.length_append, List.length_singleton] at this
                omega
              subst hil2
              rw [List.getElem?_append_right (Nat.le_refl _), Nat.sub_self] at hi
              cases hi
              refine ⟨?_, s, hs, ?_, upd_self _ _ _, upd_self _ _ _, hpb.1⟩
              · show ¬ v'.2.1 26 en.length = 0
                rw [e26, hl2]; exact eM.1
              · show v'.2.1 25 en.length = nI s
                rw [hl2]; exact e25
          · intro i s' c' hi hc'
            by_cases hil : i < k.length
            · rw [List.getElem?_append_left hil] at hi
              rw [List.getElem?_append_left (by omega)] at hc'
              obtain ⟨b1, b2, b3, b4, b5⟩ := hC i s' c' hi hc'
              have hne : s' ≠ s := fun q => hnk (by rw [← q]; exact List.mem_of_getElem? hi)
              exact ⟨b1, b2, b3.keep rfl rfl rfl, (upd_ne _ _ hne).trans b4, (upd_ne _ _ hne).trans b5⟩
            · have hil2 : i = k.length := by
                have := (List.getElem?_eq_some_iff.mp hi).1
                rw [List.length_append, List.length_singleton] at this
                omega
              subst hil2
              rw [List.getElem?_append_right (Nat.le_refl _), Nat.sub_self] at hi
              rw [← hl3, List.getElem?_append_right (Nat.le_refl _), Nat.sub_self] at hc'
              cases hi
              cases hc'
              exact ⟨hs, e11', (hT.slot eS).keep rfl rfl rfl, upd_self _ _ _, upd_self _ _ _⟩
    · obtain ⟨q, hq⟩ : ∃ q, e.2.2 = some q := by
        cases hq : e.2.2 with
        | none => rw [hq] at eM; exact absurd h eM.1
        | some q => exact ⟨q, rfl⟩
      rw [hq] at eM
      have hpa : plAll cs en (e :: es) = (plAll cs (en ++ [none]) es).map (fun r => (e.1, e.2.1, q.1, q.2) :: r) := by
        rw [plAll, hq]
      have hpl := hT.2.2.1 s eM.2.1
      have := ih (k ++ [s]) es (kp ++ [e]) (en ++ [none]) (cd ++ [(e.1, e.2.1, q.1, q.2)]) v' (by rw [hk]; simp) (by rw [hkp]; simp) (by simp [hl1]) (by simp [hl2]) (by simp [hl3]) hT ?_ ?_ (fun hn => h1 (by rw [hpa, hn]; rfl)) (fun r hr w a b => h2 _ (by rw [hpa, hr]; rfl) w a (by simpa using b))
      · rwa [List.length_append, List.length_singleton] at this
      · intro i o hi
        by_cases hil : i < en.length
        · rw [List.getElem?_append_left hil] at hi
          exact hN i o hi
        · have hil2 : i = en.length := by
            have := (List.getElem?_eq_some_iff.mp hi).1
            rw [List.length_append, List.length_singleton] at this
            omega
          subst hil2
          rw [List.getElem?_append_right (Nat.le_refl _), Nat.sub_self] at hi
          cases hi
          show v'.2.1 26 en.length = 0
          rw [e26, hl2]; exact eM.1
      · intro i s' c' hi hc'
        by_cases hil : i < k.length
        · rw [List.getElem?_append_left hil] at hi
          rw [List.getElem?_append_left (by omega)] at hc'
          exact hC i s' c' hi hc'
        · have hil2 : i = k.length := by
            have := (List.getElem?_eq_some_iff.mp hi).1
            rw [List.length_append, List.length_singleton] at this
            omega
          subst hil2
          rw [List.getElem?_append_right (Nat.le_refl _), Nat.sub_self] at hi
          rw [← hl3, List.getElem?_append_right (Nat.le_refl _), Nat.sub_self] at hc'
          cases hi
          cases hc'
          exact ⟨hs, e11', hT.slot eS, by rw [hpl.1]; exact eM.2.2.1, by rw [hpl.2]; exact eM.2.2.2⟩
