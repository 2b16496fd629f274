set_option maxRecDepth 100000
/-- what plAll answers -/
theorem plAll_spec (cs : List Ch) : ∀ (pe : List Pe) (en : List (Option (Nat × Nat))) (r : List Ch), (∀ e ∈ pe, PtOk e.2.1) → plAll cs en pe = some r → r.length = pe.length ∧ ∀ (i : Nat) (e : Pe) (c : Ch), pe[i]? = some e → r[i]? = some c → c.1 = e.1 ∧ c.2.1 = e.2.1 ∧ match e.2.2 with
    | some q => c.2.2 = q
    | none => c.2.2.2 = cel (enc e.2.1).length ∧ 2435 ≤ c.2.2.1 ∧ c.2.2.1 + c.2.2.2 ≤ 4096 := by
  intro pe
  induction pe with
  | nil => intro en r _ h; cases h; exact ⟨rfl, fun i e c h => by simp at h⟩
  | cons e es ih =>
    intro en r hok h
    have he := hok e (by simp)
    have hes : ∀ e ∈ es, PtOk e.2.1 := fun e h => hok e (by simp [h])
    have one : ∀ (c : Ch) (en' : List (Option (Nat × Nat))) (r' : List Ch), plAll cs en' es = some r' → r = c :: r' → (c.1 = e.1 ∧ c.2.1 = e.2.1 ∧ match e.2.2 with
      | some q => c.2.2 = q
      | none => c.2.2.2 = cel (enc e.2.1).length ∧ 2435 ≤ c.2.2.1 ∧ c.2.2.1 + c.2.2.2 ≤ 4096) → r.length = (e :: es).length ∧ ∀ (i : Nat) (e' : Pe) (c : Ch), (e :: es)[i]? = some e' → r[i]? = some c → c.1 = e'.1 ∧ c.2.1 = e'.2.1 ∧ match e'.2.2 with
      | some q => c.2.2 = q
      | none => c.2.2.2 = cel (enc e'.2.1).length ∧ 2435 ≤ c.2.2.1 ∧ c.2.2.1 + c.2.2.2 ≤ 4096 := by
      intro c en' r' h1 h2 h3
      obtain ⟨a, b⟩ := ih en' r' hes h1
      subst h2
      refine ⟨by simp [a], fun i e' c' hi hc => ?_⟩
      cases i with
      | zero => cases hi; cases hc; exact h3
      | succ i => exact b i e' c' hi hc
    cases hq : e.2.2 with
    | some q =>
      rw [plAll, hq] at h
      obtain ⟨r', h1, h2⟩ := Option.map_eq_some_iff.mp h
      exact one _ _ r' h1 h2.symm ⟨rfl, rfl, by rw [hq]⟩
    | none =>
      have hpa : plAll cs en (e :: es) = match ff (fun x => tkC cs x || tkN en x) (cel (enc e.2.1).length) 1661 2435 0 with
        | none => none
        | some p => (plAll cs (en ++ [some (p, cel (enc e.2.1).length)]) es).map (fun r => (e.1, e.2.1, p, cel (enc e.2.1).length) :: r) := by
        rw [plAll, hq]; rfl
      rw [hpa] at h
      cases hff : ff (fun x => tkC cs x || tkN en x) (cel (enc e.2.1).length) 1661 2435 0 with
      | none => rw [hff] at h; cases h
      | some p =>
        rw [hff] at h
        obtain ⟨r', h1, h2⟩ := Option.map_eq_some_iff.mp h
        have hb := ff_bound _ _ 1661 2435 0 p (by omega) hff
        have hce := he.cel
        exact one _ _ r' h1 h2.symm ⟨rfl, rfl, by rw [hq]; exact ⟨rfl, by show 2435 ≤ p; omega, by show p + cel (enc e.2.1).length ≤ 4096; omega⟩⟩
/-- but for made and bits -/
def MdR (w w' : St) : Prop := (∀ k, k ≠ 34 → w'.1 k = w.1 k) ∧ (∀ k, k ≠ 33 → w'.2.1 k = w.2.1 k) ∧ w'.2.2 = w.2.2
theorem MdR.refl (w : St) : MdR w w := ⟨fun _ _ => rfl, fun _ _ => rfl, rfl⟩
theorem MdR.trans {u v w : St} (h : MdR u v) (h2 : MdR v w) : MdR u w := ⟨fun k hk => (h2.1 k hk).trans (h.1 k hk), fun k hk => (h2.2.1 k hk).trans (h.2.1 k hk), h2.2.2.trans h.2.2⟩
theorem MdR.made (v : St) (f : Nat → Int32) (n : Int32) : MdR v (st_I (st_A v 33 f) 34 n) := by
  refine ⟨fun k hk => ?_, fun k a => ?_, rfl⟩
  · rw [sI, if_neg hk]; rfl
  · rw [sIA, sA, if_neg a]
theorem MdR.ch {w w' : St} (h : MdR w w') {s : Nat} {c : Ch} (hc : ChS w s c) : ChS w' s c := by
  obtain ⟨a1, a2, a3, a4, a5⟩ := hc
  exact ⟨a1, by rw [h.2.1 11 (by decide)]; exact a2, a3.keep (h.2.1 12 (by decide)) (h.2.1 15 (by decide)) (h.2.1 16 (by decide)), by rw [h.2.1 13 (by decide)]; exact a4, by rw [h.2.1 14 (by decide)]; exact a5⟩
theorem MdR.nx {w w' : St} (h : MdR w w') {nx : List Nat} (hn : NxOk w nx) : NxOk w' nx := ⟨(h.1 27 (by decide)).trans hn.1, fun k s hk => by rw [h.2.1 25 (by decide)]; exact hn.2 k s hk⟩
theorem turn95 {K : Int32 → St → Prop} {x1 : Int32} {nx : List Nat} {pe : List Pe} {fl : Nat → Int32} (hnl : nx.length ≤ 96) (hfl : ∀ (k : Nat) (e : Pe), pe[k]? = some e → match e.2.2 with | none => ¬ fl k = 0 | some _ => fl k = 0) :
    ∀ (rs k : List Nat) (es kp : List Pe) (rc : List Ch) (d : DS) (w : St), nx = k ++ rs → pe = kp ++ es → k.length = kp.length → rs.length = es.length → rs.length = rc.length → NxOk w nx → w.2.1 26 = fl →
      (∀ (i s : Nat) (c : Ch), rs[i]? = some s → rc[i]? = some c → ChS w s c ∧ PtOk c.2.1) → (∀ (i : Nat) (e : Pe) (c : Ch), es[i]? = some e → rc[i]? = some c → e.2.2 = none → c.2.2.2 = cel (enc c.2.1).length ∧ c.2.2.1 + c.2.2.2 ≤ 4096) →
      (∀ w' d', MdR w w' → doW d (chW es rc) = (d', true) → wp_X12_turn_134 K x1 (tdS w' d')) → (∀ w' d', MdR w w' → doW d (chW es rc) = (d', false) → K (-9) (tdS w' d')) → wp_X12_turn_95 K (rs.length + 1) x1 (nI k.length) (tdS w d) := by
  intro rs
  induction rs with
  | nil =>
    intro k es kp rc d w hk hkp hl1 hl2 hl3 hN hf hC hL h1 h2
    rw [List.append_nil] at hk
    subst hk
    have : es = [] := List.length_eq_zero_iff.mp hl2.symm
    subst this
    have : rc = [] := List.length_eq_zero_iff.mp hl3.symm
    subst this
    unfold wp_X12_turn_95
    rw [show (tdS w d).1 27 = nI nx.length from hN.1]
    exact ⟨fun _ => h1 w d (MdR.refl w) rfl, fun h => absurd (Int32.le_refl _) h⟩
  | cons s rs ih =>
    intro k es kp rc d w hk hkp hl1 hl2 hl3 hN hf hC hL h1 h2
    obtain ⟨e, es, rfl⟩ : ∃ e r, es = e :: r := by
      cases es with
      | nil => simp at hl2
      | cons c r => exact ⟨c, r, rfl⟩
    obtain ⟨c, rc, rfl⟩ : ∃ e r, rc = e :: r := by
      cases rc with
      | nil => simp at hl3
      | cons c r => exact ⟨c, r, rfl⟩
    have hln : nx.length = k.length + (rs.length + 1) := by rw [hk]; simp
    have hge : pe[k.length]? = some e := by rw [hkp, hl1]; exact mid_get? _ _ _
    have hfk := hfl k.length e hge
    obtain ⟨hCs, hPt⟩ := hC 0 s c rfl rfl
    have e25 : w.2.1 25 k.length = nI s := hN.2 _ _ (by rw [hk]; exact mid_get? _ _ _)
    have next : ∀ (w2 : St) (d2 : DS), MdR w w2 → (∀ w' d', MdR w2 w' → doW d2 (chW es rc) = (d', true) → wp_X12_turn_134 K x1 (tdS w' d')) → (∀ w' d', MdR w2 w' → doW d2 (chW es rc) = (d', false) → K (-9) (tdS w' d')) → wp_X12_turn_95 K (rs.length + 1) x1 (nI (k.length + 1)) (tdS w2 d2) := by
      intro w2 d2 hM g1 g2
      have := ih (k ++ [s]) es (kp ++ [e]) rc d2 w2 (by rw [hk]; simp) (by rw [hkp]; simp) (by simp [hl1]) (by simpa using hl2) (by simpa using hl3) (hM.nx hN) ((hM.2.1 26 (by decide)).trans hf) (fun i s' c' a b => ⟨hM.ch (hC (i + 1) s' c' a b).1, (hC (i + 1) s' c' a b).2⟩) (fun i e' c' a b q => hL (i + 1) e' c' a b q) g1 g2
      rwa [List.length_append, List.length_singleton] at this
    unfold wp_X12_turn_95
    rw [show (tdS w d).1 27 = nI nx.length from hN.1, nI_clamp (show k.length < 2 ^ 31 by omega), show (tdS w d).2.1 26 = fl from hf, show (tdS w d).2.1 25 k.length = nI s from e25, nI_1]
    refine ⟨fun h => absurd h (nI_ge (by omega) (by omega)), fun _ => ⟨vp_in_nI (by omega) (by decide), fun h => ?_, fun h => ⟨vp_in_nI (by omega) (by decide), ?_⟩⟩⟩
    · obtain ⟨q, hq⟩ : ∃ q, e.2.2 = some q := by
        cases hq : e.2.2 with
        | none => rw [hq] at hfk; exact absurd h hfk
        | some q => exact ⟨q, rfl⟩
      have ec : chW (e :: es) (c :: rc) = chW es rc := by rw [chW, hq]; rfl
      rw [ec] at h1 h2
      exact next w d (MdR.refl w) h1 h2
    · have hq : e.2.2 = none := by
        cases hq : e.2.2 with
        | none => rfl
        | some q => rw [hq] at hfk; exact absurd hfk h
      have ec : chW (e :: es) (c :: rc) = cw c.2.2.1 (wOf (enc c.2.1)) 0 c.2.2.2 ++ chW es rc := by rw [chW, hq]
      rw [ec] at h1 h2
      obtain ⟨hcl, hcb⟩ := hL 0 e c rfl rfl hq
      refine t_writeChunk hCs.1 hCs.2.2.1 hPt.1 hPt.2.1 hPt.2.2 hCs.2.2.2.1 (by rw [← hcl]; exact hcb) (fun f n d2 b hw => ?_)
      rw [← hcl] at hw
      cases b with
      | false =>
        refine ⟨fun h => absurd rfl h, fun _ => h2 _ _ (MdR.made w f n) ?_⟩
        rw [doW_app, hw]; rfl
      | true =>
        refine ⟨fun _ => next _ _ (MdR.made w f n) (fun w' d' a hd => h1 w' d' ((MdR.made w f n).trans a) ?_) (fun w' d' a hd => h2 w' d' ((MdR.made w f n).trans a) ?_), fun h => absurd h (by decide)⟩
        · rw [doW_app, hw]; exact hd
        · rw [doW_app, hw]; exact hd
theorem turn174 {K : Int32 → St → Prop} {x1 : Int32} {w0 : St} {nx : List Nat} (hN : NxOk w0 nx) (hnl : nx.length ≤ 96) (hK : ∀ od : Nat → Int32, (∀ (k s : Nat), nx[k]? = some s → od k = nI s) → wp_X12_turn_200 K x1 (st_A w0 17 od)) :
    ∀ (rs k : List Nat) (od : Nat → Int32), nx = k ++ rs → (∀ (i s : Nat), k[i]? = some s → od i = nI s) → wp_X12_turn_174 K (rs.length + 1) x1 (nI k.length) (st_A w0 17 od) := by
  intro rs
  induction rs with
  | nil =>
    intro k od hk ho
    rw [List.append_nil] at hk
    subst hk
    unfold wp_X12_turn_174
    rw [show (st_A w0 17 od).1 27 = nI nx.length from hN.1]
    exact ⟨fun _ => hK od ho, fun h => absurd (Int32.le_refl _) h⟩
  | cons s rs ih =>
    intro k od hk ho
    have hln : nx.length = k.length + (rs.length + 1) := by rw [hk]; simp
    have e25 : w0.2.1 25 k.length = nI s := hN.2 _ _ (by rw [hk]; exact mid_get? _ _ _)
    unfold wp_X12_turn_174
    rw [show (st_A w0 17 od).1 27 = nI nx.length from hN.1, nI_clamp (show k.length < 2 ^ 31 by omega), show (st_A w0 17 od).2.1 25 k.length = nI s from e25, nI_1]
    refine ⟨fun h => absurd h (nI_ge (by omega) (by omega)), fun _ => ⟨vp_in_nI (by omega) (by decide), fun y hy => ⟨vp_in_nI (by omega) (by decide), ?_⟩⟩⟩
    rw [hy, stA_A]
    have := ih (k ++ [s]) (upd od k.length (nI s)) (by rw [hk]; simp) (fun i s' hi => by
      by_cases hil : i < k.length
      · rw [List.getElem?_append_left hil] at hi
        rw [upd_ne _ _ (by omega)]
        exact ho i s' hi
      · have hil2 : i = k.length := by
          have := (List.getElem?_eq_some_iff.mp hi).1
          rw [List.length_append, List.length_singleton] at this
          omega
        subst hil2
        rw [List.getElem?_append_right (Nat.le_refl _), Nat.sub_self] at hi
        cases hi
        exact upd_self _ _ _)
    rw [List.length_append, List.length_singleton] at this
    exact this
theorem t_turn {K : Int32 → St → Prop} {v : St} {sl nx : List Nat} {cs : List Ch} {pe : List Pe} {ep sd : Nat} (hsd : sd ≤ 1) (hep : ep < 1000) (h20 : v.1 20 = nI sd) (h18 : v.1 18 = nI sl.length) (ho : SlOk v sl cs) (hsl : sl.length ≤ 96) (hcb : ∀ c ∈ cs, c.2.2.1 + c.2.2.2 ≤ 4096) (hP : PlT v sl nx pe) (hnl : nx.length ≤ 96)
    (hns : plAll cs [] pe = none → ∀ w, TfR sl v w → K (-3) w)
    (hdn : ∀ r d', plAll cs [] pe = some r → doW (tdO v) (turnW pe r ep sd) = (d', false) → ∀ w, TfR sl v w → K (-9) (tdS w d'))
    (hok : ∀ r d', plAll cs [] pe = some r → doW (tdO v) (turnW pe r ep sd) = (d', true) → ∀ (w : St) (od : Nat → Int32), TfR sl v w → (∀ (i s : Nat) (c : Ch), nx[i]? = some s → r[i]? = some c → ChS w s c) → (∀ (k s : Nat), nx[k]? = some s → od k = nI s) → K 0 (st_I (st_I (st_I (st_A (tdS w d') 17 od) 18 (nI nx.length)) 19 (nI ep)) 20 (nI (1 - sd)))) : wp_X12_turn v (nI ep) K := by
  unfold wp_X12_turn
  rw [hP.1.1]
  have hpt : ∀ e ∈ pe, PtOk e.2.1 := fun e he => by
    obtain ⟨i, hi⟩ := List.getElem?_of_mem he
    have hil := (List.getElem?_eq_some_iff.mp hi).1
    have hpl := hP.2.1
    exact (hP.2.2.2 i _ e (List.getElem?_eq_getElem (by omega)) hi).2.2.2.1
  refine ⟨fun _ => ?_, fun h => absurd (nI_le hnl (by decide)) h⟩
  rw [nI0e]
  refine ⟨_, turn14 h18 ho hsl hcb hP hnl nx [] pe [] [] [] v rfl rfl rfl rfl rfl (TfR.refl sl v) (fun i o h => by simp at h) (fun i s c h => by simp at h) hns (fun r hr w hT hC => ?_)⟩
  rw [List.nil_append] at hC
  obtain ⟨hrl, hrs⟩ := plAll_spec cs pe [] r hpt hr
  have htd : tdS w (tdO v) = w := by
    have : tdO w = tdO v := by
      unfold tdO
      rw [hT.2.1 4 (by decide) (by decide) (by decide), hT.1 6 (by decide), hT.1 5 (by decide), hT.1 7 (by decide)]
    rw [← this, tdS_O]
  have hCP : ∀ (i s : Nat) (c : Ch), nx[i]? = some s → r[i]? = some c → ChS w s c ∧ PtOk c.2.1 := fun i s c a b => ⟨hC i s c a b, by
    have hil := (List.getElem?_eq_some_iff.mp b).1
    have he : pe[i]? = some pe[i] := List.getElem?_eq_getElem (by omega)
    rw [(hrs i _ c he b).2.1]
    exact hpt _ (List.getElem_mem _)⟩
  have tail : ∀ w' d1, MdR w w' → doW (tdO v) (chW pe r) = (d1, true) → wp_X12_turn_134 K (nI ep) (tdS w' d1) := by
    intro w' d1 hM hd1
    have hT' : TfR sl v w' := ⟨fun k hk => (hM.1 k hk).trans (hT.1 k hk), fun k a b c => (hM.2.1 k a).trans (hT.2.1 k a b c), fun s hs => ⟨by rw [hM.2.1 13 (by decide)]; exact (hT.2.2.1 s hs).1, by rw [hM.2.1 14 (by decide)]; exact (hT.2.2.1 s hs).2⟩, hM.2.2.trans hT.2.2.2⟩
    have h20' : w'.1 20 = nI sd := (hT'.1 20 (by decide)).trans h20
    have eix : (if (1 : Int32) - nI sd = 0 then (1 : Int32) else 962) = nI (ixA (1 - sd)) := by
      rcases (show sd = 0 ∨ sd = 1 by omega) with rfl | rfl <;> decide +kernel
    have hixb : ixA (1 - sd) ≤ 1000 := by unfold ixA; split <;> omega
    unfold wp_X12_turn_134 wp_X12_index
    rw [show (tdS w' d1).1 20 = nI sd from h20']
    intro z hz
    rw [hz, eix]
    refine t_writeIndex (hT'.nx hP.1) hnl hixb (by rw [hrl]; exact hP.2.1) (fun i s c a b => ⟨hM.ch (hCP i s c a b).1, (hCP i s c a b).2⟩) (fun d2 g hd2 => ?_)
    have etop : (2 : Int32) * nI ep + 1 - (tdS w' d2).1 20 = nI (2 * ep + 1 - sd) := by
      rw [show (tdS w' d2).1 20 = nI sd from h20', show (2 : Int32) * nI ep = nI (2 * ep) from pk_mul 2 ep, nI_1, pk_sub (by omega)]
    cases g with
    | false =>
      refine ⟨fun _ => hdn r d2 hr ?_ w' hT', fun h => absurd rfl h⟩
      unfold turnW
      rw [doW_app, hd1]
      show doW d1 (idxW (ixA (1 - sd)) r ++ [(0, nI (2 * ep + 1 - sd))]) = _
      rw [doW_app, hd2]; rfl
    | true =>
      refine ⟨fun h => absurd h (by decide), fun _ => ?_⟩
      rw [etop, nI0e]
      have eall : doW (tdO v) (turnW pe r ep sd) = doW d2 [(0, nI (2 * ep + 1 - sd))] := by
        unfold turnW
        rw [doW_app, hd1]
        show doW d1 (idxW (ixA (1 - sd)) r ++ [(0, nI (2 * ep + 1 - sd))]) = _
        rw [doW_app, hd2]; rfl
      refine twr (by decide) (fun q => ⟨fun h => absurd rfl h, fun _ => hdn r _ hr (by rw [eall]; unfold doW; rw [if_pos q]) w' hT'⟩) (fun q => ⟨fun _ => ?_, fun h => absurd h (by decide)⟩)
      have hdone : doW (tdO v) (turnW pe r ep sd) = (wr1 d2 0 (nI (2 * ep + 1 - sd)), true) := by rw [eall]; unfold doW; rw [if_neg q]; rfl
      have := turn174 (K := K) (x1 := nI ep) (w0 := tdS w' (wr1 d2 0 (nI (2 * ep + 1 - sd)))) (nx := nx) (hT'.nx hP.1) hnl (fun od hod => ?_) nx [] ((tdS w' (wr1 d2 0 (nI (2 * ep + 1 - sd)))).2.1 17) rfl (fun i s h => by simp at h)
      · rw [stA_id] at this
        exact ⟨_, this⟩
      · unfold wp_X12_turn_200
        have := hok r _ hr hdone w' od hT' (fun i s c a b => hM.ch (hC i s c a b)) hod
        rw [show (st_A (tdS w' (wr1 d2 0 (nI (2 * ep + 1 - sd)))) 17 od).1 27 = nI nx.length from (hT'.nx hP.1).1, show (st_A (tdS w' (wr1 d2 0 (nI (2 * ep + 1 - sd)))) 17 od).1 20 = nI sd from h20', show (1 : Int32) - nI sd = nI (1 - sd) from pk_sub hsd]
        exact this
  have := turn95 (K := K) (x1 := nI ep) (nx := nx) (pe := pe) (fl := w.2.1 26) hnl (fun k e he => by
    have hil := (List.getElem?_eq_some_iff.mp he).1
    have hpl := hP.2.1
    have hm := (hP.2.2.2 k _ e (List.getElem?_eq_getElem (by omega)) he).2.2.2.2
    rw [hT.2.1 26 (by decide) (by decide) (by decide)]
    cases hq : e.2.2 with
    | none => rw [hq] at hm; exact hm.1
    | some q => rw [hq] at hm; exact hm.1) nx [] pe [] r (tdO v) w rfl rfl rfl hP.2.1 (by rw [hrl]; exact hP.2.1) (hT.nx hP.1) rfl hCP (fun i e c a b q => by
      have hh := (hrs i e c a b)
      rw [q] at hh
      rw [hh.2.1]
      exact ⟨hh.2.2.1, hh.2.2.2.2⟩) tail (fun w' d' hM hd => hdn r d' hr (by unfold turnW; rw [doW_app, hd]; rfl) w' ⟨fun k hk => (hM.1 k hk).trans (hT.1 k hk), fun k a b c => (hM.2.1 k a).trans (hT.2.1 k a b c), fun s hs => ⟨by rw [hM.2.1 13 (by decide)]; exact (hT.2.2.1 s hs).1, by rw [hM.2.1 14 (by decide)]; exact (hT.2.2.1 s hs).2⟩, hM.2.2.trans hT.2.2.2⟩)
  rw [htd] at this
  exact ⟨_, this⟩
