set_option maxRecDepth 100000
/-! ===== plain: what a turn writes ===== -/
/-- series, points, place and length of one that is there already -/
abbrev Pe : Type := Nat × List Pt × Option (Nat × Nat)
/-- each new one of the plan gets a place -/
def plAll (cs : List Ch) : List (Option (Nat × Nat)) → List Pe → Option (List Ch)
  | _, [] => some []
  | en, e :: es => match e.2.2 with
    | some q => (plAll cs (en ++ [none]) es).map (fun r => (e.1, e.2.1, q.1, q.2) :: r)
    | none => match ff (fun x => tkC cs x || tkN en x) (cel (enc e.2.1).length) 1661 2435 0 with
      | none => none
      | some p => (plAll cs (en ++ [some (p, cel (enc e.2.1).length)]) es).map (fun r => (e.1, e.2.1, p, cel (enc e.2.1).length) :: r)
/-- m cells from the k-th on -/
def cw (p : Nat) (f : Nat → Int32) : Nat → Nat → List (Nat × Int32)
  | _, 0 => []
  | k, m + 1 => (p + k, f k) :: cw p f (k + 1) m
/-- the new chunks' cells -/
def chW : List Pe → List Ch → List (Nat × Int32)
  | e :: es, c :: cs => (match e.2.2 with | some _ => [] | none => cw c.2.2.1 (wOf (enc c.2.1)) 0 c.2.2.2) ++ chW es cs
  | _, _ => []
def entW (b : Nat) (c : Ch) : List (Nat × Int32) := [(b, nI c.1), (b + 1, pfst c.2.1), (b + 2, plst c.2.1), (b + 3, nI c.2.1.length), (b + 4, pmin c.2.1), (b + 5, pmax c.2.1), (b + 6, (psum c.2.1 >>> (32 : Int64)).toInt32), (b + 7, (psum c.2.1).toInt32), (b + 8, nI c.2.2.1), (b + 9, nI c.2.2.2)]
def idxE (b : Nat) : List Ch → List (Nat × Int32)
  | [] => []
  | c :: cs => entW b c ++ idxE (b + 10) cs
def idxW (b : Nat) (cs : List Ch) : List (Nat × Int32) := (b, nI cs.length) :: idxE (b + 1) cs
/-- where the index of a side lies -/
def ixA (s : Nat) : Nat := if s = 0 then 1 else 962
def turnW (pe : List Pe) (cs : List Ch) (ep sd : Nat) : List (Nat × Int32) := chW pe cs ++ (idxW (ixA (1 - sd)) cs ++ [(0, nI (2 * ep + 1 - sd))])
/-! states: the disk apart from the rest -/
theorem td_A (v : St) (d : DS) (k : Nat) (f : Nat → Int32) (hk : k ≠ 4) : st_A (tdS v d) k f = tdS (st_A v k f) d := by
  refine St.ext4 (fun j => rfl) (fun j => ?_) (fun _ => rfl) (fun _ => rfl)
  rw [sA, tdS_A, tdS_A, sA]
  by_cases h : j = k
  · subst h; rw [if_pos rfl, if_neg hk, if_pos rfl]
  · rw [if_neg h, if_neg h]
theorem td_I (v : St) (d : DS) (k : Nat) (x : Int32) (hk : k ≠ 5 ∧ k ≠ 6 ∧ k ≠ 7) : st_I (tdS v d) k x = tdS (st_I v k x) d := by
  refine St.ext4 (fun j => ?_) (fun j => rfl) (fun _ => rfl) (fun _ => rfl)
  rw [sI, tdS_I, tdS_I, sI]
  by_cases h : j = k
  · subst h; rw [if_pos rfl, if_neg hk.2.2, if_neg hk.1, if_neg hk.2.1, if_pos rfl]
  · rw [if_neg h, if_neg h]
theorem wChunk_loop {K : Int32 → St → Prop} {v : St} {c p n : Nat} {f : Nat → Int32} (hc : c < 240) (hp : v.2.1 13 c = nI p) (hf : v.2.1 33 = f) (hn : p + n ≤ 4096) (hn2 : n ≤ 200) :
    ∀ (m k : Nat) (d : DS), k + m = n → (∀ d' b, doW d (cw p f k m) = (d', b) → K (if b then 1 else 0) (tdS v d')) → wp_X12_writeChunk_11 K (m + 1) (nI c) (nI n) 1 (nI k) (tdS v d) := by
  intro m
  induction m with
  | zero =>
    intro k d hk hK
    have : k = n := by omega
    subst this
    unfold wp_X12_writeChunk_11
    exact ⟨fun _ => ⟨Or.inr rfl, hK d true rfl⟩, fun h => absurd (Int32.le_refl _) h⟩
  | succ m ih =>
    intro k d hk hK
    unfold wp_X12_writeChunk_11
    rw [nI_clamp (show c < 2 ^ 31 by omega), nI_clamp (show k < 2 ^ 31 by omega), show (tdS v d).2.1 13 c = nI p from hp, show (tdS v d).2.1 33 = f from hf, nI_add]
    refine ⟨fun h => absurd h (nI_ge (by omega) (by omega)), fun _ => ⟨fun h => absurd h (by decide), fun _ => ⟨vp_in_nI hc (by decide), vp_in_nI (by omega) (by decide), ?_⟩⟩⟩
    refine twr (by omega) (fun h0 => ?_) (fun h0 => ?_)
    · have hK := hK (wdn d) false (by unfold cw doW; rw [if_pos h0])
      unfold wp_X12_writeChunk_11
      exact ⟨fun _ => ⟨Or.inl rfl, hK⟩, fun _ => ⟨fun _ => ⟨Or.inl rfl, hK⟩, fun h => absurd rfl h⟩⟩
    · rw [nI_1]
      exact ih (k + 1) _ (by omega) (fun d' b h => hK d' b (by unfold cw doW; rw [if_neg h0]; exact h))
theorem cw_congr (p : Nat) {f g : Nat → Int32} : ∀ (m k : Nat), (∀ i, i < k + m → f i = g i) → cw p f k m = cw p g k m
  | 0, _, _ => rfl
  | m + 1, k, h => by unfold cw; rw [h k (by omega), cw_congr p m (k + 1) (fun i hi => h i (by omega))]
theorem t_writeChunk {K : Int32 → St → Prop} {v : St} {d : DS} {c p : Nat} {ps : List Pt} (hc : c < 240) (hS : SlotP v c ps) (hA : Asc ps) (h0 : ps ≠ []) (hlen : ps.length ≤ 64) (hp : v.2.1 13 c = nI p) (hn : p + cel (enc ps).length ≤ 4096)
    (hK : ∀ (f : Nat → Int32) (n : Int32) (d' : DS) (b : Bool), doW d (cw p (wOf (enc ps)) 0 (cel (enc ps).length)) = (d', b) → K (if b then 1 else 0) (tdS (st_I (st_A v 33 f) 34 n) d')) : wp_X12_writeChunk (tdS v d) (nI c) K := by
  unfold wp_X12_writeChunk
  refine make_spec hc (hS.keep rfl rfl rfl) hA h0 hlen (fun f n hf => ?_)
  have hel := enc_len ps
  rw [td_A v d 33 f (by decide), td_I (st_A v 33 f) d 34 n (by decide), nI0e]
  refine ⟨_, wChunk_loop (v := st_I (st_A v 33 f) 34 n) (f := f) hc hp rfl hn (by unfold cel; omega) (cel (enc ps).length) 0 d (by omega) (fun d' b h => hK f n d' b ?_)⟩
  rw [← h, cw_congr p _ 0 (fun i hi => (hf i (by omega)).symm)]
theorem wIdx_fail {K : Int32 → St → Prop} {b x : Int32} {u : St} (n : Nat) (hK : K 0 u) : wp_X12_writeIndex_12 K (n + 1) b 0 x u := by
  unfold wp_X12_writeIndex_12
  exact ⟨fun _ => ⟨Or.inl rfl, hK⟩, fun _ => ⟨fun _ => ⟨Or.inl rfl, hK⟩, fun h => absurd rfl h⟩⟩
theorem sh32e : ((32 : Int32).toInt64 &&& 63) = (32 : Int64) := by decide +kernel
/-- chunk c lies in slot s -/
def ChS (v : St) (s : Nat) (c : Ch) : Prop := s < 240 ∧ v.2.1 11 s = nI c.1 ∧ SlotP v s c.2.1 ∧ v.2.1 13 s = nI c.2.2.1 ∧ v.2.1 14 s = nI c.2.2.2
def PtOk (ps : List Pt) : Prop := Asc ps ∧ ps ≠ [] ∧ ps.length ≤ 64
theorem wIdx_loop {K : Int32 → St → Prop} {v : St} {nx : List Nat} (hN : NxOk v nx) (hnl : nx.length ≤ 96) {b : Nat} (hb : b ≤ 1000) :
    ∀ (rest : List Nat) (rc : List Ch) (k : List Nat) (d : DS), nx = k ++ rest → rest.length = rc.length → (∀ (i s : Nat) (c : Ch), rest[i]? = some s → rc[i]? = some c → ChS v s c ∧ PtOk c.2.1) →
      (∀ d' g, doW d (idxE (b + 1 + 10 * k.length) rc) = (d', g) → K (if g then 1 else 0) (tdS v d')) → wp_X12_writeIndex_12 K (rest.length + 1) (nI b) 1 (nI k.length) (tdS v d) := by
  intro rest
  induction rest with
  | nil =>
    intro rc k d hk hrc hC hK
    rw [List.append_nil] at hk
    subst hk
    have : rc = [] := List.length_eq_zero_iff.mp hrc.symm
    subst this
    unfold wp_X12_writeIndex_12
    rw [show (tdS v d).1 27 = nI nx.length from hN.1]
    exact ⟨fun _ => ⟨Or.inr rfl, hK d true rfl⟩, fun h => absurd (Int32.le_refl _) h⟩
  | cons s rest ih =>
    intro rc k d hk hrc hC hK
    obtain ⟨c, rc, rfl⟩ : ∃ c r, rc = c :: r := by
      cases rc with
      | nil => simp at hrc
      | cons c r => exact ⟨c, r, rfl⟩
    have hln : nx.length = k.length + (rest.length + 1) := by rw [hk]; simp
    obtain ⟨⟨hs, e1, e2, e3, e4⟩, hA, h0, hl⟩ := hC 0 s c rfl rfl
    have e25 : v.2.1 25 k.length = nI s := hN.2 _ _ (by rw [hk]; exact mid_get? _ _ _)
    have hi : vp_in (nI s) 240 := vp_in_nI hs (by decide)
    have hcl : (nI s).toNatClampNeg = s := nI_clamp (by omega)
    have eb : nI b + 1 + 10 * nI k.length = nI (b + 1 + 10 * k.length) := by
      rw [nI_1, show (10 : Int32) * nI k.length = nI (10 * k.length) from pk_mul 10 _, nI_add]
    have ej : ∀ j : Nat, nI (b + 1 + 10 * k.length) + nI j = nI (b + 1 + 10 * k.length + j) := fun j => nI_add _ j
    have rd : ∀ d : DS, (tdS v d).2.1 11 = v.2.1 11 ∧ (tdS v d).2.1 12 = v.2.1 12 ∧ (tdS v d).2.1 13 = v.2.1 13 ∧ (tdS v d).2.1 14 = v.2.1 14 := fun d => ⟨rfl, rfl, rfl, rfl⟩
    have sp : ∀ d : DS, SlotP (tdS v d) s c.2.1 := fun d => e2.keep rfl rfl rfl
    unfold wp_X12_writeIndex_12
    rw [show (tdS v d).1 27 = nI nx.length from hN.1, nI_clamp (show k.length < 2 ^ 31 by omega), show (tdS v d).2.1 25 k.length = nI s from e25, hcl, eb, nI_1]
    refine ⟨fun h => absurd h (nI_ge (by omega) (by omega)), fun _ => ⟨fun h => absurd h (by decide), fun _ => ⟨vp_in_nI (by omega) (by decide), ?_⟩⟩⟩
    have fail : ∀ d2 : DS, doW d (idxE (b + 1 + 10 * k.length) (c :: rc)) = (wdn d2, false) → wp_X12_writeIndex_12 K (rest.length + 1) (nI b) 0 (nI (k.length + 1)) (tdS v (wdn d2)) := fun d2 h => wIdx_fail _ (hK _ false h)
    have eW : ∀ d, doW d (idxE (b + 1 + 10 * k.length) (c :: rc)) = doW d (entW (b + 1 + 10 * k.length) c ++ idxE (b + 1 + 10 * k.length + 10) rc) := fun _ => rfl
    refine t_sum hs (sp d) hl ⟨hi, ?_⟩
    rw [show (tdS v d).2.1 11 s = nI c.1 from e1]
    refine twr (by omega) (fun q0 => ⟨fun _ => fail d (by rw [eW]; unfold entW; simp only [List.cons_append, doW, if_pos q0]), fun h => absurd rfl h⟩) (fun q0 => ⟨fun h => absurd h (by decide), fun _ => ?_⟩)
    refine t_first hs (sp _) h0 ?_
    rw [show nI (b + 1 + 10 * k.length) + 1 = nI (b + 1 + 10 * k.length + 1) from ej 1]
    refine twr (by omega) (fun q1 => ⟨fun _ => fail _ (by rw [eW]; unfold entW; simp only [List.cons_append, doW, if_neg q0, if_pos q1]), fun h => absurd rfl h⟩) (fun q1 => ⟨fun h => absurd h (by decide), fun _ => ?_⟩)
    refine t_last hs (sp _) h0 hl ?_
    rw [show nI (b + 1 + 10 * k.length) + 2 = nI (b + 1 + 10 * k.length + 2) from ej 2]
    refine twr (by omega) (fun q2 => ⟨fun _ => fail _ (by rw [eW]; unfold entW; simp only [List.cons_append, doW, if_neg q0, if_neg q1, if_pos q2]), fun h => absurd rfl h⟩) (fun q2 => ⟨fun h => absurd h (by decide), fun _ => ⟨hi, ?_⟩⟩)
    rw [show nI (b + 1 + 10 * k.length) + 3 = nI (b + 1 + 10 * k.length + 3) from ej 3, (rd _).2.1, e2.1]
    refine twr (by omega) (fun q3 => ⟨fun _ => fail _ (by rw [eW]; unfold entW; simp only [List.cons_append, doW, if_neg q0, if_neg q1, if_neg q2, if_pos q3]), fun h => absurd rfl h⟩) (fun q3 => ⟨fun h => absurd h (by decide), fun _ => ?_⟩)
    refine t_least hs (sp _) h0 hl ?_
    rw [show nI (b + 1 + 10 * k.length) + 4 = nI (b + 1 + 10 * k.length + 4) from ej 4]
    refine twr (by omega) (fun q4 => ⟨fun _ => fail _ (by rw [eW]; unfold entW; simp only [List.cons_append, doW, if_neg q0, if_neg q1, if_neg q2, if_neg q3, if_pos q4]), fun h => absurd rfl h⟩) (fun q4 => ⟨fun h => absurd h (by decide), fun _ => ?_⟩)
    refine t_greatest hs (sp _) h0 hl ?_
    rw [show nI (b + 1 + 10 * k.length) + 5 = nI (b + 1 + 10 * k.length + 5) from ej 5]
    refine twr (by omega) (fun q5 => ⟨fun _ => fail _ (by rw [eW]; unfold entW; simp only [List.cons_append, doW, if_neg q0, if_neg q1, if_neg q2, if_neg q3, if_neg q4, if_pos q5]), fun h => absurd rfl h⟩) (fun q5 => ⟨fun h => absurd h (by decide), fun _ => ?_⟩)
    rw [show nI (b + 1 + 10 * k.length) + 6 = nI (b + 1 + 10 * k.length + 6) from ej 6, sh32e]
    refine twr (by omega) (fun q6 => ⟨fun _ => fail _ (by rw [eW]; unfold entW; simp only [List.cons_append, doW, if_neg q0, if_neg q1, if_neg q2, if_neg q3, if_neg q4, if_neg q5, if_pos q6]), fun h => absurd rfl h⟩) (fun q6 => ⟨fun h => absurd h (by decide), fun _ => ?_⟩)
    rw [show nI (b + 1 + 10 * k.length) + 7 = nI (b + 1 + 10 * k.length + 7) from ej 7]
    refine twr (by omega) (fun q7 => ⟨fun _ => fail _ (by rw [eW]; unfold entW; simp only [List.cons_append, doW, if_neg q0, if_neg q1, if_neg q2, if_neg q3, if_neg q4, if_neg q5, if_neg q6, if_pos q7]), fun h => absurd rfl h⟩) (fun q7 => ⟨fun h => absurd h (by decide), fun _ => ⟨hi, ?_⟩⟩)
    rw [show nI (b + 1 + 10 * k.length) + 8 = nI (b + 1 + 10 * k.length + 8) from ej 8, (rd _).2.2.1, e3]
    refine twr (by omega) (fun q8 => ⟨fun _ => fail _ (by rw [eW]; unfold entW; simp only [List.cons_append, doW, if_neg q0, if_neg q1, if_neg q2, if_neg q3, if_neg q4, if_neg q5, if_neg q6, if_neg q7, if_pos q8]), fun h => absurd rfl h⟩) (fun q8 => ⟨fun h => absurd h (by decide), fun _ => ⟨hi, ?_⟩⟩)
    rw [show nI (b + 1 + 10 * k.length) + 9 = nI (b + 1 + 10 * k.length + 9) from ej 9, (rd _).2.2.2, e4]
    refine twr (by omega) (fun q9 => ⟨fun _ => fail _ (by rw [eW]; unfold entW; simp only [List.cons_append, doW, if_neg q0, if_neg q1, if_neg q2, if_neg q3, if_neg q4, if_neg q5, if_neg q6, if_neg q7, if_neg q8, if_pos q9]), fun h => absurd rfl h⟩) (fun q9 => ⟨fun h => absurd h (by decide), fun _ => ?_⟩)
    have := ih rc (k ++ [s]) _ (by rw [hk]; simp) (by simpa using hrc) (fun i s' c' h1 h2 => hC (i + 1) s' c' h1 h2) (fun d' g h => hK d' g (by
      rw [eW]; unfold entW
      simp only [List.cons_append, List.nil_append, doW, if_neg q0, if_neg q1, if_neg q2, if_neg q3, if_neg q4, if_neg q5, if_neg q6, if_neg q7, if_neg q8, if_neg q9]
      rw [← h, List.length_append, List.length_singleton, show b + 1 + 10 * (k.length + 1) = b + 1 + 10 * k.length + 10 by omega]))
    rwa [List.length_append, List.length_singleton] at this
theorem t_writeIndex {K : Int32 → St → Prop} {v : St} {d : DS} {nx : List Nat} {cs : List Ch} (hN : NxOk v nx) (hnl : nx.length ≤ 96) {b : Nat} (hb : b ≤ 1000) (hl : nx.length = cs.length) (hC : ∀ (i s : Nat) (c : Ch), nx[i]? = some s → cs[i]? = some c → ChS v s c ∧ PtOk c.2.1)
    (hK : ∀ d' g, doW d (idxW b cs) = (d', g) → K (if g then 1 else 0) (tdS v d')) : wp_X12_writeIndex (tdS v d) (nI b) K := by
  unfold wp_X12_writeIndex
  rw [show (tdS v d).1 27 = nI nx.length from hN.1]
  refine twr (by omega) (fun q => ⟨1, wIdx_fail 0 (hK _ false (by unfold idxW doW; rw [if_pos q]))⟩) (fun q => ?_)
  rw [nI0e]
  refine ⟨_, wIdx_loop hN hnl hb nx cs [] _ rfl hl hC (fun d' g h => hK d' g ?_)⟩
  unfold idxW doW
  rw [if_neg q, ← hl]
  exact h
