set_option maxRecDepth 100000
def lts (t : Int32) (ps : List Pt) : Bool := ps.all (fun p => decide (p.1 < t))
def bz (b : Bool) : Int32 := if b then 1 else 0
theorem nle_lt {a b : Int32} : ¬ a ≤ b ↔ b < a := by
  rw [Int32.le_iff_toInt_le, Int32.lt_iff_toInt_lt]; omega
theorem ris26 {C : Int32 → Int32 → Int32 → Int32 → St → Prop} {K : Int32 → St → Prop} {v : St} {s k t : Nat} {x : Int32} {c : Ch} (ht : t < 240) (hc : ChS v t c) (hl : c.2.1.length ≤ 64) (he : c.1 = s) (hs : s < 100) :
    ∀ (rp dp : List Pt) (b : Bool), c.2.1 = dp ++ rp → C (nI s) x (bz (b && lts x rp)) (nI (k + 1)) v → wp_X12_isRising_26 C K (rp.length + 1) (nI s) x (bz b) (nI k) (nI t) (nI dp.length) v := by
  obtain ⟨-, h11, hS, -, -⟩ := hc
  intro rp
  induction rp with
  | nil =>
    intro dp b hd hK
    rw [List.append_nil] at hd
    unfold wp_X12_isRising_26
    rw [nI_clamp (show t < 2 ^ 31 by omega), hS.1, hd, nI_1]
    exact ⟨vp_in_nI ht (by decide), fun _ => by simpa [lts] using hK, fun h => absurd (Int32.le_refl _) h⟩
  | cons p rp ih =>
    intro dp b hd hK
    have hln : c.2.1.length = dp.length + (rp.length + 1) := by rw [hd]; simp
    obtain ⟨e1, i1, c1⟩ := ix64 ht (show dp.length < 64 by omega)
    have g1 := (hS.2 dp.length p (by rw [hd]; exact mid_get? _ _ _)).1
    have step : ∀ b', (b' && lts x rp) = (b && lts x (p :: rp)) → wp_X12_isRising_26 C K (rp.length + 1) (nI s) x (bz b') (nI k) (nI t) (nI (dp.length + 1)) v := fun b' hb => by
      have := ih (dp ++ [p]) b' (by rw [hd]; simp) (by rw [hb]; exact hK)
      rwa [List.length_append, List.length_singleton] at this
    unfold wp_X12_isRising_26
    rw [nI_clamp (show t < 2 ^ 31 by omega), hS.1, h11, he, e1, c1, g1, nI_1, nI_1]
    refine ⟨vp_in_nI ht (by decide), fun h => absurd h (nI_ge (by omega) (by omega)), fun _ => ⟨vp_in_nI ht (by decide), fun h => absurd rfl h, fun _ => ⟨fun h => ?_, fun h => ⟨i1, fun h3 => ?_, fun h3 => ?_⟩⟩⟩⟩
    · have hb : b = false := by cases b; rfl; exact absurd h (by decide)
      subst hb
      exact step false rfl
    · have hb : b = true := by cases b; exact absurd rfl h; rfl
      subst hb
      exact step false (by simp [lts, show ¬ p.1 < x from fun q => (nle_lt.mpr q) h3])
    · have hb : b = true := by cases b; exact absurd rfl h; rfl
      subst hb
      exact step true (by simp [lts, nle_lt.mp h3])
theorem ris26n {C : Int32 → Int32 → Int32 → Int32 → St → Prop} {K : Int32 → St → Prop} {v : St} {s k t : Nat} {x : Int32} {c : Ch} (ht : t < 240) (hc : ChS v t c) (hne : ¬ c.1 = s) (hs : s < 100) (hcs : c.1 < 100) (b : Bool) (hK : C (nI s) x (bz b) (nI (k + 1)) v) : wp_X12_isRising_26 C K 1 (nI s) x (bz b) (nI k) (nI t) 0 v := by
  obtain ⟨-, h11, hS, -, -⟩ := hc
  unfold wp_X12_isRising_26
  rw [nI_clamp (show t < 2 ^ 31 by omega), h11, nI_1]
  exact ⟨vp_in_nI ht (by decide), fun _ => hK, fun _ => ⟨vp_in_nI ht (by decide), fun _ => hK, fun h => absurd ((nI_eq (by omega) (by omega)).mp h) hne⟩⟩
theorem ris91 {K : Int32 → St → Prop} {v : St} {lg : List Lg} {s : Nat} {x : Int32} (hlg : LgT v lg) (hll : lg.length ≤ 100) (hs : ∀ g ∈ lg, g.1 < 100) (hs2 : s < 100) :
    ∀ (rl dl : List Lg) (b : Bool), lg = dl ++ rl → K (bz (b && lts x (hpts rl s))) v → wp_X12_isRising_91 K (rl.length + 1) (nI s) x (bz b) (nI dl.length) v := by
  intro rl
  induction rl with
  | nil =>
    intro dl b hd hK
    rw [List.append_nil] at hd
    subst hd
    unfold wp_X12_isRising_91
    rw [hlg.1]
    exact ⟨fun _ => ⟨by cases b <;> first | exact Or.inl rfl | exact Or.inr rfl, by simpa [lts, hpts] using hK⟩, fun h => absurd (Int32.le_refl _) h⟩
  | cons g rl ih =>
    intro dl b hd hK
    have hln : lg.length = dl.length + (rl.length + 1) := by rw [hd]; simp
    have hg : lg[dl.length]? = some g := by rw [hd]; exact mid_get? _ _ _
    obtain ⟨e21, e22, -⟩ := hlg.2 _ _ hg
    have hgs := hs g (List.mem_of_getElem? hg)
    have i3 : vp_in (nI dl.length) 128 := vp_in_nI (by omega) (by decide)
    have step : ∀ b', (b' && lts x (hpts rl s)) = (b && lts x (hpts (g :: rl) s)) → wp_X12_isRising_91 K (rl.length + 1) (nI s) x (bz b') (nI (dl.length + 1)) v := fun b' hb => by
      have := ih (dl ++ [g]) b' (by rw [hd]; simp) (by rw [hb]; exact hK)
      rwa [List.length_append, List.length_singleton] at this
    have hcons : hpts (g :: rl) s = if g.1 = s then g.2 :: hpts rl s else hpts rl s := by
      unfold hpts
      by_cases h : g.1 = s
      · simp [h]
      · simp [h]
    unfold wp_X12_isRising_91
    rw [hlg.1, nI_clamp (show dl.length < 2 ^ 31 by omega), e21, e22, nI_1]
    refine ⟨fun h => absurd h (nI_ge (by omega) (by omega)), fun _ => ⟨fun h => ?_, fun h => ⟨i3, fun h3 => ?_, fun h3 => ⟨i3, fun h4 => ?_, fun h4 => ?_⟩⟩⟩⟩
    · have hb : b = false := by cases b; rfl; exact absurd h (by decide)
      subst hb
      exact step false rfl
    · have hb : b = true := by cases b; exact absurd rfl h; rfl
      subst hb
      exact step true (by rw [hcons, if_neg (fun e => h3 (by rw [e]))])
    · have hb : b = true := by cases b; exact absurd rfl h; rfl
      subst hb
      have he : g.1 = s := (nI_eq (by omega) (by omega)).mp h3
      exact step false (by rw [hcons, if_pos he]; simp [lts, show ¬ g.2.1 < x from fun q => (nle_lt.mpr q) h4])
    · have hb : b = true := by cases b; exact absurd rfl h; rfl
      subst hb
      have he : g.1 = s := (nI_eq (by omega) (by omega)).mp h3
      exact step true (by rw [hcons, if_pos he]; simp [lts, nle_lt.mp h4])
theorem ris5 {K : Int32 → St → Prop} {v : St} {sl : List Nat} {cs : List Ch} {lg : List Lg} {s : Nat} {x : Int32} (h18 : v.1 18 = nI sl.length) (ho : SlOk v sl cs) (hsl : sl.length ≤ 96) (hcl : ∀ c ∈ cs, c.2.1.length ≤ 64) (hss : ∀ c ∈ cs, c.1 < 100) (hs2 : s < 100) (hlg : LgT v lg) (hll : lg.length ≤ 100) (hs : ∀ g ∈ lg, g.1 < 100) :
    ∀ (rs k : List Nat) (rc kc : List Ch) (b : Bool), sl = k ++ rs → cs = kc ++ rc → k.length = kc.length → K (bz (b && lts x (allP (ofS rc s)) && lts x (hpts lg s))) v → wp_X12_isRising_5 K (rs.length + 1) (nI s) x (bz b) (nI k.length) v := by
  have hlc := ho.1
  intro rs
  induction rs with
  | nil =>
    intro k rc kc b hk hkc hl hK
    rw [List.append_nil] at hk
    subst hk
    have : rc = [] := by
      rw [hkc, List.length_append] at hlc
      exact List.length_eq_zero_iff.mp (by omega)
    subst this
    unfold wp_X12_isRising_5
    rw [h18]
    refine ⟨fun _ => ?_, fun h => absurd (Int32.le_refl _) h⟩
    rw [nI0e]
    exact ⟨_, ris91 hlg hll hs hs2 lg [] b rfl (by simpa [lts, allP, ofS] using hK)⟩
  | cons t rs ih =>
    intro k rc kc b hk hkc hl hK
    obtain ⟨c, rc, rfl⟩ : ∃ c r, rc = c :: r := by
      cases rc with
      | nil => rw [hk, hkc] at hlc; simp at hlc; omega
      | cons c r => exact ⟨c, r, rfl⟩
    have hln : sl.length = k.length + (rs.length + 1) := by rw [hk]; simp
    have hg : sl[k.length]? = some t := by rw [hk]; exact mid_get? _ _ _
    have hgc : cs[k.length]? = some c := by rw [hkc, hl]; exact mid_get? _ _ _
    obtain ⟨ht, e17⟩ := ho.2.2.1 k.length t hg
    obtain ⟨b1, b2, b3, b4⟩ := ho.2.2.2 k.length t c hg hgc
    have hcm := List.mem_of_getElem? hgc
    have next : ∀ b', (b' && lts x (allP (ofS rc s))) = (b && lts x (allP (ofS (c :: rc) s))) → wp_X12_isRising_5 K (rs.length + 1) (nI s) x (bz b') (nI (k.length + 1)) v := fun b' hb => by
      have := ih (k ++ [t]) rc (kc ++ [c]) b' (by rw [hk]; simp) (by rw [hkc]; simp) (by simp [hl]) (by rw [hb]; exact hK)
      rwa [List.length_append, List.length_singleton] at this
    unfold wp_X12_isRising_5
    rw [h18, nI_clamp (show k.length < 2 ^ 31 by omega), e17]
    refine ⟨fun h => absurd h (nI_ge (by omega) (by omega)), fun _ => ⟨vp_in_nI (by omega) (by decide), ?_⟩⟩
    by_cases he : c.1 = s
    · refine ⟨_, ris26 (k := k.length) ht ⟨ht, b1, b2, b3, b4⟩ (hcl c hcm) he hs2 c.2.1 [] b rfl (next _ ?_)⟩
      have eo : allP (ofS (c :: rc) s) = c.2.1 ++ allP (ofS rc s) := by unfold ofS allP; simp [he]
      rw [eo]
      unfold lts
      rw [List.all_append, Bool.and_assoc]
    · refine ⟨_, ris26n (k := k.length) ht ⟨ht, b1, b2, b3, b4⟩ he hs2 (hss c hcm) b (next b ?_)⟩
      have eo : ofS (c :: rc) s = ofS rc s := by unfold ofS; simp [he]
      rw [eo]
theorem t_rising {K : Int32 → St → Prop} {v : St} {sl : List Nat} {cs : List Ch} {lg : List Lg} {s : Nat} {x : Int32} (h18 : v.1 18 = nI sl.length) (ho : SlOk v sl cs) (hsl : sl.length ≤ 96) (hcl : ∀ c ∈ cs, c.2.1.length ≤ 64) (hss : ∀ c ∈ cs, c.1 < 100) (hs2 : s < 100) (hlg : LgT v lg) (hll : lg.length ≤ 100) (hs : ∀ g ∈ lg, g.1 < 100)
    (hK : K (bz (lts x (allP (ofS cs s)) && lts x (hpts lg s))) v) : wp_X12_isRising v (nI s) x K := by
  have := ris5 (K := K) (x := x) h18 ho hsl hcl hss hs2 hlg hll hs sl [] cs [] true rfl rfl rfl (by simpa using hK)
  exact ⟨_, this⟩
