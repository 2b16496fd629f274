set_option maxRecDepth 100000
def lts (t : Int32) (ps : List Pt) : Bool := ps.all (fun p => decide (p.1 < t))
def bz (b : Bool) : Int32 := if b then 1 else 0
theorem nle_lt {a b : Int32} : ¬ a ≤ b ↔ b < a := by
  rw [Int32.le_iff_toInt_le, Int32.lt_iff_toInt_lt]; omega
theorem ris26 {C : Int32 → Int32 → Int32 → Int32 → St → Prop} {K : Int32 → St → Prop} {v : St} {s k t : Nat} {x : Int32} {c : Ch} (ht : t < 240) (hc : ChS v t c) (hl : c.2.1.length ≤ 64) (he : c.1 = s) (hs : s < 100) :
    ∀ (rp dp : List Pt) (b : Bool), c.2.1 = dp ++ rp → C (nI s) x (bz (b && lts x rp)) (nI (k + 1)) v → wp_X12_isRising_26 C K (rp.length + 1) (nI s) x (bz b) (nI k) (nI t) (nI dp.length) v := by
  obtain ⟨-, h11, hS, -, -⟩ := hc
  intro rp
  induction rp with
  | nil =>
    intro dp b hd hK
    rw [List.append_nil] at hd
    unfold wp_X12_isRising_26
    rw [nI_clamp (show t < 2 ^ 31 by omega), hS.1, hd, nI_1]
    exact ⟨vp_in_nI ht (by decide), fun _ => by simpa [lts] using hK, fun h => absurd (Int32.le_refl _) h⟩
  | cons p rp ih =>
    intro dp b hd hK
    have hln : c.2.1.length = dp.length + (rp.length + 1) := by rw [hd]; simp
    obtain ⟨e1, i1, c1⟩ := ix64 ht (show dp.length < 64 by omega)
    have g1 := (hS.2 dp.length p (by rw [hd]; exact mid_get? _ _ _)).1
    have step : ∀ b', (b' && lts x rp) = (b && lts x (p :: rp)) → wp_X12_isRising_26 C K (rp.length + 1) (nI s) x (bz b') (nI k) (nI t) (nI (dp.length + 1)) v := fun b' hb => by
      have := ih (dp ++ [p]) b' (by rw [hd]; simp) (by rw [hb]; exact hK)
      rwa [List.length_append, List.length_singleton] at this
    unfold wp_X12_isRising_26
    rw [nI_clamp (show t < 2 ^ 31 by omega), hS.1, h11, he, e1, c1, g1, nI_1, nI_1]
    refine ⟨vp_in_nI ht (by decide), fun h => absurd h (nI_ge (by omega) (by omega)), fun _ => ⟨vp_in_nI ht (by decide), fun h => absurd rfl h, fun _ => ⟨fun h => ?_, fun h => ⟨i1, fun h3 => ?_, fun h3 => ?_⟩⟩⟩⟩
    · have hb : b = false := by cases b; rfl; exact absurd h (by decide)
      subst hb
      exact step false rfl
    · have hb : b = true := by cases b; exact absurd rfl h; rfl
      subst hb
      exact step false (by simp [lts, show ¬ p.1 < x from fun q => (nle_lt.mpr q) h3])
    · have hb : b = true := by cases b; exact absurd rfl h; rfl
      subst hb
      exact step true (by simp [lts, nle_lt.mp h3])
theorem ris26n {C : Int32 → Int32 → Int32 → Int32 → St → Prop} {K : Int32 → St → Prop} {v : St} {s k t : Nat} {x : Int32} {c : Ch} (ht : t < 240) (hc : ChS v t c) (hne : ¬ c.1 = s) (hs : s < 100) (hcs : c.1 < 100) (b : Bool) (hK : C (nI s) x (bz b) (nI (k + 1)) v) : wp_X12_isRising_26 C K 1 (nI s) x (bz b) (nI k) (nI t) 0 v := by
  obtain ⟨-, h11, hS, -, -⟩ := hc
  unfold wp_X12_isRising_26
  rw [nI_clamp (show t < 2 ^ 31 by omega), h11, nI_1]
  exact ⟨vp_in_nI ht (by decide), fun _ => hK, fun _ => ⟨vp_in_nI ht (by decide), fun _ => hK, fun h => absurd ((nI_eq (by omega) (by omega)).mp h) hne⟩⟩
