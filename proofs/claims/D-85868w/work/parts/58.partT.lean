set_option maxRecDepth 100000
/-- a span: out, in, or part of what is asked -/
def outR (f l a b : Int32) : Bool := decide (l < a) || decide (b < f)
def insR (f l a b : Int32) : Bool := decide (a ≤ f) && decide (l ≤ b)
def prt (f l a b : Int32) : Bool := !outR f l a b && !insR f l a b
theorem nlt_le {a b : Int32} : ¬ a < b ↔ b ≤ a := by
  rw [Int32.le_iff_toInt_le, Int32.lt_iff_toInt_lt]; omega
theorem isPart32 {K : Int32 → St → Prop} {u : St} (o i : Bool) (hK : K (bz (!o && !i)) u) : wp_X12_isPart_32 K (bz o) (bz i) u := by
  unfold wp_X12_isPart_32
  cases o <;> cases i <;> refine ⟨fun h => ?_, fun h => ⟨fun h2 => ?_, fun h2 => ?_⟩⟩ <;> first | exact hK | exact absurd rfl h | exact absurd h (by decide) | exact absurd rfl h2 | exact absurd h2 (by decide)
theorem isPart15 {K : Int32 → St → Prop} {u : St} {f l a b : Int32} (o : Bool) (hK : K (bz (!o && !insR f l a b)) u) : wp_X12_isPart_15 K f l a b (bz o) u := by
  unfold wp_X12_isPart_15
  refine ⟨fun h => ?_, fun h => ⟨fun h2 => ?_, fun h2 => ?_⟩⟩
  · have e : insR f l a b = false := by unfold insR; simp [nle_lt.mpr h]
    rw [e] at hK
    exact isPart32 o false hK
  · have e : insR f l a b = false := by unfold insR; simp [nle_lt.mpr h2]
    rw [e] at hK
    exact isPart32 o false hK
  · have e : insR f l a b = true := by unfold insR; simp [nlt_le.mp h, nlt_le.mp h2]
    rw [e] at hK
    exact isPart32 o true hK
theorem t_isPart {K : Int32 → St → Prop} {u : St} {f l a b : Int32} (hK : K (bz (prt f l a b)) u) : wp_X12_isPart u f l a b K := by
  unfold prt at hK
  unfold wp_X12_isPart
  refine ⟨fun h => ?_, fun h => ⟨fun h2 => ?_, fun h2 => ?_⟩⟩
  · have e : outR f l a b = true := by unfold outR; simp [h]
    rw [e] at hK
    exact isPart15 true hK
  · have e : outR f l a b = false := by unfold outR; simp [h, nlt_le.mpr h2]
    rw [e] at hK
    exact isPart15 false hK
  · have e : outR f l a b = true := by unfold outR; simp [nle_lt.mp h2]
    rw [e] at hK
    exact isPart15 true hK
