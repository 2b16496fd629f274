set_option maxRecDepth 100000
/-! ===== the law: rows ===== -/
theorem range'_get {α : Type} (w v : List α) : (List.range' w.length v.length).map (fun i => (w ++ v)[i]?) = v.map some := by
  apply List.ext_getElem?
  intro i
  rw [List.getElem?_map, List.getElem?_map]
  by_cases h : i < v.length
  · rw [List.getElem?_range' h, Option.map_some, List.getElem?_append_right (by omega), List.getElem?_eq_getElem h]
    simp [h]
  · rw [List.getElem?_eq_none (by rw [List.length_range']; omega), List.getElem?_eq_none (by omega)]; rfl
theorem Wd.comm {dC : Nat → ClassId} {dI : Nat → Nat → Nat} {A : Nat → Prop} {a b : va_W} {s : State} {H : Heap} {locs : List Loc} (h : Wd dC dI A (a ++ b) s H locs) : Wd dC dI A (b ++ a) s H locs := h.perm List.perm_append_comm
/-- the third block comes to the front, and back -/
theorem Wd.to3 {dC : Nat → ClassId} {dI : Nat → Nat → Nat} {A : Nat → Prop} {a b c : va_W} {s : State} {H : Heap} {locs : List Loc} (h : Wd dC dI A (a ++ (b ++ c)) s H locs) : Wd dC dI A (c ++ (a ++ b)) s H locs := by
  rw [← List.append_assoc] at h; exact h.comm
theorem Wd.of3 {dC : Nat → ClassId} {dI : Nat → Nat → Nat} {A : Nat → Prop} {a b c : va_W} {s : State} {H : Heap} {locs : List Loc} (h : Wd dC dI A (c ++ (a ++ b)) s H locs) : Wd dC dI A (a ++ (b ++ c)) s H locs := by
  have h := h.comm; rw [List.append_assoc] at h; exact h
theorem Wd.to2 {dC : Nat → ClassId} {dI : Nat → Nat → Nat} {A : Nat → Prop} {a b c : va_W} {s : State} {H : Heap} {locs : List Loc} (h : Wd dC dI A (a ++ (b ++ c)) s H locs) : Wd dC dI A ((a ++ b) ++ c) s H locs := by
  rw [List.append_assoc]; exact h
theorem Wd.of2 {dC : Nat → ClassId} {dI : Nat → Nat → Nat} {A : Nat → Prop} {a b c : va_W} {s : State} {H : Heap} {locs : List Loc} (h : Wd dC dI A ((a ++ b) ++ c) s H locs) : Wd dC dI A (a ++ (b ++ c)) s H locs := by
  rw [List.append_assoc] at h; exact h
section LR
variable {p : Program} {l : Launch} {e : Env} {R : Room} {s : State} {m : MethodId} {args : Array Value} {below : List Frame} {meth : Method} {c : Code} {H : Heap} {locs : List Loc} {cells slots : Nat} {Q : State → Prop}
variable {cc : ByteArray} {own : String} {nL : Nat} {ret : Option FieldType} {A : Nat → Prop} {dC : Nat → ClassId} {dI : Nat → Nat → Nat} {d : Nat → ClassId} {pc : Nat} {ls : Array Slot} {rest : List Value}
theorem l_pt {w wr : va_W} (hw : Wd dC dI A (w ++ wr) s H locs) : va_P (dC, dI) kCl w H ∧ va_D (fun _ => True) w := k_part (is := List.range w.length) hw (range_get w wr) (nd_range _)
theorem l_free (cx : Cx p s m args meth c cc own nL ret A dC dI d) {w wr : va_W} (hw : Wd dC dI A (w ++ wr) s H locs) : ∀ q : Nat, va_A w H.size q → A q := k_pfree cx hw (range_get w wr)
theorem l_back (cx : Cx p s m args meth c cc own nL ret A dC dI d) {w wr w' : va_W} (hw : Wd dC dI A (w ++ wr) s H locs) {H1 : Heap} {locs1 : List Loc} (hk : ∀ q : Nat, q < H.size → ¬ va_A w H.size q → H1[q]? = H[q]?) (hP1 : va_P (dC, dI) kCl w' H1) (hD1 : va_D (va_A w H.size) w') (hS : va_S A s.heap H1 locs1) : Wd dC dI A (w' ++ wr) s H1 locs1 := by
  obtain ⟨g1, g2⟩ := va_join hw.1 hw.2.1 (List.range w.length) (List.range' w.length wr.length) (range_get w wr) (range'_get w wr) (nd_range' _ _) (fun i hi hm => by
    rw [List.mem_range'_1] at hi; rw [List.mem_range] at hm; omega) hk (l_free cx hw) hP1 hD1
  exact Wd.comm ⟨g1, g2, hS⟩
theorem l_i {S : Type} (cx : Cx p s m args meth c cc own nL ret A dC dI d) {wf : S → va_W} {u : S} {K : Int32 → S → Prop} {wr : va_W} (hw : Wd dC dI A (wf u ++ wr) s H locs) {mc ms : Nat} {st0 : List Value} {a' : Array Value} (hr : va_Run p l e R s m args below meth c H locs cells slots mc ms (F0 m pc ls st0) rest (kQi dC dI wf K (va_A (wf u) H.size) a') (va_A (wf u) H.size))
    (kk : ∀ (r : Int32) (u : S) (H : Heap) (locs : List Loc), K r u → Wd dC dI A (wf u ++ wr) s H locs → W p l e R s m args below meth c H locs (cells + mc) (slots + ms) Q (F0 m (pc + 3) ls (.int r :: rest))) : W p l e R s m args below meth c H locs cells slots Q (F0 m pc ls st0) :=
  va_calli hr hw.2.2 (fun q _ h => l_free cx hw q h) (l_free cx hw) (fun r u' t H1 locs1 ht _ hK hB _ hk hS => kk r u' H1 locs1 hK (l_back cx hw hk (by rw [← ht]; exact hB.1) hB.2 hS))
theorem l_l {S : Type} (cx : Cx p s m args meth c cc own nL ret A dC dI d) {wf : S → va_W} {u : S} {K : Int64 → S → Prop} {wr : va_W} (hw : Wd dC dI A (wf u ++ wr) s H locs) {mc ms : Nat} {st0 : List Value} {a' : Array Value} (hr : va_Run p l e R s m args below meth c H locs cells slots mc ms (F0 m pc ls st0) rest (kQl dC dI wf K (va_A (wf u) H.size) a') (va_A (wf u) H.size))
    (kk : ∀ (r : Int64) (u : S) (H : Heap) (locs : List Loc), K r u → Wd dC dI A (wf u ++ wr) s H locs → W p l e R s m args below meth c H locs (cells + mc) (slots + ms) Q (F0 m (pc + 3) ls (.long r :: rest))) : W p l e R s m args below meth c H locs cells slots Q (F0 m pc ls st0) :=
  va_calll hr hw.2.2 (fun q _ h => l_free cx hw q h) (l_free cx hw) (fun r u' t H1 locs1 ht _ hK hB _ hk hS => kk r u' H1 locs1 hK (l_back cx hw hk (by rw [← ht]; exact hB.1) hB.2 hS))
theorem l_Ti {S : Type} (cx : Cx p s m args meth c cc own nL ret A dC dI d) {wf : S → va_W} {u : S} {K : Int32 → S → Prop} {E : Nat → S → Prop} {wr : va_W} (hw : Wd dC dI A (wf u ++ wr) s H locs) {mc ms : Nat} {st0 : List Value} {a' : Array Value} (hr : va_RunT p l e R s m args below meth c H locs cells slots mc ms (F0 m pc ls st0) rest (kXi dC dI wf K E (va_A (wf u) H.size) a') (va_A (wf u) H.size))
    (kk : ∀ (r : Int32) (u : S) (H : Heap) (locs : List Loc), K r u → Wd dC dI A (wf u ++ wr) s H locs → W p l e R s m args below meth c H locs (cells + mc) (slots + ms) Q (F0 m (pc + 3) ls (.int r :: rest)))
    (ke : ∀ (k : Nat) (u : S) (a : Nat) (H : Heap) (locs : List Loc), E k u → Wd dC dI A (wf u ++ wr) s H locs → xC dC k a H → WX p l e R s m args below meth c H locs (cells + mc) (slots + ms) Q (F0 m pc ls rest) a) : W p l e R s m args below meth c H locs cells slots Q (F0 m pc ls st0) :=
  va_callT hr hw.2.2 (fun q _ h => l_free cx hw q h) (l_free cx hw) (fun v u' t H1 locs1 ht hK hB hk hS => by
    obtain ⟨r, h1, h2⟩ := hK; cases h1
    exact kk r u' H1 locs1 h2 (l_back cx hw hk (by rw [← ht]; exact hB.1) hB.2 hS)) (fun k u' a t H1 locs1 ht hE hB hx hk hS => ke k u' a H1 locs1 hE (l_back cx hw hk (by rw [← ht]; exact hB.1) hB.2 hS) hx) (fun x u h => by obtain ⟨r, h, -⟩ := h; cases h)
theorem l_Tl {S : Type} (cx : Cx p s m args meth c cc own nL ret A dC dI d) {wf : S → va_W} {u : S} {K : Int64 → S → Prop} {E : Nat → S → Prop} {wr : va_W} (hw : Wd dC dI A (wf u ++ wr) s H locs) {mc ms : Nat} {st0 : List Value} {a' : Array Value} (hr : va_RunT p l e R s m args below meth c H locs cells slots mc ms (F0 m pc ls st0) rest (kXl dC dI wf K E (va_A (wf u) H.size) a') (va_A (wf u) H.size))
    (kk : ∀ (r : Int64) (u : S) (H : Heap) (locs : List Loc), K r u → Wd dC dI A (wf u ++ wr) s H locs → W p l e R s m args below meth c H locs (cells + mc) (slots + ms) Q (F0 m (pc + 3) ls (.long r :: rest)))
    (ke : ∀ (k : Nat) (u : S) (a : Nat) (H : Heap) (locs : List Loc), E k u → Wd dC dI A (wf u ++ wr) s H locs → xC dC k a H → WX p l e R s m args below meth c H locs (cells + mc) (slots + ms) Q (F0 m pc ls rest) a) : W p l e R s m args below meth c H locs cells slots Q (F0 m pc ls st0) :=
  va_callT hr hw.2.2 (fun q _ h => l_free cx hw q h) (l_free cx hw) (fun v u' t H1 locs1 ht hK hB hk hS => by
    obtain ⟨r, h1, h2⟩ := hK; cases h1
    exact kk r u' H1 locs1 h2 (l_back cx hw hk (by rw [← ht]; exact hB.1) hB.2 hS)) (fun k u' a t H1 locs1 ht hE hB hx hk hS => ke k u' a H1 locs1 hE (l_back cx hw hk (by rw [← ht]; exact hB.1) hB.2 hS) hx) (fun x u h => by obtain ⟨r, h, -⟩ := h; cases h)
/-- the array 'out' (one long): read and write, it stands behind a block -/
theorem l_outW (cx : Cx p s m args meth c cc own nL ret A dC dI d) {w : va_W} {g : Nat} {o : Nat → Int64} (hw : Wd dC dI A (w ++ [(g, .inl (d 2, 1, .inr (.inl o)))]) s H locs) {x : Int64} (hdg : decode cc pc = .ok (.lastore, 1))
    (kk : ∀ (H : Heap) (locs : List Loc), Wd dC dI A (w ++ [(g, .inl (d 2, 1, .inr (.inl (vp_updL o 0 x))))]) s H locs → W p l e R s m args below meth c H locs cells slots Q (F0 m (pc + 1) ls rest)) : W p l e R s m args below meth c H locs cells slots Q (F0 m pc ls (.long x :: .int (0 : Int32) :: .ref g :: rest)) :=
  va_last cx.1 cx.2.1 cx.2.2.2.2.2.1.1 hw.comm.1 hw.comm.2.1 hw.2.2 0 2 rfl rfl (by unfold vp_in; decide) hdg (fun H1 locs1 g1 g2 g3 => kk H1 locs1 (Wd.comm (a := [(g, .inl (d 2, 1, .inr (.inl (vp_updL o 0 x))))]) ⟨g1, g2, g3⟩))
theorem l_outR (cx : Cx p s m args meth c cc own nL ret A dC dI d) {w : va_W} {g : Nat} {o : Nat → Int64} (hw : Wd dC dI A ([(g, .inl (d 2, 1, .inr (.inl o)))] ++ w) s H locs) (hdg : decode cc pc = .ok (.laload, 1))
    (kk : W p l e R s m args below meth c H locs cells slots Q (F0 m (pc + 1) ls (.long (o 0) :: rest))) : W p l e R s m args below meth c H locs cells slots Q (F0 m pc ls (.int (0 : Int32) :: .ref g :: rest)) :=
  va_lald cx.1 cx.2.1 cx.2.2.2.2.2.1.1 hw.1 0 2 rfl rfl (i := 0) (by unfold vp_in; decide) hdg kk
end LR
def wLo (d : Nat → ClassId) (nh : Nat) (hh : Nat → Nat → Nat) (cf : List Value) (z : Nat → Nat → Nat) (g : Nat) (u : PS × (Nat → Int64)) : va_W := wP d nh hh cf z u.1 ++ [(g, .inl (d 2, 1, .inr (.inl u.2)))]
def wL (d : Nat → ClassId) (nh : Nat) (hh : Nat → Nat → Nat) (cf : List Value) (z : Nat → Nat → Nat) (g : Nat) (hm : Nat → Nat) (w : (PS × Bool) × (Nat → Int64) × St) : va_W := wPb d nh hh cf z w.1 ++ ([(g, .inl (d 2, 1, .inr (.inl w.2.1)))] ++ wM d hm w.2.2)

