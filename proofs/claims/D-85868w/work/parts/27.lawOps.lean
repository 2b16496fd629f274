set_option maxRecDepth 100000
set_option maxHeartbeats 4000000 in
theorem lw_op0 {p : Program} {l : Launch} {e : Env} {s : State} {m : MethodId} {args : Array Value} {below : List Frame} {meth : Method} {c : Code} {A : Nat → Prop} {dC : Nat → ClassId} {dI : Nat → Nat → Nat} {d : Nat → ClassId} {z : Nat → Nat → Nat} {hh : Nat → Nat → Nat} {cf : List Value} {nh : Nat} {g : Nat} {hm : Nat → Nat} {Q : State → Prop} {ret9 : Option FieldType} {b L : Nat} {xs : Nat → Int32} (cx : Cx p s m args meth c cL_law "PointLedgerLaw" 8 ret9 A dC dI d) (hlt : l.stackTraces = false) (hX : va_X b L xs s s.heap) (hbl : b < s.heap.size) (hbA : ¬ A b) (i : Int32) (hi1 : vp_in (i + (1 : Int32)) L) (hi2 : vp_in (i + (2 : Int32)) L) (hi3 : vp_in (i + (3 : Int32)) L) (w : (PS × Bool) × (Nat → Int64) × St) {K : (PS × Bool) × (Nat → Int64) × St → Prop} (hwp : wp_op0 nh (xs (i + (1 : Int32)).toNatClampNeg) (xs (i + (2 : Int32)).toNatClampNeg) (xs (i + (3 : Int32)).toNatClampNeg) w K) {H : Heap} {locs : List Loc} {ls : Array Slot} (hw : Wd dC dI A (wL d nh hh cf z g hm w) s H locs) (hl : lv_has ls 8 [(4, .int i), (3, .ref g), (2, .ref (hm 0)), (1, .ref (z 0 0)), (0, .ref b)]) {cells slots : Nat} (hR : cells + 20 ≤ 603072 ∧ slots + 700 ≤ 7206600)
    (kk : ∀ (w : (PS × Bool) × (Nat → Int64) × St) (H : Heap) (locs : List Loc) (ls : Array Slot), K w → Wd dC dI A (wL d nh hh cf z g hm w) s H locs → lv_has ls 8 [(4, .int i), (3, .ref g), (2, .ref (hm 0)), (1, .ref (z 0 0)), (0, .ref b)] → W p l e room_1 s m args below meth c H locs (cells + 20) (slots + 700) Q (F0 m 964 ls [])) : W p l e room_1 s m args below meth c H locs cells slots Q (F0 m 160 ls []) := by
  unfold wp_op0 at hwp
  replace hw : Wd dC dI A (wPb d nh hh cf z w.1 ++ ([(g, .inl (d 2, 1, .inr (.inl w.2.1)))] ++ wM d hm w.2.2)) s H locs := hw
  refine lv_aload_n (pc := 160) cx.1 cx.2.1 dL_law_160 rfl (lv_at hl 3 rfl) ?_
  refine lv_aload_n (pc := 161) cx.1 cx.2.1 dL_law_161 rfl (lv_at hl 4 rfl) ?_
  refine lv_iload (pc := 162) cx.1 cx.2.1 dL_law_162 (lv_at hl 0 rfl) ?_
  refine lv_iconst (pc := 164) (v := 1) cx.1 cx.2.1 dL_law_164 (by decide) ?_
  refine lv_iadd (pc := 165) cx.1 cx.2.1 dL_law_165 ?_
  refine va_sld (pc := 166) cx.1 cx.2.1 hX hbl hbA hw.2.2 hi1 dL_law_166 ?_
  refine lv_aload_n (pc := 167) cx.1 cx.2.1 dL_law_167 rfl (lv_at hl 4 rfl) ?_
  refine lv_iload (pc := 168) cx.1 cx.2.1 dL_law_168 (lv_at hl 0 rfl) ?_
  refine lv_iconst (pc := 170) (v := 2) cx.1 cx.2.1 dL_law_170 (by decide) ?_
  refine lv_iadd (pc := 171) cx.1 cx.2.1 dL_law_171 ?_
  refine va_sld (pc := 172) cx.1 cx.2.1 hX hbl hbA hw.2.2 hi2 dL_law_172 ?_
  refine lv_aload_n (pc := 173) cx.1 cx.2.1 dL_law_173 rfl (lv_at hl 4 rfl) ?_
  refine lv_iload (pc := 174) cx.1 cx.2.1 dL_law_174 (lv_at hl 0 rfl) ?_
  refine lv_iconst (pc := 176) (v := 3) cx.1 cx.2.1 dL_law_176 (by decide) ?_
  refine lv_iadd (pc := 177) cx.1 cx.2.1 dL_law_177 ?_
  refine va_sld (pc := 178) cx.1 cx.2.1 hX hbl hbA hw.2.2 hi3 dL_law_178 ?_
  have hpt := l_pt hw
  refine l_i (pc := 179) (wf := wP d nh hh cf (sw_A w.1.2 z)) (u := w.1.1) cx hw (k_runVW (pc := 179) (rest := []) (As := [.int (xs (i + (1 : Int32)).toNatClampNeg), .int (xs (i + (2 : Int32)).toNatClampNeg), .int (xs (i + (3 : Int32)).toNatClampNeg)]) cx hpt.1 hpt.2 hw.2.2 (k_recv cx hw 0 (ci := 0) (q := (RX1, TX1, 21)) rfl rfl) (m_X1_append l hlt dC dI d (sw_A w.1.2 z) hh cf nh w.1.1 (xs (i + (1 : Int32)).toNatClampNeg) (xs (i + (2 : Int32)).toNatClampNeg) (xs (i + (3 : Int32)).toNatClampNeg) hwp H.size) (k_cwVW 3 cx.2.2.2.2.1 (lw_VW q543 q544 q545 q75 q546) rfl rfl rfl hdV_X1_append ⟨Nat.le_of_ble_eq_true rfl, Nat.le_of_ble_eq_true rfl⟩) rfl hl.1 rfl (Nat.le_of_ble_eq_true rfl) dL_law_179 ⟨by show cells + 3 ≤ 603072; have := hR.1; omega, by show slots + 300 ≤ 7206600; have := hR.2; omega⟩) (fun r1 u2 H locs hwp hw => ?_)
  clear hpt
  replace hw : Wd dC dI A (wPb d nh hh cf z (u2, w.1.2) ++ ([(g, .inl (d 2, 1, .inr (.inl w.2.1)))] ++ wM d hm w.2.2)) s H locs := hw
  refine lv_aload_n (pc := 182) cx.1 cx.2.1 dL_law_182 rfl (lv_at hl 2 rfl) ?_
  refine lv_aload_n (pc := 183) cx.1 cx.2.1 dL_law_183 rfl (lv_at hl 4 rfl) ?_
  refine lv_iload (pc := 184) cx.1 cx.2.1 dL_law_184 (lv_at hl 0 rfl) ?_
  refine lv_iconst (pc := 186) (v := 1) cx.1 cx.2.1 dL_law_186 (by decide) ?_
  refine lv_iadd (pc := 187) cx.1 cx.2.1 dL_law_187 ?_
  refine va_sld (pc := 188) cx.1 cx.2.1 hX hbl hbA hw.2.2 hi1 dL_law_188 ?_
  refine lv_aload_n (pc := 189) cx.1 cx.2.1 dL_law_189 rfl (lv_at hl 4 rfl) ?_
  refine lv_iload (pc := 190) cx.1 cx.2.1 dL_law_190 (lv_at hl 0 rfl) ?_
  refine lv_iconst (pc := 192) (v := 2) cx.1 cx.2.1 dL_law_192 (by decide) ?_
  refine lv_iadd (pc := 193) cx.1 cx.2.1 dL_law_193 ?_
  refine va_sld (pc := 194) cx.1 cx.2.1 hX hbl hbA hw.2.2 hi2 dL_law_194 ?_
  refine lv_aload_n (pc := 195) cx.1 cx.2.1 dL_law_195 rfl (lv_at hl 4 rfl) ?_
  refine lv_iload (pc := 196) cx.1 cx.2.1 dL_law_196 (lv_at hl 0 rfl) ?_
  refine lv_iconst (pc := 198) (v := 3) cx.1 cx.2.1 dL_law_198 (by decide) ?_
  refine lv_iadd (pc := 199) cx.1 cx.2.1 dL_law_199 ?_
  refine va_sld (pc := 200) cx.1 cx.2.1 hX hbl hbA hw.2.2 hi3 dL_law_200 ?_
  replace hw := hw.to3
  have hpt := l_pt hw
  refine l_i (pc := 201) (wf := wM d hm) (u := w.2.2) cx hw (k_runV (pc := 201) (rest := [.int r1]) (As := [.int (xs (i + (1 : Int32)).toNatClampNeg), .int (xs (i + (2 : Int32)).toNatClampNeg), .int (xs (i + (3 : Int32)).toNatClampNeg)]) cx hpt.1 hpt.2 hw.2.2 (k_recv cx hw 0 (ci := 10) (q := (RX12, TX12, 40)) rfl rfl) (m_X12_append l dC dI d hm w.2.2 (xs (i + (1 : Int32)).toNatClampNeg) (xs (i + (2 : Int32)).toNatClampNeg) (xs (i + (3 : Int32)).toNatClampNeg) hwp H.size) (cwV 3 cx.2.2.2.2.1 (lw_V q1102 q1103 q1104 q89 q1105) rfl rfl rfl hdV_X12_append ⟨Nat.le_of_ble_eq_true rfl, Nat.le_of_ble_eq_true rfl⟩) rfl hl.1 rfl (Nat.le_of_ble_eq_true rfl) dL_law_201 ⟨by show cells + 3 + 0 ≤ 603072; have := hR.1; omega, by show slots + 300 + 0 ≤ 7206600; have := hR.2; omega⟩) (fun r3 v4 H locs hwp hw => ?_)
  clear hpt
  replace hw := hw.of3
  refine lv_icmp_eq (pc := 204) (tgt := 964) cx.1 cx.2.1 dL_law_204 (by decide) (fun c9 => ?_) (fun c9 => absurd hwp.1 c9)
  replace hwp := hwp.2
  exact W.widen (show cells + 3 + 0 ≤ cells + 20 by omega) (show slots + 300 + 0 ≤ slots + 700 by omega) (kk ((u2, w.1.2), w.2.1, v4) H locs ls hwp hw (lv_sub hl [0, 1, 2, 3, 4] rfl))
set_option maxHeartbeats 4000000 in
theorem lw_op1 {p : Program} {l : Launch} {e : Env} {s : State} {m : MethodId} {args : Array Value} {below : List Frame} {meth : Method} {c : Code} {A : Nat → Prop} {dC : Nat → ClassId} {dI : Nat → Nat → Nat} {d : Nat → ClassId} {z : Nat → Nat → Nat} {hh : Nat → Nat → Nat} {cf : List Value} {nh : Nat} {g : Nat} {hm : Nat → Nat} {Q : State → Prop} {ret9 : Option FieldType} {b L : Nat} {xs : Nat → Int32} (cx : Cx p s m args meth c cL_law "PointLedgerLaw" 8 ret9 A dC dI d) (hlt : l.stackTraces = false) (hX : va_X b L xs s s.heap) (hbl : b < s.heap.size) (hbA : ¬ A b) (i : Int32) (hi1 : vp_in (i + (1 : Int32)) L) (hi2 : vp_in (i + (2 : Int32)) L) (hi3 : vp_in (i + (3 : Int32)) L) (w : (PS × Bool) × (Nat → Int64) × St) {K : (PS × Bool) × (Nat → Int64) × St → Prop} (hwp : wp_op1 nh (xs (i + (1 : Int32)).toNatClampNeg) (xs (i + (2 : Int32)).toNatClampNeg) (xs (i + (3 : Int32)).toNatClampNeg) w K) {H : Heap} {locs : List Loc} {ls : Array Slot} (hw : Wd dC dI A (wL d nh hh cf z g hm w) s H locs) (hl : lv_has ls 8 [(4, .int i), (3, .ref g), (2, .ref (hm 0)), (1, .ref (z 0 0)), (0, .ref b)]) {cells slots : Nat} (hR : cells + 20 ≤ 603072 ∧ slots + 700 ≤ 7206600)
    (kk : ∀ (w : (PS × Bool) × (Nat → Int64) × St) (H : Heap) (locs : List Loc) (ls : Array Slot), K w → Wd dC dI A (wL d nh hh cf z g hm w) s H locs → lv_has ls 8 [(4, .int i), (3, .ref g), (2, .ref (hm 0)), (1, .ref (z 0 0)), (0, .ref b)] → W p l e room_1 s m args below meth c H locs (cells + 20) (slots + 700) Q (F0 m 964 ls [])) : W p l e room_1 s m args below meth c H locs cells slots Q (F0 m 209 ls []) := by
  unfold wp_op1 at hwp
  replace hw : Wd dC dI A (wPb d nh hh cf z w.1 ++ ([(g, .inl (d 2, 1, .inr (.inl w.2.1)))] ++ wM d hm w.2.2)) s H locs := hw
  refine lv_aload_n (pc := 209) cx.1 cx.2.1 dL_law_209 rfl (lv_at hl 3 rfl) ?_
  have hpt := l_pt hw
  refine l_i (pc := 210) (wf := wPb d nh hh cf z) (u := w.1) cx hw (k_runV (pc := 210) (rest := []) (As := []) cx hpt.1 hpt.2 hw.2.2 (k_recv cx hw 0 (ci := 0) (q := (RX1, TX1, 21)) rfl rfl) (m_X1_flush l dC dI d z hh cf nh w.1  hwp H.size) (cwV 0 cx.2.2.2.2.1 (lw_V q602 q603 q604 q75 q605) rfl rfl rfl hdV_X1_flush ⟨Nat.le_of_ble_eq_true rfl, Nat.le_of_ble_eq_true rfl⟩) rfl hl.1 rfl (Nat.le_of_ble_eq_true rfl) dL_law_210 ⟨by show cells + 0 ≤ 603072; have := hR.1; omega, by show slots + 0 ≤ 7206600; have := hR.2; omega⟩) (fun r1 u2 H locs hwp hw => ?_)
  clear hpt
  replace hw : Wd dC dI A (wPb d nh hh cf z u2 ++ ([(g, .inl (d 2, 1, .inr (.inl w.2.1)))] ++ wM d hm w.2.2)) s H locs := hw
  refine lv_aload_n (pc := 213) cx.1 cx.2.1 dL_law_213 rfl (lv_at hl 2 rfl) ?_
  replace hw := hw.to3
  have hpt := l_pt hw
  refine l_i (pc := 214) (wf := wM d hm) (u := w.2.2) cx hw (k_runV (pc := 214) (rest := [.int r1]) (As := []) cx hpt.1 hpt.2 hw.2.2 (k_recv cx hw 0 (ci := 10) (q := (RX12, TX12, 40)) rfl rfl) (m_X12_flush l dC dI d hm w.2.2  hwp H.size) (cwV 0 cx.2.2.2.2.1 (lw_V q1122 q1123 q1124 q89 q1125) rfl rfl rfl hdV_X12_flush ⟨Nat.le_of_ble_eq_true rfl, Nat.le_of_ble_eq_true rfl⟩) rfl hl.1 rfl (Nat.le_of_ble_eq_true rfl) dL_law_214 ⟨by show cells + 0 + 0 ≤ 603072; have := hR.1; omega, by show slots + 0 + 0 ≤ 7206600; have := hR.2; omega⟩) (fun r3 v4 H locs hwp hw => ?_)
  clear hpt
  replace hw := hw.of3
  refine lv_icmp_eq (pc := 217) (tgt := 964) cx.1 cx.2.1 dL_law_217 (by decide) (fun c9 => ?_) (fun c9 => absurd hwp.1 c9)
  replace hwp := hwp.2
  exact W.widen (show cells + 0 + 0 ≤ cells + 20 by omega) (show slots + 0 + 0 ≤ slots + 700 by omega) (kk (u2, w.2.1, v4) H locs ls hwp hw (lv_sub hl [0, 1, 2, 3, 4] rfl))
set_option maxHeartbeats 4000000 in
theorem lw_op2 {p : Program} {l : Launch} {e : Env} {s : State} {m : MethodId} {args : Array Value} {below : List Frame} {meth : Method} {c : Code} {A : Nat → Prop} {dC : Nat → ClassId} {dI : Nat → Nat → Nat} {d : Nat → ClassId} {z : Nat → Nat → Nat} {hh : Nat → Nat → Nat} {cf : List Value} {nh : Nat} {g : Nat} {hm : Nat → Nat} {Q : State → Prop} {ret9 : Option FieldType} {b L : Nat} {xs : Nat → Int32} (cx : Cx p s m args meth c cL_law "PointLedgerLaw" 8 ret9 A dC dI d) (hlt : l.stackTraces = false) (hX : va_X b L xs s s.heap) (hbl : b < s.heap.size) (hbA : ¬ A b) (i : Int32) (hi1 : vp_in (i + (1 : Int32)) L) (hi2 : vp_in (i + (2 : Int32)) L) (hi3 : vp_in (i + (3 : Int32)) L) (w : (PS × Bool) × (Nat → Int64) × St) {K : (PS × Bool) × (Nat → Int64) × St → Prop} (hwp : wp_op2 nh (xs (i + (1 : Int32)).toNatClampNeg) (xs (i + (2 : Int32)).toNatClampNeg) (xs (i + (3 : Int32)).toNatClampNeg) w K) {H : Heap} {locs : List Loc} {ls : Array Slot} (hw : Wd dC dI A (wL d nh hh cf z g hm w) s H locs) (hl : lv_has ls 8 [(4, .int i), (3, .ref g), (2, .ref (hm 0)), (1, .ref (z 0 0)), (0, .ref b)]) {cells slots : Nat} (hR : cells + 20 ≤ 603072 ∧ slots + 700 ≤ 7206600)
    (kk : ∀ (w : (PS × Bool) × (Nat → Int64) × St) (H : Heap) (locs : List Loc) (ls : Array Slot), K w → Wd dC dI A (wL d nh hh cf z g hm w) s H locs → lv_has ls 8 [(4, .int i), (3, .ref g), (2, .ref (hm 0)), (1, .ref (z 0 0)), (0, .ref b)] → W p l e room_1 s m args below meth c H locs (cells + 20) (slots + 700) Q (F0 m 964 ls [])) : W p l e room_1 s m args below meth c H locs cells slots Q (F0 m 222 ls []) := by
  unfold wp_op2 at hwp
  replace hw : Wd dC dI A (wPb d nh hh cf z w.1 ++ ([(g, .inl (d 2, 1, .inr (.inl w.2.1)))] ++ wM d hm w.2.2)) s H locs := hw
  refine lv_aload_n (pc := 222) cx.1 cx.2.1 dL_law_222 rfl (lv_at hl 3 rfl) ?_
  refine lv_aload_n (pc := 223) cx.1 cx.2.1 dL_law_223 rfl (lv_at hl 4 rfl) ?_
  refine lv_iload (pc := 224) cx.1 cx.2.1 dL_law_224 (lv_at hl 0 rfl) ?_
  refine lv_iconst (pc := 226) (v := 1) cx.1 cx.2.1 dL_law_226 (by decide) ?_
  refine lv_iadd (pc := 227) cx.1 cx.2.1 dL_law_227 ?_
  refine va_sld (pc := 228) cx.1 cx.2.1 hX hbl hbA hw.2.2 hi1 dL_law_228 ?_
  have hpt := l_pt hw
  refine l_i (pc := 229) (wf := wPb d nh hh cf z) (u := w.1) cx hw (k_runV (pc := 229) (rest := []) (As := [.int (xs (i + (1 : Int32)).toNatClampNeg)]) cx hpt.1 hpt.2 hw.2.2 (k_recv cx hw 0 (ci := 0) (q := (RX1, TX1, 21)) rfl rfl) (m_X1_compact l hlt dC dI d z hh cf nh w.1 (xs (i + (1 : Int32)).toNatClampNeg) hwp H.size) (cwV 1 cx.2.2.2.2.1 (lw_V q697 q698 q699 q75 q700) rfl rfl rfl hdV_X1_compact ⟨Nat.le_of_ble_eq_true rfl, Nat.le_of_ble_eq_true rfl⟩) rfl hl.1 rfl (Nat.le_of_ble_eq_true rfl) dL_law_229 ⟨by show cells + 3 ≤ 603072; have := hR.1; omega, by show slots + 300 ≤ 7206600; have := hR.2; omega⟩) (fun r1 u2 H locs hwp hw => ?_)
  clear hpt
  replace hw : Wd dC dI A (wPb d nh hh cf z u2 ++ ([(g, .inl (d 2, 1, .inr (.inl w.2.1)))] ++ wM d hm w.2.2)) s H locs := hw
  refine lv_aload_n (pc := 232) cx.1 cx.2.1 dL_law_232 rfl (lv_at hl 2 rfl) ?_
  refine lv_aload_n (pc := 233) cx.1 cx.2.1 dL_law_233 rfl (lv_at hl 4 rfl) ?_
  refine lv_iload (pc := 234) cx.1 cx.2.1 dL_law_234 (lv_at hl 0 rfl) ?_
  refine lv_iconst (pc := 236) (v := 1) cx.1 cx.2.1 dL_law_236 (by decide) ?_
  refine lv_iadd (pc := 237) cx.1 cx.2.1 dL_law_237 ?_
  refine va_sld (pc := 238) cx.1 cx.2.1 hX hbl hbA hw.2.2 hi1 dL_law_238 ?_
  replace hw := hw.to3
  have hpt := l_pt hw
  refine l_i (pc := 239) (wf := wM d hm) (u := w.2.2) cx hw (k_runV (pc := 239) (rest := [.int r1]) (As := [.int (xs (i + (1 : Int32)).toNatClampNeg)]) cx hpt.1 hpt.2 hw.2.2 (k_recv cx hw 0 (ci := 10) (q := (RX12, TX12, 40)) rfl rfl) (m_X12_compact l dC dI d hm w.2.2 (xs (i + (1 : Int32)).toNatClampNeg) hwp H.size) (cwV 1 cx.2.2.2.2.1 (lw_V q1227 q1228 q1229 q89 q1230) rfl rfl rfl hdV_X12_compact ⟨Nat.le_of_ble_eq_true rfl, Nat.le_of_ble_eq_true rfl⟩) rfl hl.1 rfl (Nat.le_of_ble_eq_true rfl) dL_law_239 ⟨by show cells + 3 + 0 ≤ 603072; have := hR.1; omega, by show slots + 300 + 0 ≤ 7206600; have := hR.2; omega⟩) (fun r3 v4 H locs hwp hw => ?_)
  clear hpt
  replace hw := hw.of3
  refine lv_icmp_eq (pc := 242) (tgt := 964) cx.1 cx.2.1 dL_law_242 (by decide) (fun c9 => ?_) (fun c9 => absurd hwp.1 c9)
  replace hwp := hwp.2
  exact W.widen (show cells + 3 + 0 ≤ cells + 20 by omega) (show slots + 300 + 0 ≤ slots + 700 by omega) (kk (u2, w.2.1, v4) H locs ls hwp hw (lv_sub hl [0, 1, 2, 3, 4] rfl))
set_option maxHeartbeats 4000000 in
theorem lw_op3 {p : Program} {l : Launch} {e : Env} {s : State} {m : MethodId} {args : Array Value} {below : List Frame} {meth : Method} {c : Code} {A : Nat → Prop} {dC : Nat → ClassId} {dI : Nat → Nat → Nat} {d : Nat → ClassId} {z : Nat → Nat → Nat} {hh : Nat → Nat → Nat} {cf : List Value} {nh : Nat} {g : Nat} {hm : Nat → Nat} {Q : State → Prop} {ret9 : Option FieldType} {b L : Nat} {xs : Nat → Int32} (cx : Cx p s m args meth c cL_law "PointLedgerLaw" 8 ret9 A dC dI d) (hlt : l.stackTraces = false) (hX : va_X b L xs s s.heap) (hbl : b < s.heap.size) (hbA : ¬ A b) (i : Int32) (hi1 : vp_in (i + (1 : Int32)) L) (hi2 : vp_in (i + (2 : Int32)) L) (hi3 : vp_in (i + (3 : Int32)) L) (w : (PS × Bool) × (Nat → Int64) × St) {K : (PS × Bool) × (Nat → Int64) × St → Prop} (hwp : wp_op3 nh (xs (i + (1 : Int32)).toNatClampNeg) (xs (i + (2 : Int32)).toNatClampNeg) (xs (i + (3 : Int32)).toNatClampNeg) w K) {H : Heap} {locs : List Loc} {ls : Array Slot} (hw : Wd dC dI A (wL d nh hh cf z g hm w) s H locs) (hl : lv_has ls 8 [(4, .int i), (3, .ref g), (2, .ref (hm 0)), (1, .ref (z 0 0)), (0, .ref b)]) {cells slots : Nat} (hR : cells + 20 ≤ 603072 ∧ slots + 700 ≤ 7206600)
    (kk : ∀ (w : (PS × Bool) × (Nat → Int64) × St) (H : Heap) (locs : List Loc) (ls : Array Slot), K w → Wd dC dI A (wL d nh hh cf z g hm w) s H locs → lv_has ls 8 [(4, .int i), (3, .ref g), (2, .ref (hm 0)), (1, .ref (z 0 0)), (0, .ref b)] → W p l e room_1 s m args below meth c H locs (cells + 20) (slots + 700) Q (F0 m 964 ls [])) : W p l e room_1 s m args below meth c H locs cells slots Q (F0 m 247 ls []) := by
  unfold wp_op3 at hwp
  replace hw : Wd dC dI A (wPb d nh hh cf z w.1 ++ ([(g, .inl (d 2, 1, .inr (.inl w.2.1)))] ++ wM d hm w.2.2)) s H locs := hw
  refine lv_aload_n (pc := 247) cx.1 cx.2.1 dL_law_247 rfl (lv_at hl 3 rfl) ?_
  refine lv_aload_n (pc := 248) cx.1 cx.2.1 dL_law_248 rfl (lv_at hl 4 rfl) ?_
  refine lv_iload (pc := 249) cx.1 cx.2.1 dL_law_249 (lv_at hl 0 rfl) ?_
  refine lv_iconst (pc := 251) (v := 1) cx.1 cx.2.1 dL_law_251 (by decide) ?_
  refine lv_iadd (pc := 252) cx.1 cx.2.1 dL_law_252 ?_
  refine va_sld (pc := 253) cx.1 cx.2.1 hX hbl hbA hw.2.2 hi1 dL_law_253 ?_
  have hpt := l_pt hw
  refine l_i (pc := 254) (wf := wPb d nh hh cf z) (u := w.1) cx hw (k_runV (pc := 254) (rest := []) (As := [.int (xs (i + (1 : Int32)).toNatClampNeg)]) cx hpt.1 hpt.2 hw.2.2 (k_recv cx hw 0 (ci := 0) (q := (RX1, TX1, 21)) rfl rfl) (m_X1_expire l dC dI d z hh cf nh w.1 (xs (i + (1 : Int32)).toNatClampNeg) hwp H.size) (cwV 1 cx.2.2.2.2.1 (lw_V q737 q738 q739 q75 q740) rfl rfl rfl hdV_X1_expire ⟨Nat.le_of_ble_eq_true rfl, Nat.le_of_ble_eq_true rfl⟩) rfl hl.1 rfl (Nat.le_of_ble_eq_true rfl) dL_law_254 ⟨by show cells + 0 ≤ 603072; have := hR.1; omega, by show slots + 0 ≤ 7206600; have := hR.2; omega⟩) (fun r1 u2 H locs hwp hw => ?_)
  clear hpt
  replace hw : Wd dC dI A (wPb d nh hh cf z u2 ++ ([(g, .inl (d 2, 1, .inr (.inl w.2.1)))] ++ wM d hm w.2.2)) s H locs := hw
  refine lv_aload_n (pc := 257) cx.1 cx.2.1 dL_law_257 rfl (lv_at hl 2 rfl) ?_
  refine lv_aload_n (pc := 258) cx.1 cx.2.1 dL_law_258 rfl (lv_at hl 4 rfl) ?_
  refine lv_iload (pc := 259) cx.1 cx.2.1 dL_law_259 (lv_at hl 0 rfl) ?_
  refine lv_iconst (pc := 261) (v := 1) cx.1 cx.2.1 dL_law_261 (by decide) ?_
  refine lv_iadd (pc := 262) cx.1 cx.2.1 dL_law_262 ?_
  refine va_sld (pc := 263) cx.1 cx.2.1 hX hbl hbA hw.2.2 hi1 dL_law_263 ?_
  replace hw := hw.to3
  have hpt := l_pt hw
  refine l_i (pc := 264) (wf := wM d hm) (u := w.2.2) cx hw (k_runV (pc := 264) (rest := [.int r1]) (As := [.int (xs (i + (1 : Int32)).toNatClampNeg)]) cx hpt.1 hpt.2 hw.2.2 (k_recv cx hw 0 (ci := 10) (q := (RX12, TX12, 40)) rfl rfl) (m_X12_expire l dC dI d hm w.2.2 (xs (i + (1 : Int32)).toNatClampNeg) hwp H.size) (cwV 1 cx.2.2.2.2.1 (lw_V q1239 q1240 q1241 q89 q1242) rfl rfl rfl hdV_X12_expire ⟨Nat.le_of_ble_eq_true rfl, Nat.le_of_ble_eq_true rfl⟩) rfl hl.1 rfl (Nat.le_of_ble_eq_true rfl) dL_law_264 ⟨by show cells + 0 + 0 ≤ 603072; have := hR.1; omega, by show slots + 0 + 0 ≤ 7206600; have := hR.2; omega⟩) (fun r3 v4 H locs hwp hw => ?_)
  clear hpt
  replace hw := hw.of3
  refine lv_icmp_eq (pc := 267) (tgt := 964) cx.1 cx.2.1 dL_law_267 (by decide) (fun c9 => ?_) (fun c9 => absurd hwp.1 c9)
  replace hwp := hwp.2
  exact W.widen (show cells + 0 + 0 ≤ cells + 20 by omega) (show slots + 0 + 0 ≤ slots + 700 by omega) (kk (u2, w.2.1, v4) H locs ls hwp hw (lv_sub hl [0, 1, 2, 3, 4] rfl))
set_option maxHeartbeats 4000000 in
theorem lw_op4 {p : Program} {l : Launch} {e : Env} {s : State} {m : MethodId} {args : Array Value} {below : List Frame} {meth : Method} {c : Code} {A : Nat → Prop} {dC : Nat → ClassId} {dI : Nat → Nat → Nat} {d : Nat → ClassId} {z : Nat → Nat → Nat} {hh : Nat → Nat → Nat} {cf : List Value} {nh : Nat} {g : Nat} {hm : Nat → Nat} {Q : State → Prop} {ret9 : Option FieldType} {b L : Nat} {xs : Nat → Int32} (cx : Cx p s m args meth c cL_law "PointLedgerLaw" 8 ret9 A dC dI d) (hlt : l.stackTraces = false) (hX : va_X b L xs s s.heap) (hbl : b < s.heap.size) (hbA : ¬ A b) (i : Int32) (hi1 : vp_in (i + (1 : Int32)) L) (hi2 : vp_in (i + (2 : Int32)) L) (hi3 : vp_in (i + (3 : Int32)) L) (w : (PS × Bool) × (Nat → Int64) × St) {K : (PS × Bool) × (Nat → Int64) × St → Prop} (hwp : wp_op4 nh (xs (i + (1 : Int32)).toNatClampNeg) (xs (i + (2 : Int32)).toNatClampNeg) (xs (i + (3 : Int32)).toNatClampNeg) w K) {H : Heap} {locs : List Loc} {ls : Array Slot} (hw : Wd dC dI A (wL d nh hh cf z g hm w) s H locs) (hl : lv_has ls 8 [(4, .int i), (3, .ref g), (2, .ref (hm 0)), (1, .ref (z 0 0)), (0, .ref b)]) {cells slots : Nat} (hR : cells + 20 ≤ 603072 ∧ slots + 700 ≤ 7206600)
    (kk : ∀ (w : (PS × Bool) × (Nat → Int64) × St) (H : Heap) (locs : List Loc) (ls : Array Slot), K w → Wd dC dI A (wL d nh hh cf z g hm w) s H locs → lv_has ls 8 [(4, .int i), (3, .ref g), (2, .ref (hm 0)), (1, .ref (z 0 0)), (0, .ref b)] → W p l e room_1 s m args below meth c H locs (cells + 20) (slots + 700) Q (F0 m 964 ls [])) : W p l e room_1 s m args below meth c H locs cells slots Q (F0 m 272 ls []) := by
  unfold wp_op4 at hwp
  replace hw : Wd dC dI A (wPb d nh hh cf z w.1 ++ ([(g, .inl (d 2, 1, .inr (.inl w.2.1)))] ++ wM d hm w.2.2)) s H locs := hw
  refine lv_aload_n (pc := 272) cx.1 cx.2.1 dL_law_272 rfl (lv_at hl 3 rfl) ?_
  refine lv_aload_n (pc := 273) cx.1 cx.2.1 dL_law_273 rfl (lv_at hl 4 rfl) ?_
  refine lv_iload (pc := 274) cx.1 cx.2.1 dL_law_274 (lv_at hl 0 rfl) ?_
  refine lv_iconst (pc := 276) (v := 1) cx.1 cx.2.1 dL_law_276 (by decide) ?_
  refine lv_iadd (pc := 277) cx.1 cx.2.1 dL_law_277 ?_
  refine va_sld (pc := 278) cx.1 cx.2.1 hX hbl hbA hw.2.2 hi1 dL_law_278 ?_
  refine lv_aload_n (pc := 279) cx.1 cx.2.1 dL_law_279 rfl (lv_at hl 4 rfl) ?_
  refine lv_iload (pc := 280) cx.1 cx.2.1 dL_law_280 (lv_at hl 0 rfl) ?_
  refine lv_iconst (pc := 282) (v := 2) cx.1 cx.2.1 dL_law_282 (by decide) ?_
  refine lv_iadd (pc := 283) cx.1 cx.2.1 dL_law_283 ?_
  refine va_sld (pc := 284) cx.1 cx.2.1 hX hbl hbA hw.2.2 hi2 dL_law_284 ?_
  refine lv_aload_n (pc := 285) cx.1 cx.2.1 dL_law_285 rfl (lv_at hl 4 rfl) ?_
  refine lv_iload (pc := 286) cx.1 cx.2.1 dL_law_286 (lv_at hl 0 rfl) ?_
  refine lv_iconst (pc := 288) (v := 3) cx.1 cx.2.1 dL_law_288 (by decide) ?_
  refine lv_iadd (pc := 289) cx.1 cx.2.1 dL_law_289 ?_
  refine va_sld (pc := 290) cx.1 cx.2.1 hX hbl hbA hw.2.2 hi3 dL_law_290 ?_
  have hpt := l_pt hw
  refine l_i (pc := 291) (wf := wP d nh hh cf (sw_A w.1.2 z)) (u := w.1.1) cx hw (k_runV (pc := 291) (rest := []) (As := [.int (xs (i + (1 : Int32)).toNatClampNeg), .int (xs (i + (2 : Int32)).toNatClampNeg), .int (xs (i + (3 : Int32)).toNatClampNeg)]) cx hpt.1 hpt.2 hw.2.2 (k_recv cx hw 0 (ci := 0) (q := (RX1, TX1, 21)) rfl rfl) (m_X1_seek l hlt dC dI d (sw_A w.1.2 z) hh cf nh w.1.1 (xs (i + (1 : Int32)).toNatClampNeg) (xs (i + (2 : Int32)).toNatClampNeg) (xs (i + (3 : Int32)).toNatClampNeg) hwp H.size) (cwV 3 cx.2.2.2.2.1 (lw_V q775 q776 q777 q75 q778) rfl rfl rfl hdV_X1_seek ⟨Nat.le_of_ble_eq_true rfl, Nat.le_of_ble_eq_true rfl⟩) rfl hl.1 rfl (Nat.le_of_ble_eq_true rfl) dL_law_291 ⟨by show cells + 3 ≤ 603072; have := hR.1; omega, by show slots + 300 ≤ 7206600; have := hR.2; omega⟩) (fun r1 u2 H locs hwp hw => ?_)
  clear hpt
  replace hw : Wd dC dI A (wPb d nh hh cf z (u2, w.1.2) ++ ([(g, .inl (d 2, 1, .inr (.inl w.2.1)))] ++ wM d hm w.2.2)) s H locs := hw
  refine lv_aload_n (pc := 294) cx.1 cx.2.1 dL_law_294 rfl (lv_at hl 2 rfl) ?_
  refine lv_aload_n (pc := 295) cx.1 cx.2.1 dL_law_295 rfl (lv_at hl 4 rfl) ?_
  refine lv_iload (pc := 296) cx.1 cx.2.1 dL_law_296 (lv_at hl 0 rfl) ?_
  refine lv_iconst (pc := 298) (v := 1) cx.1 cx.2.1 dL_law_298 (by decide) ?_
  refine lv_iadd (pc := 299) cx.1 cx.2.1 dL_law_299 ?_
  refine va_sld (pc := 300) cx.1 cx.2.1 hX hbl hbA hw.2.2 hi1 dL_law_300 ?_
  refine lv_aload_n (pc := 301) cx.1 cx.2.1 dL_law_301 rfl (lv_at hl 4 rfl) ?_
  refine lv_iload (pc := 302) cx.1 cx.2.1 dL_law_302 (lv_at hl 0 rfl) ?_
  refine lv_iconst (pc := 304) (v := 2) cx.1 cx.2.1 dL_law_304 (by decide) ?_
  refine lv_iadd (pc := 305) cx.1 cx.2.1 dL_law_305 ?_
  refine va_sld (pc := 306) cx.1 cx.2.1 hX hbl hbA hw.2.2 hi2 dL_law_306 ?_
  refine lv_aload_n (pc := 307) cx.1 cx.2.1 dL_law_307 rfl (lv_at hl 4 rfl) ?_
  refine lv_iload (pc := 308) cx.1 cx.2.1 dL_law_308 (lv_at hl 0 rfl) ?_
  refine lv_iconst (pc := 310) (v := 3) cx.1 cx.2.1 dL_law_310 (by decide) ?_
  refine lv_iadd (pc := 311) cx.1 cx.2.1 dL_law_311 ?_
  refine va_sld (pc := 312) cx.1 cx.2.1 hX hbl hbA hw.2.2 hi3 dL_law_312 ?_
  replace hw := hw.to3
  have hpt := l_pt hw
  refine l_i (pc := 313) (wf := wM d hm) (u := w.2.2) cx hw (k_runV (pc := 313) (rest := [.int r1]) (As := [.int (xs (i + (1 : Int32)).toNatClampNeg), .int (xs (i + (2 : Int32)).toNatClampNeg), .int (xs (i + (3 : Int32)).toNatClampNeg)]) cx hpt.1 hpt.2 hw.2.2 (k_recv cx hw 0 (ci := 10) (q := (RX12, TX12, 40)) rfl rfl) (m_X12_seek l dC dI d hm w.2.2 (xs (i + (1 : Int32)).toNatClampNeg) (xs (i + (2 : Int32)).toNatClampNeg) (xs (i + (3 : Int32)).toNatClampNeg) hwp H.size) (cwV 3 cx.2.2.2.2.1 (lw_V q1243 q1244 q1245 q89 q1246) rfl rfl rfl hdV_X12_seek ⟨Nat.le_of_ble_eq_true rfl, Nat.le_of_ble_eq_true rfl⟩) rfl hl.1 rfl (Nat.le_of_ble_eq_true rfl) dL_law_313 ⟨by show cells + 3 + 0 ≤ 603072; have := hR.1; omega, by show slots + 300 + 0 ≤ 7206600; have := hR.2; omega⟩) (fun r3 v4 H locs hwp hw => ?_)
  clear hpt
  replace hw := hw.of3
  refine lv_icmp_eq (pc := 316) (tgt := 964) cx.1 cx.2.1 dL_law_316 (by decide) (fun c9 => ?_) (fun c9 => absurd hwp.1 c9)
  replace hwp := hwp.2
  exact W.widen (show cells + 3 + 0 ≤ cells + 20 by omega) (show slots + 300 + 0 ≤ slots + 700 by omega) (kk ((u2, w.1.2), w.2.1, v4) H locs ls hwp hw (lv_sub hl [0, 1, 2, 3, 4] rfl))
set_option maxHeartbeats 4000000 in
theorem lw_op5 {p : Program} {l : Launch} {e : Env} {s : State} {m : MethodId} {args : Array Value} {below : List Frame} {meth : Method} {c : Code} {A : Nat → Prop} {dC : Nat → ClassId} {dI : Nat → Nat → Nat} {d : Nat → ClassId} {z : Nat → Nat → Nat} {hh : Nat → Nat → Nat} {cf : List Value} {nh : Nat} {g : Nat} {hm : Nat → Nat} {Q : State → Prop} {ret9 : Option FieldType} {b L : Nat} {xs : Nat → Int32} (cx : Cx p s m args meth c cL_law "PointLedgerLaw" 8 ret9 A dC dI d) (hlt : l.stackTraces = false) (hX : va_X b L xs s s.heap) (hbl : b < s.heap.size) (hbA : ¬ A b) (i : Int32) (hi1 : vp_in (i + (1 : Int32)) L) (hi2 : vp_in (i + (2 : Int32)) L) (hi3 : vp_in (i + (3 : Int32)) L) (w : (PS × Bool) × (Nat → Int64) × St) {K : (PS × Bool) × (Nat → Int64) × St → Prop} (hwp : wp_op5 nh (xs (i + (1 : Int32)).toNatClampNeg) (xs (i + (2 : Int32)).toNatClampNeg) (xs (i + (3 : Int32)).toNatClampNeg) w K) {H : Heap} {locs : List Loc} {ls : Array Slot} (hw : Wd dC dI A (wL d nh hh cf z g hm w) s H locs) (hl : lv_has ls 8 [(4, .int i), (3, .ref g), (2, .ref (hm 0)), (1, .ref (z 0 0)), (0, .ref b)]) {cells slots : Nat} (hR : cells + 20 ≤ 603072 ∧ slots + 700 ≤ 7206600)
    (kk : ∀ (w : (PS × Bool) × (Nat → Int64) × St) (H : Heap) (locs : List Loc) (ls : Array Slot), K w → Wd dC dI A (wL d nh hh cf z g hm w) s H locs → lv_has ls 8 [(4, .int i), (3, .ref g), (2, .ref (hm 0)), (1, .ref (z 0 0)), (0, .ref b)] → W p l e room_1 s m args below meth c H locs (cells + 20) (slots + 700) Q (F0 m 964 ls [])) : W p l e room_1 s m args below meth c H locs cells slots Q (F0 m 321 ls []) := by
  unfold wp_op5 at hwp
  replace hw : Wd dC dI A (wPb d nh hh cf z w.1 ++ ([(g, .inl (d 2, 1, .inr (.inl w.2.1)))] ++ wM d hm w.2.2)) s H locs := hw
  refine lv_aload_n (pc := 321) cx.1 cx.2.1 dL_law_321 rfl (lv_at hl 3 rfl) ?_
  have hpt := l_pt hw
  refine l_i (pc := 322) (wf := wP d nh hh cf (sw_A w.1.2 z)) (u := w.1.1) cx hw (k_runVW (pc := 322) (rest := []) (As := []) cx hpt.1 hpt.2 hw.2.2 (k_recv cx hw 0 (ci := 0) (q := (RX1, TX1, 21)) rfl rfl) (m_X1_next l hlt dC dI d (sw_A w.1.2 z) hh cf nh w.1.1  hwp H.size) (k_cwVW 0 cx.2.2.2.2.1 (lw_VW q783 q784 q785 q75 q786) rfl rfl rfl hdV_X1_next ⟨Nat.le_of_ble_eq_true rfl, Nat.le_of_ble_eq_true rfl⟩) rfl hl.1 rfl (Nat.le_of_ble_eq_true rfl) dL_law_322 ⟨by show cells + 3 ≤ 603072; have := hR.1; omega, by show slots + 300 ≤ 7206600; have := hR.2; omega⟩) (fun r1 u2 H locs hwp hw => ?_)
  clear hpt
  replace hw : Wd dC dI A (wPb d nh hh cf z (u2, w.1.2) ++ ([(g, .inl (d 2, 1, .inr (.inl w.2.1)))] ++ wM d hm w.2.2)) s H locs := hw
  refine lv_aload_n (pc := 325) cx.1 cx.2.1 dL_law_325 rfl (lv_at hl 2 rfl) ?_
  replace hw := hw.to3
  have hpt := l_pt hw
  refine l_i (pc := 326) (wf := wM d hm) (u := w.2.2) cx hw (k_runV (pc := 326) (rest := [.int r1]) (As := []) cx hpt.1 hpt.2 hw.2.2 (k_recv cx hw 0 (ci := 10) (q := (RX12, TX12, 40)) rfl rfl) (m_X12_next l dC dI d hm w.2.2  hwp H.size) (cwV 0 cx.2.2.2.2.1 (lw_V q1278 q1279 q1280 q89 q1281) rfl rfl rfl hdV_X12_next ⟨Nat.le_of_ble_eq_true rfl, Nat.le_of_ble_eq_true rfl⟩) rfl hl.1 rfl (Nat.le_of_ble_eq_true rfl) dL_law_326 ⟨by show cells + 3 + 0 ≤ 603072; have := hR.1; omega, by show slots + 300 + 0 ≤ 7206600; have := hR.2; omega⟩) (fun r3 v4 H locs hwp hw => ?_)
  clear hpt
  replace hw := hw.of3
  refine lv_icmp_eq (pc := 329) (tgt := 964) cx.1 cx.2.1 dL_law_329 (by decide) (fun c9 => ?_) (fun c9 => absurd hwp.1 c9)
  replace hwp := hwp.2
  exact W.widen (show cells + 3 + 0 ≤ cells + 20 by omega) (show slots + 300 + 0 ≤ slots + 700 by omega) (kk ((u2, w.1.2), w.2.1, v4) H locs ls hwp hw (lv_sub hl [0, 1, 2, 3, 4] rfl))
set_option maxHeartbeats 4000000 in
theorem lw_op6 {p : Program} {l : Launch} {e : Env} {s : State} {m : MethodId} {args : Array Value} {below : List Frame} {meth : Method} {c : Code} {A : Nat → Prop} {dC : Nat → ClassId} {dI : Nat → Nat → Nat} {d : Nat → ClassId} {z : Nat → Nat → Nat} {hh : Nat → Nat → Nat} {cf : List Value} {nh : Nat} {g : Nat} {hm : Nat → Nat} {Q : State → Prop} {ret9 : Option FieldType} {b L : Nat} {xs : Nat → Int32} (cx : Cx p s m args meth c cL_law "PointLedgerLaw" 8 ret9 A dC dI d) (hlt : l.stackTraces = false) (hX : va_X b L xs s s.heap) (hbl : b < s.heap.size) (hbA : ¬ A b) (i : Int32) (hi1 : vp_in (i + (1 : Int32)) L) (hi2 : vp_in (i + (2 : Int32)) L) (hi3 : vp_in (i + (3 : Int32)) L) (w : (PS × Bool) × (Nat → Int64) × St) {K : (PS × Bool) × (Nat → Int64) × St → Prop} (hwp : wp_op6 nh (xs (i + (1 : Int32)).toNatClampNeg) (xs (i + (2 : Int32)).toNatClampNeg) (xs (i + (3 : Int32)).toNatClampNeg) w K) {H : Heap} {locs : List Loc} {ls : Array Slot} (hw : Wd dC dI A (wL d nh hh cf z g hm w) s H locs) (hl : lv_has ls 8 [(4, .int i), (3, .ref g), (2, .ref (hm 0)), (1, .ref (z 0 0)), (0, .ref b)]) {cells slots : Nat} (hR : cells + 20 ≤ 603072 ∧ slots + 700 ≤ 7206600)
    (kk : ∀ (w : (PS × Bool) × (Nat → Int64) × St) (H : Heap) (locs : List Loc) (ls : Array Slot), K w → Wd dC dI A (wL d nh hh cf z g hm w) s H locs → lv_has ls 8 [(4, .int i), (3, .ref g), (2, .ref (hm 0)), (1, .ref (z 0 0)), (0, .ref b)] → W p l e room_1 s m args below meth c H locs (cells + 20) (slots + 700) Q (F0 m 964 ls [])) : W p l e room_1 s m args below meth c H locs cells slots Q (F0 m 334 ls []) := by
  unfold wp_op6 at hwp
  replace hw : Wd dC dI A (wPb d nh hh cf z w.1 ++ ([(g, .inl (d 2, 1, .inr (.inl w.2.1)))] ++ wM d hm w.2.2)) s H locs := hw
  refine lv_aload_n (pc := 334) cx.1 cx.2.1 dL_law_334 rfl (lv_at hl 3 rfl) ?_
  have hpt := l_pt hw
  refine l_i (pc := 335) (wf := wP d nh hh cf (sw_A w.1.2 z)) (u := w.1.1) cx hw (k_runV (pc := 335) (rest := []) (As := []) cx hpt.1 hpt.2 hw.2.2 (k_recv cx hw 0 (ci := 0) (q := (RX1, TX1, 21)) rfl rfl) (m_X1_curTime l dC dI d (sw_A w.1.2 z) hh cf nh w.1.1  hwp H.size) (cwV 0 cx.2.2.2.2.1 (lw_V q823 q824 q825 q75 q826) rfl rfl rfl hdV_X1_curTime ⟨Nat.le_of_ble_eq_true rfl, Nat.le_of_ble_eq_true rfl⟩) rfl hl.1 rfl (Nat.le_of_ble_eq_true rfl) dL_law_335 ⟨by show cells + 0 ≤ 603072; have := hR.1; omega, by show slots + 0 ≤ 7206600; have := hR.2; omega⟩) (fun r1 u2 H locs hwp hw => ?_)
  clear hpt
  replace hw : Wd dC dI A (wPb d nh hh cf z (u2, w.1.2) ++ ([(g, .inl (d 2, 1, .inr (.inl w.2.1)))] ++ wM d hm w.2.2)) s H locs := hw
  refine lv_aload_n (pc := 338) cx.1 cx.2.1 dL_law_338 rfl (lv_at hl 2 rfl) ?_
  replace hw := hw.to3
  have hpt := l_pt hw
  refine l_i (pc := 339) (wf := wM d hm) (u := w.2.2) cx hw (k_runV (pc := 339) (rest := [.int r1]) (As := []) cx hpt.1 hpt.2 hw.2.2 (k_recv cx hw 0 (ci := 10) (q := (RX12, TX12, 40)) rfl rfl) (m_X12_curTime l dC dI d hm w.2.2  hwp H.size) (cwV 0 cx.2.2.2.2.1 (lw_V q1282 q1283 q1284 q89 q1285) rfl rfl rfl hdV_X12_curTime ⟨Nat.le_of_ble_eq_true rfl, Nat.le_of_ble_eq_true rfl⟩) rfl hl.1 rfl (Nat.le_of_ble_eq_true rfl) dL_law_339 ⟨by show cells + 0 + 0 ≤ 603072; have := hR.1; omega, by show slots + 0 + 0 ≤ 7206600; have := hR.2; omega⟩) (fun r3 v4 H locs hwp hw => ?_)
  clear hpt
  replace hw := hw.of3
  refine lv_icmp_eq (pc := 342) (tgt := 964) cx.1 cx.2.1 dL_law_342 (by decide) (fun c9 => ?_) (fun c9 => absurd hwp.1 c9)
  replace hwp := hwp.2
  exact W.widen (show cells + 0 + 0 ≤ cells + 20 by omega) (show slots + 0 + 0 ≤ slots + 700 by omega) (kk ((u2, w.1.2), w.2.1, v4) H locs ls hwp hw (lv_sub hl [0, 1, 2, 3, 4] rfl))
set_option maxHeartbeats 4000000 in
theorem lw_op7 {p : Program} {l : Launch} {e : Env} {s : State} {m : MethodId} {args : Array Value} {below : List Frame} {meth : Method} {c : Code} {A : Nat → Prop} {dC : Nat → ClassId} {dI : Nat → Nat → Nat} {d : Nat → ClassId} {z : Nat → Nat → Nat} {hh : Nat → Nat → Nat} {cf : List Value} {nh : Nat} {g : Nat} {hm : Nat → Nat} {Q : State → Prop} {ret9 : Option FieldType} {b L : Nat} {xs : Nat → Int32} (cx : Cx p s m args meth c cL_law "PointLedgerLaw" 8 ret9 A dC dI d) (hlt : l.stackTraces = false) (hX : va_X b L xs s s.heap) (hbl : b < s.heap.size) (hbA : ¬ A b) (i : Int32) (hi1 : vp_in (i + (1 : Int32)) L) (hi2 : vp_in (i + (2 : Int32)) L) (hi3 : vp_in (i + (3 : Int32)) L) (w : (PS × Bool) × (Nat → Int64) × St) {K : (PS × Bool) × (Nat → Int64) × St → Prop} (hwp : wp_op7 nh (xs (i + (1 : Int32)).toNatClampNeg) (xs (i + (2 : Int32)).toNatClampNeg) (xs (i + (3 : Int32)).toNatClampNeg) w K) {H : Heap} {locs : List Loc} {ls : Array Slot} (hw : Wd dC dI A (wL d nh hh cf z g hm w) s H locs) (hl : lv_has ls 8 [(4, .int i), (3, .ref g), (2, .ref (hm 0)), (1, .ref (z 0 0)), (0, .ref b)]) {cells slots : Nat} (hR : cells + 20 ≤ 603072 ∧ slots + 700 ≤ 7206600)
    (kk : ∀ (w : (PS × Bool) × (Nat → Int64) × St) (H : Heap) (locs : List Loc) (ls : Array Slot), K w → Wd dC dI A (wL d nh hh cf z g hm w) s H locs → lv_has ls 8 [(4, .int i), (3, .ref g), (2, .ref (hm 0)), (1, .ref (z 0 0)), (0, .ref b)] → W p l e room_1 s m args below meth c H locs (cells + 20) (slots + 700) Q (F0 m 964 ls [])) : W p l e room_1 s m args below meth c H locs cells slots Q (F0 m 347 ls []) := by
  unfold wp_op7 at hwp
  replace hw : Wd dC dI A (wPb d nh hh cf z w.1 ++ ([(g, .inl (d 2, 1, .inr (.inl w.2.1)))] ++ wM d hm w.2.2)) s H locs := hw
  refine lv_aload_n (pc := 347) cx.1 cx.2.1 dL_law_347 rfl (lv_at hl 3 rfl) ?_
  have hpt := l_pt hw
  refine l_i (pc := 348) (wf := wP d nh hh cf (sw_A w.1.2 z)) (u := w.1.1) cx hw (k_runV (pc := 348) (rest := []) (As := []) cx hpt.1 hpt.2 hw.2.2 (k_recv cx hw 0 (ci := 0) (q := (RX1, TX1, 21)) rfl rfl) (m_X1_curVal l dC dI d (sw_A w.1.2 z) hh cf nh w.1.1  hwp H.size) (cwV 0 cx.2.2.2.2.1 (lw_V q831 q832 q833 q75 q834) rfl rfl rfl hdV_X1_curVal ⟨Nat.le_of_ble_eq_true rfl, Nat.le_of_ble_eq_true rfl⟩) rfl hl.1 rfl (Nat.le_of_ble_eq_true rfl) dL_law_348 ⟨by show cells + 0 ≤ 603072; have := hR.1; omega, by show slots + 0 ≤ 7206600; have := hR.2; omega⟩) (fun r1 u2 H locs hwp hw => ?_)
  clear hpt
  replace hw : Wd dC dI A (wPb d nh hh cf z (u2, w.1.2) ++ ([(g, .inl (d 2, 1, .inr (.inl w.2.1)))] ++ wM d hm w.2.2)) s H locs := hw
  refine lv_aload_n (pc := 351) cx.1 cx.2.1 dL_law_351 rfl (lv_at hl 2 rfl) ?_
  replace hw := hw.to3
  have hpt := l_pt hw
  refine l_i (pc := 352) (wf := wM d hm) (u := w.2.2) cx hw (k_runV (pc := 352) (rest := [.int r1]) (As := []) cx hpt.1 hpt.2 hw.2.2 (k_recv cx hw 0 (ci := 10) (q := (RX12, TX12, 40)) rfl rfl) (m_X12_curVal l dC dI d hm w.2.2  hwp H.size) (cwV 0 cx.2.2.2.2.1 (lw_V q1290 q1291 q1292 q89 q1293) rfl rfl rfl hdV_X12_curVal ⟨Nat.le_of_ble_eq_true rfl, Nat.le_of_ble_eq_true rfl⟩) rfl hl.1 rfl (Nat.le_of_ble_eq_true rfl) dL_law_352 ⟨by show cells + 0 + 0 ≤ 603072; have := hR.1; omega, by show slots + 0 + 0 ≤ 7206600; have := hR.2; omega⟩) (fun r3 v4 H locs hwp hw => ?_)
  clear hpt
  replace hw := hw.of3
  refine lv_icmp_eq (pc := 355) (tgt := 964) cx.1 cx.2.1 dL_law_355 (by decide) (fun c9 => ?_) (fun c9 => absurd hwp.1 c9)
  replace hwp := hwp.2
  exact W.widen (show cells + 0 + 0 ≤ cells + 20 by omega) (show slots + 0 + 0 ≤ slots + 700 by omega) (kk ((u2, w.1.2), w.2.1, v4) H locs ls hwp hw (lv_sub hl [0, 1, 2, 3, 4] rfl))
set_option maxHeartbeats 4000000 in
theorem lw_op8 {p : Program} {l : Launch} {e : Env} {s : State} {m : MethodId} {args : Array Value} {below : List Frame} {meth : Method} {c : Code} {A : Nat → Prop} {dC : Nat → ClassId} {dI : Nat → Nat → Nat} {d : Nat → ClassId} {z : Nat → Nat → Nat} {hh : Nat → Nat → Nat} {cf : List Value} {nh : Nat} {g : Nat} {hm : Nat → Nat} {Q : State → Prop} {ret9 : Option FieldType} {b L : Nat} {xs : Nat → Int32} (cx : Cx p s m args meth c cL_law "PointLedgerLaw" 8 ret9 A dC dI d) (hlt : l.stackTraces = false) (hX : va_X b L xs s s.heap) (hbl : b < s.heap.size) (hbA : ¬ A b) (i : Int32) (hi1 : vp_in (i + (1 : Int32)) L) (hi2 : vp_in (i + (2 : Int32)) L) (hi3 : vp_in (i + (3 : Int32)) L) (w : (PS × Bool) × (Nat → Int64) × St) {K : (PS × Bool) × (Nat → Int64) × St → Prop} (hwp : wp_op8 nh (xs (i + (1 : Int32)).toNatClampNeg) (xs (i + (2 : Int32)).toNatClampNeg) (xs (i + (3 : Int32)).toNatClampNeg) w K) {H : Heap} {locs : List Loc} {ls : Array Slot} (hw : Wd dC dI A (wL d nh hh cf z g hm w) s H locs) (hl : lv_has ls 8 [(4, .int i), (3, .ref g), (2, .ref (hm 0)), (1, .ref (z 0 0)), (0, .ref b)]) {cells slots : Nat} (hR : cells + 20 ≤ 603072 ∧ slots + 700 ≤ 7206600)
    (kk : ∀ (w : (PS × Bool) × (Nat → Int64) × St) (H : Heap) (locs : List Loc) (ls : Array Slot), K w → Wd dC dI A (wL d nh hh cf z g hm w) s H locs → lv_has ls 8 [(4, .int i), (3, .ref g), (2, .ref (hm 0)), (1, .ref (z 0 0)), (0, .ref b)] → W p l e room_1 s m args below meth c H locs (cells + 20) (slots + 700) Q (F0 m 964 ls [])) : W p l e room_1 s m args below meth c H locs cells slots Q (F0 m 360 ls []) := by
  unfold wp_op8 at hwp
  replace hw : Wd dC dI A (wPb d nh hh cf z w.1 ++ ([(g, .inl (d 2, 1, .inr (.inl w.2.1)))] ++ wM d hm w.2.2)) s H locs := hw
  refine lv_aload_n (pc := 360) cx.1 cx.2.1 dL_law_360 rfl (lv_at hl 3 rfl) ?_
  refine lv_aload_n (pc := 361) cx.1 cx.2.1 dL_law_361 rfl (lv_at hl 4 rfl) ?_
  refine lv_iload (pc := 362) cx.1 cx.2.1 dL_law_362 (lv_at hl 0 rfl) ?_
  refine lv_iconst (pc := 364) (v := 1) cx.1 cx.2.1 dL_law_364 (by decide) ?_
  refine lv_iadd (pc := 365) cx.1 cx.2.1 dL_law_365 ?_
  refine va_sld (pc := 366) cx.1 cx.2.1 hX hbl hbA hw.2.2 hi1 dL_law_366 ?_
  refine lv_aload_n (pc := 367) cx.1 cx.2.1 dL_law_367 rfl (lv_at hl 4 rfl) ?_
  refine lv_iload (pc := 368) cx.1 cx.2.1 dL_law_368 (lv_at hl 0 rfl) ?_
  refine lv_iconst (pc := 370) (v := 2) cx.1 cx.2.1 dL_law_370 (by decide) ?_
  refine lv_iadd (pc := 371) cx.1 cx.2.1 dL_law_371 ?_
  refine va_sld (pc := 372) cx.1 cx.2.1 hX hbl hbA hw.2.2 hi2 dL_law_372 ?_
  refine lv_aload_n (pc := 373) cx.1 cx.2.1 dL_law_373 rfl (lv_at hl 4 rfl) ?_
  refine lv_iload (pc := 374) cx.1 cx.2.1 dL_law_374 (lv_at hl 0 rfl) ?_
  refine lv_iconst (pc := 376) (v := 3) cx.1 cx.2.1 dL_law_376 (by decide) ?_
  refine lv_iadd (pc := 377) cx.1 cx.2.1 dL_law_377 ?_
  refine va_sld (pc := 378) cx.1 cx.2.1 hX hbl hbA hw.2.2 hi3 dL_law_378 ?_
  have hpt := l_pt hw
  refine l_i (pc := 379) (wf := wP d nh hh cf (sw_A w.1.2 z)) (u := w.1.1) cx hw (k_runV (pc := 379) (rest := []) (As := [.int (xs (i + (1 : Int32)).toNatClampNeg), .int (xs (i + (2 : Int32)).toNatClampNeg), .int (xs (i + (3 : Int32)).toNatClampNeg)]) cx hpt.1 hpt.2 hw.2.2 (k_recv cx hw 0 (ci := 0) (q := (RX1, TX1, 21)) rfl rfl) (m_X1_aggCount l hlt dC dI d (sw_A w.1.2 z) hh cf nh w.1.1 (xs (i + (1 : Int32)).toNatClampNeg) (xs (i + (2 : Int32)).toNatClampNeg) (xs (i + (3 : Int32)).toNatClampNeg) hwp H.size) (cwV 3 cx.2.2.2.2.1 (lw_V q741 q742 q743 q75 q744) rfl rfl rfl hdV_X1_aggCount ⟨Nat.le_of_ble_eq_true rfl, Nat.le_of_ble_eq_true rfl⟩) rfl hl.1 rfl (Nat.le_of_ble_eq_true rfl) dL_law_379 ⟨by show cells + 3 ≤ 603072; have := hR.1; omega, by show slots + 300 ≤ 7206600; have := hR.2; omega⟩) (fun r1 u2 H locs hwp hw => ?_)
  clear hpt
  replace hw : Wd dC dI A (wPb d nh hh cf z (u2, w.1.2) ++ ([(g, .inl (d 2, 1, .inr (.inl w.2.1)))] ++ wM d hm w.2.2)) s H locs := hw
  refine lv_aload_n (pc := 382) cx.1 cx.2.1 dL_law_382 rfl (lv_at hl 2 rfl) ?_
  refine lv_aload_n (pc := 383) cx.1 cx.2.1 dL_law_383 rfl (lv_at hl 4 rfl) ?_
  refine lv_iload (pc := 384) cx.1 cx.2.1 dL_law_384 (lv_at hl 0 rfl) ?_
  refine lv_iconst (pc := 386) (v := 1) cx.1 cx.2.1 dL_law_386 (by decide) ?_
  refine lv_iadd (pc := 387) cx.1 cx.2.1 dL_law_387 ?_
  refine va_sld (pc := 388) cx.1 cx.2.1 hX hbl hbA hw.2.2 hi1 dL_law_388 ?_
  refine lv_aload_n (pc := 389) cx.1 cx.2.1 dL_law_389 rfl (lv_at hl 4 rfl) ?_
  refine lv_iload (pc := 390) cx.1 cx.2.1 dL_law_390 (lv_at hl 0 rfl) ?_
  refine lv_iconst (pc := 392) (v := 2) cx.1 cx.2.1 dL_law_392 (by decide) ?_
  refine lv_iadd (pc := 393) cx.1 cx.2.1 dL_law_393 ?_
  refine va_sld (pc := 394) cx.1 cx.2.1 hX hbl hbA hw.2.2 hi2 dL_law_394 ?_
  refine lv_aload_n (pc := 395) cx.1 cx.2.1 dL_law_395 rfl (lv_at hl 4 rfl) ?_
  refine lv_iload (pc := 396) cx.1 cx.2.1 dL_law_396 (lv_at hl 0 rfl) ?_
  refine lv_iconst (pc := 398) (v := 3) cx.1 cx.2.1 dL_law_398 (by decide) ?_
  refine lv_iadd (pc := 399) cx.1 cx.2.1 dL_law_399 ?_
  refine va_sld (pc := 400) cx.1 cx.2.1 hX hbl hbA hw.2.2 hi3 dL_law_400 ?_
  replace hw := hw.to3
  have hpt := l_pt hw
  refine l_i (pc := 401) (wf := wM d hm) (u := w.2.2) cx hw (k_runV (pc := 401) (rest := [.int r1]) (As := [.int (xs (i + (1 : Int32)).toNatClampNeg), .int (xs (i + (2 : Int32)).toNatClampNeg), .int (xs (i + (3 : Int32)).toNatClampNeg)]) cx hpt.1 hpt.2 hw.2.2 (k_recv cx hw 0 (ci := 10) (q := (RX12, TX12, 40)) rfl rfl) (m_X12_aggCount l dC dI d hm w.2.2 (xs (i + (1 : Int32)).toNatClampNeg) (xs (i + (2 : Int32)).toNatClampNeg) (xs (i + (3 : Int32)).toNatClampNeg) hwp H.size) (cwV 3 cx.2.2.2.2.1 (lw_V q1294 q1295 q1296 q89 q1297) rfl rfl rfl hdV_X12_aggCount ⟨Nat.le_of_ble_eq_true rfl, Nat.le_of_ble_eq_true rfl⟩) rfl hl.1 rfl (Nat.le_of_ble_eq_true rfl) dL_law_401 ⟨by show cells + 3 + 0 ≤ 603072; have := hR.1; omega, by show slots + 300 + 0 ≤ 7206600; have := hR.2; omega⟩) (fun r3 v4 H locs hwp hw => ?_)
  clear hpt
  replace hw := hw.of3
  refine lv_icmp_eq (pc := 404) (tgt := 964) cx.1 cx.2.1 dL_law_404 (by decide) (fun c9 => ?_) (fun c9 => absurd hwp.1 c9)
  replace hwp := hwp.2
  exact W.widen (show cells + 3 + 0 ≤ cells + 20 by omega) (show slots + 300 + 0 ≤ slots + 700 by omega) (kk ((u2, w.1.2), w.2.1, v4) H locs ls hwp hw (lv_sub hl [0, 1, 2, 3, 4] rfl))
set_option maxHeartbeats 4000000 in
theorem lw_op9 {p : Program} {l : Launch} {e : Env} {s : State} {m : MethodId} {args : Array Value} {below : List Frame} {meth : Method} {c : Code} {A : Nat → Prop} {dC : Nat → ClassId} {dI : Nat → Nat → Nat} {d : Nat → ClassId} {z : Nat → Nat → Nat} {hh : Nat → Nat → Nat} {cf : List Value} {nh : Nat} {g : Nat} {hm : Nat → Nat} {Q : State → Prop} {ret9 : Option FieldType} {b L : Nat} {xs : Nat → Int32} (cx : Cx p s m args meth c cL_law "PointLedgerLaw" 8 ret9 A dC dI d) (hlt : l.stackTraces = false) (hX : va_X b L xs s s.heap) (hbl : b < s.heap.size) (hbA : ¬ A b) (i : Int32) (hi1 : vp_in (i + (1 : Int32)) L) (hi2 : vp_in (i + (2 : Int32)) L) (hi3 : vp_in (i + (3 : Int32)) L) (w : (PS × Bool) × (Nat → Int64) × St) {K : (PS × Bool) × (Nat → Int64) × St → Prop} (hwp : wp_op9 nh (xs (i + (1 : Int32)).toNatClampNeg) (xs (i + (2 : Int32)).toNatClampNeg) (xs (i + (3 : Int32)).toNatClampNeg) w K) {H : Heap} {locs : List Loc} {ls : Array Slot} (hw : Wd dC dI A (wL d nh hh cf z g hm w) s H locs) (hl : lv_has ls 8 [(4, .int i), (3, .ref g), (2, .ref (hm 0)), (1, .ref (z 0 0)), (0, .ref b)]) {cells slots : Nat} (hR : cells + 20 ≤ 603072 ∧ slots + 700 ≤ 7206600)
    (kk : ∀ (w : (PS × Bool) × (Nat → Int64) × St) (H : Heap) (locs : List Loc) (ls : Array Slot), K w → Wd dC dI A (wL d nh hh cf z g hm w) s H locs → lv_has ls 8 [(4, .int i), (3, .ref g), (2, .ref (hm 0)), (1, .ref (z 0 0)), (0, .ref b)] → W p l e room_1 s m args below meth c H locs (cells + 20) (slots + 700) Q (F0 m 964 ls [])) : W p l e room_1 s m args below meth c H locs cells slots Q (F0 m 409 ls []) := by
  unfold wp_op9 at hwp
  replace hw : Wd dC dI A (wPb d nh hh cf z w.1 ++ ([(g, .inl (d 2, 1, .inr (.inl w.2.1)))] ++ wM d hm w.2.2)) s H locs := hw
  refine lv_aload_n (pc := 409) cx.1 cx.2.1 dL_law_409 rfl (lv_at hl 3 rfl) ?_
  refine lv_aload_n (pc := 410) cx.1 cx.2.1 dL_law_410 rfl (lv_at hl 4 rfl) ?_
  refine lv_iload (pc := 411) cx.1 cx.2.1 dL_law_411 (lv_at hl 0 rfl) ?_
  refine lv_iconst (pc := 413) (v := 1) cx.1 cx.2.1 dL_law_413 (by decide) ?_
  refine lv_iadd (pc := 414) cx.1 cx.2.1 dL_law_414 ?_
  refine va_sld (pc := 415) cx.1 cx.2.1 hX hbl hbA hw.2.2 hi1 dL_law_415 ?_
  refine lv_aload_n (pc := 416) cx.1 cx.2.1 dL_law_416 rfl (lv_at hl 4 rfl) ?_
  refine lv_iload (pc := 417) cx.1 cx.2.1 dL_law_417 (lv_at hl 0 rfl) ?_
  refine lv_iconst (pc := 419) (v := 2) cx.1 cx.2.1 dL_law_419 (by decide) ?_
  refine lv_iadd (pc := 420) cx.1 cx.2.1 dL_law_420 ?_
  refine va_sld (pc := 421) cx.1 cx.2.1 hX hbl hbA hw.2.2 hi2 dL_law_421 ?_
  refine lv_aload_n (pc := 422) cx.1 cx.2.1 dL_law_422 rfl (lv_at hl 4 rfl) ?_
  refine lv_iload (pc := 423) cx.1 cx.2.1 dL_law_423 (lv_at hl 0 rfl) ?_
  refine lv_iconst (pc := 425) (v := 3) cx.1 cx.2.1 dL_law_425 (by decide) ?_
  refine lv_iadd (pc := 426) cx.1 cx.2.1 dL_law_426 ?_
  refine va_sld (pc := 427) cx.1 cx.2.1 hX hbl hbA hw.2.2 hi3 dL_law_427 ?_
  refine lv_aload_n (pc := 428) cx.1 cx.2.1 dL_law_428 rfl (lv_at hl 1 rfl) ?_
  replace hw : Wd dC dI A (wLo d nh hh cf (sw_A w.1.2 z) g (w.1.1, w.2.1) ++ wM d hm w.2.2) s H locs := hw.to2
  have hpt := l_pt hw
  refine l_i (pc := 429) (wf := wLo d nh hh cf (sw_A w.1.2 z) g) (u := (w.1.1, w.2.1)) cx hw (k_runSW (pc := 429) (rest := []) (As := [.ref (z 0 0), .int (xs (i + (1 : Int32)).toNatClampNeg), .int (xs (i + (2 : Int32)).toNatClampNeg), .int (xs (i + (3 : Int32)).toNatClampNeg), .ref g]) cx hpt.1 hpt.2 hw.2.2 (m_X0_aggMin l hlt dC dI d (sw_A w.1.2 z) hh cf g nh (w.1.1, w.2.1) (xs (i + (1 : Int32)).toNatClampNeg) (xs (i + (2 : Int32)).toNatClampNeg) (xs (i + (3 : Int32)).toNatClampNeg) hwp H.size) (k_cwSW 5 cx.2.2.2.2.1 (lw_SW q864 q865 q74 q866) rfl rfl rfl hdS_X0_aggMin ⟨Nat.le_of_ble_eq_true rfl, Nat.le_of_ble_eq_true rfl⟩) rfl hl.1 rfl (Nat.le_of_ble_eq_true rfl) dL_law_429 ⟨by show cells + 5 ≤ 603072; have := hR.1; omega, by show slots + 320 ≤ 7206600; have := hR.2; omega⟩) (fun r1 u2 H locs hwp hw => ?_)
  clear hpt
  replace hw : Wd dC dI A (wPb d nh hh cf z (u2.1, w.1.2) ++ ([(g, .inl (d 2, 1, .inr (.inl u2.2)))] ++ wM d hm w.2.2)) s H locs := Wd.of2 hw
  refine lv_istore (pc := 432) (lv' := [(5, .int r1), (4, .int i), (3, .ref g), (2, .ref (hm 0)), (1, .ref (z 0 0)), (0, .ref b)]) cx.1 cx.2.1 dL_law_432 hl (by decide) rfl (fun ls hl => ?_)
  refine lv_aload_n (pc := 434) cx.1 cx.2.1 dL_law_434 rfl (lv_at hl 3 rfl) ?_
  refine lv_aload_n (pc := 435) cx.1 cx.2.1 dL_law_435 rfl (lv_at hl 5 rfl) ?_
  refine lv_iload (pc := 436) cx.1 cx.2.1 dL_law_436 (lv_at hl 1 rfl) ?_
  refine lv_iconst (pc := 438) (v := 1) cx.1 cx.2.1 dL_law_438 (by decide) ?_
  refine lv_iadd (pc := 439) cx.1 cx.2.1 dL_law_439 ?_
  refine va_sld (pc := 440) cx.1 cx.2.1 hX hbl hbA hw.2.2 hi1 dL_law_440 ?_
  refine lv_aload_n (pc := 441) cx.1 cx.2.1 dL_law_441 rfl (lv_at hl 5 rfl) ?_
  refine lv_iload (pc := 442) cx.1 cx.2.1 dL_law_442 (lv_at hl 1 rfl) ?_
  refine lv_iconst (pc := 444) (v := 2) cx.1 cx.2.1 dL_law_444 (by decide) ?_
  refine lv_iadd (pc := 445) cx.1 cx.2.1 dL_law_445 ?_
  refine va_sld (pc := 446) cx.1 cx.2.1 hX hbl hbA hw.2.2 hi2 dL_law_446 ?_
  refine lv_aload_n (pc := 447) cx.1 cx.2.1 dL_law_447 rfl (lv_at hl 5 rfl) ?_
  refine lv_iload (pc := 448) cx.1 cx.2.1 dL_law_448 (lv_at hl 1 rfl) ?_
  refine lv_iconst (pc := 450) (v := 3) cx.1 cx.2.1 dL_law_450 (by decide) ?_
  refine lv_iadd (pc := 451) cx.1 cx.2.1 dL_law_451 ?_
  refine va_sld (pc := 452) cx.1 cx.2.1 hX hbl hbA hw.2.2 hi3 dL_law_452 ?_
  replace hw := hw.to3
  have hpt := l_pt hw
  refine l_i (pc := 453) (wf := wM d hm) (u := w.2.2) cx hw (k_runV (pc := 453) (rest := []) (As := [.int (xs (i + (1 : Int32)).toNatClampNeg), .int (xs (i + (2 : Int32)).toNatClampNeg), .int (xs (i + (3 : Int32)).toNatClampNeg)]) cx hpt.1 hpt.2 hw.2.2 (k_recv cx hw 0 (ci := 10) (q := (RX12, TX12, 40)) rfl rfl) (m_X12_aggMin l dC dI d hm w.2.2 (xs (i + (1 : Int32)).toNatClampNeg) (xs (i + (2 : Int32)).toNatClampNeg) (xs (i + (3 : Int32)).toNatClampNeg) hwp H.size) (cwV 3 cx.2.2.2.2.1 (lw_V q1298 q1299 q1300 q89 q1301) rfl rfl rfl hdV_X12_aggMin ⟨Nat.le_of_ble_eq_true rfl, Nat.le_of_ble_eq_true rfl⟩) rfl hl.1 rfl (Nat.le_of_ble_eq_true rfl) dL_law_453 ⟨by show cells + 5 + 0 ≤ 603072; have := hR.1; omega, by show slots + 320 + 0 ≤ 7206600; have := hR.2; omega⟩) (fun r3 v4 H locs hwp hw => ?_)
  clear hpt
  replace hw := hw.of3
  refine lv_istore (pc := 456) (lv' := [(6, .int r3), (5, .int r1), (4, .int i), (3, .ref g), (2, .ref (hm 0)), (1, .ref (z 0 0)), (0, .ref b)]) cx.1 cx.2.1 dL_law_456 hl (by decide) rfl (fun ls hl => ?_)
  refine lv_aload_n (pc := 458) cx.1 cx.2.1 dL_law_458 rfl (lv_at hl 4 rfl) ?_
  replace hw := hw.to3
  have hpt := l_pt hw
  refine l_i (pc := 459) (wf := wM d hm) (u := v4) cx hw (k_runV (pc := 459) (rest := []) (As := []) cx hpt.1 hpt.2 hw.2.2 (k_recv cx hw 0 (ci := 10) (q := (RX12, TX12, 40)) rfl rfl) (m_X12_thrown l dC dI d hm v4  hwp H.size) (cwV 0 cx.2.2.2.2.1 (lw_V q1098 q1099 q1100 q89 q1101) rfl rfl rfl hdV_X12_thrown ⟨Nat.le_of_ble_eq_true rfl, Nat.le_of_ble_eq_true rfl⟩) rfl hl.1 rfl (Nat.le_of_ble_eq_true rfl) dL_law_459 ⟨by show cells + 5 + 0 + 0 ≤ 603072; have := hR.1; omega, by show slots + 320 + 0 + 0 ≤ 7206600; have := hR.2; omega⟩) (fun r5 v6 H locs hwp hw => ?_)
  clear hpt
  replace hw := hw.of3
  refine lv_iload (pc := 462) cx.1 cx.2.1 dL_law_462 (lv_at hl 1 rfl) ?_
  refine lv_icmp_eq (pc := 464) (tgt := 469) cx.1 cx.2.1 dL_law_464 (by decide) (fun c9 => ?_) (fun c9 => absurd hwp.1 c9)
  replace hwp := hwp.2
  refine lv_iload (pc := 469) cx.1 cx.2.1 dL_law_469 (lv_at hl 1 rfl) ?_
  refine lv_if_ne (pc := 471) (tgt := 486) cx.1 cx.2.1 dL_law_471 (by decide) (fun c9 => ?_) (fun c9 => ?_)
  · refine lv_goto (pc := 486) (tgt := 964) cx.1 cx.2.1 dL_law_486 (by decide) ?_
    exact W.widen (show cells + 5 + 0 + 0 ≤ cells + 20 by omega) (show slots + 320 + 0 + 0 ≤ slots + 700 by omega) (kk ((u2.1, w.1.2), u2.2, v6) H locs ls (hwp.1 c9) hw (lv_sub hl [2, 3, 4, 5, 6] rfl))
  · replace hwp := hwp.2 c9
    refine lv_aload_n (pc := 474) cx.1 cx.2.1 dL_law_474 rfl (lv_at hl 3 rfl) ?_
    refine lv_iconst (pc := 475) (v := 0) cx.1 cx.2.1 dL_law_475 (by decide) ?_
    refine l_outR (pc := 476) (o := u2.2) cx (show Wd dC dI A ([(g, .inl (d 2, 1, .inr (.inl u2.2)))] ++ (wM d hm v6 ++ wPb d nh hh cf z (u2.1, w.1.2))) s H locs from (Wd.comm hw).of2) dL_law_476 ?_
    refine lv_iload (pc := 477) cx.1 cx.2.1 dL_law_477 (lv_at hl 0 rfl) ?_
    refine lv_i2l (pc := 479) cx.1 cx.2.1 dL_law_479 rfl ?_
    refine W.lcmp (pc := 480) cx.1 cx.2.1 dL_law_480 ?_
    refine lv_if_eq (pc := 481) (tgt := 486) cx.1 cx.2.1 dL_law_481 (by decide) (fun c9 => ?_) (fun c9 => absurd ((lg_cmp_eq _ _).mpr hwp.1) c9)
    refine lv_goto (pc := 486) (tgt := 964) cx.1 cx.2.1 dL_law_486 (by decide) ?_
    exact W.widen (show cells + 5 + 0 + 0 ≤ cells + 20 by omega) (show slots + 320 + 0 + 0 ≤ slots + 700 by omega) (kk ((u2.1, w.1.2), u2.2, v6) H locs ls hwp.2 hw (lv_sub hl [2, 3, 4, 5, 6] rfl))
set_option maxHeartbeats 4000000 in
theorem lw_op10 {p : Program} {l : Launch} {e : Env} {s : State} {m : MethodId} {args : Array Value} {below : List Frame} {meth : Method} {c : Code} {A : Nat → Prop} {dC : Nat → ClassId} {dI : Nat → Nat → Nat} {d : Nat → ClassId} {z : Nat → Nat → Nat} {hh : Nat → Nat → Nat} {cf : List Value} {nh : Nat} {g : Nat} {hm : Nat → Nat} {Q : State → Prop} {ret9 : Option FieldType} {b L : Nat} {xs : Nat → Int32} (cx : Cx p s m args meth c cL_law "PointLedgerLaw" 8 ret9 A dC dI d) (hlt : l.stackTraces = false) (hX : va_X b L xs s s.heap) (hbl : b < s.heap.size) (hbA : ¬ A b) (i : Int32) (hi1 : vp_in (i + (1 : Int32)) L) (hi2 : vp_in (i + (2 : Int32)) L) (hi3 : vp_in (i + (3 : Int32)) L) (w : (PS × Bool) × (Nat → Int64) × St) {K : (PS × Bool) × (Nat → Int64) × St → Prop} (hwp : wp_op10 nh (xs (i + (1 : Int32)).toNatClampNeg) (xs (i + (2 : Int32)).toNatClampNeg) (xs (i + (3 : Int32)).toNatClampNeg) w K) {H : Heap} {locs : List Loc} {ls : Array Slot} (hw : Wd dC dI A (wL d nh hh cf z g hm w) s H locs) (hl : lv_has ls 8 [(4, .int i), (3, .ref g), (2, .ref (hm 0)), (1, .ref (z 0 0)), (0, .ref b)]) {cells slots : Nat} (hR : cells + 20 ≤ 603072 ∧ slots + 700 ≤ 7206600)
    (kk : ∀ (w : (PS × Bool) × (Nat → Int64) × St) (H : Heap) (locs : List Loc) (ls : Array Slot), K w → Wd dC dI A (wL d nh hh cf z g hm w) s H locs → lv_has ls 8 [(4, .int i), (3, .ref g), (2, .ref (hm 0)), (1, .ref (z 0 0)), (0, .ref b)] → W p l e room_1 s m args below meth c H locs (cells + 20) (slots + 700) Q (F0 m 964 ls [])) : W p l e room_1 s m args below meth c H locs cells slots Q (F0 m 489 ls []) := by
  unfold wp_op10 at hwp
  replace hw : Wd dC dI A (wPb d nh hh cf z w.1 ++ ([(g, .inl (d 2, 1, .inr (.inl w.2.1)))] ++ wM d hm w.2.2)) s H locs := hw
  refine lv_aload_n (pc := 489) cx.1 cx.2.1 dL_law_489 rfl (lv_at hl 3 rfl) ?_
  refine lv_aload_n (pc := 490) cx.1 cx.2.1 dL_law_490 rfl (lv_at hl 4 rfl) ?_
  refine lv_iload (pc := 491) cx.1 cx.2.1 dL_law_491 (lv_at hl 0 rfl) ?_
  refine lv_iconst (pc := 493) (v := 1) cx.1 cx.2.1 dL_law_493 (by decide) ?_
  refine lv_iadd (pc := 494) cx.1 cx.2.1 dL_law_494 ?_
  refine va_sld (pc := 495) cx.1 cx.2.1 hX hbl hbA hw.2.2 hi1 dL_law_495 ?_
  refine lv_aload_n (pc := 496) cx.1 cx.2.1 dL_law_496 rfl (lv_at hl 4 rfl) ?_
  refine lv_iload (pc := 497) cx.1 cx.2.1 dL_law_497 (lv_at hl 0 rfl) ?_
  refine lv_iconst (pc := 499) (v := 2) cx.1 cx.2.1 dL_law_499 (by decide) ?_
  refine lv_iadd (pc := 500) cx.1 cx.2.1 dL_law_500 ?_
  refine va_sld (pc := 501) cx.1 cx.2.1 hX hbl hbA hw.2.2 hi2 dL_law_501 ?_
  refine lv_aload_n (pc := 502) cx.1 cx.2.1 dL_law_502 rfl (lv_at hl 4 rfl) ?_
  refine lv_iload (pc := 503) cx.1 cx.2.1 dL_law_503 (lv_at hl 0 rfl) ?_
  refine lv_iconst (pc := 505) (v := 3) cx.1 cx.2.1 dL_law_505 (by decide) ?_
  refine lv_iadd (pc := 506) cx.1 cx.2.1 dL_law_506 ?_
  refine va_sld (pc := 507) cx.1 cx.2.1 hX hbl hbA hw.2.2 hi3 dL_law_507 ?_
  refine lv_aload_n (pc := 508) cx.1 cx.2.1 dL_law_508 rfl (lv_at hl 1 rfl) ?_
  replace hw : Wd dC dI A (wLo d nh hh cf (sw_A w.1.2 z) g (w.1.1, w.2.1) ++ wM d hm w.2.2) s H locs := hw.to2
  have hpt := l_pt hw
  refine l_i (pc := 509) (wf := wLo d nh hh cf (sw_A w.1.2 z) g) (u := (w.1.1, w.2.1)) cx hw (k_runSW (pc := 509) (rest := []) (As := [.ref (z 0 0), .int (xs (i + (1 : Int32)).toNatClampNeg), .int (xs (i + (2 : Int32)).toNatClampNeg), .int (xs (i + (3 : Int32)).toNatClampNeg), .ref g]) cx hpt.1 hpt.2 hw.2.2 (m_X0_aggMax l hlt dC dI d (sw_A w.1.2 z) hh cf g nh (w.1.1, w.2.1) (xs (i + (1 : Int32)).toNatClampNeg) (xs (i + (2 : Int32)).toNatClampNeg) (xs (i + (3 : Int32)).toNatClampNeg) hwp H.size) (k_cwSW 5 cx.2.2.2.2.1 (lw_SW q907 q908 q74 q909) rfl rfl rfl hdS_X0_aggMax ⟨Nat.le_of_ble_eq_true rfl, Nat.le_of_ble_eq_true rfl⟩) rfl hl.1 rfl (Nat.le_of_ble_eq_true rfl) dL_law_509 ⟨by show cells + 5 ≤ 603072; have := hR.1; omega, by show slots + 320 ≤ 7206600; have := hR.2; omega⟩) (fun r1 u2 H locs hwp hw => ?_)
  clear hpt
  replace hw : Wd dC dI A (wPb d nh hh cf z (u2.1, w.1.2) ++ ([(g, .inl (d 2, 1, .inr (.inl u2.2)))] ++ wM d hm w.2.2)) s H locs := Wd.of2 hw
  refine lv_istore (pc := 512) (lv' := [(5, .int r1), (4, .int i), (3, .ref g), (2, .ref (hm 0)), (1, .ref (z 0 0)), (0, .ref b)]) cx.1 cx.2.1 dL_law_512 hl (by decide) rfl (fun ls hl => ?_)
  refine lv_aload_n (pc := 514) cx.1 cx.2.1 dL_law_514 rfl (lv_at hl 3 rfl) ?_
  refine lv_aload_n (pc := 515) cx.1 cx.2.1 dL_law_515 rfl (lv_at hl 5 rfl) ?_
  refine lv_iload (pc := 516) cx.1 cx.2.1 dL_law_516 (lv_at hl 1 rfl) ?_
  refine lv_iconst (pc := 518) (v := 1) cx.1 cx.2.1 dL_law_518 (by decide) ?_
  refine lv_iadd (pc := 519) cx.1 cx.2.1 dL_law_519 ?_
  refine va_sld (pc := 520) cx.1 cx.2.1 hX hbl hbA hw.2.2 hi1 dL_law_520 ?_
  refine lv_aload_n (pc := 521) cx.1 cx.2.1 dL_law_521 rfl (lv_at hl 5 rfl) ?_
  refine lv_iload (pc := 522) cx.1 cx.2.1 dL_law_522 (lv_at hl 1 rfl) ?_
  refine lv_iconst (pc := 524) (v := 2) cx.1 cx.2.1 dL_law_524 (by decide) ?_
  refine lv_iadd (pc := 525) cx.1 cx.2.1 dL_law_525 ?_
  refine va_sld (pc := 526) cx.1 cx.2.1 hX hbl hbA hw.2.2 hi2 dL_law_526 ?_
  refine lv_aload_n (pc := 527) cx.1 cx.2.1 dL_law_527 rfl (lv_at hl 5 rfl) ?_
  refine lv_iload (pc := 528) cx.1 cx.2.1 dL_law_528 (lv_at hl 1 rfl) ?_
  refine lv_iconst (pc := 530) (v := 3) cx.1 cx.2.1 dL_law_530 (by decide) ?_
  refine lv_iadd (pc := 531) cx.1 cx.2.1 dL_law_531 ?_
  refine va_sld (pc := 532) cx.1 cx.2.1 hX hbl hbA hw.2.2 hi3 dL_law_532 ?_
  replace hw := hw.to3
  have hpt := l_pt hw
  refine l_i (pc := 533) (wf := wM d hm) (u := w.2.2) cx hw (k_runV (pc := 533) (rest := []) (As := [.int (xs (i + (1 : Int32)).toNatClampNeg), .int (xs (i + (2 : Int32)).toNatClampNeg), .int (xs (i + (3 : Int32)).toNatClampNeg)]) cx hpt.1 hpt.2 hw.2.2 (k_recv cx hw 0 (ci := 10) (q := (RX12, TX12, 40)) rfl rfl) (m_X12_aggMax l dC dI d hm w.2.2 (xs (i + (1 : Int32)).toNatClampNeg) (xs (i + (2 : Int32)).toNatClampNeg) (xs (i + (3 : Int32)).toNatClampNeg) hwp H.size) (cwV 3 cx.2.2.2.2.1 (lw_V q1306 q1307 q1308 q89 q1309) rfl rfl rfl hdV_X12_aggMax ⟨Nat.le_of_ble_eq_true rfl, Nat.le_of_ble_eq_true rfl⟩) rfl hl.1 rfl (Nat.le_of_ble_eq_true rfl) dL_law_533 ⟨by show cells + 5 + 0 ≤ 603072; have := hR.1; omega, by show slots + 320 + 0 ≤ 7206600; have := hR.2; omega⟩) (fun r3 v4 H locs hwp hw => ?_)
  clear hpt
  replace hw := hw.of3
  refine lv_istore (pc := 536) (lv' := [(6, .int r3), (5, .int r1), (4, .int i), (3, .ref g), (2, .ref (hm 0)), (1, .ref (z 0 0)), (0, .ref b)]) cx.1 cx.2.1 dL_law_536 hl (by decide) rfl (fun ls hl => ?_)
  refine lv_aload_n (pc := 538) cx.1 cx.2.1 dL_law_538 rfl (lv_at hl 4 rfl) ?_
  replace hw := hw.to3
  have hpt := l_pt hw
  refine l_i (pc := 539) (wf := wM d hm) (u := v4) cx hw (k_runV (pc := 539) (rest := []) (As := []) cx hpt.1 hpt.2 hw.2.2 (k_recv cx hw 0 (ci := 10) (q := (RX12, TX12, 40)) rfl rfl) (m_X12_thrown l dC dI d hm v4  hwp H.size) (cwV 0 cx.2.2.2.2.1 (lw_V q1098 q1099 q1100 q89 q1101) rfl rfl rfl hdV_X12_thrown ⟨Nat.le_of_ble_eq_true rfl, Nat.le_of_ble_eq_true rfl⟩) rfl hl.1 rfl (Nat.le_of_ble_eq_true rfl) dL_law_539 ⟨by show cells + 5 + 0 + 0 ≤ 603072; have := hR.1; omega, by show slots + 320 + 0 + 0 ≤ 7206600; have := hR.2; omega⟩) (fun r5 v6 H locs hwp hw => ?_)
  clear hpt
  replace hw := hw.of3
  refine lv_iload (pc := 542) cx.1 cx.2.1 dL_law_542 (lv_at hl 1 rfl) ?_
  refine lv_icmp_eq (pc := 544) (tgt := 549) cx.1 cx.2.1 dL_law_544 (by decide) (fun c9 => ?_) (fun c9 => absurd hwp.1 c9)
  replace hwp := hwp.2
  refine lv_iload (pc := 549) cx.1 cx.2.1 dL_law_549 (lv_at hl 1 rfl) ?_
  refine lv_if_ne (pc := 551) (tgt := 566) cx.1 cx.2.1 dL_law_551 (by decide) (fun c9 => ?_) (fun c9 => ?_)
  · refine lv_goto (pc := 566) (tgt := 964) cx.1 cx.2.1 dL_law_566 (by decide) ?_
    exact W.widen (show cells + 5 + 0 + 0 ≤ cells + 20 by omega) (show slots + 320 + 0 + 0 ≤ slots + 700 by omega) (kk ((u2.1, w.1.2), u2.2, v6) H locs ls (hwp.1 c9) hw (lv_sub hl [2, 3, 4, 5, 6] rfl))
  · replace hwp := hwp.2 c9
    refine lv_aload_n (pc := 554) cx.1 cx.2.1 dL_law_554 rfl (lv_at hl 3 rfl) ?_
    refine lv_iconst (pc := 555) (v := 0) cx.1 cx.2.1 dL_law_555 (by decide) ?_
    refine l_outR (pc := 556) (o := u2.2) cx (show Wd dC dI A ([(g, .inl (d 2, 1, .inr (.inl u2.2)))] ++ (wM d hm v6 ++ wPb d nh hh cf z (u2.1, w.1.2))) s H locs from (Wd.comm hw).of2) dL_law_556 ?_
    refine lv_iload (pc := 557) cx.1 cx.2.1 dL_law_557 (lv_at hl 0 rfl) ?_
    refine lv_i2l (pc := 559) cx.1 cx.2.1 dL_law_559 rfl ?_
    refine W.lcmp (pc := 560) cx.1 cx.2.1 dL_law_560 ?_
    refine lv_if_eq (pc := 561) (tgt := 566) cx.1 cx.2.1 dL_law_561 (by decide) (fun c9 => ?_) (fun c9 => absurd ((lg_cmp_eq _ _).mpr hwp.1) c9)
    refine lv_goto (pc := 566) (tgt := 964) cx.1 cx.2.1 dL_law_566 (by decide) ?_
    exact W.widen (show cells + 5 + 0 + 0 ≤ cells + 20 by omega) (show slots + 320 + 0 + 0 ≤ slots + 700 by omega) (kk ((u2.1, w.1.2), u2.2, v6) H locs ls hwp.2 hw (lv_sub hl [2, 3, 4, 5, 6] rfl))
set_option maxHeartbeats 4000000 in
theorem lw_op11 {p : Program} {l : Launch} {e : Env} {s : State} {m : MethodId} {args : Array Value} {below : List Frame} {meth : Method} {c : Code} {A : Nat → Prop} {dC : Nat → ClassId} {dI : Nat → Nat → Nat} {d : Nat → ClassId} {z : Nat → Nat → Nat} {hh : Nat → Nat → Nat} {cf : List Value} {nh : Nat} {g : Nat} {hm : Nat → Nat} {Q : State → Prop} {ret9 : Option FieldType} {b L : Nat} {xs : Nat → Int32} (cx : Cx p s m args meth c cL_law "PointLedgerLaw" 8 ret9 A dC dI d) (hlt : l.stackTraces = false) (hX : va_X b L xs s s.heap) (hbl : b < s.heap.size) (hbA : ¬ A b) (i : Int32) (hi1 : vp_in (i + (1 : Int32)) L) (hi2 : vp_in (i + (2 : Int32)) L) (hi3 : vp_in (i + (3 : Int32)) L) (w : (PS × Bool) × (Nat → Int64) × St) {K : (PS × Bool) × (Nat → Int64) × St → Prop} (hwp : wp_op11 nh (xs (i + (1 : Int32)).toNatClampNeg) (xs (i + (2 : Int32)).toNatClampNeg) (xs (i + (3 : Int32)).toNatClampNeg) w K) {H : Heap} {locs : List Loc} {ls : Array Slot} (hw : Wd dC dI A (wL d nh hh cf z g hm w) s H locs) (hl : lv_has ls 8 [(4, .int i), (3, .ref g), (2, .ref (hm 0)), (1, .ref (z 0 0)), (0, .ref b)]) {cells slots : Nat} (hR : cells + 20 ≤ 603072 ∧ slots + 700 ≤ 7206600)
    (kk : ∀ (w : (PS × Bool) × (Nat → Int64) × St) (H : Heap) (locs : List Loc) (ls : Array Slot), K w → Wd dC dI A (wL d nh hh cf z g hm w) s H locs → lv_has ls 8 [(4, .int i), (3, .ref g), (2, .ref (hm 0)), (1, .ref (z 0 0)), (0, .ref b)] → W p l e room_1 s m args below meth c H locs (cells + 20) (slots + 700) Q (F0 m 964 ls [])) : W p l e room_1 s m args below meth c H locs cells slots Q (F0 m 569 ls []) := by
  unfold wp_op11 at hwp
  replace hw : Wd dC dI A (wPb d nh hh cf z w.1 ++ ([(g, .inl (d 2, 1, .inr (.inl w.2.1)))] ++ wM d hm w.2.2)) s H locs := hw
  refine lv_aload_n (pc := 569) cx.1 cx.2.1 dL_law_569 rfl (lv_at hl 3 rfl) ?_
  refine lv_aload_n (pc := 570) cx.1 cx.2.1 dL_law_570 rfl (lv_at hl 4 rfl) ?_
  refine lv_iload (pc := 571) cx.1 cx.2.1 dL_law_571 (lv_at hl 0 rfl) ?_
  refine lv_iconst (pc := 573) (v := 1) cx.1 cx.2.1 dL_law_573 (by decide) ?_
  refine lv_iadd (pc := 574) cx.1 cx.2.1 dL_law_574 ?_
  refine va_sld (pc := 575) cx.1 cx.2.1 hX hbl hbA hw.2.2 hi1 dL_law_575 ?_
  refine lv_aload_n (pc := 576) cx.1 cx.2.1 dL_law_576 rfl (lv_at hl 4 rfl) ?_
  refine lv_iload (pc := 577) cx.1 cx.2.1 dL_law_577 (lv_at hl 0 rfl) ?_
  refine lv_iconst (pc := 579) (v := 2) cx.1 cx.2.1 dL_law_579 (by decide) ?_
  refine lv_iadd (pc := 580) cx.1 cx.2.1 dL_law_580 ?_
  refine va_sld (pc := 581) cx.1 cx.2.1 hX hbl hbA hw.2.2 hi2 dL_law_581 ?_
  refine lv_aload_n (pc := 582) cx.1 cx.2.1 dL_law_582 rfl (lv_at hl 4 rfl) ?_
  refine lv_iload (pc := 583) cx.1 cx.2.1 dL_law_583 (lv_at hl 0 rfl) ?_
  refine lv_iconst (pc := 585) (v := 3) cx.1 cx.2.1 dL_law_585 (by decide) ?_
  refine lv_iadd (pc := 586) cx.1 cx.2.1 dL_law_586 ?_
  refine va_sld (pc := 587) cx.1 cx.2.1 hX hbl hbA hw.2.2 hi3 dL_law_587 ?_
  refine lv_aload_n (pc := 588) cx.1 cx.2.1 dL_law_588 rfl (lv_at hl 1 rfl) ?_
  replace hw : Wd dC dI A (wLo d nh hh cf (sw_A w.1.2 z) g (w.1.1, w.2.1) ++ wM d hm w.2.2) s H locs := hw.to2
  have hpt := l_pt hw
  refine l_i (pc := 589) (wf := wLo d nh hh cf (sw_A w.1.2 z) g) (u := (w.1.1, w.2.1)) cx hw (k_runSW (pc := 589) (rest := []) (As := [.ref (z 0 0), .int (xs (i + (1 : Int32)).toNatClampNeg), .int (xs (i + (2 : Int32)).toNatClampNeg), .int (xs (i + (3 : Int32)).toNatClampNeg), .ref g]) cx hpt.1 hpt.2 hw.2.2 (m_X0_aggSum l hlt dC dI d (sw_A w.1.2 z) hh cf g nh (w.1.1, w.2.1) (xs (i + (1 : Int32)).toNatClampNeg) (xs (i + (2 : Int32)).toNatClampNeg) (xs (i + (3 : Int32)).toNatClampNeg) hwp H.size) (k_cwSW 5 cx.2.2.2.2.1 (lw_SW q914 q915 q74 q916) rfl rfl rfl hdS_X0_aggSum ⟨Nat.le_of_ble_eq_true rfl, Nat.le_of_ble_eq_true rfl⟩) rfl hl.1 rfl (Nat.le_of_ble_eq_true rfl) dL_law_589 ⟨by show cells + 5 ≤ 603072; have := hR.1; omega, by show slots + 320 ≤ 7206600; have := hR.2; omega⟩) (fun r1 u2 H locs hwp hw => ?_)
  clear hpt
  replace hw : Wd dC dI A (wPb d nh hh cf z (u2.1, w.1.2) ++ ([(g, .inl (d 2, 1, .inr (.inl u2.2)))] ++ wM d hm w.2.2)) s H locs := Wd.of2 hw
  refine lv_istore (pc := 592) (lv' := [(5, .int r1), (4, .int i), (3, .ref g), (2, .ref (hm 0)), (1, .ref (z 0 0)), (0, .ref b)]) cx.1 cx.2.1 dL_law_592 hl (by decide) rfl (fun ls hl => ?_)
  refine lv_aload_n (pc := 594) cx.1 cx.2.1 dL_law_594 rfl (lv_at hl 3 rfl) ?_
  refine lv_aload_n (pc := 595) cx.1 cx.2.1 dL_law_595 rfl (lv_at hl 5 rfl) ?_
  refine lv_iload (pc := 596) cx.1 cx.2.1 dL_law_596 (lv_at hl 1 rfl) ?_
  refine lv_iconst (pc := 598) (v := 1) cx.1 cx.2.1 dL_law_598 (by decide) ?_
  refine lv_iadd (pc := 599) cx.1 cx.2.1 dL_law_599 ?_
  refine va_sld (pc := 600) cx.1 cx.2.1 hX hbl hbA hw.2.2 hi1 dL_law_600 ?_
  refine lv_aload_n (pc := 601) cx.1 cx.2.1 dL_law_601 rfl (lv_at hl 5 rfl) ?_
  refine lv_iload (pc := 602) cx.1 cx.2.1 dL_law_602 (lv_at hl 1 rfl) ?_
  refine lv_iconst (pc := 604) (v := 2) cx.1 cx.2.1 dL_law_604 (by decide) ?_
  refine lv_iadd (pc := 605) cx.1 cx.2.1 dL_law_605 ?_
  refine va_sld (pc := 606) cx.1 cx.2.1 hX hbl hbA hw.2.2 hi2 dL_law_606 ?_
  refine lv_aload_n (pc := 607) cx.1 cx.2.1 dL_law_607 rfl (lv_at hl 5 rfl) ?_
  refine lv_iload (pc := 608) cx.1 cx.2.1 dL_law_608 (lv_at hl 1 rfl) ?_
  refine lv_iconst (pc := 610) (v := 3) cx.1 cx.2.1 dL_law_610 (by decide) ?_
  refine lv_iadd (pc := 611) cx.1 cx.2.1 dL_law_611 ?_
  refine va_sld (pc := 612) cx.1 cx.2.1 hX hbl hbA hw.2.2 hi3 dL_law_612 ?_
  replace hw := hw.to3
  have hpt := l_pt hw
  refine l_l (pc := 613) (wf := wM d hm) (u := w.2.2) cx hw (k_runV (pc := 613) (rest := []) (As := [.int (xs (i + (1 : Int32)).toNatClampNeg), .int (xs (i + (2 : Int32)).toNatClampNeg), .int (xs (i + (3 : Int32)).toNatClampNeg)]) cx hpt.1 hpt.2 hw.2.2 (k_recv cx hw 0 (ci := 10) (q := (RX12, TX12, 40)) rfl rfl) (m_X12_aggSum l dC dI d hm w.2.2 (xs (i + (1 : Int32)).toNatClampNeg) (xs (i + (2 : Int32)).toNatClampNeg) (xs (i + (3 : Int32)).toNatClampNeg) hwp H.size) (cwV 3 cx.2.2.2.2.1 (lw_V q1310 q1311 q1312 q89 q1313) rfl rfl rfl hdV_X12_aggSum ⟨Nat.le_of_ble_eq_true rfl, Nat.le_of_ble_eq_true rfl⟩) rfl hl.1 rfl (Nat.le_of_ble_eq_true rfl) dL_law_613 ⟨by show cells + 5 + 0 ≤ 603072; have := hR.1; omega, by show slots + 320 + 0 ≤ 7206600; have := hR.2; omega⟩) (fun r3 v4 H locs hwp hw => ?_)
  clear hpt
  replace hw := hw.of3
  refine lv_lstore (pc := 616) (lv' := [(6, .long r3), (5, .int r1), (4, .int i), (3, .ref g), (2, .ref (hm 0)), (1, .ref (z 0 0)), (0, .ref b)]) cx.1 cx.2.1 dL_law_616 hl (by decide) rfl (fun ls hl => ?_)
  refine lv_aload_n (pc := 618) cx.1 cx.2.1 dL_law_618 rfl (lv_at hl 4 rfl) ?_
  replace hw := hw.to3
  have hpt := l_pt hw
  refine l_i (pc := 619) (wf := wM d hm) (u := v4) cx hw (k_runV (pc := 619) (rest := []) (As := []) cx hpt.1 hpt.2 hw.2.2 (k_recv cx hw 0 (ci := 10) (q := (RX12, TX12, 40)) rfl rfl) (m_X12_thrown l dC dI d hm v4  hwp H.size) (cwV 0 cx.2.2.2.2.1 (lw_V q1098 q1099 q1100 q89 q1101) rfl rfl rfl hdV_X12_thrown ⟨Nat.le_of_ble_eq_true rfl, Nat.le_of_ble_eq_true rfl⟩) rfl hl.1 rfl (Nat.le_of_ble_eq_true rfl) dL_law_619 ⟨by show cells + 5 + 0 + 0 ≤ 603072; have := hR.1; omega, by show slots + 320 + 0 + 0 ≤ 7206600; have := hR.2; omega⟩) (fun r5 v6 H locs hwp hw => ?_)
  clear hpt
  replace hw := hw.of3
  refine lv_iload (pc := 622) cx.1 cx.2.1 dL_law_622 (lv_at hl 1 rfl) ?_
  refine lv_icmp_eq (pc := 624) (tgt := 629) cx.1 cx.2.1 dL_law_624 (by decide) (fun c9 => ?_) (fun c9 => absurd hwp.1 c9)
  replace hwp := hwp.2
  refine lv_iload (pc := 629) cx.1 cx.2.1 dL_law_629 (lv_at hl 1 rfl) ?_
  refine lv_if_ne (pc := 631) (tgt := 645) cx.1 cx.2.1 dL_law_631 (by decide) (fun c9 => ?_) (fun c9 => ?_)
  · refine lv_goto (pc := 645) (tgt := 964) cx.1 cx.2.1 dL_law_645 (by decide) ?_
    exact W.widen (show cells + 5 + 0 + 0 ≤ cells + 20 by omega) (show slots + 320 + 0 + 0 ≤ slots + 700 by omega) (kk ((u2.1, w.1.2), u2.2, v6) H locs ls (hwp.1 c9) hw (lv_sub hl [2, 3, 4, 5, 6] rfl))
  · replace hwp := hwp.2 c9
    refine lv_aload_n (pc := 634) cx.1 cx.2.1 dL_law_634 rfl (lv_at hl 3 rfl) ?_
    refine lv_iconst (pc := 635) (v := 0) cx.1 cx.2.1 dL_law_635 (by decide) ?_
    refine l_outR (pc := 636) (o := u2.2) cx (show Wd dC dI A ([(g, .inl (d 2, 1, .inr (.inl u2.2)))] ++ (wM d hm v6 ++ wPb d nh hh cf z (u2.1, w.1.2))) s H locs from (Wd.comm hw).of2) dL_law_636 ?_
    refine lv_lload (pc := 637) cx.1 cx.2.1 dL_law_637 (lv_at hl 0 rfl) ?_
    refine W.lcmp (pc := 639) cx.1 cx.2.1 dL_law_639 ?_
    refine lv_if_eq (pc := 640) (tgt := 645) cx.1 cx.2.1 dL_law_640 (by decide) (fun c9 => ?_) (fun c9 => absurd ((lg_cmp_eq _ _).mpr hwp.1) c9)
    refine lv_goto (pc := 645) (tgt := 964) cx.1 cx.2.1 dL_law_645 (by decide) ?_
    exact W.widen (show cells + 5 + 0 + 0 ≤ cells + 20 by omega) (show slots + 320 + 0 + 0 ≤ slots + 700 by omega) (kk ((u2.1, w.1.2), u2.2, v6) H locs ls hwp.2 hw (lv_sub hl [2, 3, 4, 5, 6] rfl))
set_option maxHeartbeats 4000000 in
theorem lw_op12 {p : Program} {l : Launch} {e : Env} {s : State} {m : MethodId} {args : Array Value} {below : List Frame} {meth : Method} {c : Code} {A : Nat → Prop} {dC : Nat → ClassId} {dI : Nat → Nat → Nat} {d : Nat → ClassId} {z : Nat → Nat → Nat} {hh : Nat → Nat → Nat} {cf : List Value} {nh : Nat} {g : Nat} {hm : Nat → Nat} {Q : State → Prop} {ret9 : Option FieldType} {b L : Nat} {xs : Nat → Int32} (cx : Cx p s m args meth c cL_law "PointLedgerLaw" 8 ret9 A dC dI d) (hlt : l.stackTraces = false) (hX : va_X b L xs s s.heap) (hbl : b < s.heap.size) (hbA : ¬ A b) (i : Int32) (hi1 : vp_in (i + (1 : Int32)) L) (hi2 : vp_in (i + (2 : Int32)) L) (hi3 : vp_in (i + (3 : Int32)) L) (w : (PS × Bool) × (Nat → Int64) × St) {K : (PS × Bool) × (Nat → Int64) × St → Prop} (hwp : wp_op12 nh (xs (i + (1 : Int32)).toNatClampNeg) (xs (i + (2 : Int32)).toNatClampNeg) (xs (i + (3 : Int32)).toNatClampNeg) w K) {H : Heap} {locs : List Loc} {ls : Array Slot} (hw : Wd dC dI A (wL d nh hh cf z g hm w) s H locs) (hl : lv_has ls 8 [(4, .int i), (3, .ref g), (2, .ref (hm 0)), (1, .ref (z 0 0)), (0, .ref b)]) {cells slots : Nat} (hR : cells + 20 ≤ 603072 ∧ slots + 700 ≤ 7206600)
    (kk : ∀ (w : (PS × Bool) × (Nat → Int64) × St) (H : Heap) (locs : List Loc) (ls : Array Slot), K w → Wd dC dI A (wL d nh hh cf z g hm w) s H locs → lv_has ls 8 [(4, .int i), (3, .ref g), (2, .ref (hm 0)), (1, .ref (z 0 0)), (0, .ref b)] → W p l e room_1 s m args below meth c H locs (cells + 20) (slots + 700) Q (F0 m 964 ls [])) : W p l e room_1 s m args below meth c H locs cells slots Q (F0 m 648 ls []) := by
  unfold wp_op12 at hwp
  replace hw : Wd dC dI A (wPb d nh hh cf z w.1 ++ ([(g, .inl (d 2, 1, .inr (.inl w.2.1)))] ++ wM d hm w.2.2)) s H locs := hw
  refine lv_aload_n (pc := 648) cx.1 cx.2.1 dL_law_648 rfl (lv_at hl 3 rfl) ?_
  refine lv_aload_n (pc := 649) cx.1 cx.2.1 dL_law_649 rfl (lv_at hl 4 rfl) ?_
  refine lv_iload (pc := 650) cx.1 cx.2.1 dL_law_650 (lv_at hl 0 rfl) ?_
  refine lv_iconst (pc := 652) (v := 1) cx.1 cx.2.1 dL_law_652 (by decide) ?_
  refine lv_iadd (pc := 653) cx.1 cx.2.1 dL_law_653 ?_
  refine va_sld (pc := 654) cx.1 cx.2.1 hX hbl hbA hw.2.2 hi1 dL_law_654 ?_
  have hpt := l_pt hw
  refine l_i (pc := 655) (wf := wP d nh hh cf (sw_A w.1.2 z)) (u := w.1.1) cx hw (k_runV (pc := 655) (rest := []) (As := [.int (xs (i + (1 : Int32)).toNatClampNeg)]) cx hpt.1 hpt.2 hw.2.2 (k_recv cx hw 0 (ci := 0) (q := (RX1, TX1, 21)) rfl rfl) (m_X1_crashAfter l dC dI d (sw_A w.1.2 z) hh cf nh w.1.1 (xs (i + (1 : Int32)).toNatClampNeg) hwp H.size) (cwV 1 cx.2.2.2.2.1 (lw_V q835 q836 q837 q75 q838) rfl rfl rfl hdV_X1_crashAfter ⟨Nat.le_of_ble_eq_true rfl, Nat.le_of_ble_eq_true rfl⟩) rfl hl.1 rfl (Nat.le_of_ble_eq_true rfl) dL_law_655 ⟨by show cells + 0 ≤ 603072; have := hR.1; omega, by show slots + 0 ≤ 7206600; have := hR.2; omega⟩) (fun r1 u2 H locs hwp hw => ?_)
  clear hpt
  replace hw : Wd dC dI A (wPb d nh hh cf z (u2, w.1.2) ++ ([(g, .inl (d 2, 1, .inr (.inl w.2.1)))] ++ wM d hm w.2.2)) s H locs := hw
  refine lv_aload_n (pc := 658) cx.1 cx.2.1 dL_law_658 rfl (lv_at hl 2 rfl) ?_
  refine lv_aload_n (pc := 659) cx.1 cx.2.1 dL_law_659 rfl (lv_at hl 4 rfl) ?_
  refine lv_iload (pc := 660) cx.1 cx.2.1 dL_law_660 (lv_at hl 0 rfl) ?_
  refine lv_iconst (pc := 662) (v := 1) cx.1 cx.2.1 dL_law_662 (by decide) ?_
  refine lv_iadd (pc := 663) cx.1 cx.2.1 dL_law_663 ?_
  refine va_sld (pc := 664) cx.1 cx.2.1 hX hbl hbA hw.2.2 hi1 dL_law_664 ?_
  replace hw := hw.to3
  have hpt := l_pt hw
  refine l_i (pc := 665) (wf := wM d hm) (u := w.2.2) cx hw (k_runV (pc := 665) (rest := [.int r1]) (As := [.int (xs (i + (1 : Int32)).toNatClampNeg)]) cx hpt.1 hpt.2 hw.2.2 (k_recv cx hw 0 (ci := 10) (q := (RX12, TX12, 40)) rfl rfl) (m_X12_crashAfter l dC dI d hm w.2.2 (xs (i + (1 : Int32)).toNatClampNeg) hwp H.size) (cwV 1 cx.2.2.2.2.1 (lw_V q1314 q1315 q1316 q89 q1317) rfl rfl rfl hdV_X12_crashAfter ⟨Nat.le_of_ble_eq_true rfl, Nat.le_of_ble_eq_true rfl⟩) rfl hl.1 rfl (Nat.le_of_ble_eq_true rfl) dL_law_665 ⟨by show cells + 0 + 0 ≤ 603072; have := hR.1; omega, by show slots + 0 + 0 ≤ 7206600; have := hR.2; omega⟩) (fun r3 v4 H locs hwp hw => ?_)
  clear hpt
  replace hw := hw.of3
  refine lv_icmp_eq (pc := 668) (tgt := 964) cx.1 cx.2.1 dL_law_668 (by decide) (fun c9 => ?_) (fun c9 => absurd hwp.1 c9)
  replace hwp := hwp.2
  exact W.widen (show cells + 0 + 0 ≤ cells + 20 by omega) (show slots + 0 + 0 ≤ slots + 700 by omega) (kk ((u2, w.1.2), w.2.1, v4) H locs ls hwp hw (lv_sub hl [0, 1, 2, 3, 4] rfl))
set_option maxHeartbeats 4000000 in
theorem lw_op13 {p : Program} {l : Launch} {e : Env} {s : State} {m : MethodId} {args : Array Value} {below : List Frame} {meth : Method} {c : Code} {A : Nat → Prop} {dC : Nat → ClassId} {dI : Nat → Nat → Nat} {d : Nat → ClassId} {z : Nat → Nat → Nat} {hh : Nat → Nat → Nat} {cf : List Value} {nh : Nat} {g : Nat} {hm : Nat → Nat} {Q : State → Prop} {ret9 : Option FieldType} {b L : Nat} {xs : Nat → Int32} (cx : Cx p s m args meth c cL_law "PointLedgerLaw" 8 ret9 A dC dI d) (hlt : l.stackTraces = false) (hX : va_X b L xs s s.heap) (hbl : b < s.heap.size) (hbA : ¬ A b) (i : Int32) (hi1 : vp_in (i + (1 : Int32)) L) (hi2 : vp_in (i + (2 : Int32)) L) (hi3 : vp_in (i + (3 : Int32)) L) (w : (PS × Bool) × (Nat → Int64) × St) {K : (PS × Bool) × (Nat → Int64) × St → Prop} (hwp : wp_op13 nh (xs (i + (1 : Int32)).toNatClampNeg) (xs (i + (2 : Int32)).toNatClampNeg) (xs (i + (3 : Int32)).toNatClampNeg) w K) {H : Heap} {locs : List Loc} {ls : Array Slot} (hw : Wd dC dI A (wL d nh hh cf z g hm w) s H locs) (hl : lv_has ls 8 [(4, .int i), (3, .ref g), (2, .ref (hm 0)), (1, .ref (z 0 0)), (0, .ref b)]) {cells slots : Nat} (hR : cells + 20 ≤ 603072 ∧ slots + 700 ≤ 7206600)
    (kk : ∀ (w : (PS × Bool) × (Nat → Int64) × St) (H : Heap) (locs : List Loc) (ls : Array Slot), K w → Wd dC dI A (wL d nh hh cf z g hm w) s H locs → lv_has ls 8 [(4, .int i), (3, .ref g), (2, .ref (hm 0)), (1, .ref (z 0 0)), (0, .ref b)] → W p l e room_1 s m args below meth c H locs (cells + 20) (slots + 700) Q (F0 m 964 ls [])) : W p l e room_1 s m args below meth c H locs cells slots Q (F0 m 673 ls []) := by
  unfold wp_op13 at hwp
  replace hw : Wd dC dI A (wPb d nh hh cf z w.1 ++ ([(g, .inl (d 2, 1, .inr (.inl w.2.1)))] ++ wM d hm w.2.2)) s H locs := hw
  refine lv_aload_n (pc := 673) cx.1 cx.2.1 dL_law_673 rfl (lv_at hl 3 rfl) ?_
  have hpt := l_pt hw
  refine l_i (pc := 674) (wf := wP d nh hh cf (sw_A w.1.2 z)) (u := w.1.1) cx hw (k_runV (pc := 674) (rest := []) (As := []) cx hpt.1 hpt.2 hw.2.2 (k_recv cx hw 0 (ci := 0) (q := (RX1, TX1, 21)) rfl rfl) (m_X1_recover l dC dI d (sw_A w.1.2 z) hh cf nh w.1.1  hwp H.size) (cwV 0 cx.2.2.2.2.1 (lw_V q840 q841 q842 q75 q843) rfl rfl rfl hdV_X1_recover ⟨Nat.le_of_ble_eq_true rfl, Nat.le_of_ble_eq_true rfl⟩) rfl hl.1 rfl (Nat.le_of_ble_eq_true rfl) dL_law_674 ⟨by show cells + 0 ≤ 603072; have := hR.1; omega, by show slots + 0 ≤ 7206600; have := hR.2; omega⟩) (fun r1 u2 H locs hwp hw => ?_)
  clear hpt
  replace hw : Wd dC dI A (wPb d nh hh cf z (u2, w.1.2) ++ ([(g, .inl (d 2, 1, .inr (.inl w.2.1)))] ++ wM d hm w.2.2)) s H locs := hw
  refine lv_aload_n (pc := 677) cx.1 cx.2.1 dL_law_677 rfl (lv_at hl 2 rfl) ?_
  replace hw := hw.to3
  have hpt := l_pt hw
  refine l_i (pc := 678) (wf := wM d hm) (u := w.2.2) cx hw (k_runV (pc := 678) (rest := [.int r1]) (As := []) cx hpt.1 hpt.2 hw.2.2 (k_recv cx hw 0 (ci := 10) (q := (RX12, TX12, 40)) rfl rfl) (m_X12_recover l dC dI d hm w.2.2  hwp H.size) (cwV 0 cx.2.2.2.2.1 (lw_V q1319 q1320 q1321 q89 q1322) rfl rfl rfl hdV_X12_recover ⟨Nat.le_of_ble_eq_true rfl, Nat.le_of_ble_eq_true rfl⟩) rfl hl.1 rfl (Nat.le_of_ble_eq_true rfl) dL_law_678 ⟨by show cells + 0 + 0 ≤ 603072; have := hR.1; omega, by show slots + 0 + 0 ≤ 7206600; have := hR.2; omega⟩) (fun r3 v4 H locs hwp hw => ?_)
  clear hpt
  replace hw := hw.of3
  refine lv_icmp_eq (pc := 681) (tgt := 964) cx.1 cx.2.1 dL_law_681 (by decide) (fun c9 => ?_) (fun c9 => absurd hwp.1 c9)
  replace hwp := hwp.2
  exact W.widen (show cells + 0 + 0 ≤ cells + 20 by omega) (show slots + 0 + 0 ≤ slots + 700 by omega) (kk ((u2, w.1.2), w.2.1, v4) H locs ls hwp hw (lv_sub hl [0, 1, 2, 3, 4] rfl))
set_option maxHeartbeats 4000000 in
theorem lw_op14 {p : Program} {l : Launch} {e : Env} {s : State} {m : MethodId} {args : Array Value} {below : List Frame} {meth : Method} {c : Code} {A : Nat → Prop} {dC : Nat → ClassId} {dI : Nat → Nat → Nat} {d : Nat → ClassId} {z : Nat → Nat → Nat} {hh : Nat → Nat → Nat} {cf : List Value} {nh : Nat} {g : Nat} {hm : Nat → Nat} {Q : State → Prop} {ret9 : Option FieldType} {b L : Nat} {xs : Nat → Int32} (cx : Cx p s m args meth c cL_law "PointLedgerLaw" 8 ret9 A dC dI d) (hlt : l.stackTraces = false) (hX : va_X b L xs s s.heap) (hbl : b < s.heap.size) (hbA : ¬ A b) (i : Int32) (hi1 : vp_in (i + (1 : Int32)) L) (hi2 : vp_in (i + (2 : Int32)) L) (hi3 : vp_in (i + (3 : Int32)) L) (w : (PS × Bool) × (Nat → Int64) × St) {K : (PS × Bool) × (Nat → Int64) × St → Prop} (hwp : wp_op14 nh (xs (i + (1 : Int32)).toNatClampNeg) (xs (i + (2 : Int32)).toNatClampNeg) (xs (i + (3 : Int32)).toNatClampNeg) w K) {H : Heap} {locs : List Loc} {ls : Array Slot} (hw : Wd dC dI A (wL d nh hh cf z g hm w) s H locs) (hl : lv_has ls 8 [(4, .int i), (3, .ref g), (2, .ref (hm 0)), (1, .ref (z 0 0)), (0, .ref b)]) {cells slots : Nat} (hR : cells + 20 ≤ 603072 ∧ slots + 700 ≤ 7206600)
    (kk : ∀ (w : (PS × Bool) × (Nat → Int64) × St) (H : Heap) (locs : List Loc) (ls : Array Slot), K w → Wd dC dI A (wL d nh hh cf z g hm w) s H locs → lv_has ls 8 [(4, .int i), (3, .ref g), (2, .ref (hm 0)), (1, .ref (z 0 0)), (0, .ref b)] → W p l e room_1 s m args below meth c H locs (cells + 20) (slots + 700) Q (F0 m 964 ls [])) : W p l e room_1 s m args below meth c H locs cells slots Q (F0 m 686 ls []) := by
  unfold wp_op14 at hwp
  replace hw : Wd dC dI A (wPb d nh hh cf z w.1 ++ ([(g, .inl (d 2, 1, .inr (.inl w.2.1)))] ++ wM d hm w.2.2)) s H locs := hw
  refine lv_aload_n (pc := 686) cx.1 cx.2.1 dL_law_686 rfl (lv_at hl 3 rfl) ?_
  refine lv_aload_n (pc := 687) cx.1 cx.2.1 dL_law_687 rfl (lv_at hl 4 rfl) ?_
  refine lv_iload (pc := 688) cx.1 cx.2.1 dL_law_688 (lv_at hl 0 rfl) ?_
  refine lv_iconst (pc := 690) (v := 1) cx.1 cx.2.1 dL_law_690 (by decide) ?_
  refine lv_iadd (pc := 691) cx.1 cx.2.1 dL_law_691 ?_
  refine va_sld (pc := 692) cx.1 cx.2.1 hX hbl hbA hw.2.2 hi1 dL_law_692 ?_
  have hpt := l_pt hw
  refine l_i (pc := 693) (wf := wP d nh hh cf (sw_A w.1.2 z)) (u := w.1.1) cx hw (k_runVW (pc := 693) (rest := []) (As := [.int (xs (i + (1 : Int32)).toNatClampNeg)]) cx hpt.1 hpt.2 hw.2.2 (k_recv cx hw 0 (ci := 0) (q := (RX1, TX1, 21)) rfl rfl) (m_X1_cell l hlt dC dI d (sw_A w.1.2 z) hh cf nh w.1.1 (xs (i + (1 : Int32)).toNatClampNeg) hwp H.size) (k_cwVW 1 cx.2.2.2.2.1 (lw_VW q849 q850 q851 q75 q852) rfl rfl rfl hdV_X1_cell ⟨Nat.le_of_ble_eq_true rfl, Nat.le_of_ble_eq_true rfl⟩) rfl hl.1 rfl (Nat.le_of_ble_eq_true rfl) dL_law_693 ⟨by show cells + 3 ≤ 603072; have := hR.1; omega, by show slots + 300 ≤ 7206600; have := hR.2; omega⟩) (fun r1 u2 H locs hwp hw => ?_)
  clear hpt
  replace hw : Wd dC dI A (wPb d nh hh cf z (u2, w.1.2) ++ ([(g, .inl (d 2, 1, .inr (.inl w.2.1)))] ++ wM d hm w.2.2)) s H locs := hw
  refine lv_aload_n (pc := 696) cx.1 cx.2.1 dL_law_696 rfl (lv_at hl 2 rfl) ?_
  refine lv_aload_n (pc := 697) cx.1 cx.2.1 dL_law_697 rfl (lv_at hl 4 rfl) ?_
  refine lv_iload (pc := 698) cx.1 cx.2.1 dL_law_698 (lv_at hl 0 rfl) ?_
  refine lv_iconst (pc := 700) (v := 1) cx.1 cx.2.1 dL_law_700 (by decide) ?_
  refine lv_iadd (pc := 701) cx.1 cx.2.1 dL_law_701 ?_
  refine va_sld (pc := 702) cx.1 cx.2.1 hX hbl hbA hw.2.2 hi1 dL_law_702 ?_
  replace hw := hw.to3
  have hpt := l_pt hw
  refine l_i (pc := 703) (wf := wM d hm) (u := w.2.2) cx hw (k_runV (pc := 703) (rest := [.int r1]) (As := [.int (xs (i + (1 : Int32)).toNatClampNeg)]) cx hpt.1 hpt.2 hw.2.2 (k_recv cx hw 0 (ci := 10) (q := (RX12, TX12, 40)) rfl rfl) (m_X12_cell l dC dI d hm w.2.2 (xs (i + (1 : Int32)).toNatClampNeg) hwp H.size) (cwV 1 cx.2.2.2.2.1 (lw_V q1339 q1340 q1341 q89 q1342) rfl rfl rfl hdV_X12_cell ⟨Nat.le_of_ble_eq_true rfl, Nat.le_of_ble_eq_true rfl⟩) rfl hl.1 rfl (Nat.le_of_ble_eq_true rfl) dL_law_703 ⟨by show cells + 3 + 0 ≤ 603072; have := hR.1; omega, by show slots + 300 + 0 ≤ 7206600; have := hR.2; omega⟩) (fun r3 v4 H locs hwp hw => ?_)
  clear hpt
  replace hw := hw.of3
  refine lv_icmp_eq (pc := 706) (tgt := 964) cx.1 cx.2.1 dL_law_706 (by decide) (fun c9 => ?_) (fun c9 => absurd hwp.1 c9)
  replace hwp := hwp.2
  exact W.widen (show cells + 3 + 0 ≤ cells + 20 by omega) (show slots + 300 + 0 ≤ slots + 700 by omega) (kk ((u2, w.1.2), w.2.1, v4) H locs ls hwp hw (lv_sub hl [0, 1, 2, 3, 4] rfl))
set_option maxHeartbeats 4000000 in
theorem lw_op15 {p : Program} {l : Launch} {e : Env} {s : State} {m : MethodId} {args : Array Value} {below : List Frame} {meth : Method} {c : Code} {A : Nat → Prop} {dC : Nat → ClassId} {dI : Nat → Nat → Nat} {d : Nat → ClassId} {z : Nat → Nat → Nat} {hh : Nat → Nat → Nat} {cf : List Value} {nh : Nat} {g : Nat} {hm : Nat → Nat} {Q : State → Prop} {ret9 : Option FieldType} {b L : Nat} {xs : Nat → Int32} (cx : Cx p s m args meth c cL_law "PointLedgerLaw" 8 ret9 A dC dI d) (hlt : l.stackTraces = false) (hX : va_X b L xs s s.heap) (hbl : b < s.heap.size) (hbA : ¬ A b) (i : Int32) (hi1 : vp_in (i + (1 : Int32)) L) (hi2 : vp_in (i + (2 : Int32)) L) (hi3 : vp_in (i + (3 : Int32)) L) (w : (PS × Bool) × (Nat → Int64) × St) {K : (PS × Bool) × (Nat → Int64) × St → Prop} (hwp : wp_op15 nh (xs (i + (1 : Int32)).toNatClampNeg) (xs (i + (2 : Int32)).toNatClampNeg) (xs (i + (3 : Int32)).toNatClampNeg) w K) {H : Heap} {locs : List Loc} {ls : Array Slot} (hw : Wd dC dI A (wL d nh hh cf z g hm w) s H locs) (hl : lv_has ls 8 [(4, .int i), (3, .ref g), (2, .ref (hm 0)), (1, .ref (z 0 0)), (0, .ref b)]) {cells slots : Nat} (hR : cells + 20 ≤ 603072 ∧ slots + 700 ≤ 7206600)
    (kk : ∀ (w : (PS × Bool) × (Nat → Int64) × St) (H : Heap) (locs : List Loc) (ls : Array Slot), K w → Wd dC dI A (wL d nh hh cf z g hm w) s H locs → lv_has ls 8 [(4, .int i), (3, .ref g), (2, .ref (hm 0)), (1, .ref (z 0 0)), (0, .ref b)] → W p l e room_1 s m args below meth c H locs (cells + 20) (slots + 700) Q (F0 m 964 ls [])) : W p l e room_1 s m args below meth c H locs cells slots Q (F0 m 711 ls []) := by
  unfold wp_op15 at hwp
  replace hw : Wd dC dI A (wPb d nh hh cf z w.1 ++ ([(g, .inl (d 2, 1, .inr (.inl w.2.1)))] ++ wM d hm w.2.2)) s H locs := hw
  refine lv_aload_n (pc := 711) cx.1 cx.2.1 dL_law_711 rfl (lv_at hl 3 rfl) ?_
  refine lv_aload_n (pc := 712) cx.1 cx.2.1 dL_law_712 rfl (lv_at hl 4 rfl) ?_
  refine lv_iload (pc := 713) cx.1 cx.2.1 dL_law_713 (lv_at hl 0 rfl) ?_
  refine lv_iconst (pc := 715) (v := 1) cx.1 cx.2.1 dL_law_715 (by decide) ?_
  refine lv_iadd (pc := 716) cx.1 cx.2.1 dL_law_716 ?_
  refine va_sld (pc := 717) cx.1 cx.2.1 hX hbl hbA hw.2.2 hi1 dL_law_717 ?_
  refine lv_aload_n (pc := 718) cx.1 cx.2.1 dL_law_718 rfl (lv_at hl 4 rfl) ?_
  refine lv_iload (pc := 719) cx.1 cx.2.1 dL_law_719 (lv_at hl 0 rfl) ?_
  refine lv_iconst (pc := 721) (v := 2) cx.1 cx.2.1 dL_law_721 (by decide) ?_
  refine lv_iadd (pc := 722) cx.1 cx.2.1 dL_law_722 ?_
  refine va_sld (pc := 723) cx.1 cx.2.1 hX hbl hbA hw.2.2 hi2 dL_law_723 ?_
  refine lv_aload_n (pc := 724) cx.1 cx.2.1 dL_law_724 rfl (lv_at hl 1 rfl) ?_
  replace hw : Wd dC dI A (wLo d nh hh cf (sw_A w.1.2 z) g (w.1.1, w.2.1) ++ wM d hm w.2.2) s H locs := hw.to2
  have hpt := l_pt hw
  refine l_i (pc := 725) (wf := wLo d nh hh cf (sw_A w.1.2 z) g) (u := (w.1.1, w.2.1)) cx hw (k_runSW (pc := 725) (rest := []) (As := [.ref (z 0 0), .int (xs (i + (1 : Int32)).toNatClampNeg), .int (xs (i + (2 : Int32)).toNatClampNeg), .ref g]) cx hpt.1 hpt.2 hw.2.2 (m_X0_sizes l hlt dC dI d (sw_A w.1.2 z) hh cf g nh (w.1.1, w.2.1) (xs (i + (1 : Int32)).toNatClampNeg) (xs (i + (2 : Int32)).toNatClampNeg) hwp H.size) (k_cwSW 4 cx.2.2.2.2.1 (lw_SW q921 q922 q74 q923) rfl rfl rfl hdS_X0_sizes ⟨Nat.le_of_ble_eq_true rfl, Nat.le_of_ble_eq_true rfl⟩) rfl hl.1 rfl (Nat.le_of_ble_eq_true rfl) dL_law_725 ⟨by show cells + 6 ≤ 603072; have := hR.1; omega, by show slots + 330 ≤ 7206600; have := hR.2; omega⟩) (fun r1 u2 H locs hwp hw => ?_)
  clear hpt
  replace hw : Wd dC dI A (wPb d nh hh cf z (u2.1, w.1.2) ++ ([(g, .inl (d 2, 1, .inr (.inl u2.2)))] ++ wM d hm w.2.2)) s H locs := Wd.of2 hw
  refine lv_istore (pc := 728) (lv' := [(5, .int r1), (4, .int i), (3, .ref g), (2, .ref (hm 0)), (1, .ref (z 0 0)), (0, .ref b)]) cx.1 cx.2.1 dL_law_728 hl (by decide) rfl (fun ls hl => ?_)
  refine lv_aload_n (pc := 730) cx.1 cx.2.1 dL_law_730 rfl (lv_at hl 3 rfl) ?_
  refine lv_aload_n (pc := 731) cx.1 cx.2.1 dL_law_731 rfl (lv_at hl 5 rfl) ?_
  refine lv_iload (pc := 732) cx.1 cx.2.1 dL_law_732 (lv_at hl 1 rfl) ?_
  refine lv_iconst (pc := 734) (v := 1) cx.1 cx.2.1 dL_law_734 (by decide) ?_
  refine lv_iadd (pc := 735) cx.1 cx.2.1 dL_law_735 ?_
  refine va_sld (pc := 736) cx.1 cx.2.1 hX hbl hbA hw.2.2 hi1 dL_law_736 ?_
  refine lv_aload_n (pc := 737) cx.1 cx.2.1 dL_law_737 rfl (lv_at hl 5 rfl) ?_
  refine lv_iload (pc := 738) cx.1 cx.2.1 dL_law_738 (lv_at hl 1 rfl) ?_
  refine lv_iconst (pc := 740) (v := 2) cx.1 cx.2.1 dL_law_740 (by decide) ?_
  refine lv_iadd (pc := 741) cx.1 cx.2.1 dL_law_741 ?_
  refine va_sld (pc := 742) cx.1 cx.2.1 hX hbl hbA hw.2.2 hi2 dL_law_742 ?_
  replace hw := hw.to3
  have hpt := l_pt hw
  refine l_i (pc := 743) (wf := wM d hm) (u := w.2.2) cx hw (k_runV (pc := 743) (rest := []) (As := [.int (xs (i + (1 : Int32)).toNatClampNeg), .int (xs (i + (2 : Int32)).toNatClampNeg)]) cx hpt.1 hpt.2 hw.2.2 (k_recv cx hw 0 (ci := 10) (q := (RX12, TX12, 40)) rfl rfl) (m_X12_sizes l dC dI d hm w.2.2 (xs (i + (1 : Int32)).toNatClampNeg) (xs (i + (2 : Int32)).toNatClampNeg) hwp H.size) (cwV 2 cx.2.2.2.2.1 (lw_V q1343 q1344 q1345 q89 q1346) rfl rfl rfl hdV_X12_sizes ⟨Nat.le_of_ble_eq_true rfl, Nat.le_of_ble_eq_true rfl⟩) rfl hl.1 rfl (Nat.le_of_ble_eq_true rfl) dL_law_743 ⟨by show cells + 6 + 0 ≤ 603072; have := hR.1; omega, by show slots + 330 + 0 ≤ 7206600; have := hR.2; omega⟩) (fun r3 v4 H locs hwp hw => ?_)
  clear hpt
  replace hw := hw.of3
  refine lv_istore (pc := 746) (lv' := [(6, .int r3), (5, .int r1), (4, .int i), (3, .ref g), (2, .ref (hm 0)), (1, .ref (z 0 0)), (0, .ref b)]) cx.1 cx.2.1 dL_law_746 hl (by decide) rfl (fun ls hl => ?_)
  refine lv_aload_n (pc := 748) cx.1 cx.2.1 dL_law_748 rfl (lv_at hl 4 rfl) ?_
  replace hw := hw.to3
  have hpt := l_pt hw
  refine l_i (pc := 749) (wf := wM d hm) (u := v4) cx hw (k_runV (pc := 749) (rest := []) (As := []) cx hpt.1 hpt.2 hw.2.2 (k_recv cx hw 0 (ci := 10) (q := (RX12, TX12, 40)) rfl rfl) (m_X12_thrown l dC dI d hm v4  hwp H.size) (cwV 0 cx.2.2.2.2.1 (lw_V q1098 q1099 q1100 q89 q1101) rfl rfl rfl hdV_X12_thrown ⟨Nat.le_of_ble_eq_true rfl, Nat.le_of_ble_eq_true rfl⟩) rfl hl.1 rfl (Nat.le_of_ble_eq_true rfl) dL_law_749 ⟨by show cells + 6 + 0 + 0 ≤ 603072; have := hR.1; omega, by show slots + 330 + 0 + 0 ≤ 7206600; have := hR.2; omega⟩) (fun r5 v6 H locs hwp hw => ?_)
  clear hpt
  replace hw := hw.of3
  refine lv_iload (pc := 752) cx.1 cx.2.1 dL_law_752 (lv_at hl 1 rfl) ?_
  refine lv_icmp_eq (pc := 754) (tgt := 759) cx.1 cx.2.1 dL_law_754 (by decide) (fun c9 => ?_) (fun c9 => absurd hwp.1 c9)
  replace hwp := hwp.2
  refine lv_iload (pc := 759) cx.1 cx.2.1 dL_law_759 (lv_at hl 1 rfl) ?_
  refine lv_if_ne (pc := 761) (tgt := 776) cx.1 cx.2.1 dL_law_761 (by decide) (fun c9 => ?_) (fun c9 => ?_)
  · refine lv_goto (pc := 776) (tgt := 964) cx.1 cx.2.1 dL_law_776 (by decide) ?_
    exact W.widen (show cells + 6 + 0 + 0 ≤ cells + 20 by omega) (show slots + 330 + 0 + 0 ≤ slots + 700 by omega) (kk ((u2.1, w.1.2), u2.2, v6) H locs ls (hwp.1 c9) hw (lv_sub hl [2, 3, 4, 5, 6] rfl))
  · replace hwp := hwp.2 c9
    refine lv_aload_n (pc := 764) cx.1 cx.2.1 dL_law_764 rfl (lv_at hl 3 rfl) ?_
    refine lv_iconst (pc := 765) (v := 0) cx.1 cx.2.1 dL_law_765 (by decide) ?_
    refine l_outR (pc := 766) (o := u2.2) cx (show Wd dC dI A ([(g, .inl (d 2, 1, .inr (.inl u2.2)))] ++ (wM d hm v6 ++ wPb d nh hh cf z (u2.1, w.1.2))) s H locs from (Wd.comm hw).of2) dL_law_766 ?_
    refine lv_iload (pc := 767) cx.1 cx.2.1 dL_law_767 (lv_at hl 0 rfl) ?_
    refine lv_i2l (pc := 769) cx.1 cx.2.1 dL_law_769 rfl ?_
    refine W.lcmp (pc := 770) cx.1 cx.2.1 dL_law_770 ?_
    refine lv_if_eq (pc := 771) (tgt := 776) cx.1 cx.2.1 dL_law_771 (by decide) (fun c9 => ?_) (fun c9 => absurd ((lg_cmp_eq _ _).mpr hwp.1) c9)
    refine lv_goto (pc := 776) (tgt := 964) cx.1 cx.2.1 dL_law_776 (by decide) ?_
    exact W.widen (show cells + 6 + 0 + 0 ≤ cells + 20 by omega) (show slots + 330 + 0 + 0 ≤ slots + 700 by omega) (kk ((u2.1, w.1.2), u2.2, v6) H locs ls hwp.2 hw (lv_sub hl [2, 3, 4, 5, 6] rfl))
set_option maxHeartbeats 4000000 in
theorem lw_op16 {p : Program} {l : Launch} {e : Env} {s : State} {m : MethodId} {args : Array Value} {below : List Frame} {meth : Method} {c : Code} {A : Nat → Prop} {dC : Nat → ClassId} {dI : Nat → Nat → Nat} {d : Nat → ClassId} {z : Nat → Nat → Nat} {hh : Nat → Nat → Nat} {cf : List Value} {nh : Nat} {g : Nat} {hm : Nat → Nat} {Q : State → Prop} {ret9 : Option FieldType} {b L : Nat} {xs : Nat → Int32} (cx : Cx p s m args meth c cL_law "PointLedgerLaw" 8 ret9 A dC dI d) (hlt : l.stackTraces = false) (hX : va_X b L xs s s.heap) (hbl : b < s.heap.size) (hbA : ¬ A b) (i : Int32) (hi1 : vp_in (i + (1 : Int32)) L) (hi2 : vp_in (i + (2 : Int32)) L) (hi3 : vp_in (i + (3 : Int32)) L) (w : (PS × Bool) × (Nat → Int64) × St) {K : (PS × Bool) × (Nat → Int64) × St → Prop} (hwp : wp_op16 nh (xs (i + (1 : Int32)).toNatClampNeg) (xs (i + (2 : Int32)).toNatClampNeg) (xs (i + (3 : Int32)).toNatClampNeg) w K) {H : Heap} {locs : List Loc} {ls : Array Slot} (hw : Wd dC dI A (wL d nh hh cf z g hm w) s H locs) (hl : lv_has ls 8 [(4, .int i), (3, .ref g), (2, .ref (hm 0)), (1, .ref (z 0 0)), (0, .ref b)]) {cells slots : Nat} (hR : cells + 20 ≤ 603072 ∧ slots + 700 ≤ 7206600)
    (kk : ∀ (w : (PS × Bool) × (Nat → Int64) × St) (H : Heap) (locs : List Loc) (ls : Array Slot), K w → Wd dC dI A (wL d nh hh cf z g hm w) s H locs → lv_has ls 8 [(4, .int i), (3, .ref g), (2, .ref (hm 0)), (1, .ref (z 0 0)), (0, .ref b)] → W p l e room_1 s m args below meth c H locs (cells + 20) (slots + 700) Q (F0 m 964 ls [])) : W p l e room_1 s m args below meth c H locs cells slots Q (F0 m 779 ls []) := by
  unfold wp_op16 at hwp
  replace hw : Wd dC dI A (wPb d nh hh cf z w.1 ++ ([(g, .inl (d 2, 1, .inr (.inl w.2.1)))] ++ wM d hm w.2.2)) s H locs := hw
  refine lv_aload_n (pc := 779) cx.1 cx.2.1 dL_law_779 rfl (lv_at hl 3 rfl) ?_
  refine lv_aload_n (pc := 780) cx.1 cx.2.1 dL_law_780 rfl (lv_at hl 4 rfl) ?_
  refine lv_iload (pc := 781) cx.1 cx.2.1 dL_law_781 (lv_at hl 0 rfl) ?_
  refine lv_iconst (pc := 783) (v := 1) cx.1 cx.2.1 dL_law_783 (by decide) ?_
  refine lv_iadd (pc := 784) cx.1 cx.2.1 dL_law_784 ?_
  refine va_sld (pc := 785) cx.1 cx.2.1 hX hbl hbA hw.2.2 hi1 dL_law_785 ?_
  refine lv_aload_n (pc := 786) cx.1 cx.2.1 dL_law_786 rfl (lv_at hl 4 rfl) ?_
  refine lv_iload (pc := 787) cx.1 cx.2.1 dL_law_787 (lv_at hl 0 rfl) ?_
  refine lv_iconst (pc := 789) (v := 2) cx.1 cx.2.1 dL_law_789 (by decide) ?_
  refine lv_iadd (pc := 790) cx.1 cx.2.1 dL_law_790 ?_
  refine va_sld (pc := 791) cx.1 cx.2.1 hX hbl hbA hw.2.2 hi2 dL_law_791 ?_
  refine lv_aload_n (pc := 792) cx.1 cx.2.1 dL_law_792 rfl (lv_at hl 4 rfl) ?_
  refine lv_iload (pc := 793) cx.1 cx.2.1 dL_law_793 (lv_at hl 0 rfl) ?_
  refine lv_iconst (pc := 795) (v := 3) cx.1 cx.2.1 dL_law_795 (by decide) ?_
  refine lv_iadd (pc := 796) cx.1 cx.2.1 dL_law_796 ?_
  refine va_sld (pc := 797) cx.1 cx.2.1 hX hbl hbA hw.2.2 hi3 dL_law_797 ?_
  refine lv_aload_n (pc := 798) cx.1 cx.2.1 dL_law_798 rfl (lv_at hl 1 rfl) ?_
  replace hw : Wd dC dI A (wLo d nh hh cf (sw_A w.1.2 z) g (w.1.1, w.2.1) ++ wM d hm w.2.2) s H locs := hw.to2
  have hpt := l_pt hw
  refine l_i (pc := 799) (wf := wLo d nh hh cf (sw_A w.1.2 z) g) (u := (w.1.1, w.2.1)) cx hw (k_runSW (pc := 799) (rest := []) (As := [.ref (z 0 0), .int (xs (i + (1 : Int32)).toNatClampNeg), .int (xs (i + (2 : Int32)).toNatClampNeg), .int (xs (i + (3 : Int32)).toNatClampNeg), .ref g]) cx hpt.1 hpt.2 hw.2.2 (m_X0_chunk l hlt dC dI d (sw_A w.1.2 z) hh cf g nh (w.1.1, w.2.1) (xs (i + (1 : Int32)).toNatClampNeg) (xs (i + (2 : Int32)).toNatClampNeg) (xs (i + (3 : Int32)).toNatClampNeg) hwp H.size) (k_cwSW 5 cx.2.2.2.2.1 (lw_SW q948 q949 q74 q950) rfl rfl rfl hdS_X0_chunk ⟨Nat.le_of_ble_eq_true rfl, Nat.le_of_ble_eq_true rfl⟩) rfl hl.1 rfl (Nat.le_of_ble_eq_true rfl) dL_law_799 ⟨by show cells + 7 ≤ 603072; have := hR.1; omega, by show slots + 340 ≤ 7206600; have := hR.2; omega⟩) (fun r1 u2 H locs hwp hw => ?_)
  clear hpt
  replace hw : Wd dC dI A (wPb d nh hh cf z (u2.1, w.1.2) ++ ([(g, .inl (d 2, 1, .inr (.inl u2.2)))] ++ wM d hm w.2.2)) s H locs := Wd.of2 hw
  refine lv_istore (pc := 802) (lv' := [(5, .int r1), (4, .int i), (3, .ref g), (2, .ref (hm 0)), (1, .ref (z 0 0)), (0, .ref b)]) cx.1 cx.2.1 dL_law_802 hl (by decide) rfl (fun ls hl => ?_)
  refine lv_aload_n (pc := 804) cx.1 cx.2.1 dL_law_804 rfl (lv_at hl 3 rfl) ?_
  refine lv_aload_n (pc := 805) cx.1 cx.2.1 dL_law_805 rfl (lv_at hl 5 rfl) ?_
  refine lv_iload (pc := 806) cx.1 cx.2.1 dL_law_806 (lv_at hl 1 rfl) ?_
  refine lv_iconst (pc := 808) (v := 1) cx.1 cx.2.1 dL_law_808 (by decide) ?_
  refine lv_iadd (pc := 809) cx.1 cx.2.1 dL_law_809 ?_
  refine va_sld (pc := 810) cx.1 cx.2.1 hX hbl hbA hw.2.2 hi1 dL_law_810 ?_
  refine lv_aload_n (pc := 811) cx.1 cx.2.1 dL_law_811 rfl (lv_at hl 5 rfl) ?_
  refine lv_iload (pc := 812) cx.1 cx.2.1 dL_law_812 (lv_at hl 1 rfl) ?_
  refine lv_iconst (pc := 814) (v := 2) cx.1 cx.2.1 dL_law_814 (by decide) ?_
  refine lv_iadd (pc := 815) cx.1 cx.2.1 dL_law_815 ?_
  refine va_sld (pc := 816) cx.1 cx.2.1 hX hbl hbA hw.2.2 hi2 dL_law_816 ?_
  refine lv_aload_n (pc := 817) cx.1 cx.2.1 dL_law_817 rfl (lv_at hl 5 rfl) ?_
  refine lv_iload (pc := 818) cx.1 cx.2.1 dL_law_818 (lv_at hl 1 rfl) ?_
  refine lv_iconst (pc := 820) (v := 3) cx.1 cx.2.1 dL_law_820 (by decide) ?_
  refine lv_iadd (pc := 821) cx.1 cx.2.1 dL_law_821 ?_
  refine va_sld (pc := 822) cx.1 cx.2.1 hX hbl hbA hw.2.2 hi3 dL_law_822 ?_
  replace hw := hw.to3
  have hpt := l_pt hw
  refine l_i (pc := 823) (wf := wM d hm) (u := w.2.2) cx hw (k_runV (pc := 823) (rest := []) (As := [.int (xs (i + (1 : Int32)).toNatClampNeg), .int (xs (i + (2 : Int32)).toNatClampNeg), .int (xs (i + (3 : Int32)).toNatClampNeg)]) cx hpt.1 hpt.2 hw.2.2 (k_recv cx hw 0 (ci := 10) (q := (RX12, TX12, 40)) rfl rfl) (m_X12_chunk l dC dI d hm w.2.2 (xs (i + (1 : Int32)).toNatClampNeg) (xs (i + (2 : Int32)).toNatClampNeg) (xs (i + (3 : Int32)).toNatClampNeg) hwp H.size) (cwV 3 cx.2.2.2.2.1 (lw_V q1347 q1348 q1349 q89 q1350) rfl rfl rfl hdV_X12_chunk ⟨Nat.le_of_ble_eq_true rfl, Nat.le_of_ble_eq_true rfl⟩) rfl hl.1 rfl (Nat.le_of_ble_eq_true rfl) dL_law_823 ⟨by show cells + 7 + 0 ≤ 603072; have := hR.1; omega, by show slots + 340 + 0 ≤ 7206600; have := hR.2; omega⟩) (fun r3 v4 H locs hwp hw => ?_)
  clear hpt
  replace hw := hw.of3
  refine lv_istore (pc := 826) (lv' := [(6, .int r3), (5, .int r1), (4, .int i), (3, .ref g), (2, .ref (hm 0)), (1, .ref (z 0 0)), (0, .ref b)]) cx.1 cx.2.1 dL_law_826 hl (by decide) rfl (fun ls hl => ?_)
  refine lv_aload_n (pc := 828) cx.1 cx.2.1 dL_law_828 rfl (lv_at hl 4 rfl) ?_
  replace hw := hw.to3
  have hpt := l_pt hw
  refine l_i (pc := 829) (wf := wM d hm) (u := v4) cx hw (k_runV (pc := 829) (rest := []) (As := []) cx hpt.1 hpt.2 hw.2.2 (k_recv cx hw 0 (ci := 10) (q := (RX12, TX12, 40)) rfl rfl) (m_X12_thrown l dC dI d hm v4  hwp H.size) (cwV 0 cx.2.2.2.2.1 (lw_V q1098 q1099 q1100 q89 q1101) rfl rfl rfl hdV_X12_thrown ⟨Nat.le_of_ble_eq_true rfl, Nat.le_of_ble_eq_true rfl⟩) rfl hl.1 rfl (Nat.le_of_ble_eq_true rfl) dL_law_829 ⟨by show cells + 7 + 0 + 0 ≤ 603072; have := hR.1; omega, by show slots + 340 + 0 + 0 ≤ 7206600; have := hR.2; omega⟩) (fun r5 v6 H locs hwp hw => ?_)
  clear hpt
  replace hw := hw.of3
  refine lv_iload (pc := 832) cx.1 cx.2.1 dL_law_832 (lv_at hl 1 rfl) ?_
  refine lv_icmp_eq (pc := 834) (tgt := 839) cx.1 cx.2.1 dL_law_834 (by decide) (fun c9 => ?_) (fun c9 => absurd hwp.1 c9)
  replace hwp := hwp.2
  refine lv_iload (pc := 839) cx.1 cx.2.1 dL_law_839 (lv_at hl 1 rfl) ?_
  refine lv_if_ne (pc := 841) (tgt := 856) cx.1 cx.2.1 dL_law_841 (by decide) (fun c9 => ?_) (fun c9 => ?_)
  · refine lv_goto (pc := 856) (tgt := 964) cx.1 cx.2.1 dL_law_856 (by decide) ?_
    exact W.widen (show cells + 7 + 0 + 0 ≤ cells + 20 by omega) (show slots + 340 + 0 + 0 ≤ slots + 700 by omega) (kk ((u2.1, w.1.2), u2.2, v6) H locs ls (hwp.1 c9) hw (lv_sub hl [2, 3, 4, 5, 6] rfl))
  · replace hwp := hwp.2 c9
    refine lv_aload_n (pc := 844) cx.1 cx.2.1 dL_law_844 rfl (lv_at hl 3 rfl) ?_
    refine lv_iconst (pc := 845) (v := 0) cx.1 cx.2.1 dL_law_845 (by decide) ?_
    refine l_outR (pc := 846) (o := u2.2) cx (show Wd dC dI A ([(g, .inl (d 2, 1, .inr (.inl u2.2)))] ++ (wM d hm v6 ++ wPb d nh hh cf z (u2.1, w.1.2))) s H locs from (Wd.comm hw).of2) dL_law_846 ?_
    refine lv_iload (pc := 847) cx.1 cx.2.1 dL_law_847 (lv_at hl 0 rfl) ?_
    refine lv_i2l (pc := 849) cx.1 cx.2.1 dL_law_849 rfl ?_
    refine W.lcmp (pc := 850) cx.1 cx.2.1 dL_law_850 ?_
    refine lv_if_eq (pc := 851) (tgt := 856) cx.1 cx.2.1 dL_law_851 (by decide) (fun c9 => ?_) (fun c9 => absurd ((lg_cmp_eq _ _).mpr hwp.1) c9)
    refine lv_goto (pc := 856) (tgt := 964) cx.1 cx.2.1 dL_law_856 (by decide) ?_
    exact W.widen (show cells + 7 + 0 + 0 ≤ cells + 20 by omega) (show slots + 340 + 0 + 0 ≤ slots + 700 by omega) (kk ((u2.1, w.1.2), u2.2, v6) H locs ls hwp.2 hw (lv_sub hl [2, 3, 4, 5, 6] rfl))
set_option maxHeartbeats 4000000 in
theorem lw_op17 {p : Program} {l : Launch} {e : Env} {s : State} {m : MethodId} {args : Array Value} {below : List Frame} {meth : Method} {c : Code} {A : Nat → Prop} {dC : Nat → ClassId} {dI : Nat → Nat → Nat} {d : Nat → ClassId} {z : Nat → Nat → Nat} {hh : Nat → Nat → Nat} {cf : List Value} {nh : Nat} {g : Nat} {hm : Nat → Nat} {Q : State → Prop} {ret9 : Option FieldType} {b L : Nat} {xs : Nat → Int32} (cx : Cx p s m args meth c cL_law "PointLedgerLaw" 8 ret9 A dC dI d) (hlt : l.stackTraces = false) (hX : va_X b L xs s s.heap) (hbl : b < s.heap.size) (hbA : ¬ A b) (i : Int32) (hi1 : vp_in (i + (1 : Int32)) L) (hi2 : vp_in (i + (2 : Int32)) L) (hi3 : vp_in (i + (3 : Int32)) L) (w : (PS × Bool) × (Nat → Int64) × St) {K : (PS × Bool) × (Nat → Int64) × St → Prop} (hwp : wp_op17 nh (xs (i + (1 : Int32)).toNatClampNeg) (xs (i + (2 : Int32)).toNatClampNeg) (xs (i + (3 : Int32)).toNatClampNeg) w K) {H : Heap} {locs : List Loc} {ls : Array Slot} (hw : Wd dC dI A (wL d nh hh cf z g hm w) s H locs) (hl : lv_has ls 8 [(4, .int i), (3, .ref g), (2, .ref (hm 0)), (1, .ref (z 0 0)), (0, .ref b)]) {cells slots : Nat} (hR : cells + 20 ≤ 603072 ∧ slots + 700 ≤ 7206600)
    (kk : ∀ (w : (PS × Bool) × (Nat → Int64) × St) (H : Heap) (locs : List Loc) (ls : Array Slot), K w → Wd dC dI A (wL d nh hh cf z g hm w) s H locs → lv_has ls 8 [(4, .int i), (3, .ref g), (2, .ref (hm 0)), (1, .ref (z 0 0)), (0, .ref b)] → W p l e room_1 s m args below meth c H locs (cells + 20) (slots + 700) Q (F0 m 964 ls [])) : W p l e room_1 s m args below meth c H locs cells slots Q (F0 m 859 ls []) := by
  unfold wp_op17 at hwp
  replace hw : Wd dC dI A (wPb d nh hh cf z w.1 ++ ([(g, .inl (d 2, 1, .inr (.inl w.2.1)))] ++ wM d hm w.2.2)) s H locs := hw
  refine lv_aload_n (pc := 859) cx.1 cx.2.1 dL_law_859 rfl (lv_at hl 3 rfl) ?_
  refine lv_aload_n (pc := 860) cx.1 cx.2.1 dL_law_860 rfl (lv_at hl 4 rfl) ?_
  refine lv_iload (pc := 861) cx.1 cx.2.1 dL_law_861 (lv_at hl 0 rfl) ?_
  refine lv_iconst (pc := 863) (v := 1) cx.1 cx.2.1 dL_law_863 (by decide) ?_
  refine lv_iadd (pc := 864) cx.1 cx.2.1 dL_law_864 ?_
  refine va_sld (pc := 865) cx.1 cx.2.1 hX hbl hbA hw.2.2 hi1 dL_law_865 ?_
  refine lv_aload_n (pc := 866) cx.1 cx.2.1 dL_law_866 rfl (lv_at hl 4 rfl) ?_
  refine lv_iload (pc := 867) cx.1 cx.2.1 dL_law_867 (lv_at hl 0 rfl) ?_
  refine lv_iconst (pc := 869) (v := 2) cx.1 cx.2.1 dL_law_869 (by decide) ?_
  refine lv_iadd (pc := 870) cx.1 cx.2.1 dL_law_870 ?_
  refine va_sld (pc := 871) cx.1 cx.2.1 hX hbl hbA hw.2.2 hi2 dL_law_871 ?_
  refine lv_aload_n (pc := 872) cx.1 cx.2.1 dL_law_872 rfl (lv_at hl 4 rfl) ?_
  refine lv_iload (pc := 873) cx.1 cx.2.1 dL_law_873 (lv_at hl 0 rfl) ?_
  refine lv_iconst (pc := 875) (v := 3) cx.1 cx.2.1 dL_law_875 (by decide) ?_
  refine lv_iadd (pc := 876) cx.1 cx.2.1 dL_law_876 ?_
  refine va_sld (pc := 877) cx.1 cx.2.1 hX hbl hbA hw.2.2 hi3 dL_law_877 ?_
  refine lv_aload_n (pc := 878) cx.1 cx.2.1 dL_law_878 rfl (lv_at hl 1 rfl) ?_
  replace hw : Wd dC dI A (wLo d nh hh cf (sw_A w.1.2 z) g (w.1.1, w.2.1) ++ wM d hm w.2.2) s H locs := hw.to2
  have hpt := l_pt hw
  refine l_i (pc := 879) (wf := wLo d nh hh cf (sw_A w.1.2 z) g) (u := (w.1.1, w.2.1)) cx hw (k_runSW (pc := 879) (rest := []) (As := [.ref (z 0 0), .int (xs (i + (1 : Int32)).toNatClampNeg), .int (xs (i + (2 : Int32)).toNatClampNeg), .int (xs (i + (3 : Int32)).toNatClampNeg), .ref g]) cx hpt.1 hpt.2 hw.2.2 (m_X0_group l hlt dC dI d (sw_A w.1.2 z) hh cf g nh (w.1.1, w.2.1) (xs (i + (1 : Int32)).toNatClampNeg) (xs (i + (2 : Int32)).toNatClampNeg) (xs (i + (3 : Int32)).toNatClampNeg) hwp H.size) (k_cwSW 5 cx.2.2.2.2.1 (lw_SW q961 q962 q74 q963) rfl rfl rfl hdS_X0_group ⟨Nat.le_of_ble_eq_true rfl, Nat.le_of_ble_eq_true rfl⟩) rfl hl.1 rfl (Nat.le_of_ble_eq_true rfl) dL_law_879 ⟨by show cells + 7 ≤ 603072; have := hR.1; omega, by show slots + 340 ≤ 7206600; have := hR.2; omega⟩) (fun r1 u2 H locs hwp hw => ?_)
  clear hpt
  replace hw : Wd dC dI A (wPb d nh hh cf z (u2.1, w.1.2) ++ ([(g, .inl (d 2, 1, .inr (.inl u2.2)))] ++ wM d hm w.2.2)) s H locs := Wd.of2 hw
  refine lv_istore (pc := 882) (lv' := [(5, .int r1), (4, .int i), (3, .ref g), (2, .ref (hm 0)), (1, .ref (z 0 0)), (0, .ref b)]) cx.1 cx.2.1 dL_law_882 hl (by decide) rfl (fun ls hl => ?_)
  refine lv_aload_n (pc := 884) cx.1 cx.2.1 dL_law_884 rfl (lv_at hl 3 rfl) ?_
  refine lv_aload_n (pc := 885) cx.1 cx.2.1 dL_law_885 rfl (lv_at hl 5 rfl) ?_
  refine lv_iload (pc := 886) cx.1 cx.2.1 dL_law_886 (lv_at hl 1 rfl) ?_
  refine lv_iconst (pc := 888) (v := 1) cx.1 cx.2.1 dL_law_888 (by decide) ?_
  refine lv_iadd (pc := 889) cx.1 cx.2.1 dL_law_889 ?_
  refine va_sld (pc := 890) cx.1 cx.2.1 hX hbl hbA hw.2.2 hi1 dL_law_890 ?_
  refine lv_aload_n (pc := 891) cx.1 cx.2.1 dL_law_891 rfl (lv_at hl 5 rfl) ?_
  refine lv_iload (pc := 892) cx.1 cx.2.1 dL_law_892 (lv_at hl 1 rfl) ?_
  refine lv_iconst (pc := 894) (v := 2) cx.1 cx.2.1 dL_law_894 (by decide) ?_
  refine lv_iadd (pc := 895) cx.1 cx.2.1 dL_law_895 ?_
  refine va_sld (pc := 896) cx.1 cx.2.1 hX hbl hbA hw.2.2 hi2 dL_law_896 ?_
  refine lv_aload_n (pc := 897) cx.1 cx.2.1 dL_law_897 rfl (lv_at hl 5 rfl) ?_
  refine lv_iload (pc := 898) cx.1 cx.2.1 dL_law_898 (lv_at hl 1 rfl) ?_
  refine lv_iconst (pc := 900) (v := 3) cx.1 cx.2.1 dL_law_900 (by decide) ?_
  refine lv_iadd (pc := 901) cx.1 cx.2.1 dL_law_901 ?_
  refine va_sld (pc := 902) cx.1 cx.2.1 hX hbl hbA hw.2.2 hi3 dL_law_902 ?_
  replace hw := hw.to3
  have hpt := l_pt hw
  refine l_i (pc := 903) (wf := wM d hm) (u := w.2.2) cx hw (k_runV (pc := 903) (rest := []) (As := [.int (xs (i + (1 : Int32)).toNatClampNeg), .int (xs (i + (2 : Int32)).toNatClampNeg), .int (xs (i + (3 : Int32)).toNatClampNeg)]) cx hpt.1 hpt.2 hw.2.2 (k_recv cx hw 0 (ci := 10) (q := (RX12, TX12, 40)) rfl rfl) (m_X12_group l dC dI d hm w.2.2 (xs (i + (1 : Int32)).toNatClampNeg) (xs (i + (2 : Int32)).toNatClampNeg) (xs (i + (3 : Int32)).toNatClampNeg) hwp H.size) (cwV 3 cx.2.2.2.2.1 (lw_V q1351 q1352 q1353 q89 q1354) rfl rfl rfl hdV_X12_group ⟨Nat.le_of_ble_eq_true rfl, Nat.le_of_ble_eq_true rfl⟩) rfl hl.1 rfl (Nat.le_of_ble_eq_true rfl) dL_law_903 ⟨by show cells + 7 + 0 ≤ 603072; have := hR.1; omega, by show slots + 340 + 0 ≤ 7206600; have := hR.2; omega⟩) (fun r3 v4 H locs hwp hw => ?_)
  clear hpt
  replace hw := hw.of3
  refine lv_istore (pc := 906) (lv' := [(6, .int r3), (5, .int r1), (4, .int i), (3, .ref g), (2, .ref (hm 0)), (1, .ref (z 0 0)), (0, .ref b)]) cx.1 cx.2.1 dL_law_906 hl (by decide) rfl (fun ls hl => ?_)
  refine lv_aload_n (pc := 908) cx.1 cx.2.1 dL_law_908 rfl (lv_at hl 4 rfl) ?_
  replace hw := hw.to3
  have hpt := l_pt hw
  refine l_i (pc := 909) (wf := wM d hm) (u := v4) cx hw (k_runV (pc := 909) (rest := []) (As := []) cx hpt.1 hpt.2 hw.2.2 (k_recv cx hw 0 (ci := 10) (q := (RX12, TX12, 40)) rfl rfl) (m_X12_thrown l dC dI d hm v4  hwp H.size) (cwV 0 cx.2.2.2.2.1 (lw_V q1098 q1099 q1100 q89 q1101) rfl rfl rfl hdV_X12_thrown ⟨Nat.le_of_ble_eq_true rfl, Nat.le_of_ble_eq_true rfl⟩) rfl hl.1 rfl (Nat.le_of_ble_eq_true rfl) dL_law_909 ⟨by show cells + 7 + 0 + 0 ≤ 603072; have := hR.1; omega, by show slots + 340 + 0 + 0 ≤ 7206600; have := hR.2; omega⟩) (fun r5 v6 H locs hwp hw => ?_)
  clear hpt
  replace hw := hw.of3
  refine lv_iload (pc := 912) cx.1 cx.2.1 dL_law_912 (lv_at hl 1 rfl) ?_
  refine lv_icmp_eq (pc := 914) (tgt := 919) cx.1 cx.2.1 dL_law_914 (by decide) (fun c9 => ?_) (fun c9 => absurd hwp.1 c9)
  replace hwp := hwp.2
  refine lv_iload (pc := 919) cx.1 cx.2.1 dL_law_919 (lv_at hl 1 rfl) ?_
  refine lv_if_ne (pc := 921) (tgt := 936) cx.1 cx.2.1 dL_law_921 (by decide) (fun c9 => ?_) (fun c9 => ?_)
  · refine lv_goto (pc := 936) (tgt := 964) cx.1 cx.2.1 dL_law_936 (by decide) ?_
    exact W.widen (show cells + 7 + 0 + 0 ≤ cells + 20 by omega) (show slots + 340 + 0 + 0 ≤ slots + 700 by omega) (kk ((u2.1, w.1.2), u2.2, v6) H locs ls (hwp.1 c9) hw (lv_sub hl [2, 3, 4, 5, 6] rfl))
  · replace hwp := hwp.2 c9
    refine lv_aload_n (pc := 924) cx.1 cx.2.1 dL_law_924 rfl (lv_at hl 3 rfl) ?_
    refine lv_iconst (pc := 925) (v := 0) cx.1 cx.2.1 dL_law_925 (by decide) ?_
    refine l_outR (pc := 926) (o := u2.2) cx (show Wd dC dI A ([(g, .inl (d 2, 1, .inr (.inl u2.2)))] ++ (wM d hm v6 ++ wPb d nh hh cf z (u2.1, w.1.2))) s H locs from (Wd.comm hw).of2) dL_law_926 ?_
    refine lv_iload (pc := 927) cx.1 cx.2.1 dL_law_927 (lv_at hl 0 rfl) ?_
    refine lv_i2l (pc := 929) cx.1 cx.2.1 dL_law_929 rfl ?_
    refine W.lcmp (pc := 930) cx.1 cx.2.1 dL_law_930 ?_
    refine lv_if_eq (pc := 931) (tgt := 936) cx.1 cx.2.1 dL_law_931 (by decide) (fun c9 => ?_) (fun c9 => absurd ((lg_cmp_eq _ _).mpr hwp.1) c9)
    refine lv_goto (pc := 936) (tgt := 964) cx.1 cx.2.1 dL_law_936 (by decide) ?_
    exact W.widen (show cells + 7 + 0 + 0 ≤ cells + 20 by omega) (show slots + 340 + 0 + 0 ≤ slots + 700 by omega) (kk ((u2.1, w.1.2), u2.2, v6) H locs ls hwp.2 hw (lv_sub hl [2, 3, 4, 5, 6] rfl))
set_option maxHeartbeats 4000000 in
theorem lw_op18 {p : Program} {l : Launch} {e : Env} {s : State} {m : MethodId} {args : Array Value} {below : List Frame} {meth : Method} {c : Code} {A : Nat → Prop} {dC : Nat → ClassId} {dI : Nat → Nat → Nat} {d : Nat → ClassId} {z : Nat → Nat → Nat} {hh : Nat → Nat → Nat} {cf : List Value} {nh : Nat} {g : Nat} {hm : Nat → Nat} {Q : State → Prop} {ret9 : Option FieldType} {b L : Nat} {xs : Nat → Int32} (cx : Cx p s m args meth c cL_law "PointLedgerLaw" 8 ret9 A dC dI d) (hlt : l.stackTraces = false) (hX : va_X b L xs s s.heap) (hbl : b < s.heap.size) (hbA : ¬ A b) (i : Int32) (hi1 : vp_in (i + (1 : Int32)) L) (hi2 : vp_in (i + (2 : Int32)) L) (hi3 : vp_in (i + (3 : Int32)) L) (w : (PS × Bool) × (Nat → Int64) × St) {K : (PS × Bool) × (Nat → Int64) × St → Prop} (hwp : wp_op18 nh (xs (i + (1 : Int32)).toNatClampNeg) (xs (i + (2 : Int32)).toNatClampNeg) (xs (i + (3 : Int32)).toNatClampNeg) w K) {H : Heap} {locs : List Loc} {ls : Array Slot} (hw : Wd dC dI A (wL d nh hh cf z g hm w) s H locs) (hl : lv_has ls 8 [(4, .int i), (3, .ref g), (2, .ref (hm 0)), (1, .ref (z 0 0)), (0, .ref b)]) {cells slots : Nat} (hR : cells + 20 ≤ 603072 ∧ slots + 700 ≤ 7206600)
    (kk : ∀ (w : (PS × Bool) × (Nat → Int64) × St) (H : Heap) (locs : List Loc) (ls : Array Slot), K w → Wd dC dI A (wL d nh hh cf z g hm w) s H locs → lv_has ls 8 [(4, .int i), (3, .ref g), (2, .ref (hm 0)), (1, .ref (z 0 0)), (0, .ref b)] → W p l e room_1 s m args below meth c H locs (cells + 20) (slots + 700) Q (F0 m 964 ls [])) : W p l e room_1 s m args below meth c H locs cells slots Q (F0 m 939 ls []) := by
  unfold wp_op18 at hwp
  replace hw : Wd dC dI A (wPb d nh hh cf z w.1 ++ ([(g, .inl (d 2, 1, .inr (.inl w.2.1)))] ++ wM d hm w.2.2)) s H locs := hw
  refine lv_aload_n (pc := 939) cx.1 cx.2.1 dL_law_939 rfl (lv_at hl 3 rfl) ?_
  refine lv_aload_n (pc := 940) cx.1 cx.2.1 dL_law_940 rfl (lv_at hl 4 rfl) ?_
  refine lv_iload (pc := 941) cx.1 cx.2.1 dL_law_941 (lv_at hl 0 rfl) ?_
  refine lv_iconst (pc := 943) (v := 1) cx.1 cx.2.1 dL_law_943 (by decide) ?_
  refine lv_iadd (pc := 944) cx.1 cx.2.1 dL_law_944 ?_
  refine va_sld (pc := 945) cx.1 cx.2.1 hX hbl hbA hw.2.2 hi1 dL_law_945 ?_
  have hpt := l_pt hw
  refine l_i (pc := 946) (wf := wP d nh hh cf (sw_A w.1.2 z)) (u := w.1.1) cx hw (k_runV (pc := 946) (rest := []) (As := [.int (xs (i + (1 : Int32)).toNatClampNeg)]) cx hpt.1 hpt.2 hw.2.2 (k_recv cx hw 0 (ci := 0) (q := (RX1, TX1, 21)) rfl rfl) (m_X1_look l dC dI d (sw_A w.1.2 z) hh cf nh w.1.1 (xs (i + (1 : Int32)).toNatClampNeg) hwp H.size) (cwV 1 cx.2.2.2.2.1 (lw_V q853 q854 q855 q75 q856) rfl rfl rfl hdV_X1_look ⟨Nat.le_of_ble_eq_true rfl, Nat.le_of_ble_eq_true rfl⟩) rfl hl.1 rfl (Nat.le_of_ble_eq_true rfl) dL_law_946 ⟨by show cells + 0 ≤ 603072; have := hR.1; omega, by show slots + 0 ≤ 7206600; have := hR.2; omega⟩) (fun r1 u2 H locs hwp hw => ?_)
  clear hpt
  replace hw : Wd dC dI A (wPb d nh hh cf z (u2, w.1.2) ++ ([(g, .inl (d 2, 1, .inr (.inl w.2.1)))] ++ wM d hm w.2.2)) s H locs := hw
  refine lv_aload_n (pc := 949) cx.1 cx.2.1 dL_law_949 rfl (lv_at hl 2 rfl) ?_
  refine lv_aload_n (pc := 950) cx.1 cx.2.1 dL_law_950 rfl (lv_at hl 4 rfl) ?_
  refine lv_iload (pc := 951) cx.1 cx.2.1 dL_law_951 (lv_at hl 0 rfl) ?_
  refine lv_iconst (pc := 953) (v := 1) cx.1 cx.2.1 dL_law_953 (by decide) ?_
  refine lv_iadd (pc := 954) cx.1 cx.2.1 dL_law_954 ?_
  refine va_sld (pc := 955) cx.1 cx.2.1 hX hbl hbA hw.2.2 hi1 dL_law_955 ?_
  replace hw := hw.to3
  have hpt := l_pt hw
  refine l_i (pc := 956) (wf := wM d hm) (u := w.2.2) cx hw (k_runV (pc := 956) (rest := [.int r1]) (As := [.int (xs (i + (1 : Int32)).toNatClampNeg)]) cx hpt.1 hpt.2 hw.2.2 (k_recv cx hw 0 (ci := 10) (q := (RX12, TX12, 40)) rfl rfl) (m_X12_look l dC dI d hm w.2.2 (xs (i + (1 : Int32)).toNatClampNeg) hwp H.size) (cwV 1 cx.2.2.2.2.1 (lw_V q1355 q1356 q1357 q89 q1358) rfl rfl rfl hdV_X12_look ⟨Nat.le_of_ble_eq_true rfl, Nat.le_of_ble_eq_true rfl⟩) rfl hl.1 rfl (Nat.le_of_ble_eq_true rfl) dL_law_956 ⟨by show cells + 0 + 0 ≤ 603072; have := hR.1; omega, by show slots + 0 + 0 ≤ 7206600; have := hR.2; omega⟩) (fun r3 v4 H locs hwp hw => ?_)
  clear hpt
  replace hw := hw.of3
  refine lv_icmp_eq (pc := 959) (tgt := 964) cx.1 cx.2.1 dL_law_959 (by decide) (fun c9 => ?_) (fun c9 => absurd hwp.1 c9)
  replace hwp := hwp.2
  exact W.widen (show cells + 0 + 0 ≤ cells + 20 by omega) (show slots + 0 + 0 ≤ slots + 700 by omega) (kk ((u2, w.1.2), w.2.1, v4) H locs ls hwp hw (lv_sub hl [0, 1, 2, 3, 4] rfl))
