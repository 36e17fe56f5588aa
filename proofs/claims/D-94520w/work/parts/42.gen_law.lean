/-! the law: wp and walk, by program -/
set_option maxRecDepth 100000
section GLW
variable {p : Program} {l : Launch} {e : Env} {s : State} {m : MethodId} {args : Array Value} {below : List Frame} {meth : Method} {c : Code} {D : va_G} {T : Nat → ClassId} {Z : Heap}
def w_L_law_1631 (T : Nat → ClassId) (Q : Int32 → Hp → Prop) (sc0 : Option Nat) (sc : Nat → Int32) (N : Nat) (k23 : Option Nat → Option Nat → Option Nat → Int32 → Hp → Prop) (l1 : Option Nat) (l2 : Option Nat) (l3 : Option Nat) (l4 : Int32) (G : Hp) : Prop := k23 l1 l2 l3 ((l4 + 6)) G
set_option maxHeartbeats 4000000 in
theorem b_L_law_1631 {G0 : Hp} {Q : Int32 → Hp → Prop} {sc0 : Option Nat} {sc : Nat → Int32} {N : Nat} {k23 : Option Nat → Option Nat → Option Nat → Int32 → Hp → Prop} (C : Cx p s m meth c D T Z "EndingTownLaw" cL_law 7 (some .boolean)) (hLf : l.flags = flags0) (hsc : ∃ a, sc0 = some a ∧ va_X a N sc s Z) (hk23 : ∀ (l1 : Option Nat) (l2 : Option Nat) (l3 : Option Nat) (l4 : Int32) (G : Hp) (H : Heap) (locs : List Loc) (cells slots : Nat) (ls : Array Slot), k23 l1 l2 l3 l4 G → HI (twd D T Z) G0 s (rmX (twd D T Z) 2048 84000 G0) H locs cells slots G → LH ls 7 [(0, .inr (.inl sc0)), (1, .inr (.inl l1)), (2, .inr (.inl l2)), (3, .inr (.inl l3)), (4, .inl l4)] → W p l e (rmX (twd D T Z) 2048 84000 G0) s m args below meth c H locs cells slots (MQX (twd D T Z) G0 (qI Q) (fun _ _ => False) below s) (F0 m 23 ls [])) : ∀ (l1 : Option Nat) (l2 : Option Nat) (l3 : Option Nat) (l4 : Int32) (G : Hp) (H : Heap) (locs : List Loc) (cells slots : Nat) (ls : Array Slot), w_L_law_1631 T Q sc0 sc N k23 l1 l2 l3 l4 G → HI (twd D T Z) G0 s (rmX (twd D T Z) 2048 84000 G0) H locs cells slots G → LH ls 7 [(0, .inr (.inl sc0)), (1, .inr (.inl l1)), (2, .inr (.inl l2)), (3, .inr (.inl l3)), (4, .inl l4)] → W p l e (rmX (twd D T Z) 2048 84000 G0) s m args below meth c H locs cells slots (MQX (twd D T Z) G0 (qI Q) (fun _ _ => False) below s) (F0 m 1631 ls []) := by
  intro l1 l2 l3 l4 G H locs cells slots ls h I hl
  refine l_inc (q := 4) (v := 6) C dL_law_1631 hl rfl (by decide) (by decide) rfl (fun ls hl => ?_)
  have hl : LH ls 7 [(4, .inl ((l4 + 6))), (0, .inr (.inl sc0)), (1, .inr (.inl l1)), (2, .inr (.inl l2)), (3, .inr (.inl l3))] := hl
  refine lv_goto (tgt := 23) C.1 C.2.1 dL_law_1634 (by decide) ?_
  exact hk23 l1 l2 l3 ((l4 + 6)) G _ _ _ _ _ h I (hl.sub [1, 2, 3, 4, 0] rfl)
def w_L_law_152 (T : Nat → ClassId) (Q : Int32 → Hp → Prop) (sc0 : Option Nat) (sc : Nat → Int32) (N : Nat) (k23 : Option Nat → Option Nat → Option Nat → Int32 → Hp → Prop) (l1 : Option Nat) (l2 : Option Nat) (l3 : Option Nat) (l4 : Int32) (G : Hp) : Prop := vp_in ((l4 + (1 : Int32))) N ∧ vp_in ((l4 + (2 : Int32))) N ∧ vp_in ((l4 + (3 : Int32))) N ∧ vp_in ((l4 + (4 : Int32))) N ∧ vp_in ((l4 + (5 : Int32))) N ∧ isO G l1 1 ∧ ∃ x0 : Hp, Sub x0 G ∧ w_X1_feed T (fun r2 x1 => ∀ G1 : Hp, G1 = jn G x0 x1 → (vp_in ((l4 + (1 : Int32))) N ∧ vp_in ((l4 + (2 : Int32))) N ∧ vp_in ((l4 + (3 : Int32))) N ∧ vp_in ((l4 + (4 : Int32))) N ∧ vp_in ((l4 + (5 : Int32))) N ∧ isO G1 l2 19 ∧ ∃ M : MS, Sub (mG (ad l2) (gZ G1) M) G1 ∧ w_X11_feed (fun r4 M1 => ∀ G3 : Hp, G3 = jn G1 (mG (ad l2) (gZ G1) M) (mG (ad l2) (gZ G1) M1) → (((r2 = r4) → (w_L_law_1631 T Q sc0 sc N k23 l1 l2 l3 l4 G3)) ∧ ((¬ r2 = r4) → (Q (0 : Int32) G3)))) (sc ((l4 + (1 : Int32))).toNatClampNeg) (sc ((l4 + (2 : Int32))).toNatClampNeg) (sc ((l4 + (3 : Int32))).toNatClampNeg) (sc ((l4 + (4 : Int32))).toNatClampNeg) (sc ((l4 + (5 : Int32))).toNatClampNeg) M)) l1 (sc ((l4 + (1 : Int32))).toNatClampNeg) (sc ((l4 + (2 : Int32))).toNatClampNeg) (sc ((l4 + (3 : Int32))).toNatClampNeg) (sc ((l4 + (4 : Int32))).toNatClampNeg) (sc ((l4 + (5 : Int32))).toNatClampNeg) x0
set_option maxHeartbeats 4000000 in
theorem b_L_law_152 {G0 : Hp} {Q : Int32 → Hp → Prop} {sc0 : Option Nat} {sc : Nat → Int32} {N : Nat} {k23 : Option Nat → Option Nat → Option Nat → Int32 → Hp → Prop} (C : Cx p s m meth c D T Z "EndingTownLaw" cL_law 7 (some .boolean)) (hLf : l.flags = flags0) (hsc : ∃ a, sc0 = some a ∧ va_X a N sc s Z) (hk23 : ∀ (l1 : Option Nat) (l2 : Option Nat) (l3 : Option Nat) (l4 : Int32) (G : Hp) (H : Heap) (locs : List Loc) (cells slots : Nat) (ls : Array Slot), k23 l1 l2 l3 l4 G → HI (twd D T Z) G0 s (rmX (twd D T Z) 2048 84000 G0) H locs cells slots G → LH ls 7 [(0, .inr (.inl sc0)), (1, .inr (.inl l1)), (2, .inr (.inl l2)), (3, .inr (.inl l3)), (4, .inl l4)] → W p l e (rmX (twd D T Z) 2048 84000 G0) s m args below meth c H locs cells slots (MQX (twd D T Z) G0 (qI Q) (fun _ _ => False) below s) (F0 m 23 ls [])) : ∀ (l1 : Option Nat) (l2 : Option Nat) (l3 : Option Nat) (l4 : Int32) (G : Hp) (H : Heap) (locs : List Loc) (cells slots : Nat) (ls : Array Slot), w_L_law_152 T Q sc0 sc N k23 l1 l2 l3 l4 G → HI (twd D T Z) G0 s (rmX (twd D T Z) 2048 84000 G0) H locs cells slots G → LH ls 7 [(0, .inr (.inl sc0)), (1, .inr (.inl l1)), (2, .inr (.inl l2)), (3, .inr (.inl l3)), (4, .inl l4)] → W p l e (rmX (twd D T Z) 2048 84000 G0) s m args below meth c H locs cells slots (MQX (twd D T Z) G0 (qI Q) (fun _ _ => False) below s) (F0 m 152 ls []) := by
  intro l1 l2 l3 l4 G H locs cells slots ls h I hl
  refine l_ald_n C dL_law_152 hl 1 rfl rfl ?_
  refine l_ald_n C dL_law_153 hl 0 rfl rfl ?_
  refine l_ild C dL_law_154 hl 4 rfl ?_
  refine lv_iconst (v := 1) C.1 C.2.1 dL_law_156 (by decide) ?_
  refine lv_iadd C.1 C.2.1 dL_law_157 ?_
  obtain ⟨hi, h⟩ := h
  refine z_scr hsc C I hi dL_law_158 ?_
  refine l_ald_n C dL_law_159 hl 0 rfl rfl ?_
  refine l_ild C dL_law_160 hl 4 rfl ?_
  refine lv_iconst (v := 2) C.1 C.2.1 dL_law_162 (by decide) ?_
  refine lv_iadd C.1 C.2.1 dL_law_163 ?_
  obtain ⟨hi, h⟩ := h
  refine z_scr hsc C I hi dL_law_164 ?_
  refine l_ald_n C dL_law_165 hl 0 rfl rfl ?_
  refine l_ild C dL_law_166 hl 4 rfl ?_
  refine lv_iconst (v := 3) C.1 C.2.1 dL_law_168 (by decide) ?_
  refine lv_iadd C.1 C.2.1 dL_law_169 ?_
  obtain ⟨hi, h⟩ := h
  refine z_scr hsc C I hi dL_law_170 ?_
  refine l_ald_n C dL_law_171 hl 0 rfl rfl ?_
  refine l_ild C dL_law_172 hl 4 rfl ?_
  refine lv_iconst (v := 4) C.1 C.2.1 dL_law_174 (by decide) ?_
  refine lv_iadd C.1 C.2.1 dL_law_175 ?_
  obtain ⟨hi, h⟩ := h
  refine z_scr hsc C I hi dL_law_176 ?_
  refine l_ald_n C dL_law_177 hl 0 rfl rfl ?_
  refine l_ild C dL_law_178 hl 4 rfl ?_
  refine lv_iconst (v := 5) C.1 C.2.1 dL_law_180 (by decide) ?_
  refine lv_iadd C.1 C.2.1 dL_law_181 ?_
  obtain ⟨hi, h⟩ := h
  refine z_scr hsc C I hi dL_law_182 ?_
  obtain ⟨ho7, h⟩ := h
  obtain ⟨x0, hsub, h⟩ := h
  refine k_sub C I hsub (k_V (r := l1) (As := [.int (sc ((l4 + (1 : Int32))).toNatClampNeg), .int (sc ((l4 + (2 : Int32))).toNatClampNeg), .int (sc ((l4 + (3 : Int32))).toNatClampNeg), .int (sc ((l4 + (4 : Int32))).toNatClampNeg), .int (sc ((l4 + (5 : Int32))).toNatClampNeg)]) (rest := []) (y := yX1_feed) C ⟨ho7.ad.1, I.recv C.2.2.2.2.1 ho7 (by decide)⟩ q401 q402 q403 (Or.inl rfl) q404 (by decide) rfl pd_X1_feed rfl dL_law_183) (ct_X1_feed h) hl.1 dL_law_183 [] rfl (Nat.le_of_ble_eq_true rfl) (Or.inl rfl) q404 q100 ⟨Nat.le_of_ble_eq_true rfl, Nat.le_of_ble_eq_true rfl⟩ (fun v x1 H locs cells slots hq hxx xG1 I => ?_)
  obtain ⟨r2, rfl, h⟩ := hq
  have h := h _ rfl
  generalize eG1 : jn G x0 x1 = G1 at h I xG1
  refine l_ald_n C dL_law_186 hl 2 rfl rfl ?_
  refine l_ald_n C dL_law_187 hl 0 rfl rfl ?_
  refine l_ild C dL_law_188 hl 4 rfl ?_
  refine lv_iconst (v := 1) C.1 C.2.1 dL_law_190 (by decide) ?_
  refine lv_iadd C.1 C.2.1 dL_law_191 ?_
  obtain ⟨hi, h⟩ := h
  refine z_scr hsc C I hi dL_law_192 ?_
  refine l_ald_n C dL_law_193 hl 0 rfl rfl ?_
  refine l_ild C dL_law_194 hl 4 rfl ?_
  refine lv_iconst (v := 2) C.1 C.2.1 dL_law_196 (by decide) ?_
  refine lv_iadd C.1 C.2.1 dL_law_197 ?_
  obtain ⟨hi, h⟩ := h
  refine z_scr hsc C I hi dL_law_198 ?_
  refine l_ald_n C dL_law_199 hl 0 rfl rfl ?_
  refine l_ild C dL_law_200 hl 4 rfl ?_
  refine lv_iconst (v := 3) C.1 C.2.1 dL_law_202 (by decide) ?_
  refine lv_iadd C.1 C.2.1 dL_law_203 ?_
  obtain ⟨hi, h⟩ := h
  refine z_scr hsc C I hi dL_law_204 ?_
  refine l_ald_n C dL_law_205 hl 0 rfl rfl ?_
  refine l_ild C dL_law_206 hl 4 rfl ?_
  refine lv_iconst (v := 4) C.1 C.2.1 dL_law_208 (by decide) ?_
  refine lv_iadd C.1 C.2.1 dL_law_209 ?_
  obtain ⟨hi, h⟩ := h
  refine z_scr hsc C I hi dL_law_210 ?_
  refine l_ald_n C dL_law_211 hl 0 rfl rfl ?_
  refine l_ild C dL_law_212 hl 4 rfl ?_
  refine lv_iconst (v := 5) C.1 C.2.1 dL_law_214 (by decide) ?_
  refine lv_iadd C.1 C.2.1 dL_law_215 ?_
  obtain ⟨hi, h⟩ := h
  refine z_scr hsc C I hi dL_law_216 ?_
  obtain ⟨ho6, h⟩ := h
  obtain ⟨M, hsub, h⟩ := h
  refine k_sub C I hsub (k_V (r := l2) (As := [.int (sc ((l4 + (1 : Int32))).toNatClampNeg), .int (sc ((l4 + (2 : Int32))).toNatClampNeg), .int (sc ((l4 + (3 : Int32))).toNatClampNeg), .int (sc ((l4 + (4 : Int32))).toNatClampNeg), .int (sc ((l4 + (5 : Int32))).toNatClampNeg)]) (rest := [.int r2]) (y := yX11_feed) C ⟨ho6.ad.1, I.recv C.2.2.2.2.1 ho6 (by decide)⟩ q1591 q1592 q1593 (Or.inl rfl) q1594 (by decide) rfl pd_X11_feed rfl dL_law_217) (CT.rcv ho6.ad.1 (ct_X11_feed h)) hl.1 dL_law_217 [.inl r2] rfl (Nat.le_of_ble_eq_true rfl) (Or.inl rfl) q1594 q113 ⟨Nat.le_of_ble_eq_true rfl, Nat.le_of_ble_eq_true rfl⟩ (fun v x1 H locs cells slots hq hxx xG3 I => ?_)
  obtain ⟨M1, rfl, r4, rfl, h⟩ := hq
  have h := h _ rfl
  generalize eG3 : jn G1 (mG (ad l2) (gZ G1) M) (mG (ad l2) (gZ G1) M1) = G3 at h I xG3
  refine lv_icmp_eq (tgt := 1631) C.1 C.2.1 dL_law_220 (by decide) (fun c5 => ?_) (fun c5 => ?_)
  · have h := h.1 c5
    exact b_L_law_1631 C hLf hsc hk23 l1 l2 l3 l4 G3 _ _ _ _ _ h I (hl.sub [0, 1, 2, 3, 4] rfl)
  · have h := h.2 c5
    refine lv_iconst (v := 0) C.1 C.2.1 dL_law_223 (by decide) ?_
    exact r_int C.1 C.2.1 C.2.2.2.2.2.1 rfl C.2.2.2.2.2.2 ⟨rfl, rfl⟩ I dL_law_224 ⟨_, rfl, h⟩
def w_L_law_278 (T : Nat → ClassId) (Q : Int32 → Hp → Prop) (sc0 : Option Nat) (sc : Nat → Int32) (N : Nat) (k23 : Option Nat → Option Nat → Option Nat → Int32 → Hp → Prop) (l1 : Option Nat) (l2 : Option Nat) (l3 : Option Nat) (l4 : Int32) (G : Hp) : Prop := w_L_law_1631 T Q sc0 sc N k23 l1 l2 l3 l4 G
set_option maxHeartbeats 4000000 in
theorem b_L_law_278 {G0 : Hp} {Q : Int32 → Hp → Prop} {sc0 : Option Nat} {sc : Nat → Int32} {N : Nat} {k23 : Option Nat → Option Nat → Option Nat → Int32 → Hp → Prop} (C : Cx p s m meth c D T Z "EndingTownLaw" cL_law 7 (some .boolean)) (hLf : l.flags = flags0) (hsc : ∃ a, sc0 = some a ∧ va_X a N sc s Z) (hk23 : ∀ (l1 : Option Nat) (l2 : Option Nat) (l3 : Option Nat) (l4 : Int32) (G : Hp) (H : Heap) (locs : List Loc) (cells slots : Nat) (ls : Array Slot), k23 l1 l2 l3 l4 G → HI (twd D T Z) G0 s (rmX (twd D T Z) 2048 84000 G0) H locs cells slots G → LH ls 7 [(0, .inr (.inl sc0)), (1, .inr (.inl l1)), (2, .inr (.inl l2)), (3, .inr (.inl l3)), (4, .inl l4)] → W p l e (rmX (twd D T Z) 2048 84000 G0) s m args below meth c H locs cells slots (MQX (twd D T Z) G0 (qI Q) (fun _ _ => False) below s) (F0 m 23 ls [])) : ∀ (l1 : Option Nat) (l2 : Option Nat) (l3 : Option Nat) (l4 : Int32) (G : Hp) (H : Heap) (locs : List Loc) (cells slots : Nat) (ls : Array Slot), w_L_law_278 T Q sc0 sc N k23 l1 l2 l3 l4 G → HI (twd D T Z) G0 s (rmX (twd D T Z) 2048 84000 G0) H locs cells slots G → LH ls 7 [(0, .inr (.inl sc0)), (1, .inr (.inl l1)), (2, .inr (.inl l2)), (3, .inr (.inl l3)), (4, .inl l4)] → W p l e (rmX (twd D T Z) 2048 84000 G0) s m args below meth c H locs cells slots (MQX (twd D T Z) G0 (qI Q) (fun _ _ => False) below s) (F0 m 278 ls []) := by
  intro l1 l2 l3 l4 G H locs cells slots ls h I hl
  refine lv_goto (tgt := 1631) C.1 C.2.1 dL_law_278 (by decide) ?_
  exact b_L_law_1631 C hLf hsc hk23 l1 l2 l3 l4 G _ _ _ _ _ h I (hl.sub [0, 1, 2, 3, 4] rfl)
def w_L_law_225 (T : Nat → ClassId) (Q : Int32 → Hp → Prop) (sc0 : Option Nat) (sc : Nat → Int32) (N : Nat) (k23 : Option Nat → Option Nat → Option Nat → Int32 → Hp → Prop) (l1 : Option Nat) (l2 : Option Nat) (l3 : Option Nat) (l4 : Int32) (G : Hp) : Prop := vp_in ((l4 + (1 : Int32))) N ∧ ∃ x0 : Hp, Sub x0 G ∧ w_X0_village T (fun r2 x1 => ∀ G1 : Hp, G1 = jn G x0 x1 → (vp_in ((l4 + (1 : Int32))) N ∧ isO G1 l2 19 ∧ ∃ M : MS, Sub (mG (ad l2) (gZ G1) M) G1 ∧ w_X11_village (fun r4 M1 => ∀ G3 : Hp, G3 = jn G1 (mG (ad l2) (gZ G1) M) (mG (ad l2) (gZ G1) M1) → (isO G3 l2 19 ∧ ∃ M : MS, Sub (mG (ad l2) (gZ G3) M) G3 ∧ w_X11_thrown (fun r6 M1 => ∀ G5 : Hp, G5 = jn G3 (mG (ad l2) (gZ G3) M) (mG (ad l2) (gZ G3) M1) → (((r6 = r2) → (((¬ r2 = 0) → (w_L_law_278 T Q sc0 sc N k23 l1 l2 l3 l4 G5)) ∧ ((r2 = 0) → (isO G5 l3 53 ∧ vp_in ((0 : Int32)) (gN G5 (ad l3)) ∧ (((lg_cmp (gL G5 (ad l3) ((0 : Int32)).toNatClampNeg) r4.toInt64) = 0) → (w_L_law_278 T Q sc0 sc N k23 l1 l2 l3 l4 G5)) ∧ ((¬ (lg_cmp (gL G5 (ad l3) ((0 : Int32)).toNatClampNeg) r4.toInt64) = 0) → (Q (0 : Int32) G5)))))) ∧ ((¬ r6 = r2) → (Q (0 : Int32) G5)))) M)) (sc ((l4 + (1 : Int32))).toNatClampNeg) M)) l1 (sc ((l4 + (1 : Int32))).toNatClampNeg) l3 x0
set_option maxHeartbeats 4000000 in
theorem b_L_law_225 {G0 : Hp} {Q : Int32 → Hp → Prop} {sc0 : Option Nat} {sc : Nat → Int32} {N : Nat} {k23 : Option Nat → Option Nat → Option Nat → Int32 → Hp → Prop} (C : Cx p s m meth c D T Z "EndingTownLaw" cL_law 7 (some .boolean)) (hLf : l.flags = flags0) (hsc : ∃ a, sc0 = some a ∧ va_X a N sc s Z) (hk23 : ∀ (l1 : Option Nat) (l2 : Option Nat) (l3 : Option Nat) (l4 : Int32) (G : Hp) (H : Heap) (locs : List Loc) (cells slots : Nat) (ls : Array Slot), k23 l1 l2 l3 l4 G → HI (twd D T Z) G0 s (rmX (twd D T Z) 2048 84000 G0) H locs cells slots G → LH ls 7 [(0, .inr (.inl sc0)), (1, .inr (.inl l1)), (2, .inr (.inl l2)), (3, .inr (.inl l3)), (4, .inl l4)] → W p l e (rmX (twd D T Z) 2048 84000 G0) s m args below meth c H locs cells slots (MQX (twd D T Z) G0 (qI Q) (fun _ _ => False) below s) (F0 m 23 ls [])) : ∀ (l1 : Option Nat) (l2 : Option Nat) (l3 : Option Nat) (l4 : Int32) (G : Hp) (H : Heap) (locs : List Loc) (cells slots : Nat) (ls : Array Slot), w_L_law_225 T Q sc0 sc N k23 l1 l2 l3 l4 G → HI (twd D T Z) G0 s (rmX (twd D T Z) 2048 84000 G0) H locs cells slots G → LH ls 7 [(0, .inr (.inl sc0)), (1, .inr (.inl l1)), (2, .inr (.inl l2)), (3, .inr (.inl l3)), (4, .inl l4)] → W p l e (rmX (twd D T Z) 2048 84000 G0) s m args below meth c H locs cells slots (MQX (twd D T Z) G0 (qI Q) (fun _ _ => False) below s) (F0 m 225 ls []) := by
  intro l1 l2 l3 l4 G H locs cells slots ls h I hl
  refine l_ald_n C dL_law_225 hl 1 rfl rfl ?_
  refine l_ald_n C dL_law_226 hl 0 rfl rfl ?_
  refine l_ild C dL_law_227 hl 4 rfl ?_
  refine lv_iconst (v := 1) C.1 C.2.1 dL_law_229 (by decide) ?_
  refine lv_iadd C.1 C.2.1 dL_law_230 ?_
  obtain ⟨hi, h⟩ := h
  refine z_scr hsc C I hi dL_law_231 ?_
  refine l_ald_n C dL_law_232 hl 3 rfl rfl ?_
  obtain ⟨x0, hsub, h⟩ := h
  refine k_sub C I hsub (k_S (As := [va_rf l1, .int (sc ((l4 + (1 : Int32))).toNatClampNeg), va_rf l3]) (rest := []) (y := yX0_village) C q631 q632 q99 (Or.inr ⟨_, rfl⟩) q633 (by decide) rfl pd_X0_village rfl dL_law_233) (ct_X0_village hLf h) hl.1 dL_law_233 [] rfl (Nat.le_of_ble_eq_true rfl) (Or.inr ⟨_, rfl⟩) q633 q99 ⟨Nat.le_of_ble_eq_true rfl, Nat.le_of_ble_eq_true rfl⟩ (fun v x1 H locs cells slots hq hxx xG1 I => ?_)
  obtain ⟨r2, rfl, h⟩ := hq
  have h := h _ rfl
  generalize eG1 : jn G x0 x1 = G1 at h I xG1
  refine l_ist C dL_law_236 hl (by decide) rfl (fun ls hl => ?_)
  have hl : LH ls 7 [(5, .inl r2), (0, .inr (.inl sc0)), (1, .inr (.inl l1)), (2, .inr (.inl l2)), (3, .inr (.inl l3)), (4, .inl l4)] := hl
  refine l_ald_n C dL_law_238 hl 3 rfl rfl ?_
  refine l_ald_n C dL_law_239 hl 1 rfl rfl ?_
  refine l_ild C dL_law_240 hl 5 rfl ?_
  refine lv_iconst (v := 1) C.1 C.2.1 dL_law_242 (by decide) ?_
  refine lv_iadd C.1 C.2.1 dL_law_243 ?_
  obtain ⟨hi, h⟩ := h
  refine z_scr hsc C I hi dL_law_244 ?_
  obtain ⟨ho12, h⟩ := h
  obtain ⟨M, hsub, h⟩ := h
  refine k_sub C I hsub (k_V (r := l2) (As := [.int (sc ((l4 + (1 : Int32))).toNatClampNeg)]) (rest := []) (y := yX11_village) C ⟨ho12.ad.1, I.recv C.2.2.2.2.1 ho12 (by decide)⟩ q1599 q1600 q1601 (Or.inl rfl) q1602 (by decide) rfl pd_X11_village rfl dL_law_245) (CT.rcv ho12.ad.1 (ct_X11_village h)) hl.1 dL_law_245 [] rfl (Nat.le_of_ble_eq_true rfl) (Or.inl rfl) q1602 q113 ⟨Nat.le_of_ble_eq_true rfl, Nat.le_of_ble_eq_true rfl⟩ (fun v x1 H locs cells slots hq hxx xG3 I => ?_)
  obtain ⟨M1, rfl, r4, rfl, h⟩ := hq
  have h := h _ rfl
  generalize eG3 : jn G1 (mG (ad l2) (gZ G1) M) (mG (ad l2) (gZ G1) M1) = G3 at h I xG3
  refine l_ist C dL_law_248 hl (by decide) rfl (fun ls hl => ?_)
  have hl : LH ls 7 [(6, .inl r4), (5, .inl r2), (0, .inr (.inl sc0)), (1, .inr (.inl l1)), (2, .inr (.inl l2)), (3, .inr (.inl l3)), (4, .inl l4)] := hl
  refine l_ald_n C dL_law_250 hl 4 rfl rfl ?_
  obtain ⟨ho11, h⟩ := h
  obtain ⟨M, hsub, h⟩ := h
  refine k_sub C I hsub (k_V (r := l2) (As := []) (rest := []) (y := yX11_thrown) C ⟨ho11.ad.1, I.recv C.2.2.2.2.1 ho11 (by decide)⟩ q1587 q1588 q1589 (Or.inl rfl) q1590 (by decide) rfl pd_X11_thrown rfl dL_law_251) (CT.rcv ho11.ad.1 (ct_X11_thrown h)) hl.1 dL_law_251 [] rfl (Nat.le_of_ble_eq_true rfl) (Or.inl rfl) q1590 q113 ⟨Nat.le_of_ble_eq_true rfl, Nat.le_of_ble_eq_true rfl⟩ (fun v x1 H locs cells slots hq hxx xG5 I => ?_)
  obtain ⟨M1, rfl, r6, rfl, h⟩ := hq
  have h := h _ rfl
  generalize eG5 : jn G3 (mG (ad l2) (gZ G3) M) (mG (ad l2) (gZ G3) M1) = G5 at h I xG5
  refine l_ild C dL_law_254 hl 1 rfl ?_
  refine lv_icmp_eq (tgt := 261) C.1 C.2.1 dL_law_256 (by decide) (fun c10 => ?_) (fun c10 => ?_)
  · have h := h.1 c10
    refine l_ild C dL_law_261 hl 1 rfl ?_
    refine lv_if_ne (tgt := 278) C.1 C.2.1 dL_law_263 (by decide) (fun c9 => ?_) (fun c9 => ?_)
    · have h := h.1 c9
      exact b_L_law_278 C hLf hsc hk23 l1 l2 l3 l4 G5 _ _ _ _ _ h I (hl.sub [2, 3, 4, 5, 6] rfl)
    · have h := h.2 c9
      refine l_ald_n C dL_law_266 hl 5 rfl rfl ?_
      refine lv_iconst (v := 0) C.1 C.2.1 dL_law_267 (by decide) ?_
      obtain ⟨ho7, h⟩ := h
      obtain ⟨hi, h⟩ := h
      refine a_lald C I ho7 hi dL_law_268 ?_
      refine l_ild C dL_law_269 hl 0 rfl ?_
      refine lv_i2l C.1 C.2.1 dL_law_271 rfl ?_
      refine W.lcmp C.1 C.2.1 dL_law_272 ?_
      refine lv_if_eq (tgt := 278) C.1 C.2.1 dL_law_273 (by decide) (fun c8 => ?_) (fun c8 => ?_)
      · have h := h.1 c8
        exact b_L_law_278 C hLf hsc hk23 l1 l2 l3 l4 G5 _ _ _ _ _ h I (hl.sub [2, 3, 4, 5, 6] rfl)
      · have h := h.2 c8
        refine lv_iconst (v := 0) C.1 C.2.1 dL_law_276 (by decide) ?_
        exact r_int C.1 C.2.1 C.2.2.2.2.2.1 rfl C.2.2.2.2.2.2 ⟨rfl, rfl⟩ I dL_law_277 ⟨_, rfl, h⟩
  · have h := h.2 c10
    refine lv_iconst (v := 0) C.1 C.2.1 dL_law_259 (by decide) ?_
    exact r_int C.1 C.2.1 C.2.2.2.2.2.1 rfl C.2.2.2.2.2.2 ⟨rfl, rfl⟩ I dL_law_260 ⟨_, rfl, h⟩
def w_L_law_281 (T : Nat → ClassId) (Q : Int32 → Hp → Prop) (sc0 : Option Nat) (sc : Nat → Int32) (N : Nat) (k23 : Option Nat → Option Nat → Option Nat → Int32 → Hp → Prop) (l1 : Option Nat) (l2 : Option Nat) (l3 : Option Nat) (l4 : Int32) (G : Hp) : Prop := isO G l1 1 ∧ ∃ x0 : Hp, Sub x0 G ∧ w_X1_fault T (fun r2 x1 => ∀ G1 : Hp, G1 = jn G x0 x1 → (isO G1 l2 19 ∧ ∃ M : MS, Sub (mG (ad l2) (gZ G1) M) G1 ∧ w_X11_fault (fun r4 M1 => ∀ G3 : Hp, G3 = jn G1 (mG (ad l2) (gZ G1) M) (mG (ad l2) (gZ G1) M1) → (((r2 = r4) → (w_L_law_1631 T Q sc0 sc N k23 l1 l2 l3 l4 G3)) ∧ ((¬ r2 = r4) → (Q (0 : Int32) G3)))) M)) l1 x0
set_option maxHeartbeats 4000000 in
theorem b_L_law_281 {G0 : Hp} {Q : Int32 → Hp → Prop} {sc0 : Option Nat} {sc : Nat → Int32} {N : Nat} {k23 : Option Nat → Option Nat → Option Nat → Int32 → Hp → Prop} (C : Cx p s m meth c D T Z "EndingTownLaw" cL_law 7 (some .boolean)) (hLf : l.flags = flags0) (hsc : ∃ a, sc0 = some a ∧ va_X a N sc s Z) (hk23 : ∀ (l1 : Option Nat) (l2 : Option Nat) (l3 : Option Nat) (l4 : Int32) (G : Hp) (H : Heap) (locs : List Loc) (cells slots : Nat) (ls : Array Slot), k23 l1 l2 l3 l4 G → HI (twd D T Z) G0 s (rmX (twd D T Z) 2048 84000 G0) H locs cells slots G → LH ls 7 [(0, .inr (.inl sc0)), (1, .inr (.inl l1)), (2, .inr (.inl l2)), (3, .inr (.inl l3)), (4, .inl l4)] → W p l e (rmX (twd D T Z) 2048 84000 G0) s m args below meth c H locs cells slots (MQX (twd D T Z) G0 (qI Q) (fun _ _ => False) below s) (F0 m 23 ls [])) : ∀ (l1 : Option Nat) (l2 : Option Nat) (l3 : Option Nat) (l4 : Int32) (G : Hp) (H : Heap) (locs : List Loc) (cells slots : Nat) (ls : Array Slot), w_L_law_281 T Q sc0 sc N k23 l1 l2 l3 l4 G → HI (twd D T Z) G0 s (rmX (twd D T Z) 2048 84000 G0) H locs cells slots G → LH ls 7 [(0, .inr (.inl sc0)), (1, .inr (.inl l1)), (2, .inr (.inl l2)), (3, .inr (.inl l3)), (4, .inl l4)] → W p l e (rmX (twd D T Z) 2048 84000 G0) s m args below meth c H locs cells slots (MQX (twd D T Z) G0 (qI Q) (fun _ _ => False) below s) (F0 m 281 ls []) := by
  intro l1 l2 l3 l4 G H locs cells slots ls h I hl
  refine l_ald_n C dL_law_281 hl 1 rfl rfl ?_
  obtain ⟨ho7, h⟩ := h
  obtain ⟨x0, hsub, h⟩ := h
  refine k_sub C I hsub (k_V (r := l1) (As := []) (rest := []) (y := yX1_fault) C ⟨ho7.ad.1, I.recv C.2.2.2.2.1 ho7 (by decide)⟩ q405 q406 q407 (Or.inl rfl) q408 (by decide) rfl pd_X1_fault rfl dL_law_282) (ct_X1_fault h) hl.1 dL_law_282 [] rfl (Nat.le_of_ble_eq_true rfl) (Or.inl rfl) q408 q100 ⟨Nat.le_of_ble_eq_true rfl, Nat.le_of_ble_eq_true rfl⟩ (fun v x1 H locs cells slots hq hxx xG1 I => ?_)
  obtain ⟨r2, rfl, h⟩ := hq
  have h := h _ rfl
  generalize eG1 : jn G x0 x1 = G1 at h I xG1
  refine l_ald_n C dL_law_285 hl 2 rfl rfl ?_
  obtain ⟨ho6, h⟩ := h
  obtain ⟨M, hsub, h⟩ := h
  refine k_sub C I hsub (k_V (r := l2) (As := []) (rest := [.int r2]) (y := yX11_fault) C ⟨ho6.ad.1, I.recv C.2.2.2.2.1 ho6 (by decide)⟩ q1691 q1692 q1693 (Or.inl rfl) q1694 (by decide) rfl pd_X11_fault rfl dL_law_286) (CT.rcv ho6.ad.1 (ct_X11_fault h)) hl.1 dL_law_286 [.inl r2] rfl (Nat.le_of_ble_eq_true rfl) (Or.inl rfl) q1694 q113 ⟨Nat.le_of_ble_eq_true rfl, Nat.le_of_ble_eq_true rfl⟩ (fun v x1 H locs cells slots hq hxx xG3 I => ?_)
  obtain ⟨M1, rfl, r4, rfl, h⟩ := hq
  have h := h _ rfl
  generalize eG3 : jn G1 (mG (ad l2) (gZ G1) M) (mG (ad l2) (gZ G1) M1) = G3 at h I xG3
  refine lv_icmp_eq (tgt := 1631) C.1 C.2.1 dL_law_289 (by decide) (fun c5 => ?_) (fun c5 => ?_)
  · have h := h.1 c5
    exact b_L_law_1631 C hLf hsc hk23 l1 l2 l3 l4 G3 _ _ _ _ _ h I (hl.sub [0, 1, 2, 3, 4] rfl)
  · have h := h.2 c5
    refine lv_iconst (v := 0) C.1 C.2.1 dL_law_292 (by decide) ?_
    exact r_int C.1 C.2.1 C.2.2.2.2.2.1 rfl C.2.2.2.2.2.2 ⟨rfl, rfl⟩ I dL_law_293 ⟨_, rfl, h⟩
def w_L_law_347 (T : Nat → ClassId) (Q : Int32 → Hp → Prop) (sc0 : Option Nat) (sc : Nat → Int32) (N : Nat) (k23 : Option Nat → Option Nat → Option Nat → Int32 → Hp → Prop) (l1 : Option Nat) (l2 : Option Nat) (l3 : Option Nat) (l4 : Int32) (G : Hp) : Prop := w_L_law_1631 T Q sc0 sc N k23 l1 l2 l3 l4 G
set_option maxHeartbeats 4000000 in
theorem b_L_law_347 {G0 : Hp} {Q : Int32 → Hp → Prop} {sc0 : Option Nat} {sc : Nat → Int32} {N : Nat} {k23 : Option Nat → Option Nat → Option Nat → Int32 → Hp → Prop} (C : Cx p s m meth c D T Z "EndingTownLaw" cL_law 7 (some .boolean)) (hLf : l.flags = flags0) (hsc : ∃ a, sc0 = some a ∧ va_X a N sc s Z) (hk23 : ∀ (l1 : Option Nat) (l2 : Option Nat) (l3 : Option Nat) (l4 : Int32) (G : Hp) (H : Heap) (locs : List Loc) (cells slots : Nat) (ls : Array Slot), k23 l1 l2 l3 l4 G → HI (twd D T Z) G0 s (rmX (twd D T Z) 2048 84000 G0) H locs cells slots G → LH ls 7 [(0, .inr (.inl sc0)), (1, .inr (.inl l1)), (2, .inr (.inl l2)), (3, .inr (.inl l3)), (4, .inl l4)] → W p l e (rmX (twd D T Z) 2048 84000 G0) s m args below meth c H locs cells slots (MQX (twd D T Z) G0 (qI Q) (fun _ _ => False) below s) (F0 m 23 ls [])) : ∀ (l1 : Option Nat) (l2 : Option Nat) (l3 : Option Nat) (l4 : Int32) (G : Hp) (H : Heap) (locs : List Loc) (cells slots : Nat) (ls : Array Slot), w_L_law_347 T Q sc0 sc N k23 l1 l2 l3 l4 G → HI (twd D T Z) G0 s (rmX (twd D T Z) 2048 84000 G0) H locs cells slots G → LH ls 7 [(0, .inr (.inl sc0)), (1, .inr (.inl l1)), (2, .inr (.inl l2)), (3, .inr (.inl l3)), (4, .inl l4)] → W p l e (rmX (twd D T Z) 2048 84000 G0) s m args below meth c H locs cells slots (MQX (twd D T Z) G0 (qI Q) (fun _ _ => False) below s) (F0 m 347 ls []) := by
  intro l1 l2 l3 l4 G H locs cells slots ls h I hl
  refine lv_goto (tgt := 1631) C.1 C.2.1 dL_law_347 (by decide) ?_
  exact b_L_law_1631 C hLf hsc hk23 l1 l2 l3 l4 G _ _ _ _ _ h I (hl.sub [0, 1, 2, 3, 4] rfl)
def w_L_law_294 (T : Nat → ClassId) (Q : Int32 → Hp → Prop) (sc0 : Option Nat) (sc : Nat → Int32) (N : Nat) (k23 : Option Nat → Option Nat → Option Nat → Int32 → Hp → Prop) (l1 : Option Nat) (l2 : Option Nat) (l3 : Option Nat) (l4 : Int32) (G : Hp) : Prop := vp_in ((l4 + (1 : Int32))) N ∧ ∃ x0 : Hp, Sub x0 G ∧ w_X0_count T (fun r2 x1 => ∀ G1 : Hp, G1 = jn G x0 x1 → (vp_in ((l4 + (1 : Int32))) N ∧ isO G1 l2 19 ∧ ∃ M : MS, Sub (mG (ad l2) (gZ G1) M) G1 ∧ w_X11_count (fun r4 M1 => ∀ G3 : Hp, G3 = jn G1 (mG (ad l2) (gZ G1) M) (mG (ad l2) (gZ G1) M1) → (isO G3 l2 19 ∧ ∃ M : MS, Sub (mG (ad l2) (gZ G3) M) G3 ∧ w_X11_thrown (fun r6 M1 => ∀ G5 : Hp, G5 = jn G3 (mG (ad l2) (gZ G3) M) (mG (ad l2) (gZ G3) M1) → (((r6 = r2) → (((¬ r2 = 0) → (w_L_law_347 T Q sc0 sc N k23 l1 l2 l3 l4 G5)) ∧ ((r2 = 0) → (isO G5 l3 53 ∧ vp_in ((0 : Int32)) (gN G5 (ad l3)) ∧ (((lg_cmp (gL G5 (ad l3) ((0 : Int32)).toNatClampNeg) r4.toInt64) = 0) → (w_L_law_347 T Q sc0 sc N k23 l1 l2 l3 l4 G5)) ∧ ((¬ (lg_cmp (gL G5 (ad l3) ((0 : Int32)).toNatClampNeg) r4.toInt64) = 0) → (Q (0 : Int32) G5)))))) ∧ ((¬ r6 = r2) → (Q (0 : Int32) G5)))) M)) (sc ((l4 + (1 : Int32))).toNatClampNeg) M)) l1 (sc ((l4 + (1 : Int32))).toNatClampNeg) l3 x0
set_option maxHeartbeats 4000000 in
theorem b_L_law_294 {G0 : Hp} {Q : Int32 → Hp → Prop} {sc0 : Option Nat} {sc : Nat → Int32} {N : Nat} {k23 : Option Nat → Option Nat → Option Nat → Int32 → Hp → Prop} (C : Cx p s m meth c D T Z "EndingTownLaw" cL_law 7 (some .boolean)) (hLf : l.flags = flags0) (hsc : ∃ a, sc0 = some a ∧ va_X a N sc s Z) (hk23 : ∀ (l1 : Option Nat) (l2 : Option Nat) (l3 : Option Nat) (l4 : Int32) (G : Hp) (H : Heap) (locs : List Loc) (cells slots : Nat) (ls : Array Slot), k23 l1 l2 l3 l4 G → HI (twd D T Z) G0 s (rmX (twd D T Z) 2048 84000 G0) H locs cells slots G → LH ls 7 [(0, .inr (.inl sc0)), (1, .inr (.inl l1)), (2, .inr (.inl l2)), (3, .inr (.inl l3)), (4, .inl l4)] → W p l e (rmX (twd D T Z) 2048 84000 G0) s m args below meth c H locs cells slots (MQX (twd D T Z) G0 (qI Q) (fun _ _ => False) below s) (F0 m 23 ls [])) : ∀ (l1 : Option Nat) (l2 : Option Nat) (l3 : Option Nat) (l4 : Int32) (G : Hp) (H : Heap) (locs : List Loc) (cells slots : Nat) (ls : Array Slot), w_L_law_294 T Q sc0 sc N k23 l1 l2 l3 l4 G → HI (twd D T Z) G0 s (rmX (twd D T Z) 2048 84000 G0) H locs cells slots G → LH ls 7 [(0, .inr (.inl sc0)), (1, .inr (.inl l1)), (2, .inr (.inl l2)), (3, .inr (.inl l3)), (4, .inl l4)] → W p l e (rmX (twd D T Z) 2048 84000 G0) s m args below meth c H locs cells slots (MQX (twd D T Z) G0 (qI Q) (fun _ _ => False) below s) (F0 m 294 ls []) := by
  intro l1 l2 l3 l4 G H locs cells slots ls h I hl
  refine l_ald_n C dL_law_294 hl 1 rfl rfl ?_
  refine l_ald_n C dL_law_295 hl 0 rfl rfl ?_
  refine l_ild C dL_law_296 hl 4 rfl ?_
  refine lv_iconst (v := 1) C.1 C.2.1 dL_law_298 (by decide) ?_
  refine lv_iadd C.1 C.2.1 dL_law_299 ?_
  obtain ⟨hi, h⟩ := h
  refine z_scr hsc C I hi dL_law_300 ?_
  refine l_ald_n C dL_law_301 hl 3 rfl rfl ?_
  obtain ⟨x0, hsub, h⟩ := h
  refine k_sub C I hsub (k_S (As := [va_rf l1, .int (sc ((l4 + (1 : Int32))).toNatClampNeg), va_rf l3]) (rest := []) (y := yX0_count) C q1059 q1060 q99 (Or.inr ⟨_, rfl⟩) q1061 (by decide) rfl pd_X0_count rfl dL_law_302) (ct_X0_count hLf h) hl.1 dL_law_302 [] rfl (Nat.le_of_ble_eq_true rfl) (Or.inr ⟨_, rfl⟩) q1061 q99 ⟨Nat.le_of_ble_eq_true rfl, Nat.le_of_ble_eq_true rfl⟩ (fun v x1 H locs cells slots hq hxx xG1 I => ?_)
  obtain ⟨r2, rfl, h⟩ := hq
  have h := h _ rfl
  generalize eG1 : jn G x0 x1 = G1 at h I xG1
  refine l_ist C dL_law_305 hl (by decide) rfl (fun ls hl => ?_)
  have hl : LH ls 7 [(5, .inl r2), (0, .inr (.inl sc0)), (1, .inr (.inl l1)), (2, .inr (.inl l2)), (3, .inr (.inl l3)), (4, .inl l4)] := hl
  refine l_ald_n C dL_law_307 hl 3 rfl rfl ?_
  refine l_ald_n C dL_law_308 hl 1 rfl rfl ?_
  refine l_ild C dL_law_309 hl 5 rfl ?_
  refine lv_iconst (v := 1) C.1 C.2.1 dL_law_311 (by decide) ?_
  refine lv_iadd C.1 C.2.1 dL_law_312 ?_
  obtain ⟨hi, h⟩ := h
  refine z_scr hsc C I hi dL_law_313 ?_
  obtain ⟨ho12, h⟩ := h
  obtain ⟨M, hsub, h⟩ := h
  refine k_sub C I hsub (k_V (r := l2) (As := [.int (sc ((l4 + (1 : Int32))).toNatClampNeg)]) (rest := []) (y := yX11_count) C ⟨ho12.ad.1, I.recv C.2.2.2.2.1 ho12 (by decide)⟩ q1695 q1696 q1697 (Or.inl rfl) q1698 (by decide) rfl pd_X11_count rfl dL_law_314) (CT.rcv ho12.ad.1 (ct_X11_count h)) hl.1 dL_law_314 [] rfl (Nat.le_of_ble_eq_true rfl) (Or.inl rfl) q1698 q113 ⟨Nat.le_of_ble_eq_true rfl, Nat.le_of_ble_eq_true rfl⟩ (fun v x1 H locs cells slots hq hxx xG3 I => ?_)
  obtain ⟨M1, rfl, r4, rfl, h⟩ := hq
  have h := h _ rfl
  generalize eG3 : jn G1 (mG (ad l2) (gZ G1) M) (mG (ad l2) (gZ G1) M1) = G3 at h I xG3
  refine l_ist C dL_law_317 hl (by decide) rfl (fun ls hl => ?_)
  have hl : LH ls 7 [(6, .inl r4), (5, .inl r2), (0, .inr (.inl sc0)), (1, .inr (.inl l1)), (2, .inr (.inl l2)), (3, .inr (.inl l3)), (4, .inl l4)] := hl
  refine l_ald_n C dL_law_319 hl 4 rfl rfl ?_
  obtain ⟨ho11, h⟩ := h
  obtain ⟨M, hsub, h⟩ := h
  refine k_sub C I hsub (k_V (r := l2) (As := []) (rest := []) (y := yX11_thrown) C ⟨ho11.ad.1, I.recv C.2.2.2.2.1 ho11 (by decide)⟩ q1587 q1588 q1589 (Or.inl rfl) q1590 (by decide) rfl pd_X11_thrown rfl dL_law_320) (CT.rcv ho11.ad.1 (ct_X11_thrown h)) hl.1 dL_law_320 [] rfl (Nat.le_of_ble_eq_true rfl) (Or.inl rfl) q1590 q113 ⟨Nat.le_of_ble_eq_true rfl, Nat.le_of_ble_eq_true rfl⟩ (fun v x1 H locs cells slots hq hxx xG5 I => ?_)
  obtain ⟨M1, rfl, r6, rfl, h⟩ := hq
  have h := h _ rfl
  generalize eG5 : jn G3 (mG (ad l2) (gZ G3) M) (mG (ad l2) (gZ G3) M1) = G5 at h I xG5
  refine l_ild C dL_law_323 hl 1 rfl ?_
  refine lv_icmp_eq (tgt := 330) C.1 C.2.1 dL_law_325 (by decide) (fun c10 => ?_) (fun c10 => ?_)
  · have h := h.1 c10
    refine l_ild C dL_law_330 hl 1 rfl ?_
    refine lv_if_ne (tgt := 347) C.1 C.2.1 dL_law_332 (by decide) (fun c9 => ?_) (fun c9 => ?_)
    · have h := h.1 c9
      exact b_L_law_347 C hLf hsc hk23 l1 l2 l3 l4 G5 _ _ _ _ _ h I (hl.sub [2, 3, 4, 5, 6] rfl)
    · have h := h.2 c9
      refine l_ald_n C dL_law_335 hl 5 rfl rfl ?_
      refine lv_iconst (v := 0) C.1 C.2.1 dL_law_336 (by decide) ?_
      obtain ⟨ho7, h⟩ := h
      obtain ⟨hi, h⟩ := h
      refine a_lald C I ho7 hi dL_law_337 ?_
      refine l_ild C dL_law_338 hl 0 rfl ?_
      refine lv_i2l C.1 C.2.1 dL_law_340 rfl ?_
      refine W.lcmp C.1 C.2.1 dL_law_341 ?_
      refine lv_if_eq (tgt := 347) C.1 C.2.1 dL_law_342 (by decide) (fun c8 => ?_) (fun c8 => ?_)
      · have h := h.1 c8
        exact b_L_law_347 C hLf hsc hk23 l1 l2 l3 l4 G5 _ _ _ _ _ h I (hl.sub [2, 3, 4, 5, 6] rfl)
      · have h := h.2 c8
        refine lv_iconst (v := 0) C.1 C.2.1 dL_law_345 (by decide) ?_
        exact r_int C.1 C.2.1 C.2.2.2.2.2.1 rfl C.2.2.2.2.2.2 ⟨rfl, rfl⟩ I dL_law_346 ⟨_, rfl, h⟩
  · have h := h.2 c10
    refine lv_iconst (v := 0) C.1 C.2.1 dL_law_328 (by decide) ?_
    exact r_int C.1 C.2.1 C.2.2.2.2.2.1 rfl C.2.2.2.2.2.2 ⟨rfl, rfl⟩ I dL_law_329 ⟨_, rfl, h⟩
def w_L_law_415 (T : Nat → ClassId) (Q : Int32 → Hp → Prop) (sc0 : Option Nat) (sc : Nat → Int32) (N : Nat) (k23 : Option Nat → Option Nat → Option Nat → Int32 → Hp → Prop) (l1 : Option Nat) (l2 : Option Nat) (l3 : Option Nat) (l4 : Int32) (G : Hp) : Prop := w_L_law_1631 T Q sc0 sc N k23 l1 l2 l3 l4 G
set_option maxHeartbeats 4000000 in
theorem b_L_law_415 {G0 : Hp} {Q : Int32 → Hp → Prop} {sc0 : Option Nat} {sc : Nat → Int32} {N : Nat} {k23 : Option Nat → Option Nat → Option Nat → Int32 → Hp → Prop} (C : Cx p s m meth c D T Z "EndingTownLaw" cL_law 7 (some .boolean)) (hLf : l.flags = flags0) (hsc : ∃ a, sc0 = some a ∧ va_X a N sc s Z) (hk23 : ∀ (l1 : Option Nat) (l2 : Option Nat) (l3 : Option Nat) (l4 : Int32) (G : Hp) (H : Heap) (locs : List Loc) (cells slots : Nat) (ls : Array Slot), k23 l1 l2 l3 l4 G → HI (twd D T Z) G0 s (rmX (twd D T Z) 2048 84000 G0) H locs cells slots G → LH ls 7 [(0, .inr (.inl sc0)), (1, .inr (.inl l1)), (2, .inr (.inl l2)), (3, .inr (.inl l3)), (4, .inl l4)] → W p l e (rmX (twd D T Z) 2048 84000 G0) s m args below meth c H locs cells slots (MQX (twd D T Z) G0 (qI Q) (fun _ _ => False) below s) (F0 m 23 ls [])) : ∀ (l1 : Option Nat) (l2 : Option Nat) (l3 : Option Nat) (l4 : Int32) (G : Hp) (H : Heap) (locs : List Loc) (cells slots : Nat) (ls : Array Slot), w_L_law_415 T Q sc0 sc N k23 l1 l2 l3 l4 G → HI (twd D T Z) G0 s (rmX (twd D T Z) 2048 84000 G0) H locs cells slots G → LH ls 7 [(0, .inr (.inl sc0)), (1, .inr (.inl l1)), (2, .inr (.inl l2)), (3, .inr (.inl l3)), (4, .inl l4)] → W p l e (rmX (twd D T Z) 2048 84000 G0) s m args below meth c H locs cells slots (MQX (twd D T Z) G0 (qI Q) (fun _ _ => False) below s) (F0 m 415 ls []) := by
  intro l1 l2 l3 l4 G H locs cells slots ls h I hl
  refine lv_goto (tgt := 1631) C.1 C.2.1 dL_law_415 (by decide) ?_
  exact b_L_law_1631 C hLf hsc hk23 l1 l2 l3 l4 G _ _ _ _ _ h I (hl.sub [0, 1, 2, 3, 4] rfl)
def w_L_law_350 (T : Nat → ClassId) (Q : Int32 → Hp → Prop) (sc0 : Option Nat) (sc : Nat → Int32) (N : Nat) (k23 : Option Nat → Option Nat → Option Nat → Int32 → Hp → Prop) (l1 : Option Nat) (l2 : Option Nat) (l3 : Option Nat) (l4 : Int32) (G : Hp) : Prop := vp_in ((l4 + (1 : Int32))) N ∧ vp_in ((l4 + (2 : Int32))) N ∧ ∃ x0 : Hp, Sub x0 G ∧ w_X0_where T (fun r2 x1 => ∀ G1 : Hp, G1 = jn G x0 x1 → (vp_in ((l4 + (1 : Int32))) N ∧ vp_in ((l4 + (2 : Int32))) N ∧ isO G1 l2 19 ∧ ∃ M : MS, Sub (mG (ad l2) (gZ G1) M) G1 ∧ w_X11_where (fun r4 M1 => ∀ G3 : Hp, G3 = jn G1 (mG (ad l2) (gZ G1) M) (mG (ad l2) (gZ G1) M1) → (isO G3 l2 19 ∧ ∃ M : MS, Sub (mG (ad l2) (gZ G3) M) G3 ∧ w_X11_thrown (fun r6 M1 => ∀ G5 : Hp, G5 = jn G3 (mG (ad l2) (gZ G3) M) (mG (ad l2) (gZ G3) M1) → (((r6 = r2) → (((¬ r2 = 0) → (w_L_law_415 T Q sc0 sc N k23 l1 l2 l3 l4 G5)) ∧ ((r2 = 0) → (isO G5 l3 53 ∧ vp_in ((0 : Int32)) (gN G5 (ad l3)) ∧ (((lg_cmp (gL G5 (ad l3) ((0 : Int32)).toNatClampNeg) r4.toInt64) = 0) → (w_L_law_415 T Q sc0 sc N k23 l1 l2 l3 l4 G5)) ∧ ((¬ (lg_cmp (gL G5 (ad l3) ((0 : Int32)).toNatClampNeg) r4.toInt64) = 0) → (Q (0 : Int32) G5)))))) ∧ ((¬ r6 = r2) → (Q (0 : Int32) G5)))) M)) (sc ((l4 + (1 : Int32))).toNatClampNeg) (sc ((l4 + (2 : Int32))).toNatClampNeg) M)) l1 (sc ((l4 + (1 : Int32))).toNatClampNeg) (sc ((l4 + (2 : Int32))).toNatClampNeg) l3 x0
set_option maxHeartbeats 4000000 in
theorem b_L_law_350 {G0 : Hp} {Q : Int32 → Hp → Prop} {sc0 : Option Nat} {sc : Nat → Int32} {N : Nat} {k23 : Option Nat → Option Nat → Option Nat → Int32 → Hp → Prop} (C : Cx p s m meth c D T Z "EndingTownLaw" cL_law 7 (some .boolean)) (hLf : l.flags = flags0) (hsc : ∃ a, sc0 = some a ∧ va_X a N sc s Z) (hk23 : ∀ (l1 : Option Nat) (l2 : Option Nat) (l3 : Option Nat) (l4 : Int32) (G : Hp) (H : Heap) (locs : List Loc) (cells slots : Nat) (ls : Array Slot), k23 l1 l2 l3 l4 G → HI (twd D T Z) G0 s (rmX (twd D T Z) 2048 84000 G0) H locs cells slots G → LH ls 7 [(0, .inr (.inl sc0)), (1, .inr (.inl l1)), (2, .inr (.inl l2)), (3, .inr (.inl l3)), (4, .inl l4)] → W p l e (rmX (twd D T Z) 2048 84000 G0) s m args below meth c H locs cells slots (MQX (twd D T Z) G0 (qI Q) (fun _ _ => False) below s) (F0 m 23 ls [])) : ∀ (l1 : Option Nat) (l2 : Option Nat) (l3 : Option Nat) (l4 : Int32) (G : Hp) (H : Heap) (locs : List Loc) (cells slots : Nat) (ls : Array Slot), w_L_law_350 T Q sc0 sc N k23 l1 l2 l3 l4 G → HI (twd D T Z) G0 s (rmX (twd D T Z) 2048 84000 G0) H locs cells slots G → LH ls 7 [(0, .inr (.inl sc0)), (1, .inr (.inl l1)), (2, .inr (.inl l2)), (3, .inr (.inl l3)), (4, .inl l4)] → W p l e (rmX (twd D T Z) 2048 84000 G0) s m args below meth c H locs cells slots (MQX (twd D T Z) G0 (qI Q) (fun _ _ => False) below s) (F0 m 350 ls []) := by
  intro l1 l2 l3 l4 G H locs cells slots ls h I hl
  refine l_ald_n C dL_law_350 hl 1 rfl rfl ?_
  refine l_ald_n C dL_law_351 hl 0 rfl rfl ?_
  refine l_ild C dL_law_352 hl 4 rfl ?_
  refine lv_iconst (v := 1) C.1 C.2.1 dL_law_354 (by decide) ?_
  refine lv_iadd C.1 C.2.1 dL_law_355 ?_
  obtain ⟨hi, h⟩ := h
  refine z_scr hsc C I hi dL_law_356 ?_
  refine l_ald_n C dL_law_357 hl 0 rfl rfl ?_
  refine l_ild C dL_law_358 hl 4 rfl ?_
  refine lv_iconst (v := 2) C.1 C.2.1 dL_law_360 (by decide) ?_
  refine lv_iadd C.1 C.2.1 dL_law_361 ?_
  obtain ⟨hi, h⟩ := h
  refine z_scr hsc C I hi dL_law_362 ?_
  refine l_ald_n C dL_law_363 hl 3 rfl rfl ?_
  obtain ⟨x0, hsub, h⟩ := h
  refine k_sub C I hsub (k_S (As := [va_rf l1, .int (sc ((l4 + (1 : Int32))).toNatClampNeg), .int (sc ((l4 + (2 : Int32))).toNatClampNeg), va_rf l3]) (rest := []) (y := yX0_where) C q1082 q1083 q99 (Or.inr ⟨_, rfl⟩) q1084 (by decide) rfl pd_X0_where rfl dL_law_364) (ct_X0_where hLf h) hl.1 dL_law_364 [] rfl (Nat.le_of_ble_eq_true rfl) (Or.inr ⟨_, rfl⟩) q1084 q99 ⟨Nat.le_of_ble_eq_true rfl, Nat.le_of_ble_eq_true rfl⟩ (fun v x1 H locs cells slots hq hxx xG1 I => ?_)
  obtain ⟨r2, rfl, h⟩ := hq
  have h := h _ rfl
  generalize eG1 : jn G x0 x1 = G1 at h I xG1
  refine l_ist C dL_law_367 hl (by decide) rfl (fun ls hl => ?_)
  have hl : LH ls 7 [(5, .inl r2), (0, .inr (.inl sc0)), (1, .inr (.inl l1)), (2, .inr (.inl l2)), (3, .inr (.inl l3)), (4, .inl l4)] := hl
  refine l_ald_n C dL_law_369 hl 3 rfl rfl ?_
  refine l_ald_n C dL_law_370 hl 1 rfl rfl ?_
  refine l_ild C dL_law_371 hl 5 rfl ?_
  refine lv_iconst (v := 1) C.1 C.2.1 dL_law_373 (by decide) ?_
  refine lv_iadd C.1 C.2.1 dL_law_374 ?_
  obtain ⟨hi, h⟩ := h
  refine z_scr hsc C I hi dL_law_375 ?_
  refine l_ald_n C dL_law_376 hl 1 rfl rfl ?_
  refine l_ild C dL_law_377 hl 5 rfl ?_
  refine lv_iconst (v := 2) C.1 C.2.1 dL_law_379 (by decide) ?_
  refine lv_iadd C.1 C.2.1 dL_law_380 ?_
  obtain ⟨hi, h⟩ := h
  refine z_scr hsc C I hi dL_law_381 ?_
  obtain ⟨ho12, h⟩ := h
  obtain ⟨M, hsub, h⟩ := h
  refine k_sub C I hsub (k_V (r := l2) (As := [.int (sc ((l4 + (1 : Int32))).toNatClampNeg), .int (sc ((l4 + (2 : Int32))).toNatClampNeg)]) (rest := []) (y := yX11_where) C ⟨ho12.ad.1, I.recv C.2.2.2.2.1 ho12 (by decide)⟩ q1705 q1706 q1707 (Or.inl rfl) q1708 (by decide) rfl pd_X11_where rfl dL_law_382) (CT.rcv ho12.ad.1 (ct_X11_where h)) hl.1 dL_law_382 [] rfl (Nat.le_of_ble_eq_true rfl) (Or.inl rfl) q1708 q113 ⟨Nat.le_of_ble_eq_true rfl, Nat.le_of_ble_eq_true rfl⟩ (fun v x1 H locs cells slots hq hxx xG3 I => ?_)
  obtain ⟨M1, rfl, r4, rfl, h⟩ := hq
  have h := h _ rfl
  generalize eG3 : jn G1 (mG (ad l2) (gZ G1) M) (mG (ad l2) (gZ G1) M1) = G3 at h I xG3
  refine l_ist C dL_law_385 hl (by decide) rfl (fun ls hl => ?_)
  have hl : LH ls 7 [(6, .inl r4), (5, .inl r2), (0, .inr (.inl sc0)), (1, .inr (.inl l1)), (2, .inr (.inl l2)), (3, .inr (.inl l3)), (4, .inl l4)] := hl
  refine l_ald_n C dL_law_387 hl 4 rfl rfl ?_
  obtain ⟨ho11, h⟩ := h
  obtain ⟨M, hsub, h⟩ := h
  refine k_sub C I hsub (k_V (r := l2) (As := []) (rest := []) (y := yX11_thrown) C ⟨ho11.ad.1, I.recv C.2.2.2.2.1 ho11 (by decide)⟩ q1587 q1588 q1589 (Or.inl rfl) q1590 (by decide) rfl pd_X11_thrown rfl dL_law_388) (CT.rcv ho11.ad.1 (ct_X11_thrown h)) hl.1 dL_law_388 [] rfl (Nat.le_of_ble_eq_true rfl) (Or.inl rfl) q1590 q113 ⟨Nat.le_of_ble_eq_true rfl, Nat.le_of_ble_eq_true rfl⟩ (fun v x1 H locs cells slots hq hxx xG5 I => ?_)
  obtain ⟨M1, rfl, r6, rfl, h⟩ := hq
  have h := h _ rfl
  generalize eG5 : jn G3 (mG (ad l2) (gZ G3) M) (mG (ad l2) (gZ G3) M1) = G5 at h I xG5
  refine l_ild C dL_law_391 hl 1 rfl ?_
  refine lv_icmp_eq (tgt := 398) C.1 C.2.1 dL_law_393 (by decide) (fun c10 => ?_) (fun c10 => ?_)
  · have h := h.1 c10
    refine l_ild C dL_law_398 hl 1 rfl ?_
    refine lv_if_ne (tgt := 415) C.1 C.2.1 dL_law_400 (by decide) (fun c9 => ?_) (fun c9 => ?_)
    · have h := h.1 c9
      exact b_L_law_415 C hLf hsc hk23 l1 l2 l3 l4 G5 _ _ _ _ _ h I (hl.sub [2, 3, 4, 5, 6] rfl)
    · have h := h.2 c9
      refine l_ald_n C dL_law_403 hl 5 rfl rfl ?_
      refine lv_iconst (v := 0) C.1 C.2.1 dL_law_404 (by decide) ?_
      obtain ⟨ho7, h⟩ := h
      obtain ⟨hi, h⟩ := h
      refine a_lald C I ho7 hi dL_law_405 ?_
      refine l_ild C dL_law_406 hl 0 rfl ?_
      refine lv_i2l C.1 C.2.1 dL_law_408 rfl ?_
      refine W.lcmp C.1 C.2.1 dL_law_409 ?_
      refine lv_if_eq (tgt := 415) C.1 C.2.1 dL_law_410 (by decide) (fun c8 => ?_) (fun c8 => ?_)
      · have h := h.1 c8
        exact b_L_law_415 C hLf hsc hk23 l1 l2 l3 l4 G5 _ _ _ _ _ h I (hl.sub [2, 3, 4, 5, 6] rfl)
      · have h := h.2 c8
        refine lv_iconst (v := 0) C.1 C.2.1 dL_law_413 (by decide) ?_
        exact r_int C.1 C.2.1 C.2.2.2.2.2.1 rfl C.2.2.2.2.2.2 ⟨rfl, rfl⟩ I dL_law_414 ⟨_, rfl, h⟩
  · have h := h.2 c10
    refine lv_iconst (v := 0) C.1 C.2.1 dL_law_396 (by decide) ?_
    exact r_int C.1 C.2.1 C.2.2.2.2.2.1 rfl C.2.2.2.2.2.2 ⟨rfl, rfl⟩ I dL_law_397 ⟨_, rfl, h⟩
def w_L_law_483 (T : Nat → ClassId) (Q : Int32 → Hp → Prop) (sc0 : Option Nat) (sc : Nat → Int32) (N : Nat) (k23 : Option Nat → Option Nat → Option Nat → Int32 → Hp → Prop) (l1 : Option Nat) (l2 : Option Nat) (l3 : Option Nat) (l4 : Int32) (G : Hp) : Prop := w_L_law_1631 T Q sc0 sc N k23 l1 l2 l3 l4 G
set_option maxHeartbeats 4000000 in
theorem b_L_law_483 {G0 : Hp} {Q : Int32 → Hp → Prop} {sc0 : Option Nat} {sc : Nat → Int32} {N : Nat} {k23 : Option Nat → Option Nat → Option Nat → Int32 → Hp → Prop} (C : Cx p s m meth c D T Z "EndingTownLaw" cL_law 7 (some .boolean)) (hLf : l.flags = flags0) (hsc : ∃ a, sc0 = some a ∧ va_X a N sc s Z) (hk23 : ∀ (l1 : Option Nat) (l2 : Option Nat) (l3 : Option Nat) (l4 : Int32) (G : Hp) (H : Heap) (locs : List Loc) (cells slots : Nat) (ls : Array Slot), k23 l1 l2 l3 l4 G → HI (twd D T Z) G0 s (rmX (twd D T Z) 2048 84000 G0) H locs cells slots G → LH ls 7 [(0, .inr (.inl sc0)), (1, .inr (.inl l1)), (2, .inr (.inl l2)), (3, .inr (.inl l3)), (4, .inl l4)] → W p l e (rmX (twd D T Z) 2048 84000 G0) s m args below meth c H locs cells slots (MQX (twd D T Z) G0 (qI Q) (fun _ _ => False) below s) (F0 m 23 ls [])) : ∀ (l1 : Option Nat) (l2 : Option Nat) (l3 : Option Nat) (l4 : Int32) (G : Hp) (H : Heap) (locs : List Loc) (cells slots : Nat) (ls : Array Slot), w_L_law_483 T Q sc0 sc N k23 l1 l2 l3 l4 G → HI (twd D T Z) G0 s (rmX (twd D T Z) 2048 84000 G0) H locs cells slots G → LH ls 7 [(0, .inr (.inl sc0)), (1, .inr (.inl l1)), (2, .inr (.inl l2)), (3, .inr (.inl l3)), (4, .inl l4)] → W p l e (rmX (twd D T Z) 2048 84000 G0) s m args below meth c H locs cells slots (MQX (twd D T Z) G0 (qI Q) (fun _ _ => False) below s) (F0 m 483 ls []) := by
  intro l1 l2 l3 l4 G H locs cells slots ls h I hl
  refine lv_goto (tgt := 1631) C.1 C.2.1 dL_law_483 (by decide) ?_
  exact b_L_law_1631 C hLf hsc hk23 l1 l2 l3 l4 G _ _ _ _ _ h I (hl.sub [0, 1, 2, 3, 4] rfl)
def w_L_law_418 (T : Nat → ClassId) (Q : Int32 → Hp → Prop) (sc0 : Option Nat) (sc : Nat → Int32) (N : Nat) (k23 : Option Nat → Option Nat → Option Nat → Int32 → Hp → Prop) (l1 : Option Nat) (l2 : Option Nat) (l3 : Option Nat) (l4 : Int32) (G : Hp) : Prop := vp_in ((l4 + (1 : Int32))) N ∧ vp_in ((l4 + (2 : Int32))) N ∧ ∃ x0 : Hp, Sub x0 G ∧ w_X0_thing T (fun r2 x1 => ∀ G1 : Hp, G1 = jn G x0 x1 → (vp_in ((l4 + (1 : Int32))) N ∧ vp_in ((l4 + (2 : Int32))) N ∧ isO G1 l2 19 ∧ ∃ M : MS, Sub (mG (ad l2) (gZ G1) M) G1 ∧ w_X11_thing (fun r4 M1 => ∀ G3 : Hp, G3 = jn G1 (mG (ad l2) (gZ G1) M) (mG (ad l2) (gZ G1) M1) → (isO G3 l2 19 ∧ ∃ M : MS, Sub (mG (ad l2) (gZ G3) M) G3 ∧ w_X11_thrown (fun r6 M1 => ∀ G5 : Hp, G5 = jn G3 (mG (ad l2) (gZ G3) M) (mG (ad l2) (gZ G3) M1) → (((r6 = r2) → (((¬ r2 = 0) → (w_L_law_483 T Q sc0 sc N k23 l1 l2 l3 l4 G5)) ∧ ((r2 = 0) → (isO G5 l3 53 ∧ vp_in ((0 : Int32)) (gN G5 (ad l3)) ∧ (((lg_cmp (gL G5 (ad l3) ((0 : Int32)).toNatClampNeg) r4.toInt64) = 0) → (w_L_law_483 T Q sc0 sc N k23 l1 l2 l3 l4 G5)) ∧ ((¬ (lg_cmp (gL G5 (ad l3) ((0 : Int32)).toNatClampNeg) r4.toInt64) = 0) → (Q (0 : Int32) G5)))))) ∧ ((¬ r6 = r2) → (Q (0 : Int32) G5)))) M)) (sc ((l4 + (1 : Int32))).toNatClampNeg) (sc ((l4 + (2 : Int32))).toNatClampNeg) M)) l1 (sc ((l4 + (1 : Int32))).toNatClampNeg) (sc ((l4 + (2 : Int32))).toNatClampNeg) l3 x0
set_option maxHeartbeats 4000000 in
theorem b_L_law_418 {G0 : Hp} {Q : Int32 → Hp → Prop} {sc0 : Option Nat} {sc : Nat → Int32} {N : Nat} {k23 : Option Nat → Option Nat → Option Nat → Int32 → Hp → Prop} (C : Cx p s m meth c D T Z "EndingTownLaw" cL_law 7 (some .boolean)) (hLf : l.flags = flags0) (hsc : ∃ a, sc0 = some a ∧ va_X a N sc s Z) (hk23 : ∀ (l1 : Option Nat) (l2 : Option Nat) (l3 : Option Nat) (l4 : Int32) (G : Hp) (H : Heap) (locs : List Loc) (cells slots : Nat) (ls : Array Slot), k23 l1 l2 l3 l4 G → HI (twd D T Z) G0 s (rmX (twd D T Z) 2048 84000 G0) H locs cells slots G → LH ls 7 [(0, .inr (.inl sc0)), (1, .inr (.inl l1)), (2, .inr (.inl l2)), (3, .inr (.inl l3)), (4, .inl l4)] → W p l e (rmX (twd D T Z) 2048 84000 G0) s m args below meth c H locs cells slots (MQX (twd D T Z) G0 (qI Q) (fun _ _ => False) below s) (F0 m 23 ls [])) : ∀ (l1 : Option Nat) (l2 : Option Nat) (l3 : Option Nat) (l4 : Int32) (G : Hp) (H : Heap) (locs : List Loc) (cells slots : Nat) (ls : Array Slot), w_L_law_418 T Q sc0 sc N k23 l1 l2 l3 l4 G → HI (twd D T Z) G0 s (rmX (twd D T Z) 2048 84000 G0) H locs cells slots G → LH ls 7 [(0, .inr (.inl sc0)), (1, .inr (.inl l1)), (2, .inr (.inl l2)), (3, .inr (.inl l3)), (4, .inl l4)] → W p l e (rmX (twd D T Z) 2048 84000 G0) s m args below meth c H locs cells slots (MQX (twd D T Z) G0 (qI Q) (fun _ _ => False) below s) (F0 m 418 ls []) := by
  intro l1 l2 l3 l4 G H locs cells slots ls h I hl
  refine l_ald_n C dL_law_418 hl 1 rfl rfl ?_
  refine l_ald_n C dL_law_419 hl 0 rfl rfl ?_
  refine l_ild C dL_law_420 hl 4 rfl ?_
  refine lv_iconst (v := 1) C.1 C.2.1 dL_law_422 (by decide) ?_
  refine lv_iadd C.1 C.2.1 dL_law_423 ?_
  obtain ⟨hi, h⟩ := h
  refine z_scr hsc C I hi dL_law_424 ?_
  refine l_ald_n C dL_law_425 hl 0 rfl rfl ?_
  refine l_ild C dL_law_426 hl 4 rfl ?_
  refine lv_iconst (v := 2) C.1 C.2.1 dL_law_428 (by decide) ?_
  refine lv_iadd C.1 C.2.1 dL_law_429 ?_
  obtain ⟨hi, h⟩ := h
  refine z_scr hsc C I hi dL_law_430 ?_
  refine l_ald_n C dL_law_431 hl 3 rfl rfl ?_
  obtain ⟨x0, hsub, h⟩ := h
  refine k_sub C I hsub (k_S (As := [va_rf l1, .int (sc ((l4 + (1 : Int32))).toNatClampNeg), .int (sc ((l4 + (2 : Int32))).toNatClampNeg), va_rf l3]) (rest := []) (y := yX0_thing) C q1102 q1103 q99 (Or.inr ⟨_, rfl⟩) q1104 (by decide) rfl pd_X0_thing rfl dL_law_432) (ct_X0_thing hLf h) hl.1 dL_law_432 [] rfl (Nat.le_of_ble_eq_true rfl) (Or.inr ⟨_, rfl⟩) q1104 q99 ⟨Nat.le_of_ble_eq_true rfl, Nat.le_of_ble_eq_true rfl⟩ (fun v x1 H locs cells slots hq hxx xG1 I => ?_)
  obtain ⟨r2, rfl, h⟩ := hq
  have h := h _ rfl
  generalize eG1 : jn G x0 x1 = G1 at h I xG1
  refine l_ist C dL_law_435 hl (by decide) rfl (fun ls hl => ?_)
  have hl : LH ls 7 [(5, .inl r2), (0, .inr (.inl sc0)), (1, .inr (.inl l1)), (2, .inr (.inl l2)), (3, .inr (.inl l3)), (4, .inl l4)] := hl
  refine l_ald_n C dL_law_437 hl 3 rfl rfl ?_
  refine l_ald_n C dL_law_438 hl 1 rfl rfl ?_
  refine l_ild C dL_law_439 hl 5 rfl ?_
  refine lv_iconst (v := 1) C.1 C.2.1 dL_law_441 (by decide) ?_
  refine lv_iadd C.1 C.2.1 dL_law_442 ?_
  obtain ⟨hi, h⟩ := h
  refine z_scr hsc C I hi dL_law_443 ?_
  refine l_ald_n C dL_law_444 hl 1 rfl rfl ?_
  refine l_ild C dL_law_445 hl 5 rfl ?_
  refine lv_iconst (v := 2) C.1 C.2.1 dL_law_447 (by decide) ?_
  refine lv_iadd C.1 C.2.1 dL_law_448 ?_
  obtain ⟨hi, h⟩ := h
  refine z_scr hsc C I hi dL_law_449 ?_
  obtain ⟨ho12, h⟩ := h
  obtain ⟨M, hsub, h⟩ := h
  refine k_sub C I hsub (k_V (r := l2) (As := [.int (sc ((l4 + (1 : Int32))).toNatClampNeg), .int (sc ((l4 + (2 : Int32))).toNatClampNeg)]) (rest := []) (y := yX11_thing) C ⟨ho12.ad.1, I.recv C.2.2.2.2.1 ho12 (by decide)⟩ q1713 q1714 q1715 (Or.inl rfl) q1716 (by decide) rfl pd_X11_thing rfl dL_law_450) (CT.rcv ho12.ad.1 (ct_X11_thing h)) hl.1 dL_law_450 [] rfl (Nat.le_of_ble_eq_true rfl) (Or.inl rfl) q1716 q113 ⟨Nat.le_of_ble_eq_true rfl, Nat.le_of_ble_eq_true rfl⟩ (fun v x1 H locs cells slots hq hxx xG3 I => ?_)
  obtain ⟨M1, rfl, r4, rfl, h⟩ := hq
  have h := h _ rfl
  generalize eG3 : jn G1 (mG (ad l2) (gZ G1) M) (mG (ad l2) (gZ G1) M1) = G3 at h I xG3
  refine l_ist C dL_law_453 hl (by decide) rfl (fun ls hl => ?_)
  have hl : LH ls 7 [(6, .inl r4), (5, .inl r2), (0, .inr (.inl sc0)), (1, .inr (.inl l1)), (2, .inr (.inl l2)), (3, .inr (.inl l3)), (4, .inl l4)] := hl
  refine l_ald_n C dL_law_455 hl 4 rfl rfl ?_
  obtain ⟨ho11, h⟩ := h
  obtain ⟨M, hsub, h⟩ := h
  refine k_sub C I hsub (k_V (r := l2) (As := []) (rest := []) (y := yX11_thrown) C ⟨ho11.ad.1, I.recv C.2.2.2.2.1 ho11 (by decide)⟩ q1587 q1588 q1589 (Or.inl rfl) q1590 (by decide) rfl pd_X11_thrown rfl dL_law_456) (CT.rcv ho11.ad.1 (ct_X11_thrown h)) hl.1 dL_law_456 [] rfl (Nat.le_of_ble_eq_true rfl) (Or.inl rfl) q1590 q113 ⟨Nat.le_of_ble_eq_true rfl, Nat.le_of_ble_eq_true rfl⟩ (fun v x1 H locs cells slots hq hxx xG5 I => ?_)
  obtain ⟨M1, rfl, r6, rfl, h⟩ := hq
  have h := h _ rfl
  generalize eG5 : jn G3 (mG (ad l2) (gZ G3) M) (mG (ad l2) (gZ G3) M1) = G5 at h I xG5
  refine l_ild C dL_law_459 hl 1 rfl ?_
  refine lv_icmp_eq (tgt := 466) C.1 C.2.1 dL_law_461 (by decide) (fun c10 => ?_) (fun c10 => ?_)
  · have h := h.1 c10
    refine l_ild C dL_law_466 hl 1 rfl ?_
    refine lv_if_ne (tgt := 483) C.1 C.2.1 dL_law_468 (by decide) (fun c9 => ?_) (fun c9 => ?_)
    · have h := h.1 c9
      exact b_L_law_483 C hLf hsc hk23 l1 l2 l3 l4 G5 _ _ _ _ _ h I (hl.sub [2, 3, 4, 5, 6] rfl)
    · have h := h.2 c9
      refine l_ald_n C dL_law_471 hl 5 rfl rfl ?_
      refine lv_iconst (v := 0) C.1 C.2.1 dL_law_472 (by decide) ?_
      obtain ⟨ho7, h⟩ := h
      obtain ⟨hi, h⟩ := h
      refine a_lald C I ho7 hi dL_law_473 ?_
      refine l_ild C dL_law_474 hl 0 rfl ?_
      refine lv_i2l C.1 C.2.1 dL_law_476 rfl ?_
      refine W.lcmp C.1 C.2.1 dL_law_477 ?_
      refine lv_if_eq (tgt := 483) C.1 C.2.1 dL_law_478 (by decide) (fun c8 => ?_) (fun c8 => ?_)
      · have h := h.1 c8
        exact b_L_law_483 C hLf hsc hk23 l1 l2 l3 l4 G5 _ _ _ _ _ h I (hl.sub [2, 3, 4, 5, 6] rfl)
      · have h := h.2 c8
        refine lv_iconst (v := 0) C.1 C.2.1 dL_law_481 (by decide) ?_
        exact r_int C.1 C.2.1 C.2.2.2.2.2.1 rfl C.2.2.2.2.2.2 ⟨rfl, rfl⟩ I dL_law_482 ⟨_, rfl, h⟩
  · have h := h.2 c10
    refine lv_iconst (v := 0) C.1 C.2.1 dL_law_464 (by decide) ?_
    exact r_int C.1 C.2.1 C.2.2.2.2.2.1 rfl C.2.2.2.2.2.2 ⟨rfl, rfl⟩ I dL_law_465 ⟨_, rfl, h⟩
def w_L_law_575 (T : Nat → ClassId) (Q : Int32 → Hp → Prop) (sc0 : Option Nat) (sc : Nat → Int32) (N : Nat) (k23 : Option Nat → Option Nat → Option Nat → Int32 → Hp → Prop) (l1 : Option Nat) (l2 : Option Nat) (l3 : Option Nat) (l4 : Int32) (G : Hp) : Prop := w_L_law_1631 T Q sc0 sc N k23 l1 l2 l3 l4 G
set_option maxHeartbeats 4000000 in
theorem b_L_law_575 {G0 : Hp} {Q : Int32 → Hp → Prop} {sc0 : Option Nat} {sc : Nat → Int32} {N : Nat} {k23 : Option Nat → Option Nat → Option Nat → Int32 → Hp → Prop} (C : Cx p s m meth c D T Z "EndingTownLaw" cL_law 7 (some .boolean)) (hLf : l.flags = flags0) (hsc : ∃ a, sc0 = some a ∧ va_X a N sc s Z) (hk23 : ∀ (l1 : Option Nat) (l2 : Option Nat) (l3 : Option Nat) (l4 : Int32) (G : Hp) (H : Heap) (locs : List Loc) (cells slots : Nat) (ls : Array Slot), k23 l1 l2 l3 l4 G → HI (twd D T Z) G0 s (rmX (twd D T Z) 2048 84000 G0) H locs cells slots G → LH ls 7 [(0, .inr (.inl sc0)), (1, .inr (.inl l1)), (2, .inr (.inl l2)), (3, .inr (.inl l3)), (4, .inl l4)] → W p l e (rmX (twd D T Z) 2048 84000 G0) s m args below meth c H locs cells slots (MQX (twd D T Z) G0 (qI Q) (fun _ _ => False) below s) (F0 m 23 ls [])) : ∀ (l1 : Option Nat) (l2 : Option Nat) (l3 : Option Nat) (l4 : Int32) (G : Hp) (H : Heap) (locs : List Loc) (cells slots : Nat) (ls : Array Slot), w_L_law_575 T Q sc0 sc N k23 l1 l2 l3 l4 G → HI (twd D T Z) G0 s (rmX (twd D T Z) 2048 84000 G0) H locs cells slots G → LH ls 7 [(0, .inr (.inl sc0)), (1, .inr (.inl l1)), (2, .inr (.inl l2)), (3, .inr (.inl l3)), (4, .inl l4)] → W p l e (rmX (twd D T Z) 2048 84000 G0) s m args below meth c H locs cells slots (MQX (twd D T Z) G0 (qI Q) (fun _ _ => False) below s) (F0 m 575 ls []) := by
  intro l1 l2 l3 l4 G H locs cells slots ls h I hl
  refine lv_goto (tgt := 1631) C.1 C.2.1 dL_law_575 (by decide) ?_
  exact b_L_law_1631 C hLf hsc hk23 l1 l2 l3 l4 G _ _ _ _ _ h I (hl.sub [0, 1, 2, 3, 4] rfl)
def w_L_law_486 (T : Nat → ClassId) (Q : Int32 → Hp → Prop) (sc0 : Option Nat) (sc : Nat → Int32) (N : Nat) (k23 : Option Nat → Option Nat → Option Nat → Int32 → Hp → Prop) (l1 : Option Nat) (l2 : Option Nat) (l3 : Option Nat) (l4 : Int32) (G : Hp) : Prop := vp_in ((l4 + (1 : Int32))) N ∧ vp_in ((l4 + (2 : Int32))) N ∧ vp_in ((l4 + (3 : Int32))) N ∧ vp_in ((l4 + (4 : Int32))) N ∧ ∃ x0 : Hp, Sub x0 G ∧ w_X0_word T (fun r2 x1 => ∀ G1 : Hp, G1 = jn G x0 x1 → (vp_in ((l4 + (1 : Int32))) N ∧ vp_in ((l4 + (2 : Int32))) N ∧ vp_in ((l4 + (3 : Int32))) N ∧ vp_in ((l4 + (4 : Int32))) N ∧ isO G1 l2 19 ∧ ∃ M : MS, Sub (mG (ad l2) (gZ G1) M) G1 ∧ w_X11_word (fun r4 M1 => ∀ G3 : Hp, G3 = jn G1 (mG (ad l2) (gZ G1) M) (mG (ad l2) (gZ G1) M1) → (isO G3 l2 19 ∧ ∃ M : MS, Sub (mG (ad l2) (gZ G3) M) G3 ∧ w_X11_thrown (fun r6 M1 => ∀ G5 : Hp, G5 = jn G3 (mG (ad l2) (gZ G3) M) (mG (ad l2) (gZ G3) M1) → (((r6 = r2) → (((¬ r2 = 0) → (w_L_law_575 T Q sc0 sc N k23 l1 l2 l3 l4 G5)) ∧ ((r2 = 0) → (isO G5 l3 53 ∧ vp_in ((0 : Int32)) (gN G5 (ad l3)) ∧ (((lg_cmp (gL G5 (ad l3) ((0 : Int32)).toNatClampNeg) r4.toInt64) = 0) → (w_L_law_575 T Q sc0 sc N k23 l1 l2 l3 l4 G5)) ∧ ((¬ (lg_cmp (gL G5 (ad l3) ((0 : Int32)).toNatClampNeg) r4.toInt64) = 0) → (Q (0 : Int32) G5)))))) ∧ ((¬ r6 = r2) → (Q (0 : Int32) G5)))) M)) (sc ((l4 + (1 : Int32))).toNatClampNeg) (sc ((l4 + (2 : Int32))).toNatClampNeg) (sc ((l4 + (3 : Int32))).toNatClampNeg) (sc ((l4 + (4 : Int32))).toNatClampNeg) M)) l1 (sc ((l4 + (1 : Int32))).toNatClampNeg) (sc ((l4 + (2 : Int32))).toNatClampNeg) (sc ((l4 + (3 : Int32))).toNatClampNeg) (sc ((l4 + (4 : Int32))).toNatClampNeg) l3 x0
set_option maxHeartbeats 4000000 in
theorem b_L_law_486 {G0 : Hp} {Q : Int32 → Hp → Prop} {sc0 : Option Nat} {sc : Nat → Int32} {N : Nat} {k23 : Option Nat → Option Nat → Option Nat → Int32 → Hp → Prop} (C : Cx p s m meth c D T Z "EndingTownLaw" cL_law 7 (some .boolean)) (hLf : l.flags = flags0) (hsc : ∃ a, sc0 = some a ∧ va_X a N sc s Z) (hk23 : ∀ (l1 : Option Nat) (l2 : Option Nat) (l3 : Option Nat) (l4 : Int32) (G : Hp) (H : Heap) (locs : List Loc) (cells slots : Nat) (ls : Array Slot), k23 l1 l2 l3 l4 G → HI (twd D T Z) G0 s (rmX (twd D T Z) 2048 84000 G0) H locs cells slots G → LH ls 7 [(0, .inr (.inl sc0)), (1, .inr (.inl l1)), (2, .inr (.inl l2)), (3, .inr (.inl l3)), (4, .inl l4)] → W p l e (rmX (twd D T Z) 2048 84000 G0) s m args below meth c H locs cells slots (MQX (twd D T Z) G0 (qI Q) (fun _ _ => False) below s) (F0 m 23 ls [])) : ∀ (l1 : Option Nat) (l2 : Option Nat) (l3 : Option Nat) (l4 : Int32) (G : Hp) (H : Heap) (locs : List Loc) (cells slots : Nat) (ls : Array Slot), w_L_law_486 T Q sc0 sc N k23 l1 l2 l3 l4 G → HI (twd D T Z) G0 s (rmX (twd D T Z) 2048 84000 G0) H locs cells slots G → LH ls 7 [(0, .inr (.inl sc0)), (1, .inr (.inl l1)), (2, .inr (.inl l2)), (3, .inr (.inl l3)), (4, .inl l4)] → W p l e (rmX (twd D T Z) 2048 84000 G0) s m args below meth c H locs cells slots (MQX (twd D T Z) G0 (qI Q) (fun _ _ => False) below s) (F0 m 486 ls []) := by
  intro l1 l2 l3 l4 G H locs cells slots ls h I hl
  refine l_ald_n C dL_law_486 hl 1 rfl rfl ?_
  refine l_ald_n C dL_law_487 hl 0 rfl rfl ?_
  refine l_ild C dL_law_488 hl 4 rfl ?_
  refine lv_iconst (v := 1) C.1 C.2.1 dL_law_490 (by decide) ?_
  refine lv_iadd C.1 C.2.1 dL_law_491 ?_
  obtain ⟨hi, h⟩ := h
  refine z_scr hsc C I hi dL_law_492 ?_
  refine l_ald_n C dL_law_493 hl 0 rfl rfl ?_
  refine l_ild C dL_law_494 hl 4 rfl ?_
  refine lv_iconst (v := 2) C.1 C.2.1 dL_law_496 (by decide) ?_
  refine lv_iadd C.1 C.2.1 dL_law_497 ?_
  obtain ⟨hi, h⟩ := h
  refine z_scr hsc C I hi dL_law_498 ?_
  refine l_ald_n C dL_law_499 hl 0 rfl rfl ?_
  refine l_ild C dL_law_500 hl 4 rfl ?_
  refine lv_iconst (v := 3) C.1 C.2.1 dL_law_502 (by decide) ?_
  refine lv_iadd C.1 C.2.1 dL_law_503 ?_
  obtain ⟨hi, h⟩ := h
  refine z_scr hsc C I hi dL_law_504 ?_
  refine l_ald_n C dL_law_505 hl 0 rfl rfl ?_
  refine l_ild C dL_law_506 hl 4 rfl ?_
  refine lv_iconst (v := 4) C.1 C.2.1 dL_law_508 (by decide) ?_
  refine lv_iadd C.1 C.2.1 dL_law_509 ?_
  obtain ⟨hi, h⟩ := h
  refine z_scr hsc C I hi dL_law_510 ?_
  refine l_ald_n C dL_law_511 hl 3 rfl rfl ?_
  obtain ⟨x0, hsub, h⟩ := h
  refine k_sub C I hsub (k_S (As := [va_rf l1, .int (sc ((l4 + (1 : Int32))).toNatClampNeg), .int (sc ((l4 + (2 : Int32))).toNatClampNeg), .int (sc ((l4 + (3 : Int32))).toNatClampNeg), .int (sc ((l4 + (4 : Int32))).toNatClampNeg), va_rf l3]) (rest := []) (y := yX0_word) C q1114 q1115 q99 (Or.inr ⟨_, rfl⟩) q1116 (by decide) rfl pd_X0_word rfl dL_law_512) (ct_X0_word hLf h) hl.1 dL_law_512 [] rfl (Nat.le_of_ble_eq_true rfl) (Or.inr ⟨_, rfl⟩) q1116 q99 ⟨Nat.le_of_ble_eq_true rfl, Nat.le_of_ble_eq_true rfl⟩ (fun v x1 H locs cells slots hq hxx xG1 I => ?_)
  obtain ⟨r2, rfl, h⟩ := hq
  have h := h _ rfl
  generalize eG1 : jn G x0 x1 = G1 at h I xG1
  refine l_ist C dL_law_515 hl (by decide) rfl (fun ls hl => ?_)
  have hl : LH ls 7 [(5, .inl r2), (0, .inr (.inl sc0)), (1, .inr (.inl l1)), (2, .inr (.inl l2)), (3, .inr (.inl l3)), (4, .inl l4)] := hl
  refine l_ald_n C dL_law_517 hl 3 rfl rfl ?_
  refine l_ald_n C dL_law_518 hl 1 rfl rfl ?_
  refine l_ild C dL_law_519 hl 5 rfl ?_
  refine lv_iconst (v := 1) C.1 C.2.1 dL_law_521 (by decide) ?_
  refine lv_iadd C.1 C.2.1 dL_law_522 ?_
  obtain ⟨hi, h⟩ := h
  refine z_scr hsc C I hi dL_law_523 ?_
  refine l_ald_n C dL_law_524 hl 1 rfl rfl ?_
  refine l_ild C dL_law_525 hl 5 rfl ?_
  refine lv_iconst (v := 2) C.1 C.2.1 dL_law_527 (by decide) ?_
  refine lv_iadd C.1 C.2.1 dL_law_528 ?_
  obtain ⟨hi, h⟩ := h
  refine z_scr hsc C I hi dL_law_529 ?_
  refine l_ald_n C dL_law_530 hl 1 rfl rfl ?_
  refine l_ild C dL_law_531 hl 5 rfl ?_
  refine lv_iconst (v := 3) C.1 C.2.1 dL_law_533 (by decide) ?_
  refine lv_iadd C.1 C.2.1 dL_law_534 ?_
  obtain ⟨hi, h⟩ := h
  refine z_scr hsc C I hi dL_law_535 ?_
  refine l_ald_n C dL_law_536 hl 1 rfl rfl ?_
  refine l_ild C dL_law_537 hl 5 rfl ?_
  refine lv_iconst (v := 4) C.1 C.2.1 dL_law_539 (by decide) ?_
  refine lv_iadd C.1 C.2.1 dL_law_540 ?_
  obtain ⟨hi, h⟩ := h
  refine z_scr hsc C I hi dL_law_541 ?_
  obtain ⟨ho12, h⟩ := h
  obtain ⟨M, hsub, h⟩ := h
  refine k_sub C I hsub (k_V (r := l2) (As := [.int (sc ((l4 + (1 : Int32))).toNatClampNeg), .int (sc ((l4 + (2 : Int32))).toNatClampNeg), .int (sc ((l4 + (3 : Int32))).toNatClampNeg), .int (sc ((l4 + (4 : Int32))).toNatClampNeg)]) (rest := []) (y := yX11_word) C ⟨ho12.ad.1, I.recv C.2.2.2.2.1 ho12 (by decide)⟩ q1721 q1722 q1723 (Or.inl rfl) q1724 (by decide) rfl pd_X11_word rfl dL_law_542) (CT.rcv ho12.ad.1 (ct_X11_word h)) hl.1 dL_law_542 [] rfl (Nat.le_of_ble_eq_true rfl) (Or.inl rfl) q1724 q113 ⟨Nat.le_of_ble_eq_true rfl, Nat.le_of_ble_eq_true rfl⟩ (fun v x1 H locs cells slots hq hxx xG3 I => ?_)
  obtain ⟨M1, rfl, r4, rfl, h⟩ := hq
  have h := h _ rfl
  generalize eG3 : jn G1 (mG (ad l2) (gZ G1) M) (mG (ad l2) (gZ G1) M1) = G3 at h I xG3
  refine l_ist C dL_law_545 hl (by decide) rfl (fun ls hl => ?_)
  have hl : LH ls 7 [(6, .inl r4), (5, .inl r2), (0, .inr (.inl sc0)), (1, .inr (.inl l1)), (2, .inr (.inl l2)), (3, .inr (.inl l3)), (4, .inl l4)] := hl
  refine l_ald_n C dL_law_547 hl 4 rfl rfl ?_
  obtain ⟨ho11, h⟩ := h
  obtain ⟨M, hsub, h⟩ := h
  refine k_sub C I hsub (k_V (r := l2) (As := []) (rest := []) (y := yX11_thrown) C ⟨ho11.ad.1, I.recv C.2.2.2.2.1 ho11 (by decide)⟩ q1587 q1588 q1589 (Or.inl rfl) q1590 (by decide) rfl pd_X11_thrown rfl dL_law_548) (CT.rcv ho11.ad.1 (ct_X11_thrown h)) hl.1 dL_law_548 [] rfl (Nat.le_of_ble_eq_true rfl) (Or.inl rfl) q1590 q113 ⟨Nat.le_of_ble_eq_true rfl, Nat.le_of_ble_eq_true rfl⟩ (fun v x1 H locs cells slots hq hxx xG5 I => ?_)
  obtain ⟨M1, rfl, r6, rfl, h⟩ := hq
  have h := h _ rfl
  generalize eG5 : jn G3 (mG (ad l2) (gZ G3) M) (mG (ad l2) (gZ G3) M1) = G5 at h I xG5
  refine l_ild C dL_law_551 hl 1 rfl ?_
  refine lv_icmp_eq (tgt := 558) C.1 C.2.1 dL_law_553 (by decide) (fun c10 => ?_) (fun c10 => ?_)
  · have h := h.1 c10
    refine l_ild C dL_law_558 hl 1 rfl ?_
    refine lv_if_ne (tgt := 575) C.1 C.2.1 dL_law_560 (by decide) (fun c9 => ?_) (fun c9 => ?_)
    · have h := h.1 c9
      exact b_L_law_575 C hLf hsc hk23 l1 l2 l3 l4 G5 _ _ _ _ _ h I (hl.sub [2, 3, 4, 5, 6] rfl)
    · have h := h.2 c9
      refine l_ald_n C dL_law_563 hl 5 rfl rfl ?_
      refine lv_iconst (v := 0) C.1 C.2.1 dL_law_564 (by decide) ?_
      obtain ⟨ho7, h⟩ := h
      obtain ⟨hi, h⟩ := h
      refine a_lald C I ho7 hi dL_law_565 ?_
      refine l_ild C dL_law_566 hl 0 rfl ?_
      refine lv_i2l C.1 C.2.1 dL_law_568 rfl ?_
      refine W.lcmp C.1 C.2.1 dL_law_569 ?_
      refine lv_if_eq (tgt := 575) C.1 C.2.1 dL_law_570 (by decide) (fun c8 => ?_) (fun c8 => ?_)
      · have h := h.1 c8
        exact b_L_law_575 C hLf hsc hk23 l1 l2 l3 l4 G5 _ _ _ _ _ h I (hl.sub [2, 3, 4, 5, 6] rfl)
      · have h := h.2 c8
        refine lv_iconst (v := 0) C.1 C.2.1 dL_law_573 (by decide) ?_
        exact r_int C.1 C.2.1 C.2.2.2.2.2.1 rfl C.2.2.2.2.2.2 ⟨rfl, rfl⟩ I dL_law_574 ⟨_, rfl, h⟩
  · have h := h.2 c10
    refine lv_iconst (v := 0) C.1 C.2.1 dL_law_556 (by decide) ?_
    exact r_int C.1 C.2.1 C.2.2.2.2.2.1 rfl C.2.2.2.2.2.2 ⟨rfl, rfl⟩ I dL_law_557 ⟨_, rfl, h⟩
def w_L_law_631 (T : Nat → ClassId) (Q : Int32 → Hp → Prop) (sc0 : Option Nat) (sc : Nat → Int32) (N : Nat) (k23 : Option Nat → Option Nat → Option Nat → Int32 → Hp → Prop) (l1 : Option Nat) (l2 : Option Nat) (l3 : Option Nat) (l4 : Int32) (G : Hp) : Prop := w_L_law_1631 T Q sc0 sc N k23 l1 l2 l3 l4 G
set_option maxHeartbeats 4000000 in
theorem b_L_law_631 {G0 : Hp} {Q : Int32 → Hp → Prop} {sc0 : Option Nat} {sc : Nat → Int32} {N : Nat} {k23 : Option Nat → Option Nat → Option Nat → Int32 → Hp → Prop} (C : Cx p s m meth c D T Z "EndingTownLaw" cL_law 7 (some .boolean)) (hLf : l.flags = flags0) (hsc : ∃ a, sc0 = some a ∧ va_X a N sc s Z) (hk23 : ∀ (l1 : Option Nat) (l2 : Option Nat) (l3 : Option Nat) (l4 : Int32) (G : Hp) (H : Heap) (locs : List Loc) (cells slots : Nat) (ls : Array Slot), k23 l1 l2 l3 l4 G → HI (twd D T Z) G0 s (rmX (twd D T Z) 2048 84000 G0) H locs cells slots G → LH ls 7 [(0, .inr (.inl sc0)), (1, .inr (.inl l1)), (2, .inr (.inl l2)), (3, .inr (.inl l3)), (4, .inl l4)] → W p l e (rmX (twd D T Z) 2048 84000 G0) s m args below meth c H locs cells slots (MQX (twd D T Z) G0 (qI Q) (fun _ _ => False) below s) (F0 m 23 ls [])) : ∀ (l1 : Option Nat) (l2 : Option Nat) (l3 : Option Nat) (l4 : Int32) (G : Hp) (H : Heap) (locs : List Loc) (cells slots : Nat) (ls : Array Slot), w_L_law_631 T Q sc0 sc N k23 l1 l2 l3 l4 G → HI (twd D T Z) G0 s (rmX (twd D T Z) 2048 84000 G0) H locs cells slots G → LH ls 7 [(0, .inr (.inl sc0)), (1, .inr (.inl l1)), (2, .inr (.inl l2)), (3, .inr (.inl l3)), (4, .inl l4)] → W p l e (rmX (twd D T Z) 2048 84000 G0) s m args below meth c H locs cells slots (MQX (twd D T Z) G0 (qI Q) (fun _ _ => False) below s) (F0 m 631 ls []) := by
  intro l1 l2 l3 l4 G H locs cells slots ls h I hl
  refine lv_goto (tgt := 1631) C.1 C.2.1 dL_law_631 (by decide) ?_
  exact b_L_law_1631 C hLf hsc hk23 l1 l2 l3 l4 G _ _ _ _ _ h I (hl.sub [0, 1, 2, 3, 4] rfl)
def w_L_law_578 (T : Nat → ClassId) (Q : Int32 → Hp → Prop) (sc0 : Option Nat) (sc : Nat → Int32) (N : Nat) (k23 : Option Nat → Option Nat → Option Nat → Int32 → Hp → Prop) (l1 : Option Nat) (l2 : Option Nat) (l3 : Option Nat) (l4 : Int32) (G : Hp) : Prop := vp_in ((l4 + (1 : Int32))) N ∧ ∃ x0 : Hp, Sub x0 G ∧ w_X0_apart T (fun r2 x1 => ∀ G1 : Hp, G1 = jn G x0 x1 → (vp_in ((l4 + (1 : Int32))) N ∧ isO G1 l2 19 ∧ ∃ M : MS, Sub (mG (ad l2) (gZ G1) M) G1 ∧ w_X11_apart (fun r4 M1 => ∀ G3 : Hp, G3 = jn G1 (mG (ad l2) (gZ G1) M) (mG (ad l2) (gZ G1) M1) → (isO G3 l2 19 ∧ ∃ M : MS, Sub (mG (ad l2) (gZ G3) M) G3 ∧ w_X11_thrown (fun r6 M1 => ∀ G5 : Hp, G5 = jn G3 (mG (ad l2) (gZ G3) M) (mG (ad l2) (gZ G3) M1) → (((r6 = r2) → (((¬ r2 = 0) → (w_L_law_631 T Q sc0 sc N k23 l1 l2 l3 l4 G5)) ∧ ((r2 = 0) → (isO G5 l3 53 ∧ vp_in ((0 : Int32)) (gN G5 (ad l3)) ∧ (((lg_cmp (gL G5 (ad l3) ((0 : Int32)).toNatClampNeg) r4.toInt64) = 0) → (w_L_law_631 T Q sc0 sc N k23 l1 l2 l3 l4 G5)) ∧ ((¬ (lg_cmp (gL G5 (ad l3) ((0 : Int32)).toNatClampNeg) r4.toInt64) = 0) → (Q (0 : Int32) G5)))))) ∧ ((¬ r6 = r2) → (Q (0 : Int32) G5)))) M)) (sc ((l4 + (1 : Int32))).toNatClampNeg) M)) l1 (sc ((l4 + (1 : Int32))).toNatClampNeg) l3 x0
set_option maxHeartbeats 4000000 in
theorem b_L_law_578 {G0 : Hp} {Q : Int32 → Hp → Prop} {sc0 : Option Nat} {sc : Nat → Int32} {N : Nat} {k23 : Option Nat → Option Nat → Option Nat → Int32 → Hp → Prop} (C : Cx p s m meth c D T Z "EndingTownLaw" cL_law 7 (some .boolean)) (hLf : l.flags = flags0) (hsc : ∃ a, sc0 = some a ∧ va_X a N sc s Z) (hk23 : ∀ (l1 : Option Nat) (l2 : Option Nat) (l3 : Option Nat) (l4 : Int32) (G : Hp) (H : Heap) (locs : List Loc) (cells slots : Nat) (ls : Array Slot), k23 l1 l2 l3 l4 G → HI (twd D T Z) G0 s (rmX (twd D T Z) 2048 84000 G0) H locs cells slots G → LH ls 7 [(0, .inr (.inl sc0)), (1, .inr (.inl l1)), (2, .inr (.inl l2)), (3, .inr (.inl l3)), (4, .inl l4)] → W p l e (rmX (twd D T Z) 2048 84000 G0) s m args below meth c H locs cells slots (MQX (twd D T Z) G0 (qI Q) (fun _ _ => False) below s) (F0 m 23 ls [])) : ∀ (l1 : Option Nat) (l2 : Option Nat) (l3 : Option Nat) (l4 : Int32) (G : Hp) (H : Heap) (locs : List Loc) (cells slots : Nat) (ls : Array Slot), w_L_law_578 T Q sc0 sc N k23 l1 l2 l3 l4 G → HI (twd D T Z) G0 s (rmX (twd D T Z) 2048 84000 G0) H locs cells slots G → LH ls 7 [(0, .inr (.inl sc0)), (1, .inr (.inl l1)), (2, .inr (.inl l2)), (3, .inr (.inl l3)), (4, .inl l4)] → W p l e (rmX (twd D T Z) 2048 84000 G0) s m args below meth c H locs cells slots (MQX (twd D T Z) G0 (qI Q) (fun _ _ => False) below s) (F0 m 578 ls []) := by
  intro l1 l2 l3 l4 G H locs cells slots ls h I hl
  refine l_ald_n C dL_law_578 hl 1 rfl rfl ?_
  refine l_ald_n C dL_law_579 hl 0 rfl rfl ?_
  refine l_ild C dL_law_580 hl 4 rfl ?_
  refine lv_iconst (v := 1) C.1 C.2.1 dL_law_582 (by decide) ?_
  refine lv_iadd C.1 C.2.1 dL_law_583 ?_
  obtain ⟨hi, h⟩ := h
  refine z_scr hsc C I hi dL_law_584 ?_
  refine l_ald_n C dL_law_585 hl 3 rfl rfl ?_
  obtain ⟨x0, hsub, h⟩ := h
  refine k_sub C I hsub (k_S (As := [va_rf l1, .int (sc ((l4 + (1 : Int32))).toNatClampNeg), va_rf l3]) (rest := []) (y := yX0_apart) C q1141 q1142 q99 (Or.inr ⟨_, rfl⟩) q1143 (by decide) rfl pd_X0_apart rfl dL_law_586) (ct_X0_apart hLf h) hl.1 dL_law_586 [] rfl (Nat.le_of_ble_eq_true rfl) (Or.inr ⟨_, rfl⟩) q1143 q99 ⟨Nat.le_of_ble_eq_true rfl, Nat.le_of_ble_eq_true rfl⟩ (fun v x1 H locs cells slots hq hxx xG1 I => ?_)
  obtain ⟨r2, rfl, h⟩ := hq
  have h := h _ rfl
  generalize eG1 : jn G x0 x1 = G1 at h I xG1
  refine l_ist C dL_law_589 hl (by decide) rfl (fun ls hl => ?_)
  have hl : LH ls 7 [(5, .inl r2), (0, .inr (.inl sc0)), (1, .inr (.inl l1)), (2, .inr (.inl l2)), (3, .inr (.inl l3)), (4, .inl l4)] := hl
  refine l_ald_n C dL_law_591 hl 3 rfl rfl ?_
  refine l_ald_n C dL_law_592 hl 1 rfl rfl ?_
  refine l_ild C dL_law_593 hl 5 rfl ?_
  refine lv_iconst (v := 1) C.1 C.2.1 dL_law_595 (by decide) ?_
  refine lv_iadd C.1 C.2.1 dL_law_596 ?_
  obtain ⟨hi, h⟩ := h
  refine z_scr hsc C I hi dL_law_597 ?_
  obtain ⟨ho12, h⟩ := h
  obtain ⟨M, hsub, h⟩ := h
  refine k_sub C I hsub (k_V (r := l2) (As := [.int (sc ((l4 + (1 : Int32))).toNatClampNeg)]) (rest := []) (y := yX11_apart) C ⟨ho12.ad.1, I.recv C.2.2.2.2.1 ho12 (by decide)⟩ q1741 q1742 q1743 (Or.inl rfl) q1744 (by decide) rfl pd_X11_apart rfl dL_law_598) (CT.rcv ho12.ad.1 (ct_X11_apart h)) hl.1 dL_law_598 [] rfl (Nat.le_of_ble_eq_true rfl) (Or.inl rfl) q1744 q113 ⟨Nat.le_of_ble_eq_true rfl, Nat.le_of_ble_eq_true rfl⟩ (fun v x1 H locs cells slots hq hxx xG3 I => ?_)
  obtain ⟨M1, rfl, r4, rfl, h⟩ := hq
  have h := h _ rfl
  generalize eG3 : jn G1 (mG (ad l2) (gZ G1) M) (mG (ad l2) (gZ G1) M1) = G3 at h I xG3
  refine l_ist C dL_law_601 hl (by decide) rfl (fun ls hl => ?_)
  have hl : LH ls 7 [(6, .inl r4), (5, .inl r2), (0, .inr (.inl sc0)), (1, .inr (.inl l1)), (2, .inr (.inl l2)), (3, .inr (.inl l3)), (4, .inl l4)] := hl
  refine l_ald_n C dL_law_603 hl 4 rfl rfl ?_
  obtain ⟨ho11, h⟩ := h
  obtain ⟨M, hsub, h⟩ := h
  refine k_sub C I hsub (k_V (r := l2) (As := []) (rest := []) (y := yX11_thrown) C ⟨ho11.ad.1, I.recv C.2.2.2.2.1 ho11 (by decide)⟩ q1587 q1588 q1589 (Or.inl rfl) q1590 (by decide) rfl pd_X11_thrown rfl dL_law_604) (CT.rcv ho11.ad.1 (ct_X11_thrown h)) hl.1 dL_law_604 [] rfl (Nat.le_of_ble_eq_true rfl) (Or.inl rfl) q1590 q113 ⟨Nat.le_of_ble_eq_true rfl, Nat.le_of_ble_eq_true rfl⟩ (fun v x1 H locs cells slots hq hxx xG5 I => ?_)
  obtain ⟨M1, rfl, r6, rfl, h⟩ := hq
  have h := h _ rfl
  generalize eG5 : jn G3 (mG (ad l2) (gZ G3) M) (mG (ad l2) (gZ G3) M1) = G5 at h I xG5
  refine l_ild C dL_law_607 hl 1 rfl ?_
  refine lv_icmp_eq (tgt := 614) C.1 C.2.1 dL_law_609 (by decide) (fun c10 => ?_) (fun c10 => ?_)
  · have h := h.1 c10
    refine l_ild C dL_law_614 hl 1 rfl ?_
    refine lv_if_ne (tgt := 631) C.1 C.2.1 dL_law_616 (by decide) (fun c9 => ?_) (fun c9 => ?_)
    · have h := h.1 c9
      exact b_L_law_631 C hLf hsc hk23 l1 l2 l3 l4 G5 _ _ _ _ _ h I (hl.sub [2, 3, 4, 5, 6] rfl)
    · have h := h.2 c9
      refine l_ald_n C dL_law_619 hl 5 rfl rfl ?_
      refine lv_iconst (v := 0) C.1 C.2.1 dL_law_620 (by decide) ?_
      obtain ⟨ho7, h⟩ := h
      obtain ⟨hi, h⟩ := h
      refine a_lald C I ho7 hi dL_law_621 ?_
      refine l_ild C dL_law_622 hl 0 rfl ?_
      refine lv_i2l C.1 C.2.1 dL_law_624 rfl ?_
      refine W.lcmp C.1 C.2.1 dL_law_625 ?_
      refine lv_if_eq (tgt := 631) C.1 C.2.1 dL_law_626 (by decide) (fun c8 => ?_) (fun c8 => ?_)
      · have h := h.1 c8
        exact b_L_law_631 C hLf hsc hk23 l1 l2 l3 l4 G5 _ _ _ _ _ h I (hl.sub [2, 3, 4, 5, 6] rfl)
      · have h := h.2 c8
        refine lv_iconst (v := 0) C.1 C.2.1 dL_law_629 (by decide) ?_
        exact r_int C.1 C.2.1 C.2.2.2.2.2.1 rfl C.2.2.2.2.2.2 ⟨rfl, rfl⟩ I dL_law_630 ⟨_, rfl, h⟩
  · have h := h.2 c10
    refine lv_iconst (v := 0) C.1 C.2.1 dL_law_612 (by decide) ?_
    exact r_int C.1 C.2.1 C.2.2.2.2.2.1 rfl C.2.2.2.2.2.2 ⟨rfl, rfl⟩ I dL_law_613 ⟨_, rfl, h⟩
def w_L_law_687 (T : Nat → ClassId) (Q : Int32 → Hp → Prop) (sc0 : Option Nat) (sc : Nat → Int32) (N : Nat) (k23 : Option Nat → Option Nat → Option Nat → Int32 → Hp → Prop) (l1 : Option Nat) (l2 : Option Nat) (l3 : Option Nat) (l4 : Int32) (G : Hp) : Prop := w_L_law_1631 T Q sc0 sc N k23 l1 l2 l3 l4 G
set_option maxHeartbeats 4000000 in
theorem b_L_law_687 {G0 : Hp} {Q : Int32 → Hp → Prop} {sc0 : Option Nat} {sc : Nat → Int32} {N : Nat} {k23 : Option Nat → Option Nat → Option Nat → Int32 → Hp → Prop} (C : Cx p s m meth c D T Z "EndingTownLaw" cL_law 7 (some .boolean)) (hLf : l.flags = flags0) (hsc : ∃ a, sc0 = some a ∧ va_X a N sc s Z) (hk23 : ∀ (l1 : Option Nat) (l2 : Option Nat) (l3 : Option Nat) (l4 : Int32) (G : Hp) (H : Heap) (locs : List Loc) (cells slots : Nat) (ls : Array Slot), k23 l1 l2 l3 l4 G → HI (twd D T Z) G0 s (rmX (twd D T Z) 2048 84000 G0) H locs cells slots G → LH ls 7 [(0, .inr (.inl sc0)), (1, .inr (.inl l1)), (2, .inr (.inl l2)), (3, .inr (.inl l3)), (4, .inl l4)] → W p l e (rmX (twd D T Z) 2048 84000 G0) s m args below meth c H locs cells slots (MQX (twd D T Z) G0 (qI Q) (fun _ _ => False) below s) (F0 m 23 ls [])) : ∀ (l1 : Option Nat) (l2 : Option Nat) (l3 : Option Nat) (l4 : Int32) (G : Hp) (H : Heap) (locs : List Loc) (cells slots : Nat) (ls : Array Slot), w_L_law_687 T Q sc0 sc N k23 l1 l2 l3 l4 G → HI (twd D T Z) G0 s (rmX (twd D T Z) 2048 84000 G0) H locs cells slots G → LH ls 7 [(0, .inr (.inl sc0)), (1, .inr (.inl l1)), (2, .inr (.inl l2)), (3, .inr (.inl l3)), (4, .inl l4)] → W p l e (rmX (twd D T Z) 2048 84000 G0) s m args below meth c H locs cells slots (MQX (twd D T Z) G0 (qI Q) (fun _ _ => False) below s) (F0 m 687 ls []) := by
  intro l1 l2 l3 l4 G H locs cells slots ls h I hl
  refine lv_goto (tgt := 1631) C.1 C.2.1 dL_law_687 (by decide) ?_
  exact b_L_law_1631 C hLf hsc hk23 l1 l2 l3 l4 G _ _ _ _ _ h I (hl.sub [0, 1, 2, 3, 4] rfl)
def w_L_law_634 (T : Nat → ClassId) (Q : Int32 → Hp → Prop) (sc0 : Option Nat) (sc : Nat → Int32) (N : Nat) (k23 : Option Nat → Option Nat → Option Nat → Int32 → Hp → Prop) (l1 : Option Nat) (l2 : Option Nat) (l3 : Option Nat) (l4 : Int32) (G : Hp) : Prop := vp_in ((l4 + (1 : Int32))) N ∧ ∃ x0 : Hp, Sub x0 G ∧ w_X0_way T (fun r2 x1 => ∀ G1 : Hp, G1 = jn G x0 x1 → (vp_in ((l4 + (1 : Int32))) N ∧ isO G1 l2 19 ∧ ∃ M : MS, Sub (mG (ad l2) (gZ G1) M) G1 ∧ w_X11_way (fun r4 M1 => ∀ G3 : Hp, G3 = jn G1 (mG (ad l2) (gZ G1) M) (mG (ad l2) (gZ G1) M1) → (isO G3 l2 19 ∧ ∃ M : MS, Sub (mG (ad l2) (gZ G3) M) G3 ∧ w_X11_thrown (fun r6 M1 => ∀ G5 : Hp, G5 = jn G3 (mG (ad l2) (gZ G3) M) (mG (ad l2) (gZ G3) M1) → (((r6 = r2) → (((¬ r2 = 0) → (w_L_law_687 T Q sc0 sc N k23 l1 l2 l3 l4 G5)) ∧ ((r2 = 0) → (isO G5 l3 53 ∧ vp_in ((0 : Int32)) (gN G5 (ad l3)) ∧ (((lg_cmp (gL G5 (ad l3) ((0 : Int32)).toNatClampNeg) r4.toInt64) = 0) → (w_L_law_687 T Q sc0 sc N k23 l1 l2 l3 l4 G5)) ∧ ((¬ (lg_cmp (gL G5 (ad l3) ((0 : Int32)).toNatClampNeg) r4.toInt64) = 0) → (Q (0 : Int32) G5)))))) ∧ ((¬ r6 = r2) → (Q (0 : Int32) G5)))) M)) (sc ((l4 + (1 : Int32))).toNatClampNeg) M)) l1 (sc ((l4 + (1 : Int32))).toNatClampNeg) l3 x0
set_option maxHeartbeats 4000000 in
theorem b_L_law_634 {G0 : Hp} {Q : Int32 → Hp → Prop} {sc0 : Option Nat} {sc : Nat → Int32} {N : Nat} {k23 : Option Nat → Option Nat → Option Nat → Int32 → Hp → Prop} (C : Cx p s m meth c D T Z "EndingTownLaw" cL_law 7 (some .boolean)) (hLf : l.flags = flags0) (hsc : ∃ a, sc0 = some a ∧ va_X a N sc s Z) (hk23 : ∀ (l1 : Option Nat) (l2 : Option Nat) (l3 : Option Nat) (l4 : Int32) (G : Hp) (H : Heap) (locs : List Loc) (cells slots : Nat) (ls : Array Slot), k23 l1 l2 l3 l4 G → HI (twd D T Z) G0 s (rmX (twd D T Z) 2048 84000 G0) H locs cells slots G → LH ls 7 [(0, .inr (.inl sc0)), (1, .inr (.inl l1)), (2, .inr (.inl l2)), (3, .inr (.inl l3)), (4, .inl l4)] → W p l e (rmX (twd D T Z) 2048 84000 G0) s m args below meth c H locs cells slots (MQX (twd D T Z) G0 (qI Q) (fun _ _ => False) below s) (F0 m 23 ls [])) : ∀ (l1 : Option Nat) (l2 : Option Nat) (l3 : Option Nat) (l4 : Int32) (G : Hp) (H : Heap) (locs : List Loc) (cells slots : Nat) (ls : Array Slot), w_L_law_634 T Q sc0 sc N k23 l1 l2 l3 l4 G → HI (twd D T Z) G0 s (rmX (twd D T Z) 2048 84000 G0) H locs cells slots G → LH ls 7 [(0, .inr (.inl sc0)), (1, .inr (.inl l1)), (2, .inr (.inl l2)), (3, .inr (.inl l3)), (4, .inl l4)] → W p l e (rmX (twd D T Z) 2048 84000 G0) s m args below meth c H locs cells slots (MQX (twd D T Z) G0 (qI Q) (fun _ _ => False) below s) (F0 m 634 ls []) := by
  intro l1 l2 l3 l4 G H locs cells slots ls h I hl
  refine l_ald_n C dL_law_634 hl 1 rfl rfl ?_
  refine l_ald_n C dL_law_635 hl 0 rfl rfl ?_
  refine l_ild C dL_law_636 hl 4 rfl ?_
  refine lv_iconst (v := 1) C.1 C.2.1 dL_law_638 (by decide) ?_
  refine lv_iadd C.1 C.2.1 dL_law_639 ?_
  obtain ⟨hi, h⟩ := h
  refine z_scr hsc C I hi dL_law_640 ?_
  refine l_ald_n C dL_law_641 hl 3 rfl rfl ?_
  obtain ⟨x0, hsub, h⟩ := h
  refine k_sub C I hsub (k_S (As := [va_rf l1, .int (sc ((l4 + (1 : Int32))).toNatClampNeg), va_rf l3]) (rest := []) (y := yX0_way) C q1159 q1160 q99 (Or.inr ⟨_, rfl⟩) q1161 (by decide) rfl pd_X0_way rfl dL_law_642) (ct_X0_way hLf h) hl.1 dL_law_642 [] rfl (Nat.le_of_ble_eq_true rfl) (Or.inr ⟨_, rfl⟩) q1161 q99 ⟨Nat.le_of_ble_eq_true rfl, Nat.le_of_ble_eq_true rfl⟩ (fun v x1 H locs cells slots hq hxx xG1 I => ?_)
  obtain ⟨r2, rfl, h⟩ := hq
  have h := h _ rfl
  generalize eG1 : jn G x0 x1 = G1 at h I xG1
  refine l_ist C dL_law_645 hl (by decide) rfl (fun ls hl => ?_)
  have hl : LH ls 7 [(5, .inl r2), (0, .inr (.inl sc0)), (1, .inr (.inl l1)), (2, .inr (.inl l2)), (3, .inr (.inl l3)), (4, .inl l4)] := hl
  refine l_ald_n C dL_law_647 hl 3 rfl rfl ?_
  refine l_ald_n C dL_law_648 hl 1 rfl rfl ?_
  refine l_ild C dL_law_649 hl 5 rfl ?_
  refine lv_iconst (v := 1) C.1 C.2.1 dL_law_651 (by decide) ?_
  refine lv_iadd C.1 C.2.1 dL_law_652 ?_
  obtain ⟨hi, h⟩ := h
  refine z_scr hsc C I hi dL_law_653 ?_
  obtain ⟨ho12, h⟩ := h
  obtain ⟨M, hsub, h⟩ := h
  refine k_sub C I hsub (k_V (r := l2) (As := [.int (sc ((l4 + (1 : Int32))).toNatClampNeg)]) (rest := []) (y := yX11_way) C ⟨ho12.ad.1, I.recv C.2.2.2.2.1 ho12 (by decide)⟩ q1749 q1750 q1751 (Or.inl rfl) q1752 (by decide) rfl pd_X11_way rfl dL_law_654) (CT.rcv ho12.ad.1 (ct_X11_way h)) hl.1 dL_law_654 [] rfl (Nat.le_of_ble_eq_true rfl) (Or.inl rfl) q1752 q113 ⟨Nat.le_of_ble_eq_true rfl, Nat.le_of_ble_eq_true rfl⟩ (fun v x1 H locs cells slots hq hxx xG3 I => ?_)
  obtain ⟨M1, rfl, r4, rfl, h⟩ := hq
  have h := h _ rfl
  generalize eG3 : jn G1 (mG (ad l2) (gZ G1) M) (mG (ad l2) (gZ G1) M1) = G3 at h I xG3
  refine l_ist C dL_law_657 hl (by decide) rfl (fun ls hl => ?_)
  have hl : LH ls 7 [(6, .inl r4), (5, .inl r2), (0, .inr (.inl sc0)), (1, .inr (.inl l1)), (2, .inr (.inl l2)), (3, .inr (.inl l3)), (4, .inl l4)] := hl
  refine l_ald_n C dL_law_659 hl 4 rfl rfl ?_
  obtain ⟨ho11, h⟩ := h
  obtain ⟨M, hsub, h⟩ := h
  refine k_sub C I hsub (k_V (r := l2) (As := []) (rest := []) (y := yX11_thrown) C ⟨ho11.ad.1, I.recv C.2.2.2.2.1 ho11 (by decide)⟩ q1587 q1588 q1589 (Or.inl rfl) q1590 (by decide) rfl pd_X11_thrown rfl dL_law_660) (CT.rcv ho11.ad.1 (ct_X11_thrown h)) hl.1 dL_law_660 [] rfl (Nat.le_of_ble_eq_true rfl) (Or.inl rfl) q1590 q113 ⟨Nat.le_of_ble_eq_true rfl, Nat.le_of_ble_eq_true rfl⟩ (fun v x1 H locs cells slots hq hxx xG5 I => ?_)
  obtain ⟨M1, rfl, r6, rfl, h⟩ := hq
  have h := h _ rfl
  generalize eG5 : jn G3 (mG (ad l2) (gZ G3) M) (mG (ad l2) (gZ G3) M1) = G5 at h I xG5
  refine l_ild C dL_law_663 hl 1 rfl ?_
  refine lv_icmp_eq (tgt := 670) C.1 C.2.1 dL_law_665 (by decide) (fun c10 => ?_) (fun c10 => ?_)
  · have h := h.1 c10
    refine l_ild C dL_law_670 hl 1 rfl ?_
    refine lv_if_ne (tgt := 687) C.1 C.2.1 dL_law_672 (by decide) (fun c9 => ?_) (fun c9 => ?_)
    · have h := h.1 c9
      exact b_L_law_687 C hLf hsc hk23 l1 l2 l3 l4 G5 _ _ _ _ _ h I (hl.sub [2, 3, 4, 5, 6] rfl)
    · have h := h.2 c9
      refine l_ald_n C dL_law_675 hl 5 rfl rfl ?_
      refine lv_iconst (v := 0) C.1 C.2.1 dL_law_676 (by decide) ?_
      obtain ⟨ho7, h⟩ := h
      obtain ⟨hi, h⟩ := h
      refine a_lald C I ho7 hi dL_law_677 ?_
      refine l_ild C dL_law_678 hl 0 rfl ?_
      refine lv_i2l C.1 C.2.1 dL_law_680 rfl ?_
      refine W.lcmp C.1 C.2.1 dL_law_681 ?_
      refine lv_if_eq (tgt := 687) C.1 C.2.1 dL_law_682 (by decide) (fun c8 => ?_) (fun c8 => ?_)
      · have h := h.1 c8
        exact b_L_law_687 C hLf hsc hk23 l1 l2 l3 l4 G5 _ _ _ _ _ h I (hl.sub [2, 3, 4, 5, 6] rfl)
      · have h := h.2 c8
        refine lv_iconst (v := 0) C.1 C.2.1 dL_law_685 (by decide) ?_
        exact r_int C.1 C.2.1 C.2.2.2.2.2.1 rfl C.2.2.2.2.2.2 ⟨rfl, rfl⟩ I dL_law_686 ⟨_, rfl, h⟩
  · have h := h.2 c10
    refine lv_iconst (v := 0) C.1 C.2.1 dL_law_668 (by decide) ?_
    exact r_int C.1 C.2.1 C.2.2.2.2.2.1 rfl C.2.2.2.2.2.2 ⟨rfl, rfl⟩ I dL_law_669 ⟨_, rfl, h⟩
def w_L_law_807 (T : Nat → ClassId) (Q : Int32 → Hp → Prop) (sc0 : Option Nat) (sc : Nat → Int32) (N : Nat) (k23 : Option Nat → Option Nat → Option Nat → Int32 → Hp → Prop) (l1 : Option Nat) (l2 : Option Nat) (l3 : Option Nat) (l4 : Int32) (G : Hp) : Prop := w_L_law_1631 T Q sc0 sc N k23 l1 l2 l3 l4 G
set_option maxHeartbeats 4000000 in
theorem b_L_law_807 {G0 : Hp} {Q : Int32 → Hp → Prop} {sc0 : Option Nat} {sc : Nat → Int32} {N : Nat} {k23 : Option Nat → Option Nat → Option Nat → Int32 → Hp → Prop} (C : Cx p s m meth c D T Z "EndingTownLaw" cL_law 7 (some .boolean)) (hLf : l.flags = flags0) (hsc : ∃ a, sc0 = some a ∧ va_X a N sc s Z) (hk23 : ∀ (l1 : Option Nat) (l2 : Option Nat) (l3 : Option Nat) (l4 : Int32) (G : Hp) (H : Heap) (locs : List Loc) (cells slots : Nat) (ls : Array Slot), k23 l1 l2 l3 l4 G → HI (twd D T Z) G0 s (rmX (twd D T Z) 2048 84000 G0) H locs cells slots G → LH ls 7 [(0, .inr (.inl sc0)), (1, .inr (.inl l1)), (2, .inr (.inl l2)), (3, .inr (.inl l3)), (4, .inl l4)] → W p l e (rmX (twd D T Z) 2048 84000 G0) s m args below meth c H locs cells slots (MQX (twd D T Z) G0 (qI Q) (fun _ _ => False) below s) (F0 m 23 ls [])) : ∀ (l1 : Option Nat) (l2 : Option Nat) (l3 : Option Nat) (l4 : Int32) (G : Hp) (H : Heap) (locs : List Loc) (cells slots : Nat) (ls : Array Slot), w_L_law_807 T Q sc0 sc N k23 l1 l2 l3 l4 G → HI (twd D T Z) G0 s (rmX (twd D T Z) 2048 84000 G0) H locs cells slots G → LH ls 7 [(0, .inr (.inl sc0)), (1, .inr (.inl l1)), (2, .inr (.inl l2)), (3, .inr (.inl l3)), (4, .inl l4)] → W p l e (rmX (twd D T Z) 2048 84000 G0) s m args below meth c H locs cells slots (MQX (twd D T Z) G0 (qI Q) (fun _ _ => False) below s) (F0 m 807 ls []) := by
  intro l1 l2 l3 l4 G H locs cells slots ls h I hl
  refine lv_goto (tgt := 1631) C.1 C.2.1 dL_law_807 (by decide) ?_
  exact b_L_law_1631 C hLf hsc hk23 l1 l2 l3 l4 G _ _ _ _ _ h I (hl.sub [0, 1, 2, 3, 4] rfl)
def w_L_law_774 (T : Nat → ClassId) (Q : Int32 → Hp → Prop) (sc0 : Option Nat) (sc : Nat → Int32) (N : Nat) (k23 : Option Nat → Option Nat → Option Nat → Int32 → Hp → Prop) (l1 : Option Nat) (l2 : Option Nat) (l3 : Option Nat) (l4 : Int32) (l5 : Int32) (t0 : Int32) (t1 : Int32) (t2 : Int32) (t3 : Int32) (t4 : Int32) (t5 : Option Nat) (G : Hp) : Prop := isO G t5 19 ∧ ∃ M : MS, Sub (mG (ad t5) (gZ G) M) G ∧ w_X11_say (fun r2 M1 => ∀ G1 : Hp, G1 = jn G (mG (ad t5) (gZ G) M) (mG (ad t5) (gZ G) M1) → (isO G1 l2 19 ∧ ∃ M : MS, Sub (mG (ad l2) (gZ G1) M) G1 ∧ w_X11_thrown (fun r4 M1 => ∀ G3 : Hp, G3 = jn G1 (mG (ad l2) (gZ G1) M) (mG (ad l2) (gZ G1) M1) → (((r4 = l5) → (((¬ l5 = 0) → (w_L_law_807 T Q sc0 sc N k23 l1 l2 l3 l4 G3)) ∧ ((l5 = 0) → (isO G3 l3 53 ∧ vp_in ((0 : Int32)) (gN G3 (ad l3)) ∧ (((lg_cmp (gL G3 (ad l3) ((0 : Int32)).toNatClampNeg) r2.toInt64) = 0) → (w_L_law_807 T Q sc0 sc N k23 l1 l2 l3 l4 G3)) ∧ ((¬ (lg_cmp (gL G3 (ad l3) ((0 : Int32)).toNatClampNeg) r2.toInt64) = 0) → (Q (0 : Int32) G3)))))) ∧ ((¬ r4 = l5) → (Q (0 : Int32) G3)))) M)) t4 t3 t2 t1 t0 M
set_option maxHeartbeats 4000000 in
theorem b_L_law_774 {G0 : Hp} {Q : Int32 → Hp → Prop} {sc0 : Option Nat} {sc : Nat → Int32} {N : Nat} {k23 : Option Nat → Option Nat → Option Nat → Int32 → Hp → Prop} (C : Cx p s m meth c D T Z "EndingTownLaw" cL_law 7 (some .boolean)) (hLf : l.flags = flags0) (hsc : ∃ a, sc0 = some a ∧ va_X a N sc s Z) (hk23 : ∀ (l1 : Option Nat) (l2 : Option Nat) (l3 : Option Nat) (l4 : Int32) (G : Hp) (H : Heap) (locs : List Loc) (cells slots : Nat) (ls : Array Slot), k23 l1 l2 l3 l4 G → HI (twd D T Z) G0 s (rmX (twd D T Z) 2048 84000 G0) H locs cells slots G → LH ls 7 [(0, .inr (.inl sc0)), (1, .inr (.inl l1)), (2, .inr (.inl l2)), (3, .inr (.inl l3)), (4, .inl l4)] → W p l e (rmX (twd D T Z) 2048 84000 G0) s m args below meth c H locs cells slots (MQX (twd D T Z) G0 (qI Q) (fun _ _ => False) below s) (F0 m 23 ls [])) : ∀ (l1 : Option Nat) (l2 : Option Nat) (l3 : Option Nat) (l4 : Int32) (l5 : Int32) (t0 : Int32) (t1 : Int32) (t2 : Int32) (t3 : Int32) (t4 : Int32) (t5 : Option Nat) (G : Hp) (H : Heap) (locs : List Loc) (cells slots : Nat) (ls : Array Slot), w_L_law_774 T Q sc0 sc N k23 l1 l2 l3 l4 l5 t0 t1 t2 t3 t4 t5 G → HI (twd D T Z) G0 s (rmX (twd D T Z) 2048 84000 G0) H locs cells slots G → LH ls 7 [(0, .inr (.inl sc0)), (1, .inr (.inl l1)), (2, .inr (.inl l2)), (3, .inr (.inl l3)), (4, .inl l4), (5, .inl l5)] → W p l e (rmX (twd D T Z) 2048 84000 G0) s m args below meth c H locs cells slots (MQX (twd D T Z) G0 (qI Q) (fun _ _ => False) below s) (F0 m 774 ls [.int t0, .int t1, .int t2, .int t3, .int t4, va_rf t5]) := by
  intro l1 l2 l3 l4 l5 t0 t1 t2 t3 t4 t5 G H locs cells slots ls h I hl
  obtain ⟨ho10, h⟩ := h
  obtain ⟨M, hsub, h⟩ := h
  refine k_sub C I hsub (k_V (r := t5) (As := [.int t4, .int t3, .int t2, .int t1, .int t0]) (rest := []) (y := yX11_say) C ⟨ho10.ad.1, I.recv C.2.2.2.2.1 ho10 (by decide)⟩ q1753 q1754 q1755 (Or.inl rfl) q1756 (by decide) rfl pd_X11_say rfl dL_law_774) (CT.rcv ho10.ad.1 (ct_X11_say h)) hl.1 dL_law_774 [] rfl (Nat.le_of_ble_eq_true rfl) (Or.inl rfl) q1756 q113 ⟨Nat.le_of_ble_eq_true rfl, Nat.le_of_ble_eq_true rfl⟩ (fun v x1 H locs cells slots hq hxx xG1 I => ?_)
  obtain ⟨M1, rfl, r2, rfl, h⟩ := hq
  have h := h _ rfl
  generalize eG1 : jn G (mG (ad t5) (gZ G) M) (mG (ad t5) (gZ G) M1) = G1 at h I xG1
  refine l_ist C dL_law_777 hl (by decide) rfl (fun ls hl => ?_)
  have hl : LH ls 7 [(6, .inl r2), (0, .inr (.inl sc0)), (1, .inr (.inl l1)), (2, .inr (.inl l2)), (3, .inr (.inl l3)), (4, .inl l4), (5, .inl l5)] := hl
  refine l_ald_n C dL_law_779 hl 3 rfl rfl ?_
  obtain ⟨ho9, h⟩ := h
  obtain ⟨M, hsub, h⟩ := h
  refine k_sub C I hsub (k_V (r := l2) (As := []) (rest := []) (y := yX11_thrown) C ⟨ho9.ad.1, I.recv C.2.2.2.2.1 ho9 (by decide)⟩ q1587 q1588 q1589 (Or.inl rfl) q1590 (by decide) rfl pd_X11_thrown rfl dL_law_780) (CT.rcv ho9.ad.1 (ct_X11_thrown h)) hl.1 dL_law_780 [] rfl (Nat.le_of_ble_eq_true rfl) (Or.inl rfl) q1590 q113 ⟨Nat.le_of_ble_eq_true rfl, Nat.le_of_ble_eq_true rfl⟩ (fun v x1 H locs cells slots hq hxx xG3 I => ?_)
  obtain ⟨M1, rfl, r4, rfl, h⟩ := hq
  have h := h _ rfl
  generalize eG3 : jn G1 (mG (ad l2) (gZ G1) M) (mG (ad l2) (gZ G1) M1) = G3 at h I xG3
  refine l_ild C dL_law_783 hl 6 rfl ?_
  refine lv_icmp_eq (tgt := 790) C.1 C.2.1 dL_law_785 (by decide) (fun c8 => ?_) (fun c8 => ?_)
  · have h := h.1 c8
    refine l_ild C dL_law_790 hl 6 rfl ?_
    refine lv_if_ne (tgt := 807) C.1 C.2.1 dL_law_792 (by decide) (fun c7 => ?_) (fun c7 => ?_)
    · have h := h.1 c7
      exact b_L_law_807 C hLf hsc hk23 l1 l2 l3 l4 G3 _ _ _ _ _ h I (hl.sub [1, 2, 3, 4, 5] rfl)
    · have h := h.2 c7
      refine l_ald_n C dL_law_795 hl 4 rfl rfl ?_
      refine lv_iconst (v := 0) C.1 C.2.1 dL_law_796 (by decide) ?_
      obtain ⟨ho5, h⟩ := h
      obtain ⟨hi, h⟩ := h
      refine a_lald C I ho5 hi dL_law_797 ?_
      refine l_ild C dL_law_798 hl 0 rfl ?_
      refine lv_i2l C.1 C.2.1 dL_law_800 rfl ?_
      refine W.lcmp C.1 C.2.1 dL_law_801 ?_
      refine lv_if_eq (tgt := 807) C.1 C.2.1 dL_law_802 (by decide) (fun c6 => ?_) (fun c6 => ?_)
      · have h := h.1 c6
        exact b_L_law_807 C hLf hsc hk23 l1 l2 l3 l4 G3 _ _ _ _ _ h I (hl.sub [1, 2, 3, 4, 5] rfl)
      · have h := h.2 c6
        refine lv_iconst (v := 0) C.1 C.2.1 dL_law_805 (by decide) ?_
        exact r_int C.1 C.2.1 C.2.2.2.2.2.1 rfl C.2.2.2.2.2.2 ⟨rfl, rfl⟩ I dL_law_806 ⟨_, rfl, h⟩
  · have h := h.2 c8
    refine lv_iconst (v := 0) C.1 C.2.1 dL_law_788 (by decide) ?_
    exact r_int C.1 C.2.1 C.2.2.2.2.2.1 rfl C.2.2.2.2.2.2 ⟨rfl, rfl⟩ I dL_law_789 ⟨_, rfl, h⟩
def w_L_law_729 (T : Nat → ClassId) (Q : Int32 → Hp → Prop) (sc0 : Option Nat) (sc : Nat → Int32) (N : Nat) (k23 : Option Nat → Option Nat → Option Nat → Int32 → Hp → Prop) (l1 : Option Nat) (l2 : Option Nat) (l3 : Option Nat) (l4 : Int32) (t0 : Int32) (t1 : Int32) (t2 : Int32) (t3 : Int32) (t4 : Int32) (t5 : Option Nat) (G : Hp) : Prop := ∃ x0 : Hp, Sub x0 G ∧ w_X0_say T (fun r2 x1 => ∀ G1 : Hp, G1 = jn G x0 x1 → (vp_in ((l4 + (1 : Int32))) N ∧ vp_in ((l4 + (2 : Int32))) N ∧ vp_in ((l4 + (3 : Int32))) N ∧ vp_in ((l4 + (4 : Int32))) N ∧ vp_in ((l4 + (5 : Int32))) N ∧ ((sc ((l4 + (5 : Int32))).toNatClampNeg = 0) → (w_L_law_774 T Q sc0 sc N k23 l1 l2 l3 l4 r2 ((0 : Int32)) (sc ((l4 + (4 : Int32))).toNatClampNeg) (sc ((l4 + (3 : Int32))).toNatClampNeg) (sc ((l4 + (2 : Int32))).toNatClampNeg) (sc ((l4 + (1 : Int32))).toNatClampNeg) l2 G1)) ∧ ((¬ sc ((l4 + (5 : Int32))).toNatClampNeg = 0) → (w_L_law_774 T Q sc0 sc N k23 l1 l2 l3 l4 r2 ((1 : Int32)) (sc ((l4 + (4 : Int32))).toNatClampNeg) (sc ((l4 + (3 : Int32))).toNatClampNeg) (sc ((l4 + (2 : Int32))).toNatClampNeg) (sc ((l4 + (1 : Int32))).toNatClampNeg) l2 G1)))) t5 t4 t3 t2 t1 t0 l3 x0
set_option maxHeartbeats 4000000 in
theorem b_L_law_729 {G0 : Hp} {Q : Int32 → Hp → Prop} {sc0 : Option Nat} {sc : Nat → Int32} {N : Nat} {k23 : Option Nat → Option Nat → Option Nat → Int32 → Hp → Prop} (C : Cx p s m meth c D T Z "EndingTownLaw" cL_law 7 (some .boolean)) (hLf : l.flags = flags0) (hsc : ∃ a, sc0 = some a ∧ va_X a N sc s Z) (hk23 : ∀ (l1 : Option Nat) (l2 : Option Nat) (l3 : Option Nat) (l4 : Int32) (G : Hp) (H : Heap) (locs : List Loc) (cells slots : Nat) (ls : Array Slot), k23 l1 l2 l3 l4 G → HI (twd D T Z) G0 s (rmX (twd D T Z) 2048 84000 G0) H locs cells slots G → LH ls 7 [(0, .inr (.inl sc0)), (1, .inr (.inl l1)), (2, .inr (.inl l2)), (3, .inr (.inl l3)), (4, .inl l4)] → W p l e (rmX (twd D T Z) 2048 84000 G0) s m args below meth c H locs cells slots (MQX (twd D T Z) G0 (qI Q) (fun _ _ => False) below s) (F0 m 23 ls [])) : ∀ (l1 : Option Nat) (l2 : Option Nat) (l3 : Option Nat) (l4 : Int32) (t0 : Int32) (t1 : Int32) (t2 : Int32) (t3 : Int32) (t4 : Int32) (t5 : Option Nat) (G : Hp) (H : Heap) (locs : List Loc) (cells slots : Nat) (ls : Array Slot), w_L_law_729 T Q sc0 sc N k23 l1 l2 l3 l4 t0 t1 t2 t3 t4 t5 G → HI (twd D T Z) G0 s (rmX (twd D T Z) 2048 84000 G0) H locs cells slots G → LH ls 7 [(0, .inr (.inl sc0)), (1, .inr (.inl l1)), (2, .inr (.inl l2)), (3, .inr (.inl l3)), (4, .inl l4)] → W p l e (rmX (twd D T Z) 2048 84000 G0) s m args below meth c H locs cells slots (MQX (twd D T Z) G0 (qI Q) (fun _ _ => False) below s) (F0 m 729 ls [.int t0, .int t1, .int t2, .int t3, .int t4, va_rf t5]) := by
  intro l1 l2 l3 l4 t0 t1 t2 t3 t4 t5 G H locs cells slots ls h I hl
  refine l_ald_n C dL_law_729 hl 3 rfl rfl ?_
  obtain ⟨x0, hsub, h⟩ := h
  refine k_sub C I hsub (k_S (As := [va_rf t5, .int t4, .int t3, .int t2, .int t1, .int t0, va_rf l3]) (rest := []) (y := yX0_say) C q1166 q1167 q99 (Or.inr ⟨_, rfl⟩) q1168 (by decide) rfl pd_X0_say rfl dL_law_730) (ct_X0_say hLf h) hl.1 dL_law_730 [] rfl (Nat.le_of_ble_eq_true rfl) (Or.inr ⟨_, rfl⟩) q1168 q99 ⟨Nat.le_of_ble_eq_true rfl, Nat.le_of_ble_eq_true rfl⟩ (fun v x1 H locs cells slots hq hxx xG1 I => ?_)
  obtain ⟨r2, rfl, h⟩ := hq
  have h := h _ rfl
  generalize eG1 : jn G x0 x1 = G1 at h I xG1
  refine l_ist C dL_law_733 hl (by decide) rfl (fun ls hl => ?_)
  have hl : LH ls 7 [(5, .inl r2), (0, .inr (.inl sc0)), (1, .inr (.inl l1)), (2, .inr (.inl l2)), (3, .inr (.inl l3)), (4, .inl l4)] := hl
  refine l_ald_n C dL_law_735 hl 3 rfl rfl ?_
  refine l_ald_n C dL_law_736 hl 1 rfl rfl ?_
  refine l_ild C dL_law_737 hl 5 rfl ?_
  refine lv_iconst (v := 1) C.1 C.2.1 dL_law_739 (by decide) ?_
  refine lv_iadd C.1 C.2.1 dL_law_740 ?_
  obtain ⟨hi, h⟩ := h
  refine z_scr hsc C I hi dL_law_741 ?_
  refine l_ald_n C dL_law_742 hl 1 rfl rfl ?_
  refine l_ild C dL_law_743 hl 5 rfl ?_
  refine lv_iconst (v := 2) C.1 C.2.1 dL_law_745 (by decide) ?_
  refine lv_iadd C.1 C.2.1 dL_law_746 ?_
  obtain ⟨hi, h⟩ := h
  refine z_scr hsc C I hi dL_law_747 ?_
  refine l_ald_n C dL_law_748 hl 1 rfl rfl ?_
  refine l_ild C dL_law_749 hl 5 rfl ?_
  refine lv_iconst (v := 3) C.1 C.2.1 dL_law_751 (by decide) ?_
  refine lv_iadd C.1 C.2.1 dL_law_752 ?_
  obtain ⟨hi, h⟩ := h
  refine z_scr hsc C I hi dL_law_753 ?_
  refine l_ald_n C dL_law_754 hl 1 rfl rfl ?_
  refine l_ild C dL_law_755 hl 5 rfl ?_
  refine lv_iconst (v := 4) C.1 C.2.1 dL_law_757 (by decide) ?_
  refine lv_iadd C.1 C.2.1 dL_law_758 ?_
  obtain ⟨hi, h⟩ := h
  refine z_scr hsc C I hi dL_law_759 ?_
  refine l_ald_n C dL_law_760 hl 1 rfl rfl ?_
  refine l_ild C dL_law_761 hl 5 rfl ?_
  refine lv_iconst (v := 5) C.1 C.2.1 dL_law_763 (by decide) ?_
  refine lv_iadd C.1 C.2.1 dL_law_764 ?_
  obtain ⟨hi, h⟩ := h
  refine z_scr hsc C I hi dL_law_765 ?_
  refine lv_if_eq (tgt := 773) C.1 C.2.1 dL_law_766 (by decide) (fun c3 => ?_) (fun c3 => ?_)
  · have h := h.1 c3
    refine lv_iconst (v := 0) C.1 C.2.1 dL_law_773 (by decide) ?_
    exact b_L_law_774 C hLf hsc hk23 l1 l2 l3 l4 r2 ((0 : Int32)) (sc ((l4 + (4 : Int32))).toNatClampNeg) (sc ((l4 + (3 : Int32))).toNatClampNeg) (sc ((l4 + (2 : Int32))).toNatClampNeg) (sc ((l4 + (1 : Int32))).toNatClampNeg) l2 G1 _ _ _ _ _ h I (hl.sub [1, 2, 3, 4, 5, 0] rfl)
  · have h := h.2 c3
    refine lv_iconst (v := 1) C.1 C.2.1 dL_law_769 (by decide) ?_
    refine lv_goto (tgt := 774) C.1 C.2.1 dL_law_770 (by decide) ?_
    exact b_L_law_774 C hLf hsc hk23 l1 l2 l3 l4 r2 ((1 : Int32)) (sc ((l4 + (4 : Int32))).toNatClampNeg) (sc ((l4 + (3 : Int32))).toNatClampNeg) (sc ((l4 + (2 : Int32))).toNatClampNeg) (sc ((l4 + (1 : Int32))).toNatClampNeg) l2 G1 _ _ _ _ _ h I (hl.sub [1, 2, 3, 4, 5, 0] rfl)
def w_L_law_690 (T : Nat → ClassId) (Q : Int32 → Hp → Prop) (sc0 : Option Nat) (sc : Nat → Int32) (N : Nat) (k23 : Option Nat → Option Nat → Option Nat → Int32 → Hp → Prop) (l1 : Option Nat) (l2 : Option Nat) (l3 : Option Nat) (l4 : Int32) (G : Hp) : Prop := vp_in ((l4 + (1 : Int32))) N ∧ vp_in ((l4 + (2 : Int32))) N ∧ vp_in ((l4 + (3 : Int32))) N ∧ vp_in ((l4 + (4 : Int32))) N ∧ vp_in ((l4 + (5 : Int32))) N ∧ ((sc ((l4 + (5 : Int32))).toNatClampNeg = 0) → (w_L_law_729 T Q sc0 sc N k23 l1 l2 l3 l4 ((0 : Int32)) (sc ((l4 + (4 : Int32))).toNatClampNeg) (sc ((l4 + (3 : Int32))).toNatClampNeg) (sc ((l4 + (2 : Int32))).toNatClampNeg) (sc ((l4 + (1 : Int32))).toNatClampNeg) l1 G)) ∧ ((¬ sc ((l4 + (5 : Int32))).toNatClampNeg = 0) → (w_L_law_729 T Q sc0 sc N k23 l1 l2 l3 l4 ((1 : Int32)) (sc ((l4 + (4 : Int32))).toNatClampNeg) (sc ((l4 + (3 : Int32))).toNatClampNeg) (sc ((l4 + (2 : Int32))).toNatClampNeg) (sc ((l4 + (1 : Int32))).toNatClampNeg) l1 G))
set_option maxHeartbeats 4000000 in
theorem b_L_law_690 {G0 : Hp} {Q : Int32 → Hp → Prop} {sc0 : Option Nat} {sc : Nat → Int32} {N : Nat} {k23 : Option Nat → Option Nat → Option Nat → Int32 → Hp → Prop} (C : Cx p s m meth c D T Z "EndingTownLaw" cL_law 7 (some .boolean)) (hLf : l.flags = flags0) (hsc : ∃ a, sc0 = some a ∧ va_X a N sc s Z) (hk23 : ∀ (l1 : Option Nat) (l2 : Option Nat) (l3 : Option Nat) (l4 : Int32) (G : Hp) (H : Heap) (locs : List Loc) (cells slots : Nat) (ls : Array Slot), k23 l1 l2 l3 l4 G → HI (twd D T Z) G0 s (rmX (twd D T Z) 2048 84000 G0) H locs cells slots G → LH ls 7 [(0, .inr (.inl sc0)), (1, .inr (.inl l1)), (2, .inr (.inl l2)), (3, .inr (.inl l3)), (4, .inl l4)] → W p l e (rmX (twd D T Z) 2048 84000 G0) s m args below meth c H locs cells slots (MQX (twd D T Z) G0 (qI Q) (fun _ _ => False) below s) (F0 m 23 ls [])) : ∀ (l1 : Option Nat) (l2 : Option Nat) (l3 : Option Nat) (l4 : Int32) (G : Hp) (H : Heap) (locs : List Loc) (cells slots : Nat) (ls : Array Slot), w_L_law_690 T Q sc0 sc N k23 l1 l2 l3 l4 G → HI (twd D T Z) G0 s (rmX (twd D T Z) 2048 84000 G0) H locs cells slots G → LH ls 7 [(0, .inr (.inl sc0)), (1, .inr (.inl l1)), (2, .inr (.inl l2)), (3, .inr (.inl l3)), (4, .inl l4)] → W p l e (rmX (twd D T Z) 2048 84000 G0) s m args below meth c H locs cells slots (MQX (twd D T Z) G0 (qI Q) (fun _ _ => False) below s) (F0 m 690 ls []) := by
  intro l1 l2 l3 l4 G H locs cells slots ls h I hl
  refine l_ald_n C dL_law_690 hl 1 rfl rfl ?_
  refine l_ald_n C dL_law_691 hl 0 rfl rfl ?_
  refine l_ild C dL_law_692 hl 4 rfl ?_
  refine lv_iconst (v := 1) C.1 C.2.1 dL_law_694 (by decide) ?_
  refine lv_iadd C.1 C.2.1 dL_law_695 ?_
  obtain ⟨hi, h⟩ := h
  refine z_scr hsc C I hi dL_law_696 ?_
  refine l_ald_n C dL_law_697 hl 0 rfl rfl ?_
  refine l_ild C dL_law_698 hl 4 rfl ?_
  refine lv_iconst (v := 2) C.1 C.2.1 dL_law_700 (by decide) ?_
  refine lv_iadd C.1 C.2.1 dL_law_701 ?_
  obtain ⟨hi, h⟩ := h
  refine z_scr hsc C I hi dL_law_702 ?_
  refine l_ald_n C dL_law_703 hl 0 rfl rfl ?_
  refine l_ild C dL_law_704 hl 4 rfl ?_
  refine lv_iconst (v := 3) C.1 C.2.1 dL_law_706 (by decide) ?_
  refine lv_iadd C.1 C.2.1 dL_law_707 ?_
  obtain ⟨hi, h⟩ := h
  refine z_scr hsc C I hi dL_law_708 ?_
  refine l_ald_n C dL_law_709 hl 0 rfl rfl ?_
  refine l_ild C dL_law_710 hl 4 rfl ?_
  refine lv_iconst (v := 4) C.1 C.2.1 dL_law_712 (by decide) ?_
  refine lv_iadd C.1 C.2.1 dL_law_713 ?_
  obtain ⟨hi, h⟩ := h
  refine z_scr hsc C I hi dL_law_714 ?_
  refine l_ald_n C dL_law_715 hl 0 rfl rfl ?_
  refine l_ild C dL_law_716 hl 4 rfl ?_
  refine lv_iconst (v := 5) C.1 C.2.1 dL_law_718 (by decide) ?_
  refine lv_iadd C.1 C.2.1 dL_law_719 ?_
  obtain ⟨hi, h⟩ := h
  refine z_scr hsc C I hi dL_law_720 ?_
  refine lv_if_eq (tgt := 728) C.1 C.2.1 dL_law_721 (by decide) (fun c1 => ?_) (fun c1 => ?_)
  · have h := h.1 c1
    refine lv_iconst (v := 0) C.1 C.2.1 dL_law_728 (by decide) ?_
    exact b_L_law_729 C hLf hsc hk23 l1 l2 l3 l4 ((0 : Int32)) (sc ((l4 + (4 : Int32))).toNatClampNeg) (sc ((l4 + (3 : Int32))).toNatClampNeg) (sc ((l4 + (2 : Int32))).toNatClampNeg) (sc ((l4 + (1 : Int32))).toNatClampNeg) l1 G _ _ _ _ _ h I (hl.sub [0, 1, 2, 3, 4] rfl)
  · have h := h.2 c1
    refine lv_iconst (v := 1) C.1 C.2.1 dL_law_724 (by decide) ?_
    refine lv_goto (tgt := 729) C.1 C.2.1 dL_law_725 (by decide) ?_
    exact b_L_law_729 C hLf hsc hk23 l1 l2 l3 l4 ((1 : Int32)) (sc ((l4 + (4 : Int32))).toNatClampNeg) (sc ((l4 + (3 : Int32))).toNatClampNeg) (sc ((l4 + (2 : Int32))).toNatClampNeg) (sc ((l4 + (1 : Int32))).toNatClampNeg) l1 G _ _ _ _ _ h I (hl.sub [0, 1, 2, 3, 4] rfl)
def w_L_law_887 (T : Nat → ClassId) (Q : Int32 → Hp → Prop) (sc0 : Option Nat) (sc : Nat → Int32) (N : Nat) (k23 : Option Nat → Option Nat → Option Nat → Int32 → Hp → Prop) (l1 : Option Nat) (l2 : Option Nat) (l3 : Option Nat) (l4 : Int32) (G : Hp) : Prop := w_L_law_1631 T Q sc0 sc N k23 l1 l2 l3 l4 G
set_option maxHeartbeats 4000000 in
theorem b_L_law_887 {G0 : Hp} {Q : Int32 → Hp → Prop} {sc0 : Option Nat} {sc : Nat → Int32} {N : Nat} {k23 : Option Nat → Option Nat → Option Nat → Int32 → Hp → Prop} (C : Cx p s m meth c D T Z "EndingTownLaw" cL_law 7 (some .boolean)) (hLf : l.flags = flags0) (hsc : ∃ a, sc0 = some a ∧ va_X a N sc s Z) (hk23 : ∀ (l1 : Option Nat) (l2 : Option Nat) (l3 : Option Nat) (l4 : Int32) (G : Hp) (H : Heap) (locs : List Loc) (cells slots : Nat) (ls : Array Slot), k23 l1 l2 l3 l4 G → HI (twd D T Z) G0 s (rmX (twd D T Z) 2048 84000 G0) H locs cells slots G → LH ls 7 [(0, .inr (.inl sc0)), (1, .inr (.inl l1)), (2, .inr (.inl l2)), (3, .inr (.inl l3)), (4, .inl l4)] → W p l e (rmX (twd D T Z) 2048 84000 G0) s m args below meth c H locs cells slots (MQX (twd D T Z) G0 (qI Q) (fun _ _ => False) below s) (F0 m 23 ls [])) : ∀ (l1 : Option Nat) (l2 : Option Nat) (l3 : Option Nat) (l4 : Int32) (G : Hp) (H : Heap) (locs : List Loc) (cells slots : Nat) (ls : Array Slot), w_L_law_887 T Q sc0 sc N k23 l1 l2 l3 l4 G → HI (twd D T Z) G0 s (rmX (twd D T Z) 2048 84000 G0) H locs cells slots G → LH ls 7 [(0, .inr (.inl sc0)), (1, .inr (.inl l1)), (2, .inr (.inl l2)), (3, .inr (.inl l3)), (4, .inl l4)] → W p l e (rmX (twd D T Z) 2048 84000 G0) s m args below meth c H locs cells slots (MQX (twd D T Z) G0 (qI Q) (fun _ _ => False) below s) (F0 m 887 ls []) := by
  intro l1 l2 l3 l4 G H locs cells slots ls h I hl
  refine lv_goto (tgt := 1631) C.1 C.2.1 dL_law_887 (by decide) ?_
  exact b_L_law_1631 C hLf hsc hk23 l1 l2 l3 l4 G _ _ _ _ _ h I (hl.sub [0, 1, 2, 3, 4] rfl)
def w_L_law_810 (T : Nat → ClassId) (Q : Int32 → Hp → Prop) (sc0 : Option Nat) (sc : Nat → Int32) (N : Nat) (k23 : Option Nat → Option Nat → Option Nat → Int32 → Hp → Prop) (l1 : Option Nat) (l2 : Option Nat) (l3 : Option Nat) (l4 : Int32) (G : Hp) : Prop := vp_in ((l4 + (1 : Int32))) N ∧ vp_in ((l4 + (2 : Int32))) N ∧ vp_in ((l4 + (3 : Int32))) N ∧ ∃ x0 : Hp, Sub x0 G ∧ w_X0_utter T (fun r2 x1 => ∀ G1 : Hp, G1 = jn G x0 x1 → (vp_in ((l4 + (1 : Int32))) N ∧ vp_in ((l4 + (2 : Int32))) N ∧ vp_in ((l4 + (3 : Int32))) N ∧ isO G1 l2 19 ∧ ∃ M : MS, Sub (mG (ad l2) (gZ G1) M) G1 ∧ w_X11_utter (fun r4 M1 => ∀ G3 : Hp, G3 = jn G1 (mG (ad l2) (gZ G1) M) (mG (ad l2) (gZ G1) M1) → (isO G3 l2 19 ∧ ∃ M : MS, Sub (mG (ad l2) (gZ G3) M) G3 ∧ w_X11_thrown (fun r6 M1 => ∀ G5 : Hp, G5 = jn G3 (mG (ad l2) (gZ G3) M) (mG (ad l2) (gZ G3) M1) → (((r6 = r2) → (((¬ r2 = 0) → (w_L_law_887 T Q sc0 sc N k23 l1 l2 l3 l4 G5)) ∧ ((r2 = 0) → (isO G5 l3 53 ∧ vp_in ((0 : Int32)) (gN G5 (ad l3)) ∧ (((lg_cmp (gL G5 (ad l3) ((0 : Int32)).toNatClampNeg) r4.toInt64) = 0) → (w_L_law_887 T Q sc0 sc N k23 l1 l2 l3 l4 G5)) ∧ ((¬ (lg_cmp (gL G5 (ad l3) ((0 : Int32)).toNatClampNeg) r4.toInt64) = 0) → (Q (0 : Int32) G5)))))) ∧ ((¬ r6 = r2) → (Q (0 : Int32) G5)))) M)) (sc ((l4 + (1 : Int32))).toNatClampNeg) (sc ((l4 + (2 : Int32))).toNatClampNeg) (sc ((l4 + (3 : Int32))).toNatClampNeg) M)) l1 (sc ((l4 + (1 : Int32))).toNatClampNeg) (sc ((l4 + (2 : Int32))).toNatClampNeg) (sc ((l4 + (3 : Int32))).toNatClampNeg) l3 x0
set_option maxHeartbeats 4000000 in
theorem b_L_law_810 {G0 : Hp} {Q : Int32 → Hp → Prop} {sc0 : Option Nat} {sc : Nat → Int32} {N : Nat} {k23 : Option Nat → Option Nat → Option Nat → Int32 → Hp → Prop} (C : Cx p s m meth c D T Z "EndingTownLaw" cL_law 7 (some .boolean)) (hLf : l.flags = flags0) (hsc : ∃ a, sc0 = some a ∧ va_X a N sc s Z) (hk23 : ∀ (l1 : Option Nat) (l2 : Option Nat) (l3 : Option Nat) (l4 : Int32) (G : Hp) (H : Heap) (locs : List Loc) (cells slots : Nat) (ls : Array Slot), k23 l1 l2 l3 l4 G → HI (twd D T Z) G0 s (rmX (twd D T Z) 2048 84000 G0) H locs cells slots G → LH ls 7 [(0, .inr (.inl sc0)), (1, .inr (.inl l1)), (2, .inr (.inl l2)), (3, .inr (.inl l3)), (4, .inl l4)] → W p l e (rmX (twd D T Z) 2048 84000 G0) s m args below meth c H locs cells slots (MQX (twd D T Z) G0 (qI Q) (fun _ _ => False) below s) (F0 m 23 ls [])) : ∀ (l1 : Option Nat) (l2 : Option Nat) (l3 : Option Nat) (l4 : Int32) (G : Hp) (H : Heap) (locs : List Loc) (cells slots : Nat) (ls : Array Slot), w_L_law_810 T Q sc0 sc N k23 l1 l2 l3 l4 G → HI (twd D T Z) G0 s (rmX (twd D T Z) 2048 84000 G0) H locs cells slots G → LH ls 7 [(0, .inr (.inl sc0)), (1, .inr (.inl l1)), (2, .inr (.inl l2)), (3, .inr (.inl l3)), (4, .inl l4)] → W p l e (rmX (twd D T Z) 2048 84000 G0) s m args below meth c H locs cells slots (MQX (twd D T Z) G0 (qI Q) (fun _ _ => False) below s) (F0 m 810 ls []) := by
  intro l1 l2 l3 l4 G H locs cells slots ls h I hl
  refine l_ald_n C dL_law_810 hl 1 rfl rfl ?_
  refine l_ald_n C dL_law_811 hl 0 rfl rfl ?_
  refine l_ild C dL_law_812 hl 4 rfl ?_
  refine lv_iconst (v := 1) C.1 C.2.1 dL_law_814 (by decide) ?_
  refine lv_iadd C.1 C.2.1 dL_law_815 ?_
  obtain ⟨hi, h⟩ := h
  refine z_scr hsc C I hi dL_law_816 ?_
  refine l_ald_n C dL_law_817 hl 0 rfl rfl ?_
  refine l_ild C dL_law_818 hl 4 rfl ?_
  refine lv_iconst (v := 2) C.1 C.2.1 dL_law_820 (by decide) ?_
  refine lv_iadd C.1 C.2.1 dL_law_821 ?_
  obtain ⟨hi, h⟩ := h
  refine z_scr hsc C I hi dL_law_822 ?_
  refine l_ald_n C dL_law_823 hl 0 rfl rfl ?_
  refine l_ild C dL_law_824 hl 4 rfl ?_
  refine lv_iconst (v := 3) C.1 C.2.1 dL_law_826 (by decide) ?_
  refine lv_iadd C.1 C.2.1 dL_law_827 ?_
  obtain ⟨hi, h⟩ := h
  refine z_scr hsc C I hi dL_law_828 ?_
  refine l_ald_n C dL_law_829 hl 3 rfl rfl ?_
  obtain ⟨x0, hsub, h⟩ := h
  refine k_sub C I hsub (k_S (As := [va_rf l1, .int (sc ((l4 + (1 : Int32))).toNatClampNeg), .int (sc ((l4 + (2 : Int32))).toNatClampNeg), .int (sc ((l4 + (3 : Int32))).toNatClampNeg), va_rf l3]) (rest := []) (y := yX0_utter) C q1218 q1219 q99 (Or.inr ⟨_, rfl⟩) q1220 (by decide) rfl pd_X0_utter rfl dL_law_830) (ct_X0_utter hLf h) hl.1 dL_law_830 [] rfl (Nat.le_of_ble_eq_true rfl) (Or.inr ⟨_, rfl⟩) q1220 q99 ⟨Nat.le_of_ble_eq_true rfl, Nat.le_of_ble_eq_true rfl⟩ (fun v x1 H locs cells slots hq hxx xG1 I => ?_)
  obtain ⟨r2, rfl, h⟩ := hq
  have h := h _ rfl
  generalize eG1 : jn G x0 x1 = G1 at h I xG1
  refine l_ist C dL_law_833 hl (by decide) rfl (fun ls hl => ?_)
  have hl : LH ls 7 [(5, .inl r2), (0, .inr (.inl sc0)), (1, .inr (.inl l1)), (2, .inr (.inl l2)), (3, .inr (.inl l3)), (4, .inl l4)] := hl
  refine l_ald_n C dL_law_835 hl 3 rfl rfl ?_
  refine l_ald_n C dL_law_836 hl 1 rfl rfl ?_
  refine l_ild C dL_law_837 hl 5 rfl ?_
  refine lv_iconst (v := 1) C.1 C.2.1 dL_law_839 (by decide) ?_
  refine lv_iadd C.1 C.2.1 dL_law_840 ?_
  obtain ⟨hi, h⟩ := h
  refine z_scr hsc C I hi dL_law_841 ?_
  refine l_ald_n C dL_law_842 hl 1 rfl rfl ?_
  refine l_ild C dL_law_843 hl 5 rfl ?_
  refine lv_iconst (v := 2) C.1 C.2.1 dL_law_845 (by decide) ?_
  refine lv_iadd C.1 C.2.1 dL_law_846 ?_
  obtain ⟨hi, h⟩ := h
  refine z_scr hsc C I hi dL_law_847 ?_
  refine l_ald_n C dL_law_848 hl 1 rfl rfl ?_
  refine l_ild C dL_law_849 hl 5 rfl ?_
  refine lv_iconst (v := 3) C.1 C.2.1 dL_law_851 (by decide) ?_
  refine lv_iadd C.1 C.2.1 dL_law_852 ?_
  obtain ⟨hi, h⟩ := h
  refine z_scr hsc C I hi dL_law_853 ?_
  obtain ⟨ho12, h⟩ := h
  obtain ⟨M, hsub, h⟩ := h
  refine k_sub C I hsub (k_V (r := l2) (As := [.int (sc ((l4 + (1 : Int32))).toNatClampNeg), .int (sc ((l4 + (2 : Int32))).toNatClampNeg), .int (sc ((l4 + (3 : Int32))).toNatClampNeg)]) (rest := []) (y := yX11_utter) C ⟨ho12.ad.1, I.recv C.2.2.2.2.1 ho12 (by decide)⟩ q1765 q1766 q1767 (Or.inl rfl) q1768 (by decide) rfl pd_X11_utter rfl dL_law_854) (CT.rcv ho12.ad.1 (ct_X11_utter h)) hl.1 dL_law_854 [] rfl (Nat.le_of_ble_eq_true rfl) (Or.inl rfl) q1768 q113 ⟨Nat.le_of_ble_eq_true rfl, Nat.le_of_ble_eq_true rfl⟩ (fun v x1 H locs cells slots hq hxx xG3 I => ?_)
  obtain ⟨M1, rfl, r4, rfl, h⟩ := hq
  have h := h _ rfl
  generalize eG3 : jn G1 (mG (ad l2) (gZ G1) M) (mG (ad l2) (gZ G1) M1) = G3 at h I xG3
  refine l_ist C dL_law_857 hl (by decide) rfl (fun ls hl => ?_)
  have hl : LH ls 7 [(6, .inl r4), (5, .inl r2), (0, .inr (.inl sc0)), (1, .inr (.inl l1)), (2, .inr (.inl l2)), (3, .inr (.inl l3)), (4, .inl l4)] := hl
  refine l_ald_n C dL_law_859 hl 4 rfl rfl ?_
  obtain ⟨ho11, h⟩ := h
  obtain ⟨M, hsub, h⟩ := h
  refine k_sub C I hsub (k_V (r := l2) (As := []) (rest := []) (y := yX11_thrown) C ⟨ho11.ad.1, I.recv C.2.2.2.2.1 ho11 (by decide)⟩ q1587 q1588 q1589 (Or.inl rfl) q1590 (by decide) rfl pd_X11_thrown rfl dL_law_860) (CT.rcv ho11.ad.1 (ct_X11_thrown h)) hl.1 dL_law_860 [] rfl (Nat.le_of_ble_eq_true rfl) (Or.inl rfl) q1590 q113 ⟨Nat.le_of_ble_eq_true rfl, Nat.le_of_ble_eq_true rfl⟩ (fun v x1 H locs cells slots hq hxx xG5 I => ?_)
  obtain ⟨M1, rfl, r6, rfl, h⟩ := hq
  have h := h _ rfl
  generalize eG5 : jn G3 (mG (ad l2) (gZ G3) M) (mG (ad l2) (gZ G3) M1) = G5 at h I xG5
  refine l_ild C dL_law_863 hl 1 rfl ?_
  refine lv_icmp_eq (tgt := 870) C.1 C.2.1 dL_law_865 (by decide) (fun c10 => ?_) (fun c10 => ?_)
  · have h := h.1 c10
    refine l_ild C dL_law_870 hl 1 rfl ?_
    refine lv_if_ne (tgt := 887) C.1 C.2.1 dL_law_872 (by decide) (fun c9 => ?_) (fun c9 => ?_)
    · have h := h.1 c9
      exact b_L_law_887 C hLf hsc hk23 l1 l2 l3 l4 G5 _ _ _ _ _ h I (hl.sub [2, 3, 4, 5, 6] rfl)
    · have h := h.2 c9
      refine l_ald_n C dL_law_875 hl 5 rfl rfl ?_
      refine lv_iconst (v := 0) C.1 C.2.1 dL_law_876 (by decide) ?_
      obtain ⟨ho7, h⟩ := h
      obtain ⟨hi, h⟩ := h
      refine a_lald C I ho7 hi dL_law_877 ?_
      refine l_ild C dL_law_878 hl 0 rfl ?_
      refine lv_i2l C.1 C.2.1 dL_law_880 rfl ?_
      refine W.lcmp C.1 C.2.1 dL_law_881 ?_
      refine lv_if_eq (tgt := 887) C.1 C.2.1 dL_law_882 (by decide) (fun c8 => ?_) (fun c8 => ?_)
      · have h := h.1 c8
        exact b_L_law_887 C hLf hsc hk23 l1 l2 l3 l4 G5 _ _ _ _ _ h I (hl.sub [2, 3, 4, 5, 6] rfl)
      · have h := h.2 c8
        refine lv_iconst (v := 0) C.1 C.2.1 dL_law_885 (by decide) ?_
        exact r_int C.1 C.2.1 C.2.2.2.2.2.1 rfl C.2.2.2.2.2.2 ⟨rfl, rfl⟩ I dL_law_886 ⟨_, rfl, h⟩
  · have h := h.2 c10
    refine lv_iconst (v := 0) C.1 C.2.1 dL_law_868 (by decide) ?_
    exact r_int C.1 C.2.1 C.2.2.2.2.2.1 rfl C.2.2.2.2.2.2 ⟨rfl, rfl⟩ I dL_law_869 ⟨_, rfl, h⟩
def w_L_law_890 (T : Nat → ClassId) (Q : Int32 → Hp → Prop) (sc0 : Option Nat) (sc : Nat → Int32) (N : Nat) (k23 : Option Nat → Option Nat → Option Nat → Int32 → Hp → Prop) (l1 : Option Nat) (l2 : Option Nat) (l3 : Option Nat) (l4 : Int32) (G : Hp) : Prop := isO G l1 1 ∧ ∃ x0 : Hp, Sub x0 G ∧ w_X1_unsay T (fun r2 x1 => ∀ G1 : Hp, G1 = jn G x0 x1 → (isO G1 l2 19 ∧ ∃ M : MS, Sub (mG (ad l2) (gZ G1) M) G1 ∧ w_X11_unsay (fun r4 M1 => ∀ G3 : Hp, G3 = jn G1 (mG (ad l2) (gZ G1) M) (mG (ad l2) (gZ G1) M1) → (((r2 = r4) → (w_L_law_1631 T Q sc0 sc N k23 l1 l2 l3 l4 G3)) ∧ ((¬ r2 = r4) → (Q (0 : Int32) G3)))) M)) l1 x0
set_option maxHeartbeats 4000000 in
theorem b_L_law_890 {G0 : Hp} {Q : Int32 → Hp → Prop} {sc0 : Option Nat} {sc : Nat → Int32} {N : Nat} {k23 : Option Nat → Option Nat → Option Nat → Int32 → Hp → Prop} (C : Cx p s m meth c D T Z "EndingTownLaw" cL_law 7 (some .boolean)) (hLf : l.flags = flags0) (hsc : ∃ a, sc0 = some a ∧ va_X a N sc s Z) (hk23 : ∀ (l1 : Option Nat) (l2 : Option Nat) (l3 : Option Nat) (l4 : Int32) (G : Hp) (H : Heap) (locs : List Loc) (cells slots : Nat) (ls : Array Slot), k23 l1 l2 l3 l4 G → HI (twd D T Z) G0 s (rmX (twd D T Z) 2048 84000 G0) H locs cells slots G → LH ls 7 [(0, .inr (.inl sc0)), (1, .inr (.inl l1)), (2, .inr (.inl l2)), (3, .inr (.inl l3)), (4, .inl l4)] → W p l e (rmX (twd D T Z) 2048 84000 G0) s m args below meth c H locs cells slots (MQX (twd D T Z) G0 (qI Q) (fun _ _ => False) below s) (F0 m 23 ls [])) : ∀ (l1 : Option Nat) (l2 : Option Nat) (l3 : Option Nat) (l4 : Int32) (G : Hp) (H : Heap) (locs : List Loc) (cells slots : Nat) (ls : Array Slot), w_L_law_890 T Q sc0 sc N k23 l1 l2 l3 l4 G → HI (twd D T Z) G0 s (rmX (twd D T Z) 2048 84000 G0) H locs cells slots G → LH ls 7 [(0, .inr (.inl sc0)), (1, .inr (.inl l1)), (2, .inr (.inl l2)), (3, .inr (.inl l3)), (4, .inl l4)] → W p l e (rmX (twd D T Z) 2048 84000 G0) s m args below meth c H locs cells slots (MQX (twd D T Z) G0 (qI Q) (fun _ _ => False) below s) (F0 m 890 ls []) := by
  intro l1 l2 l3 l4 G H locs cells slots ls h I hl
  refine l_ald_n C dL_law_890 hl 1 rfl rfl ?_
  obtain ⟨ho7, h⟩ := h
  obtain ⟨x0, hsub, h⟩ := h
  refine k_sub C I hsub (k_V (r := l1) (As := []) (rest := []) (y := yX1_unsay) C ⟨ho7.ad.1, I.recv C.2.2.2.2.1 ho7 (by decide)⟩ q409 q410 q411 (Or.inl rfl) q412 (by decide) rfl pd_X1_unsay rfl dL_law_891) (ct_X1_unsay h) hl.1 dL_law_891 [] rfl (Nat.le_of_ble_eq_true rfl) (Or.inl rfl) q412 q100 ⟨Nat.le_of_ble_eq_true rfl, Nat.le_of_ble_eq_true rfl⟩ (fun v x1 H locs cells slots hq hxx xG1 I => ?_)
  obtain ⟨r2, rfl, h⟩ := hq
  have h := h _ rfl
  generalize eG1 : jn G x0 x1 = G1 at h I xG1
  refine l_ald_n C dL_law_894 hl 2 rfl rfl ?_
  obtain ⟨ho6, h⟩ := h
  obtain ⟨M, hsub, h⟩ := h
  refine k_sub C I hsub (k_V (r := l2) (As := []) (rest := [.int r2]) (y := yX11_unsay) C ⟨ho6.ad.1, I.recv C.2.2.2.2.1 ho6 (by decide)⟩ q1781 q1782 q1783 (Or.inl rfl) q1784 (by decide) rfl pd_X11_unsay rfl dL_law_895) (CT.rcv ho6.ad.1 (ct_X11_unsay h)) hl.1 dL_law_895 [.inl r2] rfl (Nat.le_of_ble_eq_true rfl) (Or.inl rfl) q1784 q113 ⟨Nat.le_of_ble_eq_true rfl, Nat.le_of_ble_eq_true rfl⟩ (fun v x1 H locs cells slots hq hxx xG3 I => ?_)
  obtain ⟨M1, rfl, r4, rfl, h⟩ := hq
  have h := h _ rfl
  generalize eG3 : jn G1 (mG (ad l2) (gZ G1) M) (mG (ad l2) (gZ G1) M1) = G3 at h I xG3
  refine lv_icmp_eq (tgt := 1631) C.1 C.2.1 dL_law_898 (by decide) (fun c5 => ?_) (fun c5 => ?_)
  · have h := h.1 c5
    exact b_L_law_1631 C hLf hsc hk23 l1 l2 l3 l4 G3 _ _ _ _ _ h I (hl.sub [0, 1, 2, 3, 4] rfl)
  · have h := h.2 c5
    refine lv_iconst (v := 0) C.1 C.2.1 dL_law_901 (by decide) ?_
    exact r_int C.1 C.2.1 C.2.2.2.2.2.1 rfl C.2.2.2.2.2.2 ⟨rfl, rfl⟩ I dL_law_902 ⟨_, rfl, h⟩
def w_L_law_968 (T : Nat → ClassId) (Q : Int32 → Hp → Prop) (sc0 : Option Nat) (sc : Nat → Int32) (N : Nat) (k23 : Option Nat → Option Nat → Option Nat → Int32 → Hp → Prop) (l1 : Option Nat) (l2 : Option Nat) (l3 : Option Nat) (l4 : Int32) (G : Hp) : Prop := w_L_law_1631 T Q sc0 sc N k23 l1 l2 l3 l4 G
set_option maxHeartbeats 4000000 in
theorem b_L_law_968 {G0 : Hp} {Q : Int32 → Hp → Prop} {sc0 : Option Nat} {sc : Nat → Int32} {N : Nat} {k23 : Option Nat → Option Nat → Option Nat → Int32 → Hp → Prop} (C : Cx p s m meth c D T Z "EndingTownLaw" cL_law 7 (some .boolean)) (hLf : l.flags = flags0) (hsc : ∃ a, sc0 = some a ∧ va_X a N sc s Z) (hk23 : ∀ (l1 : Option Nat) (l2 : Option Nat) (l3 : Option Nat) (l4 : Int32) (G : Hp) (H : Heap) (locs : List Loc) (cells slots : Nat) (ls : Array Slot), k23 l1 l2 l3 l4 G → HI (twd D T Z) G0 s (rmX (twd D T Z) 2048 84000 G0) H locs cells slots G → LH ls 7 [(0, .inr (.inl sc0)), (1, .inr (.inl l1)), (2, .inr (.inl l2)), (3, .inr (.inl l3)), (4, .inl l4)] → W p l e (rmX (twd D T Z) 2048 84000 G0) s m args below meth c H locs cells slots (MQX (twd D T Z) G0 (qI Q) (fun _ _ => False) below s) (F0 m 23 ls [])) : ∀ (l1 : Option Nat) (l2 : Option Nat) (l3 : Option Nat) (l4 : Int32) (G : Hp) (H : Heap) (locs : List Loc) (cells slots : Nat) (ls : Array Slot), w_L_law_968 T Q sc0 sc N k23 l1 l2 l3 l4 G → HI (twd D T Z) G0 s (rmX (twd D T Z) 2048 84000 G0) H locs cells slots G → LH ls 7 [(0, .inr (.inl sc0)), (1, .inr (.inl l1)), (2, .inr (.inl l2)), (3, .inr (.inl l3)), (4, .inl l4)] → W p l e (rmX (twd D T Z) 2048 84000 G0) s m args below meth c H locs cells slots (MQX (twd D T Z) G0 (qI Q) (fun _ _ => False) below s) (F0 m 968 ls []) := by
  intro l1 l2 l3 l4 G H locs cells slots ls h I hl
  refine lv_goto (tgt := 1631) C.1 C.2.1 dL_law_968 (by decide) ?_
  exact b_L_law_1631 C hLf hsc hk23 l1 l2 l3 l4 G _ _ _ _ _ h I (hl.sub [0, 1, 2, 3, 4] rfl)
def w_L_law_903 (T : Nat → ClassId) (Q : Int32 → Hp → Prop) (sc0 : Option Nat) (sc : Nat → Int32) (N : Nat) (k23 : Option Nat → Option Nat → Option Nat → Int32 → Hp → Prop) (l1 : Option Nat) (l2 : Option Nat) (l3 : Option Nat) (l4 : Int32) (G : Hp) : Prop := vp_in ((l4 + (1 : Int32))) N ∧ vp_in ((l4 + (2 : Int32))) N ∧ ∃ x0 : Hp, Sub x0 G ∧ w_X0_saying T (fun r2 x1 => ∀ G1 : Hp, G1 = jn G x0 x1 → (vp_in ((l4 + (1 : Int32))) N ∧ vp_in ((l4 + (2 : Int32))) N ∧ isO G1 l2 19 ∧ ∃ M : MS, Sub (mG (ad l2) (gZ G1) M) G1 ∧ w_X11_saying (fun r4 M1 => ∀ G3 : Hp, G3 = jn G1 (mG (ad l2) (gZ G1) M) (mG (ad l2) (gZ G1) M1) → (isO G3 l2 19 ∧ ∃ M : MS, Sub (mG (ad l2) (gZ G3) M) G3 ∧ w_X11_thrown (fun r6 M1 => ∀ G5 : Hp, G5 = jn G3 (mG (ad l2) (gZ G3) M) (mG (ad l2) (gZ G3) M1) → (((r6 = r2) → (((¬ r2 = 0) → (w_L_law_968 T Q sc0 sc N k23 l1 l2 l3 l4 G5)) ∧ ((r2 = 0) → (isO G5 l3 53 ∧ vp_in ((0 : Int32)) (gN G5 (ad l3)) ∧ (((lg_cmp (gL G5 (ad l3) ((0 : Int32)).toNatClampNeg) r4.toInt64) = 0) → (w_L_law_968 T Q sc0 sc N k23 l1 l2 l3 l4 G5)) ∧ ((¬ (lg_cmp (gL G5 (ad l3) ((0 : Int32)).toNatClampNeg) r4.toInt64) = 0) → (Q (0 : Int32) G5)))))) ∧ ((¬ r6 = r2) → (Q (0 : Int32) G5)))) M)) (sc ((l4 + (1 : Int32))).toNatClampNeg) (sc ((l4 + (2 : Int32))).toNatClampNeg) M)) l1 (sc ((l4 + (1 : Int32))).toNatClampNeg) (sc ((l4 + (2 : Int32))).toNatClampNeg) l3 x0
set_option maxHeartbeats 4000000 in
theorem b_L_law_903 {G0 : Hp} {Q : Int32 → Hp → Prop} {sc0 : Option Nat} {sc : Nat → Int32} {N : Nat} {k23 : Option Nat → Option Nat → Option Nat → Int32 → Hp → Prop} (C : Cx p s m meth c D T Z "EndingTownLaw" cL_law 7 (some .boolean)) (hLf : l.flags = flags0) (hsc : ∃ a, sc0 = some a ∧ va_X a N sc s Z) (hk23 : ∀ (l1 : Option Nat) (l2 : Option Nat) (l3 : Option Nat) (l4 : Int32) (G : Hp) (H : Heap) (locs : List Loc) (cells slots : Nat) (ls : Array Slot), k23 l1 l2 l3 l4 G → HI (twd D T Z) G0 s (rmX (twd D T Z) 2048 84000 G0) H locs cells slots G → LH ls 7 [(0, .inr (.inl sc0)), (1, .inr (.inl l1)), (2, .inr (.inl l2)), (3, .inr (.inl l3)), (4, .inl l4)] → W p l e (rmX (twd D T Z) 2048 84000 G0) s m args below meth c H locs cells slots (MQX (twd D T Z) G0 (qI Q) (fun _ _ => False) below s) (F0 m 23 ls [])) : ∀ (l1 : Option Nat) (l2 : Option Nat) (l3 : Option Nat) (l4 : Int32) (G : Hp) (H : Heap) (locs : List Loc) (cells slots : Nat) (ls : Array Slot), w_L_law_903 T Q sc0 sc N k23 l1 l2 l3 l4 G → HI (twd D T Z) G0 s (rmX (twd D T Z) 2048 84000 G0) H locs cells slots G → LH ls 7 [(0, .inr (.inl sc0)), (1, .inr (.inl l1)), (2, .inr (.inl l2)), (3, .inr (.inl l3)), (4, .inl l4)] → W p l e (rmX (twd D T Z) 2048 84000 G0) s m args below meth c H locs cells slots (MQX (twd D T Z) G0 (qI Q) (fun _ _ => False) below s) (F0 m 903 ls []) := by
  intro l1 l2 l3 l4 G H locs cells slots ls h I hl
  refine l_ald_n C dL_law_903 hl 1 rfl rfl ?_
  refine l_ald_n C dL_law_904 hl 0 rfl rfl ?_
  refine l_ild C dL_law_905 hl 4 rfl ?_
  refine lv_iconst (v := 1) C.1 C.2.1 dL_law_907 (by decide) ?_
  refine lv_iadd C.1 C.2.1 dL_law_908 ?_
  obtain ⟨hi, h⟩ := h
  refine z_scr hsc C I hi dL_law_909 ?_
  refine l_ald_n C dL_law_910 hl 0 rfl rfl ?_
  refine l_ild C dL_law_911 hl 4 rfl ?_
  refine lv_iconst (v := 2) C.1 C.2.1 dL_law_913 (by decide) ?_
  refine lv_iadd C.1 C.2.1 dL_law_914 ?_
  obtain ⟨hi, h⟩ := h
  refine z_scr hsc C I hi dL_law_915 ?_
  refine l_ald_n C dL_law_916 hl 3 rfl rfl ?_
  obtain ⟨x0, hsub, h⟩ := h
  refine k_sub C I hsub (k_S (As := [va_rf l1, .int (sc ((l4 + (1 : Int32))).toNatClampNeg), .int (sc ((l4 + (2 : Int32))).toNatClampNeg), va_rf l3]) (rest := []) (y := yX0_saying) C q1232 q1233 q99 (Or.inr ⟨_, rfl⟩) q1234 (by decide) rfl pd_X0_saying rfl dL_law_917) (ct_X0_saying hLf h) hl.1 dL_law_917 [] rfl (Nat.le_of_ble_eq_true rfl) (Or.inr ⟨_, rfl⟩) q1234 q99 ⟨Nat.le_of_ble_eq_true rfl, Nat.le_of_ble_eq_true rfl⟩ (fun v x1 H locs cells slots hq hxx xG1 I => ?_)
  obtain ⟨r2, rfl, h⟩ := hq
  have h := h _ rfl
  generalize eG1 : jn G x0 x1 = G1 at h I xG1
  refine l_ist C dL_law_920 hl (by decide) rfl (fun ls hl => ?_)
  have hl : LH ls 7 [(5, .inl r2), (0, .inr (.inl sc0)), (1, .inr (.inl l1)), (2, .inr (.inl l2)), (3, .inr (.inl l3)), (4, .inl l4)] := hl
  refine l_ald_n C dL_law_922 hl 3 rfl rfl ?_
  refine l_ald_n C dL_law_923 hl 1 rfl rfl ?_
  refine l_ild C dL_law_924 hl 5 rfl ?_
  refine lv_iconst (v := 1) C.1 C.2.1 dL_law_926 (by decide) ?_
  refine lv_iadd C.1 C.2.1 dL_law_927 ?_
  obtain ⟨hi, h⟩ := h
  refine z_scr hsc C I hi dL_law_928 ?_
  refine l_ald_n C dL_law_929 hl 1 rfl rfl ?_
  refine l_ild C dL_law_930 hl 5 rfl ?_
  refine lv_iconst (v := 2) C.1 C.2.1 dL_law_932 (by decide) ?_
  refine lv_iadd C.1 C.2.1 dL_law_933 ?_
  obtain ⟨hi, h⟩ := h
  refine z_scr hsc C I hi dL_law_934 ?_
  obtain ⟨ho12, h⟩ := h
  obtain ⟨M, hsub, h⟩ := h
  refine k_sub C I hsub (k_V (r := l2) (As := [.int (sc ((l4 + (1 : Int32))).toNatClampNeg), .int (sc ((l4 + (2 : Int32))).toNatClampNeg)]) (rest := []) (y := yX11_saying) C ⟨ho12.ad.1, I.recv C.2.2.2.2.1 ho12 (by decide)⟩ q1785 q1786 q1787 (Or.inl rfl) q1788 (by decide) rfl pd_X11_saying rfl dL_law_935) (CT.rcv ho12.ad.1 (ct_X11_saying h)) hl.1 dL_law_935 [] rfl (Nat.le_of_ble_eq_true rfl) (Or.inl rfl) q1788 q113 ⟨Nat.le_of_ble_eq_true rfl, Nat.le_of_ble_eq_true rfl⟩ (fun v x1 H locs cells slots hq hxx xG3 I => ?_)
  obtain ⟨M1, rfl, r4, rfl, h⟩ := hq
  have h := h _ rfl
  generalize eG3 : jn G1 (mG (ad l2) (gZ G1) M) (mG (ad l2) (gZ G1) M1) = G3 at h I xG3
  refine l_ist C dL_law_938 hl (by decide) rfl (fun ls hl => ?_)
  have hl : LH ls 7 [(6, .inl r4), (5, .inl r2), (0, .inr (.inl sc0)), (1, .inr (.inl l1)), (2, .inr (.inl l2)), (3, .inr (.inl l3)), (4, .inl l4)] := hl
  refine l_ald_n C dL_law_940 hl 4 rfl rfl ?_
  obtain ⟨ho11, h⟩ := h
  obtain ⟨M, hsub, h⟩ := h
  refine k_sub C I hsub (k_V (r := l2) (As := []) (rest := []) (y := yX11_thrown) C ⟨ho11.ad.1, I.recv C.2.2.2.2.1 ho11 (by decide)⟩ q1587 q1588 q1589 (Or.inl rfl) q1590 (by decide) rfl pd_X11_thrown rfl dL_law_941) (CT.rcv ho11.ad.1 (ct_X11_thrown h)) hl.1 dL_law_941 [] rfl (Nat.le_of_ble_eq_true rfl) (Or.inl rfl) q1590 q113 ⟨Nat.le_of_ble_eq_true rfl, Nat.le_of_ble_eq_true rfl⟩ (fun v x1 H locs cells slots hq hxx xG5 I => ?_)
  obtain ⟨M1, rfl, r6, rfl, h⟩ := hq
  have h := h _ rfl
  generalize eG5 : jn G3 (mG (ad l2) (gZ G3) M) (mG (ad l2) (gZ G3) M1) = G5 at h I xG5
  refine l_ild C dL_law_944 hl 1 rfl ?_
  refine lv_icmp_eq (tgt := 951) C.1 C.2.1 dL_law_946 (by decide) (fun c10 => ?_) (fun c10 => ?_)
  · have h := h.1 c10
    refine l_ild C dL_law_951 hl 1 rfl ?_
    refine lv_if_ne (tgt := 968) C.1 C.2.1 dL_law_953 (by decide) (fun c9 => ?_) (fun c9 => ?_)
    · have h := h.1 c9
      exact b_L_law_968 C hLf hsc hk23 l1 l2 l3 l4 G5 _ _ _ _ _ h I (hl.sub [2, 3, 4, 5, 6] rfl)
    · have h := h.2 c9
      refine l_ald_n C dL_law_956 hl 5 rfl rfl ?_
      refine lv_iconst (v := 0) C.1 C.2.1 dL_law_957 (by decide) ?_
      obtain ⟨ho7, h⟩ := h
      obtain ⟨hi, h⟩ := h
      refine a_lald C I ho7 hi dL_law_958 ?_
      refine l_ild C dL_law_959 hl 0 rfl ?_
      refine lv_i2l C.1 C.2.1 dL_law_961 rfl ?_
      refine W.lcmp C.1 C.2.1 dL_law_962 ?_
      refine lv_if_eq (tgt := 968) C.1 C.2.1 dL_law_963 (by decide) (fun c8 => ?_) (fun c8 => ?_)
      · have h := h.1 c8
        exact b_L_law_968 C hLf hsc hk23 l1 l2 l3 l4 G5 _ _ _ _ _ h I (hl.sub [2, 3, 4, 5, 6] rfl)
      · have h := h.2 c8
        refine lv_iconst (v := 0) C.1 C.2.1 dL_law_966 (by decide) ?_
        exact r_int C.1 C.2.1 C.2.2.2.2.2.1 rfl C.2.2.2.2.2.2 ⟨rfl, rfl⟩ I dL_law_967 ⟨_, rfl, h⟩
  · have h := h.2 c10
    refine lv_iconst (v := 0) C.1 C.2.1 dL_law_949 (by decide) ?_
    exact r_int C.1 C.2.1 C.2.2.2.2.2.1 rfl C.2.2.2.2.2.2 ⟨rfl, rfl⟩ I dL_law_950 ⟨_, rfl, h⟩
def w_L_law_1076 (T : Nat → ClassId) (Q : Int32 → Hp → Prop) (sc0 : Option Nat) (sc : Nat → Int32) (N : Nat) (k23 : Option Nat → Option Nat → Option Nat → Int32 → Hp → Prop) (l1 : Option Nat) (l2 : Option Nat) (l3 : Option Nat) (l4 : Int32) (G : Hp) : Prop := w_L_law_1631 T Q sc0 sc N k23 l1 l2 l3 l4 G
set_option maxHeartbeats 4000000 in
theorem b_L_law_1076 {G0 : Hp} {Q : Int32 → Hp → Prop} {sc0 : Option Nat} {sc : Nat → Int32} {N : Nat} {k23 : Option Nat → Option Nat → Option Nat → Int32 → Hp → Prop} (C : Cx p s m meth c D T Z "EndingTownLaw" cL_law 7 (some .boolean)) (hLf : l.flags = flags0) (hsc : ∃ a, sc0 = some a ∧ va_X a N sc s Z) (hk23 : ∀ (l1 : Option Nat) (l2 : Option Nat) (l3 : Option Nat) (l4 : Int32) (G : Hp) (H : Heap) (locs : List Loc) (cells slots : Nat) (ls : Array Slot), k23 l1 l2 l3 l4 G → HI (twd D T Z) G0 s (rmX (twd D T Z) 2048 84000 G0) H locs cells slots G → LH ls 7 [(0, .inr (.inl sc0)), (1, .inr (.inl l1)), (2, .inr (.inl l2)), (3, .inr (.inl l3)), (4, .inl l4)] → W p l e (rmX (twd D T Z) 2048 84000 G0) s m args below meth c H locs cells slots (MQX (twd D T Z) G0 (qI Q) (fun _ _ => False) below s) (F0 m 23 ls [])) : ∀ (l1 : Option Nat) (l2 : Option Nat) (l3 : Option Nat) (l4 : Int32) (G : Hp) (H : Heap) (locs : List Loc) (cells slots : Nat) (ls : Array Slot), w_L_law_1076 T Q sc0 sc N k23 l1 l2 l3 l4 G → HI (twd D T Z) G0 s (rmX (twd D T Z) 2048 84000 G0) H locs cells slots G → LH ls 7 [(0, .inr (.inl sc0)), (1, .inr (.inl l1)), (2, .inr (.inl l2)), (3, .inr (.inl l3)), (4, .inl l4)] → W p l e (rmX (twd D T Z) 2048 84000 G0) s m args below meth c H locs cells slots (MQX (twd D T Z) G0 (qI Q) (fun _ _ => False) below s) (F0 m 1076 ls []) := by
  intro l1 l2 l3 l4 G H locs cells slots ls h I hl
  refine lv_goto (tgt := 1631) C.1 C.2.1 dL_law_1076 (by decide) ?_
  exact b_L_law_1631 C hLf hsc hk23 l1 l2 l3 l4 G _ _ _ _ _ h I (hl.sub [0, 1, 2, 3, 4] rfl)
def w_L_law_1043 (T : Nat → ClassId) (Q : Int32 → Hp → Prop) (sc0 : Option Nat) (sc : Nat → Int32) (N : Nat) (k23 : Option Nat → Option Nat → Option Nat → Int32 → Hp → Prop) (l1 : Option Nat) (l2 : Option Nat) (l3 : Option Nat) (l4 : Int32) (l5 : Int32) (t0 : Int32) (t1 : Int32) (t2 : Int32) (t3 : Int32) (t4 : Option Nat) (G : Hp) : Prop := isO G t4 19 ∧ ∃ M : MS, Sub (mG (ad t4) (gZ G) M) G ∧ w_X11_could (fun r2 M1 => ∀ G1 : Hp, G1 = jn G (mG (ad t4) (gZ G) M) (mG (ad t4) (gZ G) M1) → (isO G1 l2 19 ∧ ∃ M : MS, Sub (mG (ad l2) (gZ G1) M) G1 ∧ w_X11_thrown (fun r4 M1 => ∀ G3 : Hp, G3 = jn G1 (mG (ad l2) (gZ G1) M) (mG (ad l2) (gZ G1) M1) → (((r4 = l5) → (((¬ l5 = 0) → (w_L_law_1076 T Q sc0 sc N k23 l1 l2 l3 l4 G3)) ∧ ((l5 = 0) → (isO G3 l3 53 ∧ vp_in ((0 : Int32)) (gN G3 (ad l3)) ∧ (((lg_cmp (gL G3 (ad l3) ((0 : Int32)).toNatClampNeg) r2.toInt64) = 0) → (w_L_law_1076 T Q sc0 sc N k23 l1 l2 l3 l4 G3)) ∧ ((¬ (lg_cmp (gL G3 (ad l3) ((0 : Int32)).toNatClampNeg) r2.toInt64) = 0) → (Q (0 : Int32) G3)))))) ∧ ((¬ r4 = l5) → (Q (0 : Int32) G3)))) M)) t3 t2 t1 t0 M
set_option maxHeartbeats 4000000 in
theorem b_L_law_1043 {G0 : Hp} {Q : Int32 → Hp → Prop} {sc0 : Option Nat} {sc : Nat → Int32} {N : Nat} {k23 : Option Nat → Option Nat → Option Nat → Int32 → Hp → Prop} (C : Cx p s m meth c D T Z "EndingTownLaw" cL_law 7 (some .boolean)) (hLf : l.flags = flags0) (hsc : ∃ a, sc0 = some a ∧ va_X a N sc s Z) (hk23 : ∀ (l1 : Option Nat) (l2 : Option Nat) (l3 : Option Nat) (l4 : Int32) (G : Hp) (H : Heap) (locs : List Loc) (cells slots : Nat) (ls : Array Slot), k23 l1 l2 l3 l4 G → HI (twd D T Z) G0 s (rmX (twd D T Z) 2048 84000 G0) H locs cells slots G → LH ls 7 [(0, .inr (.inl sc0)), (1, .inr (.inl l1)), (2, .inr (.inl l2)), (3, .inr (.inl l3)), (4, .inl l4)] → W p l e (rmX (twd D T Z) 2048 84000 G0) s m args below meth c H locs cells slots (MQX (twd D T Z) G0 (qI Q) (fun _ _ => False) below s) (F0 m 23 ls [])) : ∀ (l1 : Option Nat) (l2 : Option Nat) (l3 : Option Nat) (l4 : Int32) (l5 : Int32) (t0 : Int32) (t1 : Int32) (t2 : Int32) (t3 : Int32) (t4 : Option Nat) (G : Hp) (H : Heap) (locs : List Loc) (cells slots : Nat) (ls : Array Slot), w_L_law_1043 T Q sc0 sc N k23 l1 l2 l3 l4 l5 t0 t1 t2 t3 t4 G → HI (twd D T Z) G0 s (rmX (twd D T Z) 2048 84000 G0) H locs cells slots G → LH ls 7 [(0, .inr (.inl sc0)), (1, .inr (.inl l1)), (2, .inr (.inl l2)), (3, .inr (.inl l3)), (4, .inl l4), (5, .inl l5)] → W p l e (rmX (twd D T Z) 2048 84000 G0) s m args below meth c H locs cells slots (MQX (twd D T Z) G0 (qI Q) (fun _ _ => False) below s) (F0 m 1043 ls [.int t0, .int t1, .int t2, .int t3, va_rf t4]) := by
  intro l1 l2 l3 l4 l5 t0 t1 t2 t3 t4 G H locs cells slots ls h I hl
  obtain ⟨ho10, h⟩ := h
  obtain ⟨M, hsub, h⟩ := h
  refine k_sub C I hsub (k_V (r := t4) (As := [.int t3, .int t2, .int t1, .int t0]) (rest := []) (y := yX11_could) C ⟨ho10.ad.1, I.recv C.2.2.2.2.1 ho10 (by decide)⟩ q1849 q1850 q1851 (Or.inl rfl) q1852 (by decide) rfl pd_X11_could rfl dL_law_1043) (CT.rcv ho10.ad.1 (ct_X11_could h)) hl.1 dL_law_1043 [] rfl (Nat.le_of_ble_eq_true rfl) (Or.inl rfl) q1852 q113 ⟨Nat.le_of_ble_eq_true rfl, Nat.le_of_ble_eq_true rfl⟩ (fun v x1 H locs cells slots hq hxx xG1 I => ?_)
  obtain ⟨M1, rfl, r2, rfl, h⟩ := hq
  have h := h _ rfl
  generalize eG1 : jn G (mG (ad t4) (gZ G) M) (mG (ad t4) (gZ G) M1) = G1 at h I xG1
  refine l_ist C dL_law_1046 hl (by decide) rfl (fun ls hl => ?_)
  have hl : LH ls 7 [(6, .inl r2), (0, .inr (.inl sc0)), (1, .inr (.inl l1)), (2, .inr (.inl l2)), (3, .inr (.inl l3)), (4, .inl l4), (5, .inl l5)] := hl
  refine l_ald_n C dL_law_1048 hl 3 rfl rfl ?_
  obtain ⟨ho9, h⟩ := h
  obtain ⟨M, hsub, h⟩ := h
  refine k_sub C I hsub (k_V (r := l2) (As := []) (rest := []) (y := yX11_thrown) C ⟨ho9.ad.1, I.recv C.2.2.2.2.1 ho9 (by decide)⟩ q1587 q1588 q1589 (Or.inl rfl) q1590 (by decide) rfl pd_X11_thrown rfl dL_law_1049) (CT.rcv ho9.ad.1 (ct_X11_thrown h)) hl.1 dL_law_1049 [] rfl (Nat.le_of_ble_eq_true rfl) (Or.inl rfl) q1590 q113 ⟨Nat.le_of_ble_eq_true rfl, Nat.le_of_ble_eq_true rfl⟩ (fun v x1 H locs cells slots hq hxx xG3 I => ?_)
  obtain ⟨M1, rfl, r4, rfl, h⟩ := hq
  have h := h _ rfl
  generalize eG3 : jn G1 (mG (ad l2) (gZ G1) M) (mG (ad l2) (gZ G1) M1) = G3 at h I xG3
  refine l_ild C dL_law_1052 hl 6 rfl ?_
  refine lv_icmp_eq (tgt := 1059) C.1 C.2.1 dL_law_1054 (by decide) (fun c8 => ?_) (fun c8 => ?_)
  · have h := h.1 c8
    refine l_ild C dL_law_1059 hl 6 rfl ?_
    refine lv_if_ne (tgt := 1076) C.1 C.2.1 dL_law_1061 (by decide) (fun c7 => ?_) (fun c7 => ?_)
    · have h := h.1 c7
      exact b_L_law_1076 C hLf hsc hk23 l1 l2 l3 l4 G3 _ _ _ _ _ h I (hl.sub [1, 2, 3, 4, 5] rfl)
    · have h := h.2 c7
      refine l_ald_n C dL_law_1064 hl 4 rfl rfl ?_
      refine lv_iconst (v := 0) C.1 C.2.1 dL_law_1065 (by decide) ?_
      obtain ⟨ho5, h⟩ := h
      obtain ⟨hi, h⟩ := h
      refine a_lald C I ho5 hi dL_law_1066 ?_
      refine l_ild C dL_law_1067 hl 0 rfl ?_
      refine lv_i2l C.1 C.2.1 dL_law_1069 rfl ?_
      refine W.lcmp C.1 C.2.1 dL_law_1070 ?_
      refine lv_if_eq (tgt := 1076) C.1 C.2.1 dL_law_1071 (by decide) (fun c6 => ?_) (fun c6 => ?_)
      · have h := h.1 c6
        exact b_L_law_1076 C hLf hsc hk23 l1 l2 l3 l4 G3 _ _ _ _ _ h I (hl.sub [1, 2, 3, 4, 5] rfl)
      · have h := h.2 c6
        refine lv_iconst (v := 0) C.1 C.2.1 dL_law_1074 (by decide) ?_
        exact r_int C.1 C.2.1 C.2.2.2.2.2.1 rfl C.2.2.2.2.2.2 ⟨rfl, rfl⟩ I dL_law_1075 ⟨_, rfl, h⟩
  · have h := h.2 c8
    refine lv_iconst (v := 0) C.1 C.2.1 dL_law_1057 (by decide) ?_
    exact r_int C.1 C.2.1 C.2.2.2.2.2.1 rfl C.2.2.2.2.2.2 ⟨rfl, rfl⟩ I dL_law_1058 ⟨_, rfl, h⟩
def w_L_law_1004 (T : Nat → ClassId) (Q : Int32 → Hp → Prop) (sc0 : Option Nat) (sc : Nat → Int32) (N : Nat) (k23 : Option Nat → Option Nat → Option Nat → Int32 → Hp → Prop) (l1 : Option Nat) (l2 : Option Nat) (l3 : Option Nat) (l4 : Int32) (t0 : Int32) (t1 : Int32) (t2 : Int32) (t3 : Int32) (t4 : Option Nat) (G : Hp) : Prop := ∃ x0 : Hp, Sub x0 G ∧ w_X0_could T (fun r2 x1 => ∀ G1 : Hp, G1 = jn G x0 x1 → (vp_in ((l4 + (1 : Int32))) N ∧ vp_in ((l4 + (2 : Int32))) N ∧ vp_in ((l4 + (3 : Int32))) N ∧ vp_in ((l4 + (4 : Int32))) N ∧ ((sc ((l4 + (4 : Int32))).toNatClampNeg = 0) → (w_L_law_1043 T Q sc0 sc N k23 l1 l2 l3 l4 r2 ((0 : Int32)) (sc ((l4 + (3 : Int32))).toNatClampNeg) (sc ((l4 + (2 : Int32))).toNatClampNeg) (sc ((l4 + (1 : Int32))).toNatClampNeg) l2 G1)) ∧ ((¬ sc ((l4 + (4 : Int32))).toNatClampNeg = 0) → (w_L_law_1043 T Q sc0 sc N k23 l1 l2 l3 l4 r2 ((1 : Int32)) (sc ((l4 + (3 : Int32))).toNatClampNeg) (sc ((l4 + (2 : Int32))).toNatClampNeg) (sc ((l4 + (1 : Int32))).toNatClampNeg) l2 G1)))) t4 t3 t2 t1 t0 l3 x0
set_option maxHeartbeats 4000000 in
theorem b_L_law_1004 {G0 : Hp} {Q : Int32 → Hp → Prop} {sc0 : Option Nat} {sc : Nat → Int32} {N : Nat} {k23 : Option Nat → Option Nat → Option Nat → Int32 → Hp → Prop} (C : Cx p s m meth c D T Z "EndingTownLaw" cL_law 7 (some .boolean)) (hLf : l.flags = flags0) (hsc : ∃ a, sc0 = some a ∧ va_X a N sc s Z) (hk23 : ∀ (l1 : Option Nat) (l2 : Option Nat) (l3 : Option Nat) (l4 : Int32) (G : Hp) (H : Heap) (locs : List Loc) (cells slots : Nat) (ls : Array Slot), k23 l1 l2 l3 l4 G → HI (twd D T Z) G0 s (rmX (twd D T Z) 2048 84000 G0) H locs cells slots G → LH ls 7 [(0, .inr (.inl sc0)), (1, .inr (.inl l1)), (2, .inr (.inl l2)), (3, .inr (.inl l3)), (4, .inl l4)] → W p l e (rmX (twd D T Z) 2048 84000 G0) s m args below meth c H locs cells slots (MQX (twd D T Z) G0 (qI Q) (fun _ _ => False) below s) (F0 m 23 ls [])) : ∀ (l1 : Option Nat) (l2 : Option Nat) (l3 : Option Nat) (l4 : Int32) (t0 : Int32) (t1 : Int32) (t2 : Int32) (t3 : Int32) (t4 : Option Nat) (G : Hp) (H : Heap) (locs : List Loc) (cells slots : Nat) (ls : Array Slot), w_L_law_1004 T Q sc0 sc N k23 l1 l2 l3 l4 t0 t1 t2 t3 t4 G → HI (twd D T Z) G0 s (rmX (twd D T Z) 2048 84000 G0) H locs cells slots G → LH ls 7 [(0, .inr (.inl sc0)), (1, .inr (.inl l1)), (2, .inr (.inl l2)), (3, .inr (.inl l3)), (4, .inl l4)] → W p l e (rmX (twd D T Z) 2048 84000 G0) s m args below meth c H locs cells slots (MQX (twd D T Z) G0 (qI Q) (fun _ _ => False) below s) (F0 m 1004 ls [.int t0, .int t1, .int t2, .int t3, va_rf t4]) := by
  intro l1 l2 l3 l4 t0 t1 t2 t3 t4 G H locs cells slots ls h I hl
  refine l_ald_n C dL_law_1004 hl 3 rfl rfl ?_
  obtain ⟨x0, hsub, h⟩ := h
  refine k_sub C I hsub (k_S (As := [va_rf t4, .int t3, .int t2, .int t1, .int t0, va_rf l3]) (rest := []) (y := yX0_could) C q1267 q1268 q99 (Or.inr ⟨_, rfl⟩) q1269 (by decide) rfl pd_X0_could rfl dL_law_1005) (ct_X0_could hLf h) hl.1 dL_law_1005 [] rfl (Nat.le_of_ble_eq_true rfl) (Or.inr ⟨_, rfl⟩) q1269 q99 ⟨Nat.le_of_ble_eq_true rfl, Nat.le_of_ble_eq_true rfl⟩ (fun v x1 H locs cells slots hq hxx xG1 I => ?_)
  obtain ⟨r2, rfl, h⟩ := hq
  have h := h _ rfl
  generalize eG1 : jn G x0 x1 = G1 at h I xG1
  refine l_ist C dL_law_1008 hl (by decide) rfl (fun ls hl => ?_)
  have hl : LH ls 7 [(5, .inl r2), (0, .inr (.inl sc0)), (1, .inr (.inl l1)), (2, .inr (.inl l2)), (3, .inr (.inl l3)), (4, .inl l4)] := hl
  refine l_ald_n C dL_law_1010 hl 3 rfl rfl ?_
  refine l_ald_n C dL_law_1011 hl 1 rfl rfl ?_
  refine l_ild C dL_law_1012 hl 5 rfl ?_
  refine lv_iconst (v := 1) C.1 C.2.1 dL_law_1014 (by decide) ?_
  refine lv_iadd C.1 C.2.1 dL_law_1015 ?_
  obtain ⟨hi, h⟩ := h
  refine z_scr hsc C I hi dL_law_1016 ?_
  refine l_ald_n C dL_law_1017 hl 1 rfl rfl ?_
  refine l_ild C dL_law_1018 hl 5 rfl ?_
  refine lv_iconst (v := 2) C.1 C.2.1 dL_law_1020 (by decide) ?_
  refine lv_iadd C.1 C.2.1 dL_law_1021 ?_
  obtain ⟨hi, h⟩ := h
  refine z_scr hsc C I hi dL_law_1022 ?_
  refine l_ald_n C dL_law_1023 hl 1 rfl rfl ?_
  refine l_ild C dL_law_1024 hl 5 rfl ?_
  refine lv_iconst (v := 3) C.1 C.2.1 dL_law_1026 (by decide) ?_
  refine lv_iadd C.1 C.2.1 dL_law_1027 ?_
  obtain ⟨hi, h⟩ := h
  refine z_scr hsc C I hi dL_law_1028 ?_
  refine l_ald_n C dL_law_1029 hl 1 rfl rfl ?_
  refine l_ild C dL_law_1030 hl 5 rfl ?_
  refine lv_iconst (v := 4) C.1 C.2.1 dL_law_1032 (by decide) ?_
  refine lv_iadd C.1 C.2.1 dL_law_1033 ?_
  obtain ⟨hi, h⟩ := h
  refine z_scr hsc C I hi dL_law_1034 ?_
  refine lv_if_eq (tgt := 1042) C.1 C.2.1 dL_law_1035 (by decide) (fun c3 => ?_) (fun c3 => ?_)
  · have h := h.1 c3
    refine lv_iconst (v := 0) C.1 C.2.1 dL_law_1042 (by decide) ?_
    exact b_L_law_1043 C hLf hsc hk23 l1 l2 l3 l4 r2 ((0 : Int32)) (sc ((l4 + (3 : Int32))).toNatClampNeg) (sc ((l4 + (2 : Int32))).toNatClampNeg) (sc ((l4 + (1 : Int32))).toNatClampNeg) l2 G1 _ _ _ _ _ h I (hl.sub [1, 2, 3, 4, 5, 0] rfl)
  · have h := h.2 c3
    refine lv_iconst (v := 1) C.1 C.2.1 dL_law_1038 (by decide) ?_
    refine lv_goto (tgt := 1043) C.1 C.2.1 dL_law_1039 (by decide) ?_
    exact b_L_law_1043 C hLf hsc hk23 l1 l2 l3 l4 r2 ((1 : Int32)) (sc ((l4 + (3 : Int32))).toNatClampNeg) (sc ((l4 + (2 : Int32))).toNatClampNeg) (sc ((l4 + (1 : Int32))).toNatClampNeg) l2 G1 _ _ _ _ _ h I (hl.sub [1, 2, 3, 4, 5, 0] rfl)
def w_L_law_971 (T : Nat → ClassId) (Q : Int32 → Hp → Prop) (sc0 : Option Nat) (sc : Nat → Int32) (N : Nat) (k23 : Option Nat → Option Nat → Option Nat → Int32 → Hp → Prop) (l1 : Option Nat) (l2 : Option Nat) (l3 : Option Nat) (l4 : Int32) (G : Hp) : Prop := vp_in ((l4 + (1 : Int32))) N ∧ vp_in ((l4 + (2 : Int32))) N ∧ vp_in ((l4 + (3 : Int32))) N ∧ vp_in ((l4 + (4 : Int32))) N ∧ ((sc ((l4 + (4 : Int32))).toNatClampNeg = 0) → (w_L_law_1004 T Q sc0 sc N k23 l1 l2 l3 l4 ((0 : Int32)) (sc ((l4 + (3 : Int32))).toNatClampNeg) (sc ((l4 + (2 : Int32))).toNatClampNeg) (sc ((l4 + (1 : Int32))).toNatClampNeg) l1 G)) ∧ ((¬ sc ((l4 + (4 : Int32))).toNatClampNeg = 0) → (w_L_law_1004 T Q sc0 sc N k23 l1 l2 l3 l4 ((1 : Int32)) (sc ((l4 + (3 : Int32))).toNatClampNeg) (sc ((l4 + (2 : Int32))).toNatClampNeg) (sc ((l4 + (1 : Int32))).toNatClampNeg) l1 G))
set_option maxHeartbeats 4000000 in
theorem b_L_law_971 {G0 : Hp} {Q : Int32 → Hp → Prop} {sc0 : Option Nat} {sc : Nat → Int32} {N : Nat} {k23 : Option Nat → Option Nat → Option Nat → Int32 → Hp → Prop} (C : Cx p s m meth c D T Z "EndingTownLaw" cL_law 7 (some .boolean)) (hLf : l.flags = flags0) (hsc : ∃ a, sc0 = some a ∧ va_X a N sc s Z) (hk23 : ∀ (l1 : Option Nat) (l2 : Option Nat) (l3 : Option Nat) (l4 : Int32) (G : Hp) (H : Heap) (locs : List Loc) (cells slots : Nat) (ls : Array Slot), k23 l1 l2 l3 l4 G → HI (twd D T Z) G0 s (rmX (twd D T Z) 2048 84000 G0) H locs cells slots G → LH ls 7 [(0, .inr (.inl sc0)), (1, .inr (.inl l1)), (2, .inr (.inl l2)), (3, .inr (.inl l3)), (4, .inl l4)] → W p l e (rmX (twd D T Z) 2048 84000 G0) s m args below meth c H locs cells slots (MQX (twd D T Z) G0 (qI Q) (fun _ _ => False) below s) (F0 m 23 ls [])) : ∀ (l1 : Option Nat) (l2 : Option Nat) (l3 : Option Nat) (l4 : Int32) (G : Hp) (H : Heap) (locs : List Loc) (cells slots : Nat) (ls : Array Slot), w_L_law_971 T Q sc0 sc N k23 l1 l2 l3 l4 G → HI (twd D T Z) G0 s (rmX (twd D T Z) 2048 84000 G0) H locs cells slots G → LH ls 7 [(0, .inr (.inl sc0)), (1, .inr (.inl l1)), (2, .inr (.inl l2)), (3, .inr (.inl l3)), (4, .inl l4)] → W p l e (rmX (twd D T Z) 2048 84000 G0) s m args below meth c H locs cells slots (MQX (twd D T Z) G0 (qI Q) (fun _ _ => False) below s) (F0 m 971 ls []) := by
  intro l1 l2 l3 l4 G H locs cells slots ls h I hl
  refine l_ald_n C dL_law_971 hl 1 rfl rfl ?_
  refine l_ald_n C dL_law_972 hl 0 rfl rfl ?_
  refine l_ild C dL_law_973 hl 4 rfl ?_
  refine lv_iconst (v := 1) C.1 C.2.1 dL_law_975 (by decide) ?_
  refine lv_iadd C.1 C.2.1 dL_law_976 ?_
  obtain ⟨hi, h⟩ := h
  refine z_scr hsc C I hi dL_law_977 ?_
  refine l_ald_n C dL_law_978 hl 0 rfl rfl ?_
  refine l_ild C dL_law_979 hl 4 rfl ?_
  refine lv_iconst (v := 2) C.1 C.2.1 dL_law_981 (by decide) ?_
  refine lv_iadd C.1 C.2.1 dL_law_982 ?_
  obtain ⟨hi, h⟩ := h
  refine z_scr hsc C I hi dL_law_983 ?_
  refine l_ald_n C dL_law_984 hl 0 rfl rfl ?_
  refine l_ild C dL_law_985 hl 4 rfl ?_
  refine lv_iconst (v := 3) C.1 C.2.1 dL_law_987 (by decide) ?_
  refine lv_iadd C.1 C.2.1 dL_law_988 ?_
  obtain ⟨hi, h⟩ := h
  refine z_scr hsc C I hi dL_law_989 ?_
  refine l_ald_n C dL_law_990 hl 0 rfl rfl ?_
  refine l_ild C dL_law_991 hl 4 rfl ?_
  refine lv_iconst (v := 4) C.1 C.2.1 dL_law_993 (by decide) ?_
  refine lv_iadd C.1 C.2.1 dL_law_994 ?_
  obtain ⟨hi, h⟩ := h
  refine z_scr hsc C I hi dL_law_995 ?_
  refine lv_if_eq (tgt := 1003) C.1 C.2.1 dL_law_996 (by decide) (fun c1 => ?_) (fun c1 => ?_)
  · have h := h.1 c1
    refine lv_iconst (v := 0) C.1 C.2.1 dL_law_1003 (by decide) ?_
    exact b_L_law_1004 C hLf hsc hk23 l1 l2 l3 l4 ((0 : Int32)) (sc ((l4 + (3 : Int32))).toNatClampNeg) (sc ((l4 + (2 : Int32))).toNatClampNeg) (sc ((l4 + (1 : Int32))).toNatClampNeg) l1 G _ _ _ _ _ h I (hl.sub [0, 1, 2, 3, 4] rfl)
  · have h := h.2 c1
    refine lv_iconst (v := 1) C.1 C.2.1 dL_law_999 (by decide) ?_
    refine lv_goto (tgt := 1004) C.1 C.2.1 dL_law_1000 (by decide) ?_
    exact b_L_law_1004 C hLf hsc hk23 l1 l2 l3 l4 ((1 : Int32)) (sc ((l4 + (3 : Int32))).toNatClampNeg) (sc ((l4 + (2 : Int32))).toNatClampNeg) (sc ((l4 + (1 : Int32))).toNatClampNeg) l1 G _ _ _ _ _ h I (hl.sub [0, 1, 2, 3, 4] rfl)
def w_L_law_1132 (T : Nat → ClassId) (Q : Int32 → Hp → Prop) (sc0 : Option Nat) (sc : Nat → Int32) (N : Nat) (k23 : Option Nat → Option Nat → Option Nat → Int32 → Hp → Prop) (l1 : Option Nat) (l2 : Option Nat) (l3 : Option Nat) (l4 : Int32) (G : Hp) : Prop := w_L_law_1631 T Q sc0 sc N k23 l1 l2 l3 l4 G
set_option maxHeartbeats 4000000 in
theorem b_L_law_1132 {G0 : Hp} {Q : Int32 → Hp → Prop} {sc0 : Option Nat} {sc : Nat → Int32} {N : Nat} {k23 : Option Nat → Option Nat → Option Nat → Int32 → Hp → Prop} (C : Cx p s m meth c D T Z "EndingTownLaw" cL_law 7 (some .boolean)) (hLf : l.flags = flags0) (hsc : ∃ a, sc0 = some a ∧ va_X a N sc s Z) (hk23 : ∀ (l1 : Option Nat) (l2 : Option Nat) (l3 : Option Nat) (l4 : Int32) (G : Hp) (H : Heap) (locs : List Loc) (cells slots : Nat) (ls : Array Slot), k23 l1 l2 l3 l4 G → HI (twd D T Z) G0 s (rmX (twd D T Z) 2048 84000 G0) H locs cells slots G → LH ls 7 [(0, .inr (.inl sc0)), (1, .inr (.inl l1)), (2, .inr (.inl l2)), (3, .inr (.inl l3)), (4, .inl l4)] → W p l e (rmX (twd D T Z) 2048 84000 G0) s m args below meth c H locs cells slots (MQX (twd D T Z) G0 (qI Q) (fun _ _ => False) below s) (F0 m 23 ls [])) : ∀ (l1 : Option Nat) (l2 : Option Nat) (l3 : Option Nat) (l4 : Int32) (G : Hp) (H : Heap) (locs : List Loc) (cells slots : Nat) (ls : Array Slot), w_L_law_1132 T Q sc0 sc N k23 l1 l2 l3 l4 G → HI (twd D T Z) G0 s (rmX (twd D T Z) 2048 84000 G0) H locs cells slots G → LH ls 7 [(0, .inr (.inl sc0)), (1, .inr (.inl l1)), (2, .inr (.inl l2)), (3, .inr (.inl l3)), (4, .inl l4)] → W p l e (rmX (twd D T Z) 2048 84000 G0) s m args below meth c H locs cells slots (MQX (twd D T Z) G0 (qI Q) (fun _ _ => False) below s) (F0 m 1132 ls []) := by
  intro l1 l2 l3 l4 G H locs cells slots ls h I hl
  refine lv_goto (tgt := 1631) C.1 C.2.1 dL_law_1132 (by decide) ?_
  exact b_L_law_1631 C hLf hsc hk23 l1 l2 l3 l4 G _ _ _ _ _ h I (hl.sub [0, 1, 2, 3, 4] rfl)
def w_L_law_1079 (T : Nat → ClassId) (Q : Int32 → Hp → Prop) (sc0 : Option Nat) (sc : Nat → Int32) (N : Nat) (k23 : Option Nat → Option Nat → Option Nat → Int32 → Hp → Prop) (l1 : Option Nat) (l2 : Option Nat) (l3 : Option Nat) (l4 : Int32) (G : Hp) : Prop := vp_in ((l4 + (1 : Int32))) N ∧ ∃ x0 : Hp, Sub x0 G ∧ w_X0_wrong T (fun r2 x1 => ∀ G1 : Hp, G1 = jn G x0 x1 → (vp_in ((l4 + (1 : Int32))) N ∧ isO G1 l2 19 ∧ ∃ M : MS, Sub (mG (ad l2) (gZ G1) M) G1 ∧ w_X11_wrong (fun r4 M1 => ∀ G3 : Hp, G3 = jn G1 (mG (ad l2) (gZ G1) M) (mG (ad l2) (gZ G1) M1) → (isO G3 l2 19 ∧ ∃ M : MS, Sub (mG (ad l2) (gZ G3) M) G3 ∧ w_X11_thrown (fun r6 M1 => ∀ G5 : Hp, G5 = jn G3 (mG (ad l2) (gZ G3) M) (mG (ad l2) (gZ G3) M1) → (((r6 = r2) → (((¬ r2 = 0) → (w_L_law_1132 T Q sc0 sc N k23 l1 l2 l3 l4 G5)) ∧ ((r2 = 0) → (isO G5 l3 53 ∧ vp_in ((0 : Int32)) (gN G5 (ad l3)) ∧ (((lg_cmp (gL G5 (ad l3) ((0 : Int32)).toNatClampNeg) r4.toInt64) = 0) → (w_L_law_1132 T Q sc0 sc N k23 l1 l2 l3 l4 G5)) ∧ ((¬ (lg_cmp (gL G5 (ad l3) ((0 : Int32)).toNatClampNeg) r4.toInt64) = 0) → (Q (0 : Int32) G5)))))) ∧ ((¬ r6 = r2) → (Q (0 : Int32) G5)))) M)) (sc ((l4 + (1 : Int32))).toNatClampNeg) M)) l1 (sc ((l4 + (1 : Int32))).toNatClampNeg) l3 x0
set_option maxHeartbeats 4000000 in
theorem b_L_law_1079 {G0 : Hp} {Q : Int32 → Hp → Prop} {sc0 : Option Nat} {sc : Nat → Int32} {N : Nat} {k23 : Option Nat → Option Nat → Option Nat → Int32 → Hp → Prop} (C : Cx p s m meth c D T Z "EndingTownLaw" cL_law 7 (some .boolean)) (hLf : l.flags = flags0) (hsc : ∃ a, sc0 = some a ∧ va_X a N sc s Z) (hk23 : ∀ (l1 : Option Nat) (l2 : Option Nat) (l3 : Option Nat) (l4 : Int32) (G : Hp) (H : Heap) (locs : List Loc) (cells slots : Nat) (ls : Array Slot), k23 l1 l2 l3 l4 G → HI (twd D T Z) G0 s (rmX (twd D T Z) 2048 84000 G0) H locs cells slots G → LH ls 7 [(0, .inr (.inl sc0)), (1, .inr (.inl l1)), (2, .inr (.inl l2)), (3, .inr (.inl l3)), (4, .inl l4)] → W p l e (rmX (twd D T Z) 2048 84000 G0) s m args below meth c H locs cells slots (MQX (twd D T Z) G0 (qI Q) (fun _ _ => False) below s) (F0 m 23 ls [])) : ∀ (l1 : Option Nat) (l2 : Option Nat) (l3 : Option Nat) (l4 : Int32) (G : Hp) (H : Heap) (locs : List Loc) (cells slots : Nat) (ls : Array Slot), w_L_law_1079 T Q sc0 sc N k23 l1 l2 l3 l4 G → HI (twd D T Z) G0 s (rmX (twd D T Z) 2048 84000 G0) H locs cells slots G → LH ls 7 [(0, .inr (.inl sc0)), (1, .inr (.inl l1)), (2, .inr (.inl l2)), (3, .inr (.inl l3)), (4, .inl l4)] → W p l e (rmX (twd D T Z) 2048 84000 G0) s m args below meth c H locs cells slots (MQX (twd D T Z) G0 (qI Q) (fun _ _ => False) below s) (F0 m 1079 ls []) := by
  intro l1 l2 l3 l4 G H locs cells slots ls h I hl
  refine l_ald_n C dL_law_1079 hl 1 rfl rfl ?_
  refine l_ald_n C dL_law_1080 hl 0 rfl rfl ?_
  refine l_ild C dL_law_1081 hl 4 rfl ?_
  refine lv_iconst (v := 1) C.1 C.2.1 dL_law_1083 (by decide) ?_
  refine lv_iadd C.1 C.2.1 dL_law_1084 ?_
  obtain ⟨hi, h⟩ := h
  refine z_scr hsc C I hi dL_law_1085 ?_
  refine l_ald_n C dL_law_1086 hl 3 rfl rfl ?_
  obtain ⟨x0, hsub, h⟩ := h
  refine k_sub C I hsub (k_S (As := [va_rf l1, .int (sc ((l4 + (1 : Int32))).toNatClampNeg), va_rf l3]) (rest := []) (y := yX0_wrong) C q1275 q1276 q99 (Or.inr ⟨_, rfl⟩) q1277 (by decide) rfl pd_X0_wrong rfl dL_law_1087) (ct_X0_wrong hLf h) hl.1 dL_law_1087 [] rfl (Nat.le_of_ble_eq_true rfl) (Or.inr ⟨_, rfl⟩) q1277 q99 ⟨Nat.le_of_ble_eq_true rfl, Nat.le_of_ble_eq_true rfl⟩ (fun v x1 H locs cells slots hq hxx xG1 I => ?_)
  obtain ⟨r2, rfl, h⟩ := hq
  have h := h _ rfl
  generalize eG1 : jn G x0 x1 = G1 at h I xG1
  refine l_ist C dL_law_1090 hl (by decide) rfl (fun ls hl => ?_)
  have hl : LH ls 7 [(5, .inl r2), (0, .inr (.inl sc0)), (1, .inr (.inl l1)), (2, .inr (.inl l2)), (3, .inr (.inl l3)), (4, .inl l4)] := hl
  refine l_ald_n C dL_law_1092 hl 3 rfl rfl ?_
  refine l_ald_n C dL_law_1093 hl 1 rfl rfl ?_
  refine l_ild C dL_law_1094 hl 5 rfl ?_
  refine lv_iconst (v := 1) C.1 C.2.1 dL_law_1096 (by decide) ?_
  refine lv_iadd C.1 C.2.1 dL_law_1097 ?_
  obtain ⟨hi, h⟩ := h
  refine z_scr hsc C I hi dL_law_1098 ?_
  obtain ⟨ho12, h⟩ := h
  obtain ⟨M, hsub, h⟩ := h
  refine k_sub C I hsub (k_V (r := l2) (As := [.int (sc ((l4 + (1 : Int32))).toNatClampNeg)]) (rest := []) (y := yX11_wrong) C ⟨ho12.ad.1, I.recv C.2.2.2.2.1 ho12 (by decide)⟩ q1853 q1854 q1855 (Or.inl rfl) q1856 (by decide) rfl pd_X11_wrong rfl dL_law_1099) (CT.rcv ho12.ad.1 (ct_X11_wrong h)) hl.1 dL_law_1099 [] rfl (Nat.le_of_ble_eq_true rfl) (Or.inl rfl) q1856 q113 ⟨Nat.le_of_ble_eq_true rfl, Nat.le_of_ble_eq_true rfl⟩ (fun v x1 H locs cells slots hq hxx xG3 I => ?_)
  obtain ⟨M1, rfl, r4, rfl, h⟩ := hq
  have h := h _ rfl
  generalize eG3 : jn G1 (mG (ad l2) (gZ G1) M) (mG (ad l2) (gZ G1) M1) = G3 at h I xG3
  refine l_ist C dL_law_1102 hl (by decide) rfl (fun ls hl => ?_)
  have hl : LH ls 7 [(6, .inl r4), (5, .inl r2), (0, .inr (.inl sc0)), (1, .inr (.inl l1)), (2, .inr (.inl l2)), (3, .inr (.inl l3)), (4, .inl l4)] := hl
  refine l_ald_n C dL_law_1104 hl 4 rfl rfl ?_
  obtain ⟨ho11, h⟩ := h
  obtain ⟨M, hsub, h⟩ := h
  refine k_sub C I hsub (k_V (r := l2) (As := []) (rest := []) (y := yX11_thrown) C ⟨ho11.ad.1, I.recv C.2.2.2.2.1 ho11 (by decide)⟩ q1587 q1588 q1589 (Or.inl rfl) q1590 (by decide) rfl pd_X11_thrown rfl dL_law_1105) (CT.rcv ho11.ad.1 (ct_X11_thrown h)) hl.1 dL_law_1105 [] rfl (Nat.le_of_ble_eq_true rfl) (Or.inl rfl) q1590 q113 ⟨Nat.le_of_ble_eq_true rfl, Nat.le_of_ble_eq_true rfl⟩ (fun v x1 H locs cells slots hq hxx xG5 I => ?_)
  obtain ⟨M1, rfl, r6, rfl, h⟩ := hq
  have h := h _ rfl
  generalize eG5 : jn G3 (mG (ad l2) (gZ G3) M) (mG (ad l2) (gZ G3) M1) = G5 at h I xG5
  refine l_ild C dL_law_1108 hl 1 rfl ?_
  refine lv_icmp_eq (tgt := 1115) C.1 C.2.1 dL_law_1110 (by decide) (fun c10 => ?_) (fun c10 => ?_)
  · have h := h.1 c10
    refine l_ild C dL_law_1115 hl 1 rfl ?_
    refine lv_if_ne (tgt := 1132) C.1 C.2.1 dL_law_1117 (by decide) (fun c9 => ?_) (fun c9 => ?_)
    · have h := h.1 c9
      exact b_L_law_1132 C hLf hsc hk23 l1 l2 l3 l4 G5 _ _ _ _ _ h I (hl.sub [2, 3, 4, 5, 6] rfl)
    · have h := h.2 c9
      refine l_ald_n C dL_law_1120 hl 5 rfl rfl ?_
      refine lv_iconst (v := 0) C.1 C.2.1 dL_law_1121 (by decide) ?_
      obtain ⟨ho7, h⟩ := h
      obtain ⟨hi, h⟩ := h
      refine a_lald C I ho7 hi dL_law_1122 ?_
      refine l_ild C dL_law_1123 hl 0 rfl ?_
      refine lv_i2l C.1 C.2.1 dL_law_1125 rfl ?_
      refine W.lcmp C.1 C.2.1 dL_law_1126 ?_
      refine lv_if_eq (tgt := 1132) C.1 C.2.1 dL_law_1127 (by decide) (fun c8 => ?_) (fun c8 => ?_)
      · have h := h.1 c8
        exact b_L_law_1132 C hLf hsc hk23 l1 l2 l3 l4 G5 _ _ _ _ _ h I (hl.sub [2, 3, 4, 5, 6] rfl)
      · have h := h.2 c8
        refine lv_iconst (v := 0) C.1 C.2.1 dL_law_1130 (by decide) ?_
        exact r_int C.1 C.2.1 C.2.2.2.2.2.1 rfl C.2.2.2.2.2.2 ⟨rfl, rfl⟩ I dL_law_1131 ⟨_, rfl, h⟩
  · have h := h.2 c10
    refine lv_iconst (v := 0) C.1 C.2.1 dL_law_1113 (by decide) ?_
    exact r_int C.1 C.2.1 C.2.2.2.2.2.1 rfl C.2.2.2.2.2.2 ⟨rfl, rfl⟩ I dL_law_1114 ⟨_, rfl, h⟩
def w_L_law_1135 (T : Nat → ClassId) (Q : Int32 → Hp → Prop) (sc0 : Option Nat) (sc : Nat → Int32) (N : Nat) (k23 : Option Nat → Option Nat → Option Nat → Int32 → Hp → Prop) (l1 : Option Nat) (l2 : Option Nat) (l3 : Option Nat) (l4 : Int32) (G : Hp) : Prop := isO G l1 1 ∧ ∃ x0 : Hp, Sub x0 G ∧ w_X1_mend T (fun r2 x1 => ∀ G1 : Hp, G1 = jn G x0 x1 → (isO G1 l2 19 ∧ ∃ M : MS, Sub (mG (ad l2) (gZ G1) M) G1 ∧ w_X11_mend (fun r4 M1 => ∀ G3 : Hp, G3 = jn G1 (mG (ad l2) (gZ G1) M) (mG (ad l2) (gZ G1) M1) → (((r2 = r4) → (w_L_law_1631 T Q sc0 sc N k23 l1 l2 l3 l4 G3)) ∧ ((¬ r2 = r4) → (Q (0 : Int32) G3)))) M)) l1 x0
set_option maxHeartbeats 4000000 in
theorem b_L_law_1135 {G0 : Hp} {Q : Int32 → Hp → Prop} {sc0 : Option Nat} {sc : Nat → Int32} {N : Nat} {k23 : Option Nat → Option Nat → Option Nat → Int32 → Hp → Prop} (C : Cx p s m meth c D T Z "EndingTownLaw" cL_law 7 (some .boolean)) (hLf : l.flags = flags0) (hsc : ∃ a, sc0 = some a ∧ va_X a N sc s Z) (hk23 : ∀ (l1 : Option Nat) (l2 : Option Nat) (l3 : Option Nat) (l4 : Int32) (G : Hp) (H : Heap) (locs : List Loc) (cells slots : Nat) (ls : Array Slot), k23 l1 l2 l3 l4 G → HI (twd D T Z) G0 s (rmX (twd D T Z) 2048 84000 G0) H locs cells slots G → LH ls 7 [(0, .inr (.inl sc0)), (1, .inr (.inl l1)), (2, .inr (.inl l2)), (3, .inr (.inl l3)), (4, .inl l4)] → W p l e (rmX (twd D T Z) 2048 84000 G0) s m args below meth c H locs cells slots (MQX (twd D T Z) G0 (qI Q) (fun _ _ => False) below s) (F0 m 23 ls [])) : ∀ (l1 : Option Nat) (l2 : Option Nat) (l3 : Option Nat) (l4 : Int32) (G : Hp) (H : Heap) (locs : List Loc) (cells slots : Nat) (ls : Array Slot), w_L_law_1135 T Q sc0 sc N k23 l1 l2 l3 l4 G → HI (twd D T Z) G0 s (rmX (twd D T Z) 2048 84000 G0) H locs cells slots G → LH ls 7 [(0, .inr (.inl sc0)), (1, .inr (.inl l1)), (2, .inr (.inl l2)), (3, .inr (.inl l3)), (4, .inl l4)] → W p l e (rmX (twd D T Z) 2048 84000 G0) s m args below meth c H locs cells slots (MQX (twd D T Z) G0 (qI Q) (fun _ _ => False) below s) (F0 m 1135 ls []) := by
  intro l1 l2 l3 l4 G H locs cells slots ls h I hl
  refine l_ald_n C dL_law_1135 hl 1 rfl rfl ?_
  obtain ⟨ho7, h⟩ := h
  obtain ⟨x0, hsub, h⟩ := h
  refine k_sub C I hsub (k_V (r := l1) (As := []) (rest := []) (y := yX1_mend) C ⟨ho7.ad.1, I.recv C.2.2.2.2.1 ho7 (by decide)⟩ q454 q455 q456 (Or.inl rfl) q457 (by decide) rfl pd_X1_mend rfl dL_law_1136) (ct_X1_mend h) hl.1 dL_law_1136 [] rfl (Nat.le_of_ble_eq_true rfl) (Or.inl rfl) q457 q100 ⟨Nat.le_of_ble_eq_true rfl, Nat.le_of_ble_eq_true rfl⟩ (fun v x1 H locs cells slots hq hxx xG1 I => ?_)
  obtain ⟨r2, rfl, h⟩ := hq
  have h := h _ rfl
  generalize eG1 : jn G x0 x1 = G1 at h I xG1
  refine l_ald_n C dL_law_1139 hl 2 rfl rfl ?_
  obtain ⟨ho6, h⟩ := h
  obtain ⟨M, hsub, h⟩ := h
  refine k_sub C I hsub (k_V (r := l2) (As := []) (rest := [.int r2]) (y := yX11_mend) C ⟨ho6.ad.1, I.recv C.2.2.2.2.1 ho6 (by decide)⟩ q1861 q1862 q1863 (Or.inl rfl) q1864 (by decide) rfl pd_X11_mend rfl dL_law_1140) (CT.rcv ho6.ad.1 (ct_X11_mend h)) hl.1 dL_law_1140 [.inl r2] rfl (Nat.le_of_ble_eq_true rfl) (Or.inl rfl) q1864 q113 ⟨Nat.le_of_ble_eq_true rfl, Nat.le_of_ble_eq_true rfl⟩ (fun v x1 H locs cells slots hq hxx xG3 I => ?_)
  obtain ⟨M1, rfl, r4, rfl, h⟩ := hq
  have h := h _ rfl
  generalize eG3 : jn G1 (mG (ad l2) (gZ G1) M) (mG (ad l2) (gZ G1) M1) = G3 at h I xG3
  refine lv_icmp_eq (tgt := 1631) C.1 C.2.1 dL_law_1143 (by decide) (fun c5 => ?_) (fun c5 => ?_)
  · have h := h.1 c5
    exact b_L_law_1631 C hLf hsc hk23 l1 l2 l3 l4 G3 _ _ _ _ _ h I (hl.sub [0, 1, 2, 3, 4] rfl)
  · have h := h.2 c5
    refine lv_iconst (v := 0) C.1 C.2.1 dL_law_1146 (by decide) ?_
    exact r_int C.1 C.2.1 C.2.2.2.2.2.1 rfl C.2.2.2.2.2.2 ⟨rfl, rfl⟩ I dL_law_1147 ⟨_, rfl, h⟩
def w_L_law_1201 (T : Nat → ClassId) (Q : Int32 → Hp → Prop) (sc0 : Option Nat) (sc : Nat → Int32) (N : Nat) (k23 : Option Nat → Option Nat → Option Nat → Int32 → Hp → Prop) (l1 : Option Nat) (l2 : Option Nat) (l3 : Option Nat) (l4 : Int32) (G : Hp) : Prop := w_L_law_1631 T Q sc0 sc N k23 l1 l2 l3 l4 G
set_option maxHeartbeats 4000000 in
theorem b_L_law_1201 {G0 : Hp} {Q : Int32 → Hp → Prop} {sc0 : Option Nat} {sc : Nat → Int32} {N : Nat} {k23 : Option Nat → Option Nat → Option Nat → Int32 → Hp → Prop} (C : Cx p s m meth c D T Z "EndingTownLaw" cL_law 7 (some .boolean)) (hLf : l.flags = flags0) (hsc : ∃ a, sc0 = some a ∧ va_X a N sc s Z) (hk23 : ∀ (l1 : Option Nat) (l2 : Option Nat) (l3 : Option Nat) (l4 : Int32) (G : Hp) (H : Heap) (locs : List Loc) (cells slots : Nat) (ls : Array Slot), k23 l1 l2 l3 l4 G → HI (twd D T Z) G0 s (rmX (twd D T Z) 2048 84000 G0) H locs cells slots G → LH ls 7 [(0, .inr (.inl sc0)), (1, .inr (.inl l1)), (2, .inr (.inl l2)), (3, .inr (.inl l3)), (4, .inl l4)] → W p l e (rmX (twd D T Z) 2048 84000 G0) s m args below meth c H locs cells slots (MQX (twd D T Z) G0 (qI Q) (fun _ _ => False) below s) (F0 m 23 ls [])) : ∀ (l1 : Option Nat) (l2 : Option Nat) (l3 : Option Nat) (l4 : Int32) (G : Hp) (H : Heap) (locs : List Loc) (cells slots : Nat) (ls : Array Slot), w_L_law_1201 T Q sc0 sc N k23 l1 l2 l3 l4 G → HI (twd D T Z) G0 s (rmX (twd D T Z) 2048 84000 G0) H locs cells slots G → LH ls 7 [(0, .inr (.inl sc0)), (1, .inr (.inl l1)), (2, .inr (.inl l2)), (3, .inr (.inl l3)), (4, .inl l4)] → W p l e (rmX (twd D T Z) 2048 84000 G0) s m args below meth c H locs cells slots (MQX (twd D T Z) G0 (qI Q) (fun _ _ => False) below s) (F0 m 1201 ls []) := by
  intro l1 l2 l3 l4 G H locs cells slots ls h I hl
  refine lv_goto (tgt := 1631) C.1 C.2.1 dL_law_1201 (by decide) ?_
  exact b_L_law_1631 C hLf hsc hk23 l1 l2 l3 l4 G _ _ _ _ _ h I (hl.sub [0, 1, 2, 3, 4] rfl)
def w_L_law_1148 (T : Nat → ClassId) (Q : Int32 → Hp → Prop) (sc0 : Option Nat) (sc : Nat → Int32) (N : Nat) (k23 : Option Nat → Option Nat → Option Nat → Int32 → Hp → Prop) (l1 : Option Nat) (l2 : Option Nat) (l3 : Option Nat) (l4 : Int32) (G : Hp) : Prop := vp_in ((l4 + (1 : Int32))) N ∧ ∃ x0 : Hp, Sub x0 G ∧ w_X0_mended T (fun r2 x1 => ∀ G1 : Hp, G1 = jn G x0 x1 → (vp_in ((l4 + (1 : Int32))) N ∧ isO G1 l2 19 ∧ ∃ M : MS, Sub (mG (ad l2) (gZ G1) M) G1 ∧ w_X11_mended (fun r4 M1 => ∀ G3 : Hp, G3 = jn G1 (mG (ad l2) (gZ G1) M) (mG (ad l2) (gZ G1) M1) → (isO G3 l2 19 ∧ ∃ M : MS, Sub (mG (ad l2) (gZ G3) M) G3 ∧ w_X11_thrown (fun r6 M1 => ∀ G5 : Hp, G5 = jn G3 (mG (ad l2) (gZ G3) M) (mG (ad l2) (gZ G3) M1) → (((r6 = r2) → (((¬ r2 = 0) → (w_L_law_1201 T Q sc0 sc N k23 l1 l2 l3 l4 G5)) ∧ ((r2 = 0) → (isO G5 l3 53 ∧ vp_in ((0 : Int32)) (gN G5 (ad l3)) ∧ (((lg_cmp (gL G5 (ad l3) ((0 : Int32)).toNatClampNeg) r4.toInt64) = 0) → (w_L_law_1201 T Q sc0 sc N k23 l1 l2 l3 l4 G5)) ∧ ((¬ (lg_cmp (gL G5 (ad l3) ((0 : Int32)).toNatClampNeg) r4.toInt64) = 0) → (Q (0 : Int32) G5)))))) ∧ ((¬ r6 = r2) → (Q (0 : Int32) G5)))) M)) (sc ((l4 + (1 : Int32))).toNatClampNeg) M)) l1 (sc ((l4 + (1 : Int32))).toNatClampNeg) l3 x0
set_option maxHeartbeats 4000000 in
theorem b_L_law_1148 {G0 : Hp} {Q : Int32 → Hp → Prop} {sc0 : Option Nat} {sc : Nat → Int32} {N : Nat} {k23 : Option Nat → Option Nat → Option Nat → Int32 → Hp → Prop} (C : Cx p s m meth c D T Z "EndingTownLaw" cL_law 7 (some .boolean)) (hLf : l.flags = flags0) (hsc : ∃ a, sc0 = some a ∧ va_X a N sc s Z) (hk23 : ∀ (l1 : Option Nat) (l2 : Option Nat) (l3 : Option Nat) (l4 : Int32) (G : Hp) (H : Heap) (locs : List Loc) (cells slots : Nat) (ls : Array Slot), k23 l1 l2 l3 l4 G → HI (twd D T Z) G0 s (rmX (twd D T Z) 2048 84000 G0) H locs cells slots G → LH ls 7 [(0, .inr (.inl sc0)), (1, .inr (.inl l1)), (2, .inr (.inl l2)), (3, .inr (.inl l3)), (4, .inl l4)] → W p l e (rmX (twd D T Z) 2048 84000 G0) s m args below meth c H locs cells slots (MQX (twd D T Z) G0 (qI Q) (fun _ _ => False) below s) (F0 m 23 ls [])) : ∀ (l1 : Option Nat) (l2 : Option Nat) (l3 : Option Nat) (l4 : Int32) (G : Hp) (H : Heap) (locs : List Loc) (cells slots : Nat) (ls : Array Slot), w_L_law_1148 T Q sc0 sc N k23 l1 l2 l3 l4 G → HI (twd D T Z) G0 s (rmX (twd D T Z) 2048 84000 G0) H locs cells slots G → LH ls 7 [(0, .inr (.inl sc0)), (1, .inr (.inl l1)), (2, .inr (.inl l2)), (3, .inr (.inl l3)), (4, .inl l4)] → W p l e (rmX (twd D T Z) 2048 84000 G0) s m args below meth c H locs cells slots (MQX (twd D T Z) G0 (qI Q) (fun _ _ => False) below s) (F0 m 1148 ls []) := by
  intro l1 l2 l3 l4 G H locs cells slots ls h I hl
  refine l_ald_n C dL_law_1148 hl 1 rfl rfl ?_
  refine l_ald_n C dL_law_1149 hl 0 rfl rfl ?_
  refine l_ild C dL_law_1150 hl 4 rfl ?_
  refine lv_iconst (v := 1) C.1 C.2.1 dL_law_1152 (by decide) ?_
  refine lv_iadd C.1 C.2.1 dL_law_1153 ?_
  obtain ⟨hi, h⟩ := h
  refine z_scr hsc C I hi dL_law_1154 ?_
  refine l_ald_n C dL_law_1155 hl 3 rfl rfl ?_
  obtain ⟨x0, hsub, h⟩ := h
  refine k_sub C I hsub (k_S (As := [va_rf l1, .int (sc ((l4 + (1 : Int32))).toNatClampNeg), va_rf l3]) (rest := []) (y := yX0_mended) C q1286 q1287 q99 (Or.inr ⟨_, rfl⟩) q1288 (by decide) rfl pd_X0_mended rfl dL_law_1156) (ct_X0_mended hLf h) hl.1 dL_law_1156 [] rfl (Nat.le_of_ble_eq_true rfl) (Or.inr ⟨_, rfl⟩) q1288 q99 ⟨Nat.le_of_ble_eq_true rfl, Nat.le_of_ble_eq_true rfl⟩ (fun v x1 H locs cells slots hq hxx xG1 I => ?_)
  obtain ⟨r2, rfl, h⟩ := hq
  have h := h _ rfl
  generalize eG1 : jn G x0 x1 = G1 at h I xG1
  refine l_ist C dL_law_1159 hl (by decide) rfl (fun ls hl => ?_)
  have hl : LH ls 7 [(5, .inl r2), (0, .inr (.inl sc0)), (1, .inr (.inl l1)), (2, .inr (.inl l2)), (3, .inr (.inl l3)), (4, .inl l4)] := hl
  refine l_ald_n C dL_law_1161 hl 3 rfl rfl ?_
  refine l_ald_n C dL_law_1162 hl 1 rfl rfl ?_
  refine l_ild C dL_law_1163 hl 5 rfl ?_
  refine lv_iconst (v := 1) C.1 C.2.1 dL_law_1165 (by decide) ?_
  refine lv_iadd C.1 C.2.1 dL_law_1166 ?_
  obtain ⟨hi, h⟩ := h
  refine z_scr hsc C I hi dL_law_1167 ?_
  obtain ⟨ho12, h⟩ := h
  obtain ⟨M, hsub, h⟩ := h
  refine k_sub C I hsub (k_V (r := l2) (As := [.int (sc ((l4 + (1 : Int32))).toNatClampNeg)]) (rest := []) (y := yX11_mended) C ⟨ho12.ad.1, I.recv C.2.2.2.2.1 ho12 (by decide)⟩ q1865 q1866 q1867 (Or.inl rfl) q1868 (by decide) rfl pd_X11_mended rfl dL_law_1168) (CT.rcv ho12.ad.1 (ct_X11_mended h)) hl.1 dL_law_1168 [] rfl (Nat.le_of_ble_eq_true rfl) (Or.inl rfl) q1868 q113 ⟨Nat.le_of_ble_eq_true rfl, Nat.le_of_ble_eq_true rfl⟩ (fun v x1 H locs cells slots hq hxx xG3 I => ?_)
  obtain ⟨M1, rfl, r4, rfl, h⟩ := hq
  have h := h _ rfl
  generalize eG3 : jn G1 (mG (ad l2) (gZ G1) M) (mG (ad l2) (gZ G1) M1) = G3 at h I xG3
  refine l_ist C dL_law_1171 hl (by decide) rfl (fun ls hl => ?_)
  have hl : LH ls 7 [(6, .inl r4), (5, .inl r2), (0, .inr (.inl sc0)), (1, .inr (.inl l1)), (2, .inr (.inl l2)), (3, .inr (.inl l3)), (4, .inl l4)] := hl
  refine l_ald_n C dL_law_1173 hl 4 rfl rfl ?_
  obtain ⟨ho11, h⟩ := h
  obtain ⟨M, hsub, h⟩ := h
  refine k_sub C I hsub (k_V (r := l2) (As := []) (rest := []) (y := yX11_thrown) C ⟨ho11.ad.1, I.recv C.2.2.2.2.1 ho11 (by decide)⟩ q1587 q1588 q1589 (Or.inl rfl) q1590 (by decide) rfl pd_X11_thrown rfl dL_law_1174) (CT.rcv ho11.ad.1 (ct_X11_thrown h)) hl.1 dL_law_1174 [] rfl (Nat.le_of_ble_eq_true rfl) (Or.inl rfl) q1590 q113 ⟨Nat.le_of_ble_eq_true rfl, Nat.le_of_ble_eq_true rfl⟩ (fun v x1 H locs cells slots hq hxx xG5 I => ?_)
  obtain ⟨M1, rfl, r6, rfl, h⟩ := hq
  have h := h _ rfl
  generalize eG5 : jn G3 (mG (ad l2) (gZ G3) M) (mG (ad l2) (gZ G3) M1) = G5 at h I xG5
  refine l_ild C dL_law_1177 hl 1 rfl ?_
  refine lv_icmp_eq (tgt := 1184) C.1 C.2.1 dL_law_1179 (by decide) (fun c10 => ?_) (fun c10 => ?_)
  · have h := h.1 c10
    refine l_ild C dL_law_1184 hl 1 rfl ?_
    refine lv_if_ne (tgt := 1201) C.1 C.2.1 dL_law_1186 (by decide) (fun c9 => ?_) (fun c9 => ?_)
    · have h := h.1 c9
      exact b_L_law_1201 C hLf hsc hk23 l1 l2 l3 l4 G5 _ _ _ _ _ h I (hl.sub [2, 3, 4, 5, 6] rfl)
    · have h := h.2 c9
      refine l_ald_n C dL_law_1189 hl 5 rfl rfl ?_
      refine lv_iconst (v := 0) C.1 C.2.1 dL_law_1190 (by decide) ?_
      obtain ⟨ho7, h⟩ := h
      obtain ⟨hi, h⟩ := h
      refine a_lald C I ho7 hi dL_law_1191 ?_
      refine l_ild C dL_law_1192 hl 0 rfl ?_
      refine lv_i2l C.1 C.2.1 dL_law_1194 rfl ?_
      refine W.lcmp C.1 C.2.1 dL_law_1195 ?_
      refine lv_if_eq (tgt := 1201) C.1 C.2.1 dL_law_1196 (by decide) (fun c8 => ?_) (fun c8 => ?_)
      · have h := h.1 c8
        exact b_L_law_1201 C hLf hsc hk23 l1 l2 l3 l4 G5 _ _ _ _ _ h I (hl.sub [2, 3, 4, 5, 6] rfl)
      · have h := h.2 c8
        refine lv_iconst (v := 0) C.1 C.2.1 dL_law_1199 (by decide) ?_
        exact r_int C.1 C.2.1 C.2.2.2.2.2.1 rfl C.2.2.2.2.2.2 ⟨rfl, rfl⟩ I dL_law_1200 ⟨_, rfl, h⟩
  · have h := h.2 c10
    refine lv_iconst (v := 0) C.1 C.2.1 dL_law_1182 (by decide) ?_
    exact r_int C.1 C.2.1 C.2.2.2.2.2.1 rfl C.2.2.2.2.2.2 ⟨rfl, rfl⟩ I dL_law_1183 ⟨_, rfl, h⟩
def w_L_law_1269 (T : Nat → ClassId) (Q : Int32 → Hp → Prop) (sc0 : Option Nat) (sc : Nat → Int32) (N : Nat) (k23 : Option Nat → Option Nat → Option Nat → Int32 → Hp → Prop) (l1 : Option Nat) (l2 : Option Nat) (l3 : Option Nat) (l4 : Int32) (G : Hp) : Prop := w_L_law_1631 T Q sc0 sc N k23 l1 l2 l3 l4 G
set_option maxHeartbeats 4000000 in
theorem b_L_law_1269 {G0 : Hp} {Q : Int32 → Hp → Prop} {sc0 : Option Nat} {sc : Nat → Int32} {N : Nat} {k23 : Option Nat → Option Nat → Option Nat → Int32 → Hp → Prop} (C : Cx p s m meth c D T Z "EndingTownLaw" cL_law 7 (some .boolean)) (hLf : l.flags = flags0) (hsc : ∃ a, sc0 = some a ∧ va_X a N sc s Z) (hk23 : ∀ (l1 : Option Nat) (l2 : Option Nat) (l3 : Option Nat) (l4 : Int32) (G : Hp) (H : Heap) (locs : List Loc) (cells slots : Nat) (ls : Array Slot), k23 l1 l2 l3 l4 G → HI (twd D T Z) G0 s (rmX (twd D T Z) 2048 84000 G0) H locs cells slots G → LH ls 7 [(0, .inr (.inl sc0)), (1, .inr (.inl l1)), (2, .inr (.inl l2)), (3, .inr (.inl l3)), (4, .inl l4)] → W p l e (rmX (twd D T Z) 2048 84000 G0) s m args below meth c H locs cells slots (MQX (twd D T Z) G0 (qI Q) (fun _ _ => False) below s) (F0 m 23 ls [])) : ∀ (l1 : Option Nat) (l2 : Option Nat) (l3 : Option Nat) (l4 : Int32) (G : Hp) (H : Heap) (locs : List Loc) (cells slots : Nat) (ls : Array Slot), w_L_law_1269 T Q sc0 sc N k23 l1 l2 l3 l4 G → HI (twd D T Z) G0 s (rmX (twd D T Z) 2048 84000 G0) H locs cells slots G → LH ls 7 [(0, .inr (.inl sc0)), (1, .inr (.inl l1)), (2, .inr (.inl l2)), (3, .inr (.inl l3)), (4, .inl l4)] → W p l e (rmX (twd D T Z) 2048 84000 G0) s m args below meth c H locs cells slots (MQX (twd D T Z) G0 (qI Q) (fun _ _ => False) below s) (F0 m 1269 ls []) := by
  intro l1 l2 l3 l4 G H locs cells slots ls h I hl
  refine lv_goto (tgt := 1631) C.1 C.2.1 dL_law_1269 (by decide) ?_
  exact b_L_law_1631 C hLf hsc hk23 l1 l2 l3 l4 G _ _ _ _ _ h I (hl.sub [0, 1, 2, 3, 4] rfl)
def w_L_law_1204 (T : Nat → ClassId) (Q : Int32 → Hp → Prop) (sc0 : Option Nat) (sc : Nat → Int32) (N : Nat) (k23 : Option Nat → Option Nat → Option Nat → Int32 → Hp → Prop) (l1 : Option Nat) (l2 : Option Nat) (l3 : Option Nat) (l4 : Int32) (G : Hp) : Prop := vp_in ((l4 + (1 : Int32))) N ∧ vp_in ((l4 + (2 : Int32))) N ∧ ∃ x0 : Hp, Sub x0 G ∧ w_X0_silence T (fun r2 x1 => ∀ G1 : Hp, G1 = jn G x0 x1 → (vp_in ((l4 + (1 : Int32))) N ∧ vp_in ((l4 + (2 : Int32))) N ∧ isO G1 l2 19 ∧ ∃ M : MS, Sub (mG (ad l2) (gZ G1) M) G1 ∧ w_X11_silence (fun r4 M1 => ∀ G3 : Hp, G3 = jn G1 (mG (ad l2) (gZ G1) M) (mG (ad l2) (gZ G1) M1) → (isO G3 l2 19 ∧ ∃ M : MS, Sub (mG (ad l2) (gZ G3) M) G3 ∧ w_X11_thrown (fun r6 M1 => ∀ G5 : Hp, G5 = jn G3 (mG (ad l2) (gZ G3) M) (mG (ad l2) (gZ G3) M1) → (((r6 = r2) → (((¬ r2 = 0) → (w_L_law_1269 T Q sc0 sc N k23 l1 l2 l3 l4 G5)) ∧ ((r2 = 0) → (isO G5 l3 53 ∧ vp_in ((0 : Int32)) (gN G5 (ad l3)) ∧ (((lg_cmp (gL G5 (ad l3) ((0 : Int32)).toNatClampNeg) r4.toInt64) = 0) → (w_L_law_1269 T Q sc0 sc N k23 l1 l2 l3 l4 G5)) ∧ ((¬ (lg_cmp (gL G5 (ad l3) ((0 : Int32)).toNatClampNeg) r4.toInt64) = 0) → (Q (0 : Int32) G5)))))) ∧ ((¬ r6 = r2) → (Q (0 : Int32) G5)))) M)) (sc ((l4 + (1 : Int32))).toNatClampNeg) (sc ((l4 + (2 : Int32))).toNatClampNeg) M)) l1 (sc ((l4 + (1 : Int32))).toNatClampNeg) (sc ((l4 + (2 : Int32))).toNatClampNeg) l3 x0
set_option maxHeartbeats 4000000 in
theorem b_L_law_1204 {G0 : Hp} {Q : Int32 → Hp → Prop} {sc0 : Option Nat} {sc : Nat → Int32} {N : Nat} {k23 : Option Nat → Option Nat → Option Nat → Int32 → Hp → Prop} (C : Cx p s m meth c D T Z "EndingTownLaw" cL_law 7 (some .boolean)) (hLf : l.flags = flags0) (hsc : ∃ a, sc0 = some a ∧ va_X a N sc s Z) (hk23 : ∀ (l1 : Option Nat) (l2 : Option Nat) (l3 : Option Nat) (l4 : Int32) (G : Hp) (H : Heap) (locs : List Loc) (cells slots : Nat) (ls : Array Slot), k23 l1 l2 l3 l4 G → HI (twd D T Z) G0 s (rmX (twd D T Z) 2048 84000 G0) H locs cells slots G → LH ls 7 [(0, .inr (.inl sc0)), (1, .inr (.inl l1)), (2, .inr (.inl l2)), (3, .inr (.inl l3)), (4, .inl l4)] → W p l e (rmX (twd D T Z) 2048 84000 G0) s m args below meth c H locs cells slots (MQX (twd D T Z) G0 (qI Q) (fun _ _ => False) below s) (F0 m 23 ls [])) : ∀ (l1 : Option Nat) (l2 : Option Nat) (l3 : Option Nat) (l4 : Int32) (G : Hp) (H : Heap) (locs : List Loc) (cells slots : Nat) (ls : Array Slot), w_L_law_1204 T Q sc0 sc N k23 l1 l2 l3 l4 G → HI (twd D T Z) G0 s (rmX (twd D T Z) 2048 84000 G0) H locs cells slots G → LH ls 7 [(0, .inr (.inl sc0)), (1, .inr (.inl l1)), (2, .inr (.inl l2)), (3, .inr (.inl l3)), (4, .inl l4)] → W p l e (rmX (twd D T Z) 2048 84000 G0) s m args below meth c H locs cells slots (MQX (twd D T Z) G0 (qI Q) (fun _ _ => False) below s) (F0 m 1204 ls []) := by
  intro l1 l2 l3 l4 G H locs cells slots ls h I hl
  refine l_ald_n C dL_law_1204 hl 1 rfl rfl ?_
  refine l_ald_n C dL_law_1205 hl 0 rfl rfl ?_
  refine l_ild C dL_law_1206 hl 4 rfl ?_
  refine lv_iconst (v := 1) C.1 C.2.1 dL_law_1208 (by decide) ?_
  refine lv_iadd C.1 C.2.1 dL_law_1209 ?_
  obtain ⟨hi, h⟩ := h
  refine z_scr hsc C I hi dL_law_1210 ?_
  refine l_ald_n C dL_law_1211 hl 0 rfl rfl ?_
  refine l_ild C dL_law_1212 hl 4 rfl ?_
  refine lv_iconst (v := 2) C.1 C.2.1 dL_law_1214 (by decide) ?_
  refine lv_iadd C.1 C.2.1 dL_law_1215 ?_
  obtain ⟨hi, h⟩ := h
  refine z_scr hsc C I hi dL_law_1216 ?_
  refine l_ald_n C dL_law_1217 hl 3 rfl rfl ?_
  obtain ⟨x0, hsub, h⟩ := h
  refine k_sub C I hsub (k_S (As := [va_rf l1, .int (sc ((l4 + (1 : Int32))).toNatClampNeg), .int (sc ((l4 + (2 : Int32))).toNatClampNeg), va_rf l3]) (rest := []) (y := yX0_silence) C q1293 q1294 q99 (Or.inr ⟨_, rfl⟩) q1295 (by decide) rfl pd_X0_silence rfl dL_law_1218) (ct_X0_silence hLf h) hl.1 dL_law_1218 [] rfl (Nat.le_of_ble_eq_true rfl) (Or.inr ⟨_, rfl⟩) q1295 q99 ⟨Nat.le_of_ble_eq_true rfl, Nat.le_of_ble_eq_true rfl⟩ (fun v x1 H locs cells slots hq hxx xG1 I => ?_)
  obtain ⟨r2, rfl, h⟩ := hq
  have h := h _ rfl
  generalize eG1 : jn G x0 x1 = G1 at h I xG1
  refine l_ist C dL_law_1221 hl (by decide) rfl (fun ls hl => ?_)
  have hl : LH ls 7 [(5, .inl r2), (0, .inr (.inl sc0)), (1, .inr (.inl l1)), (2, .inr (.inl l2)), (3, .inr (.inl l3)), (4, .inl l4)] := hl
  refine l_ald_n C dL_law_1223 hl 3 rfl rfl ?_
  refine l_ald_n C dL_law_1224 hl 1 rfl rfl ?_
  refine l_ild C dL_law_1225 hl 5 rfl ?_
  refine lv_iconst (v := 1) C.1 C.2.1 dL_law_1227 (by decide) ?_
  refine lv_iadd C.1 C.2.1 dL_law_1228 ?_
  obtain ⟨hi, h⟩ := h
  refine z_scr hsc C I hi dL_law_1229 ?_
  refine l_ald_n C dL_law_1230 hl 1 rfl rfl ?_
  refine l_ild C dL_law_1231 hl 5 rfl ?_
  refine lv_iconst (v := 2) C.1 C.2.1 dL_law_1233 (by decide) ?_
  refine lv_iadd C.1 C.2.1 dL_law_1234 ?_
  obtain ⟨hi, h⟩ := h
  refine z_scr hsc C I hi dL_law_1235 ?_
  obtain ⟨ho12, h⟩ := h
  obtain ⟨M, hsub, h⟩ := h
  refine k_sub C I hsub (k_V (r := l2) (As := [.int (sc ((l4 + (1 : Int32))).toNatClampNeg), .int (sc ((l4 + (2 : Int32))).toNatClampNeg)]) (rest := []) (y := yX11_silence) C ⟨ho12.ad.1, I.recv C.2.2.2.2.1 ho12 (by decide)⟩ q1869 q1870 q1871 (Or.inl rfl) q1872 (by decide) rfl pd_X11_silence rfl dL_law_1236) (CT.rcv ho12.ad.1 (ct_X11_silence h)) hl.1 dL_law_1236 [] rfl (Nat.le_of_ble_eq_true rfl) (Or.inl rfl) q1872 q113 ⟨Nat.le_of_ble_eq_true rfl, Nat.le_of_ble_eq_true rfl⟩ (fun v x1 H locs cells slots hq hxx xG3 I => ?_)
  obtain ⟨M1, rfl, r4, rfl, h⟩ := hq
  have h := h _ rfl
  generalize eG3 : jn G1 (mG (ad l2) (gZ G1) M) (mG (ad l2) (gZ G1) M1) = G3 at h I xG3
  refine l_ist C dL_law_1239 hl (by decide) rfl (fun ls hl => ?_)
  have hl : LH ls 7 [(6, .inl r4), (5, .inl r2), (0, .inr (.inl sc0)), (1, .inr (.inl l1)), (2, .inr (.inl l2)), (3, .inr (.inl l3)), (4, .inl l4)] := hl
  refine l_ald_n C dL_law_1241 hl 4 rfl rfl ?_
  obtain ⟨ho11, h⟩ := h
  obtain ⟨M, hsub, h⟩ := h
  refine k_sub C I hsub (k_V (r := l2) (As := []) (rest := []) (y := yX11_thrown) C ⟨ho11.ad.1, I.recv C.2.2.2.2.1 ho11 (by decide)⟩ q1587 q1588 q1589 (Or.inl rfl) q1590 (by decide) rfl pd_X11_thrown rfl dL_law_1242) (CT.rcv ho11.ad.1 (ct_X11_thrown h)) hl.1 dL_law_1242 [] rfl (Nat.le_of_ble_eq_true rfl) (Or.inl rfl) q1590 q113 ⟨Nat.le_of_ble_eq_true rfl, Nat.le_of_ble_eq_true rfl⟩ (fun v x1 H locs cells slots hq hxx xG5 I => ?_)
  obtain ⟨M1, rfl, r6, rfl, h⟩ := hq
  have h := h _ rfl
  generalize eG5 : jn G3 (mG (ad l2) (gZ G3) M) (mG (ad l2) (gZ G3) M1) = G5 at h I xG5
  refine l_ild C dL_law_1245 hl 1 rfl ?_
  refine lv_icmp_eq (tgt := 1252) C.1 C.2.1 dL_law_1247 (by decide) (fun c10 => ?_) (fun c10 => ?_)
  · have h := h.1 c10
    refine l_ild C dL_law_1252 hl 1 rfl ?_
    refine lv_if_ne (tgt := 1269) C.1 C.2.1 dL_law_1254 (by decide) (fun c9 => ?_) (fun c9 => ?_)
    · have h := h.1 c9
      exact b_L_law_1269 C hLf hsc hk23 l1 l2 l3 l4 G5 _ _ _ _ _ h I (hl.sub [2, 3, 4, 5, 6] rfl)
    · have h := h.2 c9
      refine l_ald_n C dL_law_1257 hl 5 rfl rfl ?_
      refine lv_iconst (v := 0) C.1 C.2.1 dL_law_1258 (by decide) ?_
      obtain ⟨ho7, h⟩ := h
      obtain ⟨hi, h⟩ := h
      refine a_lald C I ho7 hi dL_law_1259 ?_
      refine l_ild C dL_law_1260 hl 0 rfl ?_
      refine lv_i2l C.1 C.2.1 dL_law_1262 rfl ?_
      refine W.lcmp C.1 C.2.1 dL_law_1263 ?_
      refine lv_if_eq (tgt := 1269) C.1 C.2.1 dL_law_1264 (by decide) (fun c8 => ?_) (fun c8 => ?_)
      · have h := h.1 c8
        exact b_L_law_1269 C hLf hsc hk23 l1 l2 l3 l4 G5 _ _ _ _ _ h I (hl.sub [2, 3, 4, 5, 6] rfl)
      · have h := h.2 c8
        refine lv_iconst (v := 0) C.1 C.2.1 dL_law_1267 (by decide) ?_
        exact r_int C.1 C.2.1 C.2.2.2.2.2.1 rfl C.2.2.2.2.2.2 ⟨rfl, rfl⟩ I dL_law_1268 ⟨_, rfl, h⟩
  · have h := h.2 c10
    refine lv_iconst (v := 0) C.1 C.2.1 dL_law_1250 (by decide) ?_
    exact r_int C.1 C.2.1 C.2.2.2.2.2.1 rfl C.2.2.2.2.2.2 ⟨rfl, rfl⟩ I dL_law_1251 ⟨_, rfl, h⟩
def w_L_law_1337 (T : Nat → ClassId) (Q : Int32 → Hp → Prop) (sc0 : Option Nat) (sc : Nat → Int32) (N : Nat) (k23 : Option Nat → Option Nat → Option Nat → Int32 → Hp → Prop) (l1 : Option Nat) (l2 : Option Nat) (l3 : Option Nat) (l4 : Int32) (G : Hp) : Prop := w_L_law_1631 T Q sc0 sc N k23 l1 l2 l3 l4 G
set_option maxHeartbeats 4000000 in
theorem b_L_law_1337 {G0 : Hp} {Q : Int32 → Hp → Prop} {sc0 : Option Nat} {sc : Nat → Int32} {N : Nat} {k23 : Option Nat → Option Nat → Option Nat → Int32 → Hp → Prop} (C : Cx p s m meth c D T Z "EndingTownLaw" cL_law 7 (some .boolean)) (hLf : l.flags = flags0) (hsc : ∃ a, sc0 = some a ∧ va_X a N sc s Z) (hk23 : ∀ (l1 : Option Nat) (l2 : Option Nat) (l3 : Option Nat) (l4 : Int32) (G : Hp) (H : Heap) (locs : List Loc) (cells slots : Nat) (ls : Array Slot), k23 l1 l2 l3 l4 G → HI (twd D T Z) G0 s (rmX (twd D T Z) 2048 84000 G0) H locs cells slots G → LH ls 7 [(0, .inr (.inl sc0)), (1, .inr (.inl l1)), (2, .inr (.inl l2)), (3, .inr (.inl l3)), (4, .inl l4)] → W p l e (rmX (twd D T Z) 2048 84000 G0) s m args below meth c H locs cells slots (MQX (twd D T Z) G0 (qI Q) (fun _ _ => False) below s) (F0 m 23 ls [])) : ∀ (l1 : Option Nat) (l2 : Option Nat) (l3 : Option Nat) (l4 : Int32) (G : Hp) (H : Heap) (locs : List Loc) (cells slots : Nat) (ls : Array Slot), w_L_law_1337 T Q sc0 sc N k23 l1 l2 l3 l4 G → HI (twd D T Z) G0 s (rmX (twd D T Z) 2048 84000 G0) H locs cells slots G → LH ls 7 [(0, .inr (.inl sc0)), (1, .inr (.inl l1)), (2, .inr (.inl l2)), (3, .inr (.inl l3)), (4, .inl l4)] → W p l e (rmX (twd D T Z) 2048 84000 G0) s m args below meth c H locs cells slots (MQX (twd D T Z) G0 (qI Q) (fun _ _ => False) below s) (F0 m 1337 ls []) := by
  intro l1 l2 l3 l4 G H locs cells slots ls h I hl
  refine lv_goto (tgt := 1631) C.1 C.2.1 dL_law_1337 (by decide) ?_
  exact b_L_law_1631 C hLf hsc hk23 l1 l2 l3 l4 G _ _ _ _ _ h I (hl.sub [0, 1, 2, 3, 4] rfl)
def w_L_law_1272 (T : Nat → ClassId) (Q : Int32 → Hp → Prop) (sc0 : Option Nat) (sc : Nat → Int32) (N : Nat) (k23 : Option Nat → Option Nat → Option Nat → Int32 → Hp → Prop) (l1 : Option Nat) (l2 : Option Nat) (l3 : Option Nat) (l4 : Int32) (G : Hp) : Prop := vp_in ((l4 + (1 : Int32))) N ∧ vp_in ((l4 + (2 : Int32))) N ∧ ∃ x0 : Hp, Sub x0 G ∧ w_X0_likely T (fun r2 x1 => ∀ G1 : Hp, G1 = jn G x0 x1 → (vp_in ((l4 + (1 : Int32))) N ∧ vp_in ((l4 + (2 : Int32))) N ∧ isO G1 l2 19 ∧ ∃ M : MS, Sub (mG (ad l2) (gZ G1) M) G1 ∧ w_X11_likely (fun r4 M1 => ∀ G3 : Hp, G3 = jn G1 (mG (ad l2) (gZ G1) M) (mG (ad l2) (gZ G1) M1) → (isO G3 l2 19 ∧ ∃ M : MS, Sub (mG (ad l2) (gZ G3) M) G3 ∧ w_X11_thrown (fun r6 M1 => ∀ G5 : Hp, G5 = jn G3 (mG (ad l2) (gZ G3) M) (mG (ad l2) (gZ G3) M1) → (((r6 = r2) → (((¬ r2 = 0) → (w_L_law_1337 T Q sc0 sc N k23 l1 l2 l3 l4 G5)) ∧ ((r2 = 0) → (isO G5 l3 53 ∧ vp_in ((0 : Int32)) (gN G5 (ad l3)) ∧ (((lg_cmp (gL G5 (ad l3) ((0 : Int32)).toNatClampNeg) r4.toInt64) = 0) → (w_L_law_1337 T Q sc0 sc N k23 l1 l2 l3 l4 G5)) ∧ ((¬ (lg_cmp (gL G5 (ad l3) ((0 : Int32)).toNatClampNeg) r4.toInt64) = 0) → (Q (0 : Int32) G5)))))) ∧ ((¬ r6 = r2) → (Q (0 : Int32) G5)))) M)) (sc ((l4 + (1 : Int32))).toNatClampNeg) (sc ((l4 + (2 : Int32))).toNatClampNeg) M)) l1 (sc ((l4 + (1 : Int32))).toNatClampNeg) (sc ((l4 + (2 : Int32))).toNatClampNeg) l3 x0
set_option maxHeartbeats 4000000 in
theorem b_L_law_1272 {G0 : Hp} {Q : Int32 → Hp → Prop} {sc0 : Option Nat} {sc : Nat → Int32} {N : Nat} {k23 : Option Nat → Option Nat → Option Nat → Int32 → Hp → Prop} (C : Cx p s m meth c D T Z "EndingTownLaw" cL_law 7 (some .boolean)) (hLf : l.flags = flags0) (hsc : ∃ a, sc0 = some a ∧ va_X a N sc s Z) (hk23 : ∀ (l1 : Option Nat) (l2 : Option Nat) (l3 : Option Nat) (l4 : Int32) (G : Hp) (H : Heap) (locs : List Loc) (cells slots : Nat) (ls : Array Slot), k23 l1 l2 l3 l4 G → HI (twd D T Z) G0 s (rmX (twd D T Z) 2048 84000 G0) H locs cells slots G → LH ls 7 [(0, .inr (.inl sc0)), (1, .inr (.inl l1)), (2, .inr (.inl l2)), (3, .inr (.inl l3)), (4, .inl l4)] → W p l e (rmX (twd D T Z) 2048 84000 G0) s m args below meth c H locs cells slots (MQX (twd D T Z) G0 (qI Q) (fun _ _ => False) below s) (F0 m 23 ls [])) : ∀ (l1 : Option Nat) (l2 : Option Nat) (l3 : Option Nat) (l4 : Int32) (G : Hp) (H : Heap) (locs : List Loc) (cells slots : Nat) (ls : Array Slot), w_L_law_1272 T Q sc0 sc N k23 l1 l2 l3 l4 G → HI (twd D T Z) G0 s (rmX (twd D T Z) 2048 84000 G0) H locs cells slots G → LH ls 7 [(0, .inr (.inl sc0)), (1, .inr (.inl l1)), (2, .inr (.inl l2)), (3, .inr (.inl l3)), (4, .inl l4)] → W p l e (rmX (twd D T Z) 2048 84000 G0) s m args below meth c H locs cells slots (MQX (twd D T Z) G0 (qI Q) (fun _ _ => False) below s) (F0 m 1272 ls []) := by
  intro l1 l2 l3 l4 G H locs cells slots ls h I hl
  refine l_ald_n C dL_law_1272 hl 1 rfl rfl ?_
  refine l_ald_n C dL_law_1273 hl 0 rfl rfl ?_
  refine l_ild C dL_law_1274 hl 4 rfl ?_
  refine lv_iconst (v := 1) C.1 C.2.1 dL_law_1276 (by decide) ?_
  refine lv_iadd C.1 C.2.1 dL_law_1277 ?_
  obtain ⟨hi, h⟩ := h
  refine z_scr hsc C I hi dL_law_1278 ?_
  refine l_ald_n C dL_law_1279 hl 0 rfl rfl ?_
  refine l_ild C dL_law_1280 hl 4 rfl ?_
  refine lv_iconst (v := 2) C.1 C.2.1 dL_law_1282 (by decide) ?_
  refine lv_iadd C.1 C.2.1 dL_law_1283 ?_
  obtain ⟨hi, h⟩ := h
  refine z_scr hsc C I hi dL_law_1284 ?_
  refine l_ald_n C dL_law_1285 hl 3 rfl rfl ?_
  obtain ⟨x0, hsub, h⟩ := h
  refine k_sub C I hsub (k_S (As := [va_rf l1, .int (sc ((l4 + (1 : Int32))).toNatClampNeg), .int (sc ((l4 + (2 : Int32))).toNatClampNeg), va_rf l3]) (rest := []) (y := yX0_likely) C q1300 q1301 q99 (Or.inr ⟨_, rfl⟩) q1302 (by decide) rfl pd_X0_likely rfl dL_law_1286) (ct_X0_likely hLf h) hl.1 dL_law_1286 [] rfl (Nat.le_of_ble_eq_true rfl) (Or.inr ⟨_, rfl⟩) q1302 q99 ⟨Nat.le_of_ble_eq_true rfl, Nat.le_of_ble_eq_true rfl⟩ (fun v x1 H locs cells slots hq hxx xG1 I => ?_)
  obtain ⟨r2, rfl, h⟩ := hq
  have h := h _ rfl
  generalize eG1 : jn G x0 x1 = G1 at h I xG1
  refine l_ist C dL_law_1289 hl (by decide) rfl (fun ls hl => ?_)
  have hl : LH ls 7 [(5, .inl r2), (0, .inr (.inl sc0)), (1, .inr (.inl l1)), (2, .inr (.inl l2)), (3, .inr (.inl l3)), (4, .inl l4)] := hl
  refine l_ald_n C dL_law_1291 hl 3 rfl rfl ?_
  refine l_ald_n C dL_law_1292 hl 1 rfl rfl ?_
  refine l_ild C dL_law_1293 hl 5 rfl ?_
  refine lv_iconst (v := 1) C.1 C.2.1 dL_law_1295 (by decide) ?_
  refine lv_iadd C.1 C.2.1 dL_law_1296 ?_
  obtain ⟨hi, h⟩ := h
  refine z_scr hsc C I hi dL_law_1297 ?_
  refine l_ald_n C dL_law_1298 hl 1 rfl rfl ?_
  refine l_ild C dL_law_1299 hl 5 rfl ?_
  refine lv_iconst (v := 2) C.1 C.2.1 dL_law_1301 (by decide) ?_
  refine lv_iadd C.1 C.2.1 dL_law_1302 ?_
  obtain ⟨hi, h⟩ := h
  refine z_scr hsc C I hi dL_law_1303 ?_
  obtain ⟨ho12, h⟩ := h
  obtain ⟨M, hsub, h⟩ := h
  refine k_sub C I hsub (k_V (r := l2) (As := [.int (sc ((l4 + (1 : Int32))).toNatClampNeg), .int (sc ((l4 + (2 : Int32))).toNatClampNeg)]) (rest := []) (y := yX11_likely) C ⟨ho12.ad.1, I.recv C.2.2.2.2.1 ho12 (by decide)⟩ q1873 q1874 q1875 (Or.inl rfl) q1876 (by decide) rfl pd_X11_likely rfl dL_law_1304) (CT.rcv ho12.ad.1 (ct_X11_likely h)) hl.1 dL_law_1304 [] rfl (Nat.le_of_ble_eq_true rfl) (Or.inl rfl) q1876 q113 ⟨Nat.le_of_ble_eq_true rfl, Nat.le_of_ble_eq_true rfl⟩ (fun v x1 H locs cells slots hq hxx xG3 I => ?_)
  obtain ⟨M1, rfl, r4, rfl, h⟩ := hq
  have h := h _ rfl
  generalize eG3 : jn G1 (mG (ad l2) (gZ G1) M) (mG (ad l2) (gZ G1) M1) = G3 at h I xG3
  refine l_ist C dL_law_1307 hl (by decide) rfl (fun ls hl => ?_)
  have hl : LH ls 7 [(6, .inl r4), (5, .inl r2), (0, .inr (.inl sc0)), (1, .inr (.inl l1)), (2, .inr (.inl l2)), (3, .inr (.inl l3)), (4, .inl l4)] := hl
  refine l_ald_n C dL_law_1309 hl 4 rfl rfl ?_
  obtain ⟨ho11, h⟩ := h
  obtain ⟨M, hsub, h⟩ := h
  refine k_sub C I hsub (k_V (r := l2) (As := []) (rest := []) (y := yX11_thrown) C ⟨ho11.ad.1, I.recv C.2.2.2.2.1 ho11 (by decide)⟩ q1587 q1588 q1589 (Or.inl rfl) q1590 (by decide) rfl pd_X11_thrown rfl dL_law_1310) (CT.rcv ho11.ad.1 (ct_X11_thrown h)) hl.1 dL_law_1310 [] rfl (Nat.le_of_ble_eq_true rfl) (Or.inl rfl) q1590 q113 ⟨Nat.le_of_ble_eq_true rfl, Nat.le_of_ble_eq_true rfl⟩ (fun v x1 H locs cells slots hq hxx xG5 I => ?_)
  obtain ⟨M1, rfl, r6, rfl, h⟩ := hq
  have h := h _ rfl
  generalize eG5 : jn G3 (mG (ad l2) (gZ G3) M) (mG (ad l2) (gZ G3) M1) = G5 at h I xG5
  refine l_ild C dL_law_1313 hl 1 rfl ?_
  refine lv_icmp_eq (tgt := 1320) C.1 C.2.1 dL_law_1315 (by decide) (fun c10 => ?_) (fun c10 => ?_)
  · have h := h.1 c10
    refine l_ild C dL_law_1320 hl 1 rfl ?_
    refine lv_if_ne (tgt := 1337) C.1 C.2.1 dL_law_1322 (by decide) (fun c9 => ?_) (fun c9 => ?_)
    · have h := h.1 c9
      exact b_L_law_1337 C hLf hsc hk23 l1 l2 l3 l4 G5 _ _ _ _ _ h I (hl.sub [2, 3, 4, 5, 6] rfl)
    · have h := h.2 c9
      refine l_ald_n C dL_law_1325 hl 5 rfl rfl ?_
      refine lv_iconst (v := 0) C.1 C.2.1 dL_law_1326 (by decide) ?_
      obtain ⟨ho7, h⟩ := h
      obtain ⟨hi, h⟩ := h
      refine a_lald C I ho7 hi dL_law_1327 ?_
      refine l_ild C dL_law_1328 hl 0 rfl ?_
      refine lv_i2l C.1 C.2.1 dL_law_1330 rfl ?_
      refine W.lcmp C.1 C.2.1 dL_law_1331 ?_
      refine lv_if_eq (tgt := 1337) C.1 C.2.1 dL_law_1332 (by decide) (fun c8 => ?_) (fun c8 => ?_)
      · have h := h.1 c8
        exact b_L_law_1337 C hLf hsc hk23 l1 l2 l3 l4 G5 _ _ _ _ _ h I (hl.sub [2, 3, 4, 5, 6] rfl)
      · have h := h.2 c8
        refine lv_iconst (v := 0) C.1 C.2.1 dL_law_1335 (by decide) ?_
        exact r_int C.1 C.2.1 C.2.2.2.2.2.1 rfl C.2.2.2.2.2.2 ⟨rfl, rfl⟩ I dL_law_1336 ⟨_, rfl, h⟩
  · have h := h.2 c10
    refine lv_iconst (v := 0) C.1 C.2.1 dL_law_1318 (by decide) ?_
    exact r_int C.1 C.2.1 C.2.2.2.2.2.1 rfl C.2.2.2.2.2.2 ⟨rfl, rfl⟩ I dL_law_1319 ⟨_, rfl, h⟩
def w_L_law_1393 (T : Nat → ClassId) (Q : Int32 → Hp → Prop) (sc0 : Option Nat) (sc : Nat → Int32) (N : Nat) (k23 : Option Nat → Option Nat → Option Nat → Int32 → Hp → Prop) (l1 : Option Nat) (l2 : Option Nat) (l3 : Option Nat) (l4 : Int32) (G : Hp) : Prop := w_L_law_1631 T Q sc0 sc N k23 l1 l2 l3 l4 G
set_option maxHeartbeats 4000000 in
theorem b_L_law_1393 {G0 : Hp} {Q : Int32 → Hp → Prop} {sc0 : Option Nat} {sc : Nat → Int32} {N : Nat} {k23 : Option Nat → Option Nat → Option Nat → Int32 → Hp → Prop} (C : Cx p s m meth c D T Z "EndingTownLaw" cL_law 7 (some .boolean)) (hLf : l.flags = flags0) (hsc : ∃ a, sc0 = some a ∧ va_X a N sc s Z) (hk23 : ∀ (l1 : Option Nat) (l2 : Option Nat) (l3 : Option Nat) (l4 : Int32) (G : Hp) (H : Heap) (locs : List Loc) (cells slots : Nat) (ls : Array Slot), k23 l1 l2 l3 l4 G → HI (twd D T Z) G0 s (rmX (twd D T Z) 2048 84000 G0) H locs cells slots G → LH ls 7 [(0, .inr (.inl sc0)), (1, .inr (.inl l1)), (2, .inr (.inl l2)), (3, .inr (.inl l3)), (4, .inl l4)] → W p l e (rmX (twd D T Z) 2048 84000 G0) s m args below meth c H locs cells slots (MQX (twd D T Z) G0 (qI Q) (fun _ _ => False) below s) (F0 m 23 ls [])) : ∀ (l1 : Option Nat) (l2 : Option Nat) (l3 : Option Nat) (l4 : Int32) (G : Hp) (H : Heap) (locs : List Loc) (cells slots : Nat) (ls : Array Slot), w_L_law_1393 T Q sc0 sc N k23 l1 l2 l3 l4 G → HI (twd D T Z) G0 s (rmX (twd D T Z) 2048 84000 G0) H locs cells slots G → LH ls 7 [(0, .inr (.inl sc0)), (1, .inr (.inl l1)), (2, .inr (.inl l2)), (3, .inr (.inl l3)), (4, .inl l4)] → W p l e (rmX (twd D T Z) 2048 84000 G0) s m args below meth c H locs cells slots (MQX (twd D T Z) G0 (qI Q) (fun _ _ => False) below s) (F0 m 1393 ls []) := by
  intro l1 l2 l3 l4 G H locs cells slots ls h I hl
  refine lv_goto (tgt := 1631) C.1 C.2.1 dL_law_1393 (by decide) ?_
  exact b_L_law_1631 C hLf hsc hk23 l1 l2 l3 l4 G _ _ _ _ _ h I (hl.sub [0, 1, 2, 3, 4] rfl)
def w_L_law_1340 (T : Nat → ClassId) (Q : Int32 → Hp → Prop) (sc0 : Option Nat) (sc : Nat → Int32) (N : Nat) (k23 : Option Nat → Option Nat → Option Nat → Int32 → Hp → Prop) (l1 : Option Nat) (l2 : Option Nat) (l3 : Option Nat) (l4 : Int32) (G : Hp) : Prop := vp_in ((l4 + (1 : Int32))) N ∧ ∃ x0 : Hp, Sub x0 G ∧ w_X0_worlds T (fun r2 x1 => ∀ G1 : Hp, G1 = jn G x0 x1 → (vp_in ((l4 + (1 : Int32))) N ∧ isO G1 l2 19 ∧ ∃ M : MS, Sub (mG (ad l2) (gZ G1) M) G1 ∧ w_X11_worlds (fun r4 M1 => ∀ G3 : Hp, G3 = jn G1 (mG (ad l2) (gZ G1) M) (mG (ad l2) (gZ G1) M1) → (isO G3 l2 19 ∧ ∃ M : MS, Sub (mG (ad l2) (gZ G3) M) G3 ∧ w_X11_thrown (fun r6 M1 => ∀ G5 : Hp, G5 = jn G3 (mG (ad l2) (gZ G3) M) (mG (ad l2) (gZ G3) M1) → (((r6 = r2) → (((¬ r2 = 0) → (w_L_law_1393 T Q sc0 sc N k23 l1 l2 l3 l4 G5)) ∧ ((r2 = 0) → (isO G5 l3 53 ∧ vp_in ((0 : Int32)) (gN G5 (ad l3)) ∧ (((lg_cmp (gL G5 (ad l3) ((0 : Int32)).toNatClampNeg) r4.toInt64) = 0) → (w_L_law_1393 T Q sc0 sc N k23 l1 l2 l3 l4 G5)) ∧ ((¬ (lg_cmp (gL G5 (ad l3) ((0 : Int32)).toNatClampNeg) r4.toInt64) = 0) → (Q (0 : Int32) G5)))))) ∧ ((¬ r6 = r2) → (Q (0 : Int32) G5)))) M)) (sc ((l4 + (1 : Int32))).toNatClampNeg) M)) l1 (sc ((l4 + (1 : Int32))).toNatClampNeg) l3 x0
set_option maxHeartbeats 4000000 in
theorem b_L_law_1340 {G0 : Hp} {Q : Int32 → Hp → Prop} {sc0 : Option Nat} {sc : Nat → Int32} {N : Nat} {k23 : Option Nat → Option Nat → Option Nat → Int32 → Hp → Prop} (C : Cx p s m meth c D T Z "EndingTownLaw" cL_law 7 (some .boolean)) (hLf : l.flags = flags0) (hsc : ∃ a, sc0 = some a ∧ va_X a N sc s Z) (hk23 : ∀ (l1 : Option Nat) (l2 : Option Nat) (l3 : Option Nat) (l4 : Int32) (G : Hp) (H : Heap) (locs : List Loc) (cells slots : Nat) (ls : Array Slot), k23 l1 l2 l3 l4 G → HI (twd D T Z) G0 s (rmX (twd D T Z) 2048 84000 G0) H locs cells slots G → LH ls 7 [(0, .inr (.inl sc0)), (1, .inr (.inl l1)), (2, .inr (.inl l2)), (3, .inr (.inl l3)), (4, .inl l4)] → W p l e (rmX (twd D T Z) 2048 84000 G0) s m args below meth c H locs cells slots (MQX (twd D T Z) G0 (qI Q) (fun _ _ => False) below s) (F0 m 23 ls [])) : ∀ (l1 : Option Nat) (l2 : Option Nat) (l3 : Option Nat) (l4 : Int32) (G : Hp) (H : Heap) (locs : List Loc) (cells slots : Nat) (ls : Array Slot), w_L_law_1340 T Q sc0 sc N k23 l1 l2 l3 l4 G → HI (twd D T Z) G0 s (rmX (twd D T Z) 2048 84000 G0) H locs cells slots G → LH ls 7 [(0, .inr (.inl sc0)), (1, .inr (.inl l1)), (2, .inr (.inl l2)), (3, .inr (.inl l3)), (4, .inl l4)] → W p l e (rmX (twd D T Z) 2048 84000 G0) s m args below meth c H locs cells slots (MQX (twd D T Z) G0 (qI Q) (fun _ _ => False) below s) (F0 m 1340 ls []) := by
  intro l1 l2 l3 l4 G H locs cells slots ls h I hl
  refine l_ald_n C dL_law_1340 hl 1 rfl rfl ?_
  refine l_ald_n C dL_law_1341 hl 0 rfl rfl ?_
  refine l_ild C dL_law_1342 hl 4 rfl ?_
  refine lv_iconst (v := 1) C.1 C.2.1 dL_law_1344 (by decide) ?_
  refine lv_iadd C.1 C.2.1 dL_law_1345 ?_
  obtain ⟨hi, h⟩ := h
  refine z_scr hsc C I hi dL_law_1346 ?_
  refine l_ald_n C dL_law_1347 hl 3 rfl rfl ?_
  obtain ⟨x0, hsub, h⟩ := h
  refine k_sub C I hsub (k_S (As := [va_rf l1, .int (sc ((l4 + (1 : Int32))).toNatClampNeg), va_rf l3]) (rest := []) (y := yX0_worlds) C q1309 q1310 q99 (Or.inr ⟨_, rfl⟩) q1311 (by decide) rfl pd_X0_worlds rfl dL_law_1348) (ct_X0_worlds hLf h) hl.1 dL_law_1348 [] rfl (Nat.le_of_ble_eq_true rfl) (Or.inr ⟨_, rfl⟩) q1311 q99 ⟨Nat.le_of_ble_eq_true rfl, Nat.le_of_ble_eq_true rfl⟩ (fun v x1 H locs cells slots hq hxx xG1 I => ?_)
  obtain ⟨r2, rfl, h⟩ := hq
  have h := h _ rfl
  generalize eG1 : jn G x0 x1 = G1 at h I xG1
  refine l_ist C dL_law_1351 hl (by decide) rfl (fun ls hl => ?_)
  have hl : LH ls 7 [(5, .inl r2), (0, .inr (.inl sc0)), (1, .inr (.inl l1)), (2, .inr (.inl l2)), (3, .inr (.inl l3)), (4, .inl l4)] := hl
  refine l_ald_n C dL_law_1353 hl 3 rfl rfl ?_
  refine l_ald_n C dL_law_1354 hl 1 rfl rfl ?_
  refine l_ild C dL_law_1355 hl 5 rfl ?_
  refine lv_iconst (v := 1) C.1 C.2.1 dL_law_1357 (by decide) ?_
  refine lv_iadd C.1 C.2.1 dL_law_1358 ?_
  obtain ⟨hi, h⟩ := h
  refine z_scr hsc C I hi dL_law_1359 ?_
  obtain ⟨ho12, h⟩ := h
  obtain ⟨M, hsub, h⟩ := h
  refine k_sub C I hsub (k_V (r := l2) (As := [.int (sc ((l4 + (1 : Int32))).toNatClampNeg)]) (rest := []) (y := yX11_worlds) C ⟨ho12.ad.1, I.recv C.2.2.2.2.1 ho12 (by decide)⟩ q1879 q1880 q1881 (Or.inl rfl) q1882 (by decide) rfl pd_X11_worlds rfl dL_law_1360) (CT.rcv ho12.ad.1 (ct_X11_worlds h)) hl.1 dL_law_1360 [] rfl (Nat.le_of_ble_eq_true rfl) (Or.inl rfl) q1882 q113 ⟨Nat.le_of_ble_eq_true rfl, Nat.le_of_ble_eq_true rfl⟩ (fun v x1 H locs cells slots hq hxx xG3 I => ?_)
  obtain ⟨M1, rfl, r4, rfl, h⟩ := hq
  have h := h _ rfl
  generalize eG3 : jn G1 (mG (ad l2) (gZ G1) M) (mG (ad l2) (gZ G1) M1) = G3 at h I xG3
  refine l_ist C dL_law_1363 hl (by decide) rfl (fun ls hl => ?_)
  have hl : LH ls 7 [(6, .inl r4), (5, .inl r2), (0, .inr (.inl sc0)), (1, .inr (.inl l1)), (2, .inr (.inl l2)), (3, .inr (.inl l3)), (4, .inl l4)] := hl
  refine l_ald_n C dL_law_1365 hl 4 rfl rfl ?_
  obtain ⟨ho11, h⟩ := h
  obtain ⟨M, hsub, h⟩ := h
  refine k_sub C I hsub (k_V (r := l2) (As := []) (rest := []) (y := yX11_thrown) C ⟨ho11.ad.1, I.recv C.2.2.2.2.1 ho11 (by decide)⟩ q1587 q1588 q1589 (Or.inl rfl) q1590 (by decide) rfl pd_X11_thrown rfl dL_law_1366) (CT.rcv ho11.ad.1 (ct_X11_thrown h)) hl.1 dL_law_1366 [] rfl (Nat.le_of_ble_eq_true rfl) (Or.inl rfl) q1590 q113 ⟨Nat.le_of_ble_eq_true rfl, Nat.le_of_ble_eq_true rfl⟩ (fun v x1 H locs cells slots hq hxx xG5 I => ?_)
  obtain ⟨M1, rfl, r6, rfl, h⟩ := hq
  have h := h _ rfl
  generalize eG5 : jn G3 (mG (ad l2) (gZ G3) M) (mG (ad l2) (gZ G3) M1) = G5 at h I xG5
  refine l_ild C dL_law_1369 hl 1 rfl ?_
  refine lv_icmp_eq (tgt := 1376) C.1 C.2.1 dL_law_1371 (by decide) (fun c10 => ?_) (fun c10 => ?_)
  · have h := h.1 c10
    refine l_ild C dL_law_1376 hl 1 rfl ?_
    refine lv_if_ne (tgt := 1393) C.1 C.2.1 dL_law_1378 (by decide) (fun c9 => ?_) (fun c9 => ?_)
    · have h := h.1 c9
      exact b_L_law_1393 C hLf hsc hk23 l1 l2 l3 l4 G5 _ _ _ _ _ h I (hl.sub [2, 3, 4, 5, 6] rfl)
    · have h := h.2 c9
      refine l_ald_n C dL_law_1381 hl 5 rfl rfl ?_
      refine lv_iconst (v := 0) C.1 C.2.1 dL_law_1382 (by decide) ?_
      obtain ⟨ho7, h⟩ := h
      obtain ⟨hi, h⟩ := h
      refine a_lald C I ho7 hi dL_law_1383 ?_
      refine l_ild C dL_law_1384 hl 0 rfl ?_
      refine lv_i2l C.1 C.2.1 dL_law_1386 rfl ?_
      refine W.lcmp C.1 C.2.1 dL_law_1387 ?_
      refine lv_if_eq (tgt := 1393) C.1 C.2.1 dL_law_1388 (by decide) (fun c8 => ?_) (fun c8 => ?_)
      · have h := h.1 c8
        exact b_L_law_1393 C hLf hsc hk23 l1 l2 l3 l4 G5 _ _ _ _ _ h I (hl.sub [2, 3, 4, 5, 6] rfl)
      · have h := h.2 c8
        refine lv_iconst (v := 0) C.1 C.2.1 dL_law_1391 (by decide) ?_
        exact r_int C.1 C.2.1 C.2.2.2.2.2.1 rfl C.2.2.2.2.2.2 ⟨rfl, rfl⟩ I dL_law_1392 ⟨_, rfl, h⟩
  · have h := h.2 c10
    refine lv_iconst (v := 0) C.1 C.2.1 dL_law_1374 (by decide) ?_
    exact r_int C.1 C.2.1 C.2.2.2.2.2.1 rfl C.2.2.2.2.2.2 ⟨rfl, rfl⟩ I dL_law_1375 ⟨_, rfl, h⟩
def w_L_law_1489 (T : Nat → ClassId) (Q : Int32 → Hp → Prop) (sc0 : Option Nat) (sc : Nat → Int32) (N : Nat) (k23 : Option Nat → Option Nat → Option Nat → Int32 → Hp → Prop) (l1 : Option Nat) (l2 : Option Nat) (l3 : Option Nat) (l4 : Int32) (G : Hp) : Prop := w_L_law_1631 T Q sc0 sc N k23 l1 l2 l3 l4 G
set_option maxHeartbeats 4000000 in
theorem b_L_law_1489 {G0 : Hp} {Q : Int32 → Hp → Prop} {sc0 : Option Nat} {sc : Nat → Int32} {N : Nat} {k23 : Option Nat → Option Nat → Option Nat → Int32 → Hp → Prop} (C : Cx p s m meth c D T Z "EndingTownLaw" cL_law 7 (some .boolean)) (hLf : l.flags = flags0) (hsc : ∃ a, sc0 = some a ∧ va_X a N sc s Z) (hk23 : ∀ (l1 : Option Nat) (l2 : Option Nat) (l3 : Option Nat) (l4 : Int32) (G : Hp) (H : Heap) (locs : List Loc) (cells slots : Nat) (ls : Array Slot), k23 l1 l2 l3 l4 G → HI (twd D T Z) G0 s (rmX (twd D T Z) 2048 84000 G0) H locs cells slots G → LH ls 7 [(0, .inr (.inl sc0)), (1, .inr (.inl l1)), (2, .inr (.inl l2)), (3, .inr (.inl l3)), (4, .inl l4)] → W p l e (rmX (twd D T Z) 2048 84000 G0) s m args below meth c H locs cells slots (MQX (twd D T Z) G0 (qI Q) (fun _ _ => False) below s) (F0 m 23 ls [])) : ∀ (l1 : Option Nat) (l2 : Option Nat) (l3 : Option Nat) (l4 : Int32) (G : Hp) (H : Heap) (locs : List Loc) (cells slots : Nat) (ls : Array Slot), w_L_law_1489 T Q sc0 sc N k23 l1 l2 l3 l4 G → HI (twd D T Z) G0 s (rmX (twd D T Z) 2048 84000 G0) H locs cells slots G → LH ls 7 [(0, .inr (.inl sc0)), (1, .inr (.inl l1)), (2, .inr (.inl l2)), (3, .inr (.inl l3)), (4, .inl l4)] → W p l e (rmX (twd D T Z) 2048 84000 G0) s m args below meth c H locs cells slots (MQX (twd D T Z) G0 (qI Q) (fun _ _ => False) below s) (F0 m 1489 ls []) := by
  intro l1 l2 l3 l4 G H locs cells slots ls h I hl
  refine lv_goto (tgt := 1631) C.1 C.2.1 dL_law_1489 (by decide) ?_
  exact b_L_law_1631 C hLf hsc hk23 l1 l2 l3 l4 G _ _ _ _ _ h I (hl.sub [0, 1, 2, 3, 4] rfl)
def w_L_law_1456 (T : Nat → ClassId) (Q : Int32 → Hp → Prop) (sc0 : Option Nat) (sc : Nat → Int32) (N : Nat) (k23 : Option Nat → Option Nat → Option Nat → Int32 → Hp → Prop) (l1 : Option Nat) (l2 : Option Nat) (l3 : Option Nat) (l4 : Int32) (l5 : Int32) (t0 : Int32) (t1 : Int32) (t2 : Int32) (t3 : Option Nat) (G : Hp) : Prop := isO G t3 19 ∧ ∃ M : MS, Sub (mG (ad t3) (gZ G) M) G ∧ w_X11_tell (fun r2 M1 => ∀ G1 : Hp, G1 = jn G (mG (ad t3) (gZ G) M) (mG (ad t3) (gZ G) M1) → (isO G1 l2 19 ∧ ∃ M : MS, Sub (mG (ad l2) (gZ G1) M) G1 ∧ w_X11_thrown (fun r4 M1 => ∀ G3 : Hp, G3 = jn G1 (mG (ad l2) (gZ G1) M) (mG (ad l2) (gZ G1) M1) → (((r4 = l5) → (((¬ l5 = 0) → (w_L_law_1489 T Q sc0 sc N k23 l1 l2 l3 l4 G3)) ∧ ((l5 = 0) → (isO G3 l3 53 ∧ vp_in ((0 : Int32)) (gN G3 (ad l3)) ∧ (((lg_cmp (gL G3 (ad l3) ((0 : Int32)).toNatClampNeg) r2.toInt64) = 0) → (w_L_law_1489 T Q sc0 sc N k23 l1 l2 l3 l4 G3)) ∧ ((¬ (lg_cmp (gL G3 (ad l3) ((0 : Int32)).toNatClampNeg) r2.toInt64) = 0) → (Q (0 : Int32) G3)))))) ∧ ((¬ r4 = l5) → (Q (0 : Int32) G3)))) M)) t2 t1 t0 M
set_option maxHeartbeats 4000000 in
theorem b_L_law_1456 {G0 : Hp} {Q : Int32 → Hp → Prop} {sc0 : Option Nat} {sc : Nat → Int32} {N : Nat} {k23 : Option Nat → Option Nat → Option Nat → Int32 → Hp → Prop} (C : Cx p s m meth c D T Z "EndingTownLaw" cL_law 7 (some .boolean)) (hLf : l.flags = flags0) (hsc : ∃ a, sc0 = some a ∧ va_X a N sc s Z) (hk23 : ∀ (l1 : Option Nat) (l2 : Option Nat) (l3 : Option Nat) (l4 : Int32) (G : Hp) (H : Heap) (locs : List Loc) (cells slots : Nat) (ls : Array Slot), k23 l1 l2 l3 l4 G → HI (twd D T Z) G0 s (rmX (twd D T Z) 2048 84000 G0) H locs cells slots G → LH ls 7 [(0, .inr (.inl sc0)), (1, .inr (.inl l1)), (2, .inr (.inl l2)), (3, .inr (.inl l3)), (4, .inl l4)] → W p l e (rmX (twd D T Z) 2048 84000 G0) s m args below meth c H locs cells slots (MQX (twd D T Z) G0 (qI Q) (fun _ _ => False) below s) (F0 m 23 ls [])) : ∀ (l1 : Option Nat) (l2 : Option Nat) (l3 : Option Nat) (l4 : Int32) (l5 : Int32) (t0 : Int32) (t1 : Int32) (t2 : Int32) (t3 : Option Nat) (G : Hp) (H : Heap) (locs : List Loc) (cells slots : Nat) (ls : Array Slot), w_L_law_1456 T Q sc0 sc N k23 l1 l2 l3 l4 l5 t0 t1 t2 t3 G → HI (twd D T Z) G0 s (rmX (twd D T Z) 2048 84000 G0) H locs cells slots G → LH ls 7 [(0, .inr (.inl sc0)), (1, .inr (.inl l1)), (2, .inr (.inl l2)), (3, .inr (.inl l3)), (4, .inl l4), (5, .inl l5)] → W p l e (rmX (twd D T Z) 2048 84000 G0) s m args below meth c H locs cells slots (MQX (twd D T Z) G0 (qI Q) (fun _ _ => False) below s) (F0 m 1456 ls [.int t0, .int t1, .int t2, va_rf t3]) := by
  intro l1 l2 l3 l4 l5 t0 t1 t2 t3 G H locs cells slots ls h I hl
  obtain ⟨ho10, h⟩ := h
  obtain ⟨M, hsub, h⟩ := h
  refine k_sub C I hsub (k_V (r := t3) (As := [.int t2, .int t1, .int t0]) (rest := []) (y := yX11_tell) C ⟨ho10.ad.1, I.recv C.2.2.2.2.1 ho10 (by decide)⟩ q1883 q1884 q1885 (Or.inl rfl) q1886 (by decide) rfl pd_X11_tell rfl dL_law_1456) (CT.rcv ho10.ad.1 (ct_X11_tell h)) hl.1 dL_law_1456 [] rfl (Nat.le_of_ble_eq_true rfl) (Or.inl rfl) q1886 q113 ⟨Nat.le_of_ble_eq_true rfl, Nat.le_of_ble_eq_true rfl⟩ (fun v x1 H locs cells slots hq hxx xG1 I => ?_)
  obtain ⟨M1, rfl, r2, rfl, h⟩ := hq
  have h := h _ rfl
  generalize eG1 : jn G (mG (ad t3) (gZ G) M) (mG (ad t3) (gZ G) M1) = G1 at h I xG1
  refine l_ist C dL_law_1459 hl (by decide) rfl (fun ls hl => ?_)
  have hl : LH ls 7 [(6, .inl r2), (0, .inr (.inl sc0)), (1, .inr (.inl l1)), (2, .inr (.inl l2)), (3, .inr (.inl l3)), (4, .inl l4), (5, .inl l5)] := hl
  refine l_ald_n C dL_law_1461 hl 3 rfl rfl ?_
  obtain ⟨ho9, h⟩ := h
  obtain ⟨M, hsub, h⟩ := h
  refine k_sub C I hsub (k_V (r := l2) (As := []) (rest := []) (y := yX11_thrown) C ⟨ho9.ad.1, I.recv C.2.2.2.2.1 ho9 (by decide)⟩ q1587 q1588 q1589 (Or.inl rfl) q1590 (by decide) rfl pd_X11_thrown rfl dL_law_1462) (CT.rcv ho9.ad.1 (ct_X11_thrown h)) hl.1 dL_law_1462 [] rfl (Nat.le_of_ble_eq_true rfl) (Or.inl rfl) q1590 q113 ⟨Nat.le_of_ble_eq_true rfl, Nat.le_of_ble_eq_true rfl⟩ (fun v x1 H locs cells slots hq hxx xG3 I => ?_)
  obtain ⟨M1, rfl, r4, rfl, h⟩ := hq
  have h := h _ rfl
  generalize eG3 : jn G1 (mG (ad l2) (gZ G1) M) (mG (ad l2) (gZ G1) M1) = G3 at h I xG3
  refine l_ild C dL_law_1465 hl 6 rfl ?_
  refine lv_icmp_eq (tgt := 1472) C.1 C.2.1 dL_law_1467 (by decide) (fun c8 => ?_) (fun c8 => ?_)
  · have h := h.1 c8
    refine l_ild C dL_law_1472 hl 6 rfl ?_
    refine lv_if_ne (tgt := 1489) C.1 C.2.1 dL_law_1474 (by decide) (fun c7 => ?_) (fun c7 => ?_)
    · have h := h.1 c7
      exact b_L_law_1489 C hLf hsc hk23 l1 l2 l3 l4 G3 _ _ _ _ _ h I (hl.sub [1, 2, 3, 4, 5] rfl)
    · have h := h.2 c7
      refine l_ald_n C dL_law_1477 hl 4 rfl rfl ?_
      refine lv_iconst (v := 0) C.1 C.2.1 dL_law_1478 (by decide) ?_
      obtain ⟨ho5, h⟩ := h
      obtain ⟨hi, h⟩ := h
      refine a_lald C I ho5 hi dL_law_1479 ?_
      refine l_ild C dL_law_1480 hl 0 rfl ?_
      refine lv_i2l C.1 C.2.1 dL_law_1482 rfl ?_
      refine W.lcmp C.1 C.2.1 dL_law_1483 ?_
      refine lv_if_eq (tgt := 1489) C.1 C.2.1 dL_law_1484 (by decide) (fun c6 => ?_) (fun c6 => ?_)
      · have h := h.1 c6
        exact b_L_law_1489 C hLf hsc hk23 l1 l2 l3 l4 G3 _ _ _ _ _ h I (hl.sub [1, 2, 3, 4, 5] rfl)
      · have h := h.2 c6
        refine lv_iconst (v := 0) C.1 C.2.1 dL_law_1487 (by decide) ?_
        exact r_int C.1 C.2.1 C.2.2.2.2.2.1 rfl C.2.2.2.2.2.2 ⟨rfl, rfl⟩ I dL_law_1488 ⟨_, rfl, h⟩
  · have h := h.2 c8
    refine lv_iconst (v := 0) C.1 C.2.1 dL_law_1470 (by decide) ?_
    exact r_int C.1 C.2.1 C.2.2.2.2.2.1 rfl C.2.2.2.2.2.2 ⟨rfl, rfl⟩ I dL_law_1471 ⟨_, rfl, h⟩
def w_L_law_1423 (T : Nat → ClassId) (Q : Int32 → Hp → Prop) (sc0 : Option Nat) (sc : Nat → Int32) (N : Nat) (k23 : Option Nat → Option Nat → Option Nat → Int32 → Hp → Prop) (l1 : Option Nat) (l2 : Option Nat) (l3 : Option Nat) (l4 : Int32) (t0 : Int32) (t1 : Int32) (t2 : Int32) (t3 : Option Nat) (G : Hp) : Prop := ∃ x0 : Hp, Sub x0 G ∧ w_X0_tell T (fun r2 x1 => ∀ G1 : Hp, G1 = jn G x0 x1 → (vp_in ((l4 + (1 : Int32))) N ∧ vp_in ((l4 + (2 : Int32))) N ∧ vp_in ((l4 + (3 : Int32))) N ∧ ((sc ((l4 + (3 : Int32))).toNatClampNeg = 0) → (w_L_law_1456 T Q sc0 sc N k23 l1 l2 l3 l4 r2 ((0 : Int32)) (sc ((l4 + (2 : Int32))).toNatClampNeg) (sc ((l4 + (1 : Int32))).toNatClampNeg) l2 G1)) ∧ ((¬ sc ((l4 + (3 : Int32))).toNatClampNeg = 0) → (w_L_law_1456 T Q sc0 sc N k23 l1 l2 l3 l4 r2 ((1 : Int32)) (sc ((l4 + (2 : Int32))).toNatClampNeg) (sc ((l4 + (1 : Int32))).toNatClampNeg) l2 G1)))) t3 t2 t1 t0 l3 x0
set_option maxHeartbeats 4000000 in
theorem b_L_law_1423 {G0 : Hp} {Q : Int32 → Hp → Prop} {sc0 : Option Nat} {sc : Nat → Int32} {N : Nat} {k23 : Option Nat → Option Nat → Option Nat → Int32 → Hp → Prop} (C : Cx p s m meth c D T Z "EndingTownLaw" cL_law 7 (some .boolean)) (hLf : l.flags = flags0) (hsc : ∃ a, sc0 = some a ∧ va_X a N sc s Z) (hk23 : ∀ (l1 : Option Nat) (l2 : Option Nat) (l3 : Option Nat) (l4 : Int32) (G : Hp) (H : Heap) (locs : List Loc) (cells slots : Nat) (ls : Array Slot), k23 l1 l2 l3 l4 G → HI (twd D T Z) G0 s (rmX (twd D T Z) 2048 84000 G0) H locs cells slots G → LH ls 7 [(0, .inr (.inl sc0)), (1, .inr (.inl l1)), (2, .inr (.inl l2)), (3, .inr (.inl l3)), (4, .inl l4)] → W p l e (rmX (twd D T Z) 2048 84000 G0) s m args below meth c H locs cells slots (MQX (twd D T Z) G0 (qI Q) (fun _ _ => False) below s) (F0 m 23 ls [])) : ∀ (l1 : Option Nat) (l2 : Option Nat) (l3 : Option Nat) (l4 : Int32) (t0 : Int32) (t1 : Int32) (t2 : Int32) (t3 : Option Nat) (G : Hp) (H : Heap) (locs : List Loc) (cells slots : Nat) (ls : Array Slot), w_L_law_1423 T Q sc0 sc N k23 l1 l2 l3 l4 t0 t1 t2 t3 G → HI (twd D T Z) G0 s (rmX (twd D T Z) 2048 84000 G0) H locs cells slots G → LH ls 7 [(0, .inr (.inl sc0)), (1, .inr (.inl l1)), (2, .inr (.inl l2)), (3, .inr (.inl l3)), (4, .inl l4)] → W p l e (rmX (twd D T Z) 2048 84000 G0) s m args below meth c H locs cells slots (MQX (twd D T Z) G0 (qI Q) (fun _ _ => False) below s) (F0 m 1423 ls [.int t0, .int t1, .int t2, va_rf t3]) := by
  intro l1 l2 l3 l4 t0 t1 t2 t3 G H locs cells slots ls h I hl
  refine l_ald_n C dL_law_1423 hl 3 rfl rfl ?_
  obtain ⟨x0, hsub, h⟩ := h
  refine k_sub C I hsub (k_S (As := [va_rf t3, .int t2, .int t1, .int t0, va_rf l3]) (rest := []) (y := yX0_tell) C q1316 q1317 q99 (Or.inr ⟨_, rfl⟩) q1318 (by decide) rfl pd_X0_tell rfl dL_law_1424) (ct_X0_tell hLf h) hl.1 dL_law_1424 [] rfl (Nat.le_of_ble_eq_true rfl) (Or.inr ⟨_, rfl⟩) q1318 q99 ⟨Nat.le_of_ble_eq_true rfl, Nat.le_of_ble_eq_true rfl⟩ (fun v x1 H locs cells slots hq hxx xG1 I => ?_)
  obtain ⟨r2, rfl, h⟩ := hq
  have h := h _ rfl
  generalize eG1 : jn G x0 x1 = G1 at h I xG1
  refine l_ist C dL_law_1427 hl (by decide) rfl (fun ls hl => ?_)
  have hl : LH ls 7 [(5, .inl r2), (0, .inr (.inl sc0)), (1, .inr (.inl l1)), (2, .inr (.inl l2)), (3, .inr (.inl l3)), (4, .inl l4)] := hl
  refine l_ald_n C dL_law_1429 hl 3 rfl rfl ?_
  refine l_ald_n C dL_law_1430 hl 1 rfl rfl ?_
  refine l_ild C dL_law_1431 hl 5 rfl ?_
  refine lv_iconst (v := 1) C.1 C.2.1 dL_law_1433 (by decide) ?_
  refine lv_iadd C.1 C.2.1 dL_law_1434 ?_
  obtain ⟨hi, h⟩ := h
  refine z_scr hsc C I hi dL_law_1435 ?_
  refine l_ald_n C dL_law_1436 hl 1 rfl rfl ?_
  refine l_ild C dL_law_1437 hl 5 rfl ?_
  refine lv_iconst (v := 2) C.1 C.2.1 dL_law_1439 (by decide) ?_
  refine lv_iadd C.1 C.2.1 dL_law_1440 ?_
  obtain ⟨hi, h⟩ := h
  refine z_scr hsc C I hi dL_law_1441 ?_
  refine l_ald_n C dL_law_1442 hl 1 rfl rfl ?_
  refine l_ild C dL_law_1443 hl 5 rfl ?_
  refine lv_iconst (v := 3) C.1 C.2.1 dL_law_1445 (by decide) ?_
  refine lv_iadd C.1 C.2.1 dL_law_1446 ?_
  obtain ⟨hi, h⟩ := h
  refine z_scr hsc C I hi dL_law_1447 ?_
  refine lv_if_eq (tgt := 1455) C.1 C.2.1 dL_law_1448 (by decide) (fun c3 => ?_) (fun c3 => ?_)
  · have h := h.1 c3
    refine lv_iconst (v := 0) C.1 C.2.1 dL_law_1455 (by decide) ?_
    exact b_L_law_1456 C hLf hsc hk23 l1 l2 l3 l4 r2 ((0 : Int32)) (sc ((l4 + (2 : Int32))).toNatClampNeg) (sc ((l4 + (1 : Int32))).toNatClampNeg) l2 G1 _ _ _ _ _ h I (hl.sub [1, 2, 3, 4, 5, 0] rfl)
  · have h := h.2 c3
    refine lv_iconst (v := 1) C.1 C.2.1 dL_law_1451 (by decide) ?_
    refine lv_goto (tgt := 1456) C.1 C.2.1 dL_law_1452 (by decide) ?_
    exact b_L_law_1456 C hLf hsc hk23 l1 l2 l3 l4 r2 ((1 : Int32)) (sc ((l4 + (2 : Int32))).toNatClampNeg) (sc ((l4 + (1 : Int32))).toNatClampNeg) l2 G1 _ _ _ _ _ h I (hl.sub [1, 2, 3, 4, 5, 0] rfl)
def w_L_law_1396 (T : Nat → ClassId) (Q : Int32 → Hp → Prop) (sc0 : Option Nat) (sc : Nat → Int32) (N : Nat) (k23 : Option Nat → Option Nat → Option Nat → Int32 → Hp → Prop) (l1 : Option Nat) (l2 : Option Nat) (l3 : Option Nat) (l4 : Int32) (G : Hp) : Prop := vp_in ((l4 + (1 : Int32))) N ∧ vp_in ((l4 + (2 : Int32))) N ∧ vp_in ((l4 + (3 : Int32))) N ∧ ((sc ((l4 + (3 : Int32))).toNatClampNeg = 0) → (w_L_law_1423 T Q sc0 sc N k23 l1 l2 l3 l4 ((0 : Int32)) (sc ((l4 + (2 : Int32))).toNatClampNeg) (sc ((l4 + (1 : Int32))).toNatClampNeg) l1 G)) ∧ ((¬ sc ((l4 + (3 : Int32))).toNatClampNeg = 0) → (w_L_law_1423 T Q sc0 sc N k23 l1 l2 l3 l4 ((1 : Int32)) (sc ((l4 + (2 : Int32))).toNatClampNeg) (sc ((l4 + (1 : Int32))).toNatClampNeg) l1 G))
set_option maxHeartbeats 4000000 in
theorem b_L_law_1396 {G0 : Hp} {Q : Int32 → Hp → Prop} {sc0 : Option Nat} {sc : Nat → Int32} {N : Nat} {k23 : Option Nat → Option Nat → Option Nat → Int32 → Hp → Prop} (C : Cx p s m meth c D T Z "EndingTownLaw" cL_law 7 (some .boolean)) (hLf : l.flags = flags0) (hsc : ∃ a, sc0 = some a ∧ va_X a N sc s Z) (hk23 : ∀ (l1 : Option Nat) (l2 : Option Nat) (l3 : Option Nat) (l4 : Int32) (G : Hp) (H : Heap) (locs : List Loc) (cells slots : Nat) (ls : Array Slot), k23 l1 l2 l3 l4 G → HI (twd D T Z) G0 s (rmX (twd D T Z) 2048 84000 G0) H locs cells slots G → LH ls 7 [(0, .inr (.inl sc0)), (1, .inr (.inl l1)), (2, .inr (.inl l2)), (3, .inr (.inl l3)), (4, .inl l4)] → W p l e (rmX (twd D T Z) 2048 84000 G0) s m args below meth c H locs cells slots (MQX (twd D T Z) G0 (qI Q) (fun _ _ => False) below s) (F0 m 23 ls [])) : ∀ (l1 : Option Nat) (l2 : Option Nat) (l3 : Option Nat) (l4 : Int32) (G : Hp) (H : Heap) (locs : List Loc) (cells slots : Nat) (ls : Array Slot), w_L_law_1396 T Q sc0 sc N k23 l1 l2 l3 l4 G → HI (twd D T Z) G0 s (rmX (twd D T Z) 2048 84000 G0) H locs cells slots G → LH ls 7 [(0, .inr (.inl sc0)), (1, .inr (.inl l1)), (2, .inr (.inl l2)), (3, .inr (.inl l3)), (4, .inl l4)] → W p l e (rmX (twd D T Z) 2048 84000 G0) s m args below meth c H locs cells slots (MQX (twd D T Z) G0 (qI Q) (fun _ _ => False) below s) (F0 m 1396 ls []) := by
  intro l1 l2 l3 l4 G H locs cells slots ls h I hl
  refine l_ald_n C dL_law_1396 hl 1 rfl rfl ?_
  refine l_ald_n C dL_law_1397 hl 0 rfl rfl ?_
  refine l_ild C dL_law_1398 hl 4 rfl ?_
  refine lv_iconst (v := 1) C.1 C.2.1 dL_law_1400 (by decide) ?_
  refine lv_iadd C.1 C.2.1 dL_law_1401 ?_
  obtain ⟨hi, h⟩ := h
  refine z_scr hsc C I hi dL_law_1402 ?_
  refine l_ald_n C dL_law_1403 hl 0 rfl rfl ?_
  refine l_ild C dL_law_1404 hl 4 rfl ?_
  refine lv_iconst (v := 2) C.1 C.2.1 dL_law_1406 (by decide) ?_
  refine lv_iadd C.1 C.2.1 dL_law_1407 ?_
  obtain ⟨hi, h⟩ := h
  refine z_scr hsc C I hi dL_law_1408 ?_
  refine l_ald_n C dL_law_1409 hl 0 rfl rfl ?_
  refine l_ild C dL_law_1410 hl 4 rfl ?_
  refine lv_iconst (v := 3) C.1 C.2.1 dL_law_1412 (by decide) ?_
  refine lv_iadd C.1 C.2.1 dL_law_1413 ?_
  obtain ⟨hi, h⟩ := h
  refine z_scr hsc C I hi dL_law_1414 ?_
  refine lv_if_eq (tgt := 1422) C.1 C.2.1 dL_law_1415 (by decide) (fun c1 => ?_) (fun c1 => ?_)
  · have h := h.1 c1
    refine lv_iconst (v := 0) C.1 C.2.1 dL_law_1422 (by decide) ?_
    exact b_L_law_1423 C hLf hsc hk23 l1 l2 l3 l4 ((0 : Int32)) (sc ((l4 + (2 : Int32))).toNatClampNeg) (sc ((l4 + (1 : Int32))).toNatClampNeg) l1 G _ _ _ _ _ h I (hl.sub [0, 1, 2, 3, 4] rfl)
  · have h := h.2 c1
    refine lv_iconst (v := 1) C.1 C.2.1 dL_law_1418 (by decide) ?_
    refine lv_goto (tgt := 1423) C.1 C.2.1 dL_law_1419 (by decide) ?_
    exact b_L_law_1423 C hLf hsc hk23 l1 l2 l3 l4 ((1 : Int32)) (sc ((l4 + (2 : Int32))).toNatClampNeg) (sc ((l4 + (1 : Int32))).toNatClampNeg) l1 G _ _ _ _ _ h I (hl.sub [0, 1, 2, 3, 4] rfl)
def w_L_law_1604 (T : Nat → ClassId) (Q : Int32 → Hp → Prop) (sc0 : Option Nat) (sc : Nat → Int32) (N : Nat) (k23 : Option Nat → Option Nat → Option Nat → Int32 → Hp → Prop) (l1 : Option Nat) (l2 : Option Nat) (l3 : Option Nat) (l4 : Int32) (G : Hp) : Prop := w_L_law_1631 T Q sc0 sc N k23 l1 l2 l3 l4 G
set_option maxHeartbeats 4000000 in
theorem b_L_law_1604 {G0 : Hp} {Q : Int32 → Hp → Prop} {sc0 : Option Nat} {sc : Nat → Int32} {N : Nat} {k23 : Option Nat → Option Nat → Option Nat → Int32 → Hp → Prop} (C : Cx p s m meth c D T Z "EndingTownLaw" cL_law 7 (some .boolean)) (hLf : l.flags = flags0) (hsc : ∃ a, sc0 = some a ∧ va_X a N sc s Z) (hk23 : ∀ (l1 : Option Nat) (l2 : Option Nat) (l3 : Option Nat) (l4 : Int32) (G : Hp) (H : Heap) (locs : List Loc) (cells slots : Nat) (ls : Array Slot), k23 l1 l2 l3 l4 G → HI (twd D T Z) G0 s (rmX (twd D T Z) 2048 84000 G0) H locs cells slots G → LH ls 7 [(0, .inr (.inl sc0)), (1, .inr (.inl l1)), (2, .inr (.inl l2)), (3, .inr (.inl l3)), (4, .inl l4)] → W p l e (rmX (twd D T Z) 2048 84000 G0) s m args below meth c H locs cells slots (MQX (twd D T Z) G0 (qI Q) (fun _ _ => False) below s) (F0 m 23 ls [])) : ∀ (l1 : Option Nat) (l2 : Option Nat) (l3 : Option Nat) (l4 : Int32) (G : Hp) (H : Heap) (locs : List Loc) (cells slots : Nat) (ls : Array Slot), w_L_law_1604 T Q sc0 sc N k23 l1 l2 l3 l4 G → HI (twd D T Z) G0 s (rmX (twd D T Z) 2048 84000 G0) H locs cells slots G → LH ls 7 [(0, .inr (.inl sc0)), (1, .inr (.inl l1)), (2, .inr (.inl l2)), (3, .inr (.inl l3)), (4, .inl l4)] → W p l e (rmX (twd D T Z) 2048 84000 G0) s m args below meth c H locs cells slots (MQX (twd D T Z) G0 (qI Q) (fun _ _ => False) below s) (F0 m 1604 ls []) := by
  intro l1 l2 l3 l4 G H locs cells slots ls h I hl
  refine lv_goto (tgt := 1631) C.1 C.2.1 dL_law_1604 (by decide) ?_
  exact b_L_law_1631 C hLf hsc hk23 l1 l2 l3 l4 G _ _ _ _ _ h I (hl.sub [0, 1, 2, 3, 4] rfl)
def w_L_law_1598 (T : Nat → ClassId) (Q : Int32 → Hp → Prop) (sc0 : Option Nat) (sc : Nat → Int32) (N : Nat) (k23 : Option Nat → Option Nat → Option Nat → Int32 → Hp → Prop) (l1 : Option Nat) (l2 : Option Nat) (l3 : Option Nat) (l4 : Int32) (t0 : Int64) (t1 : Int64) (G : Hp) : Prop := (((lg_cmp t1 t0) = 0) → (w_L_law_1604 T Q sc0 sc N k23 l1 l2 l3 l4 G)) ∧ ((¬ (lg_cmp t1 t0) = 0) → (Q (0 : Int32) G))
set_option maxHeartbeats 4000000 in
theorem b_L_law_1598 {G0 : Hp} {Q : Int32 → Hp → Prop} {sc0 : Option Nat} {sc : Nat → Int32} {N : Nat} {k23 : Option Nat → Option Nat → Option Nat → Int32 → Hp → Prop} (C : Cx p s m meth c D T Z "EndingTownLaw" cL_law 7 (some .boolean)) (hLf : l.flags = flags0) (hsc : ∃ a, sc0 = some a ∧ va_X a N sc s Z) (hk23 : ∀ (l1 : Option Nat) (l2 : Option Nat) (l3 : Option Nat) (l4 : Int32) (G : Hp) (H : Heap) (locs : List Loc) (cells slots : Nat) (ls : Array Slot), k23 l1 l2 l3 l4 G → HI (twd D T Z) G0 s (rmX (twd D T Z) 2048 84000 G0) H locs cells slots G → LH ls 7 [(0, .inr (.inl sc0)), (1, .inr (.inl l1)), (2, .inr (.inl l2)), (3, .inr (.inl l3)), (4, .inl l4)] → W p l e (rmX (twd D T Z) 2048 84000 G0) s m args below meth c H locs cells slots (MQX (twd D T Z) G0 (qI Q) (fun _ _ => False) below s) (F0 m 23 ls [])) : ∀ (l1 : Option Nat) (l2 : Option Nat) (l3 : Option Nat) (l4 : Int32) (t0 : Int64) (t1 : Int64) (G : Hp) (H : Heap) (locs : List Loc) (cells slots : Nat) (ls : Array Slot), w_L_law_1598 T Q sc0 sc N k23 l1 l2 l3 l4 t0 t1 G → HI (twd D T Z) G0 s (rmX (twd D T Z) 2048 84000 G0) H locs cells slots G → LH ls 7 [(0, .inr (.inl sc0)), (1, .inr (.inl l1)), (2, .inr (.inl l2)), (3, .inr (.inl l3)), (4, .inl l4)] → W p l e (rmX (twd D T Z) 2048 84000 G0) s m args below meth c H locs cells slots (MQX (twd D T Z) G0 (qI Q) (fun _ _ => False) below s) (F0 m 1598 ls [.long t0, .long t1]) := by
  intro l1 l2 l3 l4 t0 t1 G H locs cells slots ls h I hl
  refine W.lcmp C.1 C.2.1 dL_law_1598 ?_
  refine lv_if_eq (tgt := 1604) C.1 C.2.1 dL_law_1599 (by decide) (fun c1 => ?_) (fun c1 => ?_)
  · have h := h.1 c1
    exact b_L_law_1604 C hLf hsc hk23 l1 l2 l3 l4 G _ _ _ _ _ h I (hl.sub [0, 1, 2, 3, 4] rfl)
  · have h := h.2 c1
    refine lv_iconst (v := 0) C.1 C.2.1 dL_law_1602 (by decide) ?_
    exact r_int C.1 C.2.1 C.2.2.2.2.2.1 rfl C.2.2.2.2.2.2 ⟨rfl, rfl⟩ I dL_law_1603 ⟨_, rfl, h⟩
def w_L_law_1564 (T : Nat → ClassId) (Q : Int32 → Hp → Prop) (sc0 : Option Nat) (sc : Nat → Int32) (N : Nat) (k23 : Option Nat → Option Nat → Option Nat → Int32 → Hp → Prop) (l1 : Option Nat) (l2 : Option Nat) (l3 : Option Nat) (l4 : Int32) (l5 : Int32) (t0 : Int32) (t1 : Int32) (t2 : Int32) (t3 : Int32) (t4 : Option Nat) (G : Hp) : Prop := isO G t4 19 ∧ ∃ M : MS, Sub (mG (ad t4) (gZ G) M) G ∧ w_X11_known (fun r2 M1 => ∀ G1 : Hp, G1 = jn G (mG (ad t4) (gZ G) M) (mG (ad t4) (gZ G) M1) → (isO G1 l2 19 ∧ ∃ M : MS, Sub (mG (ad l2) (gZ G1) M) G1 ∧ w_X11_thrown (fun r4 M1 => ∀ G3 : Hp, G3 = jn G1 (mG (ad l2) (gZ G1) M) (mG (ad l2) (gZ G1) M1) → (((r4 = l5) → (((¬ l5 = 0) → (w_L_law_1604 T Q sc0 sc N k23 l1 l2 l3 l4 G3)) ∧ ((l5 = 0) → (isO G3 l3 53 ∧ vp_in ((0 : Int32)) (gN G3 (ad l3)) ∧ ((r2 = 0) → (w_L_law_1598 T Q sc0 sc N k23 l1 l2 l3 l4 ((0 : Int64)) (gL G3 (ad l3) ((0 : Int32)).toNatClampNeg) G3)) ∧ ((¬ r2 = 0) → (w_L_law_1598 T Q sc0 sc N k23 l1 l2 l3 l4 ((1 : Int64)) (gL G3 (ad l3) ((0 : Int32)).toNatClampNeg) G3)))))) ∧ ((¬ r4 = l5) → (Q (0 : Int32) G3)))) M)) t3 t2 t1 t0 M
set_option maxHeartbeats 4000000 in
theorem b_L_law_1564 {G0 : Hp} {Q : Int32 → Hp → Prop} {sc0 : Option Nat} {sc : Nat → Int32} {N : Nat} {k23 : Option Nat → Option Nat → Option Nat → Int32 → Hp → Prop} (C : Cx p s m meth c D T Z "EndingTownLaw" cL_law 7 (some .boolean)) (hLf : l.flags = flags0) (hsc : ∃ a, sc0 = some a ∧ va_X a N sc s Z) (hk23 : ∀ (l1 : Option Nat) (l2 : Option Nat) (l3 : Option Nat) (l4 : Int32) (G : Hp) (H : Heap) (locs : List Loc) (cells slots : Nat) (ls : Array Slot), k23 l1 l2 l3 l4 G → HI (twd D T Z) G0 s (rmX (twd D T Z) 2048 84000 G0) H locs cells slots G → LH ls 7 [(0, .inr (.inl sc0)), (1, .inr (.inl l1)), (2, .inr (.inl l2)), (3, .inr (.inl l3)), (4, .inl l4)] → W p l e (rmX (twd D T Z) 2048 84000 G0) s m args below meth c H locs cells slots (MQX (twd D T Z) G0 (qI Q) (fun _ _ => False) below s) (F0 m 23 ls [])) : ∀ (l1 : Option Nat) (l2 : Option Nat) (l3 : Option Nat) (l4 : Int32) (l5 : Int32) (t0 : Int32) (t1 : Int32) (t2 : Int32) (t3 : Int32) (t4 : Option Nat) (G : Hp) (H : Heap) (locs : List Loc) (cells slots : Nat) (ls : Array Slot), w_L_law_1564 T Q sc0 sc N k23 l1 l2 l3 l4 l5 t0 t1 t2 t3 t4 G → HI (twd D T Z) G0 s (rmX (twd D T Z) 2048 84000 G0) H locs cells slots G → LH ls 7 [(0, .inr (.inl sc0)), (1, .inr (.inl l1)), (2, .inr (.inl l2)), (3, .inr (.inl l3)), (4, .inl l4), (5, .inl l5)] → W p l e (rmX (twd D T Z) 2048 84000 G0) s m args below meth c H locs cells slots (MQX (twd D T Z) G0 (qI Q) (fun _ _ => False) below s) (F0 m 1564 ls [.int t0, .int t1, .int t2, .int t3, va_rf t4]) := by
  intro l1 l2 l3 l4 l5 t0 t1 t2 t3 t4 G H locs cells slots ls h I hl
  obtain ⟨ho10, h⟩ := h
  obtain ⟨M, hsub, h⟩ := h
  refine k_sub C I hsub (k_V (r := t4) (As := [.int t3, .int t2, .int t1, .int t0]) (rest := []) (y := yX11_known) C ⟨ho10.ad.1, I.recv C.2.2.2.2.1 ho10 (by decide)⟩ q1910 q1911 q1912 (Or.inl rfl) q1913 (by decide) rfl pd_X11_known rfl dL_law_1564) (CT.rcv ho10.ad.1 (ct_X11_known h)) hl.1 dL_law_1564 [] rfl (Nat.le_of_ble_eq_true rfl) (Or.inl rfl) q1913 q113 ⟨Nat.le_of_ble_eq_true rfl, Nat.le_of_ble_eq_true rfl⟩ (fun v x1 H locs cells slots hq hxx xG1 I => ?_)
  obtain ⟨M1, rfl, r2, rfl, h⟩ := hq
  have h := h _ rfl
  generalize eG1 : jn G (mG (ad t4) (gZ G) M) (mG (ad t4) (gZ G) M1) = G1 at h I xG1
  refine l_ist C dL_law_1567 hl (by decide) rfl (fun ls hl => ?_)
  have hl : LH ls 7 [(6, .inl r2), (0, .inr (.inl sc0)), (1, .inr (.inl l1)), (2, .inr (.inl l2)), (3, .inr (.inl l3)), (4, .inl l4), (5, .inl l5)] := hl
  refine l_ald_n C dL_law_1569 hl 3 rfl rfl ?_
  obtain ⟨ho9, h⟩ := h
  obtain ⟨M, hsub, h⟩ := h
  refine k_sub C I hsub (k_V (r := l2) (As := []) (rest := []) (y := yX11_thrown) C ⟨ho9.ad.1, I.recv C.2.2.2.2.1 ho9 (by decide)⟩ q1587 q1588 q1589 (Or.inl rfl) q1590 (by decide) rfl pd_X11_thrown rfl dL_law_1570) (CT.rcv ho9.ad.1 (ct_X11_thrown h)) hl.1 dL_law_1570 [] rfl (Nat.le_of_ble_eq_true rfl) (Or.inl rfl) q1590 q113 ⟨Nat.le_of_ble_eq_true rfl, Nat.le_of_ble_eq_true rfl⟩ (fun v x1 H locs cells slots hq hxx xG3 I => ?_)
  obtain ⟨M1, rfl, r4, rfl, h⟩ := hq
  have h := h _ rfl
  generalize eG3 : jn G1 (mG (ad l2) (gZ G1) M) (mG (ad l2) (gZ G1) M1) = G3 at h I xG3
  refine l_ild C dL_law_1573 hl 6 rfl ?_
  refine lv_icmp_eq (tgt := 1580) C.1 C.2.1 dL_law_1575 (by decide) (fun c8 => ?_) (fun c8 => ?_)
  · have h := h.1 c8
    refine l_ild C dL_law_1580 hl 6 rfl ?_
    refine lv_if_ne (tgt := 1604) C.1 C.2.1 dL_law_1582 (by decide) (fun c7 => ?_) (fun c7 => ?_)
    · have h := h.1 c7
      exact b_L_law_1604 C hLf hsc hk23 l1 l2 l3 l4 G3 _ _ _ _ _ h I (hl.sub [1, 2, 3, 4, 5] rfl)
    · have h := h.2 c7
      refine l_ald_n C dL_law_1585 hl 4 rfl rfl ?_
      refine lv_iconst (v := 0) C.1 C.2.1 dL_law_1586 (by decide) ?_
      obtain ⟨ho5, h⟩ := h
      obtain ⟨hi, h⟩ := h
      refine a_lald C I ho5 hi dL_law_1587 ?_
      refine l_ild C dL_law_1588 hl 0 rfl ?_
      refine lv_if_eq (tgt := 1597) C.1 C.2.1 dL_law_1590 (by decide) (fun c6 => ?_) (fun c6 => ?_)
      · have h := h.1 c6
        refine lv_lconst (v := 0) C.1 C.2.1 dL_law_1597 (by decide) ?_
        exact b_L_law_1598 C hLf hsc hk23 l1 l2 l3 l4 ((0 : Int64)) (gL G3 (ad l3) ((0 : Int32)).toNatClampNeg) G3 _ _ _ _ _ h I (hl.sub [1, 2, 3, 4, 5] rfl)
      · have h := h.2 c6
        refine lv_lconst (v := 1) C.1 C.2.1 dL_law_1593 (by decide) ?_
        refine lv_goto (tgt := 1598) C.1 C.2.1 dL_law_1594 (by decide) ?_
        exact b_L_law_1598 C hLf hsc hk23 l1 l2 l3 l4 ((1 : Int64)) (gL G3 (ad l3) ((0 : Int32)).toNatClampNeg) G3 _ _ _ _ _ h I (hl.sub [1, 2, 3, 4, 5] rfl)
  · have h := h.2 c8
    refine lv_iconst (v := 0) C.1 C.2.1 dL_law_1578 (by decide) ?_
    exact r_int C.1 C.2.1 C.2.2.2.2.2.1 rfl C.2.2.2.2.2.2 ⟨rfl, rfl⟩ I dL_law_1579 ⟨_, rfl, h⟩
def w_L_law_1525 (T : Nat → ClassId) (Q : Int32 → Hp → Prop) (sc0 : Option Nat) (sc : Nat → Int32) (N : Nat) (k23 : Option Nat → Option Nat → Option Nat → Int32 → Hp → Prop) (l1 : Option Nat) (l2 : Option Nat) (l3 : Option Nat) (l4 : Int32) (t0 : Int32) (t1 : Int32) (t2 : Int32) (t3 : Int32) (t4 : Option Nat) (G : Hp) : Prop := ∃ x0 : Hp, Sub x0 G ∧ w_X0_known T (fun r2 x1 => ∀ G1 : Hp, G1 = jn G x0 x1 → (vp_in ((l4 + (1 : Int32))) N ∧ vp_in ((l4 + (2 : Int32))) N ∧ vp_in ((l4 + (3 : Int32))) N ∧ vp_in ((l4 + (4 : Int32))) N ∧ ((sc ((l4 + (4 : Int32))).toNatClampNeg = 0) → (w_L_law_1564 T Q sc0 sc N k23 l1 l2 l3 l4 r2 ((0 : Int32)) (sc ((l4 + (3 : Int32))).toNatClampNeg) (sc ((l4 + (2 : Int32))).toNatClampNeg) (sc ((l4 + (1 : Int32))).toNatClampNeg) l2 G1)) ∧ ((¬ sc ((l4 + (4 : Int32))).toNatClampNeg = 0) → (w_L_law_1564 T Q sc0 sc N k23 l1 l2 l3 l4 r2 ((1 : Int32)) (sc ((l4 + (3 : Int32))).toNatClampNeg) (sc ((l4 + (2 : Int32))).toNatClampNeg) (sc ((l4 + (1 : Int32))).toNatClampNeg) l2 G1)))) t4 t3 t2 t1 t0 l3 x0
set_option maxHeartbeats 4000000 in
theorem b_L_law_1525 {G0 : Hp} {Q : Int32 → Hp → Prop} {sc0 : Option Nat} {sc : Nat → Int32} {N : Nat} {k23 : Option Nat → Option Nat → Option Nat → Int32 → Hp → Prop} (C : Cx p s m meth c D T Z "EndingTownLaw" cL_law 7 (some .boolean)) (hLf : l.flags = flags0) (hsc : ∃ a, sc0 = some a ∧ va_X a N sc s Z) (hk23 : ∀ (l1 : Option Nat) (l2 : Option Nat) (l3 : Option Nat) (l4 : Int32) (G : Hp) (H : Heap) (locs : List Loc) (cells slots : Nat) (ls : Array Slot), k23 l1 l2 l3 l4 G → HI (twd D T Z) G0 s (rmX (twd D T Z) 2048 84000 G0) H locs cells slots G → LH ls 7 [(0, .inr (.inl sc0)), (1, .inr (.inl l1)), (2, .inr (.inl l2)), (3, .inr (.inl l3)), (4, .inl l4)] → W p l e (rmX (twd D T Z) 2048 84000 G0) s m args below meth c H locs cells slots (MQX (twd D T Z) G0 (qI Q) (fun _ _ => False) below s) (F0 m 23 ls [])) : ∀ (l1 : Option Nat) (l2 : Option Nat) (l3 : Option Nat) (l4 : Int32) (t0 : Int32) (t1 : Int32) (t2 : Int32) (t3 : Int32) (t4 : Option Nat) (G : Hp) (H : Heap) (locs : List Loc) (cells slots : Nat) (ls : Array Slot), w_L_law_1525 T Q sc0 sc N k23 l1 l2 l3 l4 t0 t1 t2 t3 t4 G → HI (twd D T Z) G0 s (rmX (twd D T Z) 2048 84000 G0) H locs cells slots G → LH ls 7 [(0, .inr (.inl sc0)), (1, .inr (.inl l1)), (2, .inr (.inl l2)), (3, .inr (.inl l3)), (4, .inl l4)] → W p l e (rmX (twd D T Z) 2048 84000 G0) s m args below meth c H locs cells slots (MQX (twd D T Z) G0 (qI Q) (fun _ _ => False) below s) (F0 m 1525 ls [.int t0, .int t1, .int t2, .int t3, va_rf t4]) := by
  intro l1 l2 l3 l4 t0 t1 t2 t3 t4 G H locs cells slots ls h I hl
  refine l_ald_n C dL_law_1525 hl 3 rfl rfl ?_
  obtain ⟨x0, hsub, h⟩ := h
  refine k_sub C I hsub (k_S (As := [va_rf t4, .int t3, .int t2, .int t1, .int t0, va_rf l3]) (rest := []) (y := yX0_known) C q1351 q1352 q99 (Or.inr ⟨_, rfl⟩) q1353 (by decide) rfl pd_X0_known rfl dL_law_1526) (ct_X0_known hLf h) hl.1 dL_law_1526 [] rfl (Nat.le_of_ble_eq_true rfl) (Or.inr ⟨_, rfl⟩) q1353 q99 ⟨Nat.le_of_ble_eq_true rfl, Nat.le_of_ble_eq_true rfl⟩ (fun v x1 H locs cells slots hq hxx xG1 I => ?_)
  obtain ⟨r2, rfl, h⟩ := hq
  have h := h _ rfl
  generalize eG1 : jn G x0 x1 = G1 at h I xG1
  refine l_ist C dL_law_1529 hl (by decide) rfl (fun ls hl => ?_)
  have hl : LH ls 7 [(5, .inl r2), (0, .inr (.inl sc0)), (1, .inr (.inl l1)), (2, .inr (.inl l2)), (3, .inr (.inl l3)), (4, .inl l4)] := hl
  refine l_ald_n C dL_law_1531 hl 3 rfl rfl ?_
  refine l_ald_n C dL_law_1532 hl 1 rfl rfl ?_
  refine l_ild C dL_law_1533 hl 5 rfl ?_
  refine lv_iconst (v := 1) C.1 C.2.1 dL_law_1535 (by decide) ?_
  refine lv_iadd C.1 C.2.1 dL_law_1536 ?_
  obtain ⟨hi, h⟩ := h
  refine z_scr hsc C I hi dL_law_1537 ?_
  refine l_ald_n C dL_law_1538 hl 1 rfl rfl ?_
  refine l_ild C dL_law_1539 hl 5 rfl ?_
  refine lv_iconst (v := 2) C.1 C.2.1 dL_law_1541 (by decide) ?_
  refine lv_iadd C.1 C.2.1 dL_law_1542 ?_
  obtain ⟨hi, h⟩ := h
  refine z_scr hsc C I hi dL_law_1543 ?_
  refine l_ald_n C dL_law_1544 hl 1 rfl rfl ?_
  refine l_ild C dL_law_1545 hl 5 rfl ?_
  refine lv_iconst (v := 3) C.1 C.2.1 dL_law_1547 (by decide) ?_
  refine lv_iadd C.1 C.2.1 dL_law_1548 ?_
  obtain ⟨hi, h⟩ := h
  refine z_scr hsc C I hi dL_law_1549 ?_
  refine l_ald_n C dL_law_1550 hl 1 rfl rfl ?_
  refine l_ild C dL_law_1551 hl 5 rfl ?_
  refine lv_iconst (v := 4) C.1 C.2.1 dL_law_1553 (by decide) ?_
  refine lv_iadd C.1 C.2.1 dL_law_1554 ?_
  obtain ⟨hi, h⟩ := h
  refine z_scr hsc C I hi dL_law_1555 ?_
  refine lv_if_eq (tgt := 1563) C.1 C.2.1 dL_law_1556 (by decide) (fun c3 => ?_) (fun c3 => ?_)
  · have h := h.1 c3
    refine lv_iconst (v := 0) C.1 C.2.1 dL_law_1563 (by decide) ?_
    exact b_L_law_1564 C hLf hsc hk23 l1 l2 l3 l4 r2 ((0 : Int32)) (sc ((l4 + (3 : Int32))).toNatClampNeg) (sc ((l4 + (2 : Int32))).toNatClampNeg) (sc ((l4 + (1 : Int32))).toNatClampNeg) l2 G1 _ _ _ _ _ h I (hl.sub [1, 2, 3, 4, 5, 0] rfl)
  · have h := h.2 c3
    refine lv_iconst (v := 1) C.1 C.2.1 dL_law_1559 (by decide) ?_
    refine lv_goto (tgt := 1564) C.1 C.2.1 dL_law_1560 (by decide) ?_
    exact b_L_law_1564 C hLf hsc hk23 l1 l2 l3 l4 r2 ((1 : Int32)) (sc ((l4 + (3 : Int32))).toNatClampNeg) (sc ((l4 + (2 : Int32))).toNatClampNeg) (sc ((l4 + (1 : Int32))).toNatClampNeg) l2 G1 _ _ _ _ _ h I (hl.sub [1, 2, 3, 4, 5, 0] rfl)
def w_L_law_1492 (T : Nat → ClassId) (Q : Int32 → Hp → Prop) (sc0 : Option Nat) (sc : Nat → Int32) (N : Nat) (k23 : Option Nat → Option Nat → Option Nat → Int32 → Hp → Prop) (l1 : Option Nat) (l2 : Option Nat) (l3 : Option Nat) (l4 : Int32) (G : Hp) : Prop := vp_in ((l4 + (1 : Int32))) N ∧ vp_in ((l4 + (2 : Int32))) N ∧ vp_in ((l4 + (3 : Int32))) N ∧ vp_in ((l4 + (4 : Int32))) N ∧ ((sc ((l4 + (4 : Int32))).toNatClampNeg = 0) → (w_L_law_1525 T Q sc0 sc N k23 l1 l2 l3 l4 ((0 : Int32)) (sc ((l4 + (3 : Int32))).toNatClampNeg) (sc ((l4 + (2 : Int32))).toNatClampNeg) (sc ((l4 + (1 : Int32))).toNatClampNeg) l1 G)) ∧ ((¬ sc ((l4 + (4 : Int32))).toNatClampNeg = 0) → (w_L_law_1525 T Q sc0 sc N k23 l1 l2 l3 l4 ((1 : Int32)) (sc ((l4 + (3 : Int32))).toNatClampNeg) (sc ((l4 + (2 : Int32))).toNatClampNeg) (sc ((l4 + (1 : Int32))).toNatClampNeg) l1 G))
set_option maxHeartbeats 4000000 in
theorem b_L_law_1492 {G0 : Hp} {Q : Int32 → Hp → Prop} {sc0 : Option Nat} {sc : Nat → Int32} {N : Nat} {k23 : Option Nat → Option Nat → Option Nat → Int32 → Hp → Prop} (C : Cx p s m meth c D T Z "EndingTownLaw" cL_law 7 (some .boolean)) (hLf : l.flags = flags0) (hsc : ∃ a, sc0 = some a ∧ va_X a N sc s Z) (hk23 : ∀ (l1 : Option Nat) (l2 : Option Nat) (l3 : Option Nat) (l4 : Int32) (G : Hp) (H : Heap) (locs : List Loc) (cells slots : Nat) (ls : Array Slot), k23 l1 l2 l3 l4 G → HI (twd D T Z) G0 s (rmX (twd D T Z) 2048 84000 G0) H locs cells slots G → LH ls 7 [(0, .inr (.inl sc0)), (1, .inr (.inl l1)), (2, .inr (.inl l2)), (3, .inr (.inl l3)), (4, .inl l4)] → W p l e (rmX (twd D T Z) 2048 84000 G0) s m args below meth c H locs cells slots (MQX (twd D T Z) G0 (qI Q) (fun _ _ => False) below s) (F0 m 23 ls [])) : ∀ (l1 : Option Nat) (l2 : Option Nat) (l3 : Option Nat) (l4 : Int32) (G : Hp) (H : Heap) (locs : List Loc) (cells slots : Nat) (ls : Array Slot), w_L_law_1492 T Q sc0 sc N k23 l1 l2 l3 l4 G → HI (twd D T Z) G0 s (rmX (twd D T Z) 2048 84000 G0) H locs cells slots G → LH ls 7 [(0, .inr (.inl sc0)), (1, .inr (.inl l1)), (2, .inr (.inl l2)), (3, .inr (.inl l3)), (4, .inl l4)] → W p l e (rmX (twd D T Z) 2048 84000 G0) s m args below meth c H locs cells slots (MQX (twd D T Z) G0 (qI Q) (fun _ _ => False) below s) (F0 m 1492 ls []) := by
  intro l1 l2 l3 l4 G H locs cells slots ls h I hl
  refine l_ald_n C dL_law_1492 hl 1 rfl rfl ?_
  refine l_ald_n C dL_law_1493 hl 0 rfl rfl ?_
  refine l_ild C dL_law_1494 hl 4 rfl ?_
  refine lv_iconst (v := 1) C.1 C.2.1 dL_law_1496 (by decide) ?_
  refine lv_iadd C.1 C.2.1 dL_law_1497 ?_
  obtain ⟨hi, h⟩ := h
  refine z_scr hsc C I hi dL_law_1498 ?_
  refine l_ald_n C dL_law_1499 hl 0 rfl rfl ?_
  refine l_ild C dL_law_1500 hl 4 rfl ?_
  refine lv_iconst (v := 2) C.1 C.2.1 dL_law_1502 (by decide) ?_
  refine lv_iadd C.1 C.2.1 dL_law_1503 ?_
  obtain ⟨hi, h⟩ := h
  refine z_scr hsc C I hi dL_law_1504 ?_
  refine l_ald_n C dL_law_1505 hl 0 rfl rfl ?_
  refine l_ild C dL_law_1506 hl 4 rfl ?_
  refine lv_iconst (v := 3) C.1 C.2.1 dL_law_1508 (by decide) ?_
  refine lv_iadd C.1 C.2.1 dL_law_1509 ?_
  obtain ⟨hi, h⟩ := h
  refine z_scr hsc C I hi dL_law_1510 ?_
  refine l_ald_n C dL_law_1511 hl 0 rfl rfl ?_
  refine l_ild C dL_law_1512 hl 4 rfl ?_
  refine lv_iconst (v := 4) C.1 C.2.1 dL_law_1514 (by decide) ?_
  refine lv_iadd C.1 C.2.1 dL_law_1515 ?_
  obtain ⟨hi, h⟩ := h
  refine z_scr hsc C I hi dL_law_1516 ?_
  refine lv_if_eq (tgt := 1524) C.1 C.2.1 dL_law_1517 (by decide) (fun c1 => ?_) (fun c1 => ?_)
  · have h := h.1 c1
    refine lv_iconst (v := 0) C.1 C.2.1 dL_law_1524 (by decide) ?_
    exact b_L_law_1525 C hLf hsc hk23 l1 l2 l3 l4 ((0 : Int32)) (sc ((l4 + (3 : Int32))).toNatClampNeg) (sc ((l4 + (2 : Int32))).toNatClampNeg) (sc ((l4 + (1 : Int32))).toNatClampNeg) l1 G _ _ _ _ _ h I (hl.sub [0, 1, 2, 3, 4] rfl)
  · have h := h.2 c1
    refine lv_iconst (v := 1) C.1 C.2.1 dL_law_1520 (by decide) ?_
    refine lv_goto (tgt := 1525) C.1 C.2.1 dL_law_1521 (by decide) ?_
    exact b_L_law_1525 C hLf hsc hk23 l1 l2 l3 l4 ((1 : Int32)) (sc ((l4 + (3 : Int32))).toNatClampNeg) (sc ((l4 + (2 : Int32))).toNatClampNeg) (sc ((l4 + (1 : Int32))).toNatClampNeg) l1 G _ _ _ _ _ h I (hl.sub [0, 1, 2, 3, 4] rfl)
def w_L_law_1607 (T : Nat → ClassId) (Q : Int32 → Hp → Prop) (sc0 : Option Nat) (sc : Nat → Int32) (N : Nat) (k23 : Option Nat → Option Nat → Option Nat → Int32 → Hp → Prop) (l1 : Option Nat) (l2 : Option Nat) (l3 : Option Nat) (l4 : Int32) (G : Hp) : Prop := isO G l1 1 ∧ ∃ x0 : Hp, Sub x0 G ∧ w_X1_image T (fun x1 => ∀ G1 : Hp, G1 = jn G x0 x1 → (isO G1 l2 19 ∧ ∃ M : MS, Sub (mG (ad l2) (gZ G1) M) G1 ∧ w_X11_image (fun M1 => ∀ G3 : Hp, G3 = jn G1 (mG (ad l2) (gZ G1) M) (mG (ad l2) (gZ G1) M1) → (w_L_law_1631 T Q sc0 sc N k23 l1 l2 l3 l4 G3)) M)) l1 x0
set_option maxHeartbeats 4000000 in
theorem b_L_law_1607 {G0 : Hp} {Q : Int32 → Hp → Prop} {sc0 : Option Nat} {sc : Nat → Int32} {N : Nat} {k23 : Option Nat → Option Nat → Option Nat → Int32 → Hp → Prop} (C : Cx p s m meth c D T Z "EndingTownLaw" cL_law 7 (some .boolean)) (hLf : l.flags = flags0) (hsc : ∃ a, sc0 = some a ∧ va_X a N sc s Z) (hk23 : ∀ (l1 : Option Nat) (l2 : Option Nat) (l3 : Option Nat) (l4 : Int32) (G : Hp) (H : Heap) (locs : List Loc) (cells slots : Nat) (ls : Array Slot), k23 l1 l2 l3 l4 G → HI (twd D T Z) G0 s (rmX (twd D T Z) 2048 84000 G0) H locs cells slots G → LH ls 7 [(0, .inr (.inl sc0)), (1, .inr (.inl l1)), (2, .inr (.inl l2)), (3, .inr (.inl l3)), (4, .inl l4)] → W p l e (rmX (twd D T Z) 2048 84000 G0) s m args below meth c H locs cells slots (MQX (twd D T Z) G0 (qI Q) (fun _ _ => False) below s) (F0 m 23 ls [])) : ∀ (l1 : Option Nat) (l2 : Option Nat) (l3 : Option Nat) (l4 : Int32) (G : Hp) (H : Heap) (locs : List Loc) (cells slots : Nat) (ls : Array Slot), w_L_law_1607 T Q sc0 sc N k23 l1 l2 l3 l4 G → HI (twd D T Z) G0 s (rmX (twd D T Z) 2048 84000 G0) H locs cells slots G → LH ls 7 [(0, .inr (.inl sc0)), (1, .inr (.inl l1)), (2, .inr (.inl l2)), (3, .inr (.inl l3)), (4, .inl l4)] → W p l e (rmX (twd D T Z) 2048 84000 G0) s m args below meth c H locs cells slots (MQX (twd D T Z) G0 (qI Q) (fun _ _ => False) below s) (F0 m 1607 ls []) := by
  intro l1 l2 l3 l4 G H locs cells slots ls h I hl
  refine l_ald_n C dL_law_1607 hl 1 rfl rfl ?_
  obtain ⟨ho6, h⟩ := h
  obtain ⟨x0, hsub, h⟩ := h
  refine k_sub C I hsub (k_V (r := l1) (As := []) (rest := []) (y := yX1_image) C ⟨ho6.ad.1, I.recv C.2.2.2.2.1 ho6 (by decide)⟩ q563 q564 q565 (Or.inl rfl) q566 (by decide) rfl pd_X1_image rfl dL_law_1608) (ct_X1_image h) hl.1 dL_law_1608 [] rfl (Nat.le_of_ble_eq_true rfl) (Or.inl rfl) q566 q100 ⟨Nat.le_of_ble_eq_true rfl, Nat.le_of_ble_eq_true rfl⟩ (fun v x1 H locs cells slots hq hxx xG1 I => ?_)
  obtain ⟨rfl, h⟩ := hq
  have h := h _ rfl
  generalize eG1 : jn G x0 x1 = G1 at h I xG1
  refine l_ald_n C dL_law_1611 hl 2 rfl rfl ?_
  obtain ⟨ho5, h⟩ := h
  obtain ⟨M, hsub, h⟩ := h
  refine k_sub C I hsub (k_V (r := l2) (As := []) (rest := []) (y := yX11_image) C ⟨ho5.ad.1, I.recv C.2.2.2.2.1 ho5 (by decide)⟩ q1914 q1915 q1916 (Or.inl rfl) q1917 (by decide) rfl pd_X11_image rfl dL_law_1612) (CT.rcv ho5.ad.1 (ct_X11_image h)) hl.1 dL_law_1612 [] rfl (Nat.le_of_ble_eq_true rfl) (Or.inl rfl) q1917 q113 ⟨Nat.le_of_ble_eq_true rfl, Nat.le_of_ble_eq_true rfl⟩ (fun v x1 H locs cells slots hq hxx xG3 I => ?_)
  obtain ⟨M1, rfl, rfl, h⟩ := hq
  have h := h _ rfl
  generalize eG3 : jn G1 (mG (ad l2) (gZ G1) M) (mG (ad l2) (gZ G1) M1) = G3 at h I xG3
  refine lv_goto (tgt := 1631) C.1 C.2.1 dL_law_1615 (by decide) ?_
  exact b_L_law_1631 C hLf hsc hk23 l1 l2 l3 l4 G3 _ _ _ _ _ h I (hl.sub [0, 1, 2, 3, 4] rfl)
def w_L_law_1618 (T : Nat → ClassId) (Q : Int32 → Hp → Prop) (sc0 : Option Nat) (sc : Nat → Int32) (N : Nat) (k23 : Option Nat → Option Nat → Option Nat → Int32 → Hp → Prop) (l1 : Option Nat) (l2 : Option Nat) (l3 : Option Nat) (l4 : Int32) (G : Hp) : Prop := isO G l1 1 ∧ ∃ x0 : Hp, Sub x0 G ∧ w_X1_restore T (fun r2 x1 => ∀ G1 : Hp, G1 = jn G x0 x1 → (isO G1 l2 19 ∧ ∃ M : MS, Sub (mG (ad l2) (gZ G1) M) G1 ∧ w_X11_restore (fun r4 M1 => ∀ G3 : Hp, G3 = jn G1 (mG (ad l2) (gZ G1) M) (mG (ad l2) (gZ G1) M1) → (((r2 = r4) → (w_L_law_1631 T Q sc0 sc N k23 l1 l2 l3 l4 G3)) ∧ ((¬ r2 = r4) → (Q (0 : Int32) G3)))) M)) l1 x0
set_option maxHeartbeats 4000000 in
theorem b_L_law_1618 {G0 : Hp} {Q : Int32 → Hp → Prop} {sc0 : Option Nat} {sc : Nat → Int32} {N : Nat} {k23 : Option Nat → Option Nat → Option Nat → Int32 → Hp → Prop} (C : Cx p s m meth c D T Z "EndingTownLaw" cL_law 7 (some .boolean)) (hLf : l.flags = flags0) (hsc : ∃ a, sc0 = some a ∧ va_X a N sc s Z) (hk23 : ∀ (l1 : Option Nat) (l2 : Option Nat) (l3 : Option Nat) (l4 : Int32) (G : Hp) (H : Heap) (locs : List Loc) (cells slots : Nat) (ls : Array Slot), k23 l1 l2 l3 l4 G → HI (twd D T Z) G0 s (rmX (twd D T Z) 2048 84000 G0) H locs cells slots G → LH ls 7 [(0, .inr (.inl sc0)), (1, .inr (.inl l1)), (2, .inr (.inl l2)), (3, .inr (.inl l3)), (4, .inl l4)] → W p l e (rmX (twd D T Z) 2048 84000 G0) s m args below meth c H locs cells slots (MQX (twd D T Z) G0 (qI Q) (fun _ _ => False) below s) (F0 m 23 ls [])) : ∀ (l1 : Option Nat) (l2 : Option Nat) (l3 : Option Nat) (l4 : Int32) (G : Hp) (H : Heap) (locs : List Loc) (cells slots : Nat) (ls : Array Slot), w_L_law_1618 T Q sc0 sc N k23 l1 l2 l3 l4 G → HI (twd D T Z) G0 s (rmX (twd D T Z) 2048 84000 G0) H locs cells slots G → LH ls 7 [(0, .inr (.inl sc0)), (1, .inr (.inl l1)), (2, .inr (.inl l2)), (3, .inr (.inl l3)), (4, .inl l4)] → W p l e (rmX (twd D T Z) 2048 84000 G0) s m args below meth c H locs cells slots (MQX (twd D T Z) G0 (qI Q) (fun _ _ => False) below s) (F0 m 1618 ls []) := by
  intro l1 l2 l3 l4 G H locs cells slots ls h I hl
  refine l_ald_n C dL_law_1618 hl 1 rfl rfl ?_
  obtain ⟨ho7, h⟩ := h
  obtain ⟨x0, hsub, h⟩ := h
  refine k_sub C I hsub (k_V (r := l1) (As := []) (rest := []) (y := yX1_restore) C ⟨ho7.ad.1, I.recv C.2.2.2.2.1 ho7 (by decide)⟩ q627 q628 q629 (Or.inl rfl) q630 (by decide) rfl pd_X1_restore rfl dL_law_1619) (ct_X1_restore h) hl.1 dL_law_1619 [] rfl (Nat.le_of_ble_eq_true rfl) (Or.inl rfl) q630 q100 ⟨Nat.le_of_ble_eq_true rfl, Nat.le_of_ble_eq_true rfl⟩ (fun v x1 H locs cells slots hq hxx xG1 I => ?_)
  obtain ⟨r2, rfl, h⟩ := hq
  have h := h _ rfl
  generalize eG1 : jn G x0 x1 = G1 at h I xG1
  refine l_ald_n C dL_law_1622 hl 2 rfl rfl ?_
  obtain ⟨ho6, h⟩ := h
  obtain ⟨M, hsub, h⟩ := h
  refine k_sub C I hsub (k_V (r := l2) (As := []) (rest := [.int r2]) (y := yX11_restore) C ⟨ho6.ad.1, I.recv C.2.2.2.2.1 ho6 (by decide)⟩ q1918 q1919 q1920 (Or.inl rfl) q1921 (by decide) rfl pd_X11_restore rfl dL_law_1623) (CT.rcv ho6.ad.1 (ct_X11_restore h)) hl.1 dL_law_1623 [.inl r2] rfl (Nat.le_of_ble_eq_true rfl) (Or.inl rfl) q1921 q113 ⟨Nat.le_of_ble_eq_true rfl, Nat.le_of_ble_eq_true rfl⟩ (fun v x1 H locs cells slots hq hxx xG3 I => ?_)
  obtain ⟨M1, rfl, r4, rfl, h⟩ := hq
  have h := h _ rfl
  generalize eG3 : jn G1 (mG (ad l2) (gZ G1) M) (mG (ad l2) (gZ G1) M1) = G3 at h I xG3
  refine lv_icmp_eq (tgt := 1631) C.1 C.2.1 dL_law_1626 (by decide) (fun c5 => ?_) (fun c5 => ?_)
  · have h := h.1 c5
    exact b_L_law_1631 C hLf hsc hk23 l1 l2 l3 l4 G3 _ _ _ _ _ h I (hl.sub [0, 1, 2, 3, 4] rfl)
  · have h := h.2 c5
    refine lv_iconst (v := 0) C.1 C.2.1 dL_law_1629 (by decide) ?_
    exact r_int C.1 C.2.1 C.2.2.2.2.2.1 rfl C.2.2.2.2.2.2 ⟨rfl, rfl⟩ I dL_law_1630 ⟨_, rfl, h⟩
def w_L_law_23 (T : Nat → ClassId) (Q : Int32 → Hp → Prop) (sc0 : Option Nat) (sc : Nat → Int32) (N : Nat) : Nat → Option Nat → Option Nat → Option Nat → Int32 → Hp → Prop
  | 0 => fun _ _ _ _ _ => False
  | f23 + 1 => fun l1 l2 l3 l4 G => (((nI N - (6 : Int32)) < l4) → (Q (1 : Int32) G)) ∧ ((¬ (nI N - (6 : Int32)) < l4) → (vp_in l4 N ∧ ((sc l4.toNatClampNeg &&& (31 : Int32)) = 0 → (w_L_law_152 T Q sc0 sc N (w_L_law_23 T Q sc0 sc N f23) l1 l2 l3 l4 G)) ∧ ((sc l4.toNatClampNeg &&& (31 : Int32)) = 1 → (w_L_law_225 T Q sc0 sc N (w_L_law_23 T Q sc0 sc N f23) l1 l2 l3 l4 G)) ∧ ((sc l4.toNatClampNeg &&& (31 : Int32)) = 2 → (w_L_law_281 T Q sc0 sc N (w_L_law_23 T Q sc0 sc N f23) l1 l2 l3 l4 G)) ∧ ((sc l4.toNatClampNeg &&& (31 : Int32)) = 3 → (w_L_law_294 T Q sc0 sc N (w_L_law_23 T Q sc0 sc N f23) l1 l2 l3 l4 G)) ∧ ((sc l4.toNatClampNeg &&& (31 : Int32)) = 4 → (w_L_law_350 T Q sc0 sc N (w_L_law_23 T Q sc0 sc N f23) l1 l2 l3 l4 G)) ∧ ((sc l4.toNatClampNeg &&& (31 : Int32)) = 5 → (w_L_law_418 T Q sc0 sc N (w_L_law_23 T Q sc0 sc N f23) l1 l2 l3 l4 G)) ∧ ((sc l4.toNatClampNeg &&& (31 : Int32)) = 6 → (w_L_law_486 T Q sc0 sc N (w_L_law_23 T Q sc0 sc N f23) l1 l2 l3 l4 G)) ∧ ((sc l4.toNatClampNeg &&& (31 : Int32)) = 7 → (w_L_law_578 T Q sc0 sc N (w_L_law_23 T Q sc0 sc N f23) l1 l2 l3 l4 G)) ∧ ((sc l4.toNatClampNeg &&& (31 : Int32)) = 8 → (w_L_law_634 T Q sc0 sc N (w_L_law_23 T Q sc0 sc N f23) l1 l2 l3 l4 G)) ∧ ((sc l4.toNatClampNeg &&& (31 : Int32)) = 9 → (w_L_law_690 T Q sc0 sc N (w_L_law_23 T Q sc0 sc N f23) l1 l2 l3 l4 G)) ∧ ((sc l4.toNatClampNeg &&& (31 : Int32)) = 10 → (w_L_law_810 T Q sc0 sc N (w_L_law_23 T Q sc0 sc N f23) l1 l2 l3 l4 G)) ∧ ((sc l4.toNatClampNeg &&& (31 : Int32)) = 11 → (w_L_law_890 T Q sc0 sc N (w_L_law_23 T Q sc0 sc N f23) l1 l2 l3 l4 G)) ∧ ((sc l4.toNatClampNeg &&& (31 : Int32)) = 12 → (w_L_law_903 T Q sc0 sc N (w_L_law_23 T Q sc0 sc N f23) l1 l2 l3 l4 G)) ∧ ((sc l4.toNatClampNeg &&& (31 : Int32)) = 13 → (w_L_law_971 T Q sc0 sc N (w_L_law_23 T Q sc0 sc N f23) l1 l2 l3 l4 G)) ∧ ((sc l4.toNatClampNeg &&& (31 : Int32)) = 14 → (w_L_law_1079 T Q sc0 sc N (w_L_law_23 T Q sc0 sc N f23) l1 l2 l3 l4 G)) ∧ ((sc l4.toNatClampNeg &&& (31 : Int32)) = 15 → (w_L_law_1135 T Q sc0 sc N (w_L_law_23 T Q sc0 sc N f23) l1 l2 l3 l4 G)) ∧ ((sc l4.toNatClampNeg &&& (31 : Int32)) = 16 → (w_L_law_1148 T Q sc0 sc N (w_L_law_23 T Q sc0 sc N f23) l1 l2 l3 l4 G)) ∧ ((sc l4.toNatClampNeg &&& (31 : Int32)) = 17 → (w_L_law_1204 T Q sc0 sc N (w_L_law_23 T Q sc0 sc N f23) l1 l2 l3 l4 G)) ∧ ((sc l4.toNatClampNeg &&& (31 : Int32)) = 18 → (w_L_law_1272 T Q sc0 sc N (w_L_law_23 T Q sc0 sc N f23) l1 l2 l3 l4 G)) ∧ ((sc l4.toNatClampNeg &&& (31 : Int32)) = 19 → (w_L_law_1340 T Q sc0 sc N (w_L_law_23 T Q sc0 sc N f23) l1 l2 l3 l4 G)) ∧ ((sc l4.toNatClampNeg &&& (31 : Int32)) = 20 → (w_L_law_1396 T Q sc0 sc N (w_L_law_23 T Q sc0 sc N f23) l1 l2 l3 l4 G)) ∧ ((sc l4.toNatClampNeg &&& (31 : Int32)) = 21 → (w_L_law_1492 T Q sc0 sc N (w_L_law_23 T Q sc0 sc N f23) l1 l2 l3 l4 G)) ∧ ((sc l4.toNatClampNeg &&& (31 : Int32)) = 22 → (w_L_law_1607 T Q sc0 sc N (w_L_law_23 T Q sc0 sc N f23) l1 l2 l3 l4 G)) ∧ ((sc l4.toNatClampNeg &&& (31 : Int32)) = 23 → (w_L_law_1618 T Q sc0 sc N (w_L_law_23 T Q sc0 sc N f23) l1 l2 l3 l4 G)) ∧ (¬ (sc l4.toNatClampNeg &&& (31 : Int32)) = 0 → ¬ (sc l4.toNatClampNeg &&& (31 : Int32)) = 1 → ¬ (sc l4.toNatClampNeg &&& (31 : Int32)) = 2 → ¬ (sc l4.toNatClampNeg &&& (31 : Int32)) = 3 → ¬ (sc l4.toNatClampNeg &&& (31 : Int32)) = 4 → ¬ (sc l4.toNatClampNeg &&& (31 : Int32)) = 5 → ¬ (sc l4.toNatClampNeg &&& (31 : Int32)) = 6 → ¬ (sc l4.toNatClampNeg &&& (31 : Int32)) = 7 → ¬ (sc l4.toNatClampNeg &&& (31 : Int32)) = 8 → ¬ (sc l4.toNatClampNeg &&& (31 : Int32)) = 9 → ¬ (sc l4.toNatClampNeg &&& (31 : Int32)) = 10 → ¬ (sc l4.toNatClampNeg &&& (31 : Int32)) = 11 → ¬ (sc l4.toNatClampNeg &&& (31 : Int32)) = 12 → ¬ (sc l4.toNatClampNeg &&& (31 : Int32)) = 13 → ¬ (sc l4.toNatClampNeg &&& (31 : Int32)) = 14 → ¬ (sc l4.toNatClampNeg &&& (31 : Int32)) = 15 → ¬ (sc l4.toNatClampNeg &&& (31 : Int32)) = 16 → ¬ (sc l4.toNatClampNeg &&& (31 : Int32)) = 17 → ¬ (sc l4.toNatClampNeg &&& (31 : Int32)) = 18 → ¬ (sc l4.toNatClampNeg &&& (31 : Int32)) = 19 → ¬ (sc l4.toNatClampNeg &&& (31 : Int32)) = 20 → ¬ (sc l4.toNatClampNeg &&& (31 : Int32)) = 21 → ¬ (sc l4.toNatClampNeg &&& (31 : Int32)) = 22 → ¬ (sc l4.toNatClampNeg &&& (31 : Int32)) = 23 → (w_L_law_1631 T Q sc0 sc N (w_L_law_23 T Q sc0 sc N f23) l1 l2 l3 l4 G))))
set_option maxHeartbeats 4000000 in
theorem b_L_law_23 {G0 : Hp} {Q : Int32 → Hp → Prop} {sc0 : Option Nat} {sc : Nat → Int32} {N : Nat} (C : Cx p s m meth c D T Z "EndingTownLaw" cL_law 7 (some .boolean)) (hLf : l.flags = flags0) (hsc : ∃ a, sc0 = some a ∧ va_X a N sc s Z) : ∀ (n : Nat) (l1 : Option Nat) (l2 : Option Nat) (l3 : Option Nat) (l4 : Int32) (G : Hp) (H : Heap) (locs : List Loc) (cells slots : Nat) (ls : Array Slot), w_L_law_23 T Q sc0 sc N n l1 l2 l3 l4 G → HI (twd D T Z) G0 s (rmX (twd D T Z) 2048 84000 G0) H locs cells slots G → LH ls 7 [(0, .inr (.inl sc0)), (1, .inr (.inl l1)), (2, .inr (.inl l2)), (3, .inr (.inl l3)), (4, .inl l4)] → W p l e (rmX (twd D T Z) 2048 84000 G0) s m args below meth c H locs cells slots (MQX (twd D T Z) G0 (qI Q) (fun _ _ => False) below s) (F0 m 23 ls []) := by
  intro f23
  induction f23 with
  | zero => intro l1 l2 l3 l4 G H locs cells slots ls h; exact (show False from h).elim
  | succ f23 ih =>
    intro l1 l2 l3 l4 G H locs cells slots ls h I hl
    have h : (((nI N - (6 : Int32)) < l4) → (Q (1 : Int32) G)) ∧ ((¬ (nI N - (6 : Int32)) < l4) → (vp_in l4 N ∧ ((sc l4.toNatClampNeg &&& (31 : Int32)) = 0 → (w_L_law_152 T Q sc0 sc N (w_L_law_23 T Q sc0 sc N f23) l1 l2 l3 l4 G)) ∧ ((sc l4.toNatClampNeg &&& (31 : Int32)) = 1 → (w_L_law_225 T Q sc0 sc N (w_L_law_23 T Q sc0 sc N f23) l1 l2 l3 l4 G)) ∧ ((sc l4.toNatClampNeg &&& (31 : Int32)) = 2 → (w_L_law_281 T Q sc0 sc N (w_L_law_23 T Q sc0 sc N f23) l1 l2 l3 l4 G)) ∧ ((sc l4.toNatClampNeg &&& (31 : Int32)) = 3 → (w_L_law_294 T Q sc0 sc N (w_L_law_23 T Q sc0 sc N f23) l1 l2 l3 l4 G)) ∧ ((sc l4.toNatClampNeg &&& (31 : Int32)) = 4 → (w_L_law_350 T Q sc0 sc N (w_L_law_23 T Q sc0 sc N f23) l1 l2 l3 l4 G)) ∧ ((sc l4.toNatClampNeg &&& (31 : Int32)) = 5 → (w_L_law_418 T Q sc0 sc N (w_L_law_23 T Q sc0 sc N f23) l1 l2 l3 l4 G)) ∧ ((sc l4.toNatClampNeg &&& (31 : Int32)) = 6 → (w_L_law_486 T Q sc0 sc N (w_L_law_23 T Q sc0 sc N f23) l1 l2 l3 l4 G)) ∧ ((sc l4.toNatClampNeg &&& (31 : Int32)) = 7 → (w_L_law_578 T Q sc0 sc N (w_L_law_23 T Q sc0 sc N f23) l1 l2 l3 l4 G)) ∧ ((sc l4.toNatClampNeg &&& (31 : Int32)) = 8 → (w_L_law_634 T Q sc0 sc N (w_L_law_23 T Q sc0 sc N f23) l1 l2 l3 l4 G)) ∧ ((sc l4.toNatClampNeg &&& (31 : Int32)) = 9 → (w_L_law_690 T Q sc0 sc N (w_L_law_23 T Q sc0 sc N f23) l1 l2 l3 l4 G)) ∧ ((sc l4.toNatClampNeg &&& (31 : Int32)) = 10 → (w_L_law_810 T Q sc0 sc N (w_L_law_23 T Q sc0 sc N f23) l1 l2 l3 l4 G)) ∧ ((sc l4.toNatClampNeg &&& (31 : Int32)) = 11 → (w_L_law_890 T Q sc0 sc N (w_L_law_23 T Q sc0 sc N f23) l1 l2 l3 l4 G)) ∧ ((sc l4.toNatClampNeg &&& (31 : Int32)) = 12 → (w_L_law_903 T Q sc0 sc N (w_L_law_23 T Q sc0 sc N f23) l1 l2 l3 l4 G)) ∧ ((sc l4.toNatClampNeg &&& (31 : Int32)) = 13 → (w_L_law_971 T Q sc0 sc N (w_L_law_23 T Q sc0 sc N f23) l1 l2 l3 l4 G)) ∧ ((sc l4.toNatClampNeg &&& (31 : Int32)) = 14 → (w_L_law_1079 T Q sc0 sc N (w_L_law_23 T Q sc0 sc N f23) l1 l2 l3 l4 G)) ∧ ((sc l4.toNatClampNeg &&& (31 : Int32)) = 15 → (w_L_law_1135 T Q sc0 sc N (w_L_law_23 T Q sc0 sc N f23) l1 l2 l3 l4 G)) ∧ ((sc l4.toNatClampNeg &&& (31 : Int32)) = 16 → (w_L_law_1148 T Q sc0 sc N (w_L_law_23 T Q sc0 sc N f23) l1 l2 l3 l4 G)) ∧ ((sc l4.toNatClampNeg &&& (31 : Int32)) = 17 → (w_L_law_1204 T Q sc0 sc N (w_L_law_23 T Q sc0 sc N f23) l1 l2 l3 l4 G)) ∧ ((sc l4.toNatClampNeg &&& (31 : Int32)) = 18 → (w_L_law_1272 T Q sc0 sc N (w_L_law_23 T Q sc0 sc N f23) l1 l2 l3 l4 G)) ∧ ((sc l4.toNatClampNeg &&& (31 : Int32)) = 19 → (w_L_law_1340 T Q sc0 sc N (w_L_law_23 T Q sc0 sc N f23) l1 l2 l3 l4 G)) ∧ ((sc l4.toNatClampNeg &&& (31 : Int32)) = 20 → (w_L_law_1396 T Q sc0 sc N (w_L_law_23 T Q sc0 sc N f23) l1 l2 l3 l4 G)) ∧ ((sc l4.toNatClampNeg &&& (31 : Int32)) = 21 → (w_L_law_1492 T Q sc0 sc N (w_L_law_23 T Q sc0 sc N f23) l1 l2 l3 l4 G)) ∧ ((sc l4.toNatClampNeg &&& (31 : Int32)) = 22 → (w_L_law_1607 T Q sc0 sc N (w_L_law_23 T Q sc0 sc N f23) l1 l2 l3 l4 G)) ∧ ((sc l4.toNatClampNeg &&& (31 : Int32)) = 23 → (w_L_law_1618 T Q sc0 sc N (w_L_law_23 T Q sc0 sc N f23) l1 l2 l3 l4 G)) ∧ (¬ (sc l4.toNatClampNeg &&& (31 : Int32)) = 0 → ¬ (sc l4.toNatClampNeg &&& (31 : Int32)) = 1 → ¬ (sc l4.toNatClampNeg &&& (31 : Int32)) = 2 → ¬ (sc l4.toNatClampNeg &&& (31 : Int32)) = 3 → ¬ (sc l4.toNatClampNeg &&& (31 : Int32)) = 4 → ¬ (sc l4.toNatClampNeg &&& (31 : Int32)) = 5 → ¬ (sc l4.toNatClampNeg &&& (31 : Int32)) = 6 → ¬ (sc l4.toNatClampNeg &&& (31 : Int32)) = 7 → ¬ (sc l4.toNatClampNeg &&& (31 : Int32)) = 8 → ¬ (sc l4.toNatClampNeg &&& (31 : Int32)) = 9 → ¬ (sc l4.toNatClampNeg &&& (31 : Int32)) = 10 → ¬ (sc l4.toNatClampNeg &&& (31 : Int32)) = 11 → ¬ (sc l4.toNatClampNeg &&& (31 : Int32)) = 12 → ¬ (sc l4.toNatClampNeg &&& (31 : Int32)) = 13 → ¬ (sc l4.toNatClampNeg &&& (31 : Int32)) = 14 → ¬ (sc l4.toNatClampNeg &&& (31 : Int32)) = 15 → ¬ (sc l4.toNatClampNeg &&& (31 : Int32)) = 16 → ¬ (sc l4.toNatClampNeg &&& (31 : Int32)) = 17 → ¬ (sc l4.toNatClampNeg &&& (31 : Int32)) = 18 → ¬ (sc l4.toNatClampNeg &&& (31 : Int32)) = 19 → ¬ (sc l4.toNatClampNeg &&& (31 : Int32)) = 20 → ¬ (sc l4.toNatClampNeg &&& (31 : Int32)) = 21 → ¬ (sc l4.toNatClampNeg &&& (31 : Int32)) = 22 → ¬ (sc l4.toNatClampNeg &&& (31 : Int32)) = 23 → (w_L_law_1631 T Q sc0 sc N (w_L_law_23 T Q sc0 sc N f23) l1 l2 l3 l4 G)))) := h
    have hk23 := ih
    refine l_ild C dL_law_23 hl 4 rfl ?_
    refine l_ald_n C dL_law_25 hl 0 rfl rfl ?_
    refine z_scl hsc C I dL_law_26 ?_
    refine lv_bipush (v := 6) C.1 C.2.1 dL_law_27 (by decide) ?_
    refine lv_isub C.1 C.2.1 dL_law_29 ?_
    refine lv_icmp_gt (tgt := 1637) C.1 C.2.1 dL_law_30 (by decide) (fun c1 => ?_) (fun c1 => ?_)
    · have h := h.1 c1
      refine lv_iconst (v := 1) C.1 C.2.1 dL_law_1637 (by decide) ?_
      exact r_int C.1 C.2.1 C.2.2.2.2.2.1 rfl C.2.2.2.2.2.2 ⟨rfl, rfl⟩ I dL_law_1638 ⟨_, rfl, h⟩
    · have h := h.2 c1
      refine l_ald_n C dL_law_33 hl 0 rfl rfl ?_
      refine l_ild C dL_law_34 hl 4 rfl ?_
      obtain ⟨hi, h⟩ := h
      refine z_scr hsc C I hi dL_law_36 ?_
      refine lv_bipush (v := 31) C.1 C.2.1 dL_law_37 (by decide) ?_
      refine lv_iand C.1 C.2.1 dL_law_39 ?_
      by_cases t0 : (sc l4.toNatClampNeg &&& (31 : Int32)) = 0
      · have h := h.1 t0
        refine lv_tableIn (off := 112) (tgt := 152) C.1 C.2.1 dL_law_40 (by rw [t0]; decide) (by rw [t0]; decide) (by rw [t0]; rfl) (by decide) ?_
        exact b_L_law_152 C hLf hsc hk23 l1 l2 l3 l4 G _ _ _ _ _ h I (hl.sub [0, 1, 2, 3, 4] rfl)
      by_cases t1 : (sc l4.toNatClampNeg &&& (31 : Int32)) = 1
      · have h := h.2.1 t1
        refine lv_tableIn (off := 185) (tgt := 225) C.1 C.2.1 dL_law_40 (by rw [t1]; decide) (by rw [t1]; decide) (by rw [t1]; rfl) (by decide) ?_
        exact b_L_law_225 C hLf hsc hk23 l1 l2 l3 l4 G _ _ _ _ _ h I (hl.sub [0, 1, 2, 3, 4] rfl)
      by_cases t2 : (sc l4.toNatClampNeg &&& (31 : Int32)) = 2
      · have h := h.2.2.1 t2
        refine lv_tableIn (off := 241) (tgt := 281) C.1 C.2.1 dL_law_40 (by rw [t2]; decide) (by rw [t2]; decide) (by rw [t2]; rfl) (by decide) ?_
        exact b_L_law_281 C hLf hsc hk23 l1 l2 l3 l4 G _ _ _ _ _ h I (hl.sub [0, 1, 2, 3, 4] rfl)
      by_cases t3 : (sc l4.toNatClampNeg &&& (31 : Int32)) = 3
      · have h := h.2.2.2.1 t3
        refine lv_tableIn (off := 254) (tgt := 294) C.1 C.2.1 dL_law_40 (by rw [t3]; decide) (by rw [t3]; decide) (by rw [t3]; rfl) (by decide) ?_
        exact b_L_law_294 C hLf hsc hk23 l1 l2 l3 l4 G _ _ _ _ _ h I (hl.sub [0, 1, 2, 3, 4] rfl)
      by_cases t4 : (sc l4.toNatClampNeg &&& (31 : Int32)) = 4
      · have h := h.2.2.2.2.1 t4
        refine lv_tableIn (off := 310) (tgt := 350) C.1 C.2.1 dL_law_40 (by rw [t4]; decide) (by rw [t4]; decide) (by rw [t4]; rfl) (by decide) ?_
        exact b_L_law_350 C hLf hsc hk23 l1 l2 l3 l4 G _ _ _ _ _ h I (hl.sub [0, 1, 2, 3, 4] rfl)
      by_cases t5 : (sc l4.toNatClampNeg &&& (31 : Int32)) = 5
      · have h := h.2.2.2.2.2.1 t5
        refine lv_tableIn (off := 378) (tgt := 418) C.1 C.2.1 dL_law_40 (by rw [t5]; decide) (by rw [t5]; decide) (by rw [t5]; rfl) (by decide) ?_
        exact b_L_law_418 C hLf hsc hk23 l1 l2 l3 l4 G _ _ _ _ _ h I (hl.sub [0, 1, 2, 3, 4] rfl)
      by_cases t6 : (sc l4.toNatClampNeg &&& (31 : Int32)) = 6
      · have h := h.2.2.2.2.2.2.1 t6
        refine lv_tableIn (off := 446) (tgt := 486) C.1 C.2.1 dL_law_40 (by rw [t6]; decide) (by rw [t6]; decide) (by rw [t6]; rfl) (by decide) ?_
        exact b_L_law_486 C hLf hsc hk23 l1 l2 l3 l4 G _ _ _ _ _ h I (hl.sub [0, 1, 2, 3, 4] rfl)
      by_cases t7 : (sc l4.toNatClampNeg &&& (31 : Int32)) = 7
      · have h := h.2.2.2.2.2.2.2.1 t7
        refine lv_tableIn (off := 538) (tgt := 578) C.1 C.2.1 dL_law_40 (by rw [t7]; decide) (by rw [t7]; decide) (by rw [t7]; rfl) (by decide) ?_
        exact b_L_law_578 C hLf hsc hk23 l1 l2 l3 l4 G _ _ _ _ _ h I (hl.sub [0, 1, 2, 3, 4] rfl)
      by_cases t8 : (sc l4.toNatClampNeg &&& (31 : Int32)) = 8
      · have h := h.2.2.2.2.2.2.2.2.1 t8
        refine lv_tableIn (off := 594) (tgt := 634) C.1 C.2.1 dL_law_40 (by rw [t8]; decide) (by rw [t8]; decide) (by rw [t8]; rfl) (by decide) ?_
        exact b_L_law_634 C hLf hsc hk23 l1 l2 l3 l4 G _ _ _ _ _ h I (hl.sub [0, 1, 2, 3, 4] rfl)
      by_cases t9 : (sc l4.toNatClampNeg &&& (31 : Int32)) = 9
      · have h := h.2.2.2.2.2.2.2.2.2.1 t9
        refine lv_tableIn (off := 650) (tgt := 690) C.1 C.2.1 dL_law_40 (by rw [t9]; decide) (by rw [t9]; decide) (by rw [t9]; rfl) (by decide) ?_
        exact b_L_law_690 C hLf hsc hk23 l1 l2 l3 l4 G _ _ _ _ _ h I (hl.sub [0, 1, 2, 3, 4] rfl)
      by_cases t10 : (sc l4.toNatClampNeg &&& (31 : Int32)) = 10
      · have h := h.2.2.2.2.2.2.2.2.2.2.1 t10
        refine lv_tableIn (off := 770) (tgt := 810) C.1 C.2.1 dL_law_40 (by rw [t10]; decide) (by rw [t10]; decide) (by rw [t10]; rfl) (by decide) ?_
        exact b_L_law_810 C hLf hsc hk23 l1 l2 l3 l4 G _ _ _ _ _ h I (hl.sub [0, 1, 2, 3, 4] rfl)
      by_cases t11 : (sc l4.toNatClampNeg &&& (31 : Int32)) = 11
      · have h := h.2.2.2.2.2.2.2.2.2.2.2.1 t11
        refine lv_tableIn (off := 850) (tgt := 890) C.1 C.2.1 dL_law_40 (by rw [t11]; decide) (by rw [t11]; decide) (by rw [t11]; rfl) (by decide) ?_
        exact b_L_law_890 C hLf hsc hk23 l1 l2 l3 l4 G _ _ _ _ _ h I (hl.sub [0, 1, 2, 3, 4] rfl)
      by_cases t12 : (sc l4.toNatClampNeg &&& (31 : Int32)) = 12
      · have h := h.2.2.2.2.2.2.2.2.2.2.2.2.1 t12
        refine lv_tableIn (off := 863) (tgt := 903) C.1 C.2.1 dL_law_40 (by rw [t12]; decide) (by rw [t12]; decide) (by rw [t12]; rfl) (by decide) ?_
        exact b_L_law_903 C hLf hsc hk23 l1 l2 l3 l4 G _ _ _ _ _ h I (hl.sub [0, 1, 2, 3, 4] rfl)
      by_cases t13 : (sc l4.toNatClampNeg &&& (31 : Int32)) = 13
      · have h := h.2.2.2.2.2.2.2.2.2.2.2.2.2.1 t13
        refine lv_tableIn (off := 931) (tgt := 971) C.1 C.2.1 dL_law_40 (by rw [t13]; decide) (by rw [t13]; decide) (by rw [t13]; rfl) (by decide) ?_
        exact b_L_law_971 C hLf hsc hk23 l1 l2 l3 l4 G _ _ _ _ _ h I (hl.sub [0, 1, 2, 3, 4] rfl)
      by_cases t14 : (sc l4.toNatClampNeg &&& (31 : Int32)) = 14
      · have h := h.2.2.2.2.2.2.2.2.2.2.2.2.2.2.1 t14
        refine lv_tableIn (off := 1039) (tgt := 1079) C.1 C.2.1 dL_law_40 (by rw [t14]; decide) (by rw [t14]; decide) (by rw [t14]; rfl) (by decide) ?_
        exact b_L_law_1079 C hLf hsc hk23 l1 l2 l3 l4 G _ _ _ _ _ h I (hl.sub [0, 1, 2, 3, 4] rfl)
      by_cases t15 : (sc l4.toNatClampNeg &&& (31 : Int32)) = 15
      · have h := h.2.2.2.2.2.2.2.2.2.2.2.2.2.2.2.1 t15
        refine lv_tableIn (off := 1095) (tgt := 1135) C.1 C.2.1 dL_law_40 (by rw [t15]; decide) (by rw [t15]; decide) (by rw [t15]; rfl) (by decide) ?_
        exact b_L_law_1135 C hLf hsc hk23 l1 l2 l3 l4 G _ _ _ _ _ h I (hl.sub [0, 1, 2, 3, 4] rfl)
      by_cases t16 : (sc l4.toNatClampNeg &&& (31 : Int32)) = 16
      · have h := h.2.2.2.2.2.2.2.2.2.2.2.2.2.2.2.2.1 t16
        refine lv_tableIn (off := 1108) (tgt := 1148) C.1 C.2.1 dL_law_40 (by rw [t16]; decide) (by rw [t16]; decide) (by rw [t16]; rfl) (by decide) ?_
        exact b_L_law_1148 C hLf hsc hk23 l1 l2 l3 l4 G _ _ _ _ _ h I (hl.sub [0, 1, 2, 3, 4] rfl)
      by_cases t17 : (sc l4.toNatClampNeg &&& (31 : Int32)) = 17
      · have h := h.2.2.2.2.2.2.2.2.2.2.2.2.2.2.2.2.2.1 t17
        refine lv_tableIn (off := 1164) (tgt := 1204) C.1 C.2.1 dL_law_40 (by rw [t17]; decide) (by rw [t17]; decide) (by rw [t17]; rfl) (by decide) ?_
        exact b_L_law_1204 C hLf hsc hk23 l1 l2 l3 l4 G _ _ _ _ _ h I (hl.sub [0, 1, 2, 3, 4] rfl)
      by_cases t18 : (sc l4.toNatClampNeg &&& (31 : Int32)) = 18
      · have h := h.2.2.2.2.2.2.2.2.2.2.2.2.2.2.2.2.2.2.1 t18
        refine lv_tableIn (off := 1232) (tgt := 1272) C.1 C.2.1 dL_law_40 (by rw [t18]; decide) (by rw [t18]; decide) (by rw [t18]; rfl) (by decide) ?_
        exact b_L_law_1272 C hLf hsc hk23 l1 l2 l3 l4 G _ _ _ _ _ h I (hl.sub [0, 1, 2, 3, 4] rfl)
      by_cases t19 : (sc l4.toNatClampNeg &&& (31 : Int32)) = 19
      · have h := h.2.2.2.2.2.2.2.2.2.2.2.2.2.2.2.2.2.2.2.1 t19
        refine lv_tableIn (off := 1300) (tgt := 1340) C.1 C.2.1 dL_law_40 (by rw [t19]; decide) (by rw [t19]; decide) (by rw [t19]; rfl) (by decide) ?_
        exact b_L_law_1340 C hLf hsc hk23 l1 l2 l3 l4 G _ _ _ _ _ h I (hl.sub [0, 1, 2, 3, 4] rfl)
      by_cases t20 : (sc l4.toNatClampNeg &&& (31 : Int32)) = 20
      · have h := h.2.2.2.2.2.2.2.2.2.2.2.2.2.2.2.2.2.2.2.2.1 t20
        refine lv_tableIn (off := 1356) (tgt := 1396) C.1 C.2.1 dL_law_40 (by rw [t20]; decide) (by rw [t20]; decide) (by rw [t20]; rfl) (by decide) ?_
        exact b_L_law_1396 C hLf hsc hk23 l1 l2 l3 l4 G _ _ _ _ _ h I (hl.sub [0, 1, 2, 3, 4] rfl)
      by_cases t21 : (sc l4.toNatClampNeg &&& (31 : Int32)) = 21
      · have h := h.2.2.2.2.2.2.2.2.2.2.2.2.2.2.2.2.2.2.2.2.2.1 t21
        refine lv_tableIn (off := 1452) (tgt := 1492) C.1 C.2.1 dL_law_40 (by rw [t21]; decide) (by rw [t21]; decide) (by rw [t21]; rfl) (by decide) ?_
        exact b_L_law_1492 C hLf hsc hk23 l1 l2 l3 l4 G _ _ _ _ _ h I (hl.sub [0, 1, 2, 3, 4] rfl)
      by_cases t22 : (sc l4.toNatClampNeg &&& (31 : Int32)) = 22
      · have h := h.2.2.2.2.2.2.2.2.2.2.2.2.2.2.2.2.2.2.2.2.2.2.1 t22
        refine lv_tableIn (off := 1567) (tgt := 1607) C.1 C.2.1 dL_law_40 (by rw [t22]; decide) (by rw [t22]; decide) (by rw [t22]; rfl) (by decide) ?_
        exact b_L_law_1607 C hLf hsc hk23 l1 l2 l3 l4 G _ _ _ _ _ h I (hl.sub [0, 1, 2, 3, 4] rfl)
      by_cases t23 : (sc l4.toNatClampNeg &&& (31 : Int32)) = 23
      · have h := h.2.2.2.2.2.2.2.2.2.2.2.2.2.2.2.2.2.2.2.2.2.2.2.1 t23
        refine lv_tableIn (off := 1578) (tgt := 1618) C.1 C.2.1 dL_law_40 (by rw [t23]; decide) (by rw [t23]; decide) (by rw [t23]; rfl) (by decide) ?_
        exact b_L_law_1618 C hLf hsc hk23 l1 l2 l3 l4 G _ _ _ _ _ h I (hl.sub [0, 1, 2, 3, 4] rfl)
      have h := h.2.2.2.2.2.2.2.2.2.2.2.2.2.2.2.2.2.2.2.2.2.2.2.2 t0 t1 t2 t3 t4 t5 t6 t7 t8 t9 t10 t11 t12 t13 t14 t15 t16 t17 t18 t19 t20 t21 t22 t23
      refine lv_tableOut (tgt := 1631) C.1 C.2.1 dL_law_40 (sw_out (n := 24) (fun j hj => by match j, hj with | 0, _ => exact t0 | 1, _ => exact t1 | 2, _ => exact t2 | 3, _ => exact t3 | 4, _ => exact t4 | 5, _ => exact t5 | 6, _ => exact t6 | 7, _ => exact t7 | 8, _ => exact t8 | 9, _ => exact t9 | 10, _ => exact t10 | 11, _ => exact t11 | 12, _ => exact t12 | 13, _ => exact t13 | 14, _ => exact t14 | 15, _ => exact t15 | 16, _ => exact t16 | 17, _ => exact t17 | 18, _ => exact t18 | 19, _ => exact t19 | 20, _ => exact t20 | 21, _ => exact t21 | 22, _ => exact t22 | 23, _ => exact t23 | j + 24, hj => exact absurd hj (by omega)) (by decide)) (by decide) ?_
      exact b_L_law_1631 C hLf hsc hk23 l1 l2 l3 l4 G _ _ _ _ _ h I (hl.sub [0, 1, 2, 3, 4] rfl)
def w_L_law (T : Nat → ClassId) (Q : Int32 → Hp → Prop) (sc0 : Option Nat) (sc : Nat → Int32) (N : Nat) (G : Hp) : Prop := (1 ≤ gC G ∧ 16 ≤ gS G ∧ ∀ G1 : Hp, G1 = nw G 1 0 16 → w_X1_init T (fun G2 => Ext G1 G2 → 1 ≤ gC G2 ∧ 74 ≤ gS G2 ∧ ∀ G4 : Hp, G4 = nw G2 19 0 74 → w_X11_init T (fun G5 => Ext G4 G5 → (¬ (1 : Int32) < 0 ∧ ((1 : Int32)).toNatClampNeg ≤ 100000 ∧ 1 ≤ gC G5 ∧ ((1 : Int32)).toNatClampNeg ≤ gS G5) ∧ ∀ G7 : Hp, G7 = nw G5 53 ((1 : Int32)).toNatClampNeg ((1 : Int32)).toNatClampNeg → ∃ n, w_L_law_23 T Q sc0 sc N n ((some (gZ G))) ((some (gZ G2))) ((some (gZ G5))) ((0 : Int32)) G7) ((some (gZ G2))) G4) ((some (gZ G))) G1)
set_option maxHeartbeats 4000000 in
theorem wl_L_law {G0 : Hp} {Q : Int32 → Hp → Prop} {sc0 : Option Nat} {sc : Nat → Int32} {N : Nat} (C : Cx p s m meth c D T Z "EndingTownLaw" cL_law 7 (some .boolean)) (hLf : l.flags = flags0) (hsc : ∃ a, sc0 = some a ∧ va_X a N sc s Z) (I : HI (twd D T Z) G0 s (rmX (twd D T Z) 2048 84000 G0) s.heap [] 0 0 G0) (hw : w_L_law T Q sc0 sc N G0) : W p l e (rmX (twd D T Z) 2048 84000 G0) s m args below meth c s.heap [] 0 0 (MQX (twd D T Z) G0 (qI Q) (fun _ _ => False) below s) (entryFrame m [va_rf sc0].toArray 7) := by
  refine w_entry [.inr (.inl sc0)] (Nat.le_of_ble_eq_true rfl) (fun ls hl => ?_)
  have hl : LH ls 7 [(0, .inr (.inl sc0))] := hl
  have h := hw
  obtain ⟨hb1, hb2, h⟩ := h
  refine N_obj (kd := 1) C I (by decide) q136 ⟨hb1, hb2⟩ dL_law_0 (fun H cells slots G1 eG1 xG1 I => ?_)
  have h := h G1 eG1
  have hnG1 : isO G1 (some (gZ G0)) 1 := ⟨_, rfl, by rw [eG1]; exact gK_nw⟩
  refine lv_dup C.1 C.2.1 dL_law_3 (cat_rf _) ?_
  refine k_call Ext.tr C I (k_I (r := (some (gZ G0))) (As := []) (rest := [va_rf ((some (gZ G0)))]) (y := yX1_init) C hnG1.ad.1 rfl q138 q139 q140 (by decide) rfl pd_X1_init rfl dL_law_4) (ct_X1_init h) hl.1 dL_law_4 [.inr (.inl ((some (gZ G0))))] rfl (Nat.le_of_ble_eq_true rfl) (Or.inl rfl) q140 q100 ⟨Nat.le_of_ble_eq_true rfl, Nat.le_of_ble_eq_true rfl⟩ (fun v G2 H locs cells slots xG2 hq I => ?_) (fun a G9 H locs cells slots ex hq I => hq.elim)
  obtain ⟨rfl, h⟩ := hq
  have h := h xG2
  refine l_ast_n C dL_law_7 rfl hl (by decide) rfl (fun ls hl => ?_)
  have hl : LH ls 7 [(1, .inr (.inl ((some (gZ G0))))), (0, .inr (.inl sc0))] := hl
  obtain ⟨hb1, hb2, h⟩ := h
  refine N_obj (kd := 19) C I (by decide) q1358 ⟨hb1, hb2⟩ dL_law_8 (fun H cells slots G4 eG4 xG4 I => ?_)
  have h := h G4 eG4
  have hnG4 : isO G4 (some (gZ G2)) 19 := ⟨_, rfl, by rw [eG4]; exact gK_nw⟩
  refine lv_dup C.1 C.2.1 dL_law_11 (cat_rf _) ?_
  refine k_call Ext.tr C I (k_I (r := (some (gZ G2))) (As := []) (rest := [va_rf ((some (gZ G2)))]) (y := yX11_init) C hnG4.ad.1 rfl q1360 q1361 q1362 (by decide) rfl pd_X11_init rfl dL_law_12) (ct_X11_init h) hl.1 dL_law_12 [.inr (.inl ((some (gZ G2))))] rfl (Nat.le_of_ble_eq_true rfl) (Or.inl rfl) q1362 q113 ⟨Nat.le_of_ble_eq_true rfl, Nat.le_of_ble_eq_true rfl⟩ (fun v G5 H locs cells slots xG5 hq I => ?_) (fun a G9 H locs cells slots ex hq I => hq.elim)
  obtain ⟨rfl, h⟩ := hq
  have h := h xG5
  refine l_ast_n C dL_law_15 rfl hl (by decide) rfl (fun ls hl => ?_)
  have hl : LH ls 7 [(2, .inr (.inl ((some (gZ G2))))), (1, .inr (.inl ((some (gZ G0))))), (0, .inr (.inl sc0))] := hl
  refine lv_iconst (v := 1) C.1 C.2.1 dL_law_16 (by decide) ?_
  obtain ⟨hb, h⟩ := h
  refine N_arr (kd := 53) C I (by decide) rfl q1922 hb dL_law_17 (fun H cells slots G7 eG7 xG7 I => ?_)
  have h := h G7 eG7
  have hnG7 : isO G7 (some (gZ G5)) 53 := ⟨_, rfl, by rw [eG7]; exact gK_nw⟩
  refine l_ast_n C dL_law_19 rfl hl (by decide) rfl (fun ls hl => ?_)
  have hl : LH ls 7 [(3, .inr (.inl ((some (gZ G5))))), (2, .inr (.inl ((some (gZ G2))))), (1, .inr (.inl ((some (gZ G0))))), (0, .inr (.inl sc0))] := hl
  refine lv_iconst (v := 0) C.1 C.2.1 dL_law_20 (by decide) ?_
  refine l_ist C dL_law_21 hl (by decide) rfl (fun ls hl => ?_)
  have hl : LH ls 7 [(4, .inl ((0 : Int32))), (3, .inr (.inl ((some (gZ G5))))), (2, .inr (.inl ((some (gZ G2))))), (1, .inr (.inl ((some (gZ G0))))), (0, .inr (.inl sc0))] := hl
  obtain ⟨n, h⟩ := h
  exact b_L_law_23 C hLf hsc n ((some (gZ G0))) ((some (gZ G2))) ((some (gZ G5))) ((0 : Int32)) G7 _ _ _ _ _ h I (hl.sub [4, 3, 2, 1, 0] rfl)
end GLW
