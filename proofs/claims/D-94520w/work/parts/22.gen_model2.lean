/-! the Model: wp and contracts, by program -/
set_option maxRecDepth 100000
section GM1
variable {p : Program} {l : Launch} {e : Env} {s : State} {m : MethodId} {args : Array Value} {below : List Frame} {meth : Method} {c : Code} {D : va_G} {T : Nat → ClassId} {Z : Heap}
def w_X11_right_28 (Q : Int32 → MS → Prop) (t0 : Int32) (M : MS) : Prop := bz t0 ∧ Q t0 M
set_option maxHeartbeats 4000000 in
theorem b_X11_right_28 {b0 z0 : Nat} {M0 : MS} {Q : Int32 → MS → Prop} (C : Cx p s m meth c D T Z "EndingTownModel" cX11_right 3 (some .boolean)) : ∀ (t0 : Int32) (M : MS) (H : Heap) (locs : List Loc) (cells slots : Nat) (ls : Array Slot), w_X11_right_28 Q t0 M → HI (twd D T Z) (mG b0 z0 M0) s (rmX (twd D T Z) 0 0 (mG b0 z0 M0)) H locs cells slots (mG b0 z0 M) → LH ls 3 [] → W p l e (rmX (twd D T Z) 0 0 (mG b0 z0 M0)) s m args below meth c H locs cells slots (MQX (twd D T Z) (mG b0 z0 M0) (mq b0 z0 (qI Q)) (fun _ _ => False) below s) (F0 m 28 ls [.int t0]) := by
  intro t0 M H locs cells slots ls h I hl
  exact r_int C.1 C.2.1 C.2.2.2.2.2.1 h.1.n C.2.2.2.2.2.2 ⟨rfl, rfl⟩ I dX11_right_28 ⟨_, rfl, _, rfl, h.2⟩
def w_X11_right_16 (Q : Int32 → MS → Prop) (M : MS) : Prop := ((¬ mF M 0 = 0) → (w_X11_right_28 Q ((0 : Int32)) M)) ∧ ((mF M 0 = 0) → (w_X11_right_28 Q ((1 : Int32)) M))
set_option maxHeartbeats 4000000 in
theorem b_X11_right_16 {b0 z0 : Nat} {M0 : MS} {Q : Int32 → MS → Prop} (C : Cx p s m meth c D T Z "EndingTownModel" cX11_right 3 (some .boolean)) : ∀ (M : MS) (H : Heap) (locs : List Loc) (cells slots : Nat) (ls : Array Slot), w_X11_right_16 Q M → HI (twd D T Z) (mG b0 z0 M0) s (rmX (twd D T Z) 0 0 (mG b0 z0 M0)) H locs cells slots (mG b0 z0 M) → LH ls 3 [(0, .inr (.inl (some b0)))] → W p l e (rmX (twd D T Z) 0 0 (mG b0 z0 M0)) s m args below meth c H locs cells slots (MQX (twd D T Z) (mG b0 z0 M0) (mq b0 z0 (qI Q)) (fun _ _ => False) below s) (F0 m 16 ls []) := by
  intro M H locs cells slots ls h I hl
  refine l_ald_n (x := some b0) C dX11_right_16 hl 0 rfl rfl ?_
  refine f_I C I (fl_X11_122) (by decide) dX11_right_17 ?_
  refine lv_if_ne (tgt := 27) C.1 C.2.1 dX11_right_20 (by decide) (fun c1 => ?_) (fun c1 => ?_)
  · have h := h.1 c1
    refine lv_iconst (v := 0) C.1 C.2.1 dX11_right_27 (by decide) ?_
    exact b_X11_right_28 C ((0 : Int32)) M _ _ _ _ _ h I (hl.sub [] rfl)
  · have h := h.2 c1
    refine lv_iconst (v := 1) C.1 C.2.1 dX11_right_23 (by decide) ?_
    refine lv_goto (tgt := 28) C.1 C.2.1 dX11_right_24 (by decide) ?_
    exact b_X11_right_28 C ((1 : Int32)) M _ _ _ _ _ h I (hl.sub [] rfl)
def w_X11_right (Q : Int32 → MS → Prop) (p0 : Int32) (p1 : Int32) (M : MS) : Prop := ((¬ mF M 0 = 0) → (w_X11_right_16 Q M)) ∧ ((mF M 0 = 0) → (((¬ p0 = 0) → (w_X11_right_16 Q M)) ∧ ((p0 = 0) → (∀ M1 : MS, M1 = sF M 0 p1 → w_X11_right_16 Q M1))))
theorem pd_X11_right : (parseMethodDescriptor yX11_right.desc).map (fun d => d.parameters.length) = some 2 := by decide +kernel
set_option maxHeartbeats 4000000 in
theorem ct_X11_right {l : Launch} {D : va_G} {T : Nat → ClassId} {Z : Heap} {b0 z0 : Nat} {M0 : MS} {Q : Int32 → MS → Prop} {p0 : Int32} {p1 : Int32} (hw : w_X11_right Q p0 p1 M0) : CT (twd D T Z) (Evd D T Z) l yX11_right (Cond.code yX11_right cX11_right 3 (some .boolean)) 0 0 [va_rf (some b0), .int p0, .int p1] (mG b0 z0 M0) (mq b0 z0 (qI Q)) (fun _ _ => False) := by
  refine CT.ofW (cc := cX11_right) (nL := 3) (ret := (some .boolean)) Ext.rf (by decide) (Or.inl rfl) ?_
  intro p e s m below meth c hx hb hml hown hr hlk hnm hcb hm hc hn hE I
  have C : Cx p s m meth c D T Z "EndingTownModel" cX11_right 3 (some .boolean) := ⟨hx, hb, hml, hown, hE, hr, hlk⟩
  refine w_entry [.inr (.inl (some b0)), .inl p0, .inl p1] (Nat.le_of_ble_eq_true rfl) (fun ls hl => ?_)
  have hl : LH ls 3 [(0, .inr (.inl (some b0))), (1, .inl p0), (2, .inl p1)] := hl
  have h := hw
  refine l_ald_n (x := some b0) C dX11_right_0 hl 0 rfl rfl ?_
  refine f_I C I (fl_X11_122) (by decide) dX11_right_1 ?_
  refine lv_if_ne (tgt := 16) C.1 C.2.1 dX11_right_4 (by decide) (fun c3 => ?_) (fun c3 => ?_)
  · have h := h.1 c3
    exact b_X11_right_16 C M0 _ _ _ _ _ h I (hl.sub [0] rfl)
  · have h := h.2 c3
    refine l_ild_n C dX11_right_7 hl 1 rfl rfl ?_
    refine lv_if_ne (tgt := 16) C.1 C.2.1 dX11_right_8 (by decide) (fun c2 => ?_) (fun c2 => ?_)
    · have h := h.1 c2
      exact b_X11_right_16 C M0 _ _ _ _ _ h I (hl.sub [0] rfl)
    · have h := h.2 c2
      refine l_ald_n (x := some b0) C dX11_right_11 hl 0 rfl rfl ?_
      refine l_ild_n C dX11_right_12 hl 2 rfl rfl ?_
      refine f_PI C I (fp_X11_122) (by decide) dX11_right_13 (fit_i _) (fun H locs M1 eM1 I => ?_)
      have h := h M1 eM1
      exact b_X11_right_16 C M1 _ _ _ _ _ h I (hl.sub [0] rfl)
def w_X11_village_304 (Q : Int32 → MS → Prop) (k254 : Int32 → MS → Prop) (k265 : Int32 → Int32 → Int32 → MS → Prop) (l2 : Int32) (l4 : Int32) (t0 : Int32) (M : MS) : Prop := vp_in ((((24 : Int32) * l2) + l4)) (mlen 14) ∧ ∀ M1 : MS, M1 = sA M 14 ((((24 : Int32) * l2) + l4)).toNatClampNeg t0 → k265 l2 t0 ((l4 + 1)) M1
set_option maxHeartbeats 4000000 in
theorem b_X11_village_304 {b0 z0 : Nat} {M0 : MS} {Q : Int32 → MS → Prop} {k254 : Int32 → MS → Prop} {k265 : Int32 → Int32 → Int32 → MS → Prop} (C : Cx p s m meth c D T Z "EndingTownModel" cX11_village 5 (some .int)) (hk254 : ∀ (l2 : Int32) (M : MS) (H : Heap) (locs : List Loc) (cells slots : Nat) (ls : Array Slot), k254 l2 M → HI (twd D T Z) (mG b0 z0 M0) s (rmX (twd D T Z) 5 113 (mG b0 z0 M0)) H locs cells slots (mG b0 z0 M) → LH ls 5 [(0, .inr (.inl (some b0))), (2, .inl l2)] → W p l e (rmX (twd D T Z) 5 113 (mG b0 z0 M0)) s m args below meth c H locs cells slots (MQX (twd D T Z) (mG b0 z0 M0) (mq b0 z0 (qI Q)) (fun _ _ => False) below s) (F0 m 254 ls [])) (hk265 : ∀ (l2 : Int32) (l3 : Int32) (l4 : Int32) (M : MS) (H : Heap) (locs : List Loc) (cells slots : Nat) (ls : Array Slot), k265 l2 l3 l4 M → HI (twd D T Z) (mG b0 z0 M0) s (rmX (twd D T Z) 5 113 (mG b0 z0 M0)) H locs cells slots (mG b0 z0 M) → LH ls 5 [(0, .inr (.inl (some b0))), (2, .inl l2), (3, .inl l3), (4, .inl l4)] → W p l e (rmX (twd D T Z) 5 113 (mG b0 z0 M0)) s m args below meth c H locs cells slots (MQX (twd D T Z) (mG b0 z0 M0) (mq b0 z0 (qI Q)) (fun _ _ => False) below s) (F0 m 265 ls [])) : ∀ (l2 : Int32) (l4 : Int32) (t0 : Int32) (M : MS) (H : Heap) (locs : List Loc) (cells slots : Nat) (ls : Array Slot), w_X11_village_304 Q k254 k265 l2 l4 t0 M → HI (twd D T Z) (mG b0 z0 M0) s (rmX (twd D T Z) 5 113 (mG b0 z0 M0)) H locs cells slots (mG b0 z0 M) → LH ls 5 [(0, .inr (.inl (some b0))), (2, .inl l2), (4, .inl l4)] → W p l e (rmX (twd D T Z) 5 113 (mG b0 z0 M0)) s m args below meth c H locs cells slots (MQX (twd D T Z) (mG b0 z0 M0) (mq b0 z0 (qI Q)) (fun _ _ => False) below s) (F0 m 304 ls [.int t0]) := by
  intro l2 l4 t0 M H locs cells slots ls h I hl
  refine l_ist_n C dX11_village_304 rfl hl (by decide) rfl (fun ls hl => ?_)
  have hl : LH ls 5 [(3, .inl t0), (0, .inr (.inl (some b0))), (2, .inl l2), (4, .inl l4)] := hl
  refine l_ald_n (x := some b0) C dX11_village_305 hl 1 rfl rfl ?_
  refine f_A C I (fl_X11_35) (by decide) (by decide) dX11_village_306 ?_
  refine lv_bipush (v := 24) C.1 C.2.1 dX11_village_309 (by decide) ?_
  refine l_ild_n C dX11_village_311 hl 2 rfl rfl ?_
  refine lv_imul C.1 C.2.1 dX11_village_312 ?_
  refine l_ild C dX11_village_313 hl 3 rfl ?_
  refine lv_iadd C.1 C.2.1 dX11_village_315 ?_
  refine l_ild_n C dX11_village_316 hl 0 rfl rfl ?_
  obtain ⟨hi, h⟩ := h
  refine f_st (k := 14) C I (by decide) hi dX11_village_317 (fun H locs M1 eM1 I => ?_)
  have h := h M1 eM1
  refine l_inc (q := 3) (v := 1) C dX11_village_318 hl rfl (by decide) (by decide) rfl (fun ls hl => ?_)
  have hl : LH ls 5 [(4, .inl ((l4 + 1))), (3, .inl t0), (0, .inr (.inl (some b0))), (2, .inl l2)] := hl
  refine lv_goto (tgt := 265) C.1 C.2.1 dX11_village_321 (by decide) ?_
  exact hk265 l2 t0 ((l4 + 1)) M1 _ _ _ _ _ h I (hl.sub [2, 3, 1, 0] rfl)
def w_X11_village_265 (Q : Int32 → MS → Prop) (k254 : Int32 → MS → Prop) : Nat → Int32 → Int32 → Int32 → MS → Prop
  | 0 => fun _ _ _ _ => False
  | f265 + 1 => fun l2 l3 l4 M => (((24 : Int32) ≤ l4) → (k254 ((l2 + 1)) M)) ∧ ((¬ (24 : Int32) ≤ l4) → (vp_in ((((24 : Int32) * l2) + l4)) (mlen 44) ∧ ((¬ mA M 44 ((((24 : Int32) * l2) + l4)).toNatClampNeg = (-1 : Int32)) → (vp_in ((((24 : Int32) * l2) + l4)) (mlen 44) ∧ w_X11_village_304 Q k254 (w_X11_village_265 Q k254 f265) l2 l4 (mA M 44 ((((24 : Int32) * l2) + l4)).toNatClampNeg) M)) ∧ ((mA M 44 ((((24 : Int32) * l2) + l4)).toNatClampNeg = (-1 : Int32)) → (w_X11_village_304 Q k254 (w_X11_village_265 Q k254 f265) l2 l4 l3 M))))
set_option maxHeartbeats 4000000 in
theorem b_X11_village_265 {b0 z0 : Nat} {M0 : MS} {Q : Int32 → MS → Prop} {k254 : Int32 → MS → Prop} (C : Cx p s m meth c D T Z "EndingTownModel" cX11_village 5 (some .int)) (hk254 : ∀ (l2 : Int32) (M : MS) (H : Heap) (locs : List Loc) (cells slots : Nat) (ls : Array Slot), k254 l2 M → HI (twd D T Z) (mG b0 z0 M0) s (rmX (twd D T Z) 5 113 (mG b0 z0 M0)) H locs cells slots (mG b0 z0 M) → LH ls 5 [(0, .inr (.inl (some b0))), (2, .inl l2)] → W p l e (rmX (twd D T Z) 5 113 (mG b0 z0 M0)) s m args below meth c H locs cells slots (MQX (twd D T Z) (mG b0 z0 M0) (mq b0 z0 (qI Q)) (fun _ _ => False) below s) (F0 m 254 ls [])) : ∀ (n : Nat) (l2 : Int32) (l3 : Int32) (l4 : Int32) (M : MS) (H : Heap) (locs : List Loc) (cells slots : Nat) (ls : Array Slot), w_X11_village_265 Q k254 n l2 l3 l4 M → HI (twd D T Z) (mG b0 z0 M0) s (rmX (twd D T Z) 5 113 (mG b0 z0 M0)) H locs cells slots (mG b0 z0 M) → LH ls 5 [(0, .inr (.inl (some b0))), (2, .inl l2), (3, .inl l3), (4, .inl l4)] → W p l e (rmX (twd D T Z) 5 113 (mG b0 z0 M0)) s m args below meth c H locs cells slots (MQX (twd D T Z) (mG b0 z0 M0) (mq b0 z0 (qI Q)) (fun _ _ => False) below s) (F0 m 265 ls []) := by
  intro n
  induction n with
  | zero => intro l2 l3 l4 M H locs cells slots ls h; exact (show False from h).elim
  | succ n ih =>
    intro l2 l3 l4 M H locs cells slots ls h I hl
    have hk265 := ih
    refine l_ild C dX11_village_265 hl 3 rfl ?_
    refine lv_bipush (v := 24) C.1 C.2.1 dX11_village_267 (by decide) ?_
    refine lv_icmp_ge (tgt := 324) C.1 C.2.1 dX11_village_269 (by decide) (fun c2 => ?_) (fun c2 => ?_)
    · have h := h.1 c2
      refine l_inc (q := 1) (v := 1) C dX11_village_324 hl rfl (by decide) (by decide) rfl (fun ls hl => ?_)
      have hl : LH ls 5 [(2, .inl ((l2 + 1))), (0, .inr (.inl (some b0))), (3, .inl l3), (4, .inl l4)] := hl
      refine lv_goto (tgt := 254) C.1 C.2.1 dX11_village_327 (by decide) ?_
      exact hk254 ((l2 + 1)) M _ _ _ _ _ h I (hl.sub [1, 0] rfl)
    · have h := h.2 c2
      refine l_ald_n (x := some b0) C dX11_village_272 hl 0 rfl rfl ?_
      refine f_A C I (fl_X11_71) (by decide) (by decide) dX11_village_273 ?_
      refine lv_bipush (v := 24) C.1 C.2.1 dX11_village_276 (by decide) ?_
      refine l_ild_n C dX11_village_278 hl 1 rfl rfl ?_
      refine lv_imul C.1 C.2.1 dX11_village_279 ?_
      refine l_ild C dX11_village_280 hl 3 rfl ?_
      refine lv_iadd C.1 C.2.1 dX11_village_282 ?_
      obtain ⟨hi, h⟩ := h
      refine f_ld (k := 44) C I (by decide) hi dX11_village_283 ?_
      refine lv_iconst (v := (-1)) C.1 C.2.1 dX11_village_284 (by decide) ?_
      refine lv_icmp_ne (tgt := 292) C.1 C.2.1 dX11_village_285 (by decide) (fun c1 => ?_) (fun c1 => ?_)
      · have h := h.1 c1
        refine l_ald_n (x := some b0) C dX11_village_292 hl 0 rfl rfl ?_
        refine f_A C I (fl_X11_71) (by decide) (by decide) dX11_village_293 ?_
        refine lv_bipush (v := 24) C.1 C.2.1 dX11_village_296 (by decide) ?_
        refine l_ild_n C dX11_village_298 hl 1 rfl rfl ?_
        refine lv_imul C.1 C.2.1 dX11_village_299 ?_
        refine l_ild C dX11_village_300 hl 3 rfl ?_
        refine lv_iadd C.1 C.2.1 dX11_village_302 ?_
        obtain ⟨hi, h⟩ := h
        refine f_ld (k := 44) C I (by decide) hi dX11_village_303 ?_
        exact b_X11_village_304 C hk254 hk265 l2 l4 (mA M 44 ((((24 : Int32) * l2) + l4)).toNatClampNeg) M _ _ _ _ _ h I (hl.sub [0, 1, 3] rfl)
      · have h := h.2 c1
        refine l_ild_n C dX11_village_288 hl 2 rfl rfl ?_
        refine lv_goto (tgt := 304) C.1 C.2.1 dX11_village_289 (by decide) ?_
        exact b_X11_village_304 C hk254 hk265 l2 l4 l3 M _ _ _ _ _ h I (hl.sub [0, 1, 3] rfl)
def w_X11_village_254 (Q : Int32 → MS → Prop) : Nat → Int32 → MS → Prop
  | 0 => fun _ _ => False
  | f254 + 1 => fun l2 M => (((6 : Int32) ≤ l2) → (∀ M1 : MS, M1 = sF M 50 ((0 : Int32)) → ∀ M2 : MS, M2 = sF M1 67 ((0 : Int32)) → ∀ M3 : MS, M3 = sF M2 68 ((0 : Int32)) → ∀ M4 : MS, M4 = sF M3 65 ((-1 : Int32)) → ∀ M5 : MS, M5 = sF M4 69 ((0 : Int32)) → Q ((0 : Int32)) M5)) ∧ ((¬ (6 : Int32) ≤ l2) → (∃ n, w_X11_village_265 Q (w_X11_village_254 Q f254) n l2 ((0 : Int32)) ((0 : Int32)) M))
set_option maxHeartbeats 4000000 in
theorem b_X11_village_254 {b0 z0 : Nat} {M0 : MS} {Q : Int32 → MS → Prop} (C : Cx p s m meth c D T Z "EndingTownModel" cX11_village 5 (some .int)) : ∀ (n : Nat) (l2 : Int32) (M : MS) (H : Heap) (locs : List Loc) (cells slots : Nat) (ls : Array Slot), w_X11_village_254 Q n l2 M → HI (twd D T Z) (mG b0 z0 M0) s (rmX (twd D T Z) 5 113 (mG b0 z0 M0)) H locs cells slots (mG b0 z0 M) → LH ls 5 [(0, .inr (.inl (some b0))), (2, .inl l2)] → W p l e (rmX (twd D T Z) 5 113 (mG b0 z0 M0)) s m args below meth c H locs cells slots (MQX (twd D T Z) (mG b0 z0 M0) (mq b0 z0 (qI Q)) (fun _ _ => False) below s) (F0 m 254 ls []) := by
  intro n
  induction n with
  | zero => intro l2 M H locs cells slots ls h; exact (show False from h).elim
  | succ n ih =>
    intro l2 M H locs cells slots ls h I hl
    have hk254 := ih
    refine l_ild_n C dX11_village_254 hl 1 rfl rfl ?_
    refine lv_bipush (v := 6) C.1 C.2.1 dX11_village_255 (by decide) ?_
    refine lv_icmp_ge (tgt := 330) C.1 C.2.1 dX11_village_257 (by decide) (fun c6 => ?_) (fun c6 => ?_)
    · have h := h.1 c6
      refine l_ald_n (x := some b0) C dX11_village_330 hl 0 rfl rfl ?_
      refine lv_iconst (v := 0) C.1 C.2.1 dX11_village_331 (by decide) ?_
      refine f_PI C I (fp_X11_279) (by decide) dX11_village_332 (fit_i _) (fun H locs M1 eM1 I => ?_)
      have h := h M1 eM1
      refine l_ald_n (x := some b0) C dX11_village_335 hl 0 rfl rfl ?_
      refine lv_iconst (v := 0) C.1 C.2.1 dX11_village_336 (by decide) ?_
      refine f_PI C I (fp_X11_282) (by decide) dX11_village_337 (fit_i _) (fun H locs M2 eM2 I => ?_)
      have h := h M2 eM2
      refine l_ald_n (x := some b0) C dX11_village_340 hl 0 rfl rfl ?_
      refine lv_iconst (v := 0) C.1 C.2.1 dX11_village_341 (by decide) ?_
      refine f_PI C I (fp_X11_285) (by decide) dX11_village_342 (fit_i _) (fun H locs M3 eM3 I => ?_)
      have h := h M3 eM3
      refine l_ald_n (x := some b0) C dX11_village_345 hl 0 rfl rfl ?_
      refine lv_iconst (v := (-1)) C.1 C.2.1 dX11_village_346 (by decide) ?_
      refine f_PI C I (fp_X11_113) (by decide) dX11_village_347 (fit_i _) (fun H locs M4 eM4 I => ?_)
      have h := h M4 eM4
      refine l_ald_n (x := some b0) C dX11_village_350 hl 0 rfl rfl ?_
      refine lv_iconst (v := 0) C.1 C.2.1 dX11_village_351 (by decide) ?_
      refine f_PI C I (fp_X11_288) (by decide) dX11_village_352 (fit_z bz0) (fun H locs M5 eM5 I => ?_)
      have h := h M5 eM5
      refine lv_iconst (v := 0) C.1 C.2.1 dX11_village_355 (by decide) ?_
      exact r_int C.1 C.2.1 C.2.2.2.2.2.1 rfl C.2.2.2.2.2.2 ⟨rfl, rfl⟩ I dX11_village_356 ⟨_, rfl, _, rfl, h⟩
    · have h := h.2 c6
      refine lv_iconst (v := 0) C.1 C.2.1 dX11_village_260 (by decide) ?_
      refine l_ist_n C dX11_village_261 rfl hl (by decide) rfl (fun ls hl => ?_)
      have hl : LH ls 5 [(3, .inl ((0 : Int32))), (0, .inr (.inl (some b0))), (2, .inl l2)] := hl
      refine lv_iconst (v := 0) C.1 C.2.1 dX11_village_262 (by decide) ?_
      refine l_ist C dX11_village_263 hl (by decide) rfl (fun ls hl => ?_)
      have hl : LH ls 5 [(4, .inl ((0 : Int32))), (3, .inl ((0 : Int32))), (0, .inr (.inl (some b0))), (2, .inl l2)] := hl
      obtain ⟨n, h⟩ := h
      exact b_X11_village_265 C hk254 n l2 ((0 : Int32)) ((0 : Int32)) M _ _ _ _ _ h I (hl.sub [2, 3, 1, 0] rfl)
def w_X11_village_86 (Q : Int32 → MS → Prop) (M : MS) : Prop := w_X11_isGood (fun r2 M1 => ((¬ r2 = 0) → (∀ M3 : MS, M3 = sF M1 1 (mF M1 28) → ∀ M4 : MS, M4 = sF M3 2 (mF M3 29) → ∀ M5 : MS, M5 = sF M4 3 (mF M4 30) → ∀ M6 : MS, M6 = sF M5 4 (mF M5 31) → ∀ M7 : MS, M7 = sF M6 5 (mF M6 32) → ∀ M8 : MS, M8 = sF M7 6 (mF M7 33) → w_X11_copies (fun M9 => w_X11_copies (fun M11 => w_X11_copies (fun M13 => w_X11_copies (fun M15 => w_X11_copies (fun M17 => w_X11_copies (fun M19 => w_X11_copies (fun M21 => w_X11_copies (fun M23 => ∃ n, w_X11_village_254 Q n ((0 : Int32)) M23) 45 15 M21) 43 13 M19) 42 12 M17) 41 11 M15) 40 10 M13) 39 9 M11) 38 8 M9) 37 7 M8)) ∧ ((r2 = 0) → (vp_in ((0 : Int32)) (mlen 20) ∧ vp_in ((0 : Int32)) (mlen 20) ∧ ∀ M25 : MS, M25 = sA M1 20 ((0 : Int32)).toNatClampNeg ((mA M1 20 ((0 : Int32)).toNatClampNeg + (1 : Int32))) → Q (mF M25 18) M25))) M
set_option maxHeartbeats 4000000 in
theorem b_X11_village_86 {b0 z0 : Nat} {M0 : MS} {Q : Int32 → MS → Prop} (C : Cx p s m meth c D T Z "EndingTownModel" cX11_village 5 (some .int)) : ∀ (M : MS) (H : Heap) (locs : List Loc) (cells slots : Nat) (ls : Array Slot), w_X11_village_86 Q M → HI (twd D T Z) (mG b0 z0 M0) s (rmX (twd D T Z) 5 113 (mG b0 z0 M0)) H locs cells slots (mG b0 z0 M) → LH ls 5 [(0, .inr (.inl (some b0)))] → W p l e (rmX (twd D T Z) 5 113 (mG b0 z0 M0)) s m args below meth c H locs cells slots (MQX (twd D T Z) (mG b0 z0 M0) (mq b0 z0 (qI Q)) (fun _ _ => False) below s) (F0 m 86 ls []) := by
  intro M H locs cells slots ls h I hl
  refine l_ald_n (x := some b0) C dX11_village_86 hl 0 rfl rfl ?_
  refine k_call Ext.tr C I (k_V (r := some b0) (As := []) (rest := []) (y := yX11_isGood) C (f_recv C I) q1625 q1627 qs51 (Or.inl rfl) q1628 (by decide) rfl pd_X11_isGood rfl dX11_village_87) (ct_X11_isGood h) hl.1 dX11_village_87 [] rfl (Nat.le_of_ble_eq_true rfl) (Or.inl rfl) q1628 q113 ⟨Nat.le_of_ble_eq_true rfl, Nat.le_of_ble_eq_true rfl⟩ (fun v x1 H locs cells slots ex hq I => ?_) (fun a x1 H locs cells slots ex hq I => hq.elim)
  obtain ⟨M1, rfl, r2, rfl, h⟩ := hq
  refine lv_if_ne (tgt := 108) C.1 C.2.1 dX11_village_90 (by decide) (fun c26 => ?_) (fun c26 => ?_)
  · have h := h.1 c26
    refine l_ald_n (x := some b0) C dX11_village_108 hl 0 rfl rfl ?_
    refine l_ald_n (x := some b0) C dX11_village_109 hl 0 rfl rfl ?_
    refine f_I C I (fl_X11_210) (by decide) dX11_village_110 ?_
    refine f_PI C I (fp_X11_260) (by decide) dX11_village_113 (fit_i _) (fun H locs M3 eM3 I => ?_)
    have h := h M3 eM3
    refine l_ald_n (x := some b0) C dX11_village_116 hl 0 rfl rfl ?_
    refine l_ald_n (x := some b0) C dX11_village_117 hl 0 rfl rfl ?_
    refine f_I C I (fl_X11_225) (by decide) dX11_village_118 ?_
    refine f_PI C I (fp_X11_263) (by decide) dX11_village_121 (fit_i _) (fun H locs M4 eM4 I => ?_)
    have h := h M4 eM4
    refine l_ald_n (x := some b0) C dX11_village_124 hl 0 rfl rfl ?_
    refine l_ald_n (x := some b0) C dX11_village_125 hl 0 rfl rfl ?_
    refine f_I C I (fl_X11_201) (by decide) dX11_village_126 ?_
    refine f_PI C I (fp_X11_7) (by decide) dX11_village_129 (fit_i _) (fun H locs M5 eM5 I => ?_)
    have h := h M5 eM5
    refine l_ald_n (x := some b0) C dX11_village_132 hl 0 rfl rfl ?_
    refine l_ald_n (x := some b0) C dX11_village_133 hl 0 rfl rfl ?_
    refine f_I C I (fl_X11_219) (by decide) dX11_village_134 ?_
    refine f_PI C I (fp_X11_266) (by decide) dX11_village_137 (fit_i _) (fun H locs M6 eM6 I => ?_)
    have h := h M6 eM6
    refine l_ald_n (x := some b0) C dX11_village_140 hl 0 rfl rfl ?_
    refine l_ald_n (x := some b0) C dX11_village_141 hl 0 rfl rfl ?_
    refine f_I C I (fl_X11_207) (by decide) dX11_village_142 ?_
    refine f_PI C I (fp_X11_269) (by decide) dX11_village_145 (fit_i _) (fun H locs M7 eM7 I => ?_)
    have h := h M7 eM7
    refine l_ald_n (x := some b0) C dX11_village_148 hl 0 rfl rfl ?_
    refine l_ald_n (x := some b0) C dX11_village_149 hl 0 rfl rfl ?_
    refine f_I C I (fl_X11_216) (by decide) dX11_village_150 ?_
    refine f_PI C I (fp_X11_272) (by decide) dX11_village_153 (fit_i _) (fun H locs M8 eM8 I => ?_)
    have h := h M8 eM8
    refine l_ald_n (x := some b0) C dX11_village_156 hl 0 rfl rfl ?_
    refine l_ald_n (x := some b0) C dX11_village_157 hl 0 rfl rfl ?_
    refine f_A C I (fl_X11_50) (by decide) (by decide) dX11_village_158 ?_
    refine l_ald_n (x := some b0) C dX11_village_161 hl 0 rfl rfl ?_
    refine f_A C I (fl_X11_13) (by decide) (by decide) dX11_village_162 ?_
    refine k_call Ext.tr C I (k_V (r := some b0) (As := [va_rf (some (b0 + moff 37)), va_rf (some (b0 + moff 7))]) (rest := []) (y := yX11_copies) C (f_recv C I) q1687 q1689 qs65 (Or.inl rfl) q1690 (by decide) rfl pd_X11_copies rfl dX11_village_165) (ct_X11_copies h) hl.1 dX11_village_165 [] rfl (Nat.le_of_ble_eq_true rfl) (Or.inl rfl) q1690 q113 ⟨Nat.le_of_ble_eq_true rfl, Nat.le_of_ble_eq_true rfl⟩ (fun v x1 H locs cells slots ex hq I => ?_) (fun a x1 H locs cells slots ex hq I => hq.elim)
    obtain ⟨M9, rfl, rfl, h⟩ := hq
    refine l_ald_n (x := some b0) C dX11_village_168 hl 0 rfl rfl ?_
    refine l_ald_n (x := some b0) C dX11_village_169 hl 0 rfl rfl ?_
    refine f_A C I (fl_X11_53) (by decide) (by decide) dX11_village_170 ?_
    refine l_ald_n (x := some b0) C dX11_village_173 hl 0 rfl rfl ?_
    refine f_A C I (fl_X11_17) (by decide) (by decide) dX11_village_174 ?_
    refine k_call Ext.tr C I (k_V (r := some b0) (As := [va_rf (some (b0 + moff 38)), va_rf (some (b0 + moff 8))]) (rest := []) (y := yX11_copies) C (f_recv C I) q1687 q1689 qs65 (Or.inl rfl) q1690 (by decide) rfl pd_X11_copies rfl dX11_village_177) (ct_X11_copies h) hl.1 dX11_village_177 [] rfl (Nat.le_of_ble_eq_true rfl) (Or.inl rfl) q1690 q113 ⟨Nat.le_of_ble_eq_true rfl, Nat.le_of_ble_eq_true rfl⟩ (fun v x1 H locs cells slots ex hq I => ?_) (fun a x1 H locs cells slots ex hq I => hq.elim)
    obtain ⟨M11, rfl, rfl, h⟩ := hq
    refine l_ald_n (x := some b0) C dX11_village_180 hl 0 rfl rfl ?_
    refine l_ald_n (x := some b0) C dX11_village_181 hl 0 rfl rfl ?_
    refine f_A C I (fl_X11_56) (by decide) (by decide) dX11_village_182 ?_
    refine l_ald_n (x := some b0) C dX11_village_185 hl 0 rfl rfl ?_
    refine f_A C I (fl_X11_20) (by decide) (by decide) dX11_village_186 ?_
    refine k_call Ext.tr C I (k_V (r := some b0) (As := [va_rf (some (b0 + moff 39)), va_rf (some (b0 + moff 9))]) (rest := []) (y := yX11_copies) C (f_recv C I) q1687 q1689 qs65 (Or.inl rfl) q1690 (by decide) rfl pd_X11_copies rfl dX11_village_189) (ct_X11_copies h) hl.1 dX11_village_189 [] rfl (Nat.le_of_ble_eq_true rfl) (Or.inl rfl) q1690 q113 ⟨Nat.le_of_ble_eq_true rfl, Nat.le_of_ble_eq_true rfl⟩ (fun v x1 H locs cells slots ex hq I => ?_) (fun a x1 H locs cells slots ex hq I => hq.elim)
    obtain ⟨M13, rfl, rfl, h⟩ := hq
    refine l_ald_n (x := some b0) C dX11_village_192 hl 0 rfl rfl ?_
    refine l_ald_n (x := some b0) C dX11_village_193 hl 0 rfl rfl ?_
    refine f_A C I (fl_X11_59) (by decide) (by decide) dX11_village_194 ?_
    refine l_ald_n (x := some b0) C dX11_village_197 hl 0 rfl rfl ?_
    refine f_A C I (fl_X11_23) (by decide) (by decide) dX11_village_198 ?_
    refine k_call Ext.tr C I (k_V (r := some b0) (As := [va_rf (some (b0 + moff 40)), va_rf (some (b0 + moff 10))]) (rest := []) (y := yX11_copies) C (f_recv C I) q1687 q1689 qs65 (Or.inl rfl) q1690 (by decide) rfl pd_X11_copies rfl dX11_village_201) (ct_X11_copies h) hl.1 dX11_village_201 [] rfl (Nat.le_of_ble_eq_true rfl) (Or.inl rfl) q1690 q113 ⟨Nat.le_of_ble_eq_true rfl, Nat.le_of_ble_eq_true rfl⟩ (fun v x1 H locs cells slots ex hq I => ?_) (fun a x1 H locs cells slots ex hq I => hq.elim)
    obtain ⟨M15, rfl, rfl, h⟩ := hq
    refine l_ald_n (x := some b0) C dX11_village_204 hl 0 rfl rfl ?_
    refine l_ald_n (x := some b0) C dX11_village_205 hl 0 rfl rfl ?_
    refine f_A C I (fl_X11_62) (by decide) (by decide) dX11_village_206 ?_
    refine l_ald_n (x := some b0) C dX11_village_209 hl 0 rfl rfl ?_
    refine f_A C I (fl_X11_26) (by decide) (by decide) dX11_village_210 ?_
    refine k_call Ext.tr C I (k_V (r := some b0) (As := [va_rf (some (b0 + moff 41)), va_rf (some (b0 + moff 11))]) (rest := []) (y := yX11_copies) C (f_recv C I) q1687 q1689 qs65 (Or.inl rfl) q1690 (by decide) rfl pd_X11_copies rfl dX11_village_213) (ct_X11_copies h) hl.1 dX11_village_213 [] rfl (Nat.le_of_ble_eq_true rfl) (Or.inl rfl) q1690 q113 ⟨Nat.le_of_ble_eq_true rfl, Nat.le_of_ble_eq_true rfl⟩ (fun v x1 H locs cells slots ex hq I => ?_) (fun a x1 H locs cells slots ex hq I => hq.elim)
    obtain ⟨M17, rfl, rfl, h⟩ := hq
    refine l_ald_n (x := some b0) C dX11_village_216 hl 0 rfl rfl ?_
    refine l_ald_n (x := some b0) C dX11_village_217 hl 0 rfl rfl ?_
    refine f_A C I (fl_X11_65) (by decide) (by decide) dX11_village_218 ?_
    refine l_ald_n (x := some b0) C dX11_village_221 hl 0 rfl rfl ?_
    refine f_A C I (fl_X11_29) (by decide) (by decide) dX11_village_222 ?_
    refine k_call Ext.tr C I (k_V (r := some b0) (As := [va_rf (some (b0 + moff 42)), va_rf (some (b0 + moff 12))]) (rest := []) (y := yX11_copies) C (f_recv C I) q1687 q1689 qs65 (Or.inl rfl) q1690 (by decide) rfl pd_X11_copies rfl dX11_village_225) (ct_X11_copies h) hl.1 dX11_village_225 [] rfl (Nat.le_of_ble_eq_true rfl) (Or.inl rfl) q1690 q113 ⟨Nat.le_of_ble_eq_true rfl, Nat.le_of_ble_eq_true rfl⟩ (fun v x1 H locs cells slots ex hq I => ?_) (fun a x1 H locs cells slots ex hq I => hq.elim)
    obtain ⟨M19, rfl, rfl, h⟩ := hq
    refine l_ald_n (x := some b0) C dX11_village_228 hl 0 rfl rfl ?_
    refine l_ald_n (x := some b0) C dX11_village_229 hl 0 rfl rfl ?_
    refine f_A C I (fl_X11_68) (by decide) (by decide) dX11_village_230 ?_
    refine l_ald_n (x := some b0) C dX11_village_233 hl 0 rfl rfl ?_
    refine f_A C I (fl_X11_32) (by decide) (by decide) dX11_village_234 ?_
    refine k_call Ext.tr C I (k_V (r := some b0) (As := [va_rf (some (b0 + moff 43)), va_rf (some (b0 + moff 13))]) (rest := []) (y := yX11_copies) C (f_recv C I) q1687 q1689 qs65 (Or.inl rfl) q1690 (by decide) rfl pd_X11_copies rfl dX11_village_237) (ct_X11_copies h) hl.1 dX11_village_237 [] rfl (Nat.le_of_ble_eq_true rfl) (Or.inl rfl) q1690 q113 ⟨Nat.le_of_ble_eq_true rfl, Nat.le_of_ble_eq_true rfl⟩ (fun v x1 H locs cells slots ex hq I => ?_) (fun a x1 H locs cells slots ex hq I => hq.elim)
    obtain ⟨M21, rfl, rfl, h⟩ := hq
    refine l_ald_n (x := some b0) C dX11_village_240 hl 0 rfl rfl ?_
    refine l_ald_n (x := some b0) C dX11_village_241 hl 0 rfl rfl ?_
    refine f_A C I (fl_X11_74) (by decide) (by decide) dX11_village_242 ?_
    refine l_ald_n (x := some b0) C dX11_village_245 hl 0 rfl rfl ?_
    refine f_A C I (fl_X11_38) (by decide) (by decide) dX11_village_246 ?_
    refine k_call Ext.tr C I (k_V (r := some b0) (As := [va_rf (some (b0 + moff 45)), va_rf (some (b0 + moff 15))]) (rest := []) (y := yX11_copies) C (f_recv C I) q1687 q1689 qs65 (Or.inl rfl) q1690 (by decide) rfl pd_X11_copies rfl dX11_village_249) (ct_X11_copies h) hl.1 dX11_village_249 [] rfl (Nat.le_of_ble_eq_true rfl) (Or.inl rfl) q1690 q113 ⟨Nat.le_of_ble_eq_true rfl, Nat.le_of_ble_eq_true rfl⟩ (fun v x1 H locs cells slots ex hq I => ?_) (fun a x1 H locs cells slots ex hq I => hq.elim)
    obtain ⟨M23, rfl, rfl, h⟩ := hq
    refine lv_iconst (v := 0) C.1 C.2.1 dX11_village_252 (by decide) ?_
    refine l_ist_n C dX11_village_253 rfl hl (by decide) rfl (fun ls hl => ?_)
    have hl : LH ls 5 [(2, .inl ((0 : Int32))), (0, .inr (.inl (some b0)))] := hl
    obtain ⟨n, h⟩ := h
    exact b_X11_village_254 C n ((0 : Int32)) M23 _ _ _ _ _ h I (hl.sub [1, 0] rfl)
  · have h := h.2 c26
    refine l_ald_n (x := some b0) C dX11_village_93 hl 0 rfl rfl ?_
    refine f_A C I (fl_X11_47) (by decide) (by decide) dX11_village_94 ?_
    refine lv_iconst (v := 0) C.1 C.2.1 dX11_village_97 (by decide) ?_
    refine lv_dup2_11 C.1 C.2.1 dX11_village_98 rfl (cat_rf _) ?_
    obtain ⟨hi, h⟩ := h
    refine f_ld (k := 20) C I (by decide) hi dX11_village_99 ?_
    refine lv_iconst (v := 1) C.1 C.2.1 dX11_village_100 (by decide) ?_
    refine lv_iadd C.1 C.2.1 dX11_village_101 ?_
    obtain ⟨hi, h⟩ := h
    refine f_st (k := 20) C I (by decide) hi dX11_village_102 (fun H locs M25 eM25 I => ?_)
    have h := h M25 eM25
    refine l_ald_n (x := some b0) C dX11_village_103 hl 0 rfl rfl ?_
    refine f_I C I (fl_X11_173) (by decide) dX11_village_104 ?_
    exact r_int C.1 C.2.1 C.2.2.2.2.2.1 rfl C.2.2.2.2.2.2 ⟨rfl, rfl⟩ I dX11_village_107 ⟨_, rfl, _, rfl, h⟩
def w_X11_village_65 (Q : Int32 → MS → Prop) : Nat → MS → Prop
  | 0 => fun _ => False
  | f65 + 1 => fun M => w_X11_isGood (fun r2 M1 => ((r2 = 0) → (w_X11_village_86 Q M1)) ∧ ((¬ r2 = 0) → (((mF M1 23 = 0) → (w_X11_village_86 Q M1)) ∧ ((¬ mF M1 23 = 0) → (w_X11_line (fun M3 => (w_X11_village_65 Q f65) M3) M1))))) M
set_option maxHeartbeats 4000000 in
theorem b_X11_village_65 {b0 z0 : Nat} {M0 : MS} {Q : Int32 → MS → Prop} (C : Cx p s m meth c D T Z "EndingTownModel" cX11_village 5 (some .int)) : ∀ (n : Nat) (M : MS) (H : Heap) (locs : List Loc) (cells slots : Nat) (ls : Array Slot), w_X11_village_65 Q n M → HI (twd D T Z) (mG b0 z0 M0) s (rmX (twd D T Z) 5 113 (mG b0 z0 M0)) H locs cells slots (mG b0 z0 M) → LH ls 5 [(0, .inr (.inl (some b0)))] → W p l e (rmX (twd D T Z) 5 113 (mG b0 z0 M0)) s m args below meth c H locs cells slots (MQX (twd D T Z) (mG b0 z0 M0) (mq b0 z0 (qI Q)) (fun _ _ => False) below s) (F0 m 65 ls []) := by
  intro n
  induction n with
  | zero => intro M H locs cells slots ls h; exact (show False from h).elim
  | succ n ih =>
    intro M H locs cells slots ls h I hl
    have hk65 := ih
    refine l_ald_n (x := some b0) C dX11_village_65 hl 0 rfl rfl ?_
    refine k_call Ext.tr C I (k_V (r := some b0) (As := []) (rest := []) (y := yX11_isGood) C (f_recv C I) q1625 q1627 qs51 (Or.inl rfl) q1628 (by decide) rfl pd_X11_isGood rfl dX11_village_66) (ct_X11_isGood h) hl.1 dX11_village_66 [] rfl (Nat.le_of_ble_eq_true rfl) (Or.inl rfl) q1628 q113 ⟨Nat.le_of_ble_eq_true rfl, Nat.le_of_ble_eq_true rfl⟩ (fun v x1 H locs cells slots ex hq I => ?_) (fun a x1 H locs cells slots ex hq I => hq.elim)
    obtain ⟨M1, rfl, r2, rfl, h⟩ := hq
    refine lv_if_eq (tgt := 86) C.1 C.2.1 dX11_village_69 (by decide) (fun c6 => ?_) (fun c6 => ?_)
    · have h := h.1 c6
      exact b_X11_village_86 C M1 _ _ _ _ _ h I (hl.sub [0] rfl)
    · have h := h.2 c6
      refine l_ald_n (x := some b0) C dX11_village_72 hl 0 rfl rfl ?_
      refine f_I C I (fl_X11_152) (by decide) dX11_village_73 ?_
      refine lv_if_eq (tgt := 86) C.1 C.2.1 dX11_village_76 (by decide) (fun c5 => ?_) (fun c5 => ?_)
      · have h := h.1 c5
        exact b_X11_village_86 C M1 _ _ _ _ _ h I (hl.sub [0] rfl)
      · have h := h.2 c5
        refine l_ald_n (x := some b0) C dX11_village_79 hl 0 rfl rfl ?_
        refine k_call Ext.tr C I (k_V (r := some b0) (As := []) (rest := []) (y := yX11_line) C (f_recv C I) q1629 q1631 qs52 (Or.inl rfl) q1632 (by decide) rfl pd_X11_line rfl dX11_village_80) (ct_X11_line h) hl.1 dX11_village_80 [] rfl (Nat.le_of_ble_eq_true rfl) (Or.inl rfl) q1632 q113 ⟨Nat.le_of_ble_eq_true rfl, Nat.le_of_ble_eq_true rfl⟩ (fun v x1 H locs cells slots ex hq I => ?_) (fun a x1 H locs cells slots ex hq I => hq.elim)
        obtain ⟨M3, rfl, rfl, h⟩ := hq
        refine lv_goto (tgt := 65) C.1 C.2.1 dX11_village_83 (by decide) ?_
        exact hk65 M3 _ _ _ _ _ h I (hl.sub [0] rfl)
def w_X11_village_23 (Q : Int32 → MS → Prop) (l1 : Int32) (t0 : Int32) (M : MS) : Prop := w_X11_right (fun r2 M1 => ((¬ r2 = 0) → (∀ M3 : MS, M3 = sF M1 17 ((0 : Int32)) → ∀ M4 : MS, M4 = sF M3 19 ((-1 : Int32)) → ∀ M5 : MS, M5 = sF M4 18 ((0 : Int32)) → ∀ M6 : MS, M6 = sF M5 21 l1 → ∀ M7 : MS, M7 = sF M6 22 ((0 : Int32)) → w_X11_empties (fun M8 => w_X11_steps (fun M10 => ∃ n, w_X11_village_65 Q n M10) M8) M7)) ∧ ((r2 = 0) → (Q ((0 : Int32)) M1))) t0 ((1 : Int32)) M
set_option maxHeartbeats 4000000 in
theorem b_X11_village_23 {b0 z0 : Nat} {M0 : MS} {Q : Int32 → MS → Prop} (C : Cx p s m meth c D T Z "EndingTownModel" cX11_village 5 (some .int)) : ∀ (l1 : Int32) (t0 : Int32) (M : MS) (H : Heap) (locs : List Loc) (cells slots : Nat) (ls : Array Slot), w_X11_village_23 Q l1 t0 M → HI (twd D T Z) (mG b0 z0 M0) s (rmX (twd D T Z) 5 113 (mG b0 z0 M0)) H locs cells slots (mG b0 z0 M) → LH ls 5 [(0, .inr (.inl (some b0))), (1, .inl l1)] → W p l e (rmX (twd D T Z) 5 113 (mG b0 z0 M0)) s m args below meth c H locs cells slots (MQX (twd D T Z) (mG b0 z0 M0) (mq b0 z0 (qI Q)) (fun _ _ => False) below s) (F0 m 23 ls [.int t0, va_rf (some b0)]) := by
  intro l1 t0 M H locs cells slots ls h I hl
  refine lv_iconst (v := 1) C.1 C.2.1 dX11_village_23 (by decide) ?_
  refine k_call Ext.tr C I (k_V (r := some b0) (As := [.int t0, .int ((1 : Int32))]) (rest := []) (y := yX11_right) C (f_recv C I) q1603 q1605 qs47 (Or.inl rfl) q1606 (by decide) rfl pd_X11_right rfl dX11_village_24) (ct_X11_right h) hl.1 dX11_village_24 [] rfl (Nat.le_of_ble_eq_true rfl) (Or.inl rfl) q1606 q113 ⟨Nat.le_of_ble_eq_true rfl, Nat.le_of_ble_eq_true rfl⟩ (fun v x1 H locs cells slots ex hq I => ?_) (fun a x1 H locs cells slots ex hq I => hq.elim)
  obtain ⟨M1, rfl, r2, rfl, h⟩ := hq
  refine lv_if_ne (tgt := 32) C.1 C.2.1 dX11_village_27 (by decide) (fun c12 => ?_) (fun c12 => ?_)
  · have h := h.1 c12
    refine l_ald_n (x := some b0) C dX11_village_32 hl 0 rfl rfl ?_
    refine lv_iconst (v := 0) C.1 C.2.1 dX11_village_33 (by decide) ?_
    refine f_PI C I (fp_X11_125) (by decide) dX11_village_34 (fit_i _) (fun H locs M3 eM3 I => ?_)
    have h := h M3 eM3
    refine l_ald_n (x := some b0) C dX11_village_37 hl 0 rfl rfl ?_
    refine lv_iconst (v := (-1)) C.1 C.2.1 dX11_village_38 (by decide) ?_
    refine f_PI C I (fp_X11_44) (by decide) dX11_village_39 (fit_i _) (fun H locs M4 eM4 I => ?_)
    have h := h M4 eM4
    refine l_ald_n (x := some b0) C dX11_village_42 hl 0 rfl rfl ?_
    refine lv_iconst (v := 0) C.1 C.2.1 dX11_village_43 (by decide) ?_
    refine f_PI C I (fp_X11_173) (by decide) dX11_village_44 (fit_i _) (fun H locs M5 eM5 I => ?_)
    have h := h M5 eM5
    refine l_ald_n (x := some b0) C dX11_village_47 hl 0 rfl rfl ?_
    refine l_ild_n C dX11_village_48 hl 1 rfl rfl ?_
    refine f_PI C I (fp_X11_132) (by decide) dX11_village_49 (fit_i _) (fun H locs M6 eM6 I => ?_)
    have h := h M6 eM6
    refine l_ald_n (x := some b0) C dX11_village_52 hl 0 rfl rfl ?_
    refine lv_iconst (v := 0) C.1 C.2.1 dX11_village_53 (by decide) ?_
    refine f_PI C I (fp_X11_135) (by decide) dX11_village_54 (fit_i _) (fun H locs M7 eM7 I => ?_)
    have h := h M7 eM7
    refine l_ald_n (x := some b0) C dX11_village_57 hl 0 rfl rfl ?_
    refine k_call Ext.tr C I (k_V (r := some b0) (As := []) (rest := []) (y := yX11_empties) C (f_recv C I) q1607 q1609 qs48 (Or.inl rfl) q1610 (by decide) rfl pd_X11_empties rfl dX11_village_58) (ct_X11_empties h) hl.1 dX11_village_58 [] rfl (Nat.le_of_ble_eq_true rfl) (Or.inl rfl) q1610 q113 ⟨Nat.le_of_ble_eq_true rfl, Nat.le_of_ble_eq_true rfl⟩ (fun v x1 H locs cells slots ex hq I => ?_) (fun a x1 H locs cells slots ex hq I => hq.elim)
    obtain ⟨M8, rfl, rfl, h⟩ := hq
    refine l_ald_n (x := some b0) C dX11_village_61 hl 0 rfl rfl ?_
    refine k_call Ext.tr C I (k_V (r := some b0) (As := []) (rest := []) (y := yX11_steps) C (f_recv C I) q1611 q1613 qs49 (Or.inl rfl) q1614 (by decide) rfl pd_X11_steps rfl dX11_village_62) (ct_X11_steps h) hl.1 dX11_village_62 [] rfl (Nat.le_of_ble_eq_true rfl) (Or.inl rfl) q1614 q113 ⟨Nat.le_of_ble_eq_true rfl, Nat.le_of_ble_eq_true rfl⟩ (fun v x1 H locs cells slots ex hq I => ?_) (fun a x1 H locs cells slots ex hq I => hq.elim)
    obtain ⟨M10, rfl, rfl, h⟩ := hq
    obtain ⟨n, h⟩ := h
    exact b_X11_village_65 C n M10 _ _ _ _ _ h I (hl.sub [0] rfl)
  · have h := h.2 c12
    refine lv_iconst (v := 0) C.1 C.2.1 dX11_village_30 (by decide) ?_
    exact r_int C.1 C.2.1 C.2.2.2.2.2.1 rfl C.2.2.2.2.2.2 ⟨rfl, rfl⟩ I dX11_village_31 ⟨_, rfl, _, rfl, h⟩
def w_X11_village_22 (Q : Int32 → MS → Prop) (l1 : Int32) (M : MS) : Prop := w_X11_village_23 Q l1 ((0 : Int32)) M
set_option maxHeartbeats 4000000 in
theorem b_X11_village_22 {b0 z0 : Nat} {M0 : MS} {Q : Int32 → MS → Prop} (C : Cx p s m meth c D T Z "EndingTownModel" cX11_village 5 (some .int)) : ∀ (l1 : Int32) (M : MS) (H : Heap) (locs : List Loc) (cells slots : Nat) (ls : Array Slot), w_X11_village_22 Q l1 M → HI (twd D T Z) (mG b0 z0 M0) s (rmX (twd D T Z) 5 113 (mG b0 z0 M0)) H locs cells slots (mG b0 z0 M) → LH ls 5 [(0, .inr (.inl (some b0))), (1, .inl l1)] → W p l e (rmX (twd D T Z) 5 113 (mG b0 z0 M0)) s m args below meth c H locs cells slots (MQX (twd D T Z) (mG b0 z0 M0) (mq b0 z0 (qI Q)) (fun _ _ => False) below s) (F0 m 22 ls [va_rf (some b0)]) := by
  intro l1 M H locs cells slots ls h I hl
  refine lv_iconst (v := 0) C.1 C.2.1 dX11_village_22 (by decide) ?_
  exact b_X11_village_23 C l1 ((0 : Int32)) M _ _ _ _ _ h I (hl.sub [0, 1] rfl)
def w_X11_village (Q : Int32 → MS → Prop) (p0 : Int32) (M : MS) : Prop := ∀ M1 : MS, M1 = sF M 0 ((0 : Int32)) → ((p0 < 0) → (w_X11_village_22 Q p0 M1)) ∧ ((¬ p0 < 0) → (((mF M1 17 < p0) → (w_X11_village_22 Q p0 M1)) ∧ ((¬ mF M1 17 < p0) → (w_X11_village_23 Q p0 ((1 : Int32)) M1))))
theorem pd_X11_village : (parseMethodDescriptor yX11_village.desc).map (fun d => d.parameters.length) = some 1 := by decide +kernel
set_option maxHeartbeats 4000000 in
theorem ct_X11_village {l : Launch} {D : va_G} {T : Nat → ClassId} {Z : Heap} {b0 z0 : Nat} {M0 : MS} {Q : Int32 → MS → Prop} {p0 : Int32} (hw : w_X11_village Q p0 M0) : CT (twd D T Z) (Evd D T Z) l yX11_village (Cond.code yX11_village cX11_village 5 (some .int)) 5 113 [va_rf (some b0), .int p0] (mG b0 z0 M0) (mq b0 z0 (qI Q)) (fun _ _ => False) := by
  refine CT.ofW (cc := cX11_village) (nL := 5) (ret := (some .int)) Ext.rf (by decide) (Or.inl rfl) ?_
  intro p e s m below meth c hx hb hml hown hr hlk hnm hcb hm hc hn hE I
  have C : Cx p s m meth c D T Z "EndingTownModel" cX11_village 5 (some .int) := ⟨hx, hb, hml, hown, hE, hr, hlk⟩
  refine w_entry [.inr (.inl (some b0)), .inl p0] (Nat.le_of_ble_eq_true rfl) (fun ls hl => ?_)
  have hl : LH ls 5 [(0, .inr (.inl (some b0))), (1, .inl p0)] := hl
  have h := hw
  refine l_ald_n (x := some b0) C dX11_village_0 hl 0 rfl rfl ?_
  refine lv_iconst (v := 0) C.1 C.2.1 dX11_village_1 (by decide) ?_
  refine f_PI C I (fp_X11_122) (by decide) dX11_village_2 (fit_i _) (fun H locs M1 eM1 I => ?_)
  have h := h M1 eM1
  refine l_ald_n (x := some b0) C dX11_village_5 hl 0 rfl rfl ?_
  refine l_ild_n C dX11_village_6 hl 1 rfl rfl ?_
  refine lv_if_lt (tgt := 22) C.1 C.2.1 dX11_village_7 (by decide) (fun c3 => ?_) (fun c3 => ?_)
  · have h := h.1 c3
    exact b_X11_village_22 C p0 M1 _ _ _ _ _ h I (hl.sub [0, 1] rfl)
  · have h := h.2 c3
    refine l_ild_n C dX11_village_10 hl 1 rfl rfl ?_
    refine l_ald_n (x := some b0) C dX11_village_11 hl 0 rfl rfl ?_
    refine f_I C I (fl_X11_125) (by decide) dX11_village_12 ?_
    refine lv_icmp_gt (tgt := 22) C.1 C.2.1 dX11_village_15 (by decide) (fun c2 => ?_) (fun c2 => ?_)
    · have h := h.1 c2
      exact b_X11_village_22 C p0 M1 _ _ _ _ _ h I (hl.sub [0, 1] rfl)
    · have h := h.2 c2
      refine lv_iconst (v := 1) C.1 C.2.1 dX11_village_18 (by decide) ?_
      refine lv_goto (tgt := 23) C.1 C.2.1 dX11_village_19 (by decide) ?_
      exact b_X11_village_23 C p0 ((1 : Int32)) M1 _ _ _ _ _ h I (hl.sub [0, 1] rfl)
def w_X11_fault (Q : Int32 → MS → Prop) (M : MS) : Prop := ∀ M1 : MS, M1 = sF M 0 ((0 : Int32)) → Q (mF M1 19) M1
theorem pd_X11_fault : (parseMethodDescriptor yX11_fault.desc).map (fun d => d.parameters.length) = some 0 := by decide +kernel
set_option maxHeartbeats 4000000 in
theorem ct_X11_fault {l : Launch} {D : va_G} {T : Nat → ClassId} {Z : Heap} {b0 z0 : Nat} {M0 : MS} {Q : Int32 → MS → Prop} (hw : w_X11_fault Q M0) : CT (twd D T Z) (Evd D T Z) l yX11_fault (Cond.code yX11_fault cX11_fault 1 (some .int)) 0 0 [va_rf (some b0)] (mG b0 z0 M0) (mq b0 z0 (qI Q)) (fun _ _ => False) := by
  refine CT.ofW (cc := cX11_fault) (nL := 1) (ret := (some .int)) Ext.rf (by decide) (Or.inl rfl) ?_
  intro p e s m below meth c hx hb hml hown hr hlk hnm hcb hm hc hn hE I
  have C : Cx p s m meth c D T Z "EndingTownModel" cX11_fault 1 (some .int) := ⟨hx, hb, hml, hown, hE, hr, hlk⟩
  refine w_entry [.inr (.inl (some b0))] (Nat.le_of_ble_eq_true rfl) (fun ls hl => ?_)
  have hl : LH ls 1 [(0, .inr (.inl (some b0)))] := hl
  have h := hw
  refine l_ald_n (x := some b0) C dX11_fault_0 hl 0 rfl rfl ?_
  refine lv_iconst (v := 0) C.1 C.2.1 dX11_fault_1 (by decide) ?_
  refine f_PI C I (fp_X11_122) (by decide) dX11_fault_2 (fit_i _) (fun H locs M1 eM1 I => ?_)
  have h := h M1 eM1
  refine l_ald_n (x := some b0) C dX11_fault_5 hl 0 rfl rfl ?_
  refine f_I C I (fl_X11_44) (by decide) dX11_fault_6 ?_
  exact r_int C.1 C.2.1 C.2.2.2.2.2.1 rfl C.2.2.2.2.2.2 ⟨rfl, rfl⟩ I dX11_fault_9 ⟨_, rfl, _, rfl, h⟩
def w_X11_bits_4 (Q : Int32 → MS → Prop) : Nat → Int32 → Int32 → Int32 → MS → Prop
  | 0 => fun _ _ _ _ => False
  | f4 + 1 => fun l0 l1 l2 M => (((31 : Int32) ≤ l2) → (Q l1 M)) ∧ ((¬ (31 : Int32) ≤ l2) → ((w_X11_bits_4 Q f4) l0 ((l1 + ((l0 >>> (l2 &&& 31)) &&& (1 : Int32)))) ((l2 + 1)) M))
set_option maxHeartbeats 4000000 in
theorem b_X11_bits_4 {b0 z0 : Nat} {M0 : MS} {Q : Int32 → MS → Prop} (C : Cx p s m meth c D T Z "EndingTownModel" cX11_bits 3 (some .int)) : ∀ (n : Nat) (l0 : Int32) (l1 : Int32) (l2 : Int32) (M : MS) (H : Heap) (locs : List Loc) (cells slots : Nat) (ls : Array Slot), w_X11_bits_4 Q n l0 l1 l2 M → HI (twd D T Z) (mG b0 z0 M0) s (rmX (twd D T Z) 0 0 (mG b0 z0 M0)) H locs cells slots (mG b0 z0 M) → LH ls 3 [(0, .inl l0), (1, .inl l1), (2, .inl l2)] → W p l e (rmX (twd D T Z) 0 0 (mG b0 z0 M0)) s m args below meth c H locs cells slots (MQX (twd D T Z) (mG b0 z0 M0) (mq b0 z0 (qI Q)) (fun _ _ => False) below s) (F0 m 4 ls []) := by
  intro n
  induction n with
  | zero => intro l0 l1 l2 M H locs cells slots ls h; exact (show False from h).elim
  | succ n ih =>
    intro l0 l1 l2 M H locs cells slots ls h I hl
    have hk4 := ih
    refine l_ild_n C dX11_bits_4 hl 2 rfl rfl ?_
    refine lv_bipush (v := 31) C.1 C.2.1 dX11_bits_5 (by decide) ?_
    refine lv_icmp_ge (tgt := 24) C.1 C.2.1 dX11_bits_7 (by decide) (fun c1 => ?_) (fun c1 => ?_)
    · have h := h.1 c1
      refine l_ild_n C dX11_bits_24 hl 1 rfl rfl ?_
      exact r_int C.1 C.2.1 C.2.2.2.2.2.1 rfl C.2.2.2.2.2.2 ⟨rfl, rfl⟩ I dX11_bits_25 ⟨_, rfl, _, rfl, h⟩
    · have h := h.2 c1
      refine l_ild_n C dX11_bits_10 hl 1 rfl rfl ?_
      refine l_ild_n C dX11_bits_11 hl 0 rfl rfl ?_
      refine l_ild_n C dX11_bits_12 hl 2 rfl rfl ?_
      refine lv_ishr C.1 C.2.1 dX11_bits_13 ?_
      refine lv_iconst (v := 1) C.1 C.2.1 dX11_bits_14 (by decide) ?_
      refine lv_iand C.1 C.2.1 dX11_bits_15 ?_
      refine lv_iadd C.1 C.2.1 dX11_bits_16 ?_
      refine l_ist_n C dX11_bits_17 rfl hl (by decide) rfl (fun ls hl => ?_)
      have hl : LH ls 3 [(1, .inl ((l1 + ((l0 >>> (l2 &&& 31)) &&& (1 : Int32))))), (0, .inl l0), (2, .inl l2)] := hl
      refine l_inc (q := 2) (v := 1) C dX11_bits_18 hl rfl (by decide) (by decide) rfl (fun ls hl => ?_)
      have hl : LH ls 3 [(2, .inl ((l2 + 1))), (1, .inl ((l1 + ((l0 >>> (l2 &&& 31)) &&& (1 : Int32))))), (0, .inl l0)] := hl
      refine lv_goto (tgt := 4) C.1 C.2.1 dX11_bits_21 (by decide) ?_
      exact hk4 l0 ((l1 + ((l0 >>> (l2 &&& 31)) &&& (1 : Int32)))) ((l2 + 1)) M _ _ _ _ _ h I (hl.sub [2, 1, 0] rfl)
def w_X11_bits (Q : Int32 → MS → Prop) (p0 : Int32) (M : MS) : Prop := ∃ n, w_X11_bits_4 Q n p0 ((0 : Int32)) ((0 : Int32)) M
theorem pd_X11_bits : (parseMethodDescriptor yX11_bits.desc).map (fun d => d.parameters.length) = some 1 := by decide +kernel
set_option maxHeartbeats 4000000 in
theorem ct_X11_bits {l : Launch} {D : va_G} {T : Nat → ClassId} {Z : Heap} {b0 z0 : Nat} {M0 : MS} {Q : Int32 → MS → Prop} {p0 : Int32} (hw : w_X11_bits Q p0 M0) : CT (twd D T Z) (Evd D T Z) l yX11_bits (Cond.code yX11_bits cX11_bits 3 (some .int)) 0 0 [.int p0] (mG b0 z0 M0) (mq b0 z0 (qI Q)) (fun _ _ => False) := by
  refine CT.ofW (cc := cX11_bits) (nL := 3) (ret := (some .int)) Ext.rf (by decide) (Or.inl rfl) ?_
  intro p e s m below meth c hx hb hml hown hr hlk hnm hcb hm hc hn hE I
  have C : Cx p s m meth c D T Z "EndingTownModel" cX11_bits 3 (some .int) := ⟨hx, hb, hml, hown, hE, hr, hlk⟩
  refine w_entry [.inl p0] (Nat.le_of_ble_eq_true rfl) (fun ls hl => ?_)
  have hl : LH ls 3 [(0, .inl p0)] := hl
  have h := hw
  refine lv_iconst (v := 0) C.1 C.2.1 dX11_bits_0 (by decide) ?_
  refine l_ist_n C dX11_bits_1 rfl hl (by decide) rfl (fun ls hl => ?_)
  have hl : LH ls 3 [(1, .inl ((0 : Int32))), (0, .inl p0)] := hl
  refine lv_iconst (v := 0) C.1 C.2.1 dX11_bits_2 (by decide) ?_
  refine l_ist_n C dX11_bits_3 rfl hl (by decide) rfl (fun ls hl => ?_)
  have hl : LH ls 3 [(2, .inl ((0 : Int32))), (1, .inl ((0 : Int32))), (0, .inl p0)] := hl
  obtain ⟨n, h⟩ := h
  exact b_X11_bits_4 C n p0 ((0 : Int32)) ((0 : Int32)) M0 _ _ _ _ _ h I (hl.sub [2, 1, 0] rfl)
def w_X11_within_15 (Q : Int32 → MS → Prop) (t0 : Int32) (M : MS) : Prop := bz t0 ∧ Q t0 M
set_option maxHeartbeats 4000000 in
theorem b_X11_within_15 {b0 z0 : Nat} {M0 : MS} {Q : Int32 → MS → Prop} (C : Cx p s m meth c D T Z "EndingTownModel" cX11_within 3 (some .boolean)) : ∀ (t0 : Int32) (M : MS) (H : Heap) (locs : List Loc) (cells slots : Nat) (ls : Array Slot), w_X11_within_15 Q t0 M → HI (twd D T Z) (mG b0 z0 M0) s (rmX (twd D T Z) 0 0 (mG b0 z0 M0)) H locs cells slots (mG b0 z0 M) → LH ls 3 [] → W p l e (rmX (twd D T Z) 0 0 (mG b0 z0 M0)) s m args below meth c H locs cells slots (MQX (twd D T Z) (mG b0 z0 M0) (mq b0 z0 (qI Q)) (fun _ _ => False) below s) (F0 m 15 ls [.int t0]) := by
  intro t0 M H locs cells slots ls h I hl
  exact r_int C.1 C.2.1 C.2.2.2.2.2.1 h.1.n C.2.2.2.2.2.2 ⟨rfl, rfl⟩ I dX11_within_15 ⟨_, rfl, _, rfl, h.2⟩
def w_X11_within_14 (Q : Int32 → MS → Prop) (M : MS) : Prop := w_X11_within_15 Q ((0 : Int32)) M
set_option maxHeartbeats 4000000 in
theorem b_X11_within_14 {b0 z0 : Nat} {M0 : MS} {Q : Int32 → MS → Prop} (C : Cx p s m meth c D T Z "EndingTownModel" cX11_within 3 (some .boolean)) : ∀ (M : MS) (H : Heap) (locs : List Loc) (cells slots : Nat) (ls : Array Slot), w_X11_within_14 Q M → HI (twd D T Z) (mG b0 z0 M0) s (rmX (twd D T Z) 0 0 (mG b0 z0 M0)) H locs cells slots (mG b0 z0 M) → LH ls 3 [] → W p l e (rmX (twd D T Z) 0 0 (mG b0 z0 M0)) s m args below meth c H locs cells slots (MQX (twd D T Z) (mG b0 z0 M0) (mq b0 z0 (qI Q)) (fun _ _ => False) below s) (F0 m 14 ls []) := by
  intro M H locs cells slots ls h I hl
  refine lv_iconst (v := 0) C.1 C.2.1 dX11_within_14 (by decide) ?_
  exact b_X11_within_15 C ((0 : Int32)) M _ _ _ _ _ h I (hl.sub [] rfl)
def w_X11_within (Q : Int32 → MS → Prop) (p0 : Int32) (p1 : Int32) (p2 : Int32) (M : MS) : Prop := ((p0 < p1) → (w_X11_within_14 Q M)) ∧ ((¬ p0 < p1) → (((p2 < p0) → (w_X11_within_14 Q M)) ∧ ((¬ p2 < p0) → (w_X11_within_15 Q ((1 : Int32)) M))))
theorem pd_X11_within : (parseMethodDescriptor yX11_within.desc).map (fun d => d.parameters.length) = some 3 := by decide +kernel
set_option maxHeartbeats 4000000 in
theorem ct_X11_within {l : Launch} {D : va_G} {T : Nat → ClassId} {Z : Heap} {b0 z0 : Nat} {M0 : MS} {Q : Int32 → MS → Prop} {p0 : Int32} {p1 : Int32} {p2 : Int32} (hw : w_X11_within Q p0 p1 p2 M0) : CT (twd D T Z) (Evd D T Z) l yX11_within (Cond.code yX11_within cX11_within 3 (some .boolean)) 0 0 [.int p0, .int p1, .int p2] (mG b0 z0 M0) (mq b0 z0 (qI Q)) (fun _ _ => False) := by
  refine CT.ofW (cc := cX11_within) (nL := 3) (ret := (some .boolean)) Ext.rf (by decide) (Or.inl rfl) ?_
  intro p e s m below meth c hx hb hml hown hr hlk hnm hcb hm hc hn hE I
  have C : Cx p s m meth c D T Z "EndingTownModel" cX11_within 3 (some .boolean) := ⟨hx, hb, hml, hown, hE, hr, hlk⟩
  refine w_entry [.inl p0, .inl p1, .inl p2] (Nat.le_of_ble_eq_true rfl) (fun ls hl => ?_)
  have hl : LH ls 3 [(0, .inl p0), (1, .inl p1), (2, .inl p2)] := hl
  have h := hw
  refine l_ild_n C dX11_within_0 hl 0 rfl rfl ?_
  refine l_ild_n C dX11_within_1 hl 1 rfl rfl ?_
  refine lv_icmp_lt (tgt := 14) C.1 C.2.1 dX11_within_2 (by decide) (fun c2 => ?_) (fun c2 => ?_)
  · have h := h.1 c2
    exact b_X11_within_14 C M0 _ _ _ _ _ h I (hl.sub [] rfl)
  · have h := h.2 c2
    refine l_ild_n C dX11_within_5 hl 0 rfl rfl ?_
    refine l_ild_n C dX11_within_6 hl 2 rfl rfl ?_
    refine lv_icmp_gt (tgt := 14) C.1 C.2.1 dX11_within_7 (by decide) (fun c1 => ?_) (fun c1 => ?_)
    · have h := h.1 c1
      exact b_X11_within_14 C M0 _ _ _ _ _ h I (hl.sub [] rfl)
    · have h := h.2 c1
      refine lv_iconst (v := 1) C.1 C.2.1 dX11_within_10 (by decide) ?_
      refine lv_goto (tgt := 15) C.1 C.2.1 dX11_within_11 (by decide) ?_
      exact b_X11_within_15 C ((1 : Int32)) M0 _ _ _ _ _ h I (hl.sub [] rfl)
def w_X11_count_132 (Q : Int32 → MS → Prop) (l1 : Int32) (M : MS) : Prop := vp_in ((l1 - (8 : Int32))) (mlen 20) ∧ Q (mA M 20 ((l1 - (8 : Int32))).toNatClampNeg) M
set_option maxHeartbeats 4000000 in
theorem b_X11_count_132 {b0 z0 : Nat} {M0 : MS} {Q : Int32 → MS → Prop} (C : Cx p s m meth c D T Z "EndingTownModel" cX11_count 2 (some .int)) : ∀ (l1 : Int32) (M : MS) (H : Heap) (locs : List Loc) (cells slots : Nat) (ls : Array Slot), w_X11_count_132 Q l1 M → HI (twd D T Z) (mG b0 z0 M0) s (rmX (twd D T Z) 1 22 (mG b0 z0 M0)) H locs cells slots (mG b0 z0 M) → LH ls 2 [(0, .inr (.inl (some b0))), (1, .inl l1)] → W p l e (rmX (twd D T Z) 1 22 (mG b0 z0 M0)) s m args below meth c H locs cells slots (MQX (twd D T Z) (mG b0 z0 M0) (mq b0 z0 (qI Q)) (fun _ _ => False) below s) (F0 m 132 ls []) := by
  intro l1 M H locs cells slots ls h I hl
  refine l_ald_n (x := some b0) C dX11_count_132 hl 0 rfl rfl ?_
  refine f_A C I (fl_X11_47) (by decide) (by decide) dX11_count_133 ?_
  refine l_ild_n C dX11_count_136 hl 1 rfl rfl ?_
  refine lv_bipush (v := 8) C.1 C.2.1 dX11_count_137 (by decide) ?_
  refine lv_isub C.1 C.2.1 dX11_count_139 ?_
  obtain ⟨hi, h⟩ := h
  refine f_ld (k := 20) C I (by decide) hi dX11_count_140 ?_
  exact r_int C.1 C.2.1 C.2.2.2.2.2.1 rfl C.2.2.2.2.2.2 ⟨rfl, rfl⟩ I dX11_count_141 ⟨_, rfl, _, rfl, h⟩
def w_X11_count (Q : Int32 → MS → Prop) (p0 : Int32) (M : MS) : Prop := ∀ M1 : MS, M1 = sF M 0 ((0 : Int32)) → w_X11_within (fun r3 M2 => w_X11_right (fun r5 M4 => ((¬ r5 = 0) → ((p0 = 0 → (Q (mF M4 1) M4)) ∧ (p0 = 1 → (Q (mF M4 2) M4)) ∧ (p0 = 2 → (Q (mF M4 3) M4)) ∧ (p0 = 3 → (Q (mF M4 4) M4)) ∧ (p0 = 4 → (Q (mF M4 5) M4)) ∧ (p0 = 5 → (Q (mF M4 6) M4)) ∧ (p0 = 6 → (Q (mF M4 50) M4)) ∧ (p0 = 7 → (Q (mF M4 17) M4)) ∧ (p0 = 8 → (w_X11_count_132 Q p0 M4)) ∧ (p0 = 9 → (w_X11_count_132 Q p0 M4)) ∧ (p0 = 10 → (w_X11_count_132 Q p0 M4)) ∧ (p0 = 11 → (w_X11_bits (fun r7 M6 => Q r7 M6) (mF M4 68) M4)) ∧ (¬ p0 = 0 → ¬ p0 = 1 → ¬ p0 = 2 → ¬ p0 = 3 → ¬ p0 = 4 → ¬ p0 = 5 → ¬ p0 = 6 → ¬ p0 = 7 → ¬ p0 = 8 → ¬ p0 = 9 → ¬ p0 = 10 → ¬ p0 = 11 → (w_X11_count_132 Q p0 M4)))) ∧ ((r5 = 0) → (Q ((0 : Int32)) M4))) r3 ((1 : Int32)) M2) p0 ((0 : Int32)) ((11 : Int32)) M1
theorem pd_X11_count : (parseMethodDescriptor yX11_count.desc).map (fun d => d.parameters.length) = some 1 := by decide +kernel
set_option maxHeartbeats 4000000 in
theorem ct_X11_count {l : Launch} {D : va_G} {T : Nat → ClassId} {Z : Heap} {b0 z0 : Nat} {M0 : MS} {Q : Int32 → MS → Prop} {p0 : Int32} (hw : w_X11_count Q p0 M0) : CT (twd D T Z) (Evd D T Z) l yX11_count (Cond.code yX11_count cX11_count 2 (some .int)) 1 22 [va_rf (some b0), .int p0] (mG b0 z0 M0) (mq b0 z0 (qI Q)) (fun _ _ => False) := by
  refine CT.ofW (cc := cX11_count) (nL := 2) (ret := (some .int)) Ext.rf (by decide) (Or.inl rfl) ?_
  intro p e s m below meth c hx hb hml hown hr hlk hnm hcb hm hc hn hE I
  have C : Cx p s m meth c D T Z "EndingTownModel" cX11_count 2 (some .int) := ⟨hx, hb, hml, hown, hE, hr, hlk⟩
  refine w_entry [.inr (.inl (some b0)), .inl p0] (Nat.le_of_ble_eq_true rfl) (fun ls hl => ?_)
  have hl : LH ls 2 [(0, .inr (.inl (some b0))), (1, .inl p0)] := hl
  have h := hw
  refine l_ald_n (x := some b0) C dX11_count_0 hl 0 rfl rfl ?_
  refine lv_iconst (v := 0) C.1 C.2.1 dX11_count_1 (by decide) ?_
  refine f_PI C I (fp_X11_122) (by decide) dX11_count_2 (fit_i _) (fun H locs M1 eM1 I => ?_)
  have h := h M1 eM1
  refine l_ald_n (x := some b0) C dX11_count_5 hl 0 rfl rfl ?_
  refine l_ild_n C dX11_count_6 hl 1 rfl rfl ?_
  refine lv_iconst (v := 0) C.1 C.2.1 dX11_count_7 (by decide) ?_
  refine lv_bipush (v := 11) C.1 C.2.1 dX11_count_8 (by decide) ?_
  refine k_call Ext.tr C I (k_S (As := [.int p0, .int ((0 : Int32)), .int ((11 : Int32))]) (rest := [va_rf (some b0)]) (y := yX11_within) C q1699 q1700 q113 (Or.inl rfl) q1701 (by decide) rfl pd_X11_within rfl dX11_count_10) (ct_X11_within h) hl.1 dX11_count_10 [.inr (.inl (some b0))] rfl (Nat.le_of_ble_eq_true rfl) (Or.inl rfl) q1701 q113 ⟨Nat.le_of_ble_eq_true rfl, Nat.le_of_ble_eq_true rfl⟩ (fun v x1 H locs cells slots ex hq I => ?_) (fun a x1 H locs cells slots ex hq I => hq.elim)
  obtain ⟨M2, rfl, r3, rfl, h⟩ := hq
  refine lv_iconst (v := 1) C.1 C.2.1 dX11_count_13 (by decide) ?_
  refine k_call Ext.tr C I (k_V (r := some b0) (As := [.int r3, .int ((1 : Int32))]) (rest := []) (y := yX11_right) C (f_recv C I) q1603 q1605 qs47 (Or.inl rfl) q1606 (by decide) rfl pd_X11_right rfl dX11_count_14) (ct_X11_right h) hl.1 dX11_count_14 [] rfl (Nat.le_of_ble_eq_true rfl) (Or.inl rfl) q1606 q113 ⟨Nat.le_of_ble_eq_true rfl, Nat.le_of_ble_eq_true rfl⟩ (fun v x1 H locs cells slots ex hq I => ?_) (fun a x1 H locs cells slots ex hq I => hq.elim)
  obtain ⟨M4, rfl, r5, rfl, h⟩ := hq
  refine lv_if_ne (tgt := 22) C.1 C.2.1 dX11_count_17 (by decide) (fun c8 => ?_) (fun c8 => ?_)
  · have h := h.1 c8
    refine l_ild_n C dX11_count_22 hl 1 rfl rfl ?_
    by_cases t0 : p0 = 0
    · have h := h.1 t0
      refine lv_tableIn (off := 61) (tgt := 84) C.1 C.2.1 dX11_count_23 (by rw [t0]; decide) (by rw [t0]; decide) (by rw [t0]; rfl) (by decide) ?_
      refine l_ald_n (x := some b0) C dX11_count_84 hl 0 rfl rfl ?_
      refine f_I C I (fl_X11_260) (by decide) dX11_count_85 ?_
      exact r_int C.1 C.2.1 C.2.2.2.2.2.1 rfl C.2.2.2.2.2.2 ⟨rfl, rfl⟩ I dX11_count_88 ⟨_, rfl, _, rfl, h⟩
    by_cases t1 : p0 = 1
    · have h := h.2.1 t1
      refine lv_tableIn (off := 66) (tgt := 89) C.1 C.2.1 dX11_count_23 (by rw [t1]; decide) (by rw [t1]; decide) (by rw [t1]; rfl) (by decide) ?_
      refine l_ald_n (x := some b0) C dX11_count_89 hl 0 rfl rfl ?_
      refine f_I C I (fl_X11_263) (by decide) dX11_count_90 ?_
      exact r_int C.1 C.2.1 C.2.2.2.2.2.1 rfl C.2.2.2.2.2.2 ⟨rfl, rfl⟩ I dX11_count_93 ⟨_, rfl, _, rfl, h⟩
    by_cases t2 : p0 = 2
    · have h := h.2.2.1 t2
      refine lv_tableIn (off := 71) (tgt := 94) C.1 C.2.1 dX11_count_23 (by rw [t2]; decide) (by rw [t2]; decide) (by rw [t2]; rfl) (by decide) ?_
      refine l_ald_n (x := some b0) C dX11_count_94 hl 0 rfl rfl ?_
      refine f_I C I (fl_X11_7) (by decide) dX11_count_95 ?_
      exact r_int C.1 C.2.1 C.2.2.2.2.2.1 rfl C.2.2.2.2.2.2 ⟨rfl, rfl⟩ I dX11_count_98 ⟨_, rfl, _, rfl, h⟩
    by_cases t3 : p0 = 3
    · have h := h.2.2.2.1 t3
      refine lv_tableIn (off := 76) (tgt := 99) C.1 C.2.1 dX11_count_23 (by rw [t3]; decide) (by rw [t3]; decide) (by rw [t3]; rfl) (by decide) ?_
      refine l_ald_n (x := some b0) C dX11_count_99 hl 0 rfl rfl ?_
      refine f_I C I (fl_X11_266) (by decide) dX11_count_100 ?_
      exact r_int C.1 C.2.1 C.2.2.2.2.2.1 rfl C.2.2.2.2.2.2 ⟨rfl, rfl⟩ I dX11_count_103 ⟨_, rfl, _, rfl, h⟩
    by_cases t4 : p0 = 4
    · have h := h.2.2.2.2.1 t4
      refine lv_tableIn (off := 81) (tgt := 104) C.1 C.2.1 dX11_count_23 (by rw [t4]; decide) (by rw [t4]; decide) (by rw [t4]; rfl) (by decide) ?_
      refine l_ald_n (x := some b0) C dX11_count_104 hl 0 rfl rfl ?_
      refine f_I C I (fl_X11_269) (by decide) dX11_count_105 ?_
      exact r_int C.1 C.2.1 C.2.2.2.2.2.1 rfl C.2.2.2.2.2.2 ⟨rfl, rfl⟩ I dX11_count_108 ⟨_, rfl, _, rfl, h⟩
    by_cases t5 : p0 = 5
    · have h := h.2.2.2.2.2.1 t5
      refine lv_tableIn (off := 86) (tgt := 109) C.1 C.2.1 dX11_count_23 (by rw [t5]; decide) (by rw [t5]; decide) (by rw [t5]; rfl) (by decide) ?_
      refine l_ald_n (x := some b0) C dX11_count_109 hl 0 rfl rfl ?_
      refine f_I C I (fl_X11_272) (by decide) dX11_count_110 ?_
      exact r_int C.1 C.2.1 C.2.2.2.2.2.1 rfl C.2.2.2.2.2.2 ⟨rfl, rfl⟩ I dX11_count_113 ⟨_, rfl, _, rfl, h⟩
    by_cases t6 : p0 = 6
    · have h := h.2.2.2.2.2.2.1 t6
      refine lv_tableIn (off := 91) (tgt := 114) C.1 C.2.1 dX11_count_23 (by rw [t6]; decide) (by rw [t6]; decide) (by rw [t6]; rfl) (by decide) ?_
      refine l_ald_n (x := some b0) C dX11_count_114 hl 0 rfl rfl ?_
      refine f_I C I (fl_X11_279) (by decide) dX11_count_115 ?_
      exact r_int C.1 C.2.1 C.2.2.2.2.2.1 rfl C.2.2.2.2.2.2 ⟨rfl, rfl⟩ I dX11_count_118 ⟨_, rfl, _, rfl, h⟩
    by_cases t7 : p0 = 7
    · have h := h.2.2.2.2.2.2.2.1 t7
      refine lv_tableIn (off := 96) (tgt := 119) C.1 C.2.1 dX11_count_23 (by rw [t7]; decide) (by rw [t7]; decide) (by rw [t7]; rfl) (by decide) ?_
      refine l_ald_n (x := some b0) C dX11_count_119 hl 0 rfl rfl ?_
      refine f_I C I (fl_X11_125) (by decide) dX11_count_120 ?_
      exact r_int C.1 C.2.1 C.2.2.2.2.2.1 rfl C.2.2.2.2.2.2 ⟨rfl, rfl⟩ I dX11_count_123 ⟨_, rfl, _, rfl, h⟩
    by_cases t8 : p0 = 8
    · have h := h.2.2.2.2.2.2.2.2.1 t8
      refine lv_tableIn (off := 109) (tgt := 132) C.1 C.2.1 dX11_count_23 (by rw [t8]; decide) (by rw [t8]; decide) (by rw [t8]; rfl) (by decide) ?_
      exact b_X11_count_132 C p0 M4 _ _ _ _ _ h I (hl.sub [0, 1] rfl)
    by_cases t9 : p0 = 9
    · have h := h.2.2.2.2.2.2.2.2.2.1 t9
      refine lv_tableIn (off := 109) (tgt := 132) C.1 C.2.1 dX11_count_23 (by rw [t9]; decide) (by rw [t9]; decide) (by rw [t9]; rfl) (by decide) ?_
      exact b_X11_count_132 C p0 M4 _ _ _ _ _ h I (hl.sub [0, 1] rfl)
    by_cases t10 : p0 = 10
    · have h := h.2.2.2.2.2.2.2.2.2.2.1 t10
      refine lv_tableIn (off := 109) (tgt := 132) C.1 C.2.1 dX11_count_23 (by rw [t10]; decide) (by rw [t10]; decide) (by rw [t10]; rfl) (by decide) ?_
      exact b_X11_count_132 C p0 M4 _ _ _ _ _ h I (hl.sub [0, 1] rfl)
    by_cases t11 : p0 = 11
    · have h := h.2.2.2.2.2.2.2.2.2.2.2.1 t11
      refine lv_tableIn (off := 101) (tgt := 124) C.1 C.2.1 dX11_count_23 (by rw [t11]; decide) (by rw [t11]; decide) (by rw [t11]; rfl) (by decide) ?_
      refine l_ald_n (x := some b0) C dX11_count_124 hl 0 rfl rfl ?_
      refine f_I C I (fl_X11_285) (by decide) dX11_count_125 ?_
      refine k_call Ext.tr C I (k_S (As := [.int (mF M4 68)]) (rest := []) (y := yX11_bits) C q1702 q1703 q113 (Or.inl rfl) q1704 (by decide) rfl pd_X11_bits rfl dX11_count_128) (ct_X11_bits h) hl.1 dX11_count_128 [] rfl (Nat.le_of_ble_eq_true rfl) (Or.inl rfl) q1704 q113 ⟨Nat.le_of_ble_eq_true rfl, Nat.le_of_ble_eq_true rfl⟩ (fun v x1 H locs cells slots ex hq I => ?_) (fun a x1 H locs cells slots ex hq I => hq.elim)
      obtain ⟨M6, rfl, r7, rfl, h⟩ := hq
      exact r_int C.1 C.2.1 C.2.2.2.2.2.1 rfl C.2.2.2.2.2.2 ⟨rfl, rfl⟩ I dX11_count_131 ⟨_, rfl, _, rfl, h⟩
    have h := h.2.2.2.2.2.2.2.2.2.2.2.2 t0 t1 t2 t3 t4 t5 t6 t7 t8 t9 t10 t11
    refine lv_tableOut (tgt := 132) C.1 C.2.1 dX11_count_23 (sw_out (n := 12) (fun j hj => by match j, hj with | 0, _ => exact t0 | 1, _ => exact t1 | 2, _ => exact t2 | 3, _ => exact t3 | 4, _ => exact t4 | 5, _ => exact t5 | 6, _ => exact t6 | 7, _ => exact t7 | 8, _ => exact t8 | 9, _ => exact t9 | 10, _ => exact t10 | 11, _ => exact t11 | j + 12, hj => exact absurd hj (by omega)) (by decide)) (by decide) ?_
    exact b_X11_count_132 C p0 M4 _ _ _ _ _ h I (hl.sub [0, 1] rfl)
  · have h := h.2 c8
    refine lv_iconst (v := 0) C.1 C.2.1 dX11_count_20 (by decide) ?_
    exact r_int C.1 C.2.1 C.2.2.2.2.2.1 rfl C.2.2.2.2.2.2 ⟨rfl, rfl⟩ I dX11_count_21 ⟨_, rfl, _, rfl, h⟩
def w_X11_isWho_28 (Q : Int32 → MS → Prop) (t0 : Int32) (M : MS) : Prop := w_X11_right (fun r2 M1 => bz r2 ∧ Q r2 M1) t0 ((1 : Int32)) M
set_option maxHeartbeats 4000000 in
theorem b_X11_isWho_28 {b0 z0 : Nat} {M0 : MS} {Q : Int32 → MS → Prop} (C : Cx p s m meth c D T Z "EndingTownModel" cX11_isWho 3 (some .boolean)) : ∀ (t0 : Int32) (M : MS) (H : Heap) (locs : List Loc) (cells slots : Nat) (ls : Array Slot), w_X11_isWho_28 Q t0 M → HI (twd D T Z) (mG b0 z0 M0) s (rmX (twd D T Z) 1 22 (mG b0 z0 M0)) H locs cells slots (mG b0 z0 M) → LH ls 3 [] → W p l e (rmX (twd D T Z) 1 22 (mG b0 z0 M0)) s m args below meth c H locs cells slots (MQX (twd D T Z) (mG b0 z0 M0) (mq b0 z0 (qI Q)) (fun _ _ => False) below s) (F0 m 28 ls [.int t0, va_rf (some b0)]) := by
  intro t0 M H locs cells slots ls h I hl
  refine lv_iconst (v := 1) C.1 C.2.1 dX11_isWho_28 (by decide) ?_
  refine k_call Ext.tr C I (k_V (r := some b0) (As := [.int t0, .int ((1 : Int32))]) (rest := []) (y := yX11_right) C (f_recv C I) q1603 q1605 qs47 (Or.inl rfl) q1606 (by decide) rfl pd_X11_right rfl dX11_isWho_29) (ct_X11_right h) hl.1 dX11_isWho_29 [] rfl (Nat.le_of_ble_eq_true rfl) (Or.inl rfl) q1606 q113 ⟨Nat.le_of_ble_eq_true rfl, Nat.le_of_ble_eq_true rfl⟩ (fun v x1 H locs cells slots ex hq I => ?_) (fun a x1 H locs cells slots ex hq I => hq.elim)
  obtain ⟨M1, rfl, r2, rfl, h⟩ := hq
  exact r_int C.1 C.2.1 C.2.2.2.2.2.1 h.1.n C.2.2.2.2.2.2 ⟨rfl, rfl⟩ I dX11_isWho_32 ⟨_, rfl, _, rfl, h.2⟩
def w_X11_isWho_27 (Q : Int32 → MS → Prop) (M : MS) : Prop := w_X11_isWho_28 Q ((0 : Int32)) M
set_option maxHeartbeats 4000000 in
theorem b_X11_isWho_27 {b0 z0 : Nat} {M0 : MS} {Q : Int32 → MS → Prop} (C : Cx p s m meth c D T Z "EndingTownModel" cX11_isWho 3 (some .boolean)) : ∀ (M : MS) (H : Heap) (locs : List Loc) (cells slots : Nat) (ls : Array Slot), w_X11_isWho_27 Q M → HI (twd D T Z) (mG b0 z0 M0) s (rmX (twd D T Z) 1 22 (mG b0 z0 M0)) H locs cells slots (mG b0 z0 M) → LH ls 3 [] → W p l e (rmX (twd D T Z) 1 22 (mG b0 z0 M0)) s m args below meth c H locs cells slots (MQX (twd D T Z) (mG b0 z0 M0) (mq b0 z0 (qI Q)) (fun _ _ => False) below s) (F0 m 27 ls [va_rf (some b0)]) := by
  intro M H locs cells slots ls h I hl
  refine lv_iconst (v := 0) C.1 C.2.1 dX11_isWho_27 (by decide) ?_
  exact b_X11_isWho_28 C ((0 : Int32)) M _ _ _ _ _ h I (hl.sub [] rfl)
def w_X11_isWho (Q : Int32 → MS → Prop) (p0 : Int32) (p1 : Int32) (M : MS) : Prop := ((p0 < 0) → (w_X11_isWho_27 Q M)) ∧ ((¬ p0 < 0) → (((mF M 4 ≤ p0) → (w_X11_isWho_27 Q M)) ∧ ((¬ mF M 4 ≤ p0) → (w_X11_within (fun r2 M1 => ((r2 = 0) → (w_X11_isWho_27 Q M1)) ∧ ((¬ r2 = 0) → (w_X11_isWho_28 Q ((1 : Int32)) M1))) p1 ((0 : Int32)) ((23 : Int32)) M))))
theorem pd_X11_isWho : (parseMethodDescriptor yX11_isWho.desc).map (fun d => d.parameters.length) = some 2 := by decide +kernel
set_option maxHeartbeats 4000000 in
theorem ct_X11_isWho {l : Launch} {D : va_G} {T : Nat → ClassId} {Z : Heap} {b0 z0 : Nat} {M0 : MS} {Q : Int32 → MS → Prop} {p0 : Int32} {p1 : Int32} (hw : w_X11_isWho Q p0 p1 M0) : CT (twd D T Z) (Evd D T Z) l yX11_isWho (Cond.code yX11_isWho cX11_isWho 3 (some .boolean)) 1 22 [va_rf (some b0), .int p0, .int p1] (mG b0 z0 M0) (mq b0 z0 (qI Q)) (fun _ _ => False) := by
  refine CT.ofW (cc := cX11_isWho) (nL := 3) (ret := (some .boolean)) Ext.rf (by decide) (Or.inl rfl) ?_
  intro p e s m below meth c hx hb hml hown hr hlk hnm hcb hm hc hn hE I
  have C : Cx p s m meth c D T Z "EndingTownModel" cX11_isWho 3 (some .boolean) := ⟨hx, hb, hml, hown, hE, hr, hlk⟩
  refine w_entry [.inr (.inl (some b0)), .inl p0, .inl p1] (Nat.le_of_ble_eq_true rfl) (fun ls hl => ?_)
  have hl : LH ls 3 [(0, .inr (.inl (some b0))), (1, .inl p0), (2, .inl p1)] := hl
  have h := hw
  refine l_ald_n (x := some b0) C dX11_isWho_0 hl 0 rfl rfl ?_
  refine l_ild_n C dX11_isWho_1 hl 1 rfl rfl ?_
  refine lv_if_lt (tgt := 27) C.1 C.2.1 dX11_isWho_2 (by decide) (fun c5 => ?_) (fun c5 => ?_)
  · have h := h.1 c5
    exact b_X11_isWho_27 C M0 _ _ _ _ _ h I (hl.sub [] rfl)
  · have h := h.2 c5
    refine l_ild_n C dX11_isWho_5 hl 1 rfl rfl ?_
    refine l_ald_n (x := some b0) C dX11_isWho_6 hl 0 rfl rfl ?_
    refine f_I C I (fl_X11_266) (by decide) dX11_isWho_7 ?_
    refine lv_icmp_ge (tgt := 27) C.1 C.2.1 dX11_isWho_10 (by decide) (fun c4 => ?_) (fun c4 => ?_)
    · have h := h.1 c4
      exact b_X11_isWho_27 C M0 _ _ _ _ _ h I (hl.sub [] rfl)
    · have h := h.2 c4
      refine l_ild_n C dX11_isWho_13 hl 2 rfl rfl ?_
      refine lv_iconst (v := 0) C.1 C.2.1 dX11_isWho_14 (by decide) ?_
      refine lv_bipush (v := 23) C.1 C.2.1 dX11_isWho_15 (by decide) ?_
      refine k_call Ext.tr C I (k_S (As := [.int p1, .int ((0 : Int32)), .int ((23 : Int32))]) (rest := [va_rf (some b0)]) (y := yX11_within) C q1699 q1700 q113 (Or.inl rfl) q1701 (by decide) rfl pd_X11_within rfl dX11_isWho_17) (ct_X11_within h) hl.1 dX11_isWho_17 [.inr (.inl (some b0))] rfl (Nat.le_of_ble_eq_true rfl) (Or.inl rfl) q1701 q113 ⟨Nat.le_of_ble_eq_true rfl, Nat.le_of_ble_eq_true rfl⟩ (fun v x1 H locs cells slots ex hq I => ?_) (fun a x1 H locs cells slots ex hq I => hq.elim)
      obtain ⟨M1, rfl, r2, rfl, h⟩ := hq
      refine lv_if_eq (tgt := 27) C.1 C.2.1 dX11_isWho_20 (by decide) (fun c3 => ?_) (fun c3 => ?_)
      · have h := h.1 c3
        exact b_X11_isWho_27 C M1 _ _ _ _ _ h I (hl.sub [] rfl)
      · have h := h.2 c3
        refine lv_iconst (v := 1) C.1 C.2.1 dX11_isWho_23 (by decide) ?_
        refine lv_goto (tgt := 28) C.1 C.2.1 dX11_isWho_24 (by decide) ?_
        exact b_X11_isWho_28 C ((1 : Int32)) M1 _ _ _ _ _ h I (hl.sub [] rfl)
def w_X11_where_29 (Q : Int32 → MS → Prop) (t0 : Int32) (M : MS) : Prop := Q t0 M
set_option maxHeartbeats 4000000 in
theorem b_X11_where_29 {b0 z0 : Nat} {M0 : MS} {Q : Int32 → MS → Prop} (C : Cx p s m meth c D T Z "EndingTownModel" cX11_where 3 (some .int)) : ∀ (t0 : Int32) (M : MS) (H : Heap) (locs : List Loc) (cells slots : Nat) (ls : Array Slot), w_X11_where_29 Q t0 M → HI (twd D T Z) (mG b0 z0 M0) s (rmX (twd D T Z) 2 44 (mG b0 z0 M0)) H locs cells slots (mG b0 z0 M) → LH ls 3 [] → W p l e (rmX (twd D T Z) 2 44 (mG b0 z0 M0)) s m args below meth c H locs cells slots (MQX (twd D T Z) (mG b0 z0 M0) (mq b0 z0 (qI Q)) (fun _ _ => False) below s) (F0 m 29 ls [.int t0]) := by
  intro t0 M H locs cells slots ls h I hl
  exact r_int C.1 C.2.1 C.2.2.2.2.2.1 rfl C.2.2.2.2.2.2 ⟨rfl, rfl⟩ I dX11_where_29 ⟨_, rfl, _, rfl, h⟩
def w_X11_where (Q : Int32 → MS → Prop) (p0 : Int32) (p1 : Int32) (M : MS) : Prop := ∀ M1 : MS, M1 = sF M 0 ((0 : Int32)) → w_X11_isWho (fun r3 M2 => ((r3 = 0) → (w_X11_where_29 Q ((0 : Int32)) M2)) ∧ ((¬ r3 = 0) → (vp_in ((((24 : Int32) * p0) + p1)) (mlen 14) ∧ w_X11_where_29 Q (mA M2 14 ((((24 : Int32) * p0) + p1)).toNatClampNeg) M2))) p0 p1 M1
theorem pd_X11_where : (parseMethodDescriptor yX11_where.desc).map (fun d => d.parameters.length) = some 2 := by decide +kernel
set_option maxHeartbeats 4000000 in
theorem ct_X11_where {l : Launch} {D : va_G} {T : Nat → ClassId} {Z : Heap} {b0 z0 : Nat} {M0 : MS} {Q : Int32 → MS → Prop} {p0 : Int32} {p1 : Int32} (hw : w_X11_where Q p0 p1 M0) : CT (twd D T Z) (Evd D T Z) l yX11_where (Cond.code yX11_where cX11_where 3 (some .int)) 2 44 [va_rf (some b0), .int p0, .int p1] (mG b0 z0 M0) (mq b0 z0 (qI Q)) (fun _ _ => False) := by
  refine CT.ofW (cc := cX11_where) (nL := 3) (ret := (some .int)) Ext.rf (by decide) (Or.inl rfl) ?_
  intro p e s m below meth c hx hb hml hown hr hlk hnm hcb hm hc hn hE I
  have C : Cx p s m meth c D T Z "EndingTownModel" cX11_where 3 (some .int) := ⟨hx, hb, hml, hown, hE, hr, hlk⟩
  refine w_entry [.inr (.inl (some b0)), .inl p0, .inl p1] (Nat.le_of_ble_eq_true rfl) (fun ls hl => ?_)
  have hl : LH ls 3 [(0, .inr (.inl (some b0))), (1, .inl p0), (2, .inl p1)] := hl
  have h := hw
  refine l_ald_n (x := some b0) C dX11_where_0 hl 0 rfl rfl ?_
  refine lv_iconst (v := 0) C.1 C.2.1 dX11_where_1 (by decide) ?_
  refine f_PI C I (fp_X11_122) (by decide) dX11_where_2 (fit_i _) (fun H locs M1 eM1 I => ?_)
  have h := h M1 eM1
  refine l_ald_n (x := some b0) C dX11_where_5 hl 0 rfl rfl ?_
  refine l_ild_n C dX11_where_6 hl 1 rfl rfl ?_
  refine l_ild_n C dX11_where_7 hl 2 rfl rfl ?_
  refine k_call Ext.tr C I (k_V (r := some b0) (As := [.int p0, .int p1]) (rest := []) (y := yX11_isWho) C (f_recv C I) q1709 q1711 qs66 (Or.inl rfl) q1712 (by decide) rfl pd_X11_isWho rfl dX11_where_8) (ct_X11_isWho h) hl.1 dX11_where_8 [] rfl (Nat.le_of_ble_eq_true rfl) (Or.inl rfl) q1712 q113 ⟨Nat.le_of_ble_eq_true rfl, Nat.le_of_ble_eq_true rfl⟩ (fun v x1 H locs cells slots ex hq I => ?_) (fun a x1 H locs cells slots ex hq I => hq.elim)
  obtain ⟨M2, rfl, r3, rfl, h⟩ := hq
  refine lv_if_eq (tgt := 28) C.1 C.2.1 dX11_where_11 (by decide) (fun c4 => ?_) (fun c4 => ?_)
  · have h := h.1 c4
    refine lv_iconst (v := 0) C.1 C.2.1 dX11_where_28 (by decide) ?_
    exact b_X11_where_29 C ((0 : Int32)) M2 _ _ _ _ _ h I (hl.sub [] rfl)
  · have h := h.2 c4
    refine l_ald_n (x := some b0) C dX11_where_14 hl 0 rfl rfl ?_
    refine f_A C I (fl_X11_35) (by decide) (by decide) dX11_where_15 ?_
    refine lv_bipush (v := 24) C.1 C.2.1 dX11_where_18 (by decide) ?_
    refine l_ild_n C dX11_where_20 hl 1 rfl rfl ?_
    refine lv_imul C.1 C.2.1 dX11_where_21 ?_
    refine l_ild_n C dX11_where_22 hl 2 rfl rfl ?_
    refine lv_iadd C.1 C.2.1 dX11_where_23 ?_
    obtain ⟨hi, h⟩ := h
    refine f_ld (k := 14) C I (by decide) hi dX11_where_24 ?_
    refine lv_goto (tgt := 29) C.1 C.2.1 dX11_where_25 (by decide) ?_
    exact b_X11_where_29 C (mA M2 14 ((((24 : Int32) * p0) + p1)).toNatClampNeg) M2 _ _ _ _ _ h I (hl.sub [] rfl)
def w_X11_isThing_18 (Q : Int32 → MS → Prop) (t0 : Int32) (M : MS) : Prop := w_X11_right (fun r2 M1 => bz r2 ∧ Q r2 M1) t0 ((1 : Int32)) M
set_option maxHeartbeats 4000000 in
theorem b_X11_isThing_18 {b0 z0 : Nat} {M0 : MS} {Q : Int32 → MS → Prop} (C : Cx p s m meth c D T Z "EndingTownModel" cX11_isThing 2 (some .boolean)) : ∀ (t0 : Int32) (M : MS) (H : Heap) (locs : List Loc) (cells slots : Nat) (ls : Array Slot), w_X11_isThing_18 Q t0 M → HI (twd D T Z) (mG b0 z0 M0) s (rmX (twd D T Z) 1 22 (mG b0 z0 M0)) H locs cells slots (mG b0 z0 M) → LH ls 2 [] → W p l e (rmX (twd D T Z) 1 22 (mG b0 z0 M0)) s m args below meth c H locs cells slots (MQX (twd D T Z) (mG b0 z0 M0) (mq b0 z0 (qI Q)) (fun _ _ => False) below s) (F0 m 18 ls [.int t0, va_rf (some b0)]) := by
  intro t0 M H locs cells slots ls h I hl
  refine lv_iconst (v := 1) C.1 C.2.1 dX11_isThing_18 (by decide) ?_
  refine k_call Ext.tr C I (k_V (r := some b0) (As := [.int t0, .int ((1 : Int32))]) (rest := []) (y := yX11_right) C (f_recv C I) q1603 q1605 qs47 (Or.inl rfl) q1606 (by decide) rfl pd_X11_right rfl dX11_isThing_19) (ct_X11_right h) hl.1 dX11_isThing_19 [] rfl (Nat.le_of_ble_eq_true rfl) (Or.inl rfl) q1606 q113 ⟨Nat.le_of_ble_eq_true rfl, Nat.le_of_ble_eq_true rfl⟩ (fun v x1 H locs cells slots ex hq I => ?_) (fun a x1 H locs cells slots ex hq I => hq.elim)
  obtain ⟨M1, rfl, r2, rfl, h⟩ := hq
  exact r_int C.1 C.2.1 C.2.2.2.2.2.1 h.1.n C.2.2.2.2.2.2 ⟨rfl, rfl⟩ I dX11_isThing_22 ⟨_, rfl, _, rfl, h.2⟩
def w_X11_isThing_17 (Q : Int32 → MS → Prop) (M : MS) : Prop := w_X11_isThing_18 Q ((0 : Int32)) M
set_option maxHeartbeats 4000000 in
theorem b_X11_isThing_17 {b0 z0 : Nat} {M0 : MS} {Q : Int32 → MS → Prop} (C : Cx p s m meth c D T Z "EndingTownModel" cX11_isThing 2 (some .boolean)) : ∀ (M : MS) (H : Heap) (locs : List Loc) (cells slots : Nat) (ls : Array Slot), w_X11_isThing_17 Q M → HI (twd D T Z) (mG b0 z0 M0) s (rmX (twd D T Z) 1 22 (mG b0 z0 M0)) H locs cells slots (mG b0 z0 M) → LH ls 2 [] → W p l e (rmX (twd D T Z) 1 22 (mG b0 z0 M0)) s m args below meth c H locs cells slots (MQX (twd D T Z) (mG b0 z0 M0) (mq b0 z0 (qI Q)) (fun _ _ => False) below s) (F0 m 17 ls [va_rf (some b0)]) := by
  intro M H locs cells slots ls h I hl
  refine lv_iconst (v := 0) C.1 C.2.1 dX11_isThing_17 (by decide) ?_
  exact b_X11_isThing_18 C ((0 : Int32)) M _ _ _ _ _ h I (hl.sub [] rfl)
def w_X11_isThing (Q : Int32 → MS → Prop) (p0 : Int32) (M : MS) : Prop := ((p0 < 0) → (w_X11_isThing_17 Q M)) ∧ ((¬ p0 < 0) → (((mF M 5 ≤ p0) → (w_X11_isThing_17 Q M)) ∧ ((¬ mF M 5 ≤ p0) → (w_X11_isThing_18 Q ((1 : Int32)) M))))
theorem pd_X11_isThing : (parseMethodDescriptor yX11_isThing.desc).map (fun d => d.parameters.length) = some 1 := by decide +kernel
set_option maxHeartbeats 4000000 in
theorem ct_X11_isThing {l : Launch} {D : va_G} {T : Nat → ClassId} {Z : Heap} {b0 z0 : Nat} {M0 : MS} {Q : Int32 → MS → Prop} {p0 : Int32} (hw : w_X11_isThing Q p0 M0) : CT (twd D T Z) (Evd D T Z) l yX11_isThing (Cond.code yX11_isThing cX11_isThing 2 (some .boolean)) 1 22 [va_rf (some b0), .int p0] (mG b0 z0 M0) (mq b0 z0 (qI Q)) (fun _ _ => False) := by
  refine CT.ofW (cc := cX11_isThing) (nL := 2) (ret := (some .boolean)) Ext.rf (by decide) (Or.inl rfl) ?_
  intro p e s m below meth c hx hb hml hown hr hlk hnm hcb hm hc hn hE I
  have C : Cx p s m meth c D T Z "EndingTownModel" cX11_isThing 2 (some .boolean) := ⟨hx, hb, hml, hown, hE, hr, hlk⟩
  refine w_entry [.inr (.inl (some b0)), .inl p0] (Nat.le_of_ble_eq_true rfl) (fun ls hl => ?_)
  have hl : LH ls 2 [(0, .inr (.inl (some b0))), (1, .inl p0)] := hl
  have h := hw
  refine l_ald_n (x := some b0) C dX11_isThing_0 hl 0 rfl rfl ?_
  refine l_ild_n C dX11_isThing_1 hl 1 rfl rfl ?_
  refine lv_if_lt (tgt := 17) C.1 C.2.1 dX11_isThing_2 (by decide) (fun c2 => ?_) (fun c2 => ?_)
  · have h := h.1 c2
    exact b_X11_isThing_17 C M0 _ _ _ _ _ h I (hl.sub [] rfl)
  · have h := h.2 c2
    refine l_ild_n C dX11_isThing_5 hl 1 rfl rfl ?_
    refine l_ald_n (x := some b0) C dX11_isThing_6 hl 0 rfl rfl ?_
    refine f_I C I (fl_X11_269) (by decide) dX11_isThing_7 ?_
    refine lv_icmp_ge (tgt := 17) C.1 C.2.1 dX11_isThing_10 (by decide) (fun c1 => ?_) (fun c1 => ?_)
    · have h := h.1 c1
      exact b_X11_isThing_17 C M0 _ _ _ _ _ h I (hl.sub [] rfl)
    · have h := h.2 c1
      refine lv_iconst (v := 1) C.1 C.2.1 dX11_isThing_13 (by decide) ?_
      refine lv_goto (tgt := 18) C.1 C.2.1 dX11_isThing_14 (by decide) ?_
      exact b_X11_isThing_18 C ((1 : Int32)) M0 _ _ _ _ _ h I (hl.sub [] rfl)
def w_X11_thing_41 (Q : Int32 → MS → Prop) (t0 : Int32) (M : MS) : Prop := Q t0 M
set_option maxHeartbeats 4000000 in
theorem b_X11_thing_41 {b0 z0 : Nat} {M0 : MS} {Q : Int32 → MS → Prop} (C : Cx p s m meth c D T Z "EndingTownModel" cX11_thing 3 (some .int)) : ∀ (t0 : Int32) (M : MS) (H : Heap) (locs : List Loc) (cells slots : Nat) (ls : Array Slot), w_X11_thing_41 Q t0 M → HI (twd D T Z) (mG b0 z0 M0) s (rmX (twd D T Z) 2 43 (mG b0 z0 M0)) H locs cells slots (mG b0 z0 M) → LH ls 3 [] → W p l e (rmX (twd D T Z) 2 43 (mG b0 z0 M0)) s m args below meth c H locs cells slots (MQX (twd D T Z) (mG b0 z0 M0) (mq b0 z0 (qI Q)) (fun _ _ => False) below s) (F0 m 41 ls [.int t0]) := by
  intro t0 M H locs cells slots ls h I hl
  exact r_int C.1 C.2.1 C.2.2.2.2.2.1 rfl C.2.2.2.2.2.2 ⟨rfl, rfl⟩ I dX11_thing_41 ⟨_, rfl, _, rfl, h⟩
def w_X11_thing_40 (Q : Int32 → MS → Prop) (M : MS) : Prop := w_X11_thing_41 Q ((0 : Int32)) M
set_option maxHeartbeats 4000000 in
theorem b_X11_thing_40 {b0 z0 : Nat} {M0 : MS} {Q : Int32 → MS → Prop} (C : Cx p s m meth c D T Z "EndingTownModel" cX11_thing 3 (some .int)) : ∀ (M : MS) (H : Heap) (locs : List Loc) (cells slots : Nat) (ls : Array Slot), w_X11_thing_40 Q M → HI (twd D T Z) (mG b0 z0 M0) s (rmX (twd D T Z) 2 43 (mG b0 z0 M0)) H locs cells slots (mG b0 z0 M) → LH ls 3 [] → W p l e (rmX (twd D T Z) 2 43 (mG b0 z0 M0)) s m args below meth c H locs cells slots (MQX (twd D T Z) (mG b0 z0 M0) (mq b0 z0 (qI Q)) (fun _ _ => False) below s) (F0 m 40 ls []) := by
  intro M H locs cells slots ls h I hl
  refine lv_iconst (v := 0) C.1 C.2.1 dX11_thing_40 (by decide) ?_
  exact b_X11_thing_41 C ((0 : Int32)) M _ _ _ _ _ h I (hl.sub [] rfl)
def w_X11_thing (Q : Int32 → MS → Prop) (p0 : Int32) (p1 : Int32) (M : MS) : Prop := ∀ M1 : MS, M1 = sF M 0 ((0 : Int32)) → w_X11_isThing (fun r3 M2 => ((r3 = 0) → (w_X11_thing_40 Q M2)) ∧ ((¬ r3 = 0) → (w_X11_within (fun r5 M4 => w_X11_right (fun r7 M6 => ((r7 = 0) → (w_X11_thing_40 Q M6)) ∧ ((¬ r7 = 0) → (vp_in ((((5 : Int32) * p0) + p1)) (mlen 11) ∧ w_X11_thing_41 Q (mA M6 11 ((((5 : Int32) * p0) + p1)).toNatClampNeg) M6))) r5 ((1 : Int32)) M4) p1 ((0 : Int32)) ((4 : Int32)) M2))) p0 M1
theorem pd_X11_thing : (parseMethodDescriptor yX11_thing.desc).map (fun d => d.parameters.length) = some 2 := by decide +kernel
set_option maxHeartbeats 4000000 in
theorem ct_X11_thing {l : Launch} {D : va_G} {T : Nat → ClassId} {Z : Heap} {b0 z0 : Nat} {M0 : MS} {Q : Int32 → MS → Prop} {p0 : Int32} {p1 : Int32} (hw : w_X11_thing Q p0 p1 M0) : CT (twd D T Z) (Evd D T Z) l yX11_thing (Cond.code yX11_thing cX11_thing 3 (some .int)) 2 43 [va_rf (some b0), .int p0, .int p1] (mG b0 z0 M0) (mq b0 z0 (qI Q)) (fun _ _ => False) := by
  refine CT.ofW (cc := cX11_thing) (nL := 3) (ret := (some .int)) Ext.rf (by decide) (Or.inl rfl) ?_
  intro p e s m below meth c hx hb hml hown hr hlk hnm hcb hm hc hn hE I
  have C : Cx p s m meth c D T Z "EndingTownModel" cX11_thing 3 (some .int) := ⟨hx, hb, hml, hown, hE, hr, hlk⟩
  refine w_entry [.inr (.inl (some b0)), .inl p0, .inl p1] (Nat.le_of_ble_eq_true rfl) (fun ls hl => ?_)
  have hl : LH ls 3 [(0, .inr (.inl (some b0))), (1, .inl p0), (2, .inl p1)] := hl
  have h := hw
  refine l_ald_n (x := some b0) C dX11_thing_0 hl 0 rfl rfl ?_
  refine lv_iconst (v := 0) C.1 C.2.1 dX11_thing_1 (by decide) ?_
  refine f_PI C I (fp_X11_122) (by decide) dX11_thing_2 (fit_i _) (fun H locs M1 eM1 I => ?_)
  have h := h M1 eM1
  refine l_ald_n (x := some b0) C dX11_thing_5 hl 0 rfl rfl ?_
  refine l_ild_n C dX11_thing_6 hl 1 rfl rfl ?_
  refine k_call Ext.tr C I (k_V (r := some b0) (As := [.int p0]) (rest := []) (y := yX11_isThing) C (f_recv C I) q1717 q1719 qs67 (Or.inl rfl) q1720 (by decide) rfl pd_X11_isThing rfl dX11_thing_7) (ct_X11_isThing h) hl.1 dX11_thing_7 [] rfl (Nat.le_of_ble_eq_true rfl) (Or.inl rfl) q1720 q113 ⟨Nat.le_of_ble_eq_true rfl, Nat.le_of_ble_eq_true rfl⟩ (fun v x1 H locs cells slots ex hq I => ?_) (fun a x1 H locs cells slots ex hq I => hq.elim)
  obtain ⟨M2, rfl, r3, rfl, h⟩ := hq
  refine lv_if_eq (tgt := 40) C.1 C.2.1 dX11_thing_10 (by decide) (fun c9 => ?_) (fun c9 => ?_)
  · have h := h.1 c9
    exact b_X11_thing_40 C M2 _ _ _ _ _ h I (hl.sub [] rfl)
  · have h := h.2 c9
    refine l_ald_n (x := some b0) C dX11_thing_13 hl 0 rfl rfl ?_
    refine l_ild_n C dX11_thing_14 hl 2 rfl rfl ?_
    refine lv_iconst (v := 0) C.1 C.2.1 dX11_thing_15 (by decide) ?_
    refine lv_iconst (v := 4) C.1 C.2.1 dX11_thing_16 (by decide) ?_
    refine k_call Ext.tr C I (k_S (As := [.int p1, .int ((0 : Int32)), .int ((4 : Int32))]) (rest := [va_rf (some b0)]) (y := yX11_within) C q1699 q1700 q113 (Or.inl rfl) q1701 (by decide) rfl pd_X11_within rfl dX11_thing_17) (ct_X11_within h) hl.1 dX11_thing_17 [.inr (.inl (some b0))] rfl (Nat.le_of_ble_eq_true rfl) (Or.inl rfl) q1701 q113 ⟨Nat.le_of_ble_eq_true rfl, Nat.le_of_ble_eq_true rfl⟩ (fun v x1 H locs cells slots ex hq I => ?_) (fun a x1 H locs cells slots ex hq I => hq.elim)
    obtain ⟨M4, rfl, r5, rfl, h⟩ := hq
    refine lv_iconst (v := 1) C.1 C.2.1 dX11_thing_20 (by decide) ?_
    refine k_call Ext.tr C I (k_V (r := some b0) (As := [.int r5, .int ((1 : Int32))]) (rest := []) (y := yX11_right) C (f_recv C I) q1603 q1605 qs47 (Or.inl rfl) q1606 (by decide) rfl pd_X11_right rfl dX11_thing_21) (ct_X11_right h) hl.1 dX11_thing_21 [] rfl (Nat.le_of_ble_eq_true rfl) (Or.inl rfl) q1606 q113 ⟨Nat.le_of_ble_eq_true rfl, Nat.le_of_ble_eq_true rfl⟩ (fun v x1 H locs cells slots ex hq I => ?_) (fun a x1 H locs cells slots ex hq I => hq.elim)
    obtain ⟨M6, rfl, r7, rfl, h⟩ := hq
    refine lv_if_eq (tgt := 40) C.1 C.2.1 dX11_thing_24 (by decide) (fun c8 => ?_) (fun c8 => ?_)
    · have h := h.1 c8
      exact b_X11_thing_40 C M6 _ _ _ _ _ h I (hl.sub [] rfl)
    · have h := h.2 c8
      refine l_ald_n (x := some b0) C dX11_thing_27 hl 0 rfl rfl ?_
      refine f_A C I (fl_X11_26) (by decide) (by decide) dX11_thing_28 ?_
      refine lv_iconst (v := 5) C.1 C.2.1 dX11_thing_31 (by decide) ?_
      refine l_ild_n C dX11_thing_32 hl 1 rfl rfl ?_
      refine lv_imul C.1 C.2.1 dX11_thing_33 ?_
      refine l_ild_n C dX11_thing_34 hl 2 rfl rfl ?_
      refine lv_iadd C.1 C.2.1 dX11_thing_35 ?_
      obtain ⟨hi, h⟩ := h
      refine f_ld (k := 11) C I (by decide) hi dX11_thing_36 ?_
      refine lv_goto (tgt := 41) C.1 C.2.1 dX11_thing_37 (by decide) ?_
      exact b_X11_thing_41 C (mA M6 11 ((((5 : Int32) * p0) + p1)).toNatClampNeg) M6 _ _ _ _ _ h I (hl.sub [] rfl)
def w_X11_adds (Q : MS → Prop) (p0 : Int32) (M : MS) : Prop := vp_in (mF M 48) (mlen 46) ∧ ∀ M1 : MS, M1 = sA M 46 (mF M 48).toNatClampNeg p0 → ∀ M2 : MS, M2 = sF M1 48 ((mF M1 48 + (1 : Int32))) → Q M2
theorem pd_X11_adds : (parseMethodDescriptor yX11_adds.desc).map (fun d => d.parameters.length) = some 1 := by decide +kernel
set_option maxHeartbeats 4000000 in
theorem ct_X11_adds {l : Launch} {D : va_G} {T : Nat → ClassId} {Z : Heap} {b0 z0 : Nat} {M0 : MS} {Q : MS → Prop} {p0 : Int32} (hw : w_X11_adds Q p0 M0) : CT (twd D T Z) (Evd D T Z) l yX11_adds (Cond.code yX11_adds cX11_adds 2 none) 0 0 [va_rf (some b0), .int p0] (mG b0 z0 M0) (mq b0 z0 (qV Q)) (fun _ _ => False) := by
  refine CT.ofW (cc := cX11_adds) (nL := 2) (ret := none) Ext.rf (by decide) (Or.inl rfl) ?_
  intro p e s m below meth c hx hb hml hown hr hlk hnm hcb hm hc hn hE I
  have C : Cx p s m meth c D T Z "EndingTownModel" cX11_adds 2 none := ⟨hx, hb, hml, hown, hE, hr, hlk⟩
  refine w_entry [.inr (.inl (some b0)), .inl p0] (Nat.le_of_ble_eq_true rfl) (fun ls hl => ?_)
  have hl : LH ls 2 [(0, .inr (.inl (some b0))), (1, .inl p0)] := hl
  have h := hw
  refine l_ald_n (x := some b0) C dX11_adds_0 hl 0 rfl rfl ?_
  refine f_A C I (fl_X11_77) (by decide) (by decide) dX11_adds_1 ?_
  refine l_ald_n (x := some b0) C dX11_adds_4 hl 0 rfl rfl ?_
  refine f_I C I (fl_X11_305) (by decide) dX11_adds_5 ?_
  refine l_ild_n C dX11_adds_8 hl 1 rfl rfl ?_
  obtain ⟨hi, h⟩ := h
  refine f_st (k := 46) C I (by decide) hi dX11_adds_9 (fun H locs M1 eM1 I => ?_)
  have h := h M1 eM1
  refine l_ald_n (x := some b0) C dX11_adds_10 hl 0 rfl rfl ?_
  refine lv_dup C.1 C.2.1 dX11_adds_11 (cat_rf _) ?_
  refine f_I C I (fl_X11_305) (by decide) dX11_adds_12 ?_
  refine lv_iconst (v := 1) C.1 C.2.1 dX11_adds_15 (by decide) ?_
  refine lv_iadd C.1 C.2.1 dX11_adds_16 ?_
  refine f_PI C I (fp_X11_305) (by decide) dX11_adds_17 (fit_i _) (fun H locs M2 eM2 I => ?_)
  have h := h M2 eM2
  exact r_void C.1 C.2.1 C.2.2.2.2.2.1 C.2.2.2.2.2.2 ⟨rfl, rfl⟩ I dX11_adds_20 ⟨_, rfl, rfl, h⟩
def w_X11_begins_31 (Q : Int32 → MS → Prop) : Nat → Int32 → Int32 → Int32 → Int32 → MS → Prop
  | 0 => fun _ _ _ _ _ => False
  | f31 + 1 => fun l1 l2 l3 l4 M => ((l3 ≤ l4) → (Q (1 : Int32) M)) ∧ ((¬ l3 ≤ l4) → (vp_in (((((9 : Int32) * l1) + (1 : Int32)) + l4)) (mlen 8) ∧ vp_in (((((27 : Int32) * l2) + (10 : Int32)) + l4)) (mlen 9) ∧ ((mA M 8 (((((9 : Int32) * l1) + (1 : Int32)) + l4)).toNatClampNeg = mA M 9 (((((27 : Int32) * l2) + (10 : Int32)) + l4)).toNatClampNeg) → ((w_X11_begins_31 Q f31) l1 l2 l3 ((l4 + 1)) M)) ∧ ((¬ mA M 8 (((((9 : Int32) * l1) + (1 : Int32)) + l4)).toNatClampNeg = mA M 9 (((((27 : Int32) * l2) + (10 : Int32)) + l4)).toNatClampNeg) → (Q (0 : Int32) M))))
set_option maxHeartbeats 4000000 in
theorem b_X11_begins_31 {b0 z0 : Nat} {M0 : MS} {Q : Int32 → MS → Prop} (C : Cx p s m meth c D T Z "EndingTownModel" cX11_begins 5 (some .boolean)) : ∀ (n : Nat) (l1 : Int32) (l2 : Int32) (l3 : Int32) (l4 : Int32) (M : MS) (H : Heap) (locs : List Loc) (cells slots : Nat) (ls : Array Slot), w_X11_begins_31 Q n l1 l2 l3 l4 M → HI (twd D T Z) (mG b0 z0 M0) s (rmX (twd D T Z) 0 0 (mG b0 z0 M0)) H locs cells slots (mG b0 z0 M) → LH ls 5 [(0, .inr (.inl (some b0))), (1, .inl l1), (2, .inl l2), (3, .inl l3), (4, .inl l4)] → W p l e (rmX (twd D T Z) 0 0 (mG b0 z0 M0)) s m args below meth c H locs cells slots (MQX (twd D T Z) (mG b0 z0 M0) (mq b0 z0 (qI Q)) (fun _ _ => False) below s) (F0 m 31 ls []) := by
  intro n
  induction n with
  | zero => intro l1 l2 l3 l4 M H locs cells slots ls h; exact (show False from h).elim
  | succ n ih =>
    intro l1 l2 l3 l4 M H locs cells slots ls h I hl
    have hk31 := ih
    refine l_ild C dX11_begins_31 hl 4 rfl ?_
    refine l_ild_n C dX11_begins_33 hl 3 rfl rfl ?_
    refine lv_icmp_ge (tgt := 77) C.1 C.2.1 dX11_begins_34 (by decide) (fun c2 => ?_) (fun c2 => ?_)
    · have h := h.1 c2
      refine lv_iconst (v := 1) C.1 C.2.1 dX11_begins_77 (by decide) ?_
      exact r_int C.1 C.2.1 C.2.2.2.2.2.1 rfl C.2.2.2.2.2.2 ⟨rfl, rfl⟩ I dX11_begins_78 ⟨_, rfl, _, rfl, h⟩
    · have h := h.2 c2
      refine l_ald_n (x := some b0) C dX11_begins_37 hl 0 rfl rfl ?_
      refine f_A C I (fl_X11_17) (by decide) (by decide) dX11_begins_38 ?_
      refine lv_bipush (v := 9) C.1 C.2.1 dX11_begins_41 (by decide) ?_
      refine l_ild_n C dX11_begins_43 hl 1 rfl rfl ?_
      refine lv_imul C.1 C.2.1 dX11_begins_44 ?_
      refine lv_iconst (v := 1) C.1 C.2.1 dX11_begins_45 (by decide) ?_
      refine lv_iadd C.1 C.2.1 dX11_begins_46 ?_
      refine l_ild C dX11_begins_47 hl 4 rfl ?_
      refine lv_iadd C.1 C.2.1 dX11_begins_49 ?_
      obtain ⟨hi, h⟩ := h
      refine f_ld (k := 8) C I (by decide) hi dX11_begins_50 ?_
      refine l_ald_n (x := some b0) C dX11_begins_51 hl 0 rfl rfl ?_
      refine f_A C I (fl_X11_20) (by decide) (by decide) dX11_begins_52 ?_
      refine lv_bipush (v := 27) C.1 C.2.1 dX11_begins_55 (by decide) ?_
      refine l_ild_n C dX11_begins_57 hl 2 rfl rfl ?_
      refine lv_imul C.1 C.2.1 dX11_begins_58 ?_
      refine lv_bipush (v := 10) C.1 C.2.1 dX11_begins_59 (by decide) ?_
      refine lv_iadd C.1 C.2.1 dX11_begins_61 ?_
      refine l_ild C dX11_begins_62 hl 4 rfl ?_
      refine lv_iadd C.1 C.2.1 dX11_begins_64 ?_
      obtain ⟨hi, h⟩ := h
      refine f_ld (k := 9) C I (by decide) hi dX11_begins_65 ?_
      refine lv_icmp_eq (tgt := 71) C.1 C.2.1 dX11_begins_66 (by decide) (fun c1 => ?_) (fun c1 => ?_)
      · have h := h.1 c1
        refine l_inc (q := 4) (v := 1) C dX11_begins_71 hl rfl (by decide) (by decide) rfl (fun ls hl => ?_)
        have hl : LH ls 5 [(4, .inl ((l4 + 1))), (0, .inr (.inl (some b0))), (1, .inl l1), (2, .inl l2), (3, .inl l3)] := hl
        refine lv_goto (tgt := 31) C.1 C.2.1 dX11_begins_74 (by decide) ?_
        exact hk31 l1 l2 l3 ((l4 + 1)) M _ _ _ _ _ h I (hl.sub [1, 2, 3, 4, 0] rfl)
      · have h := h.2 c1
        refine lv_iconst (v := 0) C.1 C.2.1 dX11_begins_69 (by decide) ?_
        exact r_int C.1 C.2.1 C.2.2.2.2.2.1 rfl C.2.2.2.2.2.2 ⟨rfl, rfl⟩ I dX11_begins_70 ⟨_, rfl, _, rfl, h⟩
def w_X11_begins (Q : Int32 → MS → Prop) (p0 : Int32) (p1 : Int32) (M : MS) : Prop := vp_in ((((27 : Int32) * p1) + (9 : Int32))) (mlen 9) ∧ vp_in (((9 : Int32) * p0)) (mlen 8) ∧ ((mA M 9 ((((27 : Int32) * p1) + (9 : Int32))).toNatClampNeg ≤ mA M 8 (((9 : Int32) * p0)).toNatClampNeg) → (∃ n, w_X11_begins_31 Q n p0 p1 (mA M 9 ((((27 : Int32) * p1) + (9 : Int32))).toNatClampNeg) ((0 : Int32)) M)) ∧ ((¬ mA M 9 ((((27 : Int32) * p1) + (9 : Int32))).toNatClampNeg ≤ mA M 8 (((9 : Int32) * p0)).toNatClampNeg) → (Q (0 : Int32) M))
theorem pd_X11_begins : (parseMethodDescriptor yX11_begins.desc).map (fun d => d.parameters.length) = some 2 := by decide +kernel
set_option maxHeartbeats 4000000 in
theorem ct_X11_begins {l : Launch} {D : va_G} {T : Nat → ClassId} {Z : Heap} {b0 z0 : Nat} {M0 : MS} {Q : Int32 → MS → Prop} {p0 : Int32} {p1 : Int32} (hw : w_X11_begins Q p0 p1 M0) : CT (twd D T Z) (Evd D T Z) l yX11_begins (Cond.code yX11_begins cX11_begins 5 (some .boolean)) 0 0 [va_rf (some b0), .int p0, .int p1] (mG b0 z0 M0) (mq b0 z0 (qI Q)) (fun _ _ => False) := by
  refine CT.ofW (cc := cX11_begins) (nL := 5) (ret := (some .boolean)) Ext.rf (by decide) (Or.inl rfl) ?_
  intro p e s m below meth c hx hb hml hown hr hlk hnm hcb hm hc hn hE I
  have C : Cx p s m meth c D T Z "EndingTownModel" cX11_begins 5 (some .boolean) := ⟨hx, hb, hml, hown, hE, hr, hlk⟩
  refine w_entry [.inr (.inl (some b0)), .inl p0, .inl p1] (Nat.le_of_ble_eq_true rfl) (fun ls hl => ?_)
  have hl : LH ls 5 [(0, .inr (.inl (some b0))), (1, .inl p0), (2, .inl p1)] := hl
  have h := hw
  refine l_ald_n (x := some b0) C dX11_begins_0 hl 0 rfl rfl ?_
  refine f_A C I (fl_X11_20) (by decide) (by decide) dX11_begins_1 ?_
  refine lv_bipush (v := 27) C.1 C.2.1 dX11_begins_4 (by decide) ?_
  refine l_ild_n C dX11_begins_6 hl 2 rfl rfl ?_
  refine lv_imul C.1 C.2.1 dX11_begins_7 ?_
  refine lv_bipush (v := 9) C.1 C.2.1 dX11_begins_8 (by decide) ?_
  refine lv_iadd C.1 C.2.1 dX11_begins_10 ?_
  obtain ⟨hi, h⟩ := h
  refine f_ld (k := 9) C I (by decide) hi dX11_begins_11 ?_
  refine l_ist_n C dX11_begins_12 rfl hl (by decide) rfl (fun ls hl => ?_)
  have hl : LH ls 5 [(3, .inl (mA M0 9 ((((27 : Int32) * p1) + (9 : Int32))).toNatClampNeg)), (0, .inr (.inl (some b0))), (1, .inl p0), (2, .inl p1)] := hl
  refine l_ild_n C dX11_begins_13 hl 0 rfl rfl ?_
  refine l_ald_n (x := some b0) C dX11_begins_14 hl 1 rfl rfl ?_
  refine f_A C I (fl_X11_17) (by decide) (by decide) dX11_begins_15 ?_
  refine lv_bipush (v := 9) C.1 C.2.1 dX11_begins_18 (by decide) ?_
  refine l_ild_n C dX11_begins_20 hl 2 rfl rfl ?_
  refine lv_imul C.1 C.2.1 dX11_begins_21 ?_
  obtain ⟨hi, h⟩ := h
  refine f_ld (k := 8) C I (by decide) hi dX11_begins_22 ?_
  refine lv_icmp_le (tgt := 28) C.1 C.2.1 dX11_begins_23 (by decide) (fun c1 => ?_) (fun c1 => ?_)
  · have h := h.1 c1
    refine lv_iconst (v := 0) C.1 C.2.1 dX11_begins_28 (by decide) ?_
    refine l_ist C dX11_begins_29 hl (by decide) rfl (fun ls hl => ?_)
    have hl : LH ls 5 [(4, .inl ((0 : Int32))), (3, .inl (mA M0 9 ((((27 : Int32) * p1) + (9 : Int32))).toNatClampNeg)), (0, .inr (.inl (some b0))), (1, .inl p0), (2, .inl p1)] := hl
    obtain ⟨n, h⟩ := h
    exact b_X11_begins_31 C n p0 p1 (mA M0 9 ((((27 : Int32) * p1) + (9 : Int32))).toNatClampNeg) ((0 : Int32)) M0 _ _ _ _ _ h I (hl.sub [2, 3, 4, 1, 0] rfl)
  · have h := h.2 c1
    refine lv_iconst (v := 0) C.1 C.2.1 dX11_begins_26 (by decide) ?_
    exact r_int C.1 C.2.1 C.2.2.2.2.2.1 rfl C.2.2.2.2.2.2 ⟨rfl, rfl⟩ I dX11_begins_27 ⟨_, rfl, _, rfl, h⟩
def w_X11_ends_32 (Q : Int32 → MS → Prop) : Nat → Int32 → Int32 → Int32 → Int32 → Int32 → MS → Prop
  | 0 => fun _ _ _ _ _ _ => False
  | f32 + 1 => fun l1 l2 l3 l4 l5 M => ((l3 ≤ l5) → (Q (1 : Int32) M)) ∧ ((¬ l3 ≤ l5) → (vp_in (((((((9 : Int32) * l1) + (1 : Int32)) + l4) - l3) + l5)) (mlen 7) ∧ vp_in (((((27 : Int32) * l2) + (1 : Int32)) + l5)) (mlen 9) ∧ ((mA M 7 (((((((9 : Int32) * l1) + (1 : Int32)) + l4) - l3) + l5)).toNatClampNeg = mA M 9 (((((27 : Int32) * l2) + (1 : Int32)) + l5)).toNatClampNeg) → ((w_X11_ends_32 Q f32) l1 l2 l3 l4 ((l5 + 1)) M)) ∧ ((¬ mA M 7 (((((((9 : Int32) * l1) + (1 : Int32)) + l4) - l3) + l5)).toNatClampNeg = mA M 9 (((((27 : Int32) * l2) + (1 : Int32)) + l5)).toNatClampNeg) → (Q (0 : Int32) M))))
set_option maxHeartbeats 4000000 in
theorem b_X11_ends_32 {b0 z0 : Nat} {M0 : MS} {Q : Int32 → MS → Prop} (C : Cx p s m meth c D T Z "EndingTownModel" cX11_ends 6 (some .boolean)) : ∀ (n : Nat) (l1 : Int32) (l2 : Int32) (l3 : Int32) (l4 : Int32) (l5 : Int32) (M : MS) (H : Heap) (locs : List Loc) (cells slots : Nat) (ls : Array Slot), w_X11_ends_32 Q n l1 l2 l3 l4 l5 M → HI (twd D T Z) (mG b0 z0 M0) s (rmX (twd D T Z) 0 0 (mG b0 z0 M0)) H locs cells slots (mG b0 z0 M) → LH ls 6 [(0, .inr (.inl (some b0))), (1, .inl l1), (2, .inl l2), (3, .inl l3), (4, .inl l4), (5, .inl l5)] → W p l e (rmX (twd D T Z) 0 0 (mG b0 z0 M0)) s m args below meth c H locs cells slots (MQX (twd D T Z) (mG b0 z0 M0) (mq b0 z0 (qI Q)) (fun _ _ => False) below s) (F0 m 32 ls []) := by
  intro n
  induction n with
  | zero => intro l1 l2 l3 l4 l5 M H locs cells slots ls h; exact (show False from h).elim
  | succ n ih =>
    intro l1 l2 l3 l4 l5 M H locs cells slots ls h I hl
    have hk32 := ih
    refine l_ild C dX11_ends_32 hl 5 rfl ?_
    refine l_ild_n C dX11_ends_34 hl 3 rfl rfl ?_
    refine lv_icmp_ge (tgt := 82) C.1 C.2.1 dX11_ends_35 (by decide) (fun c2 => ?_) (fun c2 => ?_)
    · have h := h.1 c2
      refine lv_iconst (v := 1) C.1 C.2.1 dX11_ends_82 (by decide) ?_
      exact r_int C.1 C.2.1 C.2.2.2.2.2.1 rfl C.2.2.2.2.2.2 ⟨rfl, rfl⟩ I dX11_ends_83 ⟨_, rfl, _, rfl, h⟩
    · have h := h.2 c2
      refine l_ald_n (x := some b0) C dX11_ends_38 hl 0 rfl rfl ?_
      refine f_A C I (fl_X11_13) (by decide) (by decide) dX11_ends_39 ?_
      refine lv_bipush (v := 9) C.1 C.2.1 dX11_ends_42 (by decide) ?_
      refine l_ild_n C dX11_ends_44 hl 1 rfl rfl ?_
      refine lv_imul C.1 C.2.1 dX11_ends_45 ?_
      refine lv_iconst (v := 1) C.1 C.2.1 dX11_ends_46 (by decide) ?_
      refine lv_iadd C.1 C.2.1 dX11_ends_47 ?_
      refine l_ild C dX11_ends_48 hl 4 rfl ?_
      refine lv_iadd C.1 C.2.1 dX11_ends_50 ?_
      refine l_ild_n C dX11_ends_51 hl 3 rfl rfl ?_
      refine lv_isub C.1 C.2.1 dX11_ends_52 ?_
      refine l_ild C dX11_ends_53 hl 5 rfl ?_
      refine lv_iadd C.1 C.2.1 dX11_ends_55 ?_
      obtain ⟨hi, h⟩ := h
      refine f_ld (k := 7) C I (by decide) hi dX11_ends_56 ?_
      refine l_ald_n (x := some b0) C dX11_ends_57 hl 0 rfl rfl ?_
      refine f_A C I (fl_X11_20) (by decide) (by decide) dX11_ends_58 ?_
      refine lv_bipush (v := 27) C.1 C.2.1 dX11_ends_61 (by decide) ?_
      refine l_ild_n C dX11_ends_63 hl 2 rfl rfl ?_
      refine lv_imul C.1 C.2.1 dX11_ends_64 ?_
      refine lv_iconst (v := 1) C.1 C.2.1 dX11_ends_65 (by decide) ?_
      refine lv_iadd C.1 C.2.1 dX11_ends_66 ?_
      refine l_ild C dX11_ends_67 hl 5 rfl ?_
      refine lv_iadd C.1 C.2.1 dX11_ends_69 ?_
      obtain ⟨hi, h⟩ := h
      refine f_ld (k := 9) C I (by decide) hi dX11_ends_70 ?_
      refine lv_icmp_eq (tgt := 76) C.1 C.2.1 dX11_ends_71 (by decide) (fun c1 => ?_) (fun c1 => ?_)
      · have h := h.1 c1
        refine l_inc (q := 5) (v := 1) C dX11_ends_76 hl rfl (by decide) (by decide) rfl (fun ls hl => ?_)
        have hl : LH ls 6 [(5, .inl ((l5 + 1))), (0, .inr (.inl (some b0))), (1, .inl l1), (2, .inl l2), (3, .inl l3), (4, .inl l4)] := hl
        refine lv_goto (tgt := 32) C.1 C.2.1 dX11_ends_79 (by decide) ?_
        exact hk32 l1 l2 l3 l4 ((l5 + 1)) M _ _ _ _ _ h I (hl.sub [1, 2, 3, 4, 5, 0] rfl)
      · have h := h.2 c1
        refine lv_iconst (v := 0) C.1 C.2.1 dX11_ends_74 (by decide) ?_
        exact r_int C.1 C.2.1 C.2.2.2.2.2.1 rfl C.2.2.2.2.2.2 ⟨rfl, rfl⟩ I dX11_ends_75 ⟨_, rfl, _, rfl, h⟩
def w_X11_ends (Q : Int32 → MS → Prop) (p0 : Int32) (p1 : Int32) (M : MS) : Prop := vp_in (((27 : Int32) * p1)) (mlen 9) ∧ vp_in (((9 : Int32) * p0)) (mlen 7) ∧ ((mA M 9 (((27 : Int32) * p1)).toNatClampNeg ≤ mA M 7 (((9 : Int32) * p0)).toNatClampNeg) → (∃ n, w_X11_ends_32 Q n p0 p1 (mA M 9 (((27 : Int32) * p1)).toNatClampNeg) (mA M 7 (((9 : Int32) * p0)).toNatClampNeg) ((0 : Int32)) M)) ∧ ((¬ mA M 9 (((27 : Int32) * p1)).toNatClampNeg ≤ mA M 7 (((9 : Int32) * p0)).toNatClampNeg) → (Q (0 : Int32) M))
theorem pd_X11_ends : (parseMethodDescriptor yX11_ends.desc).map (fun d => d.parameters.length) = some 2 := by decide +kernel
set_option maxHeartbeats 4000000 in
theorem ct_X11_ends {l : Launch} {D : va_G} {T : Nat → ClassId} {Z : Heap} {b0 z0 : Nat} {M0 : MS} {Q : Int32 → MS → Prop} {p0 : Int32} {p1 : Int32} (hw : w_X11_ends Q p0 p1 M0) : CT (twd D T Z) (Evd D T Z) l yX11_ends (Cond.code yX11_ends cX11_ends 6 (some .boolean)) 0 0 [va_rf (some b0), .int p0, .int p1] (mG b0 z0 M0) (mq b0 z0 (qI Q)) (fun _ _ => False) := by
  refine CT.ofW (cc := cX11_ends) (nL := 6) (ret := (some .boolean)) Ext.rf (by decide) (Or.inl rfl) ?_
  intro p e s m below meth c hx hb hml hown hr hlk hnm hcb hm hc hn hE I
  have C : Cx p s m meth c D T Z "EndingTownModel" cX11_ends 6 (some .boolean) := ⟨hx, hb, hml, hown, hE, hr, hlk⟩
  refine w_entry [.inr (.inl (some b0)), .inl p0, .inl p1] (Nat.le_of_ble_eq_true rfl) (fun ls hl => ?_)
  have hl : LH ls 6 [(0, .inr (.inl (some b0))), (1, .inl p0), (2, .inl p1)] := hl
  have h := hw
  refine l_ald_n (x := some b0) C dX11_ends_0 hl 0 rfl rfl ?_
  refine f_A C I (fl_X11_20) (by decide) (by decide) dX11_ends_1 ?_
  refine lv_bipush (v := 27) C.1 C.2.1 dX11_ends_4 (by decide) ?_
  refine l_ild_n C dX11_ends_6 hl 2 rfl rfl ?_
  refine lv_imul C.1 C.2.1 dX11_ends_7 ?_
  obtain ⟨hi, h⟩ := h
  refine f_ld (k := 9) C I (by decide) hi dX11_ends_8 ?_
  refine l_ist_n C dX11_ends_9 rfl hl (by decide) rfl (fun ls hl => ?_)
  have hl : LH ls 6 [(3, .inl (mA M0 9 (((27 : Int32) * p1)).toNatClampNeg)), (0, .inr (.inl (some b0))), (1, .inl p0), (2, .inl p1)] := hl
  refine l_ald_n (x := some b0) C dX11_ends_10 hl 1 rfl rfl ?_
  refine f_A C I (fl_X11_13) (by decide) (by decide) dX11_ends_11 ?_
  refine lv_bipush (v := 9) C.1 C.2.1 dX11_ends_14 (by decide) ?_
  refine l_ild_n C dX11_ends_16 hl 2 rfl rfl ?_
  refine lv_imul C.1 C.2.1 dX11_ends_17 ?_
  obtain ⟨hi, h⟩ := h
  refine f_ld (k := 7) C I (by decide) hi dX11_ends_18 ?_
  refine l_ist C dX11_ends_19 hl (by decide) rfl (fun ls hl => ?_)
  have hl : LH ls 6 [(4, .inl (mA M0 7 (((9 : Int32) * p0)).toNatClampNeg)), (3, .inl (mA M0 9 (((27 : Int32) * p1)).toNatClampNeg)), (0, .inr (.inl (some b0))), (1, .inl p0), (2, .inl p1)] := hl
  refine l_ild_n C dX11_ends_21 hl 1 rfl rfl ?_
  refine l_ild C dX11_ends_22 hl 0 rfl ?_
  refine lv_icmp_le (tgt := 29) C.1 C.2.1 dX11_ends_24 (by decide) (fun c1 => ?_) (fun c1 => ?_)
  · have h := h.1 c1
    refine lv_iconst (v := 0) C.1 C.2.1 dX11_ends_29 (by decide) ?_
    refine l_ist C dX11_ends_30 hl (by decide) rfl (fun ls hl => ?_)
    have hl : LH ls 6 [(5, .inl ((0 : Int32))), (4, .inl (mA M0 7 (((9 : Int32) * p0)).toNatClampNeg)), (3, .inl (mA M0 9 (((27 : Int32) * p1)).toNatClampNeg)), (0, .inr (.inl (some b0))), (1, .inl p0), (2, .inl p1)] := hl
    obtain ⟨n, h⟩ := h
    exact b_X11_ends_32 C n p0 p1 (mA M0 9 (((27 : Int32) * p1)).toNatClampNeg) (mA M0 7 (((9 : Int32) * p0)).toNatClampNeg) ((0 : Int32)) M0 _ _ _ _ _ h I (hl.sub [3, 4, 5, 2, 1, 0] rfl)
  · have h := h.2 c1
    refine lv_iconst (v := 0) C.1 C.2.1 dX11_ends_27 (by decide) ?_
    exact r_int C.1 C.2.1 C.2.2.2.2.2.1 rfl C.2.2.2.2.2.2 ⟨rfl, rfl⟩ I dX11_ends_28 ⟨_, rfl, _, rfl, h⟩
def w_X11_speaks_46 (Q : MS → Prop) (k20 : Int32 → Int32 → Int32 → MS → Prop) (l1 : Int32) (l2 : Int32) (l3 : Int32) (M : MS) : Prop := k20 l1 l2 ((l3 + 1)) M
set_option maxHeartbeats 4000000 in
theorem b_X11_speaks_46 {b0 z0 : Nat} {M0 : MS} {Q : MS → Prop} {k20 : Int32 → Int32 → Int32 → MS → Prop} (C : Cx p s m meth c D T Z "EndingTownModel" cX11_speaks 7 none) (hk20 : ∀ (l1 : Int32) (l2 : Int32) (l3 : Int32) (M : MS) (H : Heap) (locs : List Loc) (cells slots : Nat) (ls : Array Slot), k20 l1 l2 l3 M → HI (twd D T Z) (mG b0 z0 M0) s (rmX (twd D T Z) 1 25 (mG b0 z0 M0)) H locs cells slots (mG b0 z0 M) → LH ls 7 [(0, .inr (.inl (some b0))), (1, .inl l1), (2, .inl l2), (3, .inl l3)] → W p l e (rmX (twd D T Z) 1 25 (mG b0 z0 M0)) s m args below meth c H locs cells slots (MQX (twd D T Z) (mG b0 z0 M0) (mq b0 z0 (qV Q)) (fun _ _ => False) below s) (F0 m 20 ls [])) : ∀ (l1 : Int32) (l2 : Int32) (l3 : Int32) (M : MS) (H : Heap) (locs : List Loc) (cells slots : Nat) (ls : Array Slot), w_X11_speaks_46 Q k20 l1 l2 l3 M → HI (twd D T Z) (mG b0 z0 M0) s (rmX (twd D T Z) 1 25 (mG b0 z0 M0)) H locs cells slots (mG b0 z0 M) → LH ls 7 [(0, .inr (.inl (some b0))), (1, .inl l1), (2, .inl l2), (3, .inl l3)] → W p l e (rmX (twd D T Z) 1 25 (mG b0 z0 M0)) s m args below meth c H locs cells slots (MQX (twd D T Z) (mG b0 z0 M0) (mq b0 z0 (qV Q)) (fun _ _ => False) below s) (F0 m 46 ls []) := by
  intro l1 l2 l3 M H locs cells slots ls h I hl
  refine l_inc (q := 3) (v := 1) C dX11_speaks_46 hl rfl (by decide) (by decide) rfl (fun ls hl => ?_)
  have hl : LH ls 7 [(3, .inl ((l3 + 1))), (0, .inr (.inl (some b0))), (1, .inl l1), (2, .inl l2)] := hl
  refine lv_goto (tgt := 20) C.1 C.2.1 dX11_speaks_49 (by decide) ?_
  exact hk20 l1 l2 ((l3 + 1)) M _ _ _ _ _ h I (hl.sub [1, 2, 3, 0] rfl)
def w_X11_speaks_202 (Q : MS → Prop) : Nat → Int32 → Int32 → MS → Prop
  | 0 => fun _ _ _ => False
  | f202 + 1 => fun l2 l6 M => vp_in (((9 : Int32) * l2)) (mlen 8) ∧ ((mA M 8 (((9 : Int32) * l2)).toNatClampNeg ≤ l6) → (Q M)) ∧ ((¬ mA M 8 (((9 : Int32) * l2)).toNatClampNeg ≤ l6) → (vp_in (((((9 : Int32) * l2) + (1 : Int32)) + l6)) (mlen 8) ∧ w_X11_adds (fun M1 => (w_X11_speaks_202 Q f202) l2 ((l6 + 1)) M1) (mA M 8 (((((9 : Int32) * l2) + (1 : Int32)) + l6)).toNatClampNeg) M))
set_option maxHeartbeats 4000000 in
theorem b_X11_speaks_202 {b0 z0 : Nat} {M0 : MS} {Q : MS → Prop} (C : Cx p s m meth c D T Z "EndingTownModel" cX11_speaks 7 none) : ∀ (n : Nat) (l2 : Int32) (l6 : Int32) (M : MS) (H : Heap) (locs : List Loc) (cells slots : Nat) (ls : Array Slot), w_X11_speaks_202 Q n l2 l6 M → HI (twd D T Z) (mG b0 z0 M0) s (rmX (twd D T Z) 1 25 (mG b0 z0 M0)) H locs cells slots (mG b0 z0 M) → LH ls 7 [(0, .inr (.inl (some b0))), (2, .inl l2), (6, .inl l6)] → W p l e (rmX (twd D T Z) 1 25 (mG b0 z0 M0)) s m args below meth c H locs cells slots (MQX (twd D T Z) (mG b0 z0 M0) (mq b0 z0 (qV Q)) (fun _ _ => False) below s) (F0 m 202 ls []) := by
  intro n
  induction n with
  | zero => intro l2 l6 M H locs cells slots ls h; exact (show False from h).elim
  | succ n ih =>
    intro l2 l6 M H locs cells slots ls h I hl
    have hk202 := ih
    refine l_ild C dX11_speaks_202 hl 2 rfl ?_
    refine l_ald_n (x := some b0) C dX11_speaks_204 hl 0 rfl rfl ?_
    refine f_A C I (fl_X11_17) (by decide) (by decide) dX11_speaks_205 ?_
    refine lv_bipush (v := 9) C.1 C.2.1 dX11_speaks_208 (by decide) ?_
    refine l_ild_n C dX11_speaks_210 hl 1 rfl rfl ?_
    refine lv_imul C.1 C.2.1 dX11_speaks_211 ?_
    obtain ⟨hi, h⟩ := h
    refine f_ld (k := 8) C I (by decide) hi dX11_speaks_212 ?_
    refine lv_icmp_ge (tgt := 240) C.1 C.2.1 dX11_speaks_213 (by decide) (fun c3 => ?_) (fun c3 => ?_)
    · have h := h.1 c3
      exact r_void C.1 C.2.1 C.2.2.2.2.2.1 C.2.2.2.2.2.2 ⟨rfl, rfl⟩ I dX11_speaks_240 ⟨_, rfl, rfl, h⟩
    · have h := h.2 c3
      refine l_ald_n (x := some b0) C dX11_speaks_216 hl 0 rfl rfl ?_
      refine l_ald_n (x := some b0) C dX11_speaks_217 hl 0 rfl rfl ?_
      refine f_A C I (fl_X11_17) (by decide) (by decide) dX11_speaks_218 ?_
      refine lv_bipush (v := 9) C.1 C.2.1 dX11_speaks_221 (by decide) ?_
      refine l_ild_n C dX11_speaks_223 hl 1 rfl rfl ?_
      refine lv_imul C.1 C.2.1 dX11_speaks_224 ?_
      refine lv_iconst (v := 1) C.1 C.2.1 dX11_speaks_225 (by decide) ?_
      refine lv_iadd C.1 C.2.1 dX11_speaks_226 ?_
      refine l_ild C dX11_speaks_227 hl 2 rfl ?_
      refine lv_iadd C.1 C.2.1 dX11_speaks_229 ?_
      obtain ⟨hi, h⟩ := h
      refine f_ld (k := 8) C I (by decide) hi dX11_speaks_230 ?_
      refine k_call Ext.tr C I (k_V (r := some b0) (As := [.int (mA M 8 (((((9 : Int32) * l2) + (1 : Int32)) + l6)).toNatClampNeg)]) (rest := []) (y := yX11_adds) C (f_recv C I) q1737 q1739 qs71 (Or.inl rfl) q1740 (by decide) rfl pd_X11_adds rfl dX11_speaks_231) (ct_X11_adds h) hl.1 dX11_speaks_231 [] rfl (Nat.le_of_ble_eq_true rfl) (Or.inl rfl) q1740 q113 ⟨Nat.le_of_ble_eq_true rfl, Nat.le_of_ble_eq_true rfl⟩ (fun v x1 H locs cells slots ex hq I => ?_) (fun a x1 H locs cells slots ex hq I => hq.elim)
      obtain ⟨M1, rfl, rfl, h⟩ := hq
      refine l_inc (q := 2) (v := 1) C dX11_speaks_234 hl rfl (by decide) (by decide) rfl (fun ls hl => ?_)
      have hl : LH ls 7 [(6, .inl ((l6 + 1))), (0, .inr (.inl (some b0))), (2, .inl l2)] := hl
      refine lv_goto (tgt := 202) C.1 C.2.1 dX11_speaks_237 (by decide) ?_
      exact hk202 l2 ((l6 + 1)) M1 _ _ _ _ _ h I (hl.sub [1, 2, 0] rfl)
def w_X11_speaks_198 (Q : MS → Prop) (l2 : Int32) (l5 : Int32) (M : MS) : Prop := ∃ n, w_X11_speaks_202 Q n l2 l5 M
set_option maxHeartbeats 4000000 in
theorem b_X11_speaks_198 {b0 z0 : Nat} {M0 : MS} {Q : MS → Prop} (C : Cx p s m meth c D T Z "EndingTownModel" cX11_speaks 7 none) : ∀ (l2 : Int32) (l5 : Int32) (M : MS) (H : Heap) (locs : List Loc) (cells slots : Nat) (ls : Array Slot), w_X11_speaks_198 Q l2 l5 M → HI (twd D T Z) (mG b0 z0 M0) s (rmX (twd D T Z) 1 25 (mG b0 z0 M0)) H locs cells slots (mG b0 z0 M) → LH ls 7 [(0, .inr (.inl (some b0))), (2, .inl l2), (5, .inl l5)] → W p l e (rmX (twd D T Z) 1 25 (mG b0 z0 M0)) s m args below meth c H locs cells slots (MQX (twd D T Z) (mG b0 z0 M0) (mq b0 z0 (qV Q)) (fun _ _ => False) below s) (F0 m 198 ls []) := by
  intro l2 l5 M H locs cells slots ls h I hl
  refine l_ild C dX11_speaks_198 hl 2 rfl ?_
  refine l_ist C dX11_speaks_200 hl (by decide) rfl (fun ls hl => ?_)
  have hl : LH ls 7 [(6, .inl l5), (0, .inr (.inl (some b0))), (2, .inl l2), (5, .inl l5)] := hl
  obtain ⟨n, h⟩ := h
  exact b_X11_speaks_202 C n l2 l5 M _ _ _ _ _ h I (hl.sub [1, 2, 0] rfl)
def w_X11_speaks_148 (Q : MS → Prop) : Nat → Int32 → Int32 → Int32 → Int32 → MS → Prop
  | 0 => fun _ _ _ _ _ => False
  | f148 + 1 => fun l2 l3 l5 l6 M => ((mF M 2 ≤ l3) → (w_X11_speaks_198 Q l2 l5 M)) ∧ ((¬ mF M 2 ≤ l3) → (vp_in ((((27 : Int32) * l3) + (18 : Int32))) (mlen 9) ∧ ((mA M 9 ((((27 : Int32) * l3) + (18 : Int32))).toNatClampNeg ≤ l6) → (w_X11_speaks_198 Q l2 l5 M)) ∧ ((¬ mA M 9 ((((27 : Int32) * l3) + (18 : Int32))).toNatClampNeg ≤ l6) → (vp_in (((((27 : Int32) * l3) + (19 : Int32)) + l6)) (mlen 9) ∧ w_X11_adds (fun M1 => (w_X11_speaks_148 Q f148) l2 l3 l5 ((l6 + 1)) M1) (mA M 9 (((((27 : Int32) * l3) + (19 : Int32)) + l6)).toNatClampNeg) M))))
set_option maxHeartbeats 4000000 in
theorem b_X11_speaks_148 {b0 z0 : Nat} {M0 : MS} {Q : MS → Prop} (C : Cx p s m meth c D T Z "EndingTownModel" cX11_speaks 7 none) : ∀ (n : Nat) (l2 : Int32) (l3 : Int32) (l5 : Int32) (l6 : Int32) (M : MS) (H : Heap) (locs : List Loc) (cells slots : Nat) (ls : Array Slot), w_X11_speaks_148 Q n l2 l3 l5 l6 M → HI (twd D T Z) (mG b0 z0 M0) s (rmX (twd D T Z) 1 25 (mG b0 z0 M0)) H locs cells slots (mG b0 z0 M) → LH ls 7 [(0, .inr (.inl (some b0))), (2, .inl l2), (3, .inl l3), (5, .inl l5), (6, .inl l6)] → W p l e (rmX (twd D T Z) 1 25 (mG b0 z0 M0)) s m args below meth c H locs cells slots (MQX (twd D T Z) (mG b0 z0 M0) (mq b0 z0 (qV Q)) (fun _ _ => False) below s) (F0 m 148 ls []) := by
  intro n
  induction n with
  | zero => intro l2 l3 l5 l6 M H locs cells slots ls h; exact (show False from h).elim
  | succ n ih =>
    intro l2 l3 l5 l6 M H locs cells slots ls h I hl
    have hk148 := ih
    refine l_ild_n C dX11_speaks_148 hl 2 rfl rfl ?_
    refine l_ald_n (x := some b0) C dX11_speaks_149 hl 0 rfl rfl ?_
    refine f_I C I (fl_X11_263) (by decide) dX11_speaks_150 ?_
    refine lv_icmp_ge (tgt := 198) C.1 C.2.1 dX11_speaks_153 (by decide) (fun c4 => ?_) (fun c4 => ?_)
    · have h := h.1 c4
      exact b_X11_speaks_198 C l2 l5 M _ _ _ _ _ h I (hl.sub [0, 1, 3] rfl)
    · have h := h.2 c4
      refine l_ild C dX11_speaks_156 hl 4 rfl ?_
      refine l_ald_n (x := some b0) C dX11_speaks_158 hl 0 rfl rfl ?_
      refine f_A C I (fl_X11_20) (by decide) (by decide) dX11_speaks_159 ?_
      refine lv_bipush (v := 27) C.1 C.2.1 dX11_speaks_162 (by decide) ?_
      refine l_ild_n C dX11_speaks_164 hl 2 rfl rfl ?_
      refine lv_imul C.1 C.2.1 dX11_speaks_165 ?_
      refine lv_bipush (v := 18) C.1 C.2.1 dX11_speaks_166 (by decide) ?_
      refine lv_iadd C.1 C.2.1 dX11_speaks_168 ?_
      obtain ⟨hi, h⟩ := h
      refine f_ld (k := 9) C I (by decide) hi dX11_speaks_169 ?_
      refine lv_icmp_ge (tgt := 198) C.1 C.2.1 dX11_speaks_170 (by decide) (fun c3 => ?_) (fun c3 => ?_)
      · have h := h.1 c3
        exact b_X11_speaks_198 C l2 l5 M _ _ _ _ _ h I (hl.sub [0, 1, 3] rfl)
      · have h := h.2 c3
        refine l_ald_n (x := some b0) C dX11_speaks_173 hl 0 rfl rfl ?_
        refine l_ald_n (x := some b0) C dX11_speaks_174 hl 0 rfl rfl ?_
        refine f_A C I (fl_X11_20) (by decide) (by decide) dX11_speaks_175 ?_
        refine lv_bipush (v := 27) C.1 C.2.1 dX11_speaks_178 (by decide) ?_
        refine l_ild_n C dX11_speaks_180 hl 2 rfl rfl ?_
        refine lv_imul C.1 C.2.1 dX11_speaks_181 ?_
        refine lv_bipush (v := 19) C.1 C.2.1 dX11_speaks_182 (by decide) ?_
        refine lv_iadd C.1 C.2.1 dX11_speaks_184 ?_
        refine l_ild C dX11_speaks_185 hl 4 rfl ?_
        refine lv_iadd C.1 C.2.1 dX11_speaks_187 ?_
        obtain ⟨hi, h⟩ := h
        refine f_ld (k := 9) C I (by decide) hi dX11_speaks_188 ?_
        refine k_call Ext.tr C I (k_V (r := some b0) (As := [.int (mA M 9 (((((27 : Int32) * l3) + (19 : Int32)) + l6)).toNatClampNeg)]) (rest := []) (y := yX11_adds) C (f_recv C I) q1737 q1739 qs71 (Or.inl rfl) q1740 (by decide) rfl pd_X11_adds rfl dX11_speaks_189) (ct_X11_adds h) hl.1 dX11_speaks_189 [] rfl (Nat.le_of_ble_eq_true rfl) (Or.inl rfl) q1740 q113 ⟨Nat.le_of_ble_eq_true rfl, Nat.le_of_ble_eq_true rfl⟩ (fun v x1 H locs cells slots ex hq I => ?_) (fun a x1 H locs cells slots ex hq I => hq.elim)
        obtain ⟨M1, rfl, rfl, h⟩ := hq
        refine l_inc (q := 4) (v := 1) C dX11_speaks_192 hl rfl (by decide) (by decide) rfl (fun ls hl => ?_)
        have hl : LH ls 7 [(6, .inl ((l6 + 1))), (0, .inr (.inl (some b0))), (2, .inl l2), (3, .inl l3), (5, .inl l5)] := hl
        refine lv_goto (tgt := 148) C.1 C.2.1 dX11_speaks_195 (by decide) ?_
        exact hk148 l2 l3 l5 ((l6 + 1)) M1 _ _ _ _ _ h I (hl.sub [1, 2, 3, 4, 0] rfl)
def w_X11_speaks_104 (Q : MS → Prop) : Nat → Int32 → Int32 → Int32 → Int32 → Int32 → Int32 → MS → Prop
  | 0 => fun _ _ _ _ _ _ _ => False
  | f104 + 1 => fun l1 l2 l3 l4 l5 l6 M => vp_in (((9 : Int32) * l1)) (mlen 7) ∧ (((mA M 7 (((9 : Int32) * l1)).toNatClampNeg - l4) ≤ l6) → (∃ n, w_X11_speaks_148 Q n l2 l3 l5 ((0 : Int32)) M)) ∧ ((¬ (mA M 7 (((9 : Int32) * l1)).toNatClampNeg - l4) ≤ l6) → (vp_in (((((9 : Int32) * l1) + (1 : Int32)) + l6)) (mlen 7) ∧ w_X11_adds (fun M1 => (w_X11_speaks_104 Q f104) l1 l2 l3 l4 l5 ((l6 + 1)) M1) (mA M 7 (((((9 : Int32) * l1) + (1 : Int32)) + l6)).toNatClampNeg) M))
set_option maxHeartbeats 4000000 in
theorem b_X11_speaks_104 {b0 z0 : Nat} {M0 : MS} {Q : MS → Prop} (C : Cx p s m meth c D T Z "EndingTownModel" cX11_speaks 7 none) : ∀ (n : Nat) (l1 : Int32) (l2 : Int32) (l3 : Int32) (l4 : Int32) (l5 : Int32) (l6 : Int32) (M : MS) (H : Heap) (locs : List Loc) (cells slots : Nat) (ls : Array Slot), w_X11_speaks_104 Q n l1 l2 l3 l4 l5 l6 M → HI (twd D T Z) (mG b0 z0 M0) s (rmX (twd D T Z) 1 25 (mG b0 z0 M0)) H locs cells slots (mG b0 z0 M) → LH ls 7 [(0, .inr (.inl (some b0))), (1, .inl l1), (2, .inl l2), (3, .inl l3), (4, .inl l4), (5, .inl l5), (6, .inl l6)] → W p l e (rmX (twd D T Z) 1 25 (mG b0 z0 M0)) s m args below meth c H locs cells slots (MQX (twd D T Z) (mG b0 z0 M0) (mq b0 z0 (qV Q)) (fun _ _ => False) below s) (F0 m 104 ls []) := by
  intro n
  induction n with
  | zero => intro l1 l2 l3 l4 l5 l6 M H locs cells slots ls h; exact (show False from h).elim
  | succ n ih =>
    intro l1 l2 l3 l4 l5 l6 M H locs cells slots ls h I hl
    have hk104 := ih
    refine l_ild C dX11_speaks_104 hl 6 rfl ?_
    refine l_ald_n (x := some b0) C dX11_speaks_106 hl 0 rfl rfl ?_
    refine f_A C I (fl_X11_13) (by decide) (by decide) dX11_speaks_107 ?_
    refine lv_bipush (v := 9) C.1 C.2.1 dX11_speaks_110 (by decide) ?_
    refine l_ild_n C dX11_speaks_112 hl 1 rfl rfl ?_
    refine lv_imul C.1 C.2.1 dX11_speaks_113 ?_
    obtain ⟨hi, h⟩ := h
    refine f_ld (k := 7) C I (by decide) hi dX11_speaks_114 ?_
    refine l_ild C dX11_speaks_115 hl 4 rfl ?_
    refine lv_isub C.1 C.2.1 dX11_speaks_117 ?_
    refine lv_icmp_ge (tgt := 145) C.1 C.2.1 dX11_speaks_118 (by decide) (fun c3 => ?_) (fun c3 => ?_)
    · have h := h.1 c3
      refine lv_iconst (v := 0) C.1 C.2.1 dX11_speaks_145 (by decide) ?_
      refine l_ist C dX11_speaks_146 hl (by decide) rfl (fun ls hl => ?_)
      have hl : LH ls 7 [(6, .inl ((0 : Int32))), (0, .inr (.inl (some b0))), (1, .inl l1), (2, .inl l2), (3, .inl l3), (4, .inl l4), (5, .inl l5)] := hl
      obtain ⟨n, h⟩ := h
      exact b_X11_speaks_148 C n l2 l3 l5 ((0 : Int32)) M _ _ _ _ _ h I (hl.sub [1, 3, 4, 6, 0] rfl)
    · have h := h.2 c3
      refine l_ald_n (x := some b0) C dX11_speaks_121 hl 0 rfl rfl ?_
      refine l_ald_n (x := some b0) C dX11_speaks_122 hl 0 rfl rfl ?_
      refine f_A C I (fl_X11_13) (by decide) (by decide) dX11_speaks_123 ?_
      refine lv_bipush (v := 9) C.1 C.2.1 dX11_speaks_126 (by decide) ?_
      refine l_ild_n C dX11_speaks_128 hl 1 rfl rfl ?_
      refine lv_imul C.1 C.2.1 dX11_speaks_129 ?_
      refine lv_iconst (v := 1) C.1 C.2.1 dX11_speaks_130 (by decide) ?_
      refine lv_iadd C.1 C.2.1 dX11_speaks_131 ?_
      refine l_ild C dX11_speaks_132 hl 6 rfl ?_
      refine lv_iadd C.1 C.2.1 dX11_speaks_134 ?_
      obtain ⟨hi, h⟩ := h
      refine f_ld (k := 7) C I (by decide) hi dX11_speaks_135 ?_
      refine k_call Ext.tr C I (k_V (r := some b0) (As := [.int (mA M 7 (((((9 : Int32) * l1) + (1 : Int32)) + l6)).toNatClampNeg)]) (rest := []) (y := yX11_adds) C (f_recv C I) q1737 q1739 qs71 (Or.inl rfl) q1740 (by decide) rfl pd_X11_adds rfl dX11_speaks_136) (ct_X11_adds h) hl.1 dX11_speaks_136 [] rfl (Nat.le_of_ble_eq_true rfl) (Or.inl rfl) q1740 q113 ⟨Nat.le_of_ble_eq_true rfl, Nat.le_of_ble_eq_true rfl⟩ (fun v x1 H locs cells slots ex hq I => ?_) (fun a x1 H locs cells slots ex hq I => hq.elim)
      obtain ⟨M1, rfl, rfl, h⟩ := hq
      refine l_inc (q := 6) (v := 1) C dX11_speaks_139 hl rfl (by decide) (by decide) rfl (fun ls hl => ?_)
      have hl : LH ls 7 [(6, .inl ((l6 + 1))), (0, .inr (.inl (some b0))), (1, .inl l1), (2, .inl l2), (3, .inl l3), (4, .inl l4), (5, .inl l5)] := hl
      refine lv_goto (tgt := 104) C.1 C.2.1 dX11_speaks_142 (by decide) ?_
      exact hk104 l1 l2 l3 l4 l5 ((l6 + 1)) M1 _ _ _ _ _ h I (hl.sub [1, 2, 3, 4, 5, 6, 0] rfl)
def w_X11_speaks_99 (Q : MS → Prop) (l1 : Int32) (l2 : Int32) (l3 : Int32) (l4 : Int32) (t0 : Int32) (M : MS) : Prop := ∃ n, w_X11_speaks_104 Q n l1 l2 l3 l4 t0 ((0 : Int32)) M
set_option maxHeartbeats 4000000 in
theorem b_X11_speaks_99 {b0 z0 : Nat} {M0 : MS} {Q : MS → Prop} (C : Cx p s m meth c D T Z "EndingTownModel" cX11_speaks 7 none) : ∀ (l1 : Int32) (l2 : Int32) (l3 : Int32) (l4 : Int32) (t0 : Int32) (M : MS) (H : Heap) (locs : List Loc) (cells slots : Nat) (ls : Array Slot), w_X11_speaks_99 Q l1 l2 l3 l4 t0 M → HI (twd D T Z) (mG b0 z0 M0) s (rmX (twd D T Z) 1 25 (mG b0 z0 M0)) H locs cells slots (mG b0 z0 M) → LH ls 7 [(0, .inr (.inl (some b0))), (1, .inl l1), (2, .inl l2), (3, .inl l3), (4, .inl l4)] → W p l e (rmX (twd D T Z) 1 25 (mG b0 z0 M0)) s m args below meth c H locs cells slots (MQX (twd D T Z) (mG b0 z0 M0) (mq b0 z0 (qV Q)) (fun _ _ => False) below s) (F0 m 99 ls [.int t0]) := by
  intro l1 l2 l3 l4 t0 M H locs cells slots ls h I hl
  refine l_ist C dX11_speaks_99 hl (by decide) rfl (fun ls hl => ?_)
  have hl : LH ls 7 [(5, .inl t0), (0, .inr (.inl (some b0))), (1, .inl l1), (2, .inl l2), (3, .inl l3), (4, .inl l4)] := hl
  refine lv_iconst (v := 0) C.1 C.2.1 dX11_speaks_101 (by decide) ?_
  refine l_ist C dX11_speaks_102 hl (by decide) rfl (fun ls hl => ?_)
  have hl : LH ls 7 [(6, .inl ((0 : Int32))), (5, .inl t0), (0, .inr (.inl (some b0))), (1, .inl l1), (2, .inl l2), (3, .inl l3), (4, .inl l4)] := hl
  obtain ⟨n, h⟩ := h
  exact b_X11_speaks_104 C n l1 l2 l3 l4 t0 ((0 : Int32)) M _ _ _ _ _ h I (hl.sub [2, 3, 4, 5, 6, 1, 0] rfl)
def w_X11_speaks_73 (Q : MS → Prop) (l1 : Int32) (l2 : Int32) (l3 : Int32) (t0 : Int32) (M : MS) : Prop := ((¬ l3 = mF M 2) → (vp_in ((((27 : Int32) * l3) + (9 : Int32))) (mlen 9) ∧ w_X11_speaks_99 Q l1 l2 l3 t0 (mA M 9 ((((27 : Int32) * l3) + (9 : Int32))).toNatClampNeg) M)) ∧ ((l3 = mF M 2) → (w_X11_speaks_99 Q l1 l2 l3 t0 ((0 : Int32)) M))
set_option maxHeartbeats 4000000 in
theorem b_X11_speaks_73 {b0 z0 : Nat} {M0 : MS} {Q : MS → Prop} (C : Cx p s m meth c D T Z "EndingTownModel" cX11_speaks 7 none) : ∀ (l1 : Int32) (l2 : Int32) (l3 : Int32) (t0 : Int32) (M : MS) (H : Heap) (locs : List Loc) (cells slots : Nat) (ls : Array Slot), w_X11_speaks_73 Q l1 l2 l3 t0 M → HI (twd D T Z) (mG b0 z0 M0) s (rmX (twd D T Z) 1 25 (mG b0 z0 M0)) H locs cells slots (mG b0 z0 M) → LH ls 7 [(0, .inr (.inl (some b0))), (1, .inl l1), (2, .inl l2), (3, .inl l3)] → W p l e (rmX (twd D T Z) 1 25 (mG b0 z0 M0)) s m args below meth c H locs cells slots (MQX (twd D T Z) (mG b0 z0 M0) (mq b0 z0 (qV Q)) (fun _ _ => False) below s) (F0 m 73 ls [.int t0]) := by
  intro l1 l2 l3 t0 M H locs cells slots ls h I hl
  refine l_ist C dX11_speaks_73 hl (by decide) rfl (fun ls hl => ?_)
  have hl : LH ls 7 [(4, .inl t0), (0, .inr (.inl (some b0))), (1, .inl l1), (2, .inl l2), (3, .inl l3)] := hl
  refine l_ild_n C dX11_speaks_75 hl 4 rfl rfl ?_
  refine l_ald_n (x := some b0) C dX11_speaks_76 hl 1 rfl rfl ?_
  refine f_I C I (fl_X11_263) (by decide) dX11_speaks_77 ?_
  refine lv_icmp_ne (tgt := 87) C.1 C.2.1 dX11_speaks_80 (by decide) (fun c1 => ?_) (fun c1 => ?_)
  · have h := h.1 c1
    refine l_ald_n (x := some b0) C dX11_speaks_87 hl 1 rfl rfl ?_
    refine f_A C I (fl_X11_20) (by decide) (by decide) dX11_speaks_88 ?_
    refine lv_bipush (v := 27) C.1 C.2.1 dX11_speaks_91 (by decide) ?_
    refine l_ild_n C dX11_speaks_93 hl 4 rfl rfl ?_
    refine lv_imul C.1 C.2.1 dX11_speaks_94 ?_
    refine lv_bipush (v := 9) C.1 C.2.1 dX11_speaks_95 (by decide) ?_
    refine lv_iadd C.1 C.2.1 dX11_speaks_97 ?_
    obtain ⟨hi, h⟩ := h
    refine f_ld (k := 9) C I (by decide) hi dX11_speaks_98 ?_
    exact b_X11_speaks_99 C l1 l2 l3 t0 (mA M 9 ((((27 : Int32) * l3) + (9 : Int32))).toNatClampNeg) M _ _ _ _ _ h I (hl.sub [1, 2, 3, 4, 0] rfl)
  · have h := h.2 c1
    refine lv_iconst (v := 0) C.1 C.2.1 dX11_speaks_83 (by decide) ?_
    refine lv_goto (tgt := 99) C.1 C.2.1 dX11_speaks_84 (by decide) ?_
    exact b_X11_speaks_99 C l1 l2 l3 t0 ((0 : Int32)) M _ _ _ _ _ h I (hl.sub [1, 2, 3, 4, 0] rfl)
def w_X11_speaks_52 (Q : MS → Prop) (l1 : Int32) (l2 : Int32) (l3 : Int32) (M : MS) : Prop := ((¬ l3 = mF M 2) → (vp_in (((27 : Int32) * l3)) (mlen 9) ∧ w_X11_speaks_73 Q l1 l2 l3 (mA M 9 (((27 : Int32) * l3)).toNatClampNeg) M)) ∧ ((l3 = mF M 2) → (w_X11_speaks_73 Q l1 l2 l3 ((0 : Int32)) M))
set_option maxHeartbeats 4000000 in
theorem b_X11_speaks_52 {b0 z0 : Nat} {M0 : MS} {Q : MS → Prop} (C : Cx p s m meth c D T Z "EndingTownModel" cX11_speaks 7 none) : ∀ (l1 : Int32) (l2 : Int32) (l3 : Int32) (M : MS) (H : Heap) (locs : List Loc) (cells slots : Nat) (ls : Array Slot), w_X11_speaks_52 Q l1 l2 l3 M → HI (twd D T Z) (mG b0 z0 M0) s (rmX (twd D T Z) 1 25 (mG b0 z0 M0)) H locs cells slots (mG b0 z0 M) → LH ls 7 [(0, .inr (.inl (some b0))), (1, .inl l1), (2, .inl l2), (3, .inl l3)] → W p l e (rmX (twd D T Z) 1 25 (mG b0 z0 M0)) s m args below meth c H locs cells slots (MQX (twd D T Z) (mG b0 z0 M0) (mq b0 z0 (qV Q)) (fun _ _ => False) below s) (F0 m 52 ls []) := by
  intro l1 l2 l3 M H locs cells slots ls h I hl
  refine l_ild_n C dX11_speaks_52 hl 3 rfl rfl ?_
  refine l_ald_n (x := some b0) C dX11_speaks_53 hl 0 rfl rfl ?_
  refine f_I C I (fl_X11_263) (by decide) dX11_speaks_54 ?_
  refine lv_icmp_ne (tgt := 64) C.1 C.2.1 dX11_speaks_57 (by decide) (fun c1 => ?_) (fun c1 => ?_)
  · have h := h.1 c1
    refine l_ald_n (x := some b0) C dX11_speaks_64 hl 0 rfl rfl ?_
    refine f_A C I (fl_X11_20) (by decide) (by decide) dX11_speaks_65 ?_
    refine lv_bipush (v := 27) C.1 C.2.1 dX11_speaks_68 (by decide) ?_
    refine l_ild_n C dX11_speaks_70 hl 3 rfl rfl ?_
    refine lv_imul C.1 C.2.1 dX11_speaks_71 ?_
    obtain ⟨hi, h⟩ := h
    refine f_ld (k := 9) C I (by decide) hi dX11_speaks_72 ?_
    exact b_X11_speaks_73 C l1 l2 l3 (mA M 9 (((27 : Int32) * l3)).toNatClampNeg) M _ _ _ _ _ h I (hl.sub [0, 1, 2, 3] rfl)
  · have h := h.2 c1
    refine lv_iconst (v := 0) C.1 C.2.1 dX11_speaks_60 (by decide) ?_
    refine lv_goto (tgt := 73) C.1 C.2.1 dX11_speaks_61 (by decide) ?_
    exact b_X11_speaks_73 C l1 l2 l3 ((0 : Int32)) M _ _ _ _ _ h I (hl.sub [0, 1, 2, 3] rfl)
def w_X11_speaks_20 (Q : MS → Prop) : Nat → Int32 → Int32 → Int32 → MS → Prop
  | 0 => fun _ _ _ _ => False
  | f20 + 1 => fun l1 l2 l3 M => ((mF M 2 ≤ l3) → (w_X11_speaks_52 Q l1 l2 l3 M)) ∧ ((¬ mF M 2 ≤ l3) → (w_X11_ends (fun r2 M1 => ((r2 = 0) → (w_X11_speaks_46 Q (w_X11_speaks_20 Q f20) l1 l2 l3 M1)) ∧ ((¬ r2 = 0) → (w_X11_begins (fun r4 M3 => ((¬ r4 = 0) → (w_X11_speaks_52 Q l1 l2 l3 M3)) ∧ ((r4 = 0) → (w_X11_speaks_46 Q (w_X11_speaks_20 Q f20) l1 l2 l3 M3))) l2 l3 M1))) l1 l3 M))
set_option maxHeartbeats 4000000 in
theorem b_X11_speaks_20 {b0 z0 : Nat} {M0 : MS} {Q : MS → Prop} (C : Cx p s m meth c D T Z "EndingTownModel" cX11_speaks 7 none) : ∀ (n : Nat) (l1 : Int32) (l2 : Int32) (l3 : Int32) (M : MS) (H : Heap) (locs : List Loc) (cells slots : Nat) (ls : Array Slot), w_X11_speaks_20 Q n l1 l2 l3 M → HI (twd D T Z) (mG b0 z0 M0) s (rmX (twd D T Z) 1 25 (mG b0 z0 M0)) H locs cells slots (mG b0 z0 M) → LH ls 7 [(0, .inr (.inl (some b0))), (1, .inl l1), (2, .inl l2), (3, .inl l3)] → W p l e (rmX (twd D T Z) 1 25 (mG b0 z0 M0)) s m args below meth c H locs cells slots (MQX (twd D T Z) (mG b0 z0 M0) (mq b0 z0 (qV Q)) (fun _ _ => False) below s) (F0 m 20 ls []) := by
  intro n
  induction n with
  | zero => intro l1 l2 l3 M H locs cells slots ls h; exact (show False from h).elim
  | succ n ih =>
    intro l1 l2 l3 M H locs cells slots ls h I hl
    have hk20 := ih
    refine l_ild_n C dX11_speaks_20 hl 3 rfl rfl ?_
    refine l_ald_n (x := some b0) C dX11_speaks_21 hl 0 rfl rfl ?_
    refine f_I C I (fl_X11_263) (by decide) dX11_speaks_22 ?_
    refine lv_icmp_ge (tgt := 52) C.1 C.2.1 dX11_speaks_25 (by decide) (fun c7 => ?_) (fun c7 => ?_)
    · have h := h.1 c7
      exact b_X11_speaks_52 C l1 l2 l3 M _ _ _ _ _ h I (hl.sub [0, 1, 2, 3] rfl)
    · have h := h.2 c7
      refine l_ald_n (x := some b0) C dX11_speaks_28 hl 0 rfl rfl ?_
      refine l_ild_n C dX11_speaks_29 hl 1 rfl rfl ?_
      refine l_ild_n C dX11_speaks_30 hl 3 rfl rfl ?_
      refine k_call Ext.tr C I (k_V (r := some b0) (As := [.int l1, .int l3]) (rest := []) (y := yX11_ends) C (f_recv C I) q1729 q1731 qs69 (Or.inl rfl) q1732 (by decide) rfl pd_X11_ends rfl dX11_speaks_31) (ct_X11_ends h) hl.1 dX11_speaks_31 [] rfl (Nat.le_of_ble_eq_true rfl) (Or.inl rfl) q1732 q113 ⟨Nat.le_of_ble_eq_true rfl, Nat.le_of_ble_eq_true rfl⟩ (fun v x1 H locs cells slots ex hq I => ?_) (fun a x1 H locs cells slots ex hq I => hq.elim)
      obtain ⟨M1, rfl, r2, rfl, h⟩ := hq
      refine lv_if_eq (tgt := 46) C.1 C.2.1 dX11_speaks_34 (by decide) (fun c6 => ?_) (fun c6 => ?_)
      · have h := h.1 c6
        exact b_X11_speaks_46 C hk20 l1 l2 l3 M1 _ _ _ _ _ h I (hl.sub [0, 1, 2, 3] rfl)
      · have h := h.2 c6
        refine l_ald_n (x := some b0) C dX11_speaks_37 hl 0 rfl rfl ?_
        refine l_ild_n C dX11_speaks_38 hl 2 rfl rfl ?_
        refine l_ild_n C dX11_speaks_39 hl 3 rfl rfl ?_
        refine k_call Ext.tr C I (k_V (r := some b0) (As := [.int l2, .int l3]) (rest := []) (y := yX11_begins) C (f_recv C I) q1733 q1735 qs70 (Or.inl rfl) q1736 (by decide) rfl pd_X11_begins rfl dX11_speaks_40) (ct_X11_begins h) hl.1 dX11_speaks_40 [] rfl (Nat.le_of_ble_eq_true rfl) (Or.inl rfl) q1736 q113 ⟨Nat.le_of_ble_eq_true rfl, Nat.le_of_ble_eq_true rfl⟩ (fun v x1 H locs cells slots ex hq I => ?_) (fun a x1 H locs cells slots ex hq I => hq.elim)
        obtain ⟨M3, rfl, r4, rfl, h⟩ := hq
        refine lv_if_ne (tgt := 52) C.1 C.2.1 dX11_speaks_43 (by decide) (fun c5 => ?_) (fun c5 => ?_)
        · have h := h.1 c5
          exact b_X11_speaks_52 C l1 l2 l3 M3 _ _ _ _ _ h I (hl.sub [0, 1, 2, 3] rfl)
        · have h := h.2 c5
          exact b_X11_speaks_46 C hk20 l1 l2 l3 M3 _ _ _ _ _ h I (hl.sub [0, 1, 2, 3] rfl)
def w_X11_speaks (Q : MS → Prop) (p0 : Int32) (p1 : Int32) (M : MS) : Prop := ∀ M1 : MS, M1 = sF M 48 ((0 : Int32)) → vp_in (((9 : Int32) * p1)) (mlen 8) ∧ ((¬ mA M1 8 (((9 : Int32) * p1)).toNatClampNeg = 0) → (∃ n, w_X11_speaks_20 Q n p0 p1 ((0 : Int32)) M1)) ∧ ((mA M1 8 (((9 : Int32) * p1)).toNatClampNeg = 0) → (Q M1))
theorem pd_X11_speaks : (parseMethodDescriptor yX11_speaks.desc).map (fun d => d.parameters.length) = some 2 := by decide +kernel
set_option maxHeartbeats 4000000 in
theorem ct_X11_speaks {l : Launch} {D : va_G} {T : Nat → ClassId} {Z : Heap} {b0 z0 : Nat} {M0 : MS} {Q : MS → Prop} {p0 : Int32} {p1 : Int32} (hw : w_X11_speaks Q p0 p1 M0) : CT (twd D T Z) (Evd D T Z) l yX11_speaks (Cond.code yX11_speaks cX11_speaks 7 none) 1 25 [va_rf (some b0), .int p0, .int p1] (mG b0 z0 M0) (mq b0 z0 (qV Q)) (fun _ _ => False) := by
  refine CT.ofW (cc := cX11_speaks) (nL := 7) (ret := none) Ext.rf (by decide) (Or.inl rfl) ?_
  intro p e s m below meth c hx hb hml hown hr hlk hnm hcb hm hc hn hE I
  have C : Cx p s m meth c D T Z "EndingTownModel" cX11_speaks 7 none := ⟨hx, hb, hml, hown, hE, hr, hlk⟩
  refine w_entry [.inr (.inl (some b0)), .inl p0, .inl p1] (Nat.le_of_ble_eq_true rfl) (fun ls hl => ?_)
  have hl : LH ls 7 [(0, .inr (.inl (some b0))), (1, .inl p0), (2, .inl p1)] := hl
  have h := hw
  refine l_ald_n (x := some b0) C dX11_speaks_0 hl 0 rfl rfl ?_
  refine lv_iconst (v := 0) C.1 C.2.1 dX11_speaks_1 (by decide) ?_
  refine f_PI C I (fp_X11_305) (by decide) dX11_speaks_2 (fit_i _) (fun H locs M1 eM1 I => ?_)
  have h := h M1 eM1
  refine l_ald_n (x := some b0) C dX11_speaks_5 hl 0 rfl rfl ?_
  refine f_A C I (fl_X11_17) (by decide) (by decide) dX11_speaks_6 ?_
  refine lv_bipush (v := 9) C.1 C.2.1 dX11_speaks_9 (by decide) ?_
  refine l_ild_n C dX11_speaks_11 hl 2 rfl rfl ?_
  refine lv_imul C.1 C.2.1 dX11_speaks_12 ?_
  obtain ⟨hi, h⟩ := h
  refine f_ld (k := 8) C I (by decide) hi dX11_speaks_13 ?_
  refine lv_if_ne (tgt := 18) C.1 C.2.1 dX11_speaks_14 (by decide) (fun c2 => ?_) (fun c2 => ?_)
  · have h := h.1 c2
    refine lv_iconst (v := 0) C.1 C.2.1 dX11_speaks_18 (by decide) ?_
    refine l_ist_n C dX11_speaks_19 rfl hl (by decide) rfl (fun ls hl => ?_)
    have hl : LH ls 7 [(3, .inl ((0 : Int32))), (0, .inr (.inl (some b0))), (1, .inl p0), (2, .inl p1)] := hl
    obtain ⟨n, h⟩ := h
    exact b_X11_speaks_20 C n p0 p1 ((0 : Int32)) M1 _ _ _ _ _ h I (hl.sub [1, 2, 3, 0] rfl)
  · have h := h.2 c2
    exact r_void C.1 C.2.1 C.2.2.2.2.2.1 C.2.2.2.2.2.2 ⟨rfl, rfl⟩ I dX11_speaks_17 ⟨_, rfl, rfl, h⟩
def w_X11_word_110 (Q : Int32 → MS → Prop) (t0 : Int32) (M : MS) : Prop := Q t0 M
set_option maxHeartbeats 4000000 in
theorem b_X11_word_110 {b0 z0 : Nat} {M0 : MS} {Q : Int32 → MS → Prop} (C : Cx p s m meth c D T Z "EndingTownModel" cX11_word 5 (some .int)) : ∀ (t0 : Int32) (M : MS) (H : Heap) (locs : List Loc) (cells slots : Nat) (ls : Array Slot), w_X11_word_110 Q t0 M → HI (twd D T Z) (mG b0 z0 M0) s (rmX (twd D T Z) 2 51 (mG b0 z0 M0)) H locs cells slots (mG b0 z0 M) → LH ls 5 [] → W p l e (rmX (twd D T Z) 2 51 (mG b0 z0 M0)) s m args below meth c H locs cells slots (MQX (twd D T Z) (mG b0 z0 M0) (mq b0 z0 (qI Q)) (fun _ _ => False) below s) (F0 m 110 ls [.int t0]) := by
  intro t0 M H locs cells slots ls h I hl
  exact r_int C.1 C.2.1 C.2.2.2.2.2.1 rfl C.2.2.2.2.2.2 ⟨rfl, rfl⟩ I dX11_word_110 ⟨_, rfl, _, rfl, h⟩
def w_X11_word_81 (Q : Int32 → MS → Prop) (l4 : Int32) (t0 : Int32) (M : MS) : Prop := w_X11_right (fun r2 M1 => ((¬ r2 = 0) → (((¬ l4 = (-1 : Int32)) → (vp_in l4 (mlen 46) ∧ w_X11_word_110 Q (mA M1 46 l4.toNatClampNeg) M1)) ∧ ((l4 = (-1 : Int32)) → (w_X11_word_110 Q (mF M1 48) M1)))) ∧ ((r2 = 0) → (Q ((0 : Int32)) M1))) t0 ((1 : Int32)) M
set_option maxHeartbeats 4000000 in
theorem b_X11_word_81 {b0 z0 : Nat} {M0 : MS} {Q : Int32 → MS → Prop} (C : Cx p s m meth c D T Z "EndingTownModel" cX11_word 5 (some .int)) : ∀ (l4 : Int32) (t0 : Int32) (M : MS) (H : Heap) (locs : List Loc) (cells slots : Nat) (ls : Array Slot), w_X11_word_81 Q l4 t0 M → HI (twd D T Z) (mG b0 z0 M0) s (rmX (twd D T Z) 2 51 (mG b0 z0 M0)) H locs cells slots (mG b0 z0 M) → LH ls 5 [(0, .inr (.inl (some b0))), (4, .inl l4)] → W p l e (rmX (twd D T Z) 2 51 (mG b0 z0 M0)) s m args below meth c H locs cells slots (MQX (twd D T Z) (mG b0 z0 M0) (mq b0 z0 (qI Q)) (fun _ _ => False) below s) (F0 m 81 ls [.int t0, va_rf (some b0)]) := by
  intro l4 t0 M H locs cells slots ls h I hl
  refine lv_iconst (v := 1) C.1 C.2.1 dX11_word_81 (by decide) ?_
  refine k_call Ext.tr C I (k_V (r := some b0) (As := [.int t0, .int ((1 : Int32))]) (rest := []) (y := yX11_right) C (f_recv C I) q1603 q1605 qs47 (Or.inl rfl) q1606 (by decide) rfl pd_X11_right rfl dX11_word_82) (ct_X11_right h) hl.1 dX11_word_82 [] rfl (Nat.le_of_ble_eq_true rfl) (Or.inl rfl) q1606 q113 ⟨Nat.le_of_ble_eq_true rfl, Nat.le_of_ble_eq_true rfl⟩ (fun v x1 H locs cells slots ex hq I => ?_) (fun a x1 H locs cells slots ex hq I => hq.elim)
  obtain ⟨M1, rfl, r2, rfl, h⟩ := hq
  refine lv_if_ne (tgt := 90) C.1 C.2.1 dX11_word_85 (by decide) (fun c4 => ?_) (fun c4 => ?_)
  · have h := h.1 c4
    refine l_ild C dX11_word_90 hl 1 rfl ?_
    refine lv_iconst (v := (-1)) C.1 C.2.1 dX11_word_92 (by decide) ?_
    refine lv_icmp_ne (tgt := 103) C.1 C.2.1 dX11_word_93 (by decide) (fun c3 => ?_) (fun c3 => ?_)
    · have h := h.1 c3
      refine l_ald_n (x := some b0) C dX11_word_103 hl 0 rfl rfl ?_
      refine f_A C I (fl_X11_77) (by decide) (by decide) dX11_word_104 ?_
      refine l_ild C dX11_word_107 hl 1 rfl ?_
      obtain ⟨hi, h⟩ := h
      refine f_ld (k := 46) C I (by decide) hi dX11_word_109 ?_
      exact b_X11_word_110 C (mA M1 46 l4.toNatClampNeg) M1 _ _ _ _ _ h I (hl.sub [] rfl)
    · have h := h.2 c3
      refine l_ald_n (x := some b0) C dX11_word_96 hl 0 rfl rfl ?_
      refine f_I C I (fl_X11_305) (by decide) dX11_word_97 ?_
      refine lv_goto (tgt := 110) C.1 C.2.1 dX11_word_100 (by decide) ?_
      exact b_X11_word_110 C (mF M1 48) M1 _ _ _ _ _ h I (hl.sub [] rfl)
  · have h := h.2 c4
    refine lv_iconst (v := 0) C.1 C.2.1 dX11_word_88 (by decide) ?_
    exact r_int C.1 C.2.1 C.2.2.2.2.2.1 rfl C.2.2.2.2.2.2 ⟨rfl, rfl⟩ I dX11_word_89 ⟨_, rfl, _, rfl, h⟩
def w_X11_word_47 (Q : Int32 → MS → Prop) (l1 : Int32) (l2 : Int32) (l3 : Int32) (l4 : Int32) (t0 : Int32) (M : MS) : Prop := w_X11_right (fun r2 M1 => ((¬ r2 = 0) → (w_X11_speaks (fun M3 => ((mF M3 48 ≤ l4) → (w_X11_word_81 Q l4 ((0 : Int32)) M3)) ∧ ((¬ mF M3 48 ≤ l4) → (w_X11_word_81 Q l4 ((1 : Int32)) M3))) l1 ((((5 : Int32) * l2) + l3)) M1)) ∧ ((r2 = 0) → (Q ((0 : Int32)) M1))) t0 ((1 : Int32)) M
set_option maxHeartbeats 4000000 in
theorem b_X11_word_47 {b0 z0 : Nat} {M0 : MS} {Q : Int32 → MS → Prop} (C : Cx p s m meth c D T Z "EndingTownModel" cX11_word 5 (some .int)) : ∀ (l1 : Int32) (l2 : Int32) (l3 : Int32) (l4 : Int32) (t0 : Int32) (M : MS) (H : Heap) (locs : List Loc) (cells slots : Nat) (ls : Array Slot), w_X11_word_47 Q l1 l2 l3 l4 t0 M → HI (twd D T Z) (mG b0 z0 M0) s (rmX (twd D T Z) 2 51 (mG b0 z0 M0)) H locs cells slots (mG b0 z0 M) → LH ls 5 [(0, .inr (.inl (some b0))), (1, .inl l1), (2, .inl l2), (3, .inl l3), (4, .inl l4)] → W p l e (rmX (twd D T Z) 2 51 (mG b0 z0 M0)) s m args below meth c H locs cells slots (MQX (twd D T Z) (mG b0 z0 M0) (mq b0 z0 (qI Q)) (fun _ _ => False) below s) (F0 m 47 ls [.int t0, va_rf (some b0)]) := by
  intro l1 l2 l3 l4 t0 M H locs cells slots ls h I hl
  refine lv_iconst (v := 1) C.1 C.2.1 dX11_word_47 (by decide) ?_
  refine k_call Ext.tr C I (k_V (r := some b0) (As := [.int t0, .int ((1 : Int32))]) (rest := []) (y := yX11_right) C (f_recv C I) q1603 q1605 qs47 (Or.inl rfl) q1606 (by decide) rfl pd_X11_right rfl dX11_word_48) (ct_X11_right h) hl.1 dX11_word_48 [] rfl (Nat.le_of_ble_eq_true rfl) (Or.inl rfl) q1606 q113 ⟨Nat.le_of_ble_eq_true rfl, Nat.le_of_ble_eq_true rfl⟩ (fun v x1 H locs cells slots ex hq I => ?_) (fun a x1 H locs cells slots ex hq I => hq.elim)
  obtain ⟨M1, rfl, r2, rfl, h⟩ := hq
  refine lv_if_ne (tgt := 56) C.1 C.2.1 dX11_word_51 (by decide) (fun c6 => ?_) (fun c6 => ?_)
  · have h := h.1 c6
    refine l_ald_n (x := some b0) C dX11_word_56 hl 0 rfl rfl ?_
    refine l_ild_n C dX11_word_57 hl 1 rfl rfl ?_
    refine lv_iconst (v := 5) C.1 C.2.1 dX11_word_58 (by decide) ?_
    refine l_ild_n C dX11_word_59 hl 2 rfl rfl ?_
    refine lv_imul C.1 C.2.1 dX11_word_60 ?_
    refine l_ild_n C dX11_word_61 hl 3 rfl rfl ?_
    refine lv_iadd C.1 C.2.1 dX11_word_62 ?_
    refine k_call Ext.tr C I (k_V (r := some b0) (As := [.int l1, .int ((((5 : Int32) * l2) + l3))]) (rest := []) (y := yX11_speaks) C (f_recv C I) q1725 q1727 qs68 (Or.inl rfl) q1728 (by decide) rfl pd_X11_speaks rfl dX11_word_63) (ct_X11_speaks h) hl.1 dX11_word_63 [] rfl (Nat.le_of_ble_eq_true rfl) (Or.inl rfl) q1728 q113 ⟨Nat.le_of_ble_eq_true rfl, Nat.le_of_ble_eq_true rfl⟩ (fun v x1 H locs cells slots ex hq I => ?_) (fun a x1 H locs cells slots ex hq I => hq.elim)
    obtain ⟨M3, rfl, rfl, h⟩ := hq
    refine l_ald_n (x := some b0) C dX11_word_66 hl 0 rfl rfl ?_
    refine l_ild C dX11_word_67 hl 4 rfl ?_
    refine l_ald_n (x := some b0) C dX11_word_69 hl 0 rfl rfl ?_
    refine f_I C I (fl_X11_305) (by decide) dX11_word_70 ?_
    refine lv_icmp_ge (tgt := 80) C.1 C.2.1 dX11_word_73 (by decide) (fun c5 => ?_) (fun c5 => ?_)
    · have h := h.1 c5
      refine lv_iconst (v := 0) C.1 C.2.1 dX11_word_80 (by decide) ?_
      exact b_X11_word_81 C l4 ((0 : Int32)) M3 _ _ _ _ _ h I (hl.sub [0, 4] rfl)
    · have h := h.2 c5
      refine lv_iconst (v := 1) C.1 C.2.1 dX11_word_76 (by decide) ?_
      refine lv_goto (tgt := 81) C.1 C.2.1 dX11_word_77 (by decide) ?_
      exact b_X11_word_81 C l4 ((1 : Int32)) M3 _ _ _ _ _ h I (hl.sub [0, 4] rfl)
  · have h := h.2 c6
    refine lv_iconst (v := 0) C.1 C.2.1 dX11_word_54 (by decide) ?_
    exact r_int C.1 C.2.1 C.2.2.2.2.2.1 rfl C.2.2.2.2.2.2 ⟨rfl, rfl⟩ I dX11_word_55 ⟨_, rfl, _, rfl, h⟩
def w_X11_word_46 (Q : Int32 → MS → Prop) (l1 : Int32) (l2 : Int32) (l3 : Int32) (l4 : Int32) (M : MS) : Prop := w_X11_word_47 Q l1 l2 l3 l4 ((0 : Int32)) M
set_option maxHeartbeats 4000000 in
theorem b_X11_word_46 {b0 z0 : Nat} {M0 : MS} {Q : Int32 → MS → Prop} (C : Cx p s m meth c D T Z "EndingTownModel" cX11_word 5 (some .int)) : ∀ (l1 : Int32) (l2 : Int32) (l3 : Int32) (l4 : Int32) (M : MS) (H : Heap) (locs : List Loc) (cells slots : Nat) (ls : Array Slot), w_X11_word_46 Q l1 l2 l3 l4 M → HI (twd D T Z) (mG b0 z0 M0) s (rmX (twd D T Z) 2 51 (mG b0 z0 M0)) H locs cells slots (mG b0 z0 M) → LH ls 5 [(0, .inr (.inl (some b0))), (1, .inl l1), (2, .inl l2), (3, .inl l3), (4, .inl l4)] → W p l e (rmX (twd D T Z) 2 51 (mG b0 z0 M0)) s m args below meth c H locs cells slots (MQX (twd D T Z) (mG b0 z0 M0) (mq b0 z0 (qI Q)) (fun _ _ => False) below s) (F0 m 46 ls [va_rf (some b0)]) := by
  intro l1 l2 l3 l4 M H locs cells slots ls h I hl
  refine lv_iconst (v := 0) C.1 C.2.1 dX11_word_46 (by decide) ?_
  exact b_X11_word_47 C l1 l2 l3 l4 ((0 : Int32)) M _ _ _ _ _ h I (hl.sub [0, 1, 2, 3, 4] rfl)
def w_X11_word (Q : Int32 → MS → Prop) (p0 : Int32) (p1 : Int32) (p2 : Int32) (p3 : Int32) (M : MS) : Prop := ∀ M1 : MS, M1 = sF M 0 ((0 : Int32)) → ((p0 < 0) → (w_X11_word_46 Q p0 p1 p2 p3 M1)) ∧ ((¬ p0 < 0) → (((mF M1 1 ≤ p0) → (w_X11_word_46 Q p0 p1 p2 p3 M1)) ∧ ((¬ mF M1 1 ≤ p0) → (w_X11_within (fun r3 M2 => ((r3 = 0) → (w_X11_word_46 Q p0 p1 p2 p3 M2)) ∧ ((¬ r3 = 0) → (w_X11_within (fun r5 M4 => ((r5 = 0) → (w_X11_word_46 Q p0 p1 p2 p3 M4)) ∧ ((¬ r5 = 0) → (((p3 < (-1 : Int32)) → (w_X11_word_46 Q p0 p1 p2 p3 M4)) ∧ ((¬ p3 < (-1 : Int32)) → (w_X11_word_47 Q p0 p1 p2 p3 ((1 : Int32)) M4))))) p2 ((0 : Int32)) ((4 : Int32)) M2))) p1 ((0 : Int32)) ((2 : Int32)) M1))))
theorem pd_X11_word : (parseMethodDescriptor yX11_word.desc).map (fun d => d.parameters.length) = some 4 := by decide +kernel
set_option maxHeartbeats 4000000 in
theorem ct_X11_word {l : Launch} {D : va_G} {T : Nat → ClassId} {Z : Heap} {b0 z0 : Nat} {M0 : MS} {Q : Int32 → MS → Prop} {p0 : Int32} {p1 : Int32} {p2 : Int32} {p3 : Int32} (hw : w_X11_word Q p0 p1 p2 p3 M0) : CT (twd D T Z) (Evd D T Z) l yX11_word (Cond.code yX11_word cX11_word 5 (some .int)) 2 51 [va_rf (some b0), .int p0, .int p1, .int p2, .int p3] (mG b0 z0 M0) (mq b0 z0 (qI Q)) (fun _ _ => False) := by
  refine CT.ofW (cc := cX11_word) (nL := 5) (ret := (some .int)) Ext.rf (by decide) (Or.inl rfl) ?_
  intro p e s m below meth c hx hb hml hown hr hlk hnm hcb hm hc hn hE I
  have C : Cx p s m meth c D T Z "EndingTownModel" cX11_word 5 (some .int) := ⟨hx, hb, hml, hown, hE, hr, hlk⟩
  refine w_entry [.inr (.inl (some b0)), .inl p0, .inl p1, .inl p2, .inl p3] (Nat.le_of_ble_eq_true rfl) (fun ls hl => ?_)
  have hl : LH ls 5 [(0, .inr (.inl (some b0))), (1, .inl p0), (2, .inl p1), (3, .inl p2), (4, .inl p3)] := hl
  have h := hw
  refine l_ald_n (x := some b0) C dX11_word_0 hl 0 rfl rfl ?_
  refine lv_iconst (v := 0) C.1 C.2.1 dX11_word_1 (by decide) ?_
  refine f_PI C I (fp_X11_122) (by decide) dX11_word_2 (fit_i _) (fun H locs M1 eM1 I => ?_)
  have h := h M1 eM1
  refine l_ald_n (x := some b0) C dX11_word_5 hl 0 rfl rfl ?_
  refine l_ild_n C dX11_word_6 hl 1 rfl rfl ?_
  refine lv_if_lt (tgt := 46) C.1 C.2.1 dX11_word_7 (by decide) (fun c10 => ?_) (fun c10 => ?_)
  · have h := h.1 c10
    exact b_X11_word_46 C p0 p1 p2 p3 M1 _ _ _ _ _ h I (hl.sub [0, 1, 2, 3, 4] rfl)
  · have h := h.2 c10
    refine l_ild_n C dX11_word_10 hl 1 rfl rfl ?_
    refine l_ald_n (x := some b0) C dX11_word_11 hl 0 rfl rfl ?_
    refine f_I C I (fl_X11_260) (by decide) dX11_word_12 ?_
    refine lv_icmp_ge (tgt := 46) C.1 C.2.1 dX11_word_15 (by decide) (fun c9 => ?_) (fun c9 => ?_)
    · have h := h.1 c9
      exact b_X11_word_46 C p0 p1 p2 p3 M1 _ _ _ _ _ h I (hl.sub [0, 1, 2, 3, 4] rfl)
    · have h := h.2 c9
      refine l_ild_n C dX11_word_18 hl 2 rfl rfl ?_
      refine lv_iconst (v := 0) C.1 C.2.1 dX11_word_19 (by decide) ?_
      refine lv_iconst (v := 2) C.1 C.2.1 dX11_word_20 (by decide) ?_
      refine k_call Ext.tr C I (k_S (As := [.int p1, .int ((0 : Int32)), .int ((2 : Int32))]) (rest := [va_rf (some b0)]) (y := yX11_within) C q1699 q1700 q113 (Or.inl rfl) q1701 (by decide) rfl pd_X11_within rfl dX11_word_21) (ct_X11_within h) hl.1 dX11_word_21 [.inr (.inl (some b0))] rfl (Nat.le_of_ble_eq_true rfl) (Or.inl rfl) q1701 q113 ⟨Nat.le_of_ble_eq_true rfl, Nat.le_of_ble_eq_true rfl⟩ (fun v x1 H locs cells slots ex hq I => ?_) (fun a x1 H locs cells slots ex hq I => hq.elim)
      obtain ⟨M2, rfl, r3, rfl, h⟩ := hq
      refine lv_if_eq (tgt := 46) C.1 C.2.1 dX11_word_24 (by decide) (fun c8 => ?_) (fun c8 => ?_)
      · have h := h.1 c8
        exact b_X11_word_46 C p0 p1 p2 p3 M2 _ _ _ _ _ h I (hl.sub [0, 1, 2, 3, 4] rfl)
      · have h := h.2 c8
        refine l_ild_n C dX11_word_27 hl 3 rfl rfl ?_
        refine lv_iconst (v := 0) C.1 C.2.1 dX11_word_28 (by decide) ?_
        refine lv_iconst (v := 4) C.1 C.2.1 dX11_word_29 (by decide) ?_
        refine k_call Ext.tr C I (k_S (As := [.int p2, .int ((0 : Int32)), .int ((4 : Int32))]) (rest := [va_rf (some b0)]) (y := yX11_within) C q1699 q1700 q113 (Or.inl rfl) q1701 (by decide) rfl pd_X11_within rfl dX11_word_30) (ct_X11_within h) hl.1 dX11_word_30 [.inr (.inl (some b0))] rfl (Nat.le_of_ble_eq_true rfl) (Or.inl rfl) q1701 q113 ⟨Nat.le_of_ble_eq_true rfl, Nat.le_of_ble_eq_true rfl⟩ (fun v x1 H locs cells slots ex hq I => ?_) (fun a x1 H locs cells slots ex hq I => hq.elim)
        obtain ⟨M4, rfl, r5, rfl, h⟩ := hq
        refine lv_if_eq (tgt := 46) C.1 C.2.1 dX11_word_33 (by decide) (fun c7 => ?_) (fun c7 => ?_)
        · have h := h.1 c7
          exact b_X11_word_46 C p0 p1 p2 p3 M4 _ _ _ _ _ h I (hl.sub [0, 1, 2, 3, 4] rfl)
        · have h := h.2 c7
          refine l_ild C dX11_word_36 hl 4 rfl ?_
          refine lv_iconst (v := (-1)) C.1 C.2.1 dX11_word_38 (by decide) ?_
          refine lv_icmp_lt (tgt := 46) C.1 C.2.1 dX11_word_39 (by decide) (fun c6 => ?_) (fun c6 => ?_)
          · have h := h.1 c6
            exact b_X11_word_46 C p0 p1 p2 p3 M4 _ _ _ _ _ h I (hl.sub [0, 1, 2, 3, 4] rfl)
          · have h := h.2 c6
            refine lv_iconst (v := 1) C.1 C.2.1 dX11_word_42 (by decide) ?_
            refine lv_goto (tgt := 47) C.1 C.2.1 dX11_word_43 (by decide) ?_
            exact b_X11_word_47 C p0 p1 p2 p3 ((1 : Int32)) M4 _ _ _ _ _ h I (hl.sub [0, 1, 2, 3, 4] rfl)
def w_X11_finds_95 (Q : MS → Prop) (k7 : Int32 → Int32 → Int32 → MS → Prop) (k57 : Int32 → Int32 → Int32 → Int32 → Int32 → MS → Prop) (l1 : Int32) (l2 : Int32) (l3 : Int32) (l5 : Int32) (t0 : Int32) (M : MS) : Prop := k57 l1 l2 l3 t0 ((l5 + 1)) M
set_option maxHeartbeats 4000000 in
theorem b_X11_finds_95 {b0 z0 : Nat} {M0 : MS} {Q : MS → Prop} {k7 : Int32 → Int32 → Int32 → MS → Prop} {k57 : Int32 → Int32 → Int32 → Int32 → Int32 → MS → Prop} (C : Cx p s m meth c D T Z "EndingTownModel" cX11_finds 6 none) (hk7 : ∀ (l1 : Int32) (l2 : Int32) (l3 : Int32) (M : MS) (H : Heap) (locs : List Loc) (cells slots : Nat) (ls : Array Slot), k7 l1 l2 l3 M → HI (twd D T Z) (mG b0 z0 M0) s (rmX (twd D T Z) 2 51 (mG b0 z0 M0)) H locs cells slots (mG b0 z0 M) → LH ls 6 [(0, .inr (.inl (some b0))), (1, .inl l1), (2, .inl l2), (3, .inl l3)] → W p l e (rmX (twd D T Z) 2 51 (mG b0 z0 M0)) s m args below meth c H locs cells slots (MQX (twd D T Z) (mG b0 z0 M0) (mq b0 z0 (qV Q)) (fun _ _ => False) below s) (F0 m 7 ls [])) (hk57 : ∀ (l1 : Int32) (l2 : Int32) (l3 : Int32) (l4 : Int32) (l5 : Int32) (M : MS) (H : Heap) (locs : List Loc) (cells slots : Nat) (ls : Array Slot), k57 l1 l2 l3 l4 l5 M → HI (twd D T Z) (mG b0 z0 M0) s (rmX (twd D T Z) 2 51 (mG b0 z0 M0)) H locs cells slots (mG b0 z0 M) → LH ls 6 [(0, .inr (.inl (some b0))), (1, .inl l1), (2, .inl l2), (3, .inl l3), (4, .inl l4), (5, .inl l5)] → W p l e (rmX (twd D T Z) 2 51 (mG b0 z0 M0)) s m args below meth c H locs cells slots (MQX (twd D T Z) (mG b0 z0 M0) (mq b0 z0 (qV Q)) (fun _ _ => False) below s) (F0 m 57 ls [])) : ∀ (l1 : Int32) (l2 : Int32) (l3 : Int32) (l5 : Int32) (t0 : Int32) (M : MS) (H : Heap) (locs : List Loc) (cells slots : Nat) (ls : Array Slot), w_X11_finds_95 Q k7 k57 l1 l2 l3 l5 t0 M → HI (twd D T Z) (mG b0 z0 M0) s (rmX (twd D T Z) 2 51 (mG b0 z0 M0)) H locs cells slots (mG b0 z0 M) → LH ls 6 [(0, .inr (.inl (some b0))), (1, .inl l1), (2, .inl l2), (3, .inl l3), (5, .inl l5)] → W p l e (rmX (twd D T Z) 2 51 (mG b0 z0 M0)) s m args below meth c H locs cells slots (MQX (twd D T Z) (mG b0 z0 M0) (mq b0 z0 (qV Q)) (fun _ _ => False) below s) (F0 m 95 ls [.int t0]) := by
  intro l1 l2 l3 l5 t0 M H locs cells slots ls h I hl
  refine l_ist C dX11_finds_95 hl (by decide) rfl (fun ls hl => ?_)
  have hl : LH ls 6 [(4, .inl t0), (0, .inr (.inl (some b0))), (1, .inl l1), (2, .inl l2), (3, .inl l3), (5, .inl l5)] := hl
  refine l_inc (q := 5) (v := 1) C dX11_finds_97 hl rfl (by decide) (by decide) rfl (fun ls hl => ?_)
  have hl : LH ls 6 [(5, .inl ((l5 + 1))), (4, .inl t0), (0, .inr (.inl (some b0))), (1, .inl l1), (2, .inl l2), (3, .inl l3)] := hl
  refine lv_goto (tgt := 57) C.1 C.2.1 dX11_finds_100 (by decide) ?_
  exact hk57 l1 l2 l3 t0 ((l5 + 1)) M _ _ _ _ _ h I (hl.sub [2, 3, 4, 5, 1, 0] rfl)
def w_X11_finds_131 (Q : MS → Prop) (k7 : Int32 → Int32 → Int32 → MS → Prop) (l1 : Int32) (l2 : Int32) (l3 : Int32) (M : MS) : Prop := k7 l1 l2 ((l3 + 1)) M
set_option maxHeartbeats 4000000 in
theorem b_X11_finds_131 {b0 z0 : Nat} {M0 : MS} {Q : MS → Prop} {k7 : Int32 → Int32 → Int32 → MS → Prop} (C : Cx p s m meth c D T Z "EndingTownModel" cX11_finds 6 none) (hk7 : ∀ (l1 : Int32) (l2 : Int32) (l3 : Int32) (M : MS) (H : Heap) (locs : List Loc) (cells slots : Nat) (ls : Array Slot), k7 l1 l2 l3 M → HI (twd D T Z) (mG b0 z0 M0) s (rmX (twd D T Z) 2 51 (mG b0 z0 M0)) H locs cells slots (mG b0 z0 M) → LH ls 6 [(0, .inr (.inl (some b0))), (1, .inl l1), (2, .inl l2), (3, .inl l3)] → W p l e (rmX (twd D T Z) 2 51 (mG b0 z0 M0)) s m args below meth c H locs cells slots (MQX (twd D T Z) (mG b0 z0 M0) (mq b0 z0 (qV Q)) (fun _ _ => False) below s) (F0 m 7 ls [])) : ∀ (l1 : Int32) (l2 : Int32) (l3 : Int32) (M : MS) (H : Heap) (locs : List Loc) (cells slots : Nat) (ls : Array Slot), w_X11_finds_131 Q k7 l1 l2 l3 M → HI (twd D T Z) (mG b0 z0 M0) s (rmX (twd D T Z) 2 51 (mG b0 z0 M0)) H locs cells slots (mG b0 z0 M) → LH ls 6 [(0, .inr (.inl (some b0))), (1, .inl l1), (2, .inl l2), (3, .inl l3)] → W p l e (rmX (twd D T Z) 2 51 (mG b0 z0 M0)) s m args below meth c H locs cells slots (MQX (twd D T Z) (mG b0 z0 M0) (mq b0 z0 (qV Q)) (fun _ _ => False) below s) (F0 m 131 ls []) := by
  intro l1 l2 l3 M H locs cells slots ls h I hl
  refine l_inc (q := 3) (v := 1) C dX11_finds_131 hl rfl (by decide) (by decide) rfl (fun ls hl => ?_)
  have hl : LH ls 6 [(3, .inl ((l3 + 1))), (0, .inr (.inl (some b0))), (1, .inl l1), (2, .inl l2)] := hl
  refine lv_goto (tgt := 7) C.1 C.2.1 dX11_finds_134 (by decide) ?_
  exact hk7 l1 l2 ((l3 + 1)) M _ _ _ _ _ h I (hl.sub [1, 2, 3, 0] rfl)
def w_X11_finds_103 (Q : MS → Prop) (k7 : Int32 → Int32 → Int32 → MS → Prop) (l1 : Int32) (l2 : Int32) (l3 : Int32) (l4 : Int32) (M : MS) : Prop := ((¬ l4 = 0) → (vp_in (mF M 49) (mlen 47) ∧ ∀ M1 : MS, M1 = sA M 47 (mF M 49).toNatClampNeg l3 → ∀ M2 : MS, M2 = sF M1 49 ((mF M1 49 + (1 : Int32))) → w_X11_finds_131 Q k7 l1 l2 l3 M2)) ∧ ((l4 = 0) → (w_X11_finds_131 Q k7 l1 l2 l3 M))
set_option maxHeartbeats 4000000 in
theorem b_X11_finds_103 {b0 z0 : Nat} {M0 : MS} {Q : MS → Prop} {k7 : Int32 → Int32 → Int32 → MS → Prop} (C : Cx p s m meth c D T Z "EndingTownModel" cX11_finds 6 none) (hk7 : ∀ (l1 : Int32) (l2 : Int32) (l3 : Int32) (M : MS) (H : Heap) (locs : List Loc) (cells slots : Nat) (ls : Array Slot), k7 l1 l2 l3 M → HI (twd D T Z) (mG b0 z0 M0) s (rmX (twd D T Z) 2 51 (mG b0 z0 M0)) H locs cells slots (mG b0 z0 M) → LH ls 6 [(0, .inr (.inl (some b0))), (1, .inl l1), (2, .inl l2), (3, .inl l3)] → W p l e (rmX (twd D T Z) 2 51 (mG b0 z0 M0)) s m args below meth c H locs cells slots (MQX (twd D T Z) (mG b0 z0 M0) (mq b0 z0 (qV Q)) (fun _ _ => False) below s) (F0 m 7 ls [])) : ∀ (l1 : Int32) (l2 : Int32) (l3 : Int32) (l4 : Int32) (M : MS) (H : Heap) (locs : List Loc) (cells slots : Nat) (ls : Array Slot), w_X11_finds_103 Q k7 l1 l2 l3 l4 M → HI (twd D T Z) (mG b0 z0 M0) s (rmX (twd D T Z) 2 51 (mG b0 z0 M0)) H locs cells slots (mG b0 z0 M) → LH ls 6 [(0, .inr (.inl (some b0))), (1, .inl l1), (2, .inl l2), (3, .inl l3), (4, .inl l4)] → W p l e (rmX (twd D T Z) 2 51 (mG b0 z0 M0)) s m args below meth c H locs cells slots (MQX (twd D T Z) (mG b0 z0 M0) (mq b0 z0 (qV Q)) (fun _ _ => False) below s) (F0 m 103 ls []) := by
  intro l1 l2 l3 l4 M H locs cells slots ls h I hl
  refine l_ild C dX11_finds_103 hl 4 rfl ?_
  refine lv_if_ne (tgt := 111) C.1 C.2.1 dX11_finds_105 (by decide) (fun c3 => ?_) (fun c3 => ?_)
  · have h := h.1 c3
    refine l_ald_n (x := some b0) C dX11_finds_111 hl 0 rfl rfl ?_
    refine f_A C I (fl_X11_80) (by decide) (by decide) dX11_finds_112 ?_
    refine l_ald_n (x := some b0) C dX11_finds_115 hl 0 rfl rfl ?_
    refine f_I C I (fl_X11_321) (by decide) dX11_finds_116 ?_
    refine l_ild_n C dX11_finds_119 hl 3 rfl rfl ?_
    obtain ⟨hi, h⟩ := h
    refine f_st (k := 47) C I (by decide) hi dX11_finds_120 (fun H locs M1 eM1 I => ?_)
    have h := h M1 eM1
    refine l_ald_n (x := some b0) C dX11_finds_121 hl 0 rfl rfl ?_
    refine lv_dup C.1 C.2.1 dX11_finds_122 (cat_rf _) ?_
    refine f_I C I (fl_X11_321) (by decide) dX11_finds_123 ?_
    refine lv_iconst (v := 1) C.1 C.2.1 dX11_finds_126 (by decide) ?_
    refine lv_iadd C.1 C.2.1 dX11_finds_127 ?_
    refine f_PI C I (fp_X11_321) (by decide) dX11_finds_128 (fit_i _) (fun H locs M2 eM2 I => ?_)
    have h := h M2 eM2
    exact b_X11_finds_131 C hk7 l1 l2 l3 M2 _ _ _ _ _ h I (hl.sub [0, 1, 2, 3] rfl)
  · have h := h.2 c3
    refine lv_goto (tgt := 131) C.1 C.2.1 dX11_finds_108 (by decide) ?_
    exact b_X11_finds_131 C hk7 l1 l2 l3 M _ _ _ _ _ h I (hl.sub [0, 1, 2, 3] rfl)
def w_X11_finds_57 (Q : MS → Prop) (k7 : Int32 → Int32 → Int32 → MS → Prop) : Nat → Int32 → Int32 → Int32 → Int32 → Int32 → MS → Prop
  | 0 => fun _ _ _ _ _ _ => False
  | f57 + 1 => fun l1 l2 l3 l4 l5 M => ((l4 = 0) → (w_X11_finds_103 Q k7 l1 l2 l3 l4 M)) ∧ ((¬ l4 = 0) → (((mF M 48 ≤ l5) → (w_X11_finds_103 Q k7 l1 l2 l3 l4 M)) ∧ ((¬ mF M 48 ≤ l5) → (vp_in l5 (mlen 46) ∧ vp_in ((l1 + l5)) (mlen 16) ∧ ((¬ mA M 46 l5.toNatClampNeg = mA M 16 ((l1 + l5)).toNatClampNeg) → (w_X11_finds_95 Q k7 (w_X11_finds_57 Q k7 f57) l1 l2 l3 l5 ((0 : Int32)) M)) ∧ ((mA M 46 l5.toNatClampNeg = mA M 16 ((l1 + l5)).toNatClampNeg) → (w_X11_finds_95 Q k7 (w_X11_finds_57 Q k7 f57) l1 l2 l3 l5 ((1 : Int32)) M))))))
set_option maxHeartbeats 4000000 in
theorem b_X11_finds_57 {b0 z0 : Nat} {M0 : MS} {Q : MS → Prop} {k7 : Int32 → Int32 → Int32 → MS → Prop} (C : Cx p s m meth c D T Z "EndingTownModel" cX11_finds 6 none) (hk7 : ∀ (l1 : Int32) (l2 : Int32) (l3 : Int32) (M : MS) (H : Heap) (locs : List Loc) (cells slots : Nat) (ls : Array Slot), k7 l1 l2 l3 M → HI (twd D T Z) (mG b0 z0 M0) s (rmX (twd D T Z) 2 51 (mG b0 z0 M0)) H locs cells slots (mG b0 z0 M) → LH ls 6 [(0, .inr (.inl (some b0))), (1, .inl l1), (2, .inl l2), (3, .inl l3)] → W p l e (rmX (twd D T Z) 2 51 (mG b0 z0 M0)) s m args below meth c H locs cells slots (MQX (twd D T Z) (mG b0 z0 M0) (mq b0 z0 (qV Q)) (fun _ _ => False) below s) (F0 m 7 ls [])) : ∀ (n : Nat) (l1 : Int32) (l2 : Int32) (l3 : Int32) (l4 : Int32) (l5 : Int32) (M : MS) (H : Heap) (locs : List Loc) (cells slots : Nat) (ls : Array Slot), w_X11_finds_57 Q k7 n l1 l2 l3 l4 l5 M → HI (twd D T Z) (mG b0 z0 M0) s (rmX (twd D T Z) 2 51 (mG b0 z0 M0)) H locs cells slots (mG b0 z0 M) → LH ls 6 [(0, .inr (.inl (some b0))), (1, .inl l1), (2, .inl l2), (3, .inl l3), (4, .inl l4), (5, .inl l5)] → W p l e (rmX (twd D T Z) 2 51 (mG b0 z0 M0)) s m args below meth c H locs cells slots (MQX (twd D T Z) (mG b0 z0 M0) (mq b0 z0 (qV Q)) (fun _ _ => False) below s) (F0 m 57 ls []) := by
  intro n
  induction n with
  | zero => intro l1 l2 l3 l4 l5 M H locs cells slots ls h; exact (show False from h).elim
  | succ n ih =>
    intro l1 l2 l3 l4 l5 M H locs cells slots ls h I hl
    have hk57 := ih
    refine l_ild C dX11_finds_57 hl 4 rfl ?_
    refine lv_if_eq (tgt := 103) C.1 C.2.1 dX11_finds_59 (by decide) (fun c3 => ?_) (fun c3 => ?_)
    · have h := h.1 c3
      exact b_X11_finds_103 C hk7 l1 l2 l3 l4 M _ _ _ _ _ h I (hl.sub [0, 1, 2, 3, 4] rfl)
    · have h := h.2 c3
      refine l_ild C dX11_finds_62 hl 5 rfl ?_
      refine l_ald_n (x := some b0) C dX11_finds_64 hl 0 rfl rfl ?_
      refine f_I C I (fl_X11_305) (by decide) dX11_finds_65 ?_
      refine lv_icmp_ge (tgt := 103) C.1 C.2.1 dX11_finds_68 (by decide) (fun c2 => ?_) (fun c2 => ?_)
      · have h := h.1 c2
        exact b_X11_finds_103 C hk7 l1 l2 l3 l4 M _ _ _ _ _ h I (hl.sub [0, 1, 2, 3, 4] rfl)
      · have h := h.2 c2
        refine l_ald_n (x := some b0) C dX11_finds_71 hl 0 rfl rfl ?_
        refine f_A C I (fl_X11_77) (by decide) (by decide) dX11_finds_72 ?_
        refine l_ild C dX11_finds_75 hl 5 rfl ?_
        obtain ⟨hi, h⟩ := h
        refine f_ld (k := 46) C I (by decide) hi dX11_finds_77 ?_
        refine l_ald_n (x := some b0) C dX11_finds_78 hl 0 rfl rfl ?_
        refine f_A C I (fl_X11_41) (by decide) (by decide) dX11_finds_79 ?_
        refine l_ild_n C dX11_finds_82 hl 1 rfl rfl ?_
        refine l_ild C dX11_finds_83 hl 5 rfl ?_
        refine lv_iadd C.1 C.2.1 dX11_finds_85 ?_
        obtain ⟨hi, h⟩ := h
        refine f_ld (k := 16) C I (by decide) hi dX11_finds_86 ?_
        refine lv_icmp_ne (tgt := 94) C.1 C.2.1 dX11_finds_87 (by decide) (fun c1 => ?_) (fun c1 => ?_)
        · have h := h.1 c1
          refine lv_iconst (v := 0) C.1 C.2.1 dX11_finds_94 (by decide) ?_
          exact b_X11_finds_95 C hk7 hk57 l1 l2 l3 l5 ((0 : Int32)) M _ _ _ _ _ h I (hl.sub [0, 1, 2, 3, 5] rfl)
        · have h := h.2 c1
          refine lv_iconst (v := 1) C.1 C.2.1 dX11_finds_90 (by decide) ?_
          refine lv_goto (tgt := 95) C.1 C.2.1 dX11_finds_91 (by decide) ?_
          exact b_X11_finds_95 C hk7 hk57 l1 l2 l3 l5 ((1 : Int32)) M _ _ _ _ _ h I (hl.sub [0, 1, 2, 3, 5] rfl)
def w_X11_finds_52 (Q : MS → Prop) (k7 : Int32 → Int32 → Int32 → MS → Prop) (l1 : Int32) (l2 : Int32) (l3 : Int32) (t0 : Int32) (M : MS) : Prop := ∃ n, w_X11_finds_57 Q k7 n l1 l2 l3 t0 ((0 : Int32)) M
set_option maxHeartbeats 4000000 in
theorem b_X11_finds_52 {b0 z0 : Nat} {M0 : MS} {Q : MS → Prop} {k7 : Int32 → Int32 → Int32 → MS → Prop} (C : Cx p s m meth c D T Z "EndingTownModel" cX11_finds 6 none) (hk7 : ∀ (l1 : Int32) (l2 : Int32) (l3 : Int32) (M : MS) (H : Heap) (locs : List Loc) (cells slots : Nat) (ls : Array Slot), k7 l1 l2 l3 M → HI (twd D T Z) (mG b0 z0 M0) s (rmX (twd D T Z) 2 51 (mG b0 z0 M0)) H locs cells slots (mG b0 z0 M) → LH ls 6 [(0, .inr (.inl (some b0))), (1, .inl l1), (2, .inl l2), (3, .inl l3)] → W p l e (rmX (twd D T Z) 2 51 (mG b0 z0 M0)) s m args below meth c H locs cells slots (MQX (twd D T Z) (mG b0 z0 M0) (mq b0 z0 (qV Q)) (fun _ _ => False) below s) (F0 m 7 ls [])) : ∀ (l1 : Int32) (l2 : Int32) (l3 : Int32) (t0 : Int32) (M : MS) (H : Heap) (locs : List Loc) (cells slots : Nat) (ls : Array Slot), w_X11_finds_52 Q k7 l1 l2 l3 t0 M → HI (twd D T Z) (mG b0 z0 M0) s (rmX (twd D T Z) 2 51 (mG b0 z0 M0)) H locs cells slots (mG b0 z0 M) → LH ls 6 [(0, .inr (.inl (some b0))), (1, .inl l1), (2, .inl l2), (3, .inl l3)] → W p l e (rmX (twd D T Z) 2 51 (mG b0 z0 M0)) s m args below meth c H locs cells slots (MQX (twd D T Z) (mG b0 z0 M0) (mq b0 z0 (qV Q)) (fun _ _ => False) below s) (F0 m 52 ls [.int t0]) := by
  intro l1 l2 l3 t0 M H locs cells slots ls h I hl
  refine l_ist C dX11_finds_52 hl (by decide) rfl (fun ls hl => ?_)
  have hl : LH ls 6 [(4, .inl t0), (0, .inr (.inl (some b0))), (1, .inl l1), (2, .inl l2), (3, .inl l3)] := hl
  refine lv_iconst (v := 0) C.1 C.2.1 dX11_finds_54 (by decide) ?_
  refine l_ist C dX11_finds_55 hl (by decide) rfl (fun ls hl => ?_)
  have hl : LH ls 6 [(5, .inl ((0 : Int32))), (4, .inl t0), (0, .inr (.inl (some b0))), (1, .inl l1), (2, .inl l2), (3, .inl l3)] := hl
  obtain ⟨n, h⟩ := h
  exact b_X11_finds_57 C hk7 n l1 l2 l3 t0 ((0 : Int32)) M _ _ _ _ _ h I (hl.sub [2, 3, 4, 5, 1, 0] rfl)
def w_X11_finds_51 (Q : MS → Prop) (k7 : Int32 → Int32 → Int32 → MS → Prop) (l1 : Int32) (l2 : Int32) (l3 : Int32) (M : MS) : Prop := w_X11_finds_52 Q k7 l1 l2 l3 ((0 : Int32)) M
set_option maxHeartbeats 4000000 in
theorem b_X11_finds_51 {b0 z0 : Nat} {M0 : MS} {Q : MS → Prop} {k7 : Int32 → Int32 → Int32 → MS → Prop} (C : Cx p s m meth c D T Z "EndingTownModel" cX11_finds 6 none) (hk7 : ∀ (l1 : Int32) (l2 : Int32) (l3 : Int32) (M : MS) (H : Heap) (locs : List Loc) (cells slots : Nat) (ls : Array Slot), k7 l1 l2 l3 M → HI (twd D T Z) (mG b0 z0 M0) s (rmX (twd D T Z) 2 51 (mG b0 z0 M0)) H locs cells slots (mG b0 z0 M) → LH ls 6 [(0, .inr (.inl (some b0))), (1, .inl l1), (2, .inl l2), (3, .inl l3)] → W p l e (rmX (twd D T Z) 2 51 (mG b0 z0 M0)) s m args below meth c H locs cells slots (MQX (twd D T Z) (mG b0 z0 M0) (mq b0 z0 (qV Q)) (fun _ _ => False) below s) (F0 m 7 ls [])) : ∀ (l1 : Int32) (l2 : Int32) (l3 : Int32) (M : MS) (H : Heap) (locs : List Loc) (cells slots : Nat) (ls : Array Slot), w_X11_finds_51 Q k7 l1 l2 l3 M → HI (twd D T Z) (mG b0 z0 M0) s (rmX (twd D T Z) 2 51 (mG b0 z0 M0)) H locs cells slots (mG b0 z0 M) → LH ls 6 [(0, .inr (.inl (some b0))), (1, .inl l1), (2, .inl l2), (3, .inl l3)] → W p l e (rmX (twd D T Z) 2 51 (mG b0 z0 M0)) s m args below meth c H locs cells slots (MQX (twd D T Z) (mG b0 z0 M0) (mq b0 z0 (qV Q)) (fun _ _ => False) below s) (F0 m 51 ls []) := by
  intro l1 l2 l3 M H locs cells slots ls h I hl
  refine lv_iconst (v := 0) C.1 C.2.1 dX11_finds_51 (by decide) ?_
  exact b_X11_finds_52 C hk7 l1 l2 l3 ((0 : Int32)) M _ _ _ _ _ h I (hl.sub [0, 1, 2, 3] rfl)
def w_X11_finds_7 (Q : MS → Prop) : Nat → Int32 → Int32 → Int32 → MS → Prop
  | 0 => fun _ _ _ _ => False
  | f7 + 1 => fun l1 l2 l3 M => ((((15 : Int32) * mF M 1) ≤ l3) → (Q M)) ∧ ((¬ ((15 : Int32) * mF M 1) ≤ l3) → (w_X11_speaks (fun M1 => ((mF M1 48 ≤ 0) → (w_X11_finds_51 Q (w_X11_finds_7 Q f7) l1 l2 l3 M1)) ∧ ((¬ mF M1 48 ≤ 0) → (((¬ mF M1 48 = (l2 - l1)) → (w_X11_finds_51 Q (w_X11_finds_7 Q f7) l1 l2 l3 M1)) ∧ ((mF M1 48 = (l2 - l1)) → (w_X11_finds_52 Q (w_X11_finds_7 Q f7) l1 l2 l3 ((1 : Int32)) M1))))) ((l3 / (15 : Int32))) ((l3 - l3 / (15 : Int32) * (15 : Int32))) M))
set_option maxHeartbeats 4000000 in
theorem b_X11_finds_7 {b0 z0 : Nat} {M0 : MS} {Q : MS → Prop} (C : Cx p s m meth c D T Z "EndingTownModel" cX11_finds 6 none) : ∀ (n : Nat) (l1 : Int32) (l2 : Int32) (l3 : Int32) (M : MS) (H : Heap) (locs : List Loc) (cells slots : Nat) (ls : Array Slot), w_X11_finds_7 Q n l1 l2 l3 M → HI (twd D T Z) (mG b0 z0 M0) s (rmX (twd D T Z) 2 51 (mG b0 z0 M0)) H locs cells slots (mG b0 z0 M) → LH ls 6 [(0, .inr (.inl (some b0))), (1, .inl l1), (2, .inl l2), (3, .inl l3)] → W p l e (rmX (twd D T Z) 2 51 (mG b0 z0 M0)) s m args below meth c H locs cells slots (MQX (twd D T Z) (mG b0 z0 M0) (mq b0 z0 (qV Q)) (fun _ _ => False) below s) (F0 m 7 ls []) := by
  intro n
  induction n with
  | zero => intro l1 l2 l3 M H locs cells slots ls h; exact (show False from h).elim
  | succ n ih =>
    intro l1 l2 l3 M H locs cells slots ls h I hl
    have hk7 := ih
    refine l_ild_n C dX11_finds_7 hl 3 rfl rfl ?_
    refine lv_bipush (v := 15) C.1 C.2.1 dX11_finds_8 (by decide) ?_
    refine l_ald_n (x := some b0) C dX11_finds_10 hl 0 rfl rfl ?_
    refine f_I C I (fl_X11_260) (by decide) dX11_finds_11 ?_
    refine lv_imul C.1 C.2.1 dX11_finds_14 ?_
    refine lv_icmp_ge (tgt := 137) C.1 C.2.1 dX11_finds_15 (by decide) (fun c5 => ?_) (fun c5 => ?_)
    · have h := h.1 c5
      exact r_void C.1 C.2.1 C.2.2.2.2.2.1 C.2.2.2.2.2.2 ⟨rfl, rfl⟩ I dX11_finds_137 ⟨_, rfl, rfl, h⟩
    · have h := h.2 c5
      refine l_ald_n (x := some b0) C dX11_finds_18 hl 0 rfl rfl ?_
      refine l_ild_n C dX11_finds_19 hl 3 rfl rfl ?_
      refine lv_bipush (v := 15) C.1 C.2.1 dX11_finds_20 (by decide) ?_
      refine lv_idiv C.1 C.2.1 dX11_finds_22 (by decide) ?_
      refine l_ild_n C dX11_finds_23 hl 3 rfl rfl ?_
      refine lv_bipush (v := 15) C.1 C.2.1 dX11_finds_24 (by decide) ?_
      refine lv_irem C.1 C.2.1 dX11_finds_26 (by decide) ?_
      refine k_call Ext.tr C I (k_V (r := some b0) (As := [.int ((l3 / (15 : Int32))), .int ((l3 - l3 / (15 : Int32) * (15 : Int32)))]) (rest := []) (y := yX11_speaks) C (f_recv C I) q1725 q1727 qs68 (Or.inl rfl) q1728 (by decide) rfl pd_X11_speaks rfl dX11_finds_27) (ct_X11_speaks h) hl.1 dX11_finds_27 [] rfl (Nat.le_of_ble_eq_true rfl) (Or.inl rfl) q1728 q113 ⟨Nat.le_of_ble_eq_true rfl, Nat.le_of_ble_eq_true rfl⟩ (fun v x1 H locs cells slots ex hq I => ?_) (fun a x1 H locs cells slots ex hq I => hq.elim)
      obtain ⟨M1, rfl, rfl, h⟩ := hq
      refine l_ald_n (x := some b0) C dX11_finds_30 hl 0 rfl rfl ?_
      refine f_I C I (fl_X11_305) (by decide) dX11_finds_31 ?_
      refine lv_if_le (tgt := 51) C.1 C.2.1 dX11_finds_34 (by decide) (fun c4 => ?_) (fun c4 => ?_)
      · have h := h.1 c4
        exact b_X11_finds_51 C hk7 l1 l2 l3 M1 _ _ _ _ _ h I (hl.sub [0, 1, 2, 3] rfl)
      · have h := h.2 c4
        refine l_ald_n (x := some b0) C dX11_finds_37 hl 0 rfl rfl ?_
        refine f_I C I (fl_X11_305) (by decide) dX11_finds_38 ?_
        refine l_ild_n C dX11_finds_41 hl 2 rfl rfl ?_
        refine l_ild_n C dX11_finds_42 hl 1 rfl rfl ?_
        refine lv_isub C.1 C.2.1 dX11_finds_43 ?_
        refine lv_icmp_ne (tgt := 51) C.1 C.2.1 dX11_finds_44 (by decide) (fun c3 => ?_) (fun c3 => ?_)
        · have h := h.1 c3
          exact b_X11_finds_51 C hk7 l1 l2 l3 M1 _ _ _ _ _ h I (hl.sub [0, 1, 2, 3] rfl)
        · have h := h.2 c3
          refine lv_iconst (v := 1) C.1 C.2.1 dX11_finds_47 (by decide) ?_
          refine lv_goto (tgt := 52) C.1 C.2.1 dX11_finds_48 (by decide) ?_
          exact b_X11_finds_52 C hk7 l1 l2 l3 ((1 : Int32)) M1 _ _ _ _ _ h I (hl.sub [0, 1, 2, 3] rfl)
def w_X11_finds (Q : MS → Prop) (p0 : Int32) (p1 : Int32) (M : MS) : Prop := ∀ M1 : MS, M1 = sF M 49 ((0 : Int32)) → ∃ n, w_X11_finds_7 Q n p0 p1 ((0 : Int32)) M1
theorem pd_X11_finds : (parseMethodDescriptor yX11_finds.desc).map (fun d => d.parameters.length) = some 2 := by decide +kernel
set_option maxHeartbeats 4000000 in
theorem ct_X11_finds {l : Launch} {D : va_G} {T : Nat → ClassId} {Z : Heap} {b0 z0 : Nat} {M0 : MS} {Q : MS → Prop} {p0 : Int32} {p1 : Int32} (hw : w_X11_finds Q p0 p1 M0) : CT (twd D T Z) (Evd D T Z) l yX11_finds (Cond.code yX11_finds cX11_finds 6 none) 2 51 [va_rf (some b0), .int p0, .int p1] (mG b0 z0 M0) (mq b0 z0 (qV Q)) (fun _ _ => False) := by
  refine CT.ofW (cc := cX11_finds) (nL := 6) (ret := none) Ext.rf (by decide) (Or.inl rfl) ?_
  intro p e s m below meth c hx hb hml hown hr hlk hnm hcb hm hc hn hE I
  have C : Cx p s m meth c D T Z "EndingTownModel" cX11_finds 6 none := ⟨hx, hb, hml, hown, hE, hr, hlk⟩
  refine w_entry [.inr (.inl (some b0)), .inl p0, .inl p1] (Nat.le_of_ble_eq_true rfl) (fun ls hl => ?_)
  have hl : LH ls 6 [(0, .inr (.inl (some b0))), (1, .inl p0), (2, .inl p1)] := hl
  have h := hw
  refine l_ald_n (x := some b0) C dX11_finds_0 hl 0 rfl rfl ?_
  refine lv_iconst (v := 0) C.1 C.2.1 dX11_finds_1 (by decide) ?_
  refine f_PI C I (fp_X11_321) (by decide) dX11_finds_2 (fit_i _) (fun H locs M1 eM1 I => ?_)
  have h := h M1 eM1
  refine lv_iconst (v := 0) C.1 C.2.1 dX11_finds_5 (by decide) ?_
  refine l_ist_n C dX11_finds_6 rfl hl (by decide) rfl (fun ls hl => ?_)
  have hl : LH ls 6 [(3, .inl ((0 : Int32))), (0, .inr (.inl (some b0))), (1, .inl p0), (2, .inl p1)] := hl
  obtain ⟨n, h⟩ := h
  exact b_X11_finds_7 C n p0 p1 ((0 : Int32)) M1 _ _ _ _ _ h I (hl.sub [1, 2, 3, 0] rfl)
def w_X11_apart_23 (Q : Int32 → MS → Prop) (l1 : Int32) (t0 : Int32) (M : MS) : Prop := w_X11_right (fun r2 M1 => ((¬ r2 = 0) → (∀ M3 : MS, M3 = sF M1 17 ((0 : Int32)) → w_X11_finds (fun M4 => Q (mF M4 49) M4) ((0 : Int32)) l1 M3)) ∧ ((r2 = 0) → (Q ((0 : Int32)) M1))) t0 ((1 : Int32)) M
set_option maxHeartbeats 4000000 in
theorem b_X11_apart_23 {b0 z0 : Nat} {M0 : MS} {Q : Int32 → MS → Prop} (C : Cx p s m meth c D T Z "EndingTownModel" cX11_apart 2 (some .int)) : ∀ (l1 : Int32) (t0 : Int32) (M : MS) (H : Heap) (locs : List Loc) (cells slots : Nat) (ls : Array Slot), w_X11_apart_23 Q l1 t0 M → HI (twd D T Z) (mG b0 z0 M0) s (rmX (twd D T Z) 3 76 (mG b0 z0 M0)) H locs cells slots (mG b0 z0 M) → LH ls 2 [(0, .inr (.inl (some b0))), (1, .inl l1)] → W p l e (rmX (twd D T Z) 3 76 (mG b0 z0 M0)) s m args below meth c H locs cells slots (MQX (twd D T Z) (mG b0 z0 M0) (mq b0 z0 (qI Q)) (fun _ _ => False) below s) (F0 m 23 ls [.int t0, va_rf (some b0)]) := by
  intro l1 t0 M H locs cells slots ls h I hl
  refine lv_iconst (v := 1) C.1 C.2.1 dX11_apart_23 (by decide) ?_
  refine k_call Ext.tr C I (k_V (r := some b0) (As := [.int t0, .int ((1 : Int32))]) (rest := []) (y := yX11_right) C (f_recv C I) q1603 q1605 qs47 (Or.inl rfl) q1606 (by decide) rfl pd_X11_right rfl dX11_apart_24) (ct_X11_right h) hl.1 dX11_apart_24 [] rfl (Nat.le_of_ble_eq_true rfl) (Or.inl rfl) q1606 q113 ⟨Nat.le_of_ble_eq_true rfl, Nat.le_of_ble_eq_true rfl⟩ (fun v x1 H locs cells slots ex hq I => ?_) (fun a x1 H locs cells slots ex hq I => hq.elim)
  obtain ⟨M1, rfl, r2, rfl, h⟩ := hq
  refine lv_if_ne (tgt := 32) C.1 C.2.1 dX11_apart_27 (by decide) (fun c6 => ?_) (fun c6 => ?_)
  · have h := h.1 c6
    refine l_ald_n (x := some b0) C dX11_apart_32 hl 0 rfl rfl ?_
    refine lv_iconst (v := 0) C.1 C.2.1 dX11_apart_33 (by decide) ?_
    refine f_PI C I (fp_X11_125) (by decide) dX11_apart_34 (fit_i _) (fun H locs M3 eM3 I => ?_)
    have h := h M3 eM3
    refine l_ald_n (x := some b0) C dX11_apart_37 hl 0 rfl rfl ?_
    refine lv_iconst (v := 0) C.1 C.2.1 dX11_apart_38 (by decide) ?_
    refine l_ild_n C dX11_apart_39 hl 1 rfl rfl ?_
    refine k_call Ext.tr C I (k_V (r := some b0) (As := [.int ((0 : Int32)), .int l1]) (rest := []) (y := yX11_finds) C (f_recv C I) q1745 q1747 qs72 (Or.inl rfl) q1748 (by decide) rfl pd_X11_finds rfl dX11_apart_40) (ct_X11_finds h) hl.1 dX11_apart_40 [] rfl (Nat.le_of_ble_eq_true rfl) (Or.inl rfl) q1748 q113 ⟨Nat.le_of_ble_eq_true rfl, Nat.le_of_ble_eq_true rfl⟩ (fun v x1 H locs cells slots ex hq I => ?_) (fun a x1 H locs cells slots ex hq I => hq.elim)
    obtain ⟨M4, rfl, rfl, h⟩ := hq
    refine l_ald_n (x := some b0) C dX11_apart_43 hl 0 rfl rfl ?_
    refine f_I C I (fl_X11_321) (by decide) dX11_apart_44 ?_
    exact r_int C.1 C.2.1 C.2.2.2.2.2.1 rfl C.2.2.2.2.2.2 ⟨rfl, rfl⟩ I dX11_apart_47 ⟨_, rfl, _, rfl, h⟩
  · have h := h.2 c6
    refine lv_iconst (v := 0) C.1 C.2.1 dX11_apart_30 (by decide) ?_
    exact r_int C.1 C.2.1 C.2.2.2.2.2.1 rfl C.2.2.2.2.2.2 ⟨rfl, rfl⟩ I dX11_apart_31 ⟨_, rfl, _, rfl, h⟩
def w_X11_apart_22 (Q : Int32 → MS → Prop) (l1 : Int32) (M : MS) : Prop := w_X11_apart_23 Q l1 ((0 : Int32)) M
set_option maxHeartbeats 4000000 in
theorem b_X11_apart_22 {b0 z0 : Nat} {M0 : MS} {Q : Int32 → MS → Prop} (C : Cx p s m meth c D T Z "EndingTownModel" cX11_apart 2 (some .int)) : ∀ (l1 : Int32) (M : MS) (H : Heap) (locs : List Loc) (cells slots : Nat) (ls : Array Slot), w_X11_apart_22 Q l1 M → HI (twd D T Z) (mG b0 z0 M0) s (rmX (twd D T Z) 3 76 (mG b0 z0 M0)) H locs cells slots (mG b0 z0 M) → LH ls 2 [(0, .inr (.inl (some b0))), (1, .inl l1)] → W p l e (rmX (twd D T Z) 3 76 (mG b0 z0 M0)) s m args below meth c H locs cells slots (MQX (twd D T Z) (mG b0 z0 M0) (mq b0 z0 (qI Q)) (fun _ _ => False) below s) (F0 m 22 ls [va_rf (some b0)]) := by
  intro l1 M H locs cells slots ls h I hl
  refine lv_iconst (v := 0) C.1 C.2.1 dX11_apart_22 (by decide) ?_
  exact b_X11_apart_23 C l1 ((0 : Int32)) M _ _ _ _ _ h I (hl.sub [0, 1] rfl)
def w_X11_apart (Q : Int32 → MS → Prop) (p0 : Int32) (M : MS) : Prop := ∀ M1 : MS, M1 = sF M 0 ((0 : Int32)) → ((p0 < 0) → (w_X11_apart_22 Q p0 M1)) ∧ ((¬ p0 < 0) → (((mF M1 17 < p0) → (w_X11_apart_22 Q p0 M1)) ∧ ((¬ mF M1 17 < p0) → (w_X11_apart_23 Q p0 ((1 : Int32)) M1))))
theorem pd_X11_apart : (parseMethodDescriptor yX11_apart.desc).map (fun d => d.parameters.length) = some 1 := by decide +kernel
set_option maxHeartbeats 4000000 in
theorem ct_X11_apart {l : Launch} {D : va_G} {T : Nat → ClassId} {Z : Heap} {b0 z0 : Nat} {M0 : MS} {Q : Int32 → MS → Prop} {p0 : Int32} (hw : w_X11_apart Q p0 M0) : CT (twd D T Z) (Evd D T Z) l yX11_apart (Cond.code yX11_apart cX11_apart 2 (some .int)) 3 76 [va_rf (some b0), .int p0] (mG b0 z0 M0) (mq b0 z0 (qI Q)) (fun _ _ => False) := by
  refine CT.ofW (cc := cX11_apart) (nL := 2) (ret := (some .int)) Ext.rf (by decide) (Or.inl rfl) ?_
  intro p e s m below meth c hx hb hml hown hr hlk hnm hcb hm hc hn hE I
  have C : Cx p s m meth c D T Z "EndingTownModel" cX11_apart 2 (some .int) := ⟨hx, hb, hml, hown, hE, hr, hlk⟩
  refine w_entry [.inr (.inl (some b0)), .inl p0] (Nat.le_of_ble_eq_true rfl) (fun ls hl => ?_)
  have hl : LH ls 2 [(0, .inr (.inl (some b0))), (1, .inl p0)] := hl
  have h := hw
  refine l_ald_n (x := some b0) C dX11_apart_0 hl 0 rfl rfl ?_
  refine lv_iconst (v := 0) C.1 C.2.1 dX11_apart_1 (by decide) ?_
  refine f_PI C I (fp_X11_122) (by decide) dX11_apart_2 (fit_i _) (fun H locs M1 eM1 I => ?_)
  have h := h M1 eM1
  refine l_ald_n (x := some b0) C dX11_apart_5 hl 0 rfl rfl ?_
  refine l_ild_n C dX11_apart_6 hl 1 rfl rfl ?_
  refine lv_if_lt (tgt := 22) C.1 C.2.1 dX11_apart_7 (by decide) (fun c3 => ?_) (fun c3 => ?_)
  · have h := h.1 c3
    exact b_X11_apart_22 C p0 M1 _ _ _ _ _ h I (hl.sub [0, 1] rfl)
  · have h := h.2 c3
    refine l_ild_n C dX11_apart_10 hl 1 rfl rfl ?_
    refine l_ald_n (x := some b0) C dX11_apart_11 hl 0 rfl rfl ?_
    refine f_I C I (fl_X11_125) (by decide) dX11_apart_12 ?_
    refine lv_icmp_gt (tgt := 22) C.1 C.2.1 dX11_apart_15 (by decide) (fun c2 => ?_) (fun c2 => ?_)
    · have h := h.1 c2
      exact b_X11_apart_22 C p0 M1 _ _ _ _ _ h I (hl.sub [0, 1] rfl)
    · have h := h.2 c2
      refine lv_iconst (v := 1) C.1 C.2.1 dX11_apart_18 (by decide) ?_
      refine lv_goto (tgt := 23) C.1 C.2.1 dX11_apart_19 (by decide) ?_
      exact b_X11_apart_23 C p0 ((1 : Int32)) M1 _ _ _ _ _ h I (hl.sub [0, 1] rfl)
def w_X11_way_40 (Q : Int32 → MS → Prop) (t0 : Int32) (M : MS) : Prop := Q t0 M
set_option maxHeartbeats 4000000 in
theorem b_X11_way_40 {b0 z0 : Nat} {M0 : MS} {Q : Int32 → MS → Prop} (C : Cx p s m meth c D T Z "EndingTownModel" cX11_way 2 (some .int)) : ∀ (t0 : Int32) (M : MS) (H : Heap) (locs : List Loc) (cells slots : Nat) (ls : Array Slot), w_X11_way_40 Q t0 M → HI (twd D T Z) (mG b0 z0 M0) s (rmX (twd D T Z) 1 22 (mG b0 z0 M0)) H locs cells slots (mG b0 z0 M) → LH ls 2 [] → W p l e (rmX (twd D T Z) 1 22 (mG b0 z0 M0)) s m args below meth c H locs cells slots (MQX (twd D T Z) (mG b0 z0 M0) (mq b0 z0 (qI Q)) (fun _ _ => False) below s) (F0 m 40 ls [.int t0]) := by
  intro t0 M H locs cells slots ls h I hl
  exact r_int C.1 C.2.1 C.2.2.2.2.2.1 rfl C.2.2.2.2.2.2 ⟨rfl, rfl⟩ I dX11_way_40 ⟨_, rfl, _, rfl, h⟩
def w_X11_way_23 (Q : Int32 → MS → Prop) (l1 : Int32) (t0 : Int32) (M : MS) : Prop := w_X11_right (fun r2 M1 => ((r2 = 0) → (w_X11_way_40 Q ((0 : Int32)) M1)) ∧ ((¬ r2 = 0) → (vp_in l1 (mlen 47) ∧ w_X11_way_40 Q (mA M1 47 l1.toNatClampNeg) M1))) t0 ((1 : Int32)) M
set_option maxHeartbeats 4000000 in
theorem b_X11_way_23 {b0 z0 : Nat} {M0 : MS} {Q : Int32 → MS → Prop} (C : Cx p s m meth c D T Z "EndingTownModel" cX11_way 2 (some .int)) : ∀ (l1 : Int32) (t0 : Int32) (M : MS) (H : Heap) (locs : List Loc) (cells slots : Nat) (ls : Array Slot), w_X11_way_23 Q l1 t0 M → HI (twd D T Z) (mG b0 z0 M0) s (rmX (twd D T Z) 1 22 (mG b0 z0 M0)) H locs cells slots (mG b0 z0 M) → LH ls 2 [(0, .inr (.inl (some b0))), (1, .inl l1)] → W p l e (rmX (twd D T Z) 1 22 (mG b0 z0 M0)) s m args below meth c H locs cells slots (MQX (twd D T Z) (mG b0 z0 M0) (mq b0 z0 (qI Q)) (fun _ _ => False) below s) (F0 m 23 ls [.int t0, va_rf (some b0)]) := by
  intro l1 t0 M H locs cells slots ls h I hl
  refine lv_iconst (v := 1) C.1 C.2.1 dX11_way_23 (by decide) ?_
  refine k_call Ext.tr C I (k_V (r := some b0) (As := [.int t0, .int ((1 : Int32))]) (rest := []) (y := yX11_right) C (f_recv C I) q1603 q1605 qs47 (Or.inl rfl) q1606 (by decide) rfl pd_X11_right rfl dX11_way_24) (ct_X11_right h) hl.1 dX11_way_24 [] rfl (Nat.le_of_ble_eq_true rfl) (Or.inl rfl) q1606 q113 ⟨Nat.le_of_ble_eq_true rfl, Nat.le_of_ble_eq_true rfl⟩ (fun v x1 H locs cells slots ex hq I => ?_) (fun a x1 H locs cells slots ex hq I => hq.elim)
  obtain ⟨M1, rfl, r2, rfl, h⟩ := hq
  refine lv_if_eq (tgt := 39) C.1 C.2.1 dX11_way_27 (by decide) (fun c3 => ?_) (fun c3 => ?_)
  · have h := h.1 c3
    refine lv_iconst (v := 0) C.1 C.2.1 dX11_way_39 (by decide) ?_
    exact b_X11_way_40 C ((0 : Int32)) M1 _ _ _ _ _ h I (hl.sub [] rfl)
  · have h := h.2 c3
    refine l_ald_n (x := some b0) C dX11_way_30 hl 0 rfl rfl ?_
    refine f_A C I (fl_X11_80) (by decide) (by decide) dX11_way_31 ?_
    refine l_ild_n C dX11_way_34 hl 1 rfl rfl ?_
    obtain ⟨hi, h⟩ := h
    refine f_ld (k := 47) C I (by decide) hi dX11_way_35 ?_
    refine lv_goto (tgt := 40) C.1 C.2.1 dX11_way_36 (by decide) ?_
    exact b_X11_way_40 C (mA M1 47 l1.toNatClampNeg) M1 _ _ _ _ _ h I (hl.sub [] rfl)
def w_X11_way_22 (Q : Int32 → MS → Prop) (l1 : Int32) (M : MS) : Prop := w_X11_way_23 Q l1 ((0 : Int32)) M
set_option maxHeartbeats 4000000 in
theorem b_X11_way_22 {b0 z0 : Nat} {M0 : MS} {Q : Int32 → MS → Prop} (C : Cx p s m meth c D T Z "EndingTownModel" cX11_way 2 (some .int)) : ∀ (l1 : Int32) (M : MS) (H : Heap) (locs : List Loc) (cells slots : Nat) (ls : Array Slot), w_X11_way_22 Q l1 M → HI (twd D T Z) (mG b0 z0 M0) s (rmX (twd D T Z) 1 22 (mG b0 z0 M0)) H locs cells slots (mG b0 z0 M) → LH ls 2 [(0, .inr (.inl (some b0))), (1, .inl l1)] → W p l e (rmX (twd D T Z) 1 22 (mG b0 z0 M0)) s m args below meth c H locs cells slots (MQX (twd D T Z) (mG b0 z0 M0) (mq b0 z0 (qI Q)) (fun _ _ => False) below s) (F0 m 22 ls [va_rf (some b0)]) := by
  intro l1 M H locs cells slots ls h I hl
  refine lv_iconst (v := 0) C.1 C.2.1 dX11_way_22 (by decide) ?_
  exact b_X11_way_23 C l1 ((0 : Int32)) M _ _ _ _ _ h I (hl.sub [0, 1] rfl)
def w_X11_way (Q : Int32 → MS → Prop) (p0 : Int32) (M : MS) : Prop := ∀ M1 : MS, M1 = sF M 0 ((0 : Int32)) → ((p0 < 0) → (w_X11_way_22 Q p0 M1)) ∧ ((¬ p0 < 0) → (((mF M1 49 ≤ p0) → (w_X11_way_22 Q p0 M1)) ∧ ((¬ mF M1 49 ≤ p0) → (w_X11_way_23 Q p0 ((1 : Int32)) M1))))
theorem pd_X11_way : (parseMethodDescriptor yX11_way.desc).map (fun d => d.parameters.length) = some 1 := by decide +kernel
set_option maxHeartbeats 4000000 in
theorem ct_X11_way {l : Launch} {D : va_G} {T : Nat → ClassId} {Z : Heap} {b0 z0 : Nat} {M0 : MS} {Q : Int32 → MS → Prop} {p0 : Int32} (hw : w_X11_way Q p0 M0) : CT (twd D T Z) (Evd D T Z) l yX11_way (Cond.code yX11_way cX11_way 2 (some .int)) 1 22 [va_rf (some b0), .int p0] (mG b0 z0 M0) (mq b0 z0 (qI Q)) (fun _ _ => False) := by
  refine CT.ofW (cc := cX11_way) (nL := 2) (ret := (some .int)) Ext.rf (by decide) (Or.inl rfl) ?_
  intro p e s m below meth c hx hb hml hown hr hlk hnm hcb hm hc hn hE I
  have C : Cx p s m meth c D T Z "EndingTownModel" cX11_way 2 (some .int) := ⟨hx, hb, hml, hown, hE, hr, hlk⟩
  refine w_entry [.inr (.inl (some b0)), .inl p0] (Nat.le_of_ble_eq_true rfl) (fun ls hl => ?_)
  have hl : LH ls 2 [(0, .inr (.inl (some b0))), (1, .inl p0)] := hl
  have h := hw
  refine l_ald_n (x := some b0) C dX11_way_0 hl 0 rfl rfl ?_
  refine lv_iconst (v := 0) C.1 C.2.1 dX11_way_1 (by decide) ?_
  refine f_PI C I (fp_X11_122) (by decide) dX11_way_2 (fit_i _) (fun H locs M1 eM1 I => ?_)
  have h := h M1 eM1
  refine l_ald_n (x := some b0) C dX11_way_5 hl 0 rfl rfl ?_
  refine l_ild_n C dX11_way_6 hl 1 rfl rfl ?_
  refine lv_if_lt (tgt := 22) C.1 C.2.1 dX11_way_7 (by decide) (fun c3 => ?_) (fun c3 => ?_)
  · have h := h.1 c3
    exact b_X11_way_22 C p0 M1 _ _ _ _ _ h I (hl.sub [0, 1] rfl)
  · have h := h.2 c3
    refine l_ild_n C dX11_way_10 hl 1 rfl rfl ?_
    refine l_ald_n (x := some b0) C dX11_way_11 hl 0 rfl rfl ?_
    refine f_I C I (fl_X11_321) (by decide) dX11_way_12 ?_
    refine lv_icmp_ge (tgt := 22) C.1 C.2.1 dX11_way_15 (by decide) (fun c2 => ?_) (fun c2 => ?_)
    · have h := h.1 c2
      exact b_X11_way_22 C p0 M1 _ _ _ _ _ h I (hl.sub [0, 1] rfl)
    · have h := h.2 c2
      refine lv_iconst (v := 1) C.1 C.2.1 dX11_way_18 (by decide) ?_
      refine lv_goto (tgt := 23) C.1 C.2.1 dX11_way_19 (by decide) ?_
      exact b_X11_way_23 C p0 ((1 : Int32)) M1 _ _ _ _ _ h I (hl.sub [0, 1] rfl)
def w_X11_adds5 (Q : Int32 → MS → Prop) (p0 : Int32) (p1 : Int32) (p2 : Int32) (p3 : Int32) (p4 : Int32) (M : MS) : Prop := vp_in (((5 : Int32) * mF M 50)) (mlen 51) ∧ ∀ M1 : MS, M1 = sA M 51 (((5 : Int32) * mF M 50)).toNatClampNeg p0 → vp_in ((((5 : Int32) * mF M 50) + (1 : Int32))) (mlen 51) ∧ ∀ M2 : MS, M2 = sA M1 51 ((((5 : Int32) * mF M 50) + (1 : Int32))).toNatClampNeg p1 → vp_in ((((5 : Int32) * mF M 50) + (2 : Int32))) (mlen 51) ∧ ∀ M3 : MS, M3 = sA M2 51 ((((5 : Int32) * mF M 50) + (2 : Int32))).toNatClampNeg p2 → vp_in ((((5 : Int32) * mF M 50) + (3 : Int32))) (mlen 51) ∧ ∀ M4 : MS, M4 = sA M3 51 ((((5 : Int32) * mF M 50) + (3 : Int32))).toNatClampNeg p3 → vp_in ((((5 : Int32) * mF M 50) + (4 : Int32))) (mlen 51) ∧ ∀ M5 : MS, M5 = sA M4 51 ((((5 : Int32) * mF M 50) + (4 : Int32))).toNatClampNeg p4 → ∀ M6 : MS, M6 = sF M5 50 ((mF M5 50 + (1 : Int32))) → Q (mF M6 50) M6
theorem pd_X11_adds5 : (parseMethodDescriptor yX11_adds5.desc).map (fun d => d.parameters.length) = some 5 := by decide +kernel
set_option maxHeartbeats 4000000 in
theorem ct_X11_adds5 {l : Launch} {D : va_G} {T : Nat → ClassId} {Z : Heap} {b0 z0 : Nat} {M0 : MS} {Q : Int32 → MS → Prop} {p0 : Int32} {p1 : Int32} {p2 : Int32} {p3 : Int32} {p4 : Int32} (hw : w_X11_adds5 Q p0 p1 p2 p3 p4 M0) : CT (twd D T Z) (Evd D T Z) l yX11_adds5 (Cond.code yX11_adds5 cX11_adds5 7 (some .int)) 0 0 [va_rf (some b0), .int p0, .int p1, .int p2, .int p3, .int p4] (mG b0 z0 M0) (mq b0 z0 (qI Q)) (fun _ _ => False) := by
  refine CT.ofW (cc := cX11_adds5) (nL := 7) (ret := (some .int)) Ext.rf (by decide) (Or.inl rfl) ?_
  intro p e s m below meth c hx hb hml hown hr hlk hnm hcb hm hc hn hE I
  have C : Cx p s m meth c D T Z "EndingTownModel" cX11_adds5 7 (some .int) := ⟨hx, hb, hml, hown, hE, hr, hlk⟩
  refine w_entry [.inr (.inl (some b0)), .inl p0, .inl p1, .inl p2, .inl p3, .inl p4] (Nat.le_of_ble_eq_true rfl) (fun ls hl => ?_)
  have hl : LH ls 7 [(0, .inr (.inl (some b0))), (1, .inl p0), (2, .inl p1), (3, .inl p2), (4, .inl p3), (5, .inl p4)] := hl
  have h := hw
  refine lv_iconst (v := 5) C.1 C.2.1 dX11_adds5_0 (by decide) ?_
  refine l_ald_n (x := some b0) C dX11_adds5_1 hl 0 rfl rfl ?_
  refine f_I C I (fl_X11_279) (by decide) dX11_adds5_2 ?_
  refine lv_imul C.1 C.2.1 dX11_adds5_5 ?_
  refine l_ist C dX11_adds5_6 hl (by decide) rfl (fun ls hl => ?_)
  have hl : LH ls 7 [(6, .inl (((5 : Int32) * mF M0 50))), (0, .inr (.inl (some b0))), (1, .inl p0), (2, .inl p1), (3, .inl p2), (4, .inl p3), (5, .inl p4)] := hl
  refine l_ald_n (x := some b0) C dX11_adds5_8 hl 1 rfl rfl ?_
  refine f_A C I (fl_X11_83) (by decide) (by decide) dX11_adds5_9 ?_
  refine l_ild C dX11_adds5_12 hl 0 rfl ?_
  refine l_ild_n C dX11_adds5_14 hl 2 rfl rfl ?_
  obtain ⟨hi, h⟩ := h
  refine f_st (k := 51) C I (by decide) hi dX11_adds5_15 (fun H locs M1 eM1 I => ?_)
  have h := h M1 eM1
  refine l_ald_n (x := some b0) C dX11_adds5_16 hl 1 rfl rfl ?_
  refine f_A C I (fl_X11_83) (by decide) (by decide) dX11_adds5_17 ?_
  refine l_ild C dX11_adds5_20 hl 0 rfl ?_
  refine lv_iconst (v := 1) C.1 C.2.1 dX11_adds5_22 (by decide) ?_
  refine lv_iadd C.1 C.2.1 dX11_adds5_23 ?_
  refine l_ild_n C dX11_adds5_24 hl 3 rfl rfl ?_
  obtain ⟨hi, h⟩ := h
  refine f_st (k := 51) C I (by decide) hi dX11_adds5_25 (fun H locs M2 eM2 I => ?_)
  have h := h M2 eM2
  refine l_ald_n (x := some b0) C dX11_adds5_26 hl 1 rfl rfl ?_
  refine f_A C I (fl_X11_83) (by decide) (by decide) dX11_adds5_27 ?_
  refine l_ild C dX11_adds5_30 hl 0 rfl ?_
  refine lv_iconst (v := 2) C.1 C.2.1 dX11_adds5_32 (by decide) ?_
  refine lv_iadd C.1 C.2.1 dX11_adds5_33 ?_
  refine l_ild_n C dX11_adds5_34 hl 4 rfl rfl ?_
  obtain ⟨hi, h⟩ := h
  refine f_st (k := 51) C I (by decide) hi dX11_adds5_35 (fun H locs M3 eM3 I => ?_)
  have h := h M3 eM3
  refine l_ald_n (x := some b0) C dX11_adds5_36 hl 1 rfl rfl ?_
  refine f_A C I (fl_X11_83) (by decide) (by decide) dX11_adds5_37 ?_
  refine l_ild C dX11_adds5_40 hl 0 rfl ?_
  refine lv_iconst (v := 3) C.1 C.2.1 dX11_adds5_42 (by decide) ?_
  refine lv_iadd C.1 C.2.1 dX11_adds5_43 ?_
  refine l_ild C dX11_adds5_44 hl 5 rfl ?_
  obtain ⟨hi, h⟩ := h
  refine f_st (k := 51) C I (by decide) hi dX11_adds5_46 (fun H locs M4 eM4 I => ?_)
  have h := h M4 eM4
  refine l_ald_n (x := some b0) C dX11_adds5_47 hl 1 rfl rfl ?_
  refine f_A C I (fl_X11_83) (by decide) (by decide) dX11_adds5_48 ?_
  refine l_ild C dX11_adds5_51 hl 0 rfl ?_
  refine lv_iconst (v := 4) C.1 C.2.1 dX11_adds5_53 (by decide) ?_
  refine lv_iadd C.1 C.2.1 dX11_adds5_54 ?_
  refine l_ild C dX11_adds5_55 hl 6 rfl ?_
  obtain ⟨hi, h⟩ := h
  refine f_st (k := 51) C I (by decide) hi dX11_adds5_57 (fun H locs M5 eM5 I => ?_)
  have h := h M5 eM5
  refine l_ald_n (x := some b0) C dX11_adds5_58 hl 1 rfl rfl ?_
  refine lv_dup C.1 C.2.1 dX11_adds5_59 (cat_rf _) ?_
  refine f_I C I (fl_X11_279) (by decide) dX11_adds5_60 ?_
  refine lv_iconst (v := 1) C.1 C.2.1 dX11_adds5_63 (by decide) ?_
  refine lv_iadd C.1 C.2.1 dX11_adds5_64 ?_
  refine f_PI C I (fp_X11_279) (by decide) dX11_adds5_65 (fit_i _) (fun H locs M6 eM6 I => ?_)
  have h := h M6 eM6
  refine l_ald_n (x := some b0) C dX11_adds5_68 hl 1 rfl rfl ?_
  refine f_I C I (fl_X11_279) (by decide) dX11_adds5_69 ?_
  exact r_int C.1 C.2.1 C.2.2.2.2.2.1 rfl C.2.2.2.2.2.2 ⟨rfl, rfl⟩ I dX11_adds5_72 ⟨_, rfl, _, rfl, h⟩
def w_X11_refuses (Q : Int32 → MS → Prop) (p0 : Int32) (M : MS) : Prop := vp_in p0 (mlen 20) ∧ vp_in p0 (mlen 20) ∧ ∀ M1 : MS, M1 = sA M 20 p0.toNatClampNeg ((mA M 20 p0.toNatClampNeg + (1 : Int32))) → Q ((-1 : Int32)) M1
theorem pd_X11_refuses : (parseMethodDescriptor yX11_refuses.desc).map (fun d => d.parameters.length) = some 1 := by decide +kernel
set_option maxHeartbeats 4000000 in
theorem ct_X11_refuses {l : Launch} {D : va_G} {T : Nat → ClassId} {Z : Heap} {b0 z0 : Nat} {M0 : MS} {Q : Int32 → MS → Prop} {p0 : Int32} (hw : w_X11_refuses Q p0 M0) : CT (twd D T Z) (Evd D T Z) l yX11_refuses (Cond.code yX11_refuses cX11_refuses 2 (some .int)) 0 0 [va_rf (some b0), .int p0] (mG b0 z0 M0) (mq b0 z0 (qI Q)) (fun _ _ => False) := by
  refine CT.ofW (cc := cX11_refuses) (nL := 2) (ret := (some .int)) Ext.rf (by decide) (Or.inl rfl) ?_
  intro p e s m below meth c hx hb hml hown hr hlk hnm hcb hm hc hn hE I
  have C : Cx p s m meth c D T Z "EndingTownModel" cX11_refuses 2 (some .int) := ⟨hx, hb, hml, hown, hE, hr, hlk⟩
  refine w_entry [.inr (.inl (some b0)), .inl p0] (Nat.le_of_ble_eq_true rfl) (fun ls hl => ?_)
  have hl : LH ls 2 [(0, .inr (.inl (some b0))), (1, .inl p0)] := hl
  have h := hw
  refine l_ald_n (x := some b0) C dX11_refuses_0 hl 0 rfl rfl ?_
  refine f_A C I (fl_X11_47) (by decide) (by decide) dX11_refuses_1 ?_
  refine l_ild_n C dX11_refuses_4 hl 1 rfl rfl ?_
  refine lv_dup2_11 C.1 C.2.1 dX11_refuses_5 rfl (cat_rf _) ?_
  obtain ⟨hi, h⟩ := h
  refine f_ld (k := 20) C I (by decide) hi dX11_refuses_6 ?_
  refine lv_iconst (v := 1) C.1 C.2.1 dX11_refuses_7 (by decide) ?_
  refine lv_iadd C.1 C.2.1 dX11_refuses_8 ?_
  obtain ⟨hi, h⟩ := h
  refine f_st (k := 20) C I (by decide) hi dX11_refuses_9 (fun H locs M1 eM1 I => ?_)
  have h := h M1 eM1
  refine lv_iconst (v := (-1)) C.1 C.2.1 dX11_refuses_10 (by decide) ?_
  exact r_int C.1 C.2.1 C.2.2.2.2.2.1 rfl C.2.2.2.2.2.2 ⟨rfl, rfl⟩ I dX11_refuses_11 ⟨_, rfl, _, rfl, h⟩
def w_X11_say_22 (Q : Int32 → MS → Prop) (M : MS) : Prop := Q ((0 : Int32)) M
set_option maxHeartbeats 4000000 in
theorem b_X11_say_22 {b0 z0 : Nat} {M0 : MS} {Q : Int32 → MS → Prop} (C : Cx p s m meth c D T Z "EndingTownModel" cX11_say 6 (some .int)) : ∀ (M : MS) (H : Heap) (locs : List Loc) (cells slots : Nat) (ls : Array Slot), w_X11_say_22 Q M → HI (twd D T Z) (mG b0 z0 M0) s (rmX (twd D T Z) 2 44 (mG b0 z0 M0)) H locs cells slots (mG b0 z0 M) → LH ls 6 [] → W p l e (rmX (twd D T Z) 2 44 (mG b0 z0 M0)) s m args below meth c H locs cells slots (MQX (twd D T Z) (mG b0 z0 M0) (mq b0 z0 (qI Q)) (fun _ _ => False) below s) (F0 m 22 ls []) := by
  intro M H locs cells slots ls h I hl
  refine lv_iconst (v := 0) C.1 C.2.1 dX11_say_22 (by decide) ?_
  exact r_int C.1 C.2.1 C.2.2.2.2.2.1 rfl C.2.2.2.2.2.2 ⟨rfl, rfl⟩ I dX11_say_23 ⟨_, rfl, _, rfl, h⟩
def w_X11_say_43 (Q : Int32 → MS → Prop) (M : MS) : Prop := w_X11_refuses (fun r2 M1 => Q r2 M1) ((1 : Int32)) M
set_option maxHeartbeats 4000000 in
theorem b_X11_say_43 {b0 z0 : Nat} {M0 : MS} {Q : Int32 → MS → Prop} (C : Cx p s m meth c D T Z "EndingTownModel" cX11_say 6 (some .int)) : ∀ (M : MS) (H : Heap) (locs : List Loc) (cells slots : Nat) (ls : Array Slot), w_X11_say_43 Q M → HI (twd D T Z) (mG b0 z0 M0) s (rmX (twd D T Z) 2 44 (mG b0 z0 M0)) H locs cells slots (mG b0 z0 M) → LH ls 6 [(0, .inr (.inl (some b0)))] → W p l e (rmX (twd D T Z) 2 44 (mG b0 z0 M0)) s m args below meth c H locs cells slots (MQX (twd D T Z) (mG b0 z0 M0) (mq b0 z0 (qI Q)) (fun _ _ => False) below s) (F0 m 43 ls []) := by
  intro M H locs cells slots ls h I hl
  refine l_ald_n (x := some b0) C dX11_say_43 hl 0 rfl rfl ?_
  refine lv_iconst (v := 1) C.1 C.2.1 dX11_say_44 (by decide) ?_
  refine k_call Ext.tr C I (k_V (r := some b0) (As := [.int ((1 : Int32))]) (rest := []) (y := yX11_refuses) C (f_recv C I) q1757 q1759 qs73 (Or.inl rfl) q1760 (by decide) rfl pd_X11_refuses rfl dX11_say_45) (ct_X11_refuses h) hl.1 dX11_say_45 [] rfl (Nat.le_of_ble_eq_true rfl) (Or.inl rfl) q1760 q113 ⟨Nat.le_of_ble_eq_true rfl, Nat.le_of_ble_eq_true rfl⟩ (fun v x1 H locs cells slots ex hq I => ?_) (fun a x1 H locs cells slots ex hq I => hq.elim)
  obtain ⟨M1, rfl, r2, rfl, h⟩ := hq
  exact r_int C.1 C.2.1 C.2.2.2.2.2.1 rfl C.2.2.2.2.2.2 ⟨rfl, rfl⟩ I dX11_say_48 ⟨_, rfl, _, rfl, h⟩
def w_X11_say_65 (Q : Int32 → MS → Prop) (t0 : Int32) (t1 : Int32) (t2 : Int32) (t3 : Int32) (t4 : Int32) (M : MS) : Prop := w_X11_adds5 (fun r2 M1 => Q r2 M1) t4 t3 t2 t1 t0 M
set_option maxHeartbeats 4000000 in
theorem b_X11_say_65 {b0 z0 : Nat} {M0 : MS} {Q : Int32 → MS → Prop} (C : Cx p s m meth c D T Z "EndingTownModel" cX11_say 6 (some .int)) : ∀ (t0 : Int32) (t1 : Int32) (t2 : Int32) (t3 : Int32) (t4 : Int32) (M : MS) (H : Heap) (locs : List Loc) (cells slots : Nat) (ls : Array Slot), w_X11_say_65 Q t0 t1 t2 t3 t4 M → HI (twd D T Z) (mG b0 z0 M0) s (rmX (twd D T Z) 2 44 (mG b0 z0 M0)) H locs cells slots (mG b0 z0 M) → LH ls 6 [] → W p l e (rmX (twd D T Z) 2 44 (mG b0 z0 M0)) s m args below meth c H locs cells slots (MQX (twd D T Z) (mG b0 z0 M0) (mq b0 z0 (qI Q)) (fun _ _ => False) below s) (F0 m 65 ls [.int t0, .int t1, .int t2, .int t3, .int t4, va_rf (some b0)]) := by
  intro t0 t1 t2 t3 t4 M H locs cells slots ls h I hl
  refine k_call Ext.tr C I (k_V (r := some b0) (As := [.int t4, .int t3, .int t2, .int t1, .int t0]) (rest := []) (y := yX11_adds5) C (f_recv C I) q1761 q1763 qs74 (Or.inl rfl) q1764 (by decide) rfl pd_X11_adds5 rfl dX11_say_65) (ct_X11_adds5 h) hl.1 dX11_say_65 [] rfl (Nat.le_of_ble_eq_true rfl) (Or.inl rfl) q1764 q113 ⟨Nat.le_of_ble_eq_true rfl, Nat.le_of_ble_eq_true rfl⟩ (fun v x1 H locs cells slots ex hq I => ?_) (fun a x1 H locs cells slots ex hq I => hq.elim)
  obtain ⟨M1, rfl, r2, rfl, h⟩ := hq
  exact r_int C.1 C.2.1 C.2.2.2.2.2.1 rfl C.2.2.2.2.2.2 ⟨rfl, rfl⟩ I dX11_say_68 ⟨_, rfl, _, rfl, h⟩
def w_X11_say (Q : Int32 → MS → Prop) (p0 : Int32) (p1 : Int32) (p2 : Int32) (p3 : Int32) (p4 : Int32) (M : MS) : Prop := ∀ M1 : MS, M1 = sF M 0 ((0 : Int32)) → w_X11_isWho (fun r3 M2 => ((r3 = 0) → (w_X11_say_22 Q M2)) ∧ ((¬ r3 = 0) → (w_X11_isThing (fun r5 M4 => ((¬ r5 = 0) → (((mF M4 50 = (20 : Int32)) → (w_X11_say_43 Q M4)) ∧ ((¬ mF M4 50 = (20 : Int32)) → (w_X11_within (fun r7 M6 => ((¬ r7 = 0) → (((p4 = 0) → (w_X11_say_65 Q ((0 : Int32)) p3 p2 p1 p0 M6)) ∧ ((¬ p4 = 0) → (w_X11_say_65 Q ((1 : Int32)) p3 p2 p1 p0 M6)))) ∧ ((r7 = 0) → (w_X11_say_43 Q M6))) p3 ((0 : Int32)) ((4 : Int32)) M4)))) ∧ ((r5 = 0) → (w_X11_say_22 Q M4))) p2 M2))) p0 p1 M1
theorem pd_X11_say : (parseMethodDescriptor yX11_say.desc).map (fun d => d.parameters.length) = some 5 := by decide +kernel
set_option maxHeartbeats 4000000 in
theorem ct_X11_say {l : Launch} {D : va_G} {T : Nat → ClassId} {Z : Heap} {b0 z0 : Nat} {M0 : MS} {Q : Int32 → MS → Prop} {p0 : Int32} {p1 : Int32} {p2 : Int32} {p3 : Int32} {p4 : Int32} (hw : w_X11_say Q p0 p1 p2 p3 p4 M0) : CT (twd D T Z) (Evd D T Z) l yX11_say (Cond.code yX11_say cX11_say 6 (some .int)) 2 44 [va_rf (some b0), .int p0, .int p1, .int p2, .int p3, .int p4] (mG b0 z0 M0) (mq b0 z0 (qI Q)) (fun _ _ => False) := by
  refine CT.ofW (cc := cX11_say) (nL := 6) (ret := (some .int)) Ext.rf (by decide) (Or.inl rfl) ?_
  intro p e s m below meth c hx hb hml hown hr hlk hnm hcb hm hc hn hE I
  have C : Cx p s m meth c D T Z "EndingTownModel" cX11_say 6 (some .int) := ⟨hx, hb, hml, hown, hE, hr, hlk⟩
  refine w_entry [.inr (.inl (some b0)), .inl p0, .inl p1, .inl p2, .inl p3, .inl p4] (Nat.le_of_ble_eq_true rfl) (fun ls hl => ?_)
  have hl : LH ls 6 [(0, .inr (.inl (some b0))), (1, .inl p0), (2, .inl p1), (3, .inl p2), (4, .inl p3), (5, .inl p4)] := hl
  have h := hw
  refine l_ald_n (x := some b0) C dX11_say_0 hl 0 rfl rfl ?_
  refine lv_iconst (v := 0) C.1 C.2.1 dX11_say_1 (by decide) ?_
  refine f_PI C I (fp_X11_122) (by decide) dX11_say_2 (fit_i _) (fun H locs M1 eM1 I => ?_)
  have h := h M1 eM1
  refine l_ald_n (x := some b0) C dX11_say_5 hl 0 rfl rfl ?_
  refine l_ild_n C dX11_say_6 hl 1 rfl rfl ?_
  refine l_ild_n C dX11_say_7 hl 2 rfl rfl ?_
  refine k_call Ext.tr C I (k_V (r := some b0) (As := [.int p0, .int p1]) (rest := []) (y := yX11_isWho) C (f_recv C I) q1709 q1711 qs66 (Or.inl rfl) q1712 (by decide) rfl pd_X11_isWho rfl dX11_say_8) (ct_X11_isWho h) hl.1 dX11_say_8 [] rfl (Nat.le_of_ble_eq_true rfl) (Or.inl rfl) q1712 q113 ⟨Nat.le_of_ble_eq_true rfl, Nat.le_of_ble_eq_true rfl⟩ (fun v x1 H locs cells slots ex hq I => ?_) (fun a x1 H locs cells slots ex hq I => hq.elim)
  obtain ⟨M2, rfl, r3, rfl, h⟩ := hq
  refine lv_if_eq (tgt := 22) C.1 C.2.1 dX11_say_11 (by decide) (fun c12 => ?_) (fun c12 => ?_)
  · have h := h.1 c12
    exact b_X11_say_22 C M2 _ _ _ _ _ h I (hl.sub [] rfl)
  · have h := h.2 c12
    refine l_ald_n (x := some b0) C dX11_say_14 hl 0 rfl rfl ?_
    refine l_ild_n C dX11_say_15 hl 3 rfl rfl ?_
    refine k_call Ext.tr C I (k_V (r := some b0) (As := [.int p2]) (rest := []) (y := yX11_isThing) C (f_recv C I) q1717 q1719 qs67 (Or.inl rfl) q1720 (by decide) rfl pd_X11_isThing rfl dX11_say_16) (ct_X11_isThing h) hl.1 dX11_say_16 [] rfl (Nat.le_of_ble_eq_true rfl) (Or.inl rfl) q1720 q113 ⟨Nat.le_of_ble_eq_true rfl, Nat.le_of_ble_eq_true rfl⟩ (fun v x1 H locs cells slots ex hq I => ?_) (fun a x1 H locs cells slots ex hq I => hq.elim)
    obtain ⟨M4, rfl, r5, rfl, h⟩ := hq
    refine lv_if_ne (tgt := 24) C.1 C.2.1 dX11_say_19 (by decide) (fun c11 => ?_) (fun c11 => ?_)
    · have h := h.1 c11
      refine l_ald_n (x := some b0) C dX11_say_24 hl 0 rfl rfl ?_
      refine f_I C I (fl_X11_279) (by decide) dX11_say_25 ?_
      refine lv_bipush (v := 20) C.1 C.2.1 dX11_say_28 (by decide) ?_
      refine lv_icmp_eq (tgt := 43) C.1 C.2.1 dX11_say_30 (by decide) (fun c10 => ?_) (fun c10 => ?_)
      · have h := h.1 c10
        exact b_X11_say_43 C M4 _ _ _ _ _ h I (hl.sub [0] rfl)
      · have h := h.2 c10
        refine l_ild C dX11_say_33 hl 4 rfl ?_
        refine lv_iconst (v := 0) C.1 C.2.1 dX11_say_35 (by decide) ?_
        refine lv_iconst (v := 4) C.1 C.2.1 dX11_say_36 (by decide) ?_
        refine k_call Ext.tr C I (k_S (As := [.int p3, .int ((0 : Int32)), .int ((4 : Int32))]) (rest := []) (y := yX11_within) C q1699 q1700 q113 (Or.inl rfl) q1701 (by decide) rfl pd_X11_within rfl dX11_say_37) (ct_X11_within h) hl.1 dX11_say_37 [] rfl (Nat.le_of_ble_eq_true rfl) (Or.inl rfl) q1701 q113 ⟨Nat.le_of_ble_eq_true rfl, Nat.le_of_ble_eq_true rfl⟩ (fun v x1 H locs cells slots ex hq I => ?_) (fun a x1 H locs cells slots ex hq I => hq.elim)
        obtain ⟨M6, rfl, r7, rfl, h⟩ := hq
        refine lv_if_ne (tgt := 49) C.1 C.2.1 dX11_say_40 (by decide) (fun c9 => ?_) (fun c9 => ?_)
        · have h := h.1 c9
          refine l_ald_n (x := some b0) C dX11_say_49 hl 0 rfl rfl ?_
          refine l_ild_n C dX11_say_50 hl 1 rfl rfl ?_
          refine l_ild_n C dX11_say_51 hl 2 rfl rfl ?_
          refine l_ild_n C dX11_say_52 hl 3 rfl rfl ?_
          refine l_ild C dX11_say_53 hl 4 rfl ?_
          refine l_ild C dX11_say_55 hl 5 rfl ?_
          refine lv_if_eq (tgt := 64) C.1 C.2.1 dX11_say_57 (by decide) (fun c8 => ?_) (fun c8 => ?_)
          · have h := h.1 c8
            refine lv_iconst (v := 0) C.1 C.2.1 dX11_say_64 (by decide) ?_
            exact b_X11_say_65 C ((0 : Int32)) p3 p2 p1 p0 M6 _ _ _ _ _ h I (hl.sub [] rfl)
          · have h := h.2 c8
            refine lv_iconst (v := 1) C.1 C.2.1 dX11_say_60 (by decide) ?_
            refine lv_goto (tgt := 65) C.1 C.2.1 dX11_say_61 (by decide) ?_
            exact b_X11_say_65 C ((1 : Int32)) p3 p2 p1 p0 M6 _ _ _ _ _ h I (hl.sub [] rfl)
        · have h := h.2 c9
          exact b_X11_say_43 C M6 _ _ _ _ _ h I (hl.sub [0] rfl)
    · have h := h.2 c11
      exact b_X11_say_22 C M4 _ _ _ _ _ h I (hl.sub [] rfl)
def w_X11_blanks_29 (Q : Int32 → MS → Prop) (k2 : Int32 → Int32 → MS → Prop) (l2 : Int32) (l3 : Int32) (M : MS) : Prop := k2 l2 ((l3 + 1)) M
set_option maxHeartbeats 4000000 in
theorem b_X11_blanks_29 {b0 z0 : Nat} {M0 : MS} {Q : Int32 → MS → Prop} {k2 : Int32 → Int32 → MS → Prop} (C : Cx p s m meth c D T Z "EndingTownModel" cX11_blanks 4 (some .int)) (hk2 : ∀ (l2 : Int32) (l3 : Int32) (M : MS) (H : Heap) (locs : List Loc) (cells slots : Nat) (ls : Array Slot), k2 l2 l3 M → HI (twd D T Z) (mG b0 z0 M0) s (rmX (twd D T Z) 0 0 (mG b0 z0 M0)) H locs cells slots (mG b0 z0 M) → LH ls 4 [(0, .inr (.inl (some b0))), (2, .inl l2), (3, .inl l3)] → W p l e (rmX (twd D T Z) 0 0 (mG b0 z0 M0)) s m args below meth c H locs cells slots (MQX (twd D T Z) (mG b0 z0 M0) (mq b0 z0 (qI Q)) (fun _ _ => False) below s) (F0 m 2 ls [])) : ∀ (l2 : Int32) (l3 : Int32) (M : MS) (H : Heap) (locs : List Loc) (cells slots : Nat) (ls : Array Slot), w_X11_blanks_29 Q k2 l2 l3 M → HI (twd D T Z) (mG b0 z0 M0) s (rmX (twd D T Z) 0 0 (mG b0 z0 M0)) H locs cells slots (mG b0 z0 M) → LH ls 4 [(0, .inr (.inl (some b0))), (2, .inl l2), (3, .inl l3)] → W p l e (rmX (twd D T Z) 0 0 (mG b0 z0 M0)) s m args below meth c H locs cells slots (MQX (twd D T Z) (mG b0 z0 M0) (mq b0 z0 (qI Q)) (fun _ _ => False) below s) (F0 m 29 ls []) := by
  intro l2 l3 M H locs cells slots ls h I hl
  refine l_inc (q := 2) (v := 1) C dX11_blanks_29 hl rfl (by decide) (by decide) rfl (fun ls hl => ?_)
  have hl : LH ls 4 [(3, .inl ((l3 + 1))), (0, .inr (.inl (some b0))), (2, .inl l2)] := hl
  refine lv_goto (tgt := 2) C.1 C.2.1 dX11_blanks_32 (by decide) ?_
  exact hk2 l2 ((l3 + 1)) M _ _ _ _ _ h I (hl.sub [1, 2, 0] rfl)
def w_X11_blanks_35 (Q : Int32 → MS → Prop) (l3 : Int32) (M : MS) : Prop := Q l3 M
set_option maxHeartbeats 4000000 in
theorem b_X11_blanks_35 {b0 z0 : Nat} {M0 : MS} {Q : Int32 → MS → Prop} (C : Cx p s m meth c D T Z "EndingTownModel" cX11_blanks 4 (some .int)) : ∀ (l3 : Int32) (M : MS) (H : Heap) (locs : List Loc) (cells slots : Nat) (ls : Array Slot), w_X11_blanks_35 Q l3 M → HI (twd D T Z) (mG b0 z0 M0) s (rmX (twd D T Z) 0 0 (mG b0 z0 M0)) H locs cells slots (mG b0 z0 M) → LH ls 4 [(3, .inl l3)] → W p l e (rmX (twd D T Z) 0 0 (mG b0 z0 M0)) s m args below meth c H locs cells slots (MQX (twd D T Z) (mG b0 z0 M0) (mq b0 z0 (qI Q)) (fun _ _ => False) below s) (F0 m 35 ls []) := by
  intro l3 M H locs cells slots ls h I hl
  refine l_ild_n C dX11_blanks_35 hl 0 rfl rfl ?_
  exact r_int C.1 C.2.1 C.2.2.2.2.2.1 rfl C.2.2.2.2.2.2 ⟨rfl, rfl⟩ I dX11_blanks_36 ⟨_, rfl, _, rfl, h⟩
def w_X11_blanks_2 (Q : Int32 → MS → Prop) : Nat → Int32 → Int32 → MS → Prop
  | 0 => fun _ _ _ => False
  | f2 + 1 => fun l2 l3 M => ((l2 ≤ l3) → (w_X11_blanks_35 Q l3 M)) ∧ ((¬ l2 ≤ l3) → (vp_in l3 (mlen 16) ∧ ((mA M 16 l3.toNatClampNeg = (32 : Int32)) → (w_X11_blanks_29 Q (w_X11_blanks_2 Q f2) l2 l3 M)) ∧ ((¬ mA M 16 l3.toNatClampNeg = (32 : Int32)) → (vp_in l3 (mlen 16) ∧ ((¬ mA M 16 l3.toNatClampNeg = (10 : Int32)) → (w_X11_blanks_35 Q l3 M)) ∧ ((mA M 16 l3.toNatClampNeg = (10 : Int32)) → (w_X11_blanks_29 Q (w_X11_blanks_2 Q f2) l2 l3 M))))))
set_option maxHeartbeats 4000000 in
theorem b_X11_blanks_2 {b0 z0 : Nat} {M0 : MS} {Q : Int32 → MS → Prop} (C : Cx p s m meth c D T Z "EndingTownModel" cX11_blanks 4 (some .int)) : ∀ (n : Nat) (l2 : Int32) (l3 : Int32) (M : MS) (H : Heap) (locs : List Loc) (cells slots : Nat) (ls : Array Slot), w_X11_blanks_2 Q n l2 l3 M → HI (twd D T Z) (mG b0 z0 M0) s (rmX (twd D T Z) 0 0 (mG b0 z0 M0)) H locs cells slots (mG b0 z0 M) → LH ls 4 [(0, .inr (.inl (some b0))), (2, .inl l2), (3, .inl l3)] → W p l e (rmX (twd D T Z) 0 0 (mG b0 z0 M0)) s m args below meth c H locs cells slots (MQX (twd D T Z) (mG b0 z0 M0) (mq b0 z0 (qI Q)) (fun _ _ => False) below s) (F0 m 2 ls []) := by
  intro n
  induction n with
  | zero => intro l2 l3 M H locs cells slots ls h; exact (show False from h).elim
  | succ n ih =>
    intro l2 l3 M H locs cells slots ls h I hl
    have hk2 := ih
    refine l_ild_n C dX11_blanks_2 hl 2 rfl rfl ?_
    refine l_ild_n C dX11_blanks_3 hl 1 rfl rfl ?_
    refine lv_icmp_ge (tgt := 35) C.1 C.2.1 dX11_blanks_4 (by decide) (fun c3 => ?_) (fun c3 => ?_)
    · have h := h.1 c3
      exact b_X11_blanks_35 C l3 M _ _ _ _ _ h I (hl.sub [2] rfl)
    · have h := h.2 c3
      refine l_ald_n (x := some b0) C dX11_blanks_7 hl 0 rfl rfl ?_
      refine f_A C I (fl_X11_41) (by decide) (by decide) dX11_blanks_8 ?_
      refine l_ild_n C dX11_blanks_11 hl 2 rfl rfl ?_
      obtain ⟨hi, h⟩ := h
      refine f_ld (k := 16) C I (by decide) hi dX11_blanks_12 ?_
      refine lv_bipush (v := 32) C.1 C.2.1 dX11_blanks_13 (by decide) ?_
      refine lv_icmp_eq (tgt := 29) C.1 C.2.1 dX11_blanks_15 (by decide) (fun c2 => ?_) (fun c2 => ?_)
      · have h := h.1 c2
        exact b_X11_blanks_29 C hk2 l2 l3 M _ _ _ _ _ h I (hl.sub [0, 1, 2] rfl)
      · have h := h.2 c2
        refine l_ald_n (x := some b0) C dX11_blanks_18 hl 0 rfl rfl ?_
        refine f_A C I (fl_X11_41) (by decide) (by decide) dX11_blanks_19 ?_
        refine l_ild_n C dX11_blanks_22 hl 2 rfl rfl ?_
        obtain ⟨hi, h⟩ := h
        refine f_ld (k := 16) C I (by decide) hi dX11_blanks_23 ?_
        refine lv_bipush (v := 10) C.1 C.2.1 dX11_blanks_24 (by decide) ?_
        refine lv_icmp_ne (tgt := 35) C.1 C.2.1 dX11_blanks_26 (by decide) (fun c1 => ?_) (fun c1 => ?_)
        · have h := h.1 c1
          exact b_X11_blanks_35 C l3 M _ _ _ _ _ h I (hl.sub [2] rfl)
        · have h := h.2 c1
          exact b_X11_blanks_29 C hk2 l2 l3 M _ _ _ _ _ h I (hl.sub [0, 1, 2] rfl)
def w_X11_blanks (Q : Int32 → MS → Prop) (p0 : Int32) (p1 : Int32) (M : MS) : Prop := ∃ n, w_X11_blanks_2 Q n p1 p0 M
theorem pd_X11_blanks : (parseMethodDescriptor yX11_blanks.desc).map (fun d => d.parameters.length) = some 2 := by decide +kernel
set_option maxHeartbeats 4000000 in
theorem ct_X11_blanks {l : Launch} {D : va_G} {T : Nat → ClassId} {Z : Heap} {b0 z0 : Nat} {M0 : MS} {Q : Int32 → MS → Prop} {p0 : Int32} {p1 : Int32} (hw : w_X11_blanks Q p0 p1 M0) : CT (twd D T Z) (Evd D T Z) l yX11_blanks (Cond.code yX11_blanks cX11_blanks 4 (some .int)) 0 0 [va_rf (some b0), .int p0, .int p1] (mG b0 z0 M0) (mq b0 z0 (qI Q)) (fun _ _ => False) := by
  refine CT.ofW (cc := cX11_blanks) (nL := 4) (ret := (some .int)) Ext.rf (by decide) (Or.inl rfl) ?_
  intro p e s m below meth c hx hb hml hown hr hlk hnm hcb hm hc hn hE I
  have C : Cx p s m meth c D T Z "EndingTownModel" cX11_blanks 4 (some .int) := ⟨hx, hb, hml, hown, hE, hr, hlk⟩
  refine w_entry [.inr (.inl (some b0)), .inl p0, .inl p1] (Nat.le_of_ble_eq_true rfl) (fun ls hl => ?_)
  have hl : LH ls 4 [(0, .inr (.inl (some b0))), (1, .inl p0), (2, .inl p1)] := hl
  have h := hw
  refine l_ild_n C dX11_blanks_0 hl 1 rfl rfl ?_
  refine l_ist_n C dX11_blanks_1 rfl hl (by decide) rfl (fun ls hl => ?_)
  have hl : LH ls 4 [(3, .inl p0), (0, .inr (.inl (some b0))), (1, .inl p0), (2, .inl p1)] := hl
  obtain ⟨n, h⟩ := h
  exact b_X11_blanks_2 C n p1 p0 M0 _ _ _ _ _ h I (hl.sub [1, 3, 0] rfl)
def w_X11_isNot_21 (Q : Int32 → MS → Prop) (M : MS) : Prop := Q (0 : Int32) M
set_option maxHeartbeats 4000000 in
theorem b_X11_isNot_21 {b0 z0 : Nat} {M0 : MS} {Q : Int32 → MS → Prop} (C : Cx p s m meth c D T Z "EndingTownModel" cX11_isNot 4 (some .boolean)) : ∀ (M : MS) (H : Heap) (locs : List Loc) (cells slots : Nat) (ls : Array Slot), w_X11_isNot_21 Q M → HI (twd D T Z) (mG b0 z0 M0) s (rmX (twd D T Z) 0 0 (mG b0 z0 M0)) H locs cells slots (mG b0 z0 M) → LH ls 4 [] → W p l e (rmX (twd D T Z) 0 0 (mG b0 z0 M0)) s m args below meth c H locs cells slots (MQX (twd D T Z) (mG b0 z0 M0) (mq b0 z0 (qI Q)) (fun _ _ => False) below s) (F0 m 21 ls []) := by
  intro M H locs cells slots ls h I hl
  refine lv_iconst (v := 0) C.1 C.2.1 dX11_isNot_21 (by decide) ?_
  exact r_int C.1 C.2.1 C.2.2.2.2.2.1 rfl C.2.2.2.2.2.2 ⟨rfl, rfl⟩ I dX11_isNot_22 ⟨_, rfl, _, rfl, h⟩
def w_X11_isNot_25 (Q : Int32 → MS → Prop) : Nat → Int32 → Int32 → MS → Prop
  | 0 => fun _ _ _ => False
  | f25 + 1 => fun l1 l3 M => vp_in ((0 : Int32)) (mlen 10) ∧ ((mA M 10 ((0 : Int32)).toNatClampNeg ≤ l3) → (Q (1 : Int32) M)) ∧ ((¬ mA M 10 ((0 : Int32)).toNatClampNeg ≤ l3) → (vp_in ((l1 + l3)) (mlen 16) ∧ vp_in (((1 : Int32) + l3)) (mlen 10) ∧ ((mA M 16 ((l1 + l3)).toNatClampNeg = mA M 10 (((1 : Int32) + l3)).toNatClampNeg) → ((w_X11_isNot_25 Q f25) l1 ((l3 + 1)) M)) ∧ ((¬ mA M 16 ((l1 + l3)).toNatClampNeg = mA M 10 (((1 : Int32) + l3)).toNatClampNeg) → (Q (0 : Int32) M))))
set_option maxHeartbeats 4000000 in
theorem b_X11_isNot_25 {b0 z0 : Nat} {M0 : MS} {Q : Int32 → MS → Prop} (C : Cx p s m meth c D T Z "EndingTownModel" cX11_isNot 4 (some .boolean)) : ∀ (n : Nat) (l1 : Int32) (l3 : Int32) (M : MS) (H : Heap) (locs : List Loc) (cells slots : Nat) (ls : Array Slot), w_X11_isNot_25 Q n l1 l3 M → HI (twd D T Z) (mG b0 z0 M0) s (rmX (twd D T Z) 0 0 (mG b0 z0 M0)) H locs cells slots (mG b0 z0 M) → LH ls 4 [(0, .inr (.inl (some b0))), (1, .inl l1), (3, .inl l3)] → W p l e (rmX (twd D T Z) 0 0 (mG b0 z0 M0)) s m args below meth c H locs cells slots (MQX (twd D T Z) (mG b0 z0 M0) (mq b0 z0 (qI Q)) (fun _ _ => False) below s) (F0 m 25 ls []) := by
  intro n
  induction n with
  | zero => intro l1 l3 M H locs cells slots ls h; exact (show False from h).elim
  | succ n ih =>
    intro l1 l3 M H locs cells slots ls h I hl
    have hk25 := ih
    refine l_ild_n C dX11_isNot_25 hl 2 rfl rfl ?_
    refine l_ald_n (x := some b0) C dX11_isNot_26 hl 0 rfl rfl ?_
    refine f_A C I (fl_X11_23) (by decide) (by decide) dX11_isNot_27 ?_
    refine lv_iconst (v := 0) C.1 C.2.1 dX11_isNot_30 (by decide) ?_
    obtain ⟨hi, h⟩ := h
    refine f_ld (k := 10) C I (by decide) hi dX11_isNot_31 ?_
    refine lv_icmp_ge (tgt := 62) C.1 C.2.1 dX11_isNot_32 (by decide) (fun c2 => ?_) (fun c2 => ?_)
    · have h := h.1 c2
      refine lv_iconst (v := 1) C.1 C.2.1 dX11_isNot_62 (by decide) ?_
      exact r_int C.1 C.2.1 C.2.2.2.2.2.1 rfl C.2.2.2.2.2.2 ⟨rfl, rfl⟩ I dX11_isNot_63 ⟨_, rfl, _, rfl, h⟩
    · have h := h.2 c2
      refine l_ald_n (x := some b0) C dX11_isNot_35 hl 0 rfl rfl ?_
      refine f_A C I (fl_X11_41) (by decide) (by decide) dX11_isNot_36 ?_
      refine l_ild_n C dX11_isNot_39 hl 1 rfl rfl ?_
      refine l_ild_n C dX11_isNot_40 hl 2 rfl rfl ?_
      refine lv_iadd C.1 C.2.1 dX11_isNot_41 ?_
      obtain ⟨hi, h⟩ := h
      refine f_ld (k := 16) C I (by decide) hi dX11_isNot_42 ?_
      refine l_ald_n (x := some b0) C dX11_isNot_43 hl 0 rfl rfl ?_
      refine f_A C I (fl_X11_23) (by decide) (by decide) dX11_isNot_44 ?_
      refine lv_iconst (v := 1) C.1 C.2.1 dX11_isNot_47 (by decide) ?_
      refine l_ild_n C dX11_isNot_48 hl 2 rfl rfl ?_
      refine lv_iadd C.1 C.2.1 dX11_isNot_49 ?_
      obtain ⟨hi, h⟩ := h
      refine f_ld (k := 10) C I (by decide) hi dX11_isNot_50 ?_
      refine lv_icmp_eq (tgt := 56) C.1 C.2.1 dX11_isNot_51 (by decide) (fun c1 => ?_) (fun c1 => ?_)
      · have h := h.1 c1
        refine l_inc (q := 2) (v := 1) C dX11_isNot_56 hl rfl (by decide) (by decide) rfl (fun ls hl => ?_)
        have hl : LH ls 4 [(3, .inl ((l3 + 1))), (0, .inr (.inl (some b0))), (1, .inl l1)] := hl
        refine lv_goto (tgt := 25) C.1 C.2.1 dX11_isNot_59 (by decide) ?_
        exact hk25 l1 ((l3 + 1)) M _ _ _ _ _ h I (hl.sub [1, 2, 0] rfl)
      · have h := h.2 c1
        refine lv_iconst (v := 0) C.1 C.2.1 dX11_isNot_54 (by decide) ?_
        exact r_int C.1 C.2.1 C.2.2.2.2.2.1 rfl C.2.2.2.2.2.2 ⟨rfl, rfl⟩ I dX11_isNot_55 ⟨_, rfl, _, rfl, h⟩
def w_X11_isNot (Q : Int32 → MS → Prop) (p0 : Int32) (p1 : Int32) (M : MS) : Prop := vp_in ((0 : Int32)) (mlen 10) ∧ ((mA M 10 ((0 : Int32)).toNatClampNeg = 0) → (w_X11_isNot_21 Q M)) ∧ ((¬ mA M 10 ((0 : Int32)).toNatClampNeg = 0) → (vp_in ((0 : Int32)) (mlen 10) ∧ (((p1 - p0) = mA M 10 ((0 : Int32)).toNatClampNeg) → (∃ n, w_X11_isNot_25 Q n p0 ((0 : Int32)) M)) ∧ ((¬ (p1 - p0) = mA M 10 ((0 : Int32)).toNatClampNeg) → (w_X11_isNot_21 Q M))))
theorem pd_X11_isNot : (parseMethodDescriptor yX11_isNot.desc).map (fun d => d.parameters.length) = some 2 := by decide +kernel
set_option maxHeartbeats 4000000 in
theorem ct_X11_isNot {l : Launch} {D : va_G} {T : Nat → ClassId} {Z : Heap} {b0 z0 : Nat} {M0 : MS} {Q : Int32 → MS → Prop} {p0 : Int32} {p1 : Int32} (hw : w_X11_isNot Q p0 p1 M0) : CT (twd D T Z) (Evd D T Z) l yX11_isNot (Cond.code yX11_isNot cX11_isNot 4 (some .boolean)) 0 0 [va_rf (some b0), .int p0, .int p1] (mG b0 z0 M0) (mq b0 z0 (qI Q)) (fun _ _ => False) := by
  refine CT.ofW (cc := cX11_isNot) (nL := 4) (ret := (some .boolean)) Ext.rf (by decide) (Or.inl rfl) ?_
  intro p e s m below meth c hx hb hml hown hr hlk hnm hcb hm hc hn hE I
  have C : Cx p s m meth c D T Z "EndingTownModel" cX11_isNot 4 (some .boolean) := ⟨hx, hb, hml, hown, hE, hr, hlk⟩
  refine w_entry [.inr (.inl (some b0)), .inl p0, .inl p1] (Nat.le_of_ble_eq_true rfl) (fun ls hl => ?_)
  have hl : LH ls 4 [(0, .inr (.inl (some b0))), (1, .inl p0), (2, .inl p1)] := hl
  have h := hw
  refine l_ald_n (x := some b0) C dX11_isNot_0 hl 0 rfl rfl ?_
  refine f_A C I (fl_X11_23) (by decide) (by decide) dX11_isNot_1 ?_
  refine lv_iconst (v := 0) C.1 C.2.1 dX11_isNot_4 (by decide) ?_
  obtain ⟨hi, h⟩ := h
  refine f_ld (k := 10) C I (by decide) hi dX11_isNot_5 ?_
  refine lv_if_eq (tgt := 21) C.1 C.2.1 dX11_isNot_6 (by decide) (fun c2 => ?_) (fun c2 => ?_)
  · have h := h.1 c2
    exact b_X11_isNot_21 C M0 _ _ _ _ _ h I (hl.sub [] rfl)
  · have h := h.2 c2
    refine l_ild_n C dX11_isNot_9 hl 2 rfl rfl ?_
    refine l_ild_n C dX11_isNot_10 hl 1 rfl rfl ?_
    refine lv_isub C.1 C.2.1 dX11_isNot_11 ?_
    refine l_ald_n (x := some b0) C dX11_isNot_12 hl 0 rfl rfl ?_
    refine f_A C I (fl_X11_23) (by decide) (by decide) dX11_isNot_13 ?_
    refine lv_iconst (v := 0) C.1 C.2.1 dX11_isNot_16 (by decide) ?_
    obtain ⟨hi, h⟩ := h
    refine f_ld (k := 10) C I (by decide) hi dX11_isNot_17 ?_
    refine lv_icmp_eq (tgt := 23) C.1 C.2.1 dX11_isNot_18 (by decide) (fun c1 => ?_) (fun c1 => ?_)
    · have h := h.1 c1
      refine lv_iconst (v := 0) C.1 C.2.1 dX11_isNot_23 (by decide) ?_
      refine l_ist_n C dX11_isNot_24 rfl hl (by decide) rfl (fun ls hl => ?_)
      have hl : LH ls 4 [(3, .inl ((0 : Int32))), (0, .inr (.inl (some b0))), (1, .inl p0), (2, .inl p1)] := hl
      obtain ⟨n, h⟩ := h
      exact b_X11_isNot_25 C n p0 ((0 : Int32)) M0 _ _ _ _ _ h I (hl.sub [1, 2, 0] rfl)
    · have h := h.2 c1
      exact b_X11_isNot_21 C M0 _ _ _ _ _ h I (hl.sub [] rfl)
def w_X11_lettersTo_25 (Q : Int32 → MS → Prop) (l3 : Int32) (M : MS) : Prop := Q l3 M
set_option maxHeartbeats 4000000 in
theorem b_X11_lettersTo_25 {b0 z0 : Nat} {M0 : MS} {Q : Int32 → MS → Prop} (C : Cx p s m meth c D T Z "EndingTownModel" cX11_lettersTo 4 (some .int)) : ∀ (l3 : Int32) (M : MS) (H : Heap) (locs : List Loc) (cells slots : Nat) (ls : Array Slot), w_X11_lettersTo_25 Q l3 M → HI (twd D T Z) (mG b0 z0 M0) s (rmX (twd D T Z) 1 20 (mG b0 z0 M0)) H locs cells slots (mG b0 z0 M) → LH ls 4 [(3, .inl l3)] → W p l e (rmX (twd D T Z) 1 20 (mG b0 z0 M0)) s m args below meth c H locs cells slots (MQX (twd D T Z) (mG b0 z0 M0) (mq b0 z0 (qI Q)) (fun _ _ => False) below s) (F0 m 25 ls []) := by
  intro l3 M H locs cells slots ls h I hl
  refine l_ild_n C dX11_lettersTo_25 hl 0 rfl rfl ?_
  exact r_int C.1 C.2.1 C.2.2.2.2.2.1 rfl C.2.2.2.2.2.2 ⟨rfl, rfl⟩ I dX11_lettersTo_26 ⟨_, rfl, _, rfl, h⟩
def w_X11_lettersTo_2 (Q : Int32 → MS → Prop) : Nat → Int32 → Int32 → MS → Prop
  | 0 => fun _ _ _ => False
  | f2 + 1 => fun l2 l3 M => ((l2 ≤ l3) → (w_X11_lettersTo_25 Q l3 M)) ∧ ((¬ l2 ≤ l3) → (vp_in l3 (mlen 16) ∧ w_X11_isLetter (fun r2 M1 => ((r2 = 0) → (w_X11_lettersTo_25 Q l3 M1)) ∧ ((¬ r2 = 0) → ((w_X11_lettersTo_2 Q f2) l2 ((l3 + 1)) M1))) (mA M 16 l3.toNatClampNeg) M))
set_option maxHeartbeats 4000000 in
theorem b_X11_lettersTo_2 {b0 z0 : Nat} {M0 : MS} {Q : Int32 → MS → Prop} (C : Cx p s m meth c D T Z "EndingTownModel" cX11_lettersTo 4 (some .int)) : ∀ (n : Nat) (l2 : Int32) (l3 : Int32) (M : MS) (H : Heap) (locs : List Loc) (cells slots : Nat) (ls : Array Slot), w_X11_lettersTo_2 Q n l2 l3 M → HI (twd D T Z) (mG b0 z0 M0) s (rmX (twd D T Z) 1 20 (mG b0 z0 M0)) H locs cells slots (mG b0 z0 M) → LH ls 4 [(0, .inr (.inl (some b0))), (2, .inl l2), (3, .inl l3)] → W p l e (rmX (twd D T Z) 1 20 (mG b0 z0 M0)) s m args below meth c H locs cells slots (MQX (twd D T Z) (mG b0 z0 M0) (mq b0 z0 (qI Q)) (fun _ _ => False) below s) (F0 m 2 ls []) := by
  intro n
  induction n with
  | zero => intro l2 l3 M H locs cells slots ls h; exact (show False from h).elim
  | succ n ih =>
    intro l2 l3 M H locs cells slots ls h I hl
    have hk2 := ih
    refine l_ild_n C dX11_lettersTo_2 hl 2 rfl rfl ?_
    refine l_ild_n C dX11_lettersTo_3 hl 1 rfl rfl ?_
    refine lv_icmp_ge (tgt := 25) C.1 C.2.1 dX11_lettersTo_4 (by decide) (fun c4 => ?_) (fun c4 => ?_)
    · have h := h.1 c4
      exact b_X11_lettersTo_25 C l3 M _ _ _ _ _ h I (hl.sub [2] rfl)
    · have h := h.2 c4
      refine l_ald_n (x := some b0) C dX11_lettersTo_7 hl 0 rfl rfl ?_
      refine f_A C I (fl_X11_41) (by decide) (by decide) dX11_lettersTo_8 ?_
      refine l_ild_n C dX11_lettersTo_11 hl 2 rfl rfl ?_
      obtain ⟨hi, h⟩ := h
      refine f_ld (k := 16) C I (by decide) hi dX11_lettersTo_12 ?_
      refine k_call Ext.tr C I (k_S (As := [.int (mA M 16 l3.toNatClampNeg)]) (rest := []) (y := yX11_isLetter) C q1619 q1620 q113 (Or.inl rfl) q1621 (by decide) rfl pd_X11_isLetter rfl dX11_lettersTo_13) (ct_X11_isLetter h) hl.1 dX11_lettersTo_13 [] rfl (Nat.le_of_ble_eq_true rfl) (Or.inl rfl) q1621 q113 ⟨Nat.le_of_ble_eq_true rfl, Nat.le_of_ble_eq_true rfl⟩ (fun v x1 H locs cells slots ex hq I => ?_) (fun a x1 H locs cells slots ex hq I => hq.elim)
      obtain ⟨M1, rfl, r2, rfl, h⟩ := hq
      refine lv_if_eq (tgt := 25) C.1 C.2.1 dX11_lettersTo_16 (by decide) (fun c3 => ?_) (fun c3 => ?_)
      · have h := h.1 c3
        exact b_X11_lettersTo_25 C l3 M1 _ _ _ _ _ h I (hl.sub [2] rfl)
      · have h := h.2 c3
        refine l_inc (q := 2) (v := 1) C dX11_lettersTo_19 hl rfl (by decide) (by decide) rfl (fun ls hl => ?_)
        have hl : LH ls 4 [(3, .inl ((l3 + 1))), (0, .inr (.inl (some b0))), (2, .inl l2)] := hl
        refine lv_goto (tgt := 2) C.1 C.2.1 dX11_lettersTo_22 (by decide) ?_
        exact hk2 l2 ((l3 + 1)) M1 _ _ _ _ _ h I (hl.sub [1, 2, 0] rfl)
def w_X11_lettersTo (Q : Int32 → MS → Prop) (p0 : Int32) (p1 : Int32) (M : MS) : Prop := ∃ n, w_X11_lettersTo_2 Q n p1 p0 M
theorem pd_X11_lettersTo : (parseMethodDescriptor yX11_lettersTo.desc).map (fun d => d.parameters.length) = some 2 := by decide +kernel
set_option maxHeartbeats 4000000 in
theorem ct_X11_lettersTo {l : Launch} {D : va_G} {T : Nat → ClassId} {Z : Heap} {b0 z0 : Nat} {M0 : MS} {Q : Int32 → MS → Prop} {p0 : Int32} {p1 : Int32} (hw : w_X11_lettersTo Q p0 p1 M0) : CT (twd D T Z) (Evd D T Z) l yX11_lettersTo (Cond.code yX11_lettersTo cX11_lettersTo 4 (some .int)) 1 20 [va_rf (some b0), .int p0, .int p1] (mG b0 z0 M0) (mq b0 z0 (qI Q)) (fun _ _ => False) := by
  refine CT.ofW (cc := cX11_lettersTo) (nL := 4) (ret := (some .int)) Ext.rf (by decide) (Or.inl rfl) ?_
  intro p e s m below meth c hx hb hml hown hr hlk hnm hcb hm hc hn hE I
  have C : Cx p s m meth c D T Z "EndingTownModel" cX11_lettersTo 4 (some .int) := ⟨hx, hb, hml, hown, hE, hr, hlk⟩
  refine w_entry [.inr (.inl (some b0)), .inl p0, .inl p1] (Nat.le_of_ble_eq_true rfl) (fun ls hl => ?_)
  have hl : LH ls 4 [(0, .inr (.inl (some b0))), (1, .inl p0), (2, .inl p1)] := hl
  have h := hw
  refine l_ild_n C dX11_lettersTo_0 hl 1 rfl rfl ?_
  refine l_ist_n C dX11_lettersTo_1 rfl hl (by decide) rfl (fun ls hl => ?_)
  have hl : LH ls 4 [(3, .inl p0), (0, .inr (.inl (some b0))), (1, .inl p0), (2, .inl p1)] := hl
  obtain ⟨n, h⟩ := h
  exact b_X11_lettersTo_2 C n p1 p0 M0 _ _ _ _ _ h I (hl.sub [1, 3, 0] rfl)
def w_X11_utter_39 (Q : Int32 → MS → Prop) (M : MS) : Prop := Q ((0 : Int32)) M
set_option maxHeartbeats 4000000 in
theorem b_X11_utter_39 {b0 z0 : Nat} {M0 : MS} {Q : Int32 → MS → Prop} (C : Cx p s m meth c D T Z "EndingTownModel" cX11_utter 13 (some .int)) : ∀ (M : MS) (H : Heap) (locs : List Loc) (cells slots : Nat) (ls : Array Slot), w_X11_utter_39 Q M → HI (twd D T Z) (mG b0 z0 M0) s (rmX (twd D T Z) 3 76 (mG b0 z0 M0)) H locs cells slots (mG b0 z0 M) → LH ls 13 [] → W p l e (rmX (twd D T Z) 3 76 (mG b0 z0 M0)) s m args below meth c H locs cells slots (MQX (twd D T Z) (mG b0 z0 M0) (mq b0 z0 (qI Q)) (fun _ _ => False) below s) (F0 m 39 ls []) := by
  intro M H locs cells slots ls h I hl
  refine lv_iconst (v := 0) C.1 C.2.1 dX11_utter_39 (by decide) ?_
  exact r_int C.1 C.2.1 C.2.2.2.2.2.1 rfl C.2.2.2.2.2.2 ⟨rfl, rfl⟩ I dX11_utter_40 ⟨_, rfl, _, rfl, h⟩
def w_X11_utter_144 (Q : Int32 → MS → Prop) (M : MS) : Prop := w_X11_refuses (fun r2 M1 => Q r2 M1) ((1 : Int32)) M
set_option maxHeartbeats 4000000 in
theorem b_X11_utter_144 {b0 z0 : Nat} {M0 : MS} {Q : Int32 → MS → Prop} (C : Cx p s m meth c D T Z "EndingTownModel" cX11_utter 13 (some .int)) : ∀ (M : MS) (H : Heap) (locs : List Loc) (cells slots : Nat) (ls : Array Slot), w_X11_utter_144 Q M → HI (twd D T Z) (mG b0 z0 M0) s (rmX (twd D T Z) 3 76 (mG b0 z0 M0)) H locs cells slots (mG b0 z0 M) → LH ls 13 [(0, .inr (.inl (some b0)))] → W p l e (rmX (twd D T Z) 3 76 (mG b0 z0 M0)) s m args below meth c H locs cells slots (MQX (twd D T Z) (mG b0 z0 M0) (mq b0 z0 (qI Q)) (fun _ _ => False) below s) (F0 m 144 ls []) := by
  intro M H locs cells slots ls h I hl
  refine l_ald_n (x := some b0) C dX11_utter_144 hl 0 rfl rfl ?_
  refine lv_iconst (v := 1) C.1 C.2.1 dX11_utter_145 (by decide) ?_
  refine k_call Ext.tr C I (k_V (r := some b0) (As := [.int ((1 : Int32))]) (rest := []) (y := yX11_refuses) C (f_recv C I) q1757 q1759 qs73 (Or.inl rfl) q1760 (by decide) rfl pd_X11_refuses rfl dX11_utter_146) (ct_X11_refuses h) hl.1 dX11_utter_146 [] rfl (Nat.le_of_ble_eq_true rfl) (Or.inl rfl) q1760 q113 ⟨Nat.le_of_ble_eq_true rfl, Nat.le_of_ble_eq_true rfl⟩ (fun v x1 H locs cells slots ex hq I => ?_) (fun a x1 H locs cells slots ex hq I => hq.elim)
  obtain ⟨M1, rfl, r2, rfl, h⟩ := hq
  exact r_int C.1 C.2.1 C.2.2.2.2.2.1 rfl C.2.2.2.2.2.2 ⟨rfl, rfl⟩ I dX11_utter_149 ⟨_, rfl, _, rfl, h⟩
def w_X11_utter_244 (Q : Int32 → MS → Prop) (M : MS) : Prop := w_X11_refuses (fun r2 M1 => Q r2 M1) ((1 : Int32)) M
set_option maxHeartbeats 4000000 in
theorem b_X11_utter_244 {b0 z0 : Nat} {M0 : MS} {Q : Int32 → MS → Prop} (C : Cx p s m meth c D T Z "EndingTownModel" cX11_utter 13 (some .int)) : ∀ (M : MS) (H : Heap) (locs : List Loc) (cells slots : Nat) (ls : Array Slot), w_X11_utter_244 Q M → HI (twd D T Z) (mG b0 z0 M0) s (rmX (twd D T Z) 3 76 (mG b0 z0 M0)) H locs cells slots (mG b0 z0 M) → LH ls 13 [(0, .inr (.inl (some b0)))] → W p l e (rmX (twd D T Z) 3 76 (mG b0 z0 M0)) s m args below meth c H locs cells slots (MQX (twd D T Z) (mG b0 z0 M0) (mq b0 z0 (qI Q)) (fun _ _ => False) below s) (F0 m 244 ls []) := by
  intro M H locs cells slots ls h I hl
  refine l_ald_n (x := some b0) C dX11_utter_244 hl 0 rfl rfl ?_
  refine lv_iconst (v := 1) C.1 C.2.1 dX11_utter_245 (by decide) ?_
  refine k_call Ext.tr C I (k_V (r := some b0) (As := [.int ((1 : Int32))]) (rest := []) (y := yX11_refuses) C (f_recv C I) q1757 q1759 qs73 (Or.inl rfl) q1760 (by decide) rfl pd_X11_refuses rfl dX11_utter_246) (ct_X11_refuses h) hl.1 dX11_utter_246 [] rfl (Nat.le_of_ble_eq_true rfl) (Or.inl rfl) q1760 q113 ⟨Nat.le_of_ble_eq_true rfl, Nat.le_of_ble_eq_true rfl⟩ (fun v x1 H locs cells slots ex hq I => ?_) (fun a x1 H locs cells slots ex hq I => hq.elim)
  obtain ⟨M1, rfl, r2, rfl, h⟩ := hq
  exact r_int C.1 C.2.1 C.2.2.2.2.2.1 rfl C.2.2.2.2.2.2 ⟨rfl, rfl⟩ I dX11_utter_249 ⟨_, rfl, _, rfl, h⟩
def w_X11_utter_298 (Q : Int32 → MS → Prop) (t0 : Int32) (t1 : Int32) (t2 : Int32) (t3 : Int32) (t4 : Int32) (M : MS) : Prop := w_X11_adds5 (fun r2 M1 => Q r2 M1) t4 t3 t2 t1 t0 M
set_option maxHeartbeats 4000000 in
theorem b_X11_utter_298 {b0 z0 : Nat} {M0 : MS} {Q : Int32 → MS → Prop} (C : Cx p s m meth c D T Z "EndingTownModel" cX11_utter 13 (some .int)) : ∀ (t0 : Int32) (t1 : Int32) (t2 : Int32) (t3 : Int32) (t4 : Int32) (M : MS) (H : Heap) (locs : List Loc) (cells slots : Nat) (ls : Array Slot), w_X11_utter_298 Q t0 t1 t2 t3 t4 M → HI (twd D T Z) (mG b0 z0 M0) s (rmX (twd D T Z) 3 76 (mG b0 z0 M0)) H locs cells slots (mG b0 z0 M) → LH ls 13 [] → W p l e (rmX (twd D T Z) 3 76 (mG b0 z0 M0)) s m args below meth c H locs cells slots (MQX (twd D T Z) (mG b0 z0 M0) (mq b0 z0 (qI Q)) (fun _ _ => False) below s) (F0 m 298 ls [.int t0, .int t1, .int t2, .int t3, .int t4, va_rf (some b0)]) := by
  intro t0 t1 t2 t3 t4 M H locs cells slots ls h I hl
  refine k_call Ext.tr C I (k_V (r := some b0) (As := [.int t4, .int t3, .int t2, .int t1, .int t0]) (rest := []) (y := yX11_adds5) C (f_recv C I) q1761 q1763 qs74 (Or.inl rfl) q1764 (by decide) rfl pd_X11_adds5 rfl dX11_utter_298) (ct_X11_adds5 h) hl.1 dX11_utter_298 [] rfl (Nat.le_of_ble_eq_true rfl) (Or.inl rfl) q1764 q113 ⟨Nat.le_of_ble_eq_true rfl, Nat.le_of_ble_eq_true rfl⟩ (fun v x1 H locs cells slots ex hq I => ?_) (fun a x1 H locs cells slots ex hq I => hq.elim)
  obtain ⟨M1, rfl, r2, rfl, h⟩ := hq
  exact r_int C.1 C.2.1 C.2.2.2.2.2.1 rfl C.2.2.2.2.2.2 ⟨rfl, rfl⟩ I dX11_utter_301 ⟨_, rfl, _, rfl, h⟩
def w_X11_utter_253 (Q : Int32 → MS → Prop) : Nat → Int32 → Int32 → Int32 → Int32 → Int32 → MS → Prop
  | 0 => fun _ _ _ _ _ _ => False
  | f253 + 1 => fun l1 l2 l8 l11 l12 M => ((mF M 5 ≤ l12) → (w_X11_refuses (fun r2 M1 => Q r2 M1) ((1 : Int32)) M)) ∧ ((¬ mF M 5 ≤ l12) → (vp_in (((5 : Int32) * l12)) (mlen 11) ∧ ((¬ mA M 11 (((5 : Int32) * l12)).toNatClampNeg = (l11 / (15 : Int32))) → ((w_X11_utter_253 Q f253) l1 l2 l8 l11 ((l12 + 1)) M)) ∧ ((mA M 11 (((5 : Int32) * l12)).toNatClampNeg = (l11 / (15 : Int32))) → (((l8 = 0) → (w_X11_utter_298 Q ((0 : Int32)) ((l11 - l11 / (5 : Int32) * (5 : Int32))) l12 l2 l1 M)) ∧ ((¬ l8 = 0) → (w_X11_utter_298 Q ((1 : Int32)) ((l11 - l11 / (5 : Int32) * (5 : Int32))) l12 l2 l1 M))))))
set_option maxHeartbeats 4000000 in
theorem b_X11_utter_253 {b0 z0 : Nat} {M0 : MS} {Q : Int32 → MS → Prop} (C : Cx p s m meth c D T Z "EndingTownModel" cX11_utter 13 (some .int)) : ∀ (n : Nat) (l1 : Int32) (l2 : Int32) (l8 : Int32) (l11 : Int32) (l12 : Int32) (M : MS) (H : Heap) (locs : List Loc) (cells slots : Nat) (ls : Array Slot), w_X11_utter_253 Q n l1 l2 l8 l11 l12 M → HI (twd D T Z) (mG b0 z0 M0) s (rmX (twd D T Z) 3 76 (mG b0 z0 M0)) H locs cells slots (mG b0 z0 M) → LH ls 13 [(0, .inr (.inl (some b0))), (1, .inl l1), (2, .inl l2), (8, .inl l8), (11, .inl l11), (12, .inl l12)] → W p l e (rmX (twd D T Z) 3 76 (mG b0 z0 M0)) s m args below meth c H locs cells slots (MQX (twd D T Z) (mG b0 z0 M0) (mq b0 z0 (qI Q)) (fun _ _ => False) below s) (F0 m 253 ls []) := by
  intro n
  induction n with
  | zero => intro l1 l2 l8 l11 l12 M H locs cells slots ls h; exact (show False from h).elim
  | succ n ih =>
    intro l1 l2 l8 l11 l12 M H locs cells slots ls h I hl
    have hk253 := ih
    refine l_ild C dX11_utter_253 hl 5 rfl ?_
    refine l_ald_n (x := some b0) C dX11_utter_255 hl 0 rfl rfl ?_
    refine f_I C I (fl_X11_269) (by decide) dX11_utter_256 ?_
    refine lv_icmp_ge (tgt := 308) C.1 C.2.1 dX11_utter_259 (by decide) (fun c5 => ?_) (fun c5 => ?_)
    · have h := h.1 c5
      refine l_ald_n (x := some b0) C dX11_utter_308 hl 0 rfl rfl ?_
      refine lv_iconst (v := 1) C.1 C.2.1 dX11_utter_309 (by decide) ?_
      refine k_call Ext.tr C I (k_V (r := some b0) (As := [.int ((1 : Int32))]) (rest := []) (y := yX11_refuses) C (f_recv C I) q1757 q1759 qs73 (Or.inl rfl) q1760 (by decide) rfl pd_X11_refuses rfl dX11_utter_310) (ct_X11_refuses h) hl.1 dX11_utter_310 [] rfl (Nat.le_of_ble_eq_true rfl) (Or.inl rfl) q1760 q113 ⟨Nat.le_of_ble_eq_true rfl, Nat.le_of_ble_eq_true rfl⟩ (fun v x1 H locs cells slots ex hq I => ?_) (fun a x1 H locs cells slots ex hq I => hq.elim)
      obtain ⟨M1, rfl, r2, rfl, h⟩ := hq
      exact r_int C.1 C.2.1 C.2.2.2.2.2.1 rfl C.2.2.2.2.2.2 ⟨rfl, rfl⟩ I dX11_utter_313 ⟨_, rfl, _, rfl, h⟩
    · have h := h.2 c5
      refine l_ald_n (x := some b0) C dX11_utter_262 hl 0 rfl rfl ?_
      refine f_A C I (fl_X11_26) (by decide) (by decide) dX11_utter_263 ?_
      refine lv_iconst (v := 5) C.1 C.2.1 dX11_utter_266 (by decide) ?_
      refine l_ild C dX11_utter_267 hl 5 rfl ?_
      refine lv_imul C.1 C.2.1 dX11_utter_269 ?_
      obtain ⟨hi, h⟩ := h
      refine f_ld (k := 11) C I (by decide) hi dX11_utter_270 ?_
      refine l_ild C dX11_utter_271 hl 4 rfl ?_
      refine lv_bipush (v := 15) C.1 C.2.1 dX11_utter_273 (by decide) ?_
      refine lv_idiv C.1 C.2.1 dX11_utter_275 (by decide) ?_
      refine lv_icmp_ne (tgt := 302) C.1 C.2.1 dX11_utter_276 (by decide) (fun c4 => ?_) (fun c4 => ?_)
      · have h := h.1 c4
        refine l_inc (q := 5) (v := 1) C dX11_utter_302 hl rfl (by decide) (by decide) rfl (fun ls hl => ?_)
        have hl : LH ls 13 [(12, .inl ((l12 + 1))), (0, .inr (.inl (some b0))), (1, .inl l1), (2, .inl l2), (8, .inl l8), (11, .inl l11)] := hl
        refine lv_goto (tgt := 253) C.1 C.2.1 dX11_utter_305 (by decide) ?_
        exact hk253 l1 l2 l8 l11 ((l12 + 1)) M _ _ _ _ _ h I (hl.sub [1, 2, 3, 4, 5, 0] rfl)
      · have h := h.2 c4
        refine l_ald_n (x := some b0) C dX11_utter_279 hl 0 rfl rfl ?_
        refine l_ild_n C dX11_utter_280 hl 1 rfl rfl ?_
        refine l_ild_n C dX11_utter_281 hl 2 rfl rfl ?_
        refine l_ild C dX11_utter_282 hl 5 rfl ?_
        refine l_ild C dX11_utter_284 hl 4 rfl ?_
        refine lv_iconst (v := 5) C.1 C.2.1 dX11_utter_286 (by decide) ?_
        refine lv_irem C.1 C.2.1 dX11_utter_287 (by decide) ?_
        refine l_ild C dX11_utter_288 hl 3 rfl ?_
        refine lv_if_eq (tgt := 297) C.1 C.2.1 dX11_utter_290 (by decide) (fun c3 => ?_) (fun c3 => ?_)
        · have h := h.1 c3
          refine lv_iconst (v := 0) C.1 C.2.1 dX11_utter_297 (by decide) ?_
          exact b_X11_utter_298 C ((0 : Int32)) ((l11 - l11 / (5 : Int32) * (5 : Int32))) l12 l2 l1 M _ _ _ _ _ h I (hl.sub [] rfl)
        · have h := h.2 c3
          refine lv_iconst (v := 1) C.1 C.2.1 dX11_utter_293 (by decide) ?_
          refine lv_goto (tgt := 298) C.1 C.2.1 dX11_utter_294 (by decide) ?_
          exact b_X11_utter_298 C ((1 : Int32)) ((l11 - l11 / (5 : Int32) * (5 : Int32))) l12 l2 l1 M _ _ _ _ _ h I (hl.sub [] rfl)
def w_X11_utter_193 (Q : Int32 → MS → Prop) (l1 : Int32) (l2 : Int32) (l8 : Int32) (l9 : Int32) (t0 : Int32) (t1 : Int32) (M : MS) : Prop := w_X11_finds (fun M1 => vp_in ((0 : Int32)) (mlen 47) ∧ ∀ M3 : MS, M3 = sF M1 49 l9 → w_X11_copies (fun M4 => ((¬ mF M1 49 = (1 : Int32)) → (w_X11_utter_244 Q M4)) ∧ ((mF M1 49 = (1 : Int32)) → (((((mA M1 47 ((0 : Int32)).toNatClampNeg / (5 : Int32)) - (mA M1 47 ((0 : Int32)).toNatClampNeg / (5 : Int32)) / (3 : Int32) * (3 : Int32)) = (2 : Int32)) → (∃ n, w_X11_utter_253 Q n l1 l2 l8 (mA M1 47 ((0 : Int32)).toNatClampNeg) ((0 : Int32)) M4)) ∧ ((¬ ((mA M1 47 ((0 : Int32)).toNatClampNeg / (5 : Int32)) - (mA M1 47 ((0 : Int32)).toNatClampNeg / (5 : Int32)) / (3 : Int32) * (3 : Int32)) = (2 : Int32)) → (w_X11_utter_244 Q M4))))) 52 47 M3) t1 t0 M
set_option maxHeartbeats 4000000 in
theorem b_X11_utter_193 {b0 z0 : Nat} {M0 : MS} {Q : Int32 → MS → Prop} (C : Cx p s m meth c D T Z "EndingTownModel" cX11_utter 13 (some .int)) : ∀ (l1 : Int32) (l2 : Int32) (l8 : Int32) (l9 : Int32) (t0 : Int32) (t1 : Int32) (M : MS) (H : Heap) (locs : List Loc) (cells slots : Nat) (ls : Array Slot), w_X11_utter_193 Q l1 l2 l8 l9 t0 t1 M → HI (twd D T Z) (mG b0 z0 M0) s (rmX (twd D T Z) 3 76 (mG b0 z0 M0)) H locs cells slots (mG b0 z0 M) → LH ls 13 [(0, .inr (.inl (some b0))), (1, .inl l1), (2, .inl l2), (8, .inl l8), (9, .inl l9)] → W p l e (rmX (twd D T Z) 3 76 (mG b0 z0 M0)) s m args below meth c H locs cells slots (MQX (twd D T Z) (mG b0 z0 M0) (mq b0 z0 (qI Q)) (fun _ _ => False) below s) (F0 m 193 ls [.int t0, .int t1, va_rf (some b0)]) := by
  intro l1 l2 l8 l9 t0 t1 M H locs cells slots ls h I hl
  refine k_call Ext.tr C I (k_V (r := some b0) (As := [.int t1, .int t0]) (rest := []) (y := yX11_finds) C (f_recv C I) q1745 q1747 qs72 (Or.inl rfl) q1748 (by decide) rfl pd_X11_finds rfl dX11_utter_193) (ct_X11_finds h) hl.1 dX11_utter_193 [] rfl (Nat.le_of_ble_eq_true rfl) (Or.inl rfl) q1748 q113 ⟨Nat.le_of_ble_eq_true rfl, Nat.le_of_ble_eq_true rfl⟩ (fun v x1 H locs cells slots ex hq I => ?_) (fun a x1 H locs cells slots ex hq I => hq.elim)
  obtain ⟨M1, rfl, rfl, h⟩ := hq
  refine l_ald_n (x := some b0) C dX11_utter_196 hl 0 rfl rfl ?_
  refine f_I C I (fl_X11_321) (by decide) dX11_utter_197 ?_
  refine l_ist C dX11_utter_200 hl (by decide) rfl (fun ls hl => ?_)
  have hl : LH ls 13 [(10, .inl (mF M1 49)), (0, .inr (.inl (some b0))), (1, .inl l1), (2, .inl l2), (8, .inl l8), (9, .inl l9)] := hl
  refine l_ald_n (x := some b0) C dX11_utter_202 hl 1 rfl rfl ?_
  refine f_A C I (fl_X11_80) (by decide) (by decide) dX11_utter_203 ?_
  refine lv_iconst (v := 0) C.1 C.2.1 dX11_utter_206 (by decide) ?_
  obtain ⟨hi, h⟩ := h
  refine f_ld (k := 47) C I (by decide) hi dX11_utter_207 ?_
  refine l_ist C dX11_utter_208 hl (by decide) rfl (fun ls hl => ?_)
  have hl : LH ls 13 [(11, .inl (mA M1 47 ((0 : Int32)).toNatClampNeg)), (10, .inl (mF M1 49)), (0, .inr (.inl (some b0))), (1, .inl l1), (2, .inl l2), (8, .inl l8), (9, .inl l9)] := hl
  refine l_ald_n (x := some b0) C dX11_utter_210 hl 2 rfl rfl ?_
  refine l_ild C dX11_utter_211 hl 6 rfl ?_
  refine f_PI C I (fp_X11_321) (by decide) dX11_utter_213 (fit_i _) (fun H locs M3 eM3 I => ?_)
  have h := h M3 eM3
  refine l_ald_n (x := some b0) C dX11_utter_216 hl 2 rfl rfl ?_
  refine l_ald_n (x := some b0) C dX11_utter_217 hl 2 rfl rfl ?_
  refine f_A C I (fl_X11_86) (by decide) (by decide) dX11_utter_218 ?_
  refine l_ald_n (x := some b0) C dX11_utter_221 hl 2 rfl rfl ?_
  refine f_A C I (fl_X11_80) (by decide) (by decide) dX11_utter_222 ?_
  refine k_call Ext.tr C I (k_V (r := some b0) (As := [va_rf (some (b0 + moff 52)), va_rf (some (b0 + moff 47))]) (rest := []) (y := yX11_copies) C (f_recv C I) q1687 q1689 qs65 (Or.inl rfl) q1690 (by decide) rfl pd_X11_copies rfl dX11_utter_225) (ct_X11_copies h) hl.1 dX11_utter_225 [] rfl (Nat.le_of_ble_eq_true rfl) (Or.inl rfl) q1690 q113 ⟨Nat.le_of_ble_eq_true rfl, Nat.le_of_ble_eq_true rfl⟩ (fun v x1 H locs cells slots ex hq I => ?_) (fun a x1 H locs cells slots ex hq I => hq.elim)
  obtain ⟨M4, rfl, rfl, h⟩ := hq
  refine l_ild C dX11_utter_228 hl 1 rfl ?_
  refine lv_iconst (v := 1) C.1 C.2.1 dX11_utter_230 (by decide) ?_
  refine lv_icmp_ne (tgt := 244) C.1 C.2.1 dX11_utter_231 (by decide) (fun c7 => ?_) (fun c7 => ?_)
  · have h := h.1 c7
    exact b_X11_utter_244 C M4 _ _ _ _ _ h I (hl.sub [2] rfl)
  · have h := h.2 c7
    refine l_ild C dX11_utter_234 hl 0 rfl ?_
    refine lv_iconst (v := 5) C.1 C.2.1 dX11_utter_236 (by decide) ?_
    refine lv_idiv C.1 C.2.1 dX11_utter_237 (by decide) ?_
    refine lv_iconst (v := 3) C.1 C.2.1 dX11_utter_238 (by decide) ?_
    refine lv_irem C.1 C.2.1 dX11_utter_239 (by decide) ?_
    refine lv_iconst (v := 2) C.1 C.2.1 dX11_utter_240 (by decide) ?_
    refine lv_icmp_eq (tgt := 250) C.1 C.2.1 dX11_utter_241 (by decide) (fun c6 => ?_) (fun c6 => ?_)
    · have h := h.1 c6
      refine lv_iconst (v := 0) C.1 C.2.1 dX11_utter_250 (by decide) ?_
      refine l_ist C dX11_utter_251 hl (by decide) rfl (fun ls hl => ?_)
      have hl : LH ls 13 [(12, .inl ((0 : Int32))), (11, .inl (mA M1 47 ((0 : Int32)).toNatClampNeg)), (10, .inl (mF M1 49)), (0, .inr (.inl (some b0))), (1, .inl l1), (2, .inl l2), (8, .inl l8), (9, .inl l9)] := hl
      obtain ⟨n, h⟩ := h
      exact b_X11_utter_253 C n l1 l2 l8 (mA M1 47 ((0 : Int32)).toNatClampNeg) ((0 : Int32)) M4 _ _ _ _ _ h I (hl.sub [3, 4, 5, 6, 1, 0] rfl)
    · have h := h.2 c6
      exact b_X11_utter_244 C M4 _ _ _ _ _ h I (hl.sub [2] rfl)
def w_X11_utter_181 (Q : Int32 → MS → Prop) (l1 : Int32) (l2 : Int32) (l5 : Int32) (l7 : Int32) (l8 : Int32) (l9 : Int32) (t0 : Int32) (M : MS) : Prop := ((l8 = 0) → (w_X11_utter_193 Q l1 l2 l8 l9 l5 t0 M)) ∧ ((¬ l8 = 0) → (w_X11_utter_193 Q l1 l2 l8 l9 l7 t0 M))
set_option maxHeartbeats 4000000 in
theorem b_X11_utter_181 {b0 z0 : Nat} {M0 : MS} {Q : Int32 → MS → Prop} (C : Cx p s m meth c D T Z "EndingTownModel" cX11_utter 13 (some .int)) : ∀ (l1 : Int32) (l2 : Int32) (l5 : Int32) (l7 : Int32) (l8 : Int32) (l9 : Int32) (t0 : Int32) (M : MS) (H : Heap) (locs : List Loc) (cells slots : Nat) (ls : Array Slot), w_X11_utter_181 Q l1 l2 l5 l7 l8 l9 t0 M → HI (twd D T Z) (mG b0 z0 M0) s (rmX (twd D T Z) 3 76 (mG b0 z0 M0)) H locs cells slots (mG b0 z0 M) → LH ls 13 [(0, .inr (.inl (some b0))), (1, .inl l1), (2, .inl l2), (5, .inl l5), (7, .inl l7), (8, .inl l8), (9, .inl l9)] → W p l e (rmX (twd D T Z) 3 76 (mG b0 z0 M0)) s m args below meth c H locs cells slots (MQX (twd D T Z) (mG b0 z0 M0) (mq b0 z0 (qI Q)) (fun _ _ => False) below s) (F0 m 181 ls [.int t0, va_rf (some b0)]) := by
  intro l1 l2 l5 l7 l8 l9 t0 M H locs cells slots ls h I hl
  refine l_ild C dX11_utter_181 hl 5 rfl ?_
  refine lv_if_eq (tgt := 191) C.1 C.2.1 dX11_utter_183 (by decide) (fun c1 => ?_) (fun c1 => ?_)
  · have h := h.1 c1
    refine l_ild C dX11_utter_191 hl 3 rfl ?_
    exact b_X11_utter_193 C l1 l2 l8 l9 l5 t0 M _ _ _ _ _ h I (hl.sub [0, 1, 2, 5, 6] rfl)
  · have h := h.2 c1
    refine l_ild C dX11_utter_186 hl 4 rfl ?_
    refine lv_goto (tgt := 193) C.1 C.2.1 dX11_utter_188 (by decide) ?_
    exact b_X11_utter_193 C l1 l2 l8 l9 l7 t0 M _ _ _ _ _ h I (hl.sub [0, 1, 2, 5, 6] rfl)
def w_X11_utter_150 (Q : Int32 → MS → Prop) (l1 : Int32) (l2 : Int32) (l4 : Int32) (l5 : Int32) (l6 : Int32) (l7 : Int32) (l8 : Int32) (M : MS) : Prop := w_X11_copies (fun M1 => ((l8 = 0) → (w_X11_utter_181 Q l1 l2 l5 l7 l8 (mF M 49) l4 M1)) ∧ ((¬ l8 = 0) → (w_X11_utter_181 Q l1 l2 l5 l7 l8 (mF M 49) l6 M1))) 47 52 M
set_option maxHeartbeats 4000000 in
theorem b_X11_utter_150 {b0 z0 : Nat} {M0 : MS} {Q : Int32 → MS → Prop} (C : Cx p s m meth c D T Z "EndingTownModel" cX11_utter 13 (some .int)) : ∀ (l1 : Int32) (l2 : Int32) (l4 : Int32) (l5 : Int32) (l6 : Int32) (l7 : Int32) (l8 : Int32) (M : MS) (H : Heap) (locs : List Loc) (cells slots : Nat) (ls : Array Slot), w_X11_utter_150 Q l1 l2 l4 l5 l6 l7 l8 M → HI (twd D T Z) (mG b0 z0 M0) s (rmX (twd D T Z) 3 76 (mG b0 z0 M0)) H locs cells slots (mG b0 z0 M) → LH ls 13 [(0, .inr (.inl (some b0))), (1, .inl l1), (2, .inl l2), (4, .inl l4), (5, .inl l5), (6, .inl l6), (7, .inl l7), (8, .inl l8)] → W p l e (rmX (twd D T Z) 3 76 (mG b0 z0 M0)) s m args below meth c H locs cells slots (MQX (twd D T Z) (mG b0 z0 M0) (mq b0 z0 (qI Q)) (fun _ _ => False) below s) (F0 m 150 ls []) := by
  intro l1 l2 l4 l5 l6 l7 l8 M H locs cells slots ls h I hl
  refine l_ald_n (x := some b0) C dX11_utter_150 hl 0 rfl rfl ?_
  refine f_I C I (fl_X11_321) (by decide) dX11_utter_151 ?_
  refine l_ist C dX11_utter_154 hl (by decide) rfl (fun ls hl => ?_)
  have hl : LH ls 13 [(9, .inl (mF M 49)), (0, .inr (.inl (some b0))), (1, .inl l1), (2, .inl l2), (4, .inl l4), (5, .inl l5), (6, .inl l6), (7, .inl l7), (8, .inl l8)] := hl
  refine l_ald_n (x := some b0) C dX11_utter_156 hl 1 rfl rfl ?_
  refine l_ald_n (x := some b0) C dX11_utter_157 hl 1 rfl rfl ?_
  refine f_A C I (fl_X11_80) (by decide) (by decide) dX11_utter_158 ?_
  refine l_ald_n (x := some b0) C dX11_utter_161 hl 1 rfl rfl ?_
  refine f_A C I (fl_X11_86) (by decide) (by decide) dX11_utter_162 ?_
  refine k_call Ext.tr C I (k_V (r := some b0) (As := [va_rf (some (b0 + moff 47)), va_rf (some (b0 + moff 52))]) (rest := []) (y := yX11_copies) C (f_recv C I) q1687 q1689 qs65 (Or.inl rfl) q1690 (by decide) rfl pd_X11_copies rfl dX11_utter_165) (ct_X11_copies h) hl.1 dX11_utter_165 [] rfl (Nat.le_of_ble_eq_true rfl) (Or.inl rfl) q1690 q113 ⟨Nat.le_of_ble_eq_true rfl, Nat.le_of_ble_eq_true rfl⟩ (fun v x1 H locs cells slots ex hq I => ?_) (fun a x1 H locs cells slots ex hq I => hq.elim)
  obtain ⟨M1, rfl, rfl, h⟩ := hq
  refine l_ald_n (x := some b0) C dX11_utter_168 hl 1 rfl rfl ?_
  refine l_ild C dX11_utter_169 hl 8 rfl ?_
  refine lv_if_eq (tgt := 179) C.1 C.2.1 dX11_utter_171 (by decide) (fun c3 => ?_) (fun c3 => ?_)
  · have h := h.1 c3
    refine l_ild C dX11_utter_179 hl 4 rfl ?_
    exact b_X11_utter_181 C l1 l2 l5 l7 l8 (mF M 49) l4 M1 _ _ _ _ _ h I (hl.sub [1, 2, 3, 5, 7, 8, 0] rfl)
  · have h := h.2 c3
    refine l_ild C dX11_utter_174 hl 6 rfl ?_
    refine lv_goto (tgt := 181) C.1 C.2.1 dX11_utter_176 (by decide) ?_
    exact b_X11_utter_181 C l1 l2 l5 l7 l8 (mF M 49) l6 M1 _ _ _ _ _ h I (hl.sub [1, 2, 3, 5, 7, 8, 0] rfl)
def w_X11_utter_108 (Q : Int32 → MS → Prop) (l1 : Int32) (l2 : Int32) (l3 : Int32) (l4 : Int32) (l5 : Int32) (l6 : Int32) (l7 : Int32) (t0 : Int32) (M : MS) : Prop := ((l5 = l4) → (w_X11_utter_144 Q M)) ∧ ((¬ l5 = l4) → (w_X11_blanks (fun r2 M1 => ((r2 < l3) → (w_X11_utter_144 Q M1)) ∧ ((¬ r2 < l3) → (((t0 = 0) → (w_X11_utter_150 Q l1 l2 l4 l5 l6 l7 t0 M1)) ∧ ((¬ t0 = 0) → (w_X11_isNot (fun r4 M3 => ((¬ r4 = 0) → (w_X11_utter_150 Q l1 l2 l4 l5 l6 l7 t0 M3)) ∧ ((r4 = 0) → (w_X11_utter_144 Q M3))) l4 l5 M1))))) l7 l3 M))
set_option maxHeartbeats 4000000 in
theorem b_X11_utter_108 {b0 z0 : Nat} {M0 : MS} {Q : Int32 → MS → Prop} (C : Cx p s m meth c D T Z "EndingTownModel" cX11_utter 13 (some .int)) : ∀ (l1 : Int32) (l2 : Int32) (l3 : Int32) (l4 : Int32) (l5 : Int32) (l6 : Int32) (l7 : Int32) (t0 : Int32) (M : MS) (H : Heap) (locs : List Loc) (cells slots : Nat) (ls : Array Slot), w_X11_utter_108 Q l1 l2 l3 l4 l5 l6 l7 t0 M → HI (twd D T Z) (mG b0 z0 M0) s (rmX (twd D T Z) 3 76 (mG b0 z0 M0)) H locs cells slots (mG b0 z0 M) → LH ls 13 [(0, .inr (.inl (some b0))), (1, .inl l1), (2, .inl l2), (3, .inl l3), (4, .inl l4), (5, .inl l5), (6, .inl l6), (7, .inl l7)] → W p l e (rmX (twd D T Z) 3 76 (mG b0 z0 M0)) s m args below meth c H locs cells slots (MQX (twd D T Z) (mG b0 z0 M0) (mq b0 z0 (qI Q)) (fun _ _ => False) below s) (F0 m 108 ls [.int t0]) := by
  intro l1 l2 l3 l4 l5 l6 l7 t0 M H locs cells slots ls h I hl
  refine l_ist C dX11_utter_108 hl (by decide) rfl (fun ls hl => ?_)
  have hl : LH ls 13 [(8, .inl t0), (0, .inr (.inl (some b0))), (1, .inl l1), (2, .inl l2), (3, .inl l3), (4, .inl l4), (5, .inl l5), (6, .inl l6), (7, .inl l7)] := hl
  refine l_ild C dX11_utter_110 hl 6 rfl ?_
  refine l_ild C dX11_utter_112 hl 5 rfl ?_
  refine lv_icmp_eq (tgt := 144) C.1 C.2.1 dX11_utter_114 (by decide) (fun c8 => ?_) (fun c8 => ?_)
  · have h := h.1 c8
    exact b_X11_utter_144 C M _ _ _ _ _ h I (hl.sub [1] rfl)
  · have h := h.2 c8
    refine l_ald_n (x := some b0) C dX11_utter_117 hl 1 rfl rfl ?_
    refine l_ild C dX11_utter_118 hl 8 rfl ?_
    refine l_ild_n C dX11_utter_120 hl 4 rfl rfl ?_
    refine k_call Ext.tr C I (k_V (r := some b0) (As := [.int l7, .int l3]) (rest := []) (y := yX11_blanks) C (f_recv C I) q1769 q1771 qs75 (Or.inl rfl) q1772 (by decide) rfl pd_X11_blanks rfl dX11_utter_121) (ct_X11_blanks h) hl.1 dX11_utter_121 [] rfl (Nat.le_of_ble_eq_true rfl) (Or.inl rfl) q1772 q113 ⟨Nat.le_of_ble_eq_true rfl, Nat.le_of_ble_eq_true rfl⟩ (fun v x1 H locs cells slots ex hq I => ?_) (fun a x1 H locs cells slots ex hq I => hq.elim)
    obtain ⟨M1, rfl, r2, rfl, h⟩ := hq
    refine l_ild_n C dX11_utter_124 hl 4 rfl rfl ?_
    refine lv_icmp_lt (tgt := 144) C.1 C.2.1 dX11_utter_125 (by decide) (fun c7 => ?_) (fun c7 => ?_)
    · have h := h.1 c7
      exact b_X11_utter_144 C M1 _ _ _ _ _ h I (hl.sub [1] rfl)
    · have h := h.2 c7
      refine l_ild C dX11_utter_128 hl 0 rfl ?_
      refine lv_if_eq (tgt := 150) C.1 C.2.1 dX11_utter_130 (by decide) (fun c6 => ?_) (fun c6 => ?_)
      · have h := h.1 c6
        exact b_X11_utter_150 C l1 l2 l4 l5 l6 l7 t0 M1 _ _ _ _ _ h I (hl.sub [1, 2, 3, 5, 6, 7, 8, 0] rfl)
      · have h := h.2 c6
        refine l_ald_n (x := some b0) C dX11_utter_133 hl 1 rfl rfl ?_
        refine l_ild C dX11_utter_134 hl 5 rfl ?_
        refine l_ild C dX11_utter_136 hl 6 rfl ?_
        refine k_call Ext.tr C I (k_V (r := some b0) (As := [.int l4, .int l5]) (rest := []) (y := yX11_isNot) C (f_recv C I) q1777 q1779 qs77 (Or.inl rfl) q1780 (by decide) rfl pd_X11_isNot rfl dX11_utter_138) (ct_X11_isNot h) hl.1 dX11_utter_138 [] rfl (Nat.le_of_ble_eq_true rfl) (Or.inl rfl) q1780 q113 ⟨Nat.le_of_ble_eq_true rfl, Nat.le_of_ble_eq_true rfl⟩ (fun v x1 H locs cells slots ex hq I => ?_) (fun a x1 H locs cells slots ex hq I => hq.elim)
        obtain ⟨M3, rfl, r4, rfl, h⟩ := hq
        refine lv_if_ne (tgt := 150) C.1 C.2.1 dX11_utter_141 (by decide) (fun c5 => ?_) (fun c5 => ?_)
        · have h := h.1 c5
          exact b_X11_utter_150 C l1 l2 l4 l5 l6 l7 t0 M3 _ _ _ _ _ h I (hl.sub [1, 2, 3, 5, 6, 7, 8, 0] rfl)
        · have h := h.2 c5
          exact b_X11_utter_144 C M3 _ _ _ _ _ h I (hl.sub [1] rfl)
def w_X11_utter_32 (Q : Int32 → MS → Prop) (l1 : Int32) (l2 : Int32) (l3 : Int32) (t0 : Int32) (M : MS) : Prop := w_X11_right (fun r2 M1 => ((¬ r2 = 0) → (∀ M3 : MS, M3 = sF M1 17 ((0 : Int32)) → ((¬ mF M3 50 = (20 : Int32)) → (w_X11_blanks (fun r5 M4 => w_X11_lettersTo (fun r7 M6 => w_X11_blanks (fun r9 M8 => w_X11_lettersTo (fun r11 M10 => ((r11 ≤ r9) → (w_X11_utter_108 Q l1 l2 l3 r5 r7 r9 r11 ((0 : Int32)) M10)) ∧ ((¬ r11 ≤ r9) → (w_X11_utter_108 Q l1 l2 l3 r5 r7 r9 r11 ((1 : Int32)) M10))) r9 l3 M8) r7 l3 M6) r5 l3 M4) ((0 : Int32)) l3 M3)) ∧ ((mF M3 50 = (20 : Int32)) → (w_X11_refuses (fun r14 M13 => Q r14 M13) ((1 : Int32)) M3)))) ∧ ((r2 = 0) → (w_X11_utter_39 Q M1))) t0 ((2 : Int32)) M
set_option maxHeartbeats 4000000 in
theorem b_X11_utter_32 {b0 z0 : Nat} {M0 : MS} {Q : Int32 → MS → Prop} (C : Cx p s m meth c D T Z "EndingTownModel" cX11_utter 13 (some .int)) : ∀ (l1 : Int32) (l2 : Int32) (l3 : Int32) (t0 : Int32) (M : MS) (H : Heap) (locs : List Loc) (cells slots : Nat) (ls : Array Slot), w_X11_utter_32 Q l1 l2 l3 t0 M → HI (twd D T Z) (mG b0 z0 M0) s (rmX (twd D T Z) 3 76 (mG b0 z0 M0)) H locs cells slots (mG b0 z0 M) → LH ls 13 [(0, .inr (.inl (some b0))), (1, .inl l1), (2, .inl l2), (3, .inl l3)] → W p l e (rmX (twd D T Z) 3 76 (mG b0 z0 M0)) s m args below meth c H locs cells slots (MQX (twd D T Z) (mG b0 z0 M0) (mq b0 z0 (qI Q)) (fun _ _ => False) below s) (F0 m 32 ls [.int t0, va_rf (some b0)]) := by
  intro l1 l2 l3 t0 M H locs cells slots ls h I hl
  refine lv_iconst (v := 2) C.1 C.2.1 dX11_utter_32 (by decide) ?_
  refine k_call Ext.tr C I (k_V (r := some b0) (As := [.int t0, .int ((2 : Int32))]) (rest := []) (y := yX11_right) C (f_recv C I) q1603 q1605 qs47 (Or.inl rfl) q1606 (by decide) rfl pd_X11_right rfl dX11_utter_33) (ct_X11_right h) hl.1 dX11_utter_33 [] rfl (Nat.le_of_ble_eq_true rfl) (Or.inl rfl) q1606 q113 ⟨Nat.le_of_ble_eq_true rfl, Nat.le_of_ble_eq_true rfl⟩ (fun v x1 H locs cells slots ex hq I => ?_) (fun a x1 H locs cells slots ex hq I => hq.elim)
  obtain ⟨M1, rfl, r2, rfl, h⟩ := hq
  refine lv_if_ne (tgt := 41) C.1 C.2.1 dX11_utter_36 (by decide) (fun c16 => ?_) (fun c16 => ?_)
  · have h := h.1 c16
    refine l_ald_n (x := some b0) C dX11_utter_41 hl 0 rfl rfl ?_
    refine lv_iconst (v := 0) C.1 C.2.1 dX11_utter_42 (by decide) ?_
    refine f_PI C I (fp_X11_125) (by decide) dX11_utter_43 (fit_i _) (fun H locs M3 eM3 I => ?_)
    have h := h M3 eM3
    refine l_ald_n (x := some b0) C dX11_utter_46 hl 0 rfl rfl ?_
    refine f_I C I (fl_X11_279) (by decide) dX11_utter_47 ?_
    refine lv_bipush (v := 20) C.1 C.2.1 dX11_utter_50 (by decide) ?_
    refine lv_icmp_ne (tgt := 61) C.1 C.2.1 dX11_utter_52 (by decide) (fun c15 => ?_) (fun c15 => ?_)
    · have h := h.1 c15
      refine l_ald_n (x := some b0) C dX11_utter_61 hl 0 rfl rfl ?_
      refine lv_iconst (v := 0) C.1 C.2.1 dX11_utter_62 (by decide) ?_
      refine l_ild_n C dX11_utter_63 hl 3 rfl rfl ?_
      refine k_call Ext.tr C I (k_V (r := some b0) (As := [.int ((0 : Int32)), .int l3]) (rest := []) (y := yX11_blanks) C (f_recv C I) q1769 q1771 qs75 (Or.inl rfl) q1772 (by decide) rfl pd_X11_blanks rfl dX11_utter_64) (ct_X11_blanks h) hl.1 dX11_utter_64 [] rfl (Nat.le_of_ble_eq_true rfl) (Or.inl rfl) q1772 q113 ⟨Nat.le_of_ble_eq_true rfl, Nat.le_of_ble_eq_true rfl⟩ (fun v x1 H locs cells slots ex hq I => ?_) (fun a x1 H locs cells slots ex hq I => hq.elim)
      obtain ⟨M4, rfl, r5, rfl, h⟩ := hq
      refine l_ist C dX11_utter_67 hl (by decide) rfl (fun ls hl => ?_)
      have hl : LH ls 13 [(4, .inl r5), (0, .inr (.inl (some b0))), (1, .inl l1), (2, .inl l2), (3, .inl l3)] := hl
      refine l_ald_n (x := some b0) C dX11_utter_69 hl 1 rfl rfl ?_
      refine l_ild C dX11_utter_70 hl 0 rfl ?_
      refine l_ild_n C dX11_utter_72 hl 4 rfl rfl ?_
      refine k_call Ext.tr C I (k_V (r := some b0) (As := [.int r5, .int l3]) (rest := []) (y := yX11_lettersTo) C (f_recv C I) q1773 q1775 qs76 (Or.inl rfl) q1776 (by decide) rfl pd_X11_lettersTo rfl dX11_utter_73) (ct_X11_lettersTo h) hl.1 dX11_utter_73 [] rfl (Nat.le_of_ble_eq_true rfl) (Or.inl rfl) q1776 q113 ⟨Nat.le_of_ble_eq_true rfl, Nat.le_of_ble_eq_true rfl⟩ (fun v x1 H locs cells slots ex hq I => ?_) (fun a x1 H locs cells slots ex hq I => hq.elim)
      obtain ⟨M6, rfl, r7, rfl, h⟩ := hq
      refine l_ist C dX11_utter_76 hl (by decide) rfl (fun ls hl => ?_)
      have hl : LH ls 13 [(5, .inl r7), (4, .inl r5), (0, .inr (.inl (some b0))), (1, .inl l1), (2, .inl l2), (3, .inl l3)] := hl
      refine l_ald_n (x := some b0) C dX11_utter_78 hl 2 rfl rfl ?_
      refine l_ild C dX11_utter_79 hl 0 rfl ?_
      refine l_ild_n C dX11_utter_81 hl 5 rfl rfl ?_
      refine k_call Ext.tr C I (k_V (r := some b0) (As := [.int r7, .int l3]) (rest := []) (y := yX11_blanks) C (f_recv C I) q1769 q1771 qs75 (Or.inl rfl) q1772 (by decide) rfl pd_X11_blanks rfl dX11_utter_82) (ct_X11_blanks h) hl.1 dX11_utter_82 [] rfl (Nat.le_of_ble_eq_true rfl) (Or.inl rfl) q1772 q113 ⟨Nat.le_of_ble_eq_true rfl, Nat.le_of_ble_eq_true rfl⟩ (fun v x1 H locs cells slots ex hq I => ?_) (fun a x1 H locs cells slots ex hq I => hq.elim)
      obtain ⟨M8, rfl, r9, rfl, h⟩ := hq
      refine l_ist C dX11_utter_85 hl (by decide) rfl (fun ls hl => ?_)
      have hl : LH ls 13 [(6, .inl r9), (5, .inl r7), (4, .inl r5), (0, .inr (.inl (some b0))), (1, .inl l1), (2, .inl l2), (3, .inl l3)] := hl
      refine l_ald_n (x := some b0) C dX11_utter_87 hl 3 rfl rfl ?_
      refine l_ild C dX11_utter_88 hl 0 rfl ?_
      refine l_ild_n C dX11_utter_90 hl 6 rfl rfl ?_
      refine k_call Ext.tr C I (k_V (r := some b0) (As := [.int r9, .int l3]) (rest := []) (y := yX11_lettersTo) C (f_recv C I) q1773 q1775 qs76 (Or.inl rfl) q1776 (by decide) rfl pd_X11_lettersTo rfl dX11_utter_91) (ct_X11_lettersTo h) hl.1 dX11_utter_91 [] rfl (Nat.le_of_ble_eq_true rfl) (Or.inl rfl) q1776 q113 ⟨Nat.le_of_ble_eq_true rfl, Nat.le_of_ble_eq_true rfl⟩ (fun v x1 H locs cells slots ex hq I => ?_) (fun a x1 H locs cells slots ex hq I => hq.elim)
      obtain ⟨M10, rfl, r11, rfl, h⟩ := hq
      refine l_ist C dX11_utter_94 hl (by decide) rfl (fun ls hl => ?_)
      have hl : LH ls 13 [(7, .inl r11), (6, .inl r9), (5, .inl r7), (4, .inl r5), (0, .inr (.inl (some b0))), (1, .inl l1), (2, .inl l2), (3, .inl l3)] := hl
      refine l_ild C dX11_utter_96 hl 0 rfl ?_
      refine l_ild C dX11_utter_98 hl 1 rfl ?_
      refine lv_icmp_le (tgt := 107) C.1 C.2.1 dX11_utter_100 (by decide) (fun c12 => ?_) (fun c12 => ?_)
      · have h := h.1 c12
        refine lv_iconst (v := 0) C.1 C.2.1 dX11_utter_107 (by decide) ?_
        exact b_X11_utter_108 C l1 l2 l3 r5 r7 r9 r11 ((0 : Int32)) M10 _ _ _ _ _ h I (hl.sub [4, 5, 6, 7, 3, 2, 1, 0] rfl)
      · have h := h.2 c12
        refine lv_iconst (v := 1) C.1 C.2.1 dX11_utter_103 (by decide) ?_
        refine lv_goto (tgt := 108) C.1 C.2.1 dX11_utter_104 (by decide) ?_
        exact b_X11_utter_108 C l1 l2 l3 r5 r7 r9 r11 ((1 : Int32)) M10 _ _ _ _ _ h I (hl.sub [4, 5, 6, 7, 3, 2, 1, 0] rfl)
    · have h := h.2 c15
      refine l_ald_n (x := some b0) C dX11_utter_55 hl 0 rfl rfl ?_
      refine lv_iconst (v := 1) C.1 C.2.1 dX11_utter_56 (by decide) ?_
      refine k_call Ext.tr C I (k_V (r := some b0) (As := [.int ((1 : Int32))]) (rest := []) (y := yX11_refuses) C (f_recv C I) q1757 q1759 qs73 (Or.inl rfl) q1760 (by decide) rfl pd_X11_refuses rfl dX11_utter_57) (ct_X11_refuses h) hl.1 dX11_utter_57 [] rfl (Nat.le_of_ble_eq_true rfl) (Or.inl rfl) q1760 q113 ⟨Nat.le_of_ble_eq_true rfl, Nat.le_of_ble_eq_true rfl⟩ (fun v x1 H locs cells slots ex hq I => ?_) (fun a x1 H locs cells slots ex hq I => hq.elim)
      obtain ⟨M13, rfl, r14, rfl, h⟩ := hq
      exact r_int C.1 C.2.1 C.2.2.2.2.2.1 rfl C.2.2.2.2.2.2 ⟨rfl, rfl⟩ I dX11_utter_60 ⟨_, rfl, _, rfl, h⟩
  · have h := h.2 c16
    exact b_X11_utter_39 C M1 _ _ _ _ _ h I (hl.sub [] rfl)
def w_X11_utter_31 (Q : Int32 → MS → Prop) (l1 : Int32) (l2 : Int32) (l3 : Int32) (M : MS) : Prop := w_X11_utter_32 Q l1 l2 l3 ((0 : Int32)) M
set_option maxHeartbeats 4000000 in
theorem b_X11_utter_31 {b0 z0 : Nat} {M0 : MS} {Q : Int32 → MS → Prop} (C : Cx p s m meth c D T Z "EndingTownModel" cX11_utter 13 (some .int)) : ∀ (l1 : Int32) (l2 : Int32) (l3 : Int32) (M : MS) (H : Heap) (locs : List Loc) (cells slots : Nat) (ls : Array Slot), w_X11_utter_31 Q l1 l2 l3 M → HI (twd D T Z) (mG b0 z0 M0) s (rmX (twd D T Z) 3 76 (mG b0 z0 M0)) H locs cells slots (mG b0 z0 M) → LH ls 13 [(0, .inr (.inl (some b0))), (1, .inl l1), (2, .inl l2), (3, .inl l3)] → W p l e (rmX (twd D T Z) 3 76 (mG b0 z0 M0)) s m args below meth c H locs cells slots (MQX (twd D T Z) (mG b0 z0 M0) (mq b0 z0 (qI Q)) (fun _ _ => False) below s) (F0 m 31 ls [va_rf (some b0)]) := by
  intro l1 l2 l3 M H locs cells slots ls h I hl
  refine lv_iconst (v := 0) C.1 C.2.1 dX11_utter_31 (by decide) ?_
  exact b_X11_utter_32 C l1 l2 l3 ((0 : Int32)) M _ _ _ _ _ h I (hl.sub [0, 1, 2, 3] rfl)
def w_X11_utter (Q : Int32 → MS → Prop) (p0 : Int32) (p1 : Int32) (p2 : Int32) (M : MS) : Prop := ∀ M1 : MS, M1 = sF M 0 ((0 : Int32)) → w_X11_isWho (fun r3 M2 => ((r3 = 0) → (w_X11_utter_39 Q M2)) ∧ ((¬ r3 = 0) → (((p2 < 0) → (w_X11_utter_31 Q p0 p1 p2 M2)) ∧ ((¬ p2 < 0) → (((mF M2 17 < p2) → (w_X11_utter_31 Q p0 p1 p2 M2)) ∧ ((¬ mF M2 17 < p2) → (w_X11_utter_32 Q p0 p1 p2 ((1 : Int32)) M2))))))) p0 p1 M1
theorem pd_X11_utter : (parseMethodDescriptor yX11_utter.desc).map (fun d => d.parameters.length) = some 3 := by decide +kernel
set_option maxHeartbeats 4000000 in
theorem ct_X11_utter {l : Launch} {D : va_G} {T : Nat → ClassId} {Z : Heap} {b0 z0 : Nat} {M0 : MS} {Q : Int32 → MS → Prop} {p0 : Int32} {p1 : Int32} {p2 : Int32} (hw : w_X11_utter Q p0 p1 p2 M0) : CT (twd D T Z) (Evd D T Z) l yX11_utter (Cond.code yX11_utter cX11_utter 13 (some .int)) 3 76 [va_rf (some b0), .int p0, .int p1, .int p2] (mG b0 z0 M0) (mq b0 z0 (qI Q)) (fun _ _ => False) := by
  refine CT.ofW (cc := cX11_utter) (nL := 13) (ret := (some .int)) Ext.rf (by decide) (Or.inl rfl) ?_
  intro p e s m below meth c hx hb hml hown hr hlk hnm hcb hm hc hn hE I
  have C : Cx p s m meth c D T Z "EndingTownModel" cX11_utter 13 (some .int) := ⟨hx, hb, hml, hown, hE, hr, hlk⟩
  refine w_entry [.inr (.inl (some b0)), .inl p0, .inl p1, .inl p2] (Nat.le_of_ble_eq_true rfl) (fun ls hl => ?_)
  have hl : LH ls 13 [(0, .inr (.inl (some b0))), (1, .inl p0), (2, .inl p1), (3, .inl p2)] := hl
  have h := hw
  refine l_ald_n (x := some b0) C dX11_utter_0 hl 0 rfl rfl ?_
  refine lv_iconst (v := 0) C.1 C.2.1 dX11_utter_1 (by decide) ?_
  refine f_PI C I (fp_X11_122) (by decide) dX11_utter_2 (fit_i _) (fun H locs M1 eM1 I => ?_)
  have h := h M1 eM1
  refine l_ald_n (x := some b0) C dX11_utter_5 hl 0 rfl rfl ?_
  refine l_ild_n C dX11_utter_6 hl 1 rfl rfl ?_
  refine l_ild_n C dX11_utter_7 hl 2 rfl rfl ?_
  refine k_call Ext.tr C I (k_V (r := some b0) (As := [.int p0, .int p1]) (rest := []) (y := yX11_isWho) C (f_recv C I) q1709 q1711 qs66 (Or.inl rfl) q1712 (by decide) rfl pd_X11_isWho rfl dX11_utter_8) (ct_X11_isWho h) hl.1 dX11_utter_8 [] rfl (Nat.le_of_ble_eq_true rfl) (Or.inl rfl) q1712 q113 ⟨Nat.le_of_ble_eq_true rfl, Nat.le_of_ble_eq_true rfl⟩ (fun v x1 H locs cells slots ex hq I => ?_) (fun a x1 H locs cells slots ex hq I => hq.elim)
  obtain ⟨M2, rfl, r3, rfl, h⟩ := hq
  refine lv_if_eq (tgt := 39) C.1 C.2.1 dX11_utter_11 (by decide) (fun c6 => ?_) (fun c6 => ?_)
  · have h := h.1 c6
    exact b_X11_utter_39 C M2 _ _ _ _ _ h I (hl.sub [] rfl)
  · have h := h.2 c6
    refine l_ald_n (x := some b0) C dX11_utter_14 hl 0 rfl rfl ?_
    refine l_ild_n C dX11_utter_15 hl 3 rfl rfl ?_
    refine lv_if_lt (tgt := 31) C.1 C.2.1 dX11_utter_16 (by decide) (fun c5 => ?_) (fun c5 => ?_)
    · have h := h.1 c5
      exact b_X11_utter_31 C p0 p1 p2 M2 _ _ _ _ _ h I (hl.sub [0, 1, 2, 3] rfl)
    · have h := h.2 c5
      refine l_ild_n C dX11_utter_19 hl 3 rfl rfl ?_
      refine l_ald_n (x := some b0) C dX11_utter_20 hl 0 rfl rfl ?_
      refine f_I C I (fl_X11_125) (by decide) dX11_utter_21 ?_
      refine lv_icmp_gt (tgt := 31) C.1 C.2.1 dX11_utter_24 (by decide) (fun c4 => ?_) (fun c4 => ?_)
      · have h := h.1 c4
        exact b_X11_utter_31 C p0 p1 p2 M2 _ _ _ _ _ h I (hl.sub [0, 1, 2, 3] rfl)
      · have h := h.2 c4
        refine lv_iconst (v := 1) C.1 C.2.1 dX11_utter_27 (by decide) ?_
        refine lv_goto (tgt := 32) C.1 C.2.1 dX11_utter_28 (by decide) ?_
        exact b_X11_utter_32 C p0 p1 p2 ((1 : Int32)) M2 _ _ _ _ _ h I (hl.sub [0, 1, 2, 3] rfl)
end GM1
