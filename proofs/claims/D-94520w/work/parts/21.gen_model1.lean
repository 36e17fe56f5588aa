/-! the Model: wp and contracts, by program -/
set_option maxRecDepth 100000
section GM0
variable {p : Program} {l : Launch} {e : Env} {s : State} {m : MethodId} {args : Array Value} {below : List Frame} {meth : Method} {c : Code} {D : va_G} {T : Nat → ClassId} {Z : Heap}
def w_X11_thrown (Q : Int32 → MS → Prop) (M : MS) : Prop := Q (mF M 0) M
theorem pd_X11_thrown : (parseMethodDescriptor yX11_thrown.desc).map (fun d => d.parameters.length) = some 0 := by decide +kernel
set_option maxHeartbeats 4000000 in
theorem ct_X11_thrown {l : Launch} {D : va_G} {T : Nat → ClassId} {Z : Heap} {b0 z0 : Nat} {M0 : MS} {Q : Int32 → MS → Prop} (hw : w_X11_thrown Q M0) : CT (twd D T Z) (Evd D T Z) l yX11_thrown (Cond.code yX11_thrown cX11_thrown 1 (some .int)) 0 0 [va_rf (some b0)] (mG b0 z0 M0) (mq b0 z0 (qI Q)) (fun _ _ => False) := by
  refine CT.ofW (cc := cX11_thrown) (nL := 1) (ret := (some .int)) Ext.rf (by decide) (Or.inl rfl) ?_
  intro p e s m below meth c hx hb hml hown hr hlk hnm hcb hm hc hn hE I
  have C : Cx p s m meth c D T Z "EndingTownModel" cX11_thrown 1 (some .int) := ⟨hx, hb, hml, hown, hE, hr, hlk⟩
  refine w_entry [.inr (.inl (some b0))] (Nat.le_of_ble_eq_true rfl) (fun ls hl => ?_)
  have hl : LH ls 1 [(0, .inr (.inl (some b0)))] := hl
  have h := hw
  refine l_ald_n (x := some b0) C dX11_thrown_0 hl 0 rfl rfl ?_
  refine f_I C I (fl_X11_122) (by decide) dX11_thrown_1 ?_
  exact r_int C.1 C.2.1 C.2.2.2.2.2.1 rfl C.2.2.2.2.2.2 ⟨rfl, rfl⟩ I dX11_thrown_4 ⟨_, rfl, _, rfl, h⟩
def w_X11_lays_3 (Q : MS → Prop) : Nat → Int32 → Int32 → MS → Prop
  | 0 => fun _ _ _ => False
  | f3 + 1 => fun l1 l2 M => ((l2 < 0) → (Q M)) ∧ ((¬ l2 < 0) → (vp_in (mF M 17) (mlen 16) ∧ ∀ M1 : MS, M1 = sA M 16 (mF M 17).toNatClampNeg (((l1 >>> (l2 &&& 31)) &&& (255 : Int32))) → ∀ M2 : MS, M2 = sF M1 17 ((mF M1 17 + (1 : Int32))) → (w_X11_lays_3 Q f3) l1 ((l2 + (-8))) M2))
set_option maxHeartbeats 4000000 in
theorem b_X11_lays_3 {b0 z0 : Nat} {M0 : MS} {Q : MS → Prop} (C : Cx p s m meth c D T Z "EndingTownModel" cX11_lays 3 none) : ∀ (n : Nat) (l1 : Int32) (l2 : Int32) (M : MS) (H : Heap) (locs : List Loc) (cells slots : Nat) (ls : Array Slot), w_X11_lays_3 Q n l1 l2 M → HI (twd D T Z) (mG b0 z0 M0) s (rmX (twd D T Z) 0 0 (mG b0 z0 M0)) H locs cells slots (mG b0 z0 M) → LH ls 3 [(0, .inr (.inl (some b0))), (1, .inl l1), (2, .inl l2)] → W p l e (rmX (twd D T Z) 0 0 (mG b0 z0 M0)) s m args below meth c H locs cells slots (MQX (twd D T Z) (mG b0 z0 M0) (mq b0 z0 (qV Q)) (fun _ _ => False) below s) (F0 m 3 ls []) := by
  intro n
  induction n with
  | zero => intro l1 l2 M H locs cells slots ls h; exact (show False from h).elim
  | succ n ih =>
    intro l1 l2 M H locs cells slots ls h I hl
    have hk3 := ih
    refine l_ild_n C dX11_lays_3 hl 2 rfl rfl ?_
    refine lv_if_lt (tgt := 39) C.1 C.2.1 dX11_lays_4 (by decide) (fun c3 => ?_) (fun c3 => ?_)
    · have h := h.1 c3
      exact r_void C.1 C.2.1 C.2.2.2.2.2.1 C.2.2.2.2.2.2 ⟨rfl, rfl⟩ I dX11_lays_39 ⟨_, rfl, rfl, h⟩
    · have h := h.2 c3
      refine l_ald_n (x := some b0) C dX11_lays_7 hl 0 rfl rfl ?_
      refine f_A C I (fl_X11_41) (by decide) (by decide) dX11_lays_8 ?_
      refine l_ald_n (x := some b0) C dX11_lays_11 hl 0 rfl rfl ?_
      refine f_I C I (fl_X11_125) (by decide) dX11_lays_12 ?_
      refine l_ild_n C dX11_lays_15 hl 1 rfl rfl ?_
      refine l_ild_n C dX11_lays_16 hl 2 rfl rfl ?_
      refine lv_ishr C.1 C.2.1 dX11_lays_17 ?_
      refine lv_sipush (v := 255) C.1 C.2.1 dX11_lays_18 (by decide) ?_
      refine lv_iand C.1 C.2.1 dX11_lays_21 ?_
      obtain ⟨hi, h⟩ := h
      refine f_st (k := 16) C I (by decide) hi dX11_lays_22 (fun H locs M1 eM1 I => ?_)
      have h := h M1 eM1
      refine l_ald_n (x := some b0) C dX11_lays_23 hl 0 rfl rfl ?_
      refine lv_dup C.1 C.2.1 dX11_lays_24 (cat_rf _) ?_
      refine f_I C I (fl_X11_125) (by decide) dX11_lays_25 ?_
      refine lv_iconst (v := 1) C.1 C.2.1 dX11_lays_28 (by decide) ?_
      refine lv_iadd C.1 C.2.1 dX11_lays_29 ?_
      refine f_PI C I (fp_X11_125) (by decide) dX11_lays_30 (fit_i _) (fun H locs M2 eM2 I => ?_)
      have h := h M2 eM2
      refine l_inc (q := 2) (v := (-8)) C dX11_lays_33 hl rfl (by decide) (by decide) rfl (fun ls hl => ?_)
      have hl : LH ls 3 [(2, .inl ((l2 + (-8)))), (0, .inr (.inl (some b0))), (1, .inl l1)] := hl
      refine lv_goto (tgt := 3) C.1 C.2.1 dX11_lays_36 (by decide) ?_
      exact hk3 l1 ((l2 + (-8))) M2 _ _ _ _ _ h I (hl.sub [1, 2, 0] rfl)
def w_X11_lays (Q : MS → Prop) (p0 : Int32) (M : MS) : Prop := ∃ n, w_X11_lays_3 Q n p0 ((24 : Int32)) M
theorem pd_X11_lays : (parseMethodDescriptor yX11_lays.desc).map (fun d => d.parameters.length) = some 1 := by decide +kernel
set_option maxHeartbeats 4000000 in
theorem ct_X11_lays {l : Launch} {D : va_G} {T : Nat → ClassId} {Z : Heap} {b0 z0 : Nat} {M0 : MS} {Q : MS → Prop} {p0 : Int32} (hw : w_X11_lays Q p0 M0) : CT (twd D T Z) (Evd D T Z) l yX11_lays (Cond.code yX11_lays cX11_lays 3 none) 0 0 [va_rf (some b0), .int p0] (mG b0 z0 M0) (mq b0 z0 (qV Q)) (fun _ _ => False) := by
  refine CT.ofW (cc := cX11_lays) (nL := 3) (ret := none) Ext.rf (by decide) (Or.inl rfl) ?_
  intro p e s m below meth c hx hb hml hown hr hlk hnm hcb hm hc hn hE I
  have C : Cx p s m meth c D T Z "EndingTownModel" cX11_lays 3 none := ⟨hx, hb, hml, hown, hE, hr, hlk⟩
  refine w_entry [.inr (.inl (some b0)), .inl p0] (Nat.le_of_ble_eq_true rfl) (fun ls hl => ?_)
  have hl : LH ls 3 [(0, .inr (.inl (some b0))), (1, .inl p0)] := hl
  have h := hw
  refine lv_bipush (v := 24) C.1 C.2.1 dX11_lays_0 (by decide) ?_
  refine l_ist_n C dX11_lays_2 rfl hl (by decide) rfl (fun ls hl => ?_)
  have hl : LH ls 3 [(2, .inl ((24 : Int32))), (0, .inr (.inl (some b0))), (1, .inl p0)] := hl
  obtain ⟨n, h⟩ := h
  exact b_X11_lays_3 C n p0 ((24 : Int32)) M0 _ _ _ _ _ h I (hl.sub [1, 2, 0] rfl)
def w_X11_feed (Q : Int32 → MS → Prop) (p0 : Int32) (p1 : Int32) (p2 : Int32) (p3 : Int32) (p4 : Int32) (M : MS) : Prop := ∀ M1 : MS, M1 = sF M 0 ((0 : Int32)) → (((mF M1 17 + (20 : Int32)) ≤ (800 : Int32)) → (w_X11_lays (fun M2 => w_X11_lays (fun M4 => w_X11_lays (fun M6 => w_X11_lays (fun M8 => w_X11_lays (fun M10 => Q (mF M10 17) M10) p4 M8) p3 M6) p2 M4) p1 M2) p0 M1)) ∧ ((¬ (mF M1 17 + (20 : Int32)) ≤ (800 : Int32)) → (Q ((-1 : Int32)) M1))
theorem pd_X11_feed : (parseMethodDescriptor yX11_feed.desc).map (fun d => d.parameters.length) = some 5 := by decide +kernel
set_option maxHeartbeats 4000000 in
theorem ct_X11_feed {l : Launch} {D : va_G} {T : Nat → ClassId} {Z : Heap} {b0 z0 : Nat} {M0 : MS} {Q : Int32 → MS → Prop} {p0 : Int32} {p1 : Int32} {p2 : Int32} {p3 : Int32} {p4 : Int32} (hw : w_X11_feed Q p0 p1 p2 p3 p4 M0) : CT (twd D T Z) (Evd D T Z) l yX11_feed (Cond.code yX11_feed cX11_feed 6 (some .int)) 1 22 [va_rf (some b0), .int p0, .int p1, .int p2, .int p3, .int p4] (mG b0 z0 M0) (mq b0 z0 (qI Q)) (fun _ _ => False) := by
  refine CT.ofW (cc := cX11_feed) (nL := 6) (ret := (some .int)) Ext.rf (by decide) (Or.inl rfl) ?_
  intro p e s m below meth c hx hb hml hown hr hlk hnm hcb hm hc hn hE I
  have C : Cx p s m meth c D T Z "EndingTownModel" cX11_feed 6 (some .int) := ⟨hx, hb, hml, hown, hE, hr, hlk⟩
  refine w_entry [.inr (.inl (some b0)), .inl p0, .inl p1, .inl p2, .inl p3, .inl p4] (Nat.le_of_ble_eq_true rfl) (fun ls hl => ?_)
  have hl : LH ls 6 [(0, .inr (.inl (some b0))), (1, .inl p0), (2, .inl p1), (3, .inl p2), (4, .inl p3), (5, .inl p4)] := hl
  have h := hw
  refine l_ald_n (x := some b0) C dX11_feed_0 hl 0 rfl rfl ?_
  refine lv_iconst (v := 0) C.1 C.2.1 dX11_feed_1 (by decide) ?_
  refine f_PI C I (fp_X11_122) (by decide) dX11_feed_2 (fit_i _) (fun H locs M1 eM1 I => ?_)
  have h := h M1 eM1
  refine l_ald_n (x := some b0) C dX11_feed_5 hl 0 rfl rfl ?_
  refine f_I C I (fl_X11_125) (by decide) dX11_feed_6 ?_
  refine lv_bipush (v := 20) C.1 C.2.1 dX11_feed_9 (by decide) ?_
  refine lv_iadd C.1 C.2.1 dX11_feed_11 ?_
  refine lv_sipush (v := 800) C.1 C.2.1 dX11_feed_12 (by decide) ?_
  refine lv_icmp_le (tgt := 20) C.1 C.2.1 dX11_feed_15 (by decide) (fun c12 => ?_) (fun c12 => ?_)
  · have h := h.1 c12
    refine l_ald_n (x := some b0) C dX11_feed_20 hl 0 rfl rfl ?_
    refine l_ild_n C dX11_feed_21 hl 1 rfl rfl ?_
    refine k_call Ext.tr C I (k_V (r := some b0) (As := [.int p0]) (rest := []) (y := yX11_lays) C (f_recv C I) q1595 q1597 qs46 (Or.inl rfl) q1598 (by decide) rfl pd_X11_lays rfl dX11_feed_22) (ct_X11_lays h) hl.1 dX11_feed_22 [] rfl (Nat.le_of_ble_eq_true rfl) (Or.inl rfl) q1598 q113 ⟨Nat.le_of_ble_eq_true rfl, Nat.le_of_ble_eq_true rfl⟩ (fun v x1 H locs cells slots ex hq I => ?_) (fun a x1 H locs cells slots ex hq I => hq.elim)
    obtain ⟨M2, rfl, rfl, h⟩ := hq
    refine l_ald_n (x := some b0) C dX11_feed_25 hl 0 rfl rfl ?_
    refine l_ild_n C dX11_feed_26 hl 2 rfl rfl ?_
    refine k_call Ext.tr C I (k_V (r := some b0) (As := [.int p1]) (rest := []) (y := yX11_lays) C (f_recv C I) q1595 q1597 qs46 (Or.inl rfl) q1598 (by decide) rfl pd_X11_lays rfl dX11_feed_27) (ct_X11_lays h) hl.1 dX11_feed_27 [] rfl (Nat.le_of_ble_eq_true rfl) (Or.inl rfl) q1598 q113 ⟨Nat.le_of_ble_eq_true rfl, Nat.le_of_ble_eq_true rfl⟩ (fun v x1 H locs cells slots ex hq I => ?_) (fun a x1 H locs cells slots ex hq I => hq.elim)
    obtain ⟨M4, rfl, rfl, h⟩ := hq
    refine l_ald_n (x := some b0) C dX11_feed_30 hl 0 rfl rfl ?_
    refine l_ild_n C dX11_feed_31 hl 3 rfl rfl ?_
    refine k_call Ext.tr C I (k_V (r := some b0) (As := [.int p2]) (rest := []) (y := yX11_lays) C (f_recv C I) q1595 q1597 qs46 (Or.inl rfl) q1598 (by decide) rfl pd_X11_lays rfl dX11_feed_32) (ct_X11_lays h) hl.1 dX11_feed_32 [] rfl (Nat.le_of_ble_eq_true rfl) (Or.inl rfl) q1598 q113 ⟨Nat.le_of_ble_eq_true rfl, Nat.le_of_ble_eq_true rfl⟩ (fun v x1 H locs cells slots ex hq I => ?_) (fun a x1 H locs cells slots ex hq I => hq.elim)
    obtain ⟨M6, rfl, rfl, h⟩ := hq
    refine l_ald_n (x := some b0) C dX11_feed_35 hl 0 rfl rfl ?_
    refine l_ild C dX11_feed_36 hl 4 rfl ?_
    refine k_call Ext.tr C I (k_V (r := some b0) (As := [.int p3]) (rest := []) (y := yX11_lays) C (f_recv C I) q1595 q1597 qs46 (Or.inl rfl) q1598 (by decide) rfl pd_X11_lays rfl dX11_feed_38) (ct_X11_lays h) hl.1 dX11_feed_38 [] rfl (Nat.le_of_ble_eq_true rfl) (Or.inl rfl) q1598 q113 ⟨Nat.le_of_ble_eq_true rfl, Nat.le_of_ble_eq_true rfl⟩ (fun v x1 H locs cells slots ex hq I => ?_) (fun a x1 H locs cells slots ex hq I => hq.elim)
    obtain ⟨M8, rfl, rfl, h⟩ := hq
    refine l_ald_n (x := some b0) C dX11_feed_41 hl 0 rfl rfl ?_
    refine l_ild C dX11_feed_42 hl 5 rfl ?_
    refine k_call Ext.tr C I (k_V (r := some b0) (As := [.int p4]) (rest := []) (y := yX11_lays) C (f_recv C I) q1595 q1597 qs46 (Or.inl rfl) q1598 (by decide) rfl pd_X11_lays rfl dX11_feed_44) (ct_X11_lays h) hl.1 dX11_feed_44 [] rfl (Nat.le_of_ble_eq_true rfl) (Or.inl rfl) q1598 q113 ⟨Nat.le_of_ble_eq_true rfl, Nat.le_of_ble_eq_true rfl⟩ (fun v x1 H locs cells slots ex hq I => ?_) (fun a x1 H locs cells slots ex hq I => hq.elim)
    obtain ⟨M10, rfl, rfl, h⟩ := hq
    refine l_ald_n (x := some b0) C dX11_feed_47 hl 0 rfl rfl ?_
    refine f_I C I (fl_X11_125) (by decide) dX11_feed_48 ?_
    exact r_int C.1 C.2.1 C.2.2.2.2.2.1 rfl C.2.2.2.2.2.2 ⟨rfl, rfl⟩ I dX11_feed_51 ⟨_, rfl, _, rfl, h⟩
  · have h := h.2 c12
    refine lv_iconst (v := (-1)) C.1 C.2.1 dX11_feed_18 (by decide) ?_
    exact r_int C.1 C.2.1 C.2.2.2.2.2.1 rfl C.2.2.2.2.2.2 ⟨rfl, rfl⟩ I dX11_feed_19 ⟨_, rfl, _, rfl, h⟩
def w_X11_copies_2 (Q : MS → Prop) : Nat → Nat → Nat → Int32 → MS → Prop
  | 0 => fun _ _ _ _ => False
  | f2 + 1 => fun l1 l2 l3 M => mlen l1 ≠ 0 ∧ ((nI (mlen l1) ≤ l3) → (Q M)) ∧ ((¬ nI (mlen l1) ≤ l3) → (mlen l1 ≠ 0 ∧ vp_in l3 (mlen l1) ∧ mlen l2 ≠ 0 ∧ vp_in l3 (mlen l2) ∧ ∀ M1 : MS, M1 = sA M l2 l3.toNatClampNeg (mA M l1 l3.toNatClampNeg) → (w_X11_copies_2 Q f2) l1 l2 ((l3 + 1)) M1))
set_option maxHeartbeats 4000000 in
theorem b_X11_copies_2 {b0 z0 : Nat} {M0 : MS} {Q : MS → Prop} (C : Cx p s m meth c D T Z "EndingTownModel" cX11_copies 4 none) : ∀ (n : Nat) (l1 : Nat) (l2 : Nat) (l3 : Int32) (M : MS) (H : Heap) (locs : List Loc) (cells slots : Nat) (ls : Array Slot), w_X11_copies_2 Q n l1 l2 l3 M → HI (twd D T Z) (mG b0 z0 M0) s (rmX (twd D T Z) 0 0 (mG b0 z0 M0)) H locs cells slots (mG b0 z0 M) → LH ls 4 [(1, .inr (.inl (some (b0 + moff l1)))), (2, .inr (.inl (some (b0 + moff l2)))), (3, .inl l3)] → W p l e (rmX (twd D T Z) 0 0 (mG b0 z0 M0)) s m args below meth c H locs cells slots (MQX (twd D T Z) (mG b0 z0 M0) (mq b0 z0 (qV Q)) (fun _ _ => False) below s) (F0 m 2 ls []) := by
  intro n
  induction n with
  | zero => intro l1 l2 l3 M H locs cells slots ls h; exact (show False from h).elim
  | succ n ih =>
    intro l1 l2 l3 M H locs cells slots ls h I hl
    have hk2 := ih
    refine l_ild_n C dX11_copies_2 hl 2 rfl rfl ?_
    refine l_ald_n (x := some (b0 + moff l1)) C dX11_copies_3 hl 0 rfl rfl ?_
    obtain ⟨hm, h⟩ := h
    refine f_len (k := l1) C I hm dX11_copies_4 ?_
    refine lv_icmp_ge (tgt := 20) C.1 C.2.1 dX11_copies_5 (by decide) (fun c2 => ?_) (fun c2 => ?_)
    · have h := h.1 c2
      exact r_void C.1 C.2.1 C.2.2.2.2.2.1 C.2.2.2.2.2.2 ⟨rfl, rfl⟩ I dX11_copies_20 ⟨_, rfl, rfl, h⟩
    · have h := h.2 c2
      refine l_ald_n (x := some (b0 + moff l2)) C dX11_copies_8 hl 1 rfl rfl ?_
      refine l_ild_n C dX11_copies_9 hl 2 rfl rfl ?_
      refine l_ald_n (x := some (b0 + moff l1)) C dX11_copies_10 hl 0 rfl rfl ?_
      refine l_ild_n C dX11_copies_11 hl 2 rfl rfl ?_
      obtain ⟨hm, h⟩ := h
      obtain ⟨hi, h⟩ := h
      refine f_ld (k := l1) C I hm hi dX11_copies_12 ?_
      obtain ⟨hm, h⟩ := h
      obtain ⟨hi, h⟩ := h
      refine f_st (k := l2) C I hm hi dX11_copies_13 (fun H locs M1 eM1 I => ?_)
      have h := h M1 eM1
      refine l_inc (q := 2) (v := 1) C dX11_copies_14 hl rfl (by decide) (by decide) rfl (fun ls hl => ?_)
      have hl : LH ls 4 [(3, .inl ((l3 + 1))), (1, .inr (.inl (some (b0 + moff l1)))), (2, .inr (.inl (some (b0 + moff l2))))] := hl
      refine lv_goto (tgt := 2) C.1 C.2.1 dX11_copies_17 (by decide) ?_
      exact hk2 l1 l2 ((l3 + 1)) M1 _ _ _ _ _ h I (hl.sub [1, 2, 0] rfl)
def w_X11_copies (Q : MS → Prop) (p0 : Nat) (p1 : Nat) (M : MS) : Prop := ∃ n, w_X11_copies_2 Q n p0 p1 ((0 : Int32)) M
theorem pd_X11_copies : (parseMethodDescriptor yX11_copies.desc).map (fun d => d.parameters.length) = some 2 := by decide +kernel
set_option maxHeartbeats 4000000 in
theorem ct_X11_copies {l : Launch} {D : va_G} {T : Nat → ClassId} {Z : Heap} {b0 z0 : Nat} {M0 : MS} {Q : MS → Prop} {p0 : Nat} {p1 : Nat} (hw : w_X11_copies Q p0 p1 M0) : CT (twd D T Z) (Evd D T Z) l yX11_copies (Cond.code yX11_copies cX11_copies 4 none) 0 0 [va_rf (some b0), va_rf (some (b0 + moff p0)), va_rf (some (b0 + moff p1))] (mG b0 z0 M0) (mq b0 z0 (qV Q)) (fun _ _ => False) := by
  refine CT.ofW (cc := cX11_copies) (nL := 4) (ret := none) Ext.rf (by decide) (Or.inl rfl) ?_
  intro p e s m below meth c hx hb hml hown hr hlk hnm hcb hm hc hn hE I
  have C : Cx p s m meth c D T Z "EndingTownModel" cX11_copies 4 none := ⟨hx, hb, hml, hown, hE, hr, hlk⟩
  refine w_entry [.inr (.inl (some b0)), .inr (.inl (some (b0 + moff p0))), .inr (.inl (some (b0 + moff p1)))] (Nat.le_of_ble_eq_true rfl) (fun ls hl => ?_)
  have hl : LH ls 4 [(0, .inr (.inl (some b0))), (1, .inr (.inl (some (b0 + moff p0)))), (2, .inr (.inl (some (b0 + moff p1))))] := hl
  have h := hw
  refine lv_iconst (v := 0) C.1 C.2.1 dX11_copies_0 (by decide) ?_
  refine l_ist_n C dX11_copies_1 rfl hl (by decide) rfl (fun ls hl => ?_)
  have hl : LH ls 4 [(3, .inl ((0 : Int32))), (0, .inr (.inl (some b0))), (1, .inr (.inl (some (b0 + moff p0)))), (2, .inr (.inl (some (b0 + moff p1))))] := hl
  obtain ⟨n, h⟩ := h
  exact b_X11_copies_2 C n p0 p1 ((0 : Int32)) M0 _ _ _ _ _ h I (hl.sub [2, 3, 0] rfl)
def w_X11_empties_119 (Q : MS → Prop) : Nat → Int32 → MS → Prop
  | 0 => fun _ _ => False
  | f119 + 1 => fun l1 M => (((10 : Int32) ≤ l1) → (Q M)) ∧ ((¬ (10 : Int32) ≤ l1) → (vp_in l1 (mlen 45) ∧ ∀ M1 : MS, M1 = sA M 45 l1.toNatClampNeg ((500 : Int32)) → (w_X11_empties_119 Q f119) ((l1 + 1)) M1))
set_option maxHeartbeats 4000000 in
theorem b_X11_empties_119 {b0 z0 : Nat} {M0 : MS} {Q : MS → Prop} (C : Cx p s m meth c D T Z "EndingTownModel" cX11_empties 2 none) : ∀ (n : Nat) (l1 : Int32) (M : MS) (H : Heap) (locs : List Loc) (cells slots : Nat) (ls : Array Slot), w_X11_empties_119 Q n l1 M → HI (twd D T Z) (mG b0 z0 M0) s (rmX (twd D T Z) 0 0 (mG b0 z0 M0)) H locs cells slots (mG b0 z0 M) → LH ls 2 [(0, .inr (.inl (some b0))), (1, .inl l1)] → W p l e (rmX (twd D T Z) 0 0 (mG b0 z0 M0)) s m args below meth c H locs cells slots (MQX (twd D T Z) (mG b0 z0 M0) (mq b0 z0 (qV Q)) (fun _ _ => False) below s) (F0 m 119 ls []) := by
  intro n
  induction n with
  | zero => intro l1 M H locs cells slots ls h; exact (show False from h).elim
  | succ n ih =>
    intro l1 M H locs cells slots ls h I hl
    have hk119 := ih
    refine l_ild_n C dX11_empties_119 hl 1 rfl rfl ?_
    refine lv_bipush (v := 10) C.1 C.2.1 dX11_empties_120 (by decide) ?_
    refine lv_icmp_ge (tgt := 140) C.1 C.2.1 dX11_empties_122 (by decide) (fun c2 => ?_) (fun c2 => ?_)
    · have h := h.1 c2
      exact r_void C.1 C.2.1 C.2.2.2.2.2.1 C.2.2.2.2.2.2 ⟨rfl, rfl⟩ I dX11_empties_140 ⟨_, rfl, rfl, h⟩
    · have h := h.2 c2
      refine l_ald_n (x := some b0) C dX11_empties_125 hl 0 rfl rfl ?_
      refine f_A C I (fl_X11_74) (by decide) (by decide) dX11_empties_126 ?_
      refine l_ild_n C dX11_empties_129 hl 1 rfl rfl ?_
      refine lv_sipush (v := 500) C.1 C.2.1 dX11_empties_130 (by decide) ?_
      obtain ⟨hi, h⟩ := h
      refine f_st (k := 45) C I (by decide) hi dX11_empties_133 (fun H locs M1 eM1 I => ?_)
      have h := h M1 eM1
      refine l_inc (q := 1) (v := 1) C dX11_empties_134 hl rfl (by decide) (by decide) rfl (fun ls hl => ?_)
      have hl : LH ls 2 [(1, .inl ((l1 + 1))), (0, .inr (.inl (some b0)))] := hl
      refine lv_goto (tgt := 119) C.1 C.2.1 dX11_empties_137 (by decide) ?_
      exact hk119 ((l1 + 1)) M1 _ _ _ _ _ h I (hl.sub [1, 0] rfl)
def w_X11_empties_97 (Q : MS → Prop) : Nat → Int32 → MS → Prop
  | 0 => fun _ _ => False
  | f97 + 1 => fun l1 M => (((144 : Int32) ≤ l1) → (∃ n, w_X11_empties_119 Q n ((0 : Int32)) M)) ∧ ((¬ (144 : Int32) ≤ l1) → (vp_in l1 (mlen 44) ∧ ∀ M1 : MS, M1 = sA M 44 l1.toNatClampNeg ((-1 : Int32)) → (w_X11_empties_97 Q f97) ((l1 + 1)) M1))
set_option maxHeartbeats 4000000 in
theorem b_X11_empties_97 {b0 z0 : Nat} {M0 : MS} {Q : MS → Prop} (C : Cx p s m meth c D T Z "EndingTownModel" cX11_empties 2 none) : ∀ (n : Nat) (l1 : Int32) (M : MS) (H : Heap) (locs : List Loc) (cells slots : Nat) (ls : Array Slot), w_X11_empties_97 Q n l1 M → HI (twd D T Z) (mG b0 z0 M0) s (rmX (twd D T Z) 0 0 (mG b0 z0 M0)) H locs cells slots (mG b0 z0 M) → LH ls 2 [(0, .inr (.inl (some b0))), (1, .inl l1)] → W p l e (rmX (twd D T Z) 0 0 (mG b0 z0 M0)) s m args below meth c H locs cells slots (MQX (twd D T Z) (mG b0 z0 M0) (mq b0 z0 (qV Q)) (fun _ _ => False) below s) (F0 m 97 ls []) := by
  intro n
  induction n with
  | zero => intro l1 M H locs cells slots ls h; exact (show False from h).elim
  | succ n ih =>
    intro l1 M H locs cells slots ls h I hl
    have hk97 := ih
    refine l_ild_n C dX11_empties_97 hl 1 rfl rfl ?_
    refine lv_sipush (v := 144) C.1 C.2.1 dX11_empties_98 (by decide) ?_
    refine lv_icmp_ge (tgt := 117) C.1 C.2.1 dX11_empties_101 (by decide) (fun c2 => ?_) (fun c2 => ?_)
    · have h := h.1 c2
      refine lv_iconst (v := 0) C.1 C.2.1 dX11_empties_117 (by decide) ?_
      refine l_ist_n C dX11_empties_118 rfl hl (by decide) rfl (fun ls hl => ?_)
      have hl : LH ls 2 [(1, .inl ((0 : Int32))), (0, .inr (.inl (some b0)))] := hl
      obtain ⟨n, h⟩ := h
      exact b_X11_empties_119 C n ((0 : Int32)) M _ _ _ _ _ h I (hl.sub [1, 0] rfl)
    · have h := h.2 c2
      refine l_ald_n (x := some b0) C dX11_empties_104 hl 0 rfl rfl ?_
      refine f_A C I (fl_X11_71) (by decide) (by decide) dX11_empties_105 ?_
      refine l_ild_n C dX11_empties_108 hl 1 rfl rfl ?_
      refine lv_iconst (v := (-1)) C.1 C.2.1 dX11_empties_109 (by decide) ?_
      obtain ⟨hi, h⟩ := h
      refine f_st (k := 44) C I (by decide) hi dX11_empties_110 (fun H locs M1 eM1 I => ?_)
      have h := h M1 eM1
      refine l_inc (q := 1) (v := 1) C dX11_empties_111 hl rfl (by decide) (by decide) rfl (fun ls hl => ?_)
      have hl : LH ls 2 [(1, .inl ((l1 + 1))), (0, .inr (.inl (some b0)))] := hl
      refine lv_goto (tgt := 97) C.1 C.2.1 dX11_empties_114 (by decide) ?_
      exact hk97 ((l1 + 1)) M1 _ _ _ _ _ h I (hl.sub [1, 0] rfl)
def w_X11_empties_76 (Q : MS → Prop) : Nat → Int32 → MS → Prop
  | 0 => fun _ _ => False
  | f76 + 1 => fun l1 M => (((6 : Int32) ≤ l1) → (∃ n, w_X11_empties_97 Q n ((0 : Int32)) M)) ∧ ((¬ (6 : Int32) ≤ l1) → (vp_in l1 (mlen 43) ∧ ∀ M1 : MS, M1 = sA M 43 l1.toNatClampNeg ((0 : Int32)) → (w_X11_empties_76 Q f76) ((l1 + 1)) M1))
set_option maxHeartbeats 4000000 in
theorem b_X11_empties_76 {b0 z0 : Nat} {M0 : MS} {Q : MS → Prop} (C : Cx p s m meth c D T Z "EndingTownModel" cX11_empties 2 none) : ∀ (n : Nat) (l1 : Int32) (M : MS) (H : Heap) (locs : List Loc) (cells slots : Nat) (ls : Array Slot), w_X11_empties_76 Q n l1 M → HI (twd D T Z) (mG b0 z0 M0) s (rmX (twd D T Z) 0 0 (mG b0 z0 M0)) H locs cells slots (mG b0 z0 M) → LH ls 2 [(0, .inr (.inl (some b0))), (1, .inl l1)] → W p l e (rmX (twd D T Z) 0 0 (mG b0 z0 M0)) s m args below meth c H locs cells slots (MQX (twd D T Z) (mG b0 z0 M0) (mq b0 z0 (qV Q)) (fun _ _ => False) below s) (F0 m 76 ls []) := by
  intro n
  induction n with
  | zero => intro l1 M H locs cells slots ls h; exact (show False from h).elim
  | succ n ih =>
    intro l1 M H locs cells slots ls h I hl
    have hk76 := ih
    refine l_ild_n C dX11_empties_76 hl 1 rfl rfl ?_
    refine lv_bipush (v := 6) C.1 C.2.1 dX11_empties_77 (by decide) ?_
    refine lv_icmp_ge (tgt := 95) C.1 C.2.1 dX11_empties_79 (by decide) (fun c2 => ?_) (fun c2 => ?_)
    · have h := h.1 c2
      refine lv_iconst (v := 0) C.1 C.2.1 dX11_empties_95 (by decide) ?_
      refine l_ist_n C dX11_empties_96 rfl hl (by decide) rfl (fun ls hl => ?_)
      have hl : LH ls 2 [(1, .inl ((0 : Int32))), (0, .inr (.inl (some b0)))] := hl
      obtain ⟨n, h⟩ := h
      exact b_X11_empties_97 C n ((0 : Int32)) M _ _ _ _ _ h I (hl.sub [1, 0] rfl)
    · have h := h.2 c2
      refine l_ald_n (x := some b0) C dX11_empties_82 hl 0 rfl rfl ?_
      refine f_A C I (fl_X11_68) (by decide) (by decide) dX11_empties_83 ?_
      refine l_ild_n C dX11_empties_86 hl 1 rfl rfl ?_
      refine lv_iconst (v := 0) C.1 C.2.1 dX11_empties_87 (by decide) ?_
      obtain ⟨hi, h⟩ := h
      refine f_st (k := 43) C I (by decide) hi dX11_empties_88 (fun H locs M1 eM1 I => ?_)
      have h := h M1 eM1
      refine l_inc (q := 1) (v := 1) C dX11_empties_89 hl rfl (by decide) (by decide) rfl (fun ls hl => ?_)
      have hl : LH ls 2 [(1, .inl ((l1 + 1))), (0, .inr (.inl (some b0)))] := hl
      refine lv_goto (tgt := 76) C.1 C.2.1 dX11_empties_92 (by decide) ?_
      exact hk76 ((l1 + 1)) M1 _ _ _ _ _ h I (hl.sub [1, 0] rfl)
def w_X11_empties_54 (Q : MS → Prop) : Nat → Int32 → MS → Prop
  | 0 => fun _ _ => False
  | f54 + 1 => fun l1 M => (((135 : Int32) ≤ l1) → (∃ n, w_X11_empties_76 Q n ((0 : Int32)) M)) ∧ ((¬ (135 : Int32) ≤ l1) → (vp_in l1 (mlen 38) ∧ ∀ M1 : MS, M1 = sA M 38 l1.toNatClampNeg ((0 : Int32)) → (w_X11_empties_54 Q f54) ((l1 + 1)) M1))
set_option maxHeartbeats 4000000 in
theorem b_X11_empties_54 {b0 z0 : Nat} {M0 : MS} {Q : MS → Prop} (C : Cx p s m meth c D T Z "EndingTownModel" cX11_empties 2 none) : ∀ (n : Nat) (l1 : Int32) (M : MS) (H : Heap) (locs : List Loc) (cells slots : Nat) (ls : Array Slot), w_X11_empties_54 Q n l1 M → HI (twd D T Z) (mG b0 z0 M0) s (rmX (twd D T Z) 0 0 (mG b0 z0 M0)) H locs cells slots (mG b0 z0 M) → LH ls 2 [(0, .inr (.inl (some b0))), (1, .inl l1)] → W p l e (rmX (twd D T Z) 0 0 (mG b0 z0 M0)) s m args below meth c H locs cells slots (MQX (twd D T Z) (mG b0 z0 M0) (mq b0 z0 (qV Q)) (fun _ _ => False) below s) (F0 m 54 ls []) := by
  intro n
  induction n with
  | zero => intro l1 M H locs cells slots ls h; exact (show False from h).elim
  | succ n ih =>
    intro l1 M H locs cells slots ls h I hl
    have hk54 := ih
    refine l_ild_n C dX11_empties_54 hl 1 rfl rfl ?_
    refine lv_sipush (v := 135) C.1 C.2.1 dX11_empties_55 (by decide) ?_
    refine lv_icmp_ge (tgt := 74) C.1 C.2.1 dX11_empties_58 (by decide) (fun c2 => ?_) (fun c2 => ?_)
    · have h := h.1 c2
      refine lv_iconst (v := 0) C.1 C.2.1 dX11_empties_74 (by decide) ?_
      refine l_ist_n C dX11_empties_75 rfl hl (by decide) rfl (fun ls hl => ?_)
      have hl : LH ls 2 [(1, .inl ((0 : Int32))), (0, .inr (.inl (some b0)))] := hl
      obtain ⟨n, h⟩ := h
      exact b_X11_empties_76 C n ((0 : Int32)) M _ _ _ _ _ h I (hl.sub [1, 0] rfl)
    · have h := h.2 c2
      refine l_ald_n (x := some b0) C dX11_empties_61 hl 0 rfl rfl ?_
      refine f_A C I (fl_X11_53) (by decide) (by decide) dX11_empties_62 ?_
      refine l_ild_n C dX11_empties_65 hl 1 rfl rfl ?_
      refine lv_iconst (v := 0) C.1 C.2.1 dX11_empties_66 (by decide) ?_
      obtain ⟨hi, h⟩ := h
      refine f_st (k := 38) C I (by decide) hi dX11_empties_67 (fun H locs M1 eM1 I => ?_)
      have h := h M1 eM1
      refine l_inc (q := 1) (v := 1) C dX11_empties_68 hl rfl (by decide) (by decide) rfl (fun ls hl => ?_)
      have hl : LH ls 2 [(1, .inl ((l1 + 1))), (0, .inr (.inl (some b0)))] := hl
      refine lv_goto (tgt := 54) C.1 C.2.1 dX11_empties_71 (by decide) ?_
      exact hk54 ((l1 + 1)) M1 _ _ _ _ _ h I (hl.sub [1, 0] rfl)
def w_X11_empties (Q : MS → Prop) (M : MS) : Prop := ∀ M1 : MS, M1 = sF M 28 ((0 : Int32)) → ∀ M2 : MS, M2 = sF M1 29 ((0 : Int32)) → ∀ M3 : MS, M3 = sF M2 30 ((1 : Int32)) → ∀ M4 : MS, M4 = sF M3 31 ((0 : Int32)) → ∀ M5 : MS, M5 = sF M4 32 ((0 : Int32)) → ∀ M6 : MS, M6 = sF M5 33 ((0 : Int32)) → ∀ M7 : MS, M7 = sF M6 34 ((0 : Int32)) → ∀ M8 : MS, M8 = sF M7 35 ((0 : Int32)) → ∀ M9 : MS, M9 = sF M8 36 ((0 : Int32)) → vp_in ((0 : Int32)) (mlen 40) ∧ ∀ M10 : MS, M10 = sA M9 40 ((0 : Int32)).toNatClampNeg ((0 : Int32)) → ∃ n, w_X11_empties_54 Q n ((0 : Int32)) M10
theorem pd_X11_empties : (parseMethodDescriptor yX11_empties.desc).map (fun d => d.parameters.length) = some 0 := by decide +kernel
set_option maxHeartbeats 4000000 in
theorem ct_X11_empties {l : Launch} {D : va_G} {T : Nat → ClassId} {Z : Heap} {b0 z0 : Nat} {M0 : MS} {Q : MS → Prop} (hw : w_X11_empties Q M0) : CT (twd D T Z) (Evd D T Z) l yX11_empties (Cond.code yX11_empties cX11_empties 2 none) 0 0 [va_rf (some b0)] (mG b0 z0 M0) (mq b0 z0 (qV Q)) (fun _ _ => False) := by
  refine CT.ofW (cc := cX11_empties) (nL := 2) (ret := none) Ext.rf (by decide) (Or.inl rfl) ?_
  intro p e s m below meth c hx hb hml hown hr hlk hnm hcb hm hc hn hE I
  have C : Cx p s m meth c D T Z "EndingTownModel" cX11_empties 2 none := ⟨hx, hb, hml, hown, hE, hr, hlk⟩
  refine w_entry [.inr (.inl (some b0))] (Nat.le_of_ble_eq_true rfl) (fun ls hl => ?_)
  have hl : LH ls 2 [(0, .inr (.inl (some b0)))] := hl
  have h := hw
  refine l_ald_n (x := some b0) C dX11_empties_0 hl 0 rfl rfl ?_
  refine lv_iconst (v := 0) C.1 C.2.1 dX11_empties_1 (by decide) ?_
  refine f_PI C I (fp_X11_210) (by decide) dX11_empties_2 (fit_i _) (fun H locs M1 eM1 I => ?_)
  have h := h M1 eM1
  refine l_ald_n (x := some b0) C dX11_empties_5 hl 0 rfl rfl ?_
  refine lv_iconst (v := 0) C.1 C.2.1 dX11_empties_6 (by decide) ?_
  refine f_PI C I (fp_X11_225) (by decide) dX11_empties_7 (fit_i _) (fun H locs M2 eM2 I => ?_)
  have h := h M2 eM2
  refine l_ald_n (x := some b0) C dX11_empties_10 hl 0 rfl rfl ?_
  refine lv_iconst (v := 1) C.1 C.2.1 dX11_empties_11 (by decide) ?_
  refine f_PI C I (fp_X11_201) (by decide) dX11_empties_12 (fit_i _) (fun H locs M3 eM3 I => ?_)
  have h := h M3 eM3
  refine l_ald_n (x := some b0) C dX11_empties_15 hl 0 rfl rfl ?_
  refine lv_iconst (v := 0) C.1 C.2.1 dX11_empties_16 (by decide) ?_
  refine f_PI C I (fp_X11_219) (by decide) dX11_empties_17 (fit_i _) (fun H locs M4 eM4 I => ?_)
  have h := h M4 eM4
  refine l_ald_n (x := some b0) C dX11_empties_20 hl 0 rfl rfl ?_
  refine lv_iconst (v := 0) C.1 C.2.1 dX11_empties_21 (by decide) ?_
  refine f_PI C I (fp_X11_207) (by decide) dX11_empties_22 (fit_i _) (fun H locs M5 eM5 I => ?_)
  have h := h M5 eM5
  refine l_ald_n (x := some b0) C dX11_empties_25 hl 0 rfl rfl ?_
  refine lv_iconst (v := 0) C.1 C.2.1 dX11_empties_26 (by decide) ?_
  refine f_PI C I (fp_X11_216) (by decide) dX11_empties_27 (fit_i _) (fun H locs M6 eM6 I => ?_)
  have h := h M6 eM6
  refine l_ald_n (x := some b0) C dX11_empties_30 hl 0 rfl rfl ?_
  refine lv_iconst (v := 0) C.1 C.2.1 dX11_empties_31 (by decide) ?_
  refine f_PI C I (fp_X11_228) (by decide) dX11_empties_32 (fit_z bz0) (fun H locs M7 eM7 I => ?_)
  have h := h M7 eM7
  refine l_ald_n (x := some b0) C dX11_empties_35 hl 0 rfl rfl ?_
  refine lv_iconst (v := 0) C.1 C.2.1 dX11_empties_36 (by decide) ?_
  refine f_PI C I (fp_X11_231) (by decide) dX11_empties_37 (fit_z bz0) (fun H locs M8 eM8 I => ?_)
  have h := h M8 eM8
  refine l_ald_n (x := some b0) C dX11_empties_40 hl 0 rfl rfl ?_
  refine lv_iconst (v := 0) C.1 C.2.1 dX11_empties_41 (by decide) ?_
  refine f_PI C I (fp_X11_197) (by decide) dX11_empties_42 (fit_z bz0) (fun H locs M9 eM9 I => ?_)
  have h := h M9 eM9
  refine l_ald_n (x := some b0) C dX11_empties_45 hl 0 rfl rfl ?_
  refine f_A C I (fl_X11_59) (by decide) (by decide) dX11_empties_46 ?_
  refine lv_iconst (v := 0) C.1 C.2.1 dX11_empties_49 (by decide) ?_
  refine lv_iconst (v := 0) C.1 C.2.1 dX11_empties_50 (by decide) ?_
  obtain ⟨hi, h⟩ := h
  refine f_st (k := 40) C I (by decide) hi dX11_empties_51 (fun H locs M10 eM10 I => ?_)
  have h := h M10 eM10
  refine lv_iconst (v := 0) C.1 C.2.1 dX11_empties_52 (by decide) ?_
  refine l_ist_n C dX11_empties_53 rfl hl (by decide) rfl (fun ls hl => ?_)
  have hl : LH ls 2 [(1, .inl ((0 : Int32))), (0, .inr (.inl (some b0)))] := hl
  obtain ⟨n, h⟩ := h
  exact b_X11_empties_54 C n ((0 : Int32)) M10 _ _ _ _ _ h I (hl.sub [1, 0] rfl)
def w_X11_isGood_12 (Q : Int32 → MS → Prop) (t0 : Int32) (M : MS) : Prop := bz t0 ∧ Q t0 M
set_option maxHeartbeats 4000000 in
theorem b_X11_isGood_12 {b0 z0 : Nat} {M0 : MS} {Q : Int32 → MS → Prop} (C : Cx p s m meth c D T Z "EndingTownModel" cX11_isGood 1 (some .boolean)) : ∀ (t0 : Int32) (M : MS) (H : Heap) (locs : List Loc) (cells slots : Nat) (ls : Array Slot), w_X11_isGood_12 Q t0 M → HI (twd D T Z) (mG b0 z0 M0) s (rmX (twd D T Z) 0 0 (mG b0 z0 M0)) H locs cells slots (mG b0 z0 M) → LH ls 1 [] → W p l e (rmX (twd D T Z) 0 0 (mG b0 z0 M0)) s m args below meth c H locs cells slots (MQX (twd D T Z) (mG b0 z0 M0) (mq b0 z0 (qI Q)) (fun _ _ => False) below s) (F0 m 12 ls [.int t0]) := by
  intro t0 M H locs cells slots ls h I hl
  exact r_int C.1 C.2.1 C.2.2.2.2.2.1 h.1.n C.2.2.2.2.2.2 ⟨rfl, rfl⟩ I dX11_isGood_12 ⟨_, rfl, _, rfl, h.2⟩
def w_X11_isGood (Q : Int32 → MS → Prop) (M : MS) : Prop := ((¬ mF M 18 = 0) → (w_X11_isGood_12 Q ((0 : Int32)) M)) ∧ ((mF M 18 = 0) → (w_X11_isGood_12 Q ((1 : Int32)) M))
theorem pd_X11_isGood : (parseMethodDescriptor yX11_isGood.desc).map (fun d => d.parameters.length) = some 0 := by decide +kernel
set_option maxHeartbeats 4000000 in
theorem ct_X11_isGood {l : Launch} {D : va_G} {T : Nat → ClassId} {Z : Heap} {b0 z0 : Nat} {M0 : MS} {Q : Int32 → MS → Prop} (hw : w_X11_isGood Q M0) : CT (twd D T Z) (Evd D T Z) l yX11_isGood (Cond.code yX11_isGood cX11_isGood 1 (some .boolean)) 0 0 [va_rf (some b0)] (mG b0 z0 M0) (mq b0 z0 (qI Q)) (fun _ _ => False) := by
  refine CT.ofW (cc := cX11_isGood) (nL := 1) (ret := (some .boolean)) Ext.rf (by decide) (Or.inl rfl) ?_
  intro p e s m below meth c hx hb hml hown hr hlk hnm hcb hm hc hn hE I
  have C : Cx p s m meth c D T Z "EndingTownModel" cX11_isGood 1 (some .boolean) := ⟨hx, hb, hml, hown, hE, hr, hlk⟩
  refine w_entry [.inr (.inl (some b0))] (Nat.le_of_ble_eq_true rfl) (fun ls hl => ?_)
  have hl : LH ls 1 [(0, .inr (.inl (some b0)))] := hl
  have h := hw
  refine l_ald_n (x := some b0) C dX11_isGood_0 hl 0 rfl rfl ?_
  refine f_I C I (fl_X11_173) (by decide) dX11_isGood_1 ?_
  refine lv_if_ne (tgt := 11) C.1 C.2.1 dX11_isGood_4 (by decide) (fun c1 => ?_) (fun c1 => ?_)
  · have h := h.1 c1
    refine lv_iconst (v := 0) C.1 C.2.1 dX11_isGood_11 (by decide) ?_
    exact b_X11_isGood_12 C ((0 : Int32)) M0 _ _ _ _ _ h I (hl.sub [] rfl)
  · have h := h.2 c1
    refine lv_iconst (v := 1) C.1 C.2.1 dX11_isGood_7 (by decide) ?_
    refine lv_goto (tgt := 12) C.1 C.2.1 dX11_isGood_8 (by decide) ?_
    exact b_X11_isGood_12 C ((1 : Int32)) M0 _ _ _ _ _ h I (hl.sub [] rfl)
def w_X11_faults (Q : MS → Prop) (p0 : Int32) (M : MS) : Prop := ((mF M 18 = 0) → (∀ M1 : MS, M1 = sF M 18 p0 → ∀ M2 : MS, M2 = sF M1 19 (mF M1 24) → Q M2)) ∧ ((¬ mF M 18 = 0) → (Q M))
theorem pd_X11_faults : (parseMethodDescriptor yX11_faults.desc).map (fun d => d.parameters.length) = some 1 := by decide +kernel
set_option maxHeartbeats 4000000 in
theorem ct_X11_faults {l : Launch} {D : va_G} {T : Nat → ClassId} {Z : Heap} {b0 z0 : Nat} {M0 : MS} {Q : MS → Prop} {p0 : Int32} (hw : w_X11_faults Q p0 M0) : CT (twd D T Z) (Evd D T Z) l yX11_faults (Cond.code yX11_faults cX11_faults 2 none) 0 0 [va_rf (some b0), .int p0] (mG b0 z0 M0) (mq b0 z0 (qV Q)) (fun _ _ => False) := by
  refine CT.ofW (cc := cX11_faults) (nL := 2) (ret := none) Ext.rf (by decide) (Or.inl rfl) ?_
  intro p e s m below meth c hx hb hml hown hr hlk hnm hcb hm hc hn hE I
  have C : Cx p s m meth c D T Z "EndingTownModel" cX11_faults 2 none := ⟨hx, hb, hml, hown, hE, hr, hlk⟩
  refine w_entry [.inr (.inl (some b0)), .inl p0] (Nat.le_of_ble_eq_true rfl) (fun ls hl => ?_)
  have hl : LH ls 2 [(0, .inr (.inl (some b0))), (1, .inl p0)] := hl
  have h := hw
  refine l_ald_n (x := some b0) C dX11_faults_0 hl 0 rfl rfl ?_
  refine f_I C I (fl_X11_173) (by decide) dX11_faults_1 ?_
  refine lv_if_eq (tgt := 8) C.1 C.2.1 dX11_faults_4 (by decide) (fun c3 => ?_) (fun c3 => ?_)
  · have h := h.1 c3
    refine l_ald_n (x := some b0) C dX11_faults_8 hl 0 rfl rfl ?_
    refine l_ild_n C dX11_faults_9 hl 1 rfl rfl ?_
    refine f_PI C I (fp_X11_173) (by decide) dX11_faults_10 (fit_i _) (fun H locs M1 eM1 I => ?_)
    have h := h M1 eM1
    refine l_ald_n (x := some b0) C dX11_faults_13 hl 0 rfl rfl ?_
    refine l_ald_n (x := some b0) C dX11_faults_14 hl 0 rfl rfl ?_
    refine f_I C I (fl_X11_142) (by decide) dX11_faults_15 ?_
    refine f_PI C I (fp_X11_44) (by decide) dX11_faults_18 (fit_i _) (fun H locs M2 eM2 I => ?_)
    have h := h M2 eM2
    exact r_void C.1 C.2.1 C.2.2.2.2.2.1 C.2.2.2.2.2.2 ⟨rfl, rfl⟩ I dX11_faults_21 ⟨_, rfl, rfl, h⟩
  · have h := h.2 c3
    exact r_void C.1 C.2.1 C.2.2.2.2.2.1 C.2.2.2.2.2.2 ⟨rfl, rfl⟩ I dX11_faults_7 ⟨_, rfl, rfl, h⟩
def w_X11_spelled_87 (Q : Int64 → MS → Prop) (l6 : Int64) (M : MS) : Prop := Q l6 M
set_option maxHeartbeats 4000000 in
theorem b_X11_spelled_87 {b0 z0 : Nat} {M0 : MS} {Q : Int64 → MS → Prop} (C : Cx p s m meth c D T Z "EndingTownModel" cX11_spelled 8 (some .long)) : ∀ (l6 : Int64) (M : MS) (H : Heap) (locs : List Loc) (cells slots : Nat) (ls : Array Slot), w_X11_spelled_87 Q l6 M → HI (twd D T Z) (mG b0 z0 M0) s (rmX (twd D T Z) 0 0 (mG b0 z0 M0)) H locs cells slots (mG b0 z0 M) → LH ls 8 [(6, .inr (.inr l6))] → W p l e (rmX (twd D T Z) 0 0 (mG b0 z0 M0)) s m args below meth c H locs cells slots (MQX (twd D T Z) (mG b0 z0 M0) (mq b0 z0 (qL Q)) (fun _ _ => False) below s) (F0 m 87 ls []) := by
  intro l6 M H locs cells slots ls h I hl
  refine l_lld C dX11_spelled_87 hl 0 rfl ?_
  exact r_long C.1 C.2.1 C.2.2.2.2.2.1 C.2.2.2.2.2.2 ⟨rfl, rfl⟩ I dX11_spelled_89 ⟨_, rfl, _, rfl, h⟩
def w_X11_spelled_69 (Q : Int64 → MS → Prop) (l5 : Int32) (l6 : Int64) (M : MS) : Prop := ((l5 = 0) → (w_X11_spelled_87 Q l6 M)) ∧ ((¬ l5 = 0) → (w_X11_spelled_87 Q (((l6 <<< (((5 : Int32)).toInt64 &&& 63)) ||| ((l5 - (96 : Int32))).toInt64)) M))
set_option maxHeartbeats 4000000 in
theorem b_X11_spelled_69 {b0 z0 : Nat} {M0 : MS} {Q : Int64 → MS → Prop} (C : Cx p s m meth c D T Z "EndingTownModel" cX11_spelled 8 (some .long)) : ∀ (l5 : Int32) (l6 : Int64) (M : MS) (H : Heap) (locs : List Loc) (cells slots : Nat) (ls : Array Slot), w_X11_spelled_69 Q l5 l6 M → HI (twd D T Z) (mG b0 z0 M0) s (rmX (twd D T Z) 0 0 (mG b0 z0 M0)) H locs cells slots (mG b0 z0 M) → LH ls 8 [(5, .inl l5), (6, .inr (.inr l6))] → W p l e (rmX (twd D T Z) 0 0 (mG b0 z0 M0)) s m args below meth c H locs cells slots (MQX (twd D T Z) (mG b0 z0 M0) (mq b0 z0 (qL Q)) (fun _ _ => False) below s) (F0 m 69 ls []) := by
  intro l5 l6 M H locs cells slots ls h I hl
  refine l_ild C dX11_spelled_69 hl 0 rfl ?_
  refine lv_if_eq (tgt := 87) C.1 C.2.1 dX11_spelled_71 (by decide) (fun c1 => ?_) (fun c1 => ?_)
  · have h := h.1 c1
    exact b_X11_spelled_87 C l6 M _ _ _ _ _ h I (hl.sub [1] rfl)
  · have h := h.2 c1
    refine l_lld C dX11_spelled_74 hl 1 rfl ?_
    refine lv_iconst (v := 5) C.1 C.2.1 dX11_spelled_76 (by decide) ?_
    refine lv_lshl C.1 C.2.1 dX11_spelled_77 rfl ?_
    refine l_ild C dX11_spelled_78 hl 0 rfl ?_
    refine lv_bipush (v := 96) C.1 C.2.1 dX11_spelled_80 (by decide) ?_
    refine lv_isub C.1 C.2.1 dX11_spelled_82 ?_
    refine lv_i2l C.1 C.2.1 dX11_spelled_83 rfl ?_
    refine lv_lor C.1 C.2.1 dX11_spelled_84 ?_
    refine l_lst C dX11_spelled_85 hl (by decide) rfl (fun ls hl => ?_)
    have hl : LH ls 8 [(6, .inr (.inr (((l6 <<< (((5 : Int32)).toInt64 &&& 63)) ||| ((l5 - (96 : Int32))).toInt64)))), (5, .inl l5)] := hl
    exact b_X11_spelled_87 C (((l6 <<< (((5 : Int32)).toInt64 &&& 63)) ||| ((l5 - (96 : Int32))).toInt64)) M _ _ _ _ _ h I (hl.sub [0] rfl)
def w_X11_spelled_51 (Q : Int64 → MS → Prop) (l4 : Int32) (l5 : Int32) (l6 : Int64) (M : MS) : Prop := ((l4 = 0) → (w_X11_spelled_69 Q l5 l6 M)) ∧ ((¬ l4 = 0) → (w_X11_spelled_69 Q l5 (((l6 <<< (((5 : Int32)).toInt64 &&& 63)) ||| ((l4 - (96 : Int32))).toInt64)) M))
set_option maxHeartbeats 4000000 in
theorem b_X11_spelled_51 {b0 z0 : Nat} {M0 : MS} {Q : Int64 → MS → Prop} (C : Cx p s m meth c D T Z "EndingTownModel" cX11_spelled 8 (some .long)) : ∀ (l4 : Int32) (l5 : Int32) (l6 : Int64) (M : MS) (H : Heap) (locs : List Loc) (cells slots : Nat) (ls : Array Slot), w_X11_spelled_51 Q l4 l5 l6 M → HI (twd D T Z) (mG b0 z0 M0) s (rmX (twd D T Z) 0 0 (mG b0 z0 M0)) H locs cells slots (mG b0 z0 M) → LH ls 8 [(4, .inl l4), (5, .inl l5), (6, .inr (.inr l6))] → W p l e (rmX (twd D T Z) 0 0 (mG b0 z0 M0)) s m args below meth c H locs cells slots (MQX (twd D T Z) (mG b0 z0 M0) (mq b0 z0 (qL Q)) (fun _ _ => False) below s) (F0 m 51 ls []) := by
  intro l4 l5 l6 M H locs cells slots ls h I hl
  refine l_ild C dX11_spelled_51 hl 0 rfl ?_
  refine lv_if_eq (tgt := 69) C.1 C.2.1 dX11_spelled_53 (by decide) (fun c1 => ?_) (fun c1 => ?_)
  · have h := h.1 c1
    exact b_X11_spelled_69 C l5 l6 M _ _ _ _ _ h I (hl.sub [1, 2] rfl)
  · have h := h.2 c1
    refine l_lld C dX11_spelled_56 hl 2 rfl ?_
    refine lv_iconst (v := 5) C.1 C.2.1 dX11_spelled_58 (by decide) ?_
    refine lv_lshl C.1 C.2.1 dX11_spelled_59 rfl ?_
    refine l_ild C dX11_spelled_60 hl 0 rfl ?_
    refine lv_bipush (v := 96) C.1 C.2.1 dX11_spelled_62 (by decide) ?_
    refine lv_isub C.1 C.2.1 dX11_spelled_64 ?_
    refine lv_i2l C.1 C.2.1 dX11_spelled_65 rfl ?_
    refine lv_lor C.1 C.2.1 dX11_spelled_66 ?_
    refine l_lst C dX11_spelled_67 hl (by decide) rfl (fun ls hl => ?_)
    have hl : LH ls 8 [(6, .inr (.inr (((l6 <<< (((5 : Int32)).toInt64 &&& 63)) ||| ((l4 - (96 : Int32))).toInt64)))), (4, .inl l4), (5, .inl l5)] := hl
    exact b_X11_spelled_69 C l5 (((l6 <<< (((5 : Int32)).toInt64 &&& 63)) ||| ((l4 - (96 : Int32))).toInt64)) M _ _ _ _ _ h I (hl.sub [2, 0] rfl)
def w_X11_spelled_35 (Q : Int64 → MS → Prop) (l3 : Int32) (l4 : Int32) (l5 : Int32) (l6 : Int64) (M : MS) : Prop := ((l3 = 0) → (w_X11_spelled_51 Q l4 l5 l6 M)) ∧ ((¬ l3 = 0) → (w_X11_spelled_51 Q l4 l5 (((l6 <<< (((5 : Int32)).toInt64 &&& 63)) ||| ((l3 - (96 : Int32))).toInt64)) M))
set_option maxHeartbeats 4000000 in
theorem b_X11_spelled_35 {b0 z0 : Nat} {M0 : MS} {Q : Int64 → MS → Prop} (C : Cx p s m meth c D T Z "EndingTownModel" cX11_spelled 8 (some .long)) : ∀ (l3 : Int32) (l4 : Int32) (l5 : Int32) (l6 : Int64) (M : MS) (H : Heap) (locs : List Loc) (cells slots : Nat) (ls : Array Slot), w_X11_spelled_35 Q l3 l4 l5 l6 M → HI (twd D T Z) (mG b0 z0 M0) s (rmX (twd D T Z) 0 0 (mG b0 z0 M0)) H locs cells slots (mG b0 z0 M) → LH ls 8 [(3, .inl l3), (4, .inl l4), (5, .inl l5), (6, .inr (.inr l6))] → W p l e (rmX (twd D T Z) 0 0 (mG b0 z0 M0)) s m args below meth c H locs cells slots (MQX (twd D T Z) (mG b0 z0 M0) (mq b0 z0 (qL Q)) (fun _ _ => False) below s) (F0 m 35 ls []) := by
  intro l3 l4 l5 l6 M H locs cells slots ls h I hl
  refine l_ild_n C dX11_spelled_35 hl 0 rfl rfl ?_
  refine lv_if_eq (tgt := 51) C.1 C.2.1 dX11_spelled_36 (by decide) (fun c1 => ?_) (fun c1 => ?_)
  · have h := h.1 c1
    exact b_X11_spelled_51 C l4 l5 l6 M _ _ _ _ _ h I (hl.sub [1, 2, 3] rfl)
  · have h := h.2 c1
    refine l_lld C dX11_spelled_39 hl 3 rfl ?_
    refine lv_iconst (v := 5) C.1 C.2.1 dX11_spelled_41 (by decide) ?_
    refine lv_lshl C.1 C.2.1 dX11_spelled_42 rfl ?_
    refine l_ild_n C dX11_spelled_43 hl 0 rfl rfl ?_
    refine lv_bipush (v := 96) C.1 C.2.1 dX11_spelled_44 (by decide) ?_
    refine lv_isub C.1 C.2.1 dX11_spelled_46 ?_
    refine lv_i2l C.1 C.2.1 dX11_spelled_47 rfl ?_
    refine lv_lor C.1 C.2.1 dX11_spelled_48 ?_
    refine l_lst C dX11_spelled_49 hl (by decide) rfl (fun ls hl => ?_)
    have hl : LH ls 8 [(6, .inr (.inr (((l6 <<< (((5 : Int32)).toInt64 &&& 63)) ||| ((l3 - (96 : Int32))).toInt64)))), (3, .inl l3), (4, .inl l4), (5, .inl l5)] := hl
    exact b_X11_spelled_51 C l4 l5 (((l6 <<< (((5 : Int32)).toInt64 &&& 63)) ||| ((l3 - (96 : Int32))).toInt64)) M _ _ _ _ _ h I (hl.sub [2, 3, 0] rfl)
def w_X11_spelled (Q : Int64 → MS → Prop) (p0 : Int32) (p1 : Int32) (p2 : Int32) (p3 : Int32) (p4 : Int32) (p5 : Int32) (M : MS) : Prop := ((p2 = 0) → (w_X11_spelled_35 Q p3 p4 p5 (((((p0 - (96 : Int32))).toInt64 <<< (((5 : Int32)).toInt64 &&& 63)) ||| ((p1 - (96 : Int32))).toInt64)) M)) ∧ ((¬ p2 = 0) → (w_X11_spelled_35 Q p3 p4 p5 (((((((p0 - (96 : Int32))).toInt64 <<< (((5 : Int32)).toInt64 &&& 63)) ||| ((p1 - (96 : Int32))).toInt64) <<< (((5 : Int32)).toInt64 &&& 63)) ||| ((p2 - (96 : Int32))).toInt64)) M))
theorem pd_X11_spelled : (parseMethodDescriptor yX11_spelled.desc).map (fun d => d.parameters.length) = some 6 := by decide +kernel
set_option maxHeartbeats 4000000 in
theorem ct_X11_spelled {l : Launch} {D : va_G} {T : Nat → ClassId} {Z : Heap} {b0 z0 : Nat} {M0 : MS} {Q : Int64 → MS → Prop} {p0 : Int32} {p1 : Int32} {p2 : Int32} {p3 : Int32} {p4 : Int32} {p5 : Int32} (hw : w_X11_spelled Q p0 p1 p2 p3 p4 p5 M0) : CT (twd D T Z) (Evd D T Z) l yX11_spelled (Cond.code yX11_spelled cX11_spelled 8 (some .long)) 0 0 [.int p0, .int p1, .int p2, .int p3, .int p4, .int p5] (mG b0 z0 M0) (mq b0 z0 (qL Q)) (fun _ _ => False) := by
  refine CT.ofW (cc := cX11_spelled) (nL := 8) (ret := (some .long)) Ext.rf (by decide) (Or.inl rfl) ?_
  intro p e s m below meth c hx hb hml hown hr hlk hnm hcb hm hc hn hE I
  have C : Cx p s m meth c D T Z "EndingTownModel" cX11_spelled 8 (some .long) := ⟨hx, hb, hml, hown, hE, hr, hlk⟩
  refine w_entry [.inl p0, .inl p1, .inl p2, .inl p3, .inl p4, .inl p5] (Nat.le_of_ble_eq_true rfl) (fun ls hl => ?_)
  have hl : LH ls 8 [(0, .inl p0), (1, .inl p1), (2, .inl p2), (3, .inl p3), (4, .inl p4), (5, .inl p5)] := hl
  have h := hw
  refine l_ild_n C dX11_spelled_0 hl 0 rfl rfl ?_
  refine lv_bipush (v := 96) C.1 C.2.1 dX11_spelled_1 (by decide) ?_
  refine lv_isub C.1 C.2.1 dX11_spelled_3 ?_
  refine lv_i2l C.1 C.2.1 dX11_spelled_4 rfl ?_
  refine l_lst C dX11_spelled_5 hl (by decide) rfl (fun ls hl => ?_)
  have hl : LH ls 8 [(6, .inr (.inr (((p0 - (96 : Int32))).toInt64))), (0, .inl p0), (1, .inl p1), (2, .inl p2), (3, .inl p3), (4, .inl p4), (5, .inl p5)] := hl
  refine l_lld C dX11_spelled_7 hl 0 rfl ?_
  refine lv_iconst (v := 5) C.1 C.2.1 dX11_spelled_9 (by decide) ?_
  refine lv_lshl C.1 C.2.1 dX11_spelled_10 rfl ?_
  refine l_ild_n C dX11_spelled_11 hl 2 rfl rfl ?_
  refine lv_bipush (v := 96) C.1 C.2.1 dX11_spelled_12 (by decide) ?_
  refine lv_isub C.1 C.2.1 dX11_spelled_14 ?_
  refine lv_i2l C.1 C.2.1 dX11_spelled_15 rfl ?_
  refine lv_lor C.1 C.2.1 dX11_spelled_16 ?_
  refine l_lst C dX11_spelled_17 hl (by decide) rfl (fun ls hl => ?_)
  have hl : LH ls 8 [(6, .inr (.inr (((((p0 - (96 : Int32))).toInt64 <<< (((5 : Int32)).toInt64 &&& 63)) ||| ((p1 - (96 : Int32))).toInt64)))), (0, .inl p0), (1, .inl p1), (2, .inl p2), (3, .inl p3), (4, .inl p4), (5, .inl p5)] := hl
  refine l_ild_n C dX11_spelled_19 hl 3 rfl rfl ?_
  refine lv_if_eq (tgt := 35) C.1 C.2.1 dX11_spelled_20 (by decide) (fun c1 => ?_) (fun c1 => ?_)
  · have h := h.1 c1
    exact b_X11_spelled_35 C p3 p4 p5 (((((p0 - (96 : Int32))).toInt64 <<< (((5 : Int32)).toInt64 &&& 63)) ||| ((p1 - (96 : Int32))).toInt64)) M0 _ _ _ _ _ h I (hl.sub [4, 5, 6, 0] rfl)
  · have h := h.2 c1
    refine l_lld C dX11_spelled_23 hl 0 rfl ?_
    refine lv_iconst (v := 5) C.1 C.2.1 dX11_spelled_25 (by decide) ?_
    refine lv_lshl C.1 C.2.1 dX11_spelled_26 rfl ?_
    refine l_ild_n C dX11_spelled_27 hl 3 rfl rfl ?_
    refine lv_bipush (v := 96) C.1 C.2.1 dX11_spelled_28 (by decide) ?_
    refine lv_isub C.1 C.2.1 dX11_spelled_30 ?_
    refine lv_i2l C.1 C.2.1 dX11_spelled_31 rfl ?_
    refine lv_lor C.1 C.2.1 dX11_spelled_32 ?_
    refine l_lst C dX11_spelled_33 hl (by decide) rfl (fun ls hl => ?_)
    have hl : LH ls 8 [(6, .inr (.inr (((((((p0 - (96 : Int32))).toInt64 <<< (((5 : Int32)).toInt64 &&& 63)) ||| ((p1 - (96 : Int32))).toInt64) <<< (((5 : Int32)).toInt64 &&& 63)) ||| ((p2 - (96 : Int32))).toInt64)))), (0, .inl p0), (1, .inl p1), (2, .inl p2), (3, .inl p3), (4, .inl p4), (5, .inl p5)] := hl
    exact b_X11_spelled_35 C p3 p4 p5 (((((((p0 - (96 : Int32))).toInt64 <<< (((5 : Int32)).toInt64 &&& 63)) ||| ((p1 - (96 : Int32))).toInt64) <<< (((5 : Int32)).toInt64 &&& 63)) ||| ((p2 - (96 : Int32))).toInt64)) M0 _ _ _ _ _ h I (hl.sub [4, 5, 6, 0] rfl)
def w_X11_letters (Q : Int64 → MS → Prop) (p0 : Int32) (M : MS) : Prop := (p0 = 0 → (w_X11_spelled (fun r2 M1 => Q r2 M1) ((115 : Int32)) ((116 : Int32)) ((101 : Int32)) ((109 : Int32)) ((0 : Int32)) ((0 : Int32)) M)) ∧ (p0 = 1 → (w_X11_spelled (fun r4 M3 => Q r4 M3) ((101 : Int32)) ((110 : Int32)) ((100 : Int32)) ((105 : Int32)) ((110 : Int32)) ((103 : Int32)) M)) ∧ (p0 = 2 → (w_X11_spelled (fun r6 M5 => Q r6 M5) ((99 : Int32)) ((104 : Int32)) ((97 : Int32)) ((110 : Int32)) ((103 : Int32)) ((101 : Int32)) M)) ∧ (p0 = 3 → (w_X11_spelled (fun r8 M7 => Q r8 M7) ((110 : Int32)) ((111 : Int32)) ((116 : Int32)) ((0 : Int32)) ((0 : Int32)) ((0 : Int32)) M)) ∧ (p0 = 4 → (w_X11_spelled (fun r10 M9 => Q r10 M9) ((112 : Int32)) ((108 : Int32)) ((97 : Int32)) ((99 : Int32)) ((101 : Int32)) ((115 : Int32)) M)) ∧ (p0 = 5 → (w_X11_spelled (fun r12 M11 => Q r12 M11) ((110 : Int32)) ((101 : Int32)) ((97 : Int32)) ((114 : Int32)) ((0 : Int32)) ((0 : Int32)) M)) ∧ (p0 = 6 → (w_X11_spelled (fun r14 M13 => Q r14 M13) ((112 : Int32)) ((101 : Int32)) ((114 : Int32)) ((115 : Int32)) ((111 : Int32)) ((110 : Int32)) M)) ∧ (p0 = 7 → (w_X11_spelled (fun r16 M15 => Q r16 M15) ((116 : Int32)) ((104 : Int32)) ((105 : Int32)) ((110 : Int32)) ((103 : Int32)) ((0 : Int32)) M)) ∧ (p0 = 8 → (w_X11_spelled (fun r18 M17 => Q r18 M17) ((114 : Int32)) ((117 : Int32)) ((108 : Int32)) ((101 : Int32)) ((0 : Int32)) ((0 : Int32)) M)) ∧ (p0 = 9 → (w_X11_spelled (fun r20 M19 => Q r20 M19) ((97 : Int32)) ((116 : Int32)) ((0 : Int32)) ((0 : Int32)) ((0 : Int32)) ((0 : Int32)) M)) ∧ (p0 = 10 → (w_X11_spelled (fun r22 M21 => Q r22 M21) ((119 : Int32)) ((101 : Int32)) ((105 : Int32)) ((103 : Int32)) ((104 : Int32)) ((0 : Int32)) M)) ∧ (p0 = 11 → (w_X11_spelled (fun r24 M23 => Q r24 M23) ((108 : Int32)) ((111 : Int32)) ((117 : Int32)) ((100 : Int32)) ((0 : Int32)) ((0 : Int32)) M)) ∧ (¬ p0 = 0 → ¬ p0 = 1 → ¬ p0 = 2 → ¬ p0 = 3 → ¬ p0 = 4 → ¬ p0 = 5 → ¬ p0 = 6 → ¬ p0 = 7 → ¬ p0 = 8 → ¬ p0 = 9 → ¬ p0 = 10 → ¬ p0 = 11 → (w_X11_spelled (fun r26 M25 => Q r26 M25) ((110 : Int32)) ((101 : Int32)) ((118 : Int32)) ((101 : Int32)) ((114 : Int32)) ((0 : Int32)) M))
theorem pd_X11_letters : (parseMethodDescriptor yX11_letters.desc).map (fun d => d.parameters.length) = some 1 := by decide +kernel
set_option maxHeartbeats 4000000 in
theorem ct_X11_letters {l : Launch} {D : va_G} {T : Nat → ClassId} {Z : Heap} {b0 z0 : Nat} {M0 : MS} {Q : Int64 → MS → Prop} {p0 : Int32} (hw : w_X11_letters Q p0 M0) : CT (twd D T Z) (Evd D T Z) l yX11_letters (Cond.code yX11_letters cX11_letters 1 (some .long)) 1 27 [.int p0] (mG b0 z0 M0) (mq b0 z0 (qL Q)) (fun _ _ => False) := by
  refine CT.ofW (cc := cX11_letters) (nL := 1) (ret := (some .long)) Ext.rf (by decide) (Or.inl rfl) ?_
  intro p e s m below meth c hx hb hml hown hr hlk hnm hcb hm hc hn hE I
  have C : Cx p s m meth c D T Z "EndingTownModel" cX11_letters 1 (some .long) := ⟨hx, hb, hml, hown, hE, hr, hlk⟩
  refine w_entry [.inl p0] (Nat.le_of_ble_eq_true rfl) (fun ls hl => ?_)
  have hl : LH ls 1 [(0, .inl p0)] := hl
  have h := hw
  refine l_ild_n C dX11_letters_0 hl 0 rfl rfl ?_
  by_cases t0 : p0 = 0
  · have h := h.1 t0
    refine lv_tableIn (off := 63) (tgt := 64) C.1 C.2.1 dX11_letters_1 (by rw [t0]; decide) (by rw [t0]; decide) (by rw [t0]; rfl) (by decide) ?_
    refine lv_bipush (v := 115) C.1 C.2.1 dX11_letters_64 (by decide) ?_
    refine lv_bipush (v := 116) C.1 C.2.1 dX11_letters_66 (by decide) ?_
    refine lv_bipush (v := 101) C.1 C.2.1 dX11_letters_68 (by decide) ?_
    refine lv_bipush (v := 109) C.1 C.2.1 dX11_letters_70 (by decide) ?_
    refine lv_iconst (v := 0) C.1 C.2.1 dX11_letters_72 (by decide) ?_
    refine lv_iconst (v := 0) C.1 C.2.1 dX11_letters_73 (by decide) ?_
    refine k_call Ext.tr C I (k_S (As := [.int ((115 : Int32)), .int ((116 : Int32)), .int ((101 : Int32)), .int ((109 : Int32)), .int ((0 : Int32)), .int ((0 : Int32))]) (rest := []) (y := yX11_spelled) C q1640 q1641 q113 (Or.inl rfl) q1642 (by decide) rfl pd_X11_spelled rfl dX11_letters_74) (ct_X11_spelled h) hl.1 dX11_letters_74 [] rfl (Nat.le_of_ble_eq_true rfl) (Or.inl rfl) q1642 q113 ⟨Nat.le_of_ble_eq_true rfl, Nat.le_of_ble_eq_true rfl⟩ (fun v x1 H locs cells slots ex hq I => ?_) (fun a x1 H locs cells slots ex hq I => hq.elim)
    obtain ⟨M1, rfl, r2, rfl, h⟩ := hq
    exact r_long C.1 C.2.1 C.2.2.2.2.2.1 C.2.2.2.2.2.2 ⟨rfl, rfl⟩ I dX11_letters_77 ⟨_, rfl, _, rfl, h⟩
  by_cases t1 : p0 = 1
  · have h := h.2.1 t1
    refine lv_tableIn (off := 77) (tgt := 78) C.1 C.2.1 dX11_letters_1 (by rw [t1]; decide) (by rw [t1]; decide) (by rw [t1]; rfl) (by decide) ?_
    refine lv_bipush (v := 101) C.1 C.2.1 dX11_letters_78 (by decide) ?_
    refine lv_bipush (v := 110) C.1 C.2.1 dX11_letters_80 (by decide) ?_
    refine lv_bipush (v := 100) C.1 C.2.1 dX11_letters_82 (by decide) ?_
    refine lv_bipush (v := 105) C.1 C.2.1 dX11_letters_84 (by decide) ?_
    refine lv_bipush (v := 110) C.1 C.2.1 dX11_letters_86 (by decide) ?_
    refine lv_bipush (v := 103) C.1 C.2.1 dX11_letters_88 (by decide) ?_
    refine k_call Ext.tr C I (k_S (As := [.int ((101 : Int32)), .int ((110 : Int32)), .int ((100 : Int32)), .int ((105 : Int32)), .int ((110 : Int32)), .int ((103 : Int32))]) (rest := []) (y := yX11_spelled) C q1640 q1641 q113 (Or.inl rfl) q1642 (by decide) rfl pd_X11_spelled rfl dX11_letters_90) (ct_X11_spelled h) hl.1 dX11_letters_90 [] rfl (Nat.le_of_ble_eq_true rfl) (Or.inl rfl) q1642 q113 ⟨Nat.le_of_ble_eq_true rfl, Nat.le_of_ble_eq_true rfl⟩ (fun v x1 H locs cells slots ex hq I => ?_) (fun a x1 H locs cells slots ex hq I => hq.elim)
    obtain ⟨M3, rfl, r4, rfl, h⟩ := hq
    exact r_long C.1 C.2.1 C.2.2.2.2.2.1 C.2.2.2.2.2.2 ⟨rfl, rfl⟩ I dX11_letters_93 ⟨_, rfl, _, rfl, h⟩
  by_cases t2 : p0 = 2
  · have h := h.2.2.1 t2
    refine lv_tableIn (off := 93) (tgt := 94) C.1 C.2.1 dX11_letters_1 (by rw [t2]; decide) (by rw [t2]; decide) (by rw [t2]; rfl) (by decide) ?_
    refine lv_bipush (v := 99) C.1 C.2.1 dX11_letters_94 (by decide) ?_
    refine lv_bipush (v := 104) C.1 C.2.1 dX11_letters_96 (by decide) ?_
    refine lv_bipush (v := 97) C.1 C.2.1 dX11_letters_98 (by decide) ?_
    refine lv_bipush (v := 110) C.1 C.2.1 dX11_letters_100 (by decide) ?_
    refine lv_bipush (v := 103) C.1 C.2.1 dX11_letters_102 (by decide) ?_
    refine lv_bipush (v := 101) C.1 C.2.1 dX11_letters_104 (by decide) ?_
    refine k_call Ext.tr C I (k_S (As := [.int ((99 : Int32)), .int ((104 : Int32)), .int ((97 : Int32)), .int ((110 : Int32)), .int ((103 : Int32)), .int ((101 : Int32))]) (rest := []) (y := yX11_spelled) C q1640 q1641 q113 (Or.inl rfl) q1642 (by decide) rfl pd_X11_spelled rfl dX11_letters_106) (ct_X11_spelled h) hl.1 dX11_letters_106 [] rfl (Nat.le_of_ble_eq_true rfl) (Or.inl rfl) q1642 q113 ⟨Nat.le_of_ble_eq_true rfl, Nat.le_of_ble_eq_true rfl⟩ (fun v x1 H locs cells slots ex hq I => ?_) (fun a x1 H locs cells slots ex hq I => hq.elim)
    obtain ⟨M5, rfl, r6, rfl, h⟩ := hq
    exact r_long C.1 C.2.1 C.2.2.2.2.2.1 C.2.2.2.2.2.2 ⟨rfl, rfl⟩ I dX11_letters_109 ⟨_, rfl, _, rfl, h⟩
  by_cases t3 : p0 = 3
  · have h := h.2.2.2.1 t3
    refine lv_tableIn (off := 109) (tgt := 110) C.1 C.2.1 dX11_letters_1 (by rw [t3]; decide) (by rw [t3]; decide) (by rw [t3]; rfl) (by decide) ?_
    refine lv_bipush (v := 110) C.1 C.2.1 dX11_letters_110 (by decide) ?_
    refine lv_bipush (v := 111) C.1 C.2.1 dX11_letters_112 (by decide) ?_
    refine lv_bipush (v := 116) C.1 C.2.1 dX11_letters_114 (by decide) ?_
    refine lv_iconst (v := 0) C.1 C.2.1 dX11_letters_116 (by decide) ?_
    refine lv_iconst (v := 0) C.1 C.2.1 dX11_letters_117 (by decide) ?_
    refine lv_iconst (v := 0) C.1 C.2.1 dX11_letters_118 (by decide) ?_
    refine k_call Ext.tr C I (k_S (As := [.int ((110 : Int32)), .int ((111 : Int32)), .int ((116 : Int32)), .int ((0 : Int32)), .int ((0 : Int32)), .int ((0 : Int32))]) (rest := []) (y := yX11_spelled) C q1640 q1641 q113 (Or.inl rfl) q1642 (by decide) rfl pd_X11_spelled rfl dX11_letters_119) (ct_X11_spelled h) hl.1 dX11_letters_119 [] rfl (Nat.le_of_ble_eq_true rfl) (Or.inl rfl) q1642 q113 ⟨Nat.le_of_ble_eq_true rfl, Nat.le_of_ble_eq_true rfl⟩ (fun v x1 H locs cells slots ex hq I => ?_) (fun a x1 H locs cells slots ex hq I => hq.elim)
    obtain ⟨M7, rfl, r8, rfl, h⟩ := hq
    exact r_long C.1 C.2.1 C.2.2.2.2.2.1 C.2.2.2.2.2.2 ⟨rfl, rfl⟩ I dX11_letters_122 ⟨_, rfl, _, rfl, h⟩
  by_cases t4 : p0 = 4
  · have h := h.2.2.2.2.1 t4
    refine lv_tableIn (off := 122) (tgt := 123) C.1 C.2.1 dX11_letters_1 (by rw [t4]; decide) (by rw [t4]; decide) (by rw [t4]; rfl) (by decide) ?_
    refine lv_bipush (v := 112) C.1 C.2.1 dX11_letters_123 (by decide) ?_
    refine lv_bipush (v := 108) C.1 C.2.1 dX11_letters_125 (by decide) ?_
    refine lv_bipush (v := 97) C.1 C.2.1 dX11_letters_127 (by decide) ?_
    refine lv_bipush (v := 99) C.1 C.2.1 dX11_letters_129 (by decide) ?_
    refine lv_bipush (v := 101) C.1 C.2.1 dX11_letters_131 (by decide) ?_
    refine lv_bipush (v := 115) C.1 C.2.1 dX11_letters_133 (by decide) ?_
    refine k_call Ext.tr C I (k_S (As := [.int ((112 : Int32)), .int ((108 : Int32)), .int ((97 : Int32)), .int ((99 : Int32)), .int ((101 : Int32)), .int ((115 : Int32))]) (rest := []) (y := yX11_spelled) C q1640 q1641 q113 (Or.inl rfl) q1642 (by decide) rfl pd_X11_spelled rfl dX11_letters_135) (ct_X11_spelled h) hl.1 dX11_letters_135 [] rfl (Nat.le_of_ble_eq_true rfl) (Or.inl rfl) q1642 q113 ⟨Nat.le_of_ble_eq_true rfl, Nat.le_of_ble_eq_true rfl⟩ (fun v x1 H locs cells slots ex hq I => ?_) (fun a x1 H locs cells slots ex hq I => hq.elim)
    obtain ⟨M9, rfl, r10, rfl, h⟩ := hq
    exact r_long C.1 C.2.1 C.2.2.2.2.2.1 C.2.2.2.2.2.2 ⟨rfl, rfl⟩ I dX11_letters_138 ⟨_, rfl, _, rfl, h⟩
  by_cases t5 : p0 = 5
  · have h := h.2.2.2.2.2.1 t5
    refine lv_tableIn (off := 138) (tgt := 139) C.1 C.2.1 dX11_letters_1 (by rw [t5]; decide) (by rw [t5]; decide) (by rw [t5]; rfl) (by decide) ?_
    refine lv_bipush (v := 110) C.1 C.2.1 dX11_letters_139 (by decide) ?_
    refine lv_bipush (v := 101) C.1 C.2.1 dX11_letters_141 (by decide) ?_
    refine lv_bipush (v := 97) C.1 C.2.1 dX11_letters_143 (by decide) ?_
    refine lv_bipush (v := 114) C.1 C.2.1 dX11_letters_145 (by decide) ?_
    refine lv_iconst (v := 0) C.1 C.2.1 dX11_letters_147 (by decide) ?_
    refine lv_iconst (v := 0) C.1 C.2.1 dX11_letters_148 (by decide) ?_
    refine k_call Ext.tr C I (k_S (As := [.int ((110 : Int32)), .int ((101 : Int32)), .int ((97 : Int32)), .int ((114 : Int32)), .int ((0 : Int32)), .int ((0 : Int32))]) (rest := []) (y := yX11_spelled) C q1640 q1641 q113 (Or.inl rfl) q1642 (by decide) rfl pd_X11_spelled rfl dX11_letters_149) (ct_X11_spelled h) hl.1 dX11_letters_149 [] rfl (Nat.le_of_ble_eq_true rfl) (Or.inl rfl) q1642 q113 ⟨Nat.le_of_ble_eq_true rfl, Nat.le_of_ble_eq_true rfl⟩ (fun v x1 H locs cells slots ex hq I => ?_) (fun a x1 H locs cells slots ex hq I => hq.elim)
    obtain ⟨M11, rfl, r12, rfl, h⟩ := hq
    exact r_long C.1 C.2.1 C.2.2.2.2.2.1 C.2.2.2.2.2.2 ⟨rfl, rfl⟩ I dX11_letters_152 ⟨_, rfl, _, rfl, h⟩
  by_cases t6 : p0 = 6
  · have h := h.2.2.2.2.2.2.1 t6
    refine lv_tableIn (off := 152) (tgt := 153) C.1 C.2.1 dX11_letters_1 (by rw [t6]; decide) (by rw [t6]; decide) (by rw [t6]; rfl) (by decide) ?_
    refine lv_bipush (v := 112) C.1 C.2.1 dX11_letters_153 (by decide) ?_
    refine lv_bipush (v := 101) C.1 C.2.1 dX11_letters_155 (by decide) ?_
    refine lv_bipush (v := 114) C.1 C.2.1 dX11_letters_157 (by decide) ?_
    refine lv_bipush (v := 115) C.1 C.2.1 dX11_letters_159 (by decide) ?_
    refine lv_bipush (v := 111) C.1 C.2.1 dX11_letters_161 (by decide) ?_
    refine lv_bipush (v := 110) C.1 C.2.1 dX11_letters_163 (by decide) ?_
    refine k_call Ext.tr C I (k_S (As := [.int ((112 : Int32)), .int ((101 : Int32)), .int ((114 : Int32)), .int ((115 : Int32)), .int ((111 : Int32)), .int ((110 : Int32))]) (rest := []) (y := yX11_spelled) C q1640 q1641 q113 (Or.inl rfl) q1642 (by decide) rfl pd_X11_spelled rfl dX11_letters_165) (ct_X11_spelled h) hl.1 dX11_letters_165 [] rfl (Nat.le_of_ble_eq_true rfl) (Or.inl rfl) q1642 q113 ⟨Nat.le_of_ble_eq_true rfl, Nat.le_of_ble_eq_true rfl⟩ (fun v x1 H locs cells slots ex hq I => ?_) (fun a x1 H locs cells slots ex hq I => hq.elim)
    obtain ⟨M13, rfl, r14, rfl, h⟩ := hq
    exact r_long C.1 C.2.1 C.2.2.2.2.2.1 C.2.2.2.2.2.2 ⟨rfl, rfl⟩ I dX11_letters_168 ⟨_, rfl, _, rfl, h⟩
  by_cases t7 : p0 = 7
  · have h := h.2.2.2.2.2.2.2.1 t7
    refine lv_tableIn (off := 168) (tgt := 169) C.1 C.2.1 dX11_letters_1 (by rw [t7]; decide) (by rw [t7]; decide) (by rw [t7]; rfl) (by decide) ?_
    refine lv_bipush (v := 116) C.1 C.2.1 dX11_letters_169 (by decide) ?_
    refine lv_bipush (v := 104) C.1 C.2.1 dX11_letters_171 (by decide) ?_
    refine lv_bipush (v := 105) C.1 C.2.1 dX11_letters_173 (by decide) ?_
    refine lv_bipush (v := 110) C.1 C.2.1 dX11_letters_175 (by decide) ?_
    refine lv_bipush (v := 103) C.1 C.2.1 dX11_letters_177 (by decide) ?_
    refine lv_iconst (v := 0) C.1 C.2.1 dX11_letters_179 (by decide) ?_
    refine k_call Ext.tr C I (k_S (As := [.int ((116 : Int32)), .int ((104 : Int32)), .int ((105 : Int32)), .int ((110 : Int32)), .int ((103 : Int32)), .int ((0 : Int32))]) (rest := []) (y := yX11_spelled) C q1640 q1641 q113 (Or.inl rfl) q1642 (by decide) rfl pd_X11_spelled rfl dX11_letters_180) (ct_X11_spelled h) hl.1 dX11_letters_180 [] rfl (Nat.le_of_ble_eq_true rfl) (Or.inl rfl) q1642 q113 ⟨Nat.le_of_ble_eq_true rfl, Nat.le_of_ble_eq_true rfl⟩ (fun v x1 H locs cells slots ex hq I => ?_) (fun a x1 H locs cells slots ex hq I => hq.elim)
    obtain ⟨M15, rfl, r16, rfl, h⟩ := hq
    exact r_long C.1 C.2.1 C.2.2.2.2.2.1 C.2.2.2.2.2.2 ⟨rfl, rfl⟩ I dX11_letters_183 ⟨_, rfl, _, rfl, h⟩
  by_cases t8 : p0 = 8
  · have h := h.2.2.2.2.2.2.2.2.1 t8
    refine lv_tableIn (off := 183) (tgt := 184) C.1 C.2.1 dX11_letters_1 (by rw [t8]; decide) (by rw [t8]; decide) (by rw [t8]; rfl) (by decide) ?_
    refine lv_bipush (v := 114) C.1 C.2.1 dX11_letters_184 (by decide) ?_
    refine lv_bipush (v := 117) C.1 C.2.1 dX11_letters_186 (by decide) ?_
    refine lv_bipush (v := 108) C.1 C.2.1 dX11_letters_188 (by decide) ?_
    refine lv_bipush (v := 101) C.1 C.2.1 dX11_letters_190 (by decide) ?_
    refine lv_iconst (v := 0) C.1 C.2.1 dX11_letters_192 (by decide) ?_
    refine lv_iconst (v := 0) C.1 C.2.1 dX11_letters_193 (by decide) ?_
    refine k_call Ext.tr C I (k_S (As := [.int ((114 : Int32)), .int ((117 : Int32)), .int ((108 : Int32)), .int ((101 : Int32)), .int ((0 : Int32)), .int ((0 : Int32))]) (rest := []) (y := yX11_spelled) C q1640 q1641 q113 (Or.inl rfl) q1642 (by decide) rfl pd_X11_spelled rfl dX11_letters_194) (ct_X11_spelled h) hl.1 dX11_letters_194 [] rfl (Nat.le_of_ble_eq_true rfl) (Or.inl rfl) q1642 q113 ⟨Nat.le_of_ble_eq_true rfl, Nat.le_of_ble_eq_true rfl⟩ (fun v x1 H locs cells slots ex hq I => ?_) (fun a x1 H locs cells slots ex hq I => hq.elim)
    obtain ⟨M17, rfl, r18, rfl, h⟩ := hq
    exact r_long C.1 C.2.1 C.2.2.2.2.2.1 C.2.2.2.2.2.2 ⟨rfl, rfl⟩ I dX11_letters_197 ⟨_, rfl, _, rfl, h⟩
  by_cases t9 : p0 = 9
  · have h := h.2.2.2.2.2.2.2.2.2.1 t9
    refine lv_tableIn (off := 197) (tgt := 198) C.1 C.2.1 dX11_letters_1 (by rw [t9]; decide) (by rw [t9]; decide) (by rw [t9]; rfl) (by decide) ?_
    refine lv_bipush (v := 97) C.1 C.2.1 dX11_letters_198 (by decide) ?_
    refine lv_bipush (v := 116) C.1 C.2.1 dX11_letters_200 (by decide) ?_
    refine lv_iconst (v := 0) C.1 C.2.1 dX11_letters_202 (by decide) ?_
    refine lv_iconst (v := 0) C.1 C.2.1 dX11_letters_203 (by decide) ?_
    refine lv_iconst (v := 0) C.1 C.2.1 dX11_letters_204 (by decide) ?_
    refine lv_iconst (v := 0) C.1 C.2.1 dX11_letters_205 (by decide) ?_
    refine k_call Ext.tr C I (k_S (As := [.int ((97 : Int32)), .int ((116 : Int32)), .int ((0 : Int32)), .int ((0 : Int32)), .int ((0 : Int32)), .int ((0 : Int32))]) (rest := []) (y := yX11_spelled) C q1640 q1641 q113 (Or.inl rfl) q1642 (by decide) rfl pd_X11_spelled rfl dX11_letters_206) (ct_X11_spelled h) hl.1 dX11_letters_206 [] rfl (Nat.le_of_ble_eq_true rfl) (Or.inl rfl) q1642 q113 ⟨Nat.le_of_ble_eq_true rfl, Nat.le_of_ble_eq_true rfl⟩ (fun v x1 H locs cells slots ex hq I => ?_) (fun a x1 H locs cells slots ex hq I => hq.elim)
    obtain ⟨M19, rfl, r20, rfl, h⟩ := hq
    exact r_long C.1 C.2.1 C.2.2.2.2.2.1 C.2.2.2.2.2.2 ⟨rfl, rfl⟩ I dX11_letters_209 ⟨_, rfl, _, rfl, h⟩
  by_cases t10 : p0 = 10
  · have h := h.2.2.2.2.2.2.2.2.2.2.1 t10
    refine lv_tableIn (off := 209) (tgt := 210) C.1 C.2.1 dX11_letters_1 (by rw [t10]; decide) (by rw [t10]; decide) (by rw [t10]; rfl) (by decide) ?_
    refine lv_bipush (v := 119) C.1 C.2.1 dX11_letters_210 (by decide) ?_
    refine lv_bipush (v := 101) C.1 C.2.1 dX11_letters_212 (by decide) ?_
    refine lv_bipush (v := 105) C.1 C.2.1 dX11_letters_214 (by decide) ?_
    refine lv_bipush (v := 103) C.1 C.2.1 dX11_letters_216 (by decide) ?_
    refine lv_bipush (v := 104) C.1 C.2.1 dX11_letters_218 (by decide) ?_
    refine lv_iconst (v := 0) C.1 C.2.1 dX11_letters_220 (by decide) ?_
    refine k_call Ext.tr C I (k_S (As := [.int ((119 : Int32)), .int ((101 : Int32)), .int ((105 : Int32)), .int ((103 : Int32)), .int ((104 : Int32)), .int ((0 : Int32))]) (rest := []) (y := yX11_spelled) C q1640 q1641 q113 (Or.inl rfl) q1642 (by decide) rfl pd_X11_spelled rfl dX11_letters_221) (ct_X11_spelled h) hl.1 dX11_letters_221 [] rfl (Nat.le_of_ble_eq_true rfl) (Or.inl rfl) q1642 q113 ⟨Nat.le_of_ble_eq_true rfl, Nat.le_of_ble_eq_true rfl⟩ (fun v x1 H locs cells slots ex hq I => ?_) (fun a x1 H locs cells slots ex hq I => hq.elim)
    obtain ⟨M21, rfl, r22, rfl, h⟩ := hq
    exact r_long C.1 C.2.1 C.2.2.2.2.2.1 C.2.2.2.2.2.2 ⟨rfl, rfl⟩ I dX11_letters_224 ⟨_, rfl, _, rfl, h⟩
  by_cases t11 : p0 = 11
  · have h := h.2.2.2.2.2.2.2.2.2.2.2.1 t11
    refine lv_tableIn (off := 224) (tgt := 225) C.1 C.2.1 dX11_letters_1 (by rw [t11]; decide) (by rw [t11]; decide) (by rw [t11]; rfl) (by decide) ?_
    refine lv_bipush (v := 108) C.1 C.2.1 dX11_letters_225 (by decide) ?_
    refine lv_bipush (v := 111) C.1 C.2.1 dX11_letters_227 (by decide) ?_
    refine lv_bipush (v := 117) C.1 C.2.1 dX11_letters_229 (by decide) ?_
    refine lv_bipush (v := 100) C.1 C.2.1 dX11_letters_231 (by decide) ?_
    refine lv_iconst (v := 0) C.1 C.2.1 dX11_letters_233 (by decide) ?_
    refine lv_iconst (v := 0) C.1 C.2.1 dX11_letters_234 (by decide) ?_
    refine k_call Ext.tr C I (k_S (As := [.int ((108 : Int32)), .int ((111 : Int32)), .int ((117 : Int32)), .int ((100 : Int32)), .int ((0 : Int32)), .int ((0 : Int32))]) (rest := []) (y := yX11_spelled) C q1640 q1641 q113 (Or.inl rfl) q1642 (by decide) rfl pd_X11_spelled rfl dX11_letters_235) (ct_X11_spelled h) hl.1 dX11_letters_235 [] rfl (Nat.le_of_ble_eq_true rfl) (Or.inl rfl) q1642 q113 ⟨Nat.le_of_ble_eq_true rfl, Nat.le_of_ble_eq_true rfl⟩ (fun v x1 H locs cells slots ex hq I => ?_) (fun a x1 H locs cells slots ex hq I => hq.elim)
    obtain ⟨M23, rfl, r24, rfl, h⟩ := hq
    exact r_long C.1 C.2.1 C.2.2.2.2.2.1 C.2.2.2.2.2.2 ⟨rfl, rfl⟩ I dX11_letters_238 ⟨_, rfl, _, rfl, h⟩
  have h := h.2.2.2.2.2.2.2.2.2.2.2.2 t0 t1 t2 t3 t4 t5 t6 t7 t8 t9 t10 t11
  refine lv_tableOut (tgt := 239) C.1 C.2.1 dX11_letters_1 (sw_out (n := 12) (fun j hj => by match j, hj with | 0, _ => exact t0 | 1, _ => exact t1 | 2, _ => exact t2 | 3, _ => exact t3 | 4, _ => exact t4 | 5, _ => exact t5 | 6, _ => exact t6 | 7, _ => exact t7 | 8, _ => exact t8 | 9, _ => exact t9 | 10, _ => exact t10 | 11, _ => exact t11 | j + 12, hj => exact absurd hj (by omega)) (by decide)) (by decide) ?_
  refine lv_bipush (v := 110) C.1 C.2.1 dX11_letters_239 (by decide) ?_
  refine lv_bipush (v := 101) C.1 C.2.1 dX11_letters_241 (by decide) ?_
  refine lv_bipush (v := 118) C.1 C.2.1 dX11_letters_243 (by decide) ?_
  refine lv_bipush (v := 101) C.1 C.2.1 dX11_letters_245 (by decide) ?_
  refine lv_bipush (v := 114) C.1 C.2.1 dX11_letters_247 (by decide) ?_
  refine lv_iconst (v := 0) C.1 C.2.1 dX11_letters_249 (by decide) ?_
  refine k_call Ext.tr C I (k_S (As := [.int ((110 : Int32)), .int ((101 : Int32)), .int ((118 : Int32)), .int ((101 : Int32)), .int ((114 : Int32)), .int ((0 : Int32))]) (rest := []) (y := yX11_spelled) C q1640 q1641 q113 (Or.inl rfl) q1642 (by decide) rfl pd_X11_spelled rfl dX11_letters_250) (ct_X11_spelled h) hl.1 dX11_letters_250 [] rfl (Nat.le_of_ble_eq_true rfl) (Or.inl rfl) q1642 q113 ⟨Nat.le_of_ble_eq_true rfl, Nat.le_of_ble_eq_true rfl⟩ (fun v x1 H locs cells slots ex hq I => ?_) (fun a x1 H locs cells slots ex hq I => hq.elim)
  obtain ⟨M25, rfl, r26, rfl, h⟩ := hq
  exact r_long C.1 C.2.1 C.2.2.2.2.2.1 C.2.2.2.2.2.2 ⟨rfl, rfl⟩ I dX11_letters_253 ⟨_, rfl, _, rfl, h⟩
def w_X11_is_34 (Q : Int32 → MS → Prop) (t0 : Int32) (M : MS) : Prop := bz t0 ∧ Q t0 M
set_option maxHeartbeats 4000000 in
theorem b_X11_is_34 {b0 z0 : Nat} {M0 : MS} {Q : Int32 → MS → Prop} (C : Cx p s m meth c D T Z "EndingTownModel" cX11_is 2 (some .boolean)) : ∀ (t0 : Int32) (M : MS) (H : Heap) (locs : List Loc) (cells slots : Nat) (ls : Array Slot), w_X11_is_34 Q t0 M → HI (twd D T Z) (mG b0 z0 M0) s (rmX (twd D T Z) 2 47 (mG b0 z0 M0)) H locs cells slots (mG b0 z0 M) → LH ls 2 [] → W p l e (rmX (twd D T Z) 2 47 (mG b0 z0 M0)) s m args below meth c H locs cells slots (MQX (twd D T Z) (mG b0 z0 M0) (mq b0 z0 (qI Q)) (fun _ _ => False) below s) (F0 m 34 ls [.int t0]) := by
  intro t0 M H locs cells slots ls h I hl
  exact r_int C.1 C.2.1 C.2.2.2.2.2.1 h.1.n C.2.2.2.2.2.2 ⟨rfl, rfl⟩ I dX11_is_34 ⟨_, rfl, _, rfl, h.2⟩
def w_X11_is_33 (Q : Int32 → MS → Prop) (M : MS) : Prop := w_X11_is_34 Q ((0 : Int32)) M
set_option maxHeartbeats 4000000 in
theorem b_X11_is_33 {b0 z0 : Nat} {M0 : MS} {Q : Int32 → MS → Prop} (C : Cx p s m meth c D T Z "EndingTownModel" cX11_is 2 (some .boolean)) : ∀ (M : MS) (H : Heap) (locs : List Loc) (cells slots : Nat) (ls : Array Slot), w_X11_is_33 Q M → HI (twd D T Z) (mG b0 z0 M0) s (rmX (twd D T Z) 2 47 (mG b0 z0 M0)) H locs cells slots (mG b0 z0 M) → LH ls 2 [] → W p l e (rmX (twd D T Z) 2 47 (mG b0 z0 M0)) s m args below meth c H locs cells slots (MQX (twd D T Z) (mG b0 z0 M0) (mq b0 z0 (qI Q)) (fun _ _ => False) below s) (F0 m 33 ls []) := by
  intro M H locs cells slots ls h I hl
  refine lv_iconst (v := 0) C.1 C.2.1 dX11_is_33 (by decide) ?_
  exact b_X11_is_34 C ((0 : Int32)) M _ _ _ _ _ h I (hl.sub [] rfl)
def w_X11_is (Q : Int32 → MS → Prop) (p0 : Int32) (M : MS) : Prop := ((¬ mF M 23 = (1 : Int32)) → (w_X11_is_33 Q M)) ∧ ((mF M 23 = (1 : Int32)) → ((((7 : Int32) ≤ mF M 25) → (w_X11_is_33 Q M)) ∧ ((¬ (7 : Int32) ≤ mF M 25) → (w_X11_letters (fun r2 M1 => ((¬ (lg_cmp (mW M) r2) = 0) → (w_X11_is_33 Q M1)) ∧ (((lg_cmp (mW M) r2) = 0) → (w_X11_is_34 Q ((1 : Int32)) M1))) p0 M))))
theorem pd_X11_is : (parseMethodDescriptor yX11_is.desc).map (fun d => d.parameters.length) = some 1 := by decide +kernel
set_option maxHeartbeats 4000000 in
theorem ct_X11_is {l : Launch} {D : va_G} {T : Nat → ClassId} {Z : Heap} {b0 z0 : Nat} {M0 : MS} {Q : Int32 → MS → Prop} {p0 : Int32} (hw : w_X11_is Q p0 M0) : CT (twd D T Z) (Evd D T Z) l yX11_is (Cond.code yX11_is cX11_is 2 (some .boolean)) 2 47 [va_rf (some b0), .int p0] (mG b0 z0 M0) (mq b0 z0 (qI Q)) (fun _ _ => False) := by
  refine CT.ofW (cc := cX11_is) (nL := 2) (ret := (some .boolean)) Ext.rf (by decide) (Or.inl rfl) ?_
  intro p e s m below meth c hx hb hml hown hr hlk hnm hcb hm hc hn hE I
  have C : Cx p s m meth c D T Z "EndingTownModel" cX11_is 2 (some .boolean) := ⟨hx, hb, hml, hown, hE, hr, hlk⟩
  refine w_entry [.inr (.inl (some b0)), .inl p0] (Nat.le_of_ble_eq_true rfl) (fun ls hl => ?_)
  have hl : LH ls 2 [(0, .inr (.inl (some b0))), (1, .inl p0)] := hl
  have h := hw
  refine l_ald_n (x := some b0) C dX11_is_0 hl 0 rfl rfl ?_
  refine f_I C I (fl_X11_152) (by decide) dX11_is_1 ?_
  refine lv_iconst (v := 1) C.1 C.2.1 dX11_is_4 (by decide) ?_
  refine lv_icmp_ne (tgt := 33) C.1 C.2.1 dX11_is_5 (by decide) (fun c5 => ?_) (fun c5 => ?_)
  · have h := h.1 c5
    exact b_X11_is_33 C M0 _ _ _ _ _ h I (hl.sub [] rfl)
  · have h := h.2 c5
    refine l_ald_n (x := some b0) C dX11_is_8 hl 0 rfl rfl ?_
    refine f_I C I (fl_X11_162) (by decide) dX11_is_9 ?_
    refine lv_bipush (v := 7) C.1 C.2.1 dX11_is_12 (by decide) ?_
    refine lv_icmp_ge (tgt := 33) C.1 C.2.1 dX11_is_14 (by decide) (fun c4 => ?_) (fun c4 => ?_)
    · have h := h.1 c4
      exact b_X11_is_33 C M0 _ _ _ _ _ h I (hl.sub [] rfl)
    · have h := h.2 c4
      refine l_ald_n (x := some b0) C dX11_is_17 hl 0 rfl rfl ?_
      refine f_L C I (fl_X11_145) dX11_is_18 ?_
      refine l_ild_n C dX11_is_21 hl 1 rfl rfl ?_
      refine k_call Ext.tr C I (k_S (As := [.int p0]) (rest := [.long (mW M0)]) (y := yX11_letters) C q1637 q1638 q113 (Or.inl rfl) q1639 (by decide) rfl pd_X11_letters rfl dX11_is_22) (ct_X11_letters h) hl.1 dX11_is_22 [.inr (.inr (mW M0))] rfl (Nat.le_of_ble_eq_true rfl) (Or.inl rfl) q1639 q113 ⟨Nat.le_of_ble_eq_true rfl, Nat.le_of_ble_eq_true rfl⟩ (fun v x1 H locs cells slots ex hq I => ?_) (fun a x1 H locs cells slots ex hq I => hq.elim)
      obtain ⟨M1, rfl, r2, rfl, h⟩ := hq
      refine W.lcmp C.1 C.2.1 dX11_is_25 ?_
      refine lv_if_ne (tgt := 33) C.1 C.2.1 dX11_is_26 (by decide) (fun c3 => ?_) (fun c3 => ?_)
      · have h := h.1 c3
        exact b_X11_is_33 C M1 _ _ _ _ _ h I (hl.sub [] rfl)
      · have h := h.2 c3
        refine lv_iconst (v := 1) C.1 C.2.1 dX11_is_29 (by decide) ?_
        refine lv_goto (tgt := 34) C.1 C.2.1 dX11_is_30 (by decide) ?_
        exact b_X11_is_34 C ((1 : Int32)) M1 _ _ _ _ _ h I (hl.sub [] rfl)
def w_X11_byteAt_18 (Q : Int32 → MS → Prop) (t0 : Int32) (M : MS) : Prop := Q t0 M
set_option maxHeartbeats 4000000 in
theorem b_X11_byteAt_18 {b0 z0 : Nat} {M0 : MS} {Q : Int32 → MS → Prop} (C : Cx p s m meth c D T Z "EndingTownModel" cX11_byteAt 2 (some .int)) : ∀ (t0 : Int32) (M : MS) (H : Heap) (locs : List Loc) (cells slots : Nat) (ls : Array Slot), w_X11_byteAt_18 Q t0 M → HI (twd D T Z) (mG b0 z0 M0) s (rmX (twd D T Z) 0 0 (mG b0 z0 M0)) H locs cells slots (mG b0 z0 M) → LH ls 2 [] → W p l e (rmX (twd D T Z) 0 0 (mG b0 z0 M0)) s m args below meth c H locs cells slots (MQX (twd D T Z) (mG b0 z0 M0) (mq b0 z0 (qI Q)) (fun _ _ => False) below s) (F0 m 18 ls [.int t0]) := by
  intro t0 M H locs cells slots ls h I hl
  exact r_int C.1 C.2.1 C.2.2.2.2.2.1 rfl C.2.2.2.2.2.2 ⟨rfl, rfl⟩ I dX11_byteAt_18 ⟨_, rfl, _, rfl, h⟩
def w_X11_byteAt (Q : Int32 → MS → Prop) (p0 : Int32) (M : MS) : Prop := ((mF M 21 ≤ p0) → (w_X11_byteAt_18 Q ((0 : Int32)) M)) ∧ ((¬ mF M 21 ≤ p0) → (vp_in p0 (mlen 16) ∧ w_X11_byteAt_18 Q (mA M 16 p0.toNatClampNeg) M))
theorem pd_X11_byteAt : (parseMethodDescriptor yX11_byteAt.desc).map (fun d => d.parameters.length) = some 1 := by decide +kernel
set_option maxHeartbeats 4000000 in
theorem ct_X11_byteAt {l : Launch} {D : va_G} {T : Nat → ClassId} {Z : Heap} {b0 z0 : Nat} {M0 : MS} {Q : Int32 → MS → Prop} {p0 : Int32} (hw : w_X11_byteAt Q p0 M0) : CT (twd D T Z) (Evd D T Z) l yX11_byteAt (Cond.code yX11_byteAt cX11_byteAt 2 (some .int)) 0 0 [va_rf (some b0), .int p0] (mG b0 z0 M0) (mq b0 z0 (qI Q)) (fun _ _ => False) := by
  refine CT.ofW (cc := cX11_byteAt) (nL := 2) (ret := (some .int)) Ext.rf (by decide) (Or.inl rfl) ?_
  intro p e s m below meth c hx hb hml hown hr hlk hnm hcb hm hc hn hE I
  have C : Cx p s m meth c D T Z "EndingTownModel" cX11_byteAt 2 (some .int) := ⟨hx, hb, hml, hown, hE, hr, hlk⟩
  refine w_entry [.inr (.inl (some b0)), .inl p0] (Nat.le_of_ble_eq_true rfl) (fun ls hl => ?_)
  have hl : LH ls 2 [(0, .inr (.inl (some b0))), (1, .inl p0)] := hl
  have h := hw
  refine l_ild_n C dX11_byteAt_0 hl 1 rfl rfl ?_
  refine l_ald_n (x := some b0) C dX11_byteAt_1 hl 0 rfl rfl ?_
  refine f_I C I (fl_X11_132) (by decide) dX11_byteAt_2 ?_
  refine lv_icmp_ge (tgt := 17) C.1 C.2.1 dX11_byteAt_5 (by decide) (fun c1 => ?_) (fun c1 => ?_)
  · have h := h.1 c1
    refine lv_iconst (v := 0) C.1 C.2.1 dX11_byteAt_17 (by decide) ?_
    exact b_X11_byteAt_18 C ((0 : Int32)) M0 _ _ _ _ _ h I (hl.sub [] rfl)
  · have h := h.2 c1
    refine l_ald_n (x := some b0) C dX11_byteAt_8 hl 0 rfl rfl ?_
    refine f_A C I (fl_X11_41) (by decide) (by decide) dX11_byteAt_9 ?_
    refine l_ild_n C dX11_byteAt_12 hl 1 rfl rfl ?_
    obtain ⟨hi, h⟩ := h
    refine f_ld (k := 16) C I (by decide) hi dX11_byteAt_13 ?_
    refine lv_goto (tgt := 18) C.1 C.2.1 dX11_byteAt_14 (by decide) ?_
    exact b_X11_byteAt_18 C (mA M0 16 p0.toNatClampNeg) M0 _ _ _ _ _ h I (hl.sub [] rfl)
def w_X11_isDigit_17 (Q : Int32 → MS → Prop) (t0 : Int32) (M : MS) : Prop := bz t0 ∧ Q t0 M
set_option maxHeartbeats 4000000 in
theorem b_X11_isDigit_17 {b0 z0 : Nat} {M0 : MS} {Q : Int32 → MS → Prop} (C : Cx p s m meth c D T Z "EndingTownModel" cX11_isDigit 1 (some .boolean)) : ∀ (t0 : Int32) (M : MS) (H : Heap) (locs : List Loc) (cells slots : Nat) (ls : Array Slot), w_X11_isDigit_17 Q t0 M → HI (twd D T Z) (mG b0 z0 M0) s (rmX (twd D T Z) 0 0 (mG b0 z0 M0)) H locs cells slots (mG b0 z0 M) → LH ls 1 [] → W p l e (rmX (twd D T Z) 0 0 (mG b0 z0 M0)) s m args below meth c H locs cells slots (MQX (twd D T Z) (mG b0 z0 M0) (mq b0 z0 (qI Q)) (fun _ _ => False) below s) (F0 m 17 ls [.int t0]) := by
  intro t0 M H locs cells slots ls h I hl
  exact r_int C.1 C.2.1 C.2.2.2.2.2.1 h.1.n C.2.2.2.2.2.2 ⟨rfl, rfl⟩ I dX11_isDigit_17 ⟨_, rfl, _, rfl, h.2⟩
def w_X11_isDigit_16 (Q : Int32 → MS → Prop) (M : MS) : Prop := w_X11_isDigit_17 Q ((0 : Int32)) M
set_option maxHeartbeats 4000000 in
theorem b_X11_isDigit_16 {b0 z0 : Nat} {M0 : MS} {Q : Int32 → MS → Prop} (C : Cx p s m meth c D T Z "EndingTownModel" cX11_isDigit 1 (some .boolean)) : ∀ (M : MS) (H : Heap) (locs : List Loc) (cells slots : Nat) (ls : Array Slot), w_X11_isDigit_16 Q M → HI (twd D T Z) (mG b0 z0 M0) s (rmX (twd D T Z) 0 0 (mG b0 z0 M0)) H locs cells slots (mG b0 z0 M) → LH ls 1 [] → W p l e (rmX (twd D T Z) 0 0 (mG b0 z0 M0)) s m args below meth c H locs cells slots (MQX (twd D T Z) (mG b0 z0 M0) (mq b0 z0 (qI Q)) (fun _ _ => False) below s) (F0 m 16 ls []) := by
  intro M H locs cells slots ls h I hl
  refine lv_iconst (v := 0) C.1 C.2.1 dX11_isDigit_16 (by decide) ?_
  exact b_X11_isDigit_17 C ((0 : Int32)) M _ _ _ _ _ h I (hl.sub [] rfl)
def w_X11_isDigit (Q : Int32 → MS → Prop) (p0 : Int32) (M : MS) : Prop := ((p0 < (48 : Int32)) → (w_X11_isDigit_16 Q M)) ∧ ((¬ p0 < (48 : Int32)) → ((((57 : Int32) < p0) → (w_X11_isDigit_16 Q M)) ∧ ((¬ (57 : Int32) < p0) → (w_X11_isDigit_17 Q ((1 : Int32)) M))))
theorem pd_X11_isDigit : (parseMethodDescriptor yX11_isDigit.desc).map (fun d => d.parameters.length) = some 1 := by decide +kernel
set_option maxHeartbeats 4000000 in
theorem ct_X11_isDigit {l : Launch} {D : va_G} {T : Nat → ClassId} {Z : Heap} {b0 z0 : Nat} {M0 : MS} {Q : Int32 → MS → Prop} {p0 : Int32} (hw : w_X11_isDigit Q p0 M0) : CT (twd D T Z) (Evd D T Z) l yX11_isDigit (Cond.code yX11_isDigit cX11_isDigit 1 (some .boolean)) 0 0 [.int p0] (mG b0 z0 M0) (mq b0 z0 (qI Q)) (fun _ _ => False) := by
  refine CT.ofW (cc := cX11_isDigit) (nL := 1) (ret := (some .boolean)) Ext.rf (by decide) (Or.inl rfl) ?_
  intro p e s m below meth c hx hb hml hown hr hlk hnm hcb hm hc hn hE I
  have C : Cx p s m meth c D T Z "EndingTownModel" cX11_isDigit 1 (some .boolean) := ⟨hx, hb, hml, hown, hE, hr, hlk⟩
  refine w_entry [.inl p0] (Nat.le_of_ble_eq_true rfl) (fun ls hl => ?_)
  have hl : LH ls 1 [(0, .inl p0)] := hl
  have h := hw
  refine l_ild_n C dX11_isDigit_0 hl 0 rfl rfl ?_
  refine lv_bipush (v := 48) C.1 C.2.1 dX11_isDigit_1 (by decide) ?_
  refine lv_icmp_lt (tgt := 16) C.1 C.2.1 dX11_isDigit_3 (by decide) (fun c2 => ?_) (fun c2 => ?_)
  · have h := h.1 c2
    exact b_X11_isDigit_16 C M0 _ _ _ _ _ h I (hl.sub [] rfl)
  · have h := h.2 c2
    refine l_ild_n C dX11_isDigit_6 hl 0 rfl rfl ?_
    refine lv_bipush (v := 57) C.1 C.2.1 dX11_isDigit_7 (by decide) ?_
    refine lv_icmp_gt (tgt := 16) C.1 C.2.1 dX11_isDigit_9 (by decide) (fun c1 => ?_) (fun c1 => ?_)
    · have h := h.1 c1
      exact b_X11_isDigit_16 C M0 _ _ _ _ _ h I (hl.sub [] rfl)
    · have h := h.2 c1
      refine lv_iconst (v := 1) C.1 C.2.1 dX11_isDigit_12 (by decide) ?_
      refine lv_goto (tgt := 17) C.1 C.2.1 dX11_isDigit_13 (by decide) ?_
      exact b_X11_isDigit_17 C ((1 : Int32)) M0 _ _ _ _ _ h I (hl.sub [] rfl)
def w_X11_isLetter_17 (Q : Int32 → MS → Prop) (t0 : Int32) (M : MS) : Prop := bz t0 ∧ Q t0 M
set_option maxHeartbeats 4000000 in
theorem b_X11_isLetter_17 {b0 z0 : Nat} {M0 : MS} {Q : Int32 → MS → Prop} (C : Cx p s m meth c D T Z "EndingTownModel" cX11_isLetter 1 (some .boolean)) : ∀ (t0 : Int32) (M : MS) (H : Heap) (locs : List Loc) (cells slots : Nat) (ls : Array Slot), w_X11_isLetter_17 Q t0 M → HI (twd D T Z) (mG b0 z0 M0) s (rmX (twd D T Z) 0 0 (mG b0 z0 M0)) H locs cells slots (mG b0 z0 M) → LH ls 1 [] → W p l e (rmX (twd D T Z) 0 0 (mG b0 z0 M0)) s m args below meth c H locs cells slots (MQX (twd D T Z) (mG b0 z0 M0) (mq b0 z0 (qI Q)) (fun _ _ => False) below s) (F0 m 17 ls [.int t0]) := by
  intro t0 M H locs cells slots ls h I hl
  exact r_int C.1 C.2.1 C.2.2.2.2.2.1 h.1.n C.2.2.2.2.2.2 ⟨rfl, rfl⟩ I dX11_isLetter_17 ⟨_, rfl, _, rfl, h.2⟩
def w_X11_isLetter_16 (Q : Int32 → MS → Prop) (M : MS) : Prop := w_X11_isLetter_17 Q ((0 : Int32)) M
set_option maxHeartbeats 4000000 in
theorem b_X11_isLetter_16 {b0 z0 : Nat} {M0 : MS} {Q : Int32 → MS → Prop} (C : Cx p s m meth c D T Z "EndingTownModel" cX11_isLetter 1 (some .boolean)) : ∀ (M : MS) (H : Heap) (locs : List Loc) (cells slots : Nat) (ls : Array Slot), w_X11_isLetter_16 Q M → HI (twd D T Z) (mG b0 z0 M0) s (rmX (twd D T Z) 0 0 (mG b0 z0 M0)) H locs cells slots (mG b0 z0 M) → LH ls 1 [] → W p l e (rmX (twd D T Z) 0 0 (mG b0 z0 M0)) s m args below meth c H locs cells slots (MQX (twd D T Z) (mG b0 z0 M0) (mq b0 z0 (qI Q)) (fun _ _ => False) below s) (F0 m 16 ls []) := by
  intro M H locs cells slots ls h I hl
  refine lv_iconst (v := 0) C.1 C.2.1 dX11_isLetter_16 (by decide) ?_
  exact b_X11_isLetter_17 C ((0 : Int32)) M _ _ _ _ _ h I (hl.sub [] rfl)
def w_X11_isLetter (Q : Int32 → MS → Prop) (p0 : Int32) (M : MS) : Prop := ((p0 < (97 : Int32)) → (w_X11_isLetter_16 Q M)) ∧ ((¬ p0 < (97 : Int32)) → ((((122 : Int32) < p0) → (w_X11_isLetter_16 Q M)) ∧ ((¬ (122 : Int32) < p0) → (w_X11_isLetter_17 Q ((1 : Int32)) M))))
theorem pd_X11_isLetter : (parseMethodDescriptor yX11_isLetter.desc).map (fun d => d.parameters.length) = some 1 := by decide +kernel
set_option maxHeartbeats 4000000 in
theorem ct_X11_isLetter {l : Launch} {D : va_G} {T : Nat → ClassId} {Z : Heap} {b0 z0 : Nat} {M0 : MS} {Q : Int32 → MS → Prop} {p0 : Int32} (hw : w_X11_isLetter Q p0 M0) : CT (twd D T Z) (Evd D T Z) l yX11_isLetter (Cond.code yX11_isLetter cX11_isLetter 1 (some .boolean)) 0 0 [.int p0] (mG b0 z0 M0) (mq b0 z0 (qI Q)) (fun _ _ => False) := by
  refine CT.ofW (cc := cX11_isLetter) (nL := 1) (ret := (some .boolean)) Ext.rf (by decide) (Or.inl rfl) ?_
  intro p e s m below meth c hx hb hml hown hr hlk hnm hcb hm hc hn hE I
  have C : Cx p s m meth c D T Z "EndingTownModel" cX11_isLetter 1 (some .boolean) := ⟨hx, hb, hml, hown, hE, hr, hlk⟩
  refine w_entry [.inl p0] (Nat.le_of_ble_eq_true rfl) (fun ls hl => ?_)
  have hl : LH ls 1 [(0, .inl p0)] := hl
  have h := hw
  refine l_ild_n C dX11_isLetter_0 hl 0 rfl rfl ?_
  refine lv_bipush (v := 97) C.1 C.2.1 dX11_isLetter_1 (by decide) ?_
  refine lv_icmp_lt (tgt := 16) C.1 C.2.1 dX11_isLetter_3 (by decide) (fun c2 => ?_) (fun c2 => ?_)
  · have h := h.1 c2
    exact b_X11_isLetter_16 C M0 _ _ _ _ _ h I (hl.sub [] rfl)
  · have h := h.2 c2
    refine l_ild_n C dX11_isLetter_6 hl 0 rfl rfl ?_
    refine lv_bipush (v := 122) C.1 C.2.1 dX11_isLetter_7 (by decide) ?_
    refine lv_icmp_gt (tgt := 16) C.1 C.2.1 dX11_isLetter_9 (by decide) (fun c1 => ?_) (fun c1 => ?_)
    · have h := h.1 c1
      exact b_X11_isLetter_16 C M0 _ _ _ _ _ h I (hl.sub [] rfl)
    · have h := h.2 c1
      refine lv_iconst (v := 1) C.1 C.2.1 dX11_isLetter_12 (by decide) ?_
      refine lv_goto (tgt := 17) C.1 C.2.1 dX11_isLetter_13 (by decide) ?_
      exact b_X11_isLetter_17 C ((1 : Int32)) M0 _ _ _ _ _ h I (hl.sub [] rfl)
def w_X11_steps_37 (Q : MS → Prop) (k0 : MS → Prop) (M : MS) : Prop := ∀ M1 : MS, M1 = sF M 22 ((mF M 22 + (1 : Int32))) → k0 M1
set_option maxHeartbeats 4000000 in
theorem b_X11_steps_37 {b0 z0 : Nat} {M0 : MS} {Q : MS → Prop} {k0 : MS → Prop} (C : Cx p s m meth c D T Z "EndingTownModel" cX11_steps 2 none) (hk0 : ∀ (M : MS) (H : Heap) (locs : List Loc) (cells slots : Nat) (ls : Array Slot), k0 M → HI (twd D T Z) (mG b0 z0 M0) s (rmX (twd D T Z) 1 21 (mG b0 z0 M0)) H locs cells slots (mG b0 z0 M) → LH ls 2 [(0, .inr (.inl (some b0)))] → W p l e (rmX (twd D T Z) 1 21 (mG b0 z0 M0)) s m args below meth c H locs cells slots (MQX (twd D T Z) (mG b0 z0 M0) (mq b0 z0 (qV Q)) (fun _ _ => False) below s) (F0 m 0 ls [])) : ∀ (M : MS) (H : Heap) (locs : List Loc) (cells slots : Nat) (ls : Array Slot), w_X11_steps_37 Q k0 M → HI (twd D T Z) (mG b0 z0 M0) s (rmX (twd D T Z) 1 21 (mG b0 z0 M0)) H locs cells slots (mG b0 z0 M) → LH ls 2 [(0, .inr (.inl (some b0)))] → W p l e (rmX (twd D T Z) 1 21 (mG b0 z0 M0)) s m args below meth c H locs cells slots (MQX (twd D T Z) (mG b0 z0 M0) (mq b0 z0 (qV Q)) (fun _ _ => False) below s) (F0 m 37 ls []) := by
  intro M H locs cells slots ls h I hl
  refine l_ald_n (x := some b0) C dX11_steps_37 hl 0 rfl rfl ?_
  refine lv_dup C.1 C.2.1 dX11_steps_38 (cat_rf _) ?_
  refine f_I C I (fl_X11_135) (by decide) dX11_steps_39 ?_
  refine lv_iconst (v := 1) C.1 C.2.1 dX11_steps_42 (by decide) ?_
  refine lv_iadd C.1 C.2.1 dX11_steps_43 ?_
  refine f_PI C I (fp_X11_135) (by decide) dX11_steps_44 (fit_i _) (fun H locs M1 eM1 I => ?_)
  have h := h M1 eM1
  refine lv_goto (tgt := 0) C.1 C.2.1 dX11_steps_47 (by decide) ?_
  exact hk0 M1 _ _ _ _ _ h I (hl.sub [0] rfl)
def w_X11_steps_154 (Q : MS → Prop) (k103 : MS → Prop) (M : MS) : Prop := ∀ M1 : MS, M1 = sF M 22 ((mF M 22 + (1 : Int32))) → k103 M1
set_option maxHeartbeats 4000000 in
theorem b_X11_steps_154 {b0 z0 : Nat} {M0 : MS} {Q : MS → Prop} {k103 : MS → Prop} (C : Cx p s m meth c D T Z "EndingTownModel" cX11_steps 2 none) (hk103 : ∀ (M : MS) (H : Heap) (locs : List Loc) (cells slots : Nat) (ls : Array Slot), k103 M → HI (twd D T Z) (mG b0 z0 M0) s (rmX (twd D T Z) 1 21 (mG b0 z0 M0)) H locs cells slots (mG b0 z0 M) → LH ls 2 [(0, .inr (.inl (some b0)))] → W p l e (rmX (twd D T Z) 1 21 (mG b0 z0 M0)) s m args below meth c H locs cells slots (MQX (twd D T Z) (mG b0 z0 M0) (mq b0 z0 (qV Q)) (fun _ _ => False) below s) (F0 m 103 ls [])) : ∀ (M : MS) (H : Heap) (locs : List Loc) (cells slots : Nat) (ls : Array Slot), w_X11_steps_154 Q k103 M → HI (twd D T Z) (mG b0 z0 M0) s (rmX (twd D T Z) 1 21 (mG b0 z0 M0)) H locs cells slots (mG b0 z0 M) → LH ls 2 [(0, .inr (.inl (some b0)))] → W p l e (rmX (twd D T Z) 1 21 (mG b0 z0 M0)) s m args below meth c H locs cells slots (MQX (twd D T Z) (mG b0 z0 M0) (mq b0 z0 (qV Q)) (fun _ _ => False) below s) (F0 m 154 ls []) := by
  intro M H locs cells slots ls h I hl
  refine l_ald_n (x := some b0) C dX11_steps_154 hl 0 rfl rfl ?_
  refine lv_dup C.1 C.2.1 dX11_steps_155 (cat_rf _) ?_
  refine f_I C I (fl_X11_135) (by decide) dX11_steps_156 ?_
  refine lv_iconst (v := 1) C.1 C.2.1 dX11_steps_159 (by decide) ?_
  refine lv_iadd C.1 C.2.1 dX11_steps_160 ?_
  refine f_PI C I (fp_X11_135) (by decide) dX11_steps_161 (fit_i _) (fun H locs M1 eM1 I => ?_)
  have h := h M1 eM1
  refine lv_goto (tgt := 103) C.1 C.2.1 dX11_steps_164 (by decide) ?_
  exact hk103 M1 _ _ _ _ _ h I (hl.sub [0] rfl)
def w_X11_steps_278 (Q : MS → Prop) (M : MS) : Prop := ∀ M1 : MS, M1 = sF M 25 ((mF M 22 - mF M 24)) → Q M1
set_option maxHeartbeats 4000000 in
theorem b_X11_steps_278 {b0 z0 : Nat} {M0 : MS} {Q : MS → Prop} (C : Cx p s m meth c D T Z "EndingTownModel" cX11_steps 2 none) : ∀ (M : MS) (H : Heap) (locs : List Loc) (cells slots : Nat) (ls : Array Slot), w_X11_steps_278 Q M → HI (twd D T Z) (mG b0 z0 M0) s (rmX (twd D T Z) 1 21 (mG b0 z0 M0)) H locs cells slots (mG b0 z0 M) → LH ls 2 [(0, .inr (.inl (some b0)))] → W p l e (rmX (twd D T Z) 1 21 (mG b0 z0 M0)) s m args below meth c H locs cells slots (MQX (twd D T Z) (mG b0 z0 M0) (mq b0 z0 (qV Q)) (fun _ _ => False) below s) (F0 m 278 ls []) := by
  intro M H locs cells slots ls h I hl
  refine l_ald_n (x := some b0) C dX11_steps_278 hl 0 rfl rfl ?_
  refine l_ald_n (x := some b0) C dX11_steps_279 hl 0 rfl rfl ?_
  refine f_I C I (fl_X11_135) (by decide) dX11_steps_280 ?_
  refine l_ald_n (x := some b0) C dX11_steps_283 hl 0 rfl rfl ?_
  refine f_I C I (fl_X11_142) (by decide) dX11_steps_284 ?_
  refine lv_isub C.1 C.2.1 dX11_steps_287 ?_
  refine f_PI C I (fp_X11_162) (by decide) dX11_steps_288 (fit_i _) (fun H locs M1 eM1 I => ?_)
  have h := h M1 eM1
  exact r_void C.1 C.2.1 C.2.2.2.2.2.1 C.2.2.2.2.2.2 ⟨rfl, rfl⟩ I dX11_steps_291 ⟨_, rfl, rfl, h⟩
def w_X11_steps_103 (Q : MS → Prop) : Nat → MS → Prop
  | 0 => fun _ => False
  | f103 + 1 => fun M => w_X11_byteAt (fun r2 M1 => w_X11_isLetter (fun r4 M3 => ((r4 = 0) → (∀ M5 : MS, M5 = sF M3 23 ((1 : Int32)) → w_X11_steps_278 Q M5)) ∧ ((¬ r4 = 0) → ((((6 : Int32) ≤ (mF M3 22 - mF M3 24)) → (w_X11_steps_154 Q (w_X11_steps_103 Q f103) M3)) ∧ ((¬ (6 : Int32) ≤ (mF M3 22 - mF M3 24)) → (w_X11_byteAt (fun r7 M6 => ∀ M8 : MS, M8 = sW M6 (((mW M3 <<< (((5 : Int32)).toInt64 &&& 63)) ||| ((r7 - (96 : Int32))).toInt64)) → w_X11_steps_154 Q (w_X11_steps_103 Q f103) M8) (mF M3 22) M3))))) r2 M1) (mF M 22) M
set_option maxHeartbeats 4000000 in
theorem b_X11_steps_103 {b0 z0 : Nat} {M0 : MS} {Q : MS → Prop} (C : Cx p s m meth c D T Z "EndingTownModel" cX11_steps 2 none) : ∀ (n : Nat) (M : MS) (H : Heap) (locs : List Loc) (cells slots : Nat) (ls : Array Slot), w_X11_steps_103 Q n M → HI (twd D T Z) (mG b0 z0 M0) s (rmX (twd D T Z) 1 21 (mG b0 z0 M0)) H locs cells slots (mG b0 z0 M) → LH ls 2 [(0, .inr (.inl (some b0)))] → W p l e (rmX (twd D T Z) 1 21 (mG b0 z0 M0)) s m args below meth c H locs cells slots (MQX (twd D T Z) (mG b0 z0 M0) (mq b0 z0 (qV Q)) (fun _ _ => False) below s) (F0 m 103 ls []) := by
  intro n
  induction n with
  | zero => intro M H locs cells slots ls h; exact (show False from h).elim
  | succ n ih =>
    intro M H locs cells slots ls h I hl
    have hk103 := ih
    refine l_ald_n (x := some b0) C dX11_steps_103 hl 0 rfl rfl ?_
    refine l_ald_n (x := some b0) C dX11_steps_104 hl 0 rfl rfl ?_
    refine f_I C I (fl_X11_135) (by decide) dX11_steps_105 ?_
    refine k_call Ext.tr C I (k_V (r := some b0) (As := [.int (mF M 22)]) (rest := []) (y := yX11_byteAt) C (f_recv C I) q1615 q1617 qs50 (Or.inl rfl) q1618 (by decide) rfl pd_X11_byteAt rfl dX11_steps_108) (ct_X11_byteAt h) hl.1 dX11_steps_108 [] rfl (Nat.le_of_ble_eq_true rfl) (Or.inl rfl) q1618 q113 ⟨Nat.le_of_ble_eq_true rfl, Nat.le_of_ble_eq_true rfl⟩ (fun v x1 H locs cells slots ex hq I => ?_) (fun a x1 H locs cells slots ex hq I => hq.elim)
    obtain ⟨M1, rfl, r2, rfl, h⟩ := hq
    refine k_call Ext.tr C I (k_S (As := [.int r2]) (rest := []) (y := yX11_isLetter) C q1619 q1620 q113 (Or.inl rfl) q1621 (by decide) rfl pd_X11_isLetter rfl dX11_steps_111) (ct_X11_isLetter h) hl.1 dX11_steps_111 [] rfl (Nat.le_of_ble_eq_true rfl) (Or.inl rfl) q1621 q113 ⟨Nat.le_of_ble_eq_true rfl, Nat.le_of_ble_eq_true rfl⟩ (fun v x1 H locs cells slots ex hq I => ?_) (fun a x1 H locs cells slots ex hq I => hq.elim)
    obtain ⟨M3, rfl, r4, rfl, h⟩ := hq
    refine lv_if_eq (tgt := 167) C.1 C.2.1 dX11_steps_114 (by decide) (fun c10 => ?_) (fun c10 => ?_)
    · have h := h.1 c10
      refine l_ald_n (x := some b0) C dX11_steps_167 hl 0 rfl rfl ?_
      refine lv_iconst (v := 1) C.1 C.2.1 dX11_steps_168 (by decide) ?_
      refine f_PI C I (fp_X11_152) (by decide) dX11_steps_169 (fit_i _) (fun H locs M5 eM5 I => ?_)
      have h := h M5 eM5
      refine lv_goto (tgt := 278) C.1 C.2.1 dX11_steps_172 (by decide) ?_
      exact b_X11_steps_278 C M5 _ _ _ _ _ h I (hl.sub [0] rfl)
    · have h := h.2 c10
      refine l_ald_n (x := some b0) C dX11_steps_117 hl 0 rfl rfl ?_
      refine f_I C I (fl_X11_135) (by decide) dX11_steps_118 ?_
      refine l_ald_n (x := some b0) C dX11_steps_121 hl 0 rfl rfl ?_
      refine f_I C I (fl_X11_142) (by decide) dX11_steps_122 ?_
      refine lv_isub C.1 C.2.1 dX11_steps_125 ?_
      refine lv_bipush (v := 6) C.1 C.2.1 dX11_steps_126 (by decide) ?_
      refine lv_icmp_ge (tgt := 154) C.1 C.2.1 dX11_steps_128 (by decide) (fun c9 => ?_) (fun c9 => ?_)
      · have h := h.1 c9
        exact b_X11_steps_154 C hk103 M3 _ _ _ _ _ h I (hl.sub [0] rfl)
      · have h := h.2 c9
        refine l_ald_n (x := some b0) C dX11_steps_131 hl 0 rfl rfl ?_
        refine l_ald_n (x := some b0) C dX11_steps_132 hl 0 rfl rfl ?_
        refine f_L C I (fl_X11_145) dX11_steps_133 ?_
        refine lv_iconst (v := 5) C.1 C.2.1 dX11_steps_136 (by decide) ?_
        refine lv_lshl C.1 C.2.1 dX11_steps_137 rfl ?_
        refine l_ald_n (x := some b0) C dX11_steps_138 hl 0 rfl rfl ?_
        refine l_ald_n (x := some b0) C dX11_steps_139 hl 0 rfl rfl ?_
        refine f_I C I (fl_X11_135) (by decide) dX11_steps_140 ?_
        refine k_call Ext.tr C I (k_V (r := some b0) (As := [.int (mF M3 22)]) (rest := [.long ((mW M3 <<< (((5 : Int32)).toInt64 &&& 63))), va_rf (some b0)]) (y := yX11_byteAt) C (f_recv C I) q1615 q1617 qs50 (Or.inl rfl) q1618 (by decide) rfl pd_X11_byteAt rfl dX11_steps_143) (ct_X11_byteAt h) hl.1 dX11_steps_143 [.inr (.inr ((mW M3 <<< (((5 : Int32)).toInt64 &&& 63)))), .inr (.inl (some b0))] rfl (Nat.le_of_ble_eq_true rfl) (Or.inl rfl) q1618 q113 ⟨Nat.le_of_ble_eq_true rfl, Nat.le_of_ble_eq_true rfl⟩ (fun v x1 H locs cells slots ex hq I => ?_) (fun a x1 H locs cells slots ex hq I => hq.elim)
        obtain ⟨M6, rfl, r7, rfl, h⟩ := hq
        refine lv_bipush (v := 96) C.1 C.2.1 dX11_steps_146 (by decide) ?_
        refine lv_isub C.1 C.2.1 dX11_steps_148 ?_
        refine lv_i2l C.1 C.2.1 dX11_steps_149 rfl ?_
        refine lv_lor C.1 C.2.1 dX11_steps_150 ?_
        refine f_PL C I (fp_X11_145) dX11_steps_151 (fun H locs M8 eM8 I => ?_)
        have h := h M8 eM8
        exact b_X11_steps_154 C hk103 M8 _ _ _ _ _ h I (hl.sub [0] rfl)
def w_X11_steps_232 (Q : MS → Prop) (k182 : MS → Prop) (M : MS) : Prop := ∀ M1 : MS, M1 = sF M 22 ((mF M 22 + (1 : Int32))) → k182 M1
set_option maxHeartbeats 4000000 in
theorem b_X11_steps_232 {b0 z0 : Nat} {M0 : MS} {Q : MS → Prop} {k182 : MS → Prop} (C : Cx p s m meth c D T Z "EndingTownModel" cX11_steps 2 none) (hk182 : ∀ (M : MS) (H : Heap) (locs : List Loc) (cells slots : Nat) (ls : Array Slot), k182 M → HI (twd D T Z) (mG b0 z0 M0) s (rmX (twd D T Z) 1 21 (mG b0 z0 M0)) H locs cells slots (mG b0 z0 M) → LH ls 2 [(0, .inr (.inl (some b0)))] → W p l e (rmX (twd D T Z) 1 21 (mG b0 z0 M0)) s m args below meth c H locs cells slots (MQX (twd D T Z) (mG b0 z0 M0) (mq b0 z0 (qV Q)) (fun _ _ => False) below s) (F0 m 182 ls [])) : ∀ (M : MS) (H : Heap) (locs : List Loc) (cells slots : Nat) (ls : Array Slot), w_X11_steps_232 Q k182 M → HI (twd D T Z) (mG b0 z0 M0) s (rmX (twd D T Z) 1 21 (mG b0 z0 M0)) H locs cells slots (mG b0 z0 M) → LH ls 2 [(0, .inr (.inl (some b0)))] → W p l e (rmX (twd D T Z) 1 21 (mG b0 z0 M0)) s m args below meth c H locs cells slots (MQX (twd D T Z) (mG b0 z0 M0) (mq b0 z0 (qV Q)) (fun _ _ => False) below s) (F0 m 232 ls []) := by
  intro M H locs cells slots ls h I hl
  refine l_ald_n (x := some b0) C dX11_steps_232 hl 0 rfl rfl ?_
  refine lv_dup C.1 C.2.1 dX11_steps_233 (cat_rf _) ?_
  refine f_I C I (fl_X11_135) (by decide) dX11_steps_234 ?_
  refine lv_iconst (v := 1) C.1 C.2.1 dX11_steps_237 (by decide) ?_
  refine lv_iadd C.1 C.2.1 dX11_steps_238 ?_
  refine f_PI C I (fp_X11_135) (by decide) dX11_steps_239 (fit_i _) (fun H locs M1 eM1 I => ?_)
  have h := h M1 eM1
  refine lv_goto (tgt := 182) C.1 C.2.1 dX11_steps_242 (by decide) ?_
  exact hk182 M1 _ _ _ _ _ h I (hl.sub [0] rfl)
def w_X11_steps_182 (Q : MS → Prop) : Nat → MS → Prop
  | 0 => fun _ => False
  | f182 + 1 => fun M => w_X11_byteAt (fun r2 M1 => w_X11_isDigit (fun r4 M3 => ((r4 = 0) → (∀ M5 : MS, M5 = sF M3 23 ((2 : Int32)) → w_X11_steps_278 Q M5)) ∧ ((¬ r4 = 0) → ((((3 : Int32) ≤ (mF M3 22 - mF M3 24)) → (w_X11_steps_232 Q (w_X11_steps_182 Q f182) M3)) ∧ ((¬ (3 : Int32) ≤ (mF M3 22 - mF M3 24)) → (w_X11_byteAt (fun r7 M6 => ∀ M8 : MS, M8 = sF M6 26 (((((10 : Int32) * mF M3 26) + r7) - (48 : Int32))) → w_X11_steps_232 Q (w_X11_steps_182 Q f182) M8) (mF M3 22) M3))))) r2 M1) (mF M 22) M
set_option maxHeartbeats 4000000 in
theorem b_X11_steps_182 {b0 z0 : Nat} {M0 : MS} {Q : MS → Prop} (C : Cx p s m meth c D T Z "EndingTownModel" cX11_steps 2 none) : ∀ (n : Nat) (M : MS) (H : Heap) (locs : List Loc) (cells slots : Nat) (ls : Array Slot), w_X11_steps_182 Q n M → HI (twd D T Z) (mG b0 z0 M0) s (rmX (twd D T Z) 1 21 (mG b0 z0 M0)) H locs cells slots (mG b0 z0 M) → LH ls 2 [(0, .inr (.inl (some b0)))] → W p l e (rmX (twd D T Z) 1 21 (mG b0 z0 M0)) s m args below meth c H locs cells slots (MQX (twd D T Z) (mG b0 z0 M0) (mq b0 z0 (qV Q)) (fun _ _ => False) below s) (F0 m 182 ls []) := by
  intro n
  induction n with
  | zero => intro M H locs cells slots ls h; exact (show False from h).elim
  | succ n ih =>
    intro M H locs cells slots ls h I hl
    have hk182 := ih
    refine l_ald_n (x := some b0) C dX11_steps_182 hl 0 rfl rfl ?_
    refine l_ald_n (x := some b0) C dX11_steps_183 hl 0 rfl rfl ?_
    refine f_I C I (fl_X11_135) (by decide) dX11_steps_184 ?_
    refine k_call Ext.tr C I (k_V (r := some b0) (As := [.int (mF M 22)]) (rest := []) (y := yX11_byteAt) C (f_recv C I) q1615 q1617 qs50 (Or.inl rfl) q1618 (by decide) rfl pd_X11_byteAt rfl dX11_steps_187) (ct_X11_byteAt h) hl.1 dX11_steps_187 [] rfl (Nat.le_of_ble_eq_true rfl) (Or.inl rfl) q1618 q113 ⟨Nat.le_of_ble_eq_true rfl, Nat.le_of_ble_eq_true rfl⟩ (fun v x1 H locs cells slots ex hq I => ?_) (fun a x1 H locs cells slots ex hq I => hq.elim)
    obtain ⟨M1, rfl, r2, rfl, h⟩ := hq
    refine k_call Ext.tr C I (k_S (As := [.int r2]) (rest := []) (y := yX11_isDigit) C q1622 q1623 q113 (Or.inl rfl) q1624 (by decide) rfl pd_X11_isDigit rfl dX11_steps_190) (ct_X11_isDigit h) hl.1 dX11_steps_190 [] rfl (Nat.le_of_ble_eq_true rfl) (Or.inl rfl) q1624 q113 ⟨Nat.le_of_ble_eq_true rfl, Nat.le_of_ble_eq_true rfl⟩ (fun v x1 H locs cells slots ex hq I => ?_) (fun a x1 H locs cells slots ex hq I => hq.elim)
    obtain ⟨M3, rfl, r4, rfl, h⟩ := hq
    refine lv_if_eq (tgt := 245) C.1 C.2.1 dX11_steps_193 (by decide) (fun c10 => ?_) (fun c10 => ?_)
    · have h := h.1 c10
      refine l_ald_n (x := some b0) C dX11_steps_245 hl 0 rfl rfl ?_
      refine lv_iconst (v := 2) C.1 C.2.1 dX11_steps_246 (by decide) ?_
      refine f_PI C I (fp_X11_152) (by decide) dX11_steps_247 (fit_i _) (fun H locs M5 eM5 I => ?_)
      have h := h M5 eM5
      refine lv_goto (tgt := 278) C.1 C.2.1 dX11_steps_250 (by decide) ?_
      exact b_X11_steps_278 C M5 _ _ _ _ _ h I (hl.sub [0] rfl)
    · have h := h.2 c10
      refine l_ald_n (x := some b0) C dX11_steps_196 hl 0 rfl rfl ?_
      refine f_I C I (fl_X11_135) (by decide) dX11_steps_197 ?_
      refine l_ald_n (x := some b0) C dX11_steps_200 hl 0 rfl rfl ?_
      refine f_I C I (fl_X11_142) (by decide) dX11_steps_201 ?_
      refine lv_isub C.1 C.2.1 dX11_steps_204 ?_
      refine lv_iconst (v := 3) C.1 C.2.1 dX11_steps_205 (by decide) ?_
      refine lv_icmp_ge (tgt := 232) C.1 C.2.1 dX11_steps_206 (by decide) (fun c9 => ?_) (fun c9 => ?_)
      · have h := h.1 c9
        exact b_X11_steps_232 C hk182 M3 _ _ _ _ _ h I (hl.sub [0] rfl)
      · have h := h.2 c9
        refine l_ald_n (x := some b0) C dX11_steps_209 hl 0 rfl rfl ?_
        refine lv_bipush (v := 10) C.1 C.2.1 dX11_steps_210 (by decide) ?_
        refine l_ald_n (x := some b0) C dX11_steps_212 hl 0 rfl rfl ?_
        refine f_I C I (fl_X11_149) (by decide) dX11_steps_213 ?_
        refine lv_imul C.1 C.2.1 dX11_steps_216 ?_
        refine l_ald_n (x := some b0) C dX11_steps_217 hl 0 rfl rfl ?_
        refine l_ald_n (x := some b0) C dX11_steps_218 hl 0 rfl rfl ?_
        refine f_I C I (fl_X11_135) (by decide) dX11_steps_219 ?_
        refine k_call Ext.tr C I (k_V (r := some b0) (As := [.int (mF M3 22)]) (rest := [.int (((10 : Int32) * mF M3 26)), va_rf (some b0)]) (y := yX11_byteAt) C (f_recv C I) q1615 q1617 qs50 (Or.inl rfl) q1618 (by decide) rfl pd_X11_byteAt rfl dX11_steps_222) (ct_X11_byteAt h) hl.1 dX11_steps_222 [.inl (((10 : Int32) * mF M3 26)), .inr (.inl (some b0))] rfl (Nat.le_of_ble_eq_true rfl) (Or.inl rfl) q1618 q113 ⟨Nat.le_of_ble_eq_true rfl, Nat.le_of_ble_eq_true rfl⟩ (fun v x1 H locs cells slots ex hq I => ?_) (fun a x1 H locs cells slots ex hq I => hq.elim)
        obtain ⟨M6, rfl, r7, rfl, h⟩ := hq
        refine lv_iadd C.1 C.2.1 dX11_steps_225 ?_
        refine lv_bipush (v := 48) C.1 C.2.1 dX11_steps_226 (by decide) ?_
        refine lv_isub C.1 C.2.1 dX11_steps_228 ?_
        refine f_PI C I (fp_X11_149) (by decide) dX11_steps_229 (fit_i _) (fun H locs M8 eM8 I => ?_)
        have h := h M8 eM8
        exact b_X11_steps_232 C hk182 M8 _ _ _ _ _ h I (hl.sub [0] rfl)
def w_X11_steps_275 (Q : MS → Prop) (t0 : Int32) (M : MS) : Prop := ∀ M1 : MS, M1 = sF M 23 t0 → w_X11_steps_278 Q M1
set_option maxHeartbeats 4000000 in
theorem b_X11_steps_275 {b0 z0 : Nat} {M0 : MS} {Q : MS → Prop} (C : Cx p s m meth c D T Z "EndingTownModel" cX11_steps 2 none) : ∀ (t0 : Int32) (M : MS) (H : Heap) (locs : List Loc) (cells slots : Nat) (ls : Array Slot), w_X11_steps_275 Q t0 M → HI (twd D T Z) (mG b0 z0 M0) s (rmX (twd D T Z) 1 21 (mG b0 z0 M0)) H locs cells slots (mG b0 z0 M) → LH ls 2 [(0, .inr (.inl (some b0)))] → W p l e (rmX (twd D T Z) 1 21 (mG b0 z0 M0)) s m args below meth c H locs cells slots (MQX (twd D T Z) (mG b0 z0 M0) (mq b0 z0 (qV Q)) (fun _ _ => False) below s) (F0 m 275 ls [.int t0, va_rf (some b0)]) := by
  intro t0 M H locs cells slots ls h I hl
  refine f_PI C I (fp_X11_152) (by decide) dX11_steps_275 (fit_i _) (fun H locs M1 eM1 I => ?_)
  have h := h M1 eM1
  exact b_X11_steps_278 C M1 _ _ _ _ _ h I (hl.sub [0] rfl)
def w_X11_steps_50 (Q : MS → Prop) (M : MS) : Prop := ∀ M1 : MS, M1 = sF M 24 (mF M 22) → ∀ M2 : MS, M2 = sW M1 ((0 : Int64)) → ∀ M3 : MS, M3 = sF M2 26 ((0 : Int32)) → w_X11_byteAt (fun r5 M4 => ((mF M4 22 < mF M4 21) → (w_X11_isLetter (fun r7 M6 => ((r7 = 0) → (w_X11_isDigit (fun r9 M8 => ((r9 = 0) → (∀ M10 : MS, M10 = sF M8 22 ((mF M8 22 + (1 : Int32))) → ((¬ r5 = (59 : Int32)) → (w_X11_steps_275 Q ((4 : Int32)) M10)) ∧ ((r5 = (59 : Int32)) → (w_X11_steps_275 Q ((3 : Int32)) M10)))) ∧ ((¬ r9 = 0) → (∃ n, w_X11_steps_182 Q n M8))) r5 M6)) ∧ ((¬ r7 = 0) → (∃ n, w_X11_steps_103 Q n M6))) r5 M4)) ∧ ((¬ mF M4 22 < mF M4 21) → (∀ M14 : MS, M14 = sF M4 23 ((0 : Int32)) → w_X11_steps_278 Q M14))) (mF M3 22) M3
set_option maxHeartbeats 4000000 in
theorem b_X11_steps_50 {b0 z0 : Nat} {M0 : MS} {Q : MS → Prop} (C : Cx p s m meth c D T Z "EndingTownModel" cX11_steps 2 none) : ∀ (M : MS) (H : Heap) (locs : List Loc) (cells slots : Nat) (ls : Array Slot), w_X11_steps_50 Q M → HI (twd D T Z) (mG b0 z0 M0) s (rmX (twd D T Z) 1 21 (mG b0 z0 M0)) H locs cells slots (mG b0 z0 M) → LH ls 2 [(0, .inr (.inl (some b0)))] → W p l e (rmX (twd D T Z) 1 21 (mG b0 z0 M0)) s m args below meth c H locs cells slots (MQX (twd D T Z) (mG b0 z0 M0) (mq b0 z0 (qV Q)) (fun _ _ => False) below s) (F0 m 50 ls []) := by
  intro M H locs cells slots ls h I hl
  refine l_ald_n (x := some b0) C dX11_steps_50 hl 0 rfl rfl ?_
  refine l_ald_n (x := some b0) C dX11_steps_51 hl 0 rfl rfl ?_
  refine f_I C I (fl_X11_135) (by decide) dX11_steps_52 ?_
  refine f_PI C I (fp_X11_142) (by decide) dX11_steps_55 (fit_i _) (fun H locs M1 eM1 I => ?_)
  have h := h M1 eM1
  refine l_ald_n (x := some b0) C dX11_steps_58 hl 0 rfl rfl ?_
  refine lv_lconst (v := 0) C.1 C.2.1 dX11_steps_59 (by decide) ?_
  refine f_PL C I (fp_X11_145) dX11_steps_60 (fun H locs M2 eM2 I => ?_)
  have h := h M2 eM2
  refine l_ald_n (x := some b0) C dX11_steps_63 hl 0 rfl rfl ?_
  refine lv_iconst (v := 0) C.1 C.2.1 dX11_steps_64 (by decide) ?_
  refine f_PI C I (fp_X11_149) (by decide) dX11_steps_65 (fit_i _) (fun H locs M3 eM3 I => ?_)
  have h := h M3 eM3
  refine l_ald_n (x := some b0) C dX11_steps_68 hl 0 rfl rfl ?_
  refine l_ald_n (x := some b0) C dX11_steps_69 hl 0 rfl rfl ?_
  refine f_I C I (fl_X11_135) (by decide) dX11_steps_70 ?_
  refine k_call Ext.tr C I (k_V (r := some b0) (As := [.int (mF M3 22)]) (rest := []) (y := yX11_byteAt) C (f_recv C I) q1615 q1617 qs50 (Or.inl rfl) q1618 (by decide) rfl pd_X11_byteAt rfl dX11_steps_73) (ct_X11_byteAt h) hl.1 dX11_steps_73 [] rfl (Nat.le_of_ble_eq_true rfl) (Or.inl rfl) q1618 q113 ⟨Nat.le_of_ble_eq_true rfl, Nat.le_of_ble_eq_true rfl⟩ (fun v x1 H locs cells slots ex hq I => ?_) (fun a x1 H locs cells slots ex hq I => hq.elim)
  obtain ⟨M4, rfl, r5, rfl, h⟩ := hq
  refine l_ist_n C dX11_steps_76 rfl hl (by decide) rfl (fun ls hl => ?_)
  have hl : LH ls 2 [(1, .inl r5), (0, .inr (.inl (some b0)))] := hl
  refine l_ald_n (x := some b0) C dX11_steps_77 hl 1 rfl rfl ?_
  refine f_I C I (fl_X11_135) (by decide) dX11_steps_78 ?_
  refine l_ald_n (x := some b0) C dX11_steps_81 hl 1 rfl rfl ?_
  refine f_I C I (fl_X11_132) (by decide) dX11_steps_82 ?_
  refine lv_icmp_lt (tgt := 96) C.1 C.2.1 dX11_steps_85 (by decide) (fun c15 => ?_) (fun c15 => ?_)
  · have h := h.1 c15
    refine l_ild_n C dX11_steps_96 hl 0 rfl rfl ?_
    refine k_call Ext.tr C I (k_S (As := [.int r5]) (rest := []) (y := yX11_isLetter) C q1619 q1620 q113 (Or.inl rfl) q1621 (by decide) rfl pd_X11_isLetter rfl dX11_steps_97) (ct_X11_isLetter h) hl.1 dX11_steps_97 [] rfl (Nat.le_of_ble_eq_true rfl) (Or.inl rfl) q1621 q113 ⟨Nat.le_of_ble_eq_true rfl, Nat.le_of_ble_eq_true rfl⟩ (fun v x1 H locs cells slots ex hq I => ?_) (fun a x1 H locs cells slots ex hq I => hq.elim)
    obtain ⟨M6, rfl, r7, rfl, h⟩ := hq
    refine lv_if_eq (tgt := 175) C.1 C.2.1 dX11_steps_100 (by decide) (fun c13 => ?_) (fun c13 => ?_)
    · have h := h.1 c13
      refine l_ild_n C dX11_steps_175 hl 0 rfl rfl ?_
      refine k_call Ext.tr C I (k_S (As := [.int r5]) (rest := []) (y := yX11_isDigit) C q1622 q1623 q113 (Or.inl rfl) q1624 (by decide) rfl pd_X11_isDigit rfl dX11_steps_176) (ct_X11_isDigit h) hl.1 dX11_steps_176 [] rfl (Nat.le_of_ble_eq_true rfl) (Or.inl rfl) q1624 q113 ⟨Nat.le_of_ble_eq_true rfl, Nat.le_of_ble_eq_true rfl⟩ (fun v x1 H locs cells slots ex hq I => ?_) (fun a x1 H locs cells slots ex hq I => hq.elim)
      obtain ⟨M8, rfl, r9, rfl, h⟩ := hq
      refine lv_if_eq (tgt := 253) C.1 C.2.1 dX11_steps_179 (by decide) (fun c12 => ?_) (fun c12 => ?_)
      · have h := h.1 c12
        refine l_ald_n (x := some b0) C dX11_steps_253 hl 1 rfl rfl ?_
        refine lv_dup C.1 C.2.1 dX11_steps_254 (cat_rf _) ?_
        refine f_I C I (fl_X11_135) (by decide) dX11_steps_255 ?_
        refine lv_iconst (v := 1) C.1 C.2.1 dX11_steps_258 (by decide) ?_
        refine lv_iadd C.1 C.2.1 dX11_steps_259 ?_
        refine f_PI C I (fp_X11_135) (by decide) dX11_steps_260 (fit_i _) (fun H locs M10 eM10 I => ?_)
        have h := h M10 eM10
        refine l_ald_n (x := some b0) C dX11_steps_263 hl 1 rfl rfl ?_
        refine l_ild_n C dX11_steps_264 hl 0 rfl rfl ?_
        refine lv_bipush (v := 59) C.1 C.2.1 dX11_steps_265 (by decide) ?_
        refine lv_icmp_ne (tgt := 274) C.1 C.2.1 dX11_steps_267 (by decide) (fun c11 => ?_) (fun c11 => ?_)
        · have h := h.1 c11
          refine lv_iconst (v := 4) C.1 C.2.1 dX11_steps_274 (by decide) ?_
          exact b_X11_steps_275 C ((4 : Int32)) M10 _ _ _ _ _ h I (hl.sub [1] rfl)
        · have h := h.2 c11
          refine lv_iconst (v := 3) C.1 C.2.1 dX11_steps_270 (by decide) ?_
          refine lv_goto (tgt := 275) C.1 C.2.1 dX11_steps_271 (by decide) ?_
          exact b_X11_steps_275 C ((3 : Int32)) M10 _ _ _ _ _ h I (hl.sub [1] rfl)
      · have h := h.2 c12
        obtain ⟨n, h⟩ := h
        exact b_X11_steps_182 C n M8 _ _ _ _ _ h I (hl.sub [1] rfl)
    · have h := h.2 c13
      obtain ⟨n, h⟩ := h
      exact b_X11_steps_103 C n M6 _ _ _ _ _ h I (hl.sub [1] rfl)
  · have h := h.2 c15
    refine l_ald_n (x := some b0) C dX11_steps_88 hl 1 rfl rfl ?_
    refine lv_iconst (v := 0) C.1 C.2.1 dX11_steps_89 (by decide) ?_
    refine f_PI C I (fp_X11_152) (by decide) dX11_steps_90 (fit_i _) (fun H locs M14 eM14 I => ?_)
    have h := h M14 eM14
    refine lv_goto (tgt := 278) C.1 C.2.1 dX11_steps_93 (by decide) ?_
    exact b_X11_steps_278 C M14 _ _ _ _ _ h I (hl.sub [1] rfl)
def w_X11_steps_0 (Q : MS → Prop) : Nat → MS → Prop
  | 0 => fun _ => False
  | f0 + 1 => fun M => ((mF M 21 ≤ mF M 22) → (w_X11_steps_50 Q M)) ∧ ((¬ mF M 21 ≤ mF M 22) → (w_X11_byteAt (fun r2 M1 => ((r2 = (32 : Int32)) → (w_X11_steps_37 Q (w_X11_steps_0 Q f0) M1)) ∧ ((¬ r2 = (32 : Int32)) → (w_X11_byteAt (fun r4 M3 => ((¬ r4 = (10 : Int32)) → (w_X11_steps_50 Q M3)) ∧ ((r4 = (10 : Int32)) → (w_X11_steps_37 Q (w_X11_steps_0 Q f0) M3))) (mF M1 22) M1))) (mF M 22) M))
set_option maxHeartbeats 4000000 in
theorem b_X11_steps_0 {b0 z0 : Nat} {M0 : MS} {Q : MS → Prop} (C : Cx p s m meth c D T Z "EndingTownModel" cX11_steps 2 none) : ∀ (n : Nat) (M : MS) (H : Heap) (locs : List Loc) (cells slots : Nat) (ls : Array Slot), w_X11_steps_0 Q n M → HI (twd D T Z) (mG b0 z0 M0) s (rmX (twd D T Z) 1 21 (mG b0 z0 M0)) H locs cells slots (mG b0 z0 M) → LH ls 2 [(0, .inr (.inl (some b0)))] → W p l e (rmX (twd D T Z) 1 21 (mG b0 z0 M0)) s m args below meth c H locs cells slots (MQX (twd D T Z) (mG b0 z0 M0) (mq b0 z0 (qV Q)) (fun _ _ => False) below s) (F0 m 0 ls []) := by
  intro n
  induction n with
  | zero => intro M H locs cells slots ls h; exact (show False from h).elim
  | succ n ih =>
    intro M H locs cells slots ls h I hl
    have hk0 := ih
    refine l_ald_n (x := some b0) C dX11_steps_0 hl 0 rfl rfl ?_
    refine f_I C I (fl_X11_135) (by decide) dX11_steps_1 ?_
    refine l_ald_n (x := some b0) C dX11_steps_4 hl 0 rfl rfl ?_
    refine f_I C I (fl_X11_132) (by decide) dX11_steps_5 ?_
    refine lv_icmp_ge (tgt := 50) C.1 C.2.1 dX11_steps_8 (by decide) (fun c7 => ?_) (fun c7 => ?_)
    · have h := h.1 c7
      exact b_X11_steps_50 C M _ _ _ _ _ h I (hl.sub [0] rfl)
    · have h := h.2 c7
      refine l_ald_n (x := some b0) C dX11_steps_11 hl 0 rfl rfl ?_
      refine l_ald_n (x := some b0) C dX11_steps_12 hl 0 rfl rfl ?_
      refine f_I C I (fl_X11_135) (by decide) dX11_steps_13 ?_
      refine k_call Ext.tr C I (k_V (r := some b0) (As := [.int (mF M 22)]) (rest := []) (y := yX11_byteAt) C (f_recv C I) q1615 q1617 qs50 (Or.inl rfl) q1618 (by decide) rfl pd_X11_byteAt rfl dX11_steps_16) (ct_X11_byteAt h) hl.1 dX11_steps_16 [] rfl (Nat.le_of_ble_eq_true rfl) (Or.inl rfl) q1618 q113 ⟨Nat.le_of_ble_eq_true rfl, Nat.le_of_ble_eq_true rfl⟩ (fun v x1 H locs cells slots ex hq I => ?_) (fun a x1 H locs cells slots ex hq I => hq.elim)
      obtain ⟨M1, rfl, r2, rfl, h⟩ := hq
      refine lv_bipush (v := 32) C.1 C.2.1 dX11_steps_19 (by decide) ?_
      refine lv_icmp_eq (tgt := 37) C.1 C.2.1 dX11_steps_21 (by decide) (fun c6 => ?_) (fun c6 => ?_)
      · have h := h.1 c6
        exact b_X11_steps_37 C hk0 M1 _ _ _ _ _ h I (hl.sub [0] rfl)
      · have h := h.2 c6
        refine l_ald_n (x := some b0) C dX11_steps_24 hl 0 rfl rfl ?_
        refine l_ald_n (x := some b0) C dX11_steps_25 hl 0 rfl rfl ?_
        refine f_I C I (fl_X11_135) (by decide) dX11_steps_26 ?_
        refine k_call Ext.tr C I (k_V (r := some b0) (As := [.int (mF M1 22)]) (rest := []) (y := yX11_byteAt) C (f_recv C I) q1615 q1617 qs50 (Or.inl rfl) q1618 (by decide) rfl pd_X11_byteAt rfl dX11_steps_29) (ct_X11_byteAt h) hl.1 dX11_steps_29 [] rfl (Nat.le_of_ble_eq_true rfl) (Or.inl rfl) q1618 q113 ⟨Nat.le_of_ble_eq_true rfl, Nat.le_of_ble_eq_true rfl⟩ (fun v x1 H locs cells slots ex hq I => ?_) (fun a x1 H locs cells slots ex hq I => hq.elim)
        obtain ⟨M3, rfl, r4, rfl, h⟩ := hq
        refine lv_bipush (v := 10) C.1 C.2.1 dX11_steps_32 (by decide) ?_
        refine lv_icmp_ne (tgt := 50) C.1 C.2.1 dX11_steps_34 (by decide) (fun c5 => ?_) (fun c5 => ?_)
        · have h := h.1 c5
          exact b_X11_steps_50 C M3 _ _ _ _ _ h I (hl.sub [0] rfl)
        · have h := h.2 c5
          exact b_X11_steps_37 C hk0 M3 _ _ _ _ _ h I (hl.sub [0] rfl)
def w_X11_steps (Q : MS → Prop) (M : MS) : Prop := ∃ n, w_X11_steps_0 Q n M
theorem pd_X11_steps : (parseMethodDescriptor yX11_steps.desc).map (fun d => d.parameters.length) = some 0 := by decide +kernel
set_option maxHeartbeats 4000000 in
theorem ct_X11_steps {l : Launch} {D : va_G} {T : Nat → ClassId} {Z : Heap} {b0 z0 : Nat} {M0 : MS} {Q : MS → Prop} (hw : w_X11_steps Q M0) : CT (twd D T Z) (Evd D T Z) l yX11_steps (Cond.code yX11_steps cX11_steps 2 none) 1 21 [va_rf (some b0)] (mG b0 z0 M0) (mq b0 z0 (qV Q)) (fun _ _ => False) := by
  refine CT.ofW (cc := cX11_steps) (nL := 2) (ret := none) Ext.rf (by decide) (Or.inl rfl) ?_
  intro p e s m below meth c hx hb hml hown hr hlk hnm hcb hm hc hn hE I
  have C : Cx p s m meth c D T Z "EndingTownModel" cX11_steps 2 none := ⟨hx, hb, hml, hown, hE, hr, hlk⟩
  refine w_entry [.inr (.inl (some b0))] (Nat.le_of_ble_eq_true rfl) (fun ls hl => ?_)
  have hl : LH ls 2 [(0, .inr (.inl (some b0)))] := hl
  have h := hw
  obtain ⟨n, h⟩ := h
  exact b_X11_steps_0 C n M0 _ _ _ _ _ h I (hl.sub [0] rfl)
def w_X11_need_24 (Q : MS → Prop) (M : MS) : Prop := Q M
set_option maxHeartbeats 4000000 in
theorem b_X11_need_24 {b0 z0 : Nat} {M0 : MS} {Q : MS → Prop} (C : Cx p s m meth c D T Z "EndingTownModel" cX11_need 2 none) : ∀ (M : MS) (H : Heap) (locs : List Loc) (cells slots : Nat) (ls : Array Slot), w_X11_need_24 Q M → HI (twd D T Z) (mG b0 z0 M0) s (rmX (twd D T Z) 2 42 (mG b0 z0 M0)) H locs cells slots (mG b0 z0 M) → LH ls 2 [] → W p l e (rmX (twd D T Z) 2 42 (mG b0 z0 M0)) s m args below meth c H locs cells slots (MQX (twd D T Z) (mG b0 z0 M0) (mq b0 z0 (qV Q)) (fun _ _ => False) below s) (F0 m 24 ls []) := by
  intro M H locs cells slots ls h I hl
  exact r_void C.1 C.2.1 C.2.2.2.2.2.1 C.2.2.2.2.2.2 ⟨rfl, rfl⟩ I dX11_need_24 ⟨_, rfl, rfl, h⟩
def w_X11_need (Q : MS → Prop) (p0 : Int32) (M : MS) : Prop := w_X11_isGood (fun r2 M1 => ((¬ r2 = 0) → (((p0 = 0) → (w_X11_faults (fun M3 => w_X11_need_24 Q M3) ((1 : Int32)) M1)) ∧ ((¬ p0 = 0) → (w_X11_steps (fun M5 => w_X11_need_24 Q M5) M1)))) ∧ ((r2 = 0) → (Q M1))) M
theorem pd_X11_need : (parseMethodDescriptor yX11_need.desc).map (fun d => d.parameters.length) = some 1 := by decide +kernel
set_option maxHeartbeats 4000000 in
theorem ct_X11_need {l : Launch} {D : va_G} {T : Nat → ClassId} {Z : Heap} {b0 z0 : Nat} {M0 : MS} {Q : MS → Prop} {p0 : Int32} (hw : w_X11_need Q p0 M0) : CT (twd D T Z) (Evd D T Z) l yX11_need (Cond.code yX11_need cX11_need 2 none) 2 42 [va_rf (some b0), .int p0] (mG b0 z0 M0) (mq b0 z0 (qV Q)) (fun _ _ => False) := by
  refine CT.ofW (cc := cX11_need) (nL := 2) (ret := none) Ext.rf (by decide) (Or.inl rfl) ?_
  intro p e s m below meth c hx hb hml hown hr hlk hnm hcb hm hc hn hE I
  have C : Cx p s m meth c D T Z "EndingTownModel" cX11_need 2 none := ⟨hx, hb, hml, hown, hE, hr, hlk⟩
  refine w_entry [.inr (.inl (some b0)), .inl p0] (Nat.le_of_ble_eq_true rfl) (fun ls hl => ?_)
  have hl : LH ls 2 [(0, .inr (.inl (some b0))), (1, .inl p0)] := hl
  have h := hw
  refine l_ald_n (x := some b0) C dX11_need_0 hl 0 rfl rfl ?_
  refine k_call Ext.tr C I (k_V (r := some b0) (As := []) (rest := []) (y := yX11_isGood) C (f_recv C I) q1625 q1627 qs51 (Or.inl rfl) q1628 (by decide) rfl pd_X11_isGood rfl dX11_need_1) (ct_X11_isGood h) hl.1 dX11_need_1 [] rfl (Nat.le_of_ble_eq_true rfl) (Or.inl rfl) q1628 q113 ⟨Nat.le_of_ble_eq_true rfl, Nat.le_of_ble_eq_true rfl⟩ (fun v x1 H locs cells slots ex hq I => ?_) (fun a x1 H locs cells slots ex hq I => hq.elim)
  obtain ⟨M1, rfl, r2, rfl, h⟩ := hq
  refine lv_if_ne (tgt := 8) C.1 C.2.1 dX11_need_4 (by decide) (fun c8 => ?_) (fun c8 => ?_)
  · have h := h.1 c8
    refine l_ild_n C dX11_need_8 hl 1 rfl rfl ?_
    refine lv_if_eq (tgt := 19) C.1 C.2.1 dX11_need_9 (by decide) (fun c7 => ?_) (fun c7 => ?_)
    · have h := h.1 c7
      refine l_ald_n (x := some b0) C dX11_need_19 hl 0 rfl rfl ?_
      refine lv_iconst (v := 1) C.1 C.2.1 dX11_need_20 (by decide) ?_
      refine k_call Ext.tr C I (k_V (r := some b0) (As := [.int ((1 : Int32))]) (rest := []) (y := yX11_faults) C (f_recv C I) q1643 q1645 qs54 (Or.inl rfl) q1646 (by decide) rfl pd_X11_faults rfl dX11_need_21) (ct_X11_faults h) hl.1 dX11_need_21 [] rfl (Nat.le_of_ble_eq_true rfl) (Or.inl rfl) q1646 q113 ⟨Nat.le_of_ble_eq_true rfl, Nat.le_of_ble_eq_true rfl⟩ (fun v x1 H locs cells slots ex hq I => ?_) (fun a x1 H locs cells slots ex hq I => hq.elim)
      obtain ⟨M3, rfl, rfl, h⟩ := hq
      exact b_X11_need_24 C M3 _ _ _ _ _ h I (hl.sub [] rfl)
    · have h := h.2 c7
      refine l_ald_n (x := some b0) C dX11_need_12 hl 0 rfl rfl ?_
      refine k_call Ext.tr C I (k_V (r := some b0) (As := []) (rest := []) (y := yX11_steps) C (f_recv C I) q1611 q1613 qs49 (Or.inl rfl) q1614 (by decide) rfl pd_X11_steps rfl dX11_need_13) (ct_X11_steps h) hl.1 dX11_need_13 [] rfl (Nat.le_of_ble_eq_true rfl) (Or.inl rfl) q1614 q113 ⟨Nat.le_of_ble_eq_true rfl, Nat.le_of_ble_eq_true rfl⟩ (fun v x1 H locs cells slots ex hq I => ?_) (fun a x1 H locs cells slots ex hq I => hq.elim)
      obtain ⟨M5, rfl, rfl, h⟩ := hq
      refine lv_goto (tgt := 24) C.1 C.2.1 dX11_need_16 (by decide) ?_
      exact b_X11_need_24 C M5 _ _ _ _ _ h I (hl.sub [] rfl)
  · have h := h.2 c8
    exact r_void C.1 C.2.1 C.2.2.2.2.2.1 C.2.2.2.2.2.2 ⟨rfl, rfl⟩ I dX11_need_7 ⟨_, rfl, rfl, h⟩
def w_X11_number_70 (Q : Int32 → MS → Prop) (l3 : Int32) (M : MS) : Prop := Q l3 M
set_option maxHeartbeats 4000000 in
theorem b_X11_number_70 {b0 z0 : Nat} {M0 : MS} {Q : Int32 → MS → Prop} (C : Cx p s m meth c D T Z "EndingTownModel" cX11_number 4 (some .int)) : ∀ (l3 : Int32) (M : MS) (H : Heap) (locs : List Loc) (cells slots : Nat) (ls : Array Slot), w_X11_number_70 Q l3 M → HI (twd D T Z) (mG b0 z0 M0) s (rmX (twd D T Z) 2 42 (mG b0 z0 M0)) H locs cells slots (mG b0 z0 M) → LH ls 4 [(3, .inl l3)] → W p l e (rmX (twd D T Z) 2 42 (mG b0 z0 M0)) s m args below meth c H locs cells slots (MQX (twd D T Z) (mG b0 z0 M0) (mq b0 z0 (qI Q)) (fun _ _ => False) below s) (F0 m 70 ls []) := by
  intro l3 M H locs cells slots ls h I hl
  refine l_ild_n C dX11_number_70 hl 0 rfl rfl ?_
  exact r_int C.1 C.2.1 C.2.2.2.2.2.1 rfl C.2.2.2.2.2.2 ⟨rfl, rfl⟩ I dX11_number_71 ⟨_, rfl, _, rfl, h⟩
def w_X11_number_54 (Q : Int32 → MS → Prop) (M : MS) : Prop := w_X11_isGood (fun r2 M1 => ((r2 = 0) → (w_X11_number_70 Q (mF M 26) M1)) ∧ ((¬ r2 = 0) → (w_X11_steps (fun M3 => w_X11_number_70 Q (mF M 26) M3) M1))) M
set_option maxHeartbeats 4000000 in
theorem b_X11_number_54 {b0 z0 : Nat} {M0 : MS} {Q : Int32 → MS → Prop} (C : Cx p s m meth c D T Z "EndingTownModel" cX11_number 4 (some .int)) : ∀ (M : MS) (H : Heap) (locs : List Loc) (cells slots : Nat) (ls : Array Slot), w_X11_number_54 Q M → HI (twd D T Z) (mG b0 z0 M0) s (rmX (twd D T Z) 2 42 (mG b0 z0 M0)) H locs cells slots (mG b0 z0 M) → LH ls 4 [(0, .inr (.inl (some b0)))] → W p l e (rmX (twd D T Z) 2 42 (mG b0 z0 M0)) s m args below meth c H locs cells slots (MQX (twd D T Z) (mG b0 z0 M0) (mq b0 z0 (qI Q)) (fun _ _ => False) below s) (F0 m 54 ls []) := by
  intro M H locs cells slots ls h I hl
  refine l_ald_n (x := some b0) C dX11_number_54 hl 0 rfl rfl ?_
  refine f_I C I (fl_X11_149) (by decide) dX11_number_55 ?_
  refine l_ist_n C dX11_number_58 rfl hl (by decide) rfl (fun ls hl => ?_)
  have hl : LH ls 4 [(3, .inl (mF M 26)), (0, .inr (.inl (some b0)))] := hl
  refine l_ald_n (x := some b0) C dX11_number_59 hl 1 rfl rfl ?_
  refine k_call Ext.tr C I (k_V (r := some b0) (As := []) (rest := []) (y := yX11_isGood) C (f_recv C I) q1625 q1627 qs51 (Or.inl rfl) q1628 (by decide) rfl pd_X11_isGood rfl dX11_number_60) (ct_X11_isGood h) hl.1 dX11_number_60 [] rfl (Nat.le_of_ble_eq_true rfl) (Or.inl rfl) q1628 q113 ⟨Nat.le_of_ble_eq_true rfl, Nat.le_of_ble_eq_true rfl⟩ (fun v x1 H locs cells slots ex hq I => ?_) (fun a x1 H locs cells slots ex hq I => hq.elim)
  obtain ⟨M1, rfl, r2, rfl, h⟩ := hq
  refine lv_if_eq (tgt := 70) C.1 C.2.1 dX11_number_63 (by decide) (fun c5 => ?_) (fun c5 => ?_)
  · have h := h.1 c5
    exact b_X11_number_70 C (mF M 26) M1 _ _ _ _ _ h I (hl.sub [0] rfl)
  · have h := h.2 c5
    refine l_ald_n (x := some b0) C dX11_number_66 hl 1 rfl rfl ?_
    refine k_call Ext.tr C I (k_V (r := some b0) (As := []) (rest := []) (y := yX11_steps) C (f_recv C I) q1611 q1613 qs49 (Or.inl rfl) q1614 (by decide) rfl pd_X11_steps rfl dX11_number_67) (ct_X11_steps h) hl.1 dX11_number_67 [] rfl (Nat.le_of_ble_eq_true rfl) (Or.inl rfl) q1614 q113 ⟨Nat.le_of_ble_eq_true rfl, Nat.le_of_ble_eq_true rfl⟩ (fun v x1 H locs cells slots ex hq I => ?_) (fun a x1 H locs cells slots ex hq I => hq.elim)
    obtain ⟨M3, rfl, rfl, h⟩ := hq
    exact b_X11_number_70 C (mF M 26) M3 _ _ _ _ _ h I (hl.sub [0] rfl)
def w_X11_number_49 (Q : Int32 → MS → Prop) (M : MS) : Prop := w_X11_faults (fun M1 => w_X11_number_54 Q M1) ((2 : Int32)) M
set_option maxHeartbeats 4000000 in
theorem b_X11_number_49 {b0 z0 : Nat} {M0 : MS} {Q : Int32 → MS → Prop} (C : Cx p s m meth c D T Z "EndingTownModel" cX11_number 4 (some .int)) : ∀ (M : MS) (H : Heap) (locs : List Loc) (cells slots : Nat) (ls : Array Slot), w_X11_number_49 Q M → HI (twd D T Z) (mG b0 z0 M0) s (rmX (twd D T Z) 2 42 (mG b0 z0 M0)) H locs cells slots (mG b0 z0 M) → LH ls 4 [(0, .inr (.inl (some b0)))] → W p l e (rmX (twd D T Z) 2 42 (mG b0 z0 M0)) s m args below meth c H locs cells slots (MQX (twd D T Z) (mG b0 z0 M0) (mq b0 z0 (qI Q)) (fun _ _ => False) below s) (F0 m 49 ls []) := by
  intro M H locs cells slots ls h I hl
  refine l_ald_n (x := some b0) C dX11_number_49 hl 0 rfl rfl ?_
  refine lv_iconst (v := 2) C.1 C.2.1 dX11_number_50 (by decide) ?_
  refine k_call Ext.tr C I (k_V (r := some b0) (As := [.int ((2 : Int32))]) (rest := []) (y := yX11_faults) C (f_recv C I) q1643 q1645 qs54 (Or.inl rfl) q1646 (by decide) rfl pd_X11_faults rfl dX11_number_51) (ct_X11_faults h) hl.1 dX11_number_51 [] rfl (Nat.le_of_ble_eq_true rfl) (Or.inl rfl) q1646 q113 ⟨Nat.le_of_ble_eq_true rfl, Nat.le_of_ble_eq_true rfl⟩ (fun v x1 H locs cells slots ex hq I => ?_) (fun a x1 H locs cells slots ex hq I => hq.elim)
  obtain ⟨M1, rfl, rfl, h⟩ := hq
  exact b_X11_number_54 C M1 _ _ _ _ _ h I (hl.sub [0] rfl)
def w_X11_number (Q : Int32 → MS → Prop) (p0 : Int32) (p1 : Int32) (M : MS) : Prop := w_X11_isGood (fun r2 M1 => ((¬ r2 = 0) → (((mF M1 23 = (2 : Int32)) → ((((3 : Int32) < mF M1 25) → (w_X11_number_49 Q M1)) ∧ ((¬ (3 : Int32) < mF M1 25) → (((mF M1 26 < p0) → (w_X11_number_49 Q M1)) ∧ ((¬ mF M1 26 < p0) → (((mF M1 26 ≤ p1) → (w_X11_number_54 Q M1)) ∧ ((¬ mF M1 26 ≤ p1) → (w_X11_number_49 Q M1)))))))) ∧ ((¬ mF M1 23 = (2 : Int32)) → (w_X11_faults (fun M6 => w_X11_number_54 Q M6) ((1 : Int32)) M1)))) ∧ ((r2 = 0) → (Q ((0 : Int32)) M1))) M
theorem pd_X11_number : (parseMethodDescriptor yX11_number.desc).map (fun d => d.parameters.length) = some 2 := by decide +kernel
set_option maxHeartbeats 4000000 in
theorem ct_X11_number {l : Launch} {D : va_G} {T : Nat → ClassId} {Z : Heap} {b0 z0 : Nat} {M0 : MS} {Q : Int32 → MS → Prop} {p0 : Int32} {p1 : Int32} (hw : w_X11_number Q p0 p1 M0) : CT (twd D T Z) (Evd D T Z) l yX11_number (Cond.code yX11_number cX11_number 4 (some .int)) 2 42 [va_rf (some b0), .int p0, .int p1] (mG b0 z0 M0) (mq b0 z0 (qI Q)) (fun _ _ => False) := by
  refine CT.ofW (cc := cX11_number) (nL := 4) (ret := (some .int)) Ext.rf (by decide) (Or.inl rfl) ?_
  intro p e s m below meth c hx hb hml hown hr hlk hnm hcb hm hc hn hE I
  have C : Cx p s m meth c D T Z "EndingTownModel" cX11_number 4 (some .int) := ⟨hx, hb, hml, hown, hE, hr, hlk⟩
  refine w_entry [.inr (.inl (some b0)), .inl p0, .inl p1] (Nat.le_of_ble_eq_true rfl) (fun ls hl => ?_)
  have hl : LH ls 4 [(0, .inr (.inl (some b0))), (1, .inl p0), (2, .inl p1)] := hl
  have h := hw
  refine l_ald_n (x := some b0) C dX11_number_0 hl 0 rfl rfl ?_
  refine k_call Ext.tr C I (k_V (r := some b0) (As := []) (rest := []) (y := yX11_isGood) C (f_recv C I) q1625 q1627 qs51 (Or.inl rfl) q1628 (by decide) rfl pd_X11_isGood rfl dX11_number_1) (ct_X11_isGood h) hl.1 dX11_number_1 [] rfl (Nat.le_of_ble_eq_true rfl) (Or.inl rfl) q1628 q113 ⟨Nat.le_of_ble_eq_true rfl, Nat.le_of_ble_eq_true rfl⟩ (fun v x1 H locs cells slots ex hq I => ?_) (fun a x1 H locs cells slots ex hq I => hq.elim)
  obtain ⟨M1, rfl, r2, rfl, h⟩ := hq
  refine lv_if_ne (tgt := 9) C.1 C.2.1 dX11_number_4 (by decide) (fun c9 => ?_) (fun c9 => ?_)
  · have h := h.1 c9
    refine l_ald_n (x := some b0) C dX11_number_9 hl 0 rfl rfl ?_
    refine f_I C I (fl_X11_152) (by decide) dX11_number_10 ?_
    refine lv_iconst (v := 2) C.1 C.2.1 dX11_number_13 (by decide) ?_
    refine lv_icmp_eq (tgt := 25) C.1 C.2.1 dX11_number_14 (by decide) (fun c8 => ?_) (fun c8 => ?_)
    · have h := h.1 c8
      refine l_ald_n (x := some b0) C dX11_number_25 hl 0 rfl rfl ?_
      refine f_I C I (fl_X11_162) (by decide) dX11_number_26 ?_
      refine lv_iconst (v := 3) C.1 C.2.1 dX11_number_29 (by decide) ?_
      refine lv_icmp_gt (tgt := 49) C.1 C.2.1 dX11_number_30 (by decide) (fun c5 => ?_) (fun c5 => ?_)
      · have h := h.1 c5
        exact b_X11_number_49 C M1 _ _ _ _ _ h I (hl.sub [0] rfl)
      · have h := h.2 c5
        refine l_ald_n (x := some b0) C dX11_number_33 hl 0 rfl rfl ?_
        refine f_I C I (fl_X11_149) (by decide) dX11_number_34 ?_
        refine l_ild_n C dX11_number_37 hl 1 rfl rfl ?_
        refine lv_icmp_lt (tgt := 49) C.1 C.2.1 dX11_number_38 (by decide) (fun c4 => ?_) (fun c4 => ?_)
        · have h := h.1 c4
          exact b_X11_number_49 C M1 _ _ _ _ _ h I (hl.sub [0] rfl)
        · have h := h.2 c4
          refine l_ald_n (x := some b0) C dX11_number_41 hl 0 rfl rfl ?_
          refine f_I C I (fl_X11_149) (by decide) dX11_number_42 ?_
          refine l_ild_n C dX11_number_45 hl 2 rfl rfl ?_
          refine lv_icmp_le (tgt := 54) C.1 C.2.1 dX11_number_46 (by decide) (fun c3 => ?_) (fun c3 => ?_)
          · have h := h.1 c3
            exact b_X11_number_54 C M1 _ _ _ _ _ h I (hl.sub [0] rfl)
          · have h := h.2 c3
            exact b_X11_number_49 C M1 _ _ _ _ _ h I (hl.sub [0] rfl)
    · have h := h.2 c8
      refine l_ald_n (x := some b0) C dX11_number_17 hl 0 rfl rfl ?_
      refine lv_iconst (v := 1) C.1 C.2.1 dX11_number_18 (by decide) ?_
      refine k_call Ext.tr C I (k_V (r := some b0) (As := [.int ((1 : Int32))]) (rest := []) (y := yX11_faults) C (f_recv C I) q1643 q1645 qs54 (Or.inl rfl) q1646 (by decide) rfl pd_X11_faults rfl dX11_number_19) (ct_X11_faults h) hl.1 dX11_number_19 [] rfl (Nat.le_of_ble_eq_true rfl) (Or.inl rfl) q1646 q113 ⟨Nat.le_of_ble_eq_true rfl, Nat.le_of_ble_eq_true rfl⟩ (fun v x1 H locs cells slots ex hq I => ?_) (fun a x1 H locs cells slots ex hq I => hq.elim)
      obtain ⟨M6, rfl, rfl, h⟩ := hq
      refine lv_goto (tgt := 54) C.1 C.2.1 dX11_number_22 (by decide) ?_
      exact b_X11_number_54 C M6 _ _ _ _ _ h I (hl.sub [0] rfl)
  · have h := h.2 c9
    refine lv_iconst (v := 0) C.1 C.2.1 dX11_number_7 (by decide) ?_
    exact r_int C.1 C.2.1 C.2.2.2.2.2.1 rfl C.2.2.2.2.2.2 ⟨rfl, rfl⟩ I dX11_number_8 ⟨_, rfl, _, rfl, h⟩
def w_X11_amongHere_54 (Q : Int32 → MS → Prop) (M : MS) : Prop := w_X11_isGood (fun r2 M1 => bz r2 ∧ Q r2 M1) M
set_option maxHeartbeats 4000000 in
theorem b_X11_amongHere_54 {b0 z0 : Nat} {M0 : MS} {Q : Int32 → MS → Prop} (C : Cx p s m meth c D T Z "EndingTownModel" cX11_amongHere 2 (some .boolean)) : ∀ (M : MS) (H : Heap) (locs : List Loc) (cells slots : Nat) (ls : Array Slot), w_X11_amongHere_54 Q M → HI (twd D T Z) (mG b0 z0 M0) s (rmX (twd D T Z) 1 21 (mG b0 z0 M0)) H locs cells slots (mG b0 z0 M) → LH ls 2 [(0, .inr (.inl (some b0)))] → W p l e (rmX (twd D T Z) 1 21 (mG b0 z0 M0)) s m args below meth c H locs cells slots (MQX (twd D T Z) (mG b0 z0 M0) (mq b0 z0 (qI Q)) (fun _ _ => False) below s) (F0 m 54 ls []) := by
  intro M H locs cells slots ls h I hl
  refine l_ald_n (x := some b0) C dX11_amongHere_54 hl 0 rfl rfl ?_
  refine k_call Ext.tr C I (k_V (r := some b0) (As := []) (rest := []) (y := yX11_isGood) C (f_recv C I) q1625 q1627 qs51 (Or.inl rfl) q1628 (by decide) rfl pd_X11_isGood rfl dX11_amongHere_55) (ct_X11_isGood h) hl.1 dX11_amongHere_55 [] rfl (Nat.le_of_ble_eq_true rfl) (Or.inl rfl) q1628 q113 ⟨Nat.le_of_ble_eq_true rfl, Nat.le_of_ble_eq_true rfl⟩ (fun v x1 H locs cells slots ex hq I => ?_) (fun a x1 H locs cells slots ex hq I => hq.elim)
  obtain ⟨M1, rfl, r2, rfl, h⟩ := hq
  exact r_int C.1 C.2.1 C.2.2.2.2.2.1 h.1.n C.2.2.2.2.2.2 ⟨rfl, rfl⟩ I dX11_amongHere_58 ⟨_, rfl, _, rfl, h.2⟩
def w_X11_amongHere (Q : Int32 → MS → Prop) (p0 : Int32) (M : MS) : Prop := w_X11_isGood (fun r2 M1 => ((¬ r2 = 0) → (((mF M1 23 = (2 : Int32)) → (((mF M1 25 ≤ (3 : Int32)) → (((mF M1 26 < p0) → (w_X11_amongHere_54 Q M1)) ∧ ((¬ mF M1 26 < p0) → (w_X11_faults (fun M3 => w_X11_amongHere_54 Q M3) ((3 : Int32)) M1)))) ∧ ((¬ mF M1 25 ≤ (3 : Int32)) → (w_X11_faults (fun M6 => w_X11_amongHere_54 Q M6) ((2 : Int32)) M1)))) ∧ ((¬ mF M1 23 = (2 : Int32)) → (w_X11_faults (fun M9 => w_X11_amongHere_54 Q M9) ((1 : Int32)) M1)))) ∧ ((r2 = 0) → (Q (0 : Int32) M1))) M
theorem pd_X11_amongHere : (parseMethodDescriptor yX11_amongHere.desc).map (fun d => d.parameters.length) = some 1 := by decide +kernel
set_option maxHeartbeats 4000000 in
theorem ct_X11_amongHere {l : Launch} {D : va_G} {T : Nat → ClassId} {Z : Heap} {b0 z0 : Nat} {M0 : MS} {Q : Int32 → MS → Prop} {p0 : Int32} (hw : w_X11_amongHere Q p0 M0) : CT (twd D T Z) (Evd D T Z) l yX11_amongHere (Cond.code yX11_amongHere cX11_amongHere 2 (some .boolean)) 1 21 [va_rf (some b0), .int p0] (mG b0 z0 M0) (mq b0 z0 (qI Q)) (fun _ _ => False) := by
  refine CT.ofW (cc := cX11_amongHere) (nL := 2) (ret := (some .boolean)) Ext.rf (by decide) (Or.inl rfl) ?_
  intro p e s m below meth c hx hb hml hown hr hlk hnm hcb hm hc hn hE I
  have C : Cx p s m meth c D T Z "EndingTownModel" cX11_amongHere 2 (some .boolean) := ⟨hx, hb, hml, hown, hE, hr, hlk⟩
  refine w_entry [.inr (.inl (some b0)), .inl p0] (Nat.le_of_ble_eq_true rfl) (fun ls hl => ?_)
  have hl : LH ls 2 [(0, .inr (.inl (some b0))), (1, .inl p0)] := hl
  have h := hw
  refine l_ald_n (x := some b0) C dX11_amongHere_0 hl 0 rfl rfl ?_
  refine k_call Ext.tr C I (k_V (r := some b0) (As := []) (rest := []) (y := yX11_isGood) C (f_recv C I) q1625 q1627 qs51 (Or.inl rfl) q1628 (by decide) rfl pd_X11_isGood rfl dX11_amongHere_1) (ct_X11_isGood h) hl.1 dX11_amongHere_1 [] rfl (Nat.le_of_ble_eq_true rfl) (Or.inl rfl) q1628 q113 ⟨Nat.le_of_ble_eq_true rfl, Nat.le_of_ble_eq_true rfl⟩ (fun v x1 H locs cells slots ex hq I => ?_) (fun a x1 H locs cells slots ex hq I => hq.elim)
  obtain ⟨M1, rfl, r2, rfl, h⟩ := hq
  refine lv_if_ne (tgt := 9) C.1 C.2.1 dX11_amongHere_4 (by decide) (fun c12 => ?_) (fun c12 => ?_)
  · have h := h.1 c12
    refine l_ald_n (x := some b0) C dX11_amongHere_9 hl 0 rfl rfl ?_
    refine f_I C I (fl_X11_152) (by decide) dX11_amongHere_10 ?_
    refine lv_iconst (v := 2) C.1 C.2.1 dX11_amongHere_13 (by decide) ?_
    refine lv_icmp_eq (tgt := 25) C.1 C.2.1 dX11_amongHere_14 (by decide) (fun c11 => ?_) (fun c11 => ?_)
    · have h := h.1 c11
      refine l_ald_n (x := some b0) C dX11_amongHere_25 hl 0 rfl rfl ?_
      refine f_I C I (fl_X11_162) (by decide) dX11_amongHere_26 ?_
      refine lv_iconst (v := 3) C.1 C.2.1 dX11_amongHere_29 (by decide) ?_
      refine lv_icmp_le (tgt := 41) C.1 C.2.1 dX11_amongHere_30 (by decide) (fun c8 => ?_) (fun c8 => ?_)
      · have h := h.1 c8
        refine l_ald_n (x := some b0) C dX11_amongHere_41 hl 0 rfl rfl ?_
        refine f_I C I (fl_X11_149) (by decide) dX11_amongHere_42 ?_
        refine l_ild_n C dX11_amongHere_45 hl 1 rfl rfl ?_
        refine lv_icmp_lt (tgt := 54) C.1 C.2.1 dX11_amongHere_46 (by decide) (fun c5 => ?_) (fun c5 => ?_)
        · have h := h.1 c5
          exact b_X11_amongHere_54 C M1 _ _ _ _ _ h I (hl.sub [0] rfl)
        · have h := h.2 c5
          refine l_ald_n (x := some b0) C dX11_amongHere_49 hl 0 rfl rfl ?_
          refine lv_iconst (v := 3) C.1 C.2.1 dX11_amongHere_50 (by decide) ?_
          refine k_call Ext.tr C I (k_V (r := some b0) (As := [.int ((3 : Int32))]) (rest := []) (y := yX11_faults) C (f_recv C I) q1643 q1645 qs54 (Or.inl rfl) q1646 (by decide) rfl pd_X11_faults rfl dX11_amongHere_51) (ct_X11_faults h) hl.1 dX11_amongHere_51 [] rfl (Nat.le_of_ble_eq_true rfl) (Or.inl rfl) q1646 q113 ⟨Nat.le_of_ble_eq_true rfl, Nat.le_of_ble_eq_true rfl⟩ (fun v x1 H locs cells slots ex hq I => ?_) (fun a x1 H locs cells slots ex hq I => hq.elim)
          obtain ⟨M3, rfl, rfl, h⟩ := hq
          exact b_X11_amongHere_54 C M3 _ _ _ _ _ h I (hl.sub [0] rfl)
      · have h := h.2 c8
        refine l_ald_n (x := some b0) C dX11_amongHere_33 hl 0 rfl rfl ?_
        refine lv_iconst (v := 2) C.1 C.2.1 dX11_amongHere_34 (by decide) ?_
        refine k_call Ext.tr C I (k_V (r := some b0) (As := [.int ((2 : Int32))]) (rest := []) (y := yX11_faults) C (f_recv C I) q1643 q1645 qs54 (Or.inl rfl) q1646 (by decide) rfl pd_X11_faults rfl dX11_amongHere_35) (ct_X11_faults h) hl.1 dX11_amongHere_35 [] rfl (Nat.le_of_ble_eq_true rfl) (Or.inl rfl) q1646 q113 ⟨Nat.le_of_ble_eq_true rfl, Nat.le_of_ble_eq_true rfl⟩ (fun v x1 H locs cells slots ex hq I => ?_) (fun a x1 H locs cells slots ex hq I => hq.elim)
        obtain ⟨M6, rfl, rfl, h⟩ := hq
        refine lv_goto (tgt := 54) C.1 C.2.1 dX11_amongHere_38 (by decide) ?_
        exact b_X11_amongHere_54 C M6 _ _ _ _ _ h I (hl.sub [0] rfl)
    · have h := h.2 c11
      refine l_ald_n (x := some b0) C dX11_amongHere_17 hl 0 rfl rfl ?_
      refine lv_iconst (v := 1) C.1 C.2.1 dX11_amongHere_18 (by decide) ?_
      refine k_call Ext.tr C I (k_V (r := some b0) (As := [.int ((1 : Int32))]) (rest := []) (y := yX11_faults) C (f_recv C I) q1643 q1645 qs54 (Or.inl rfl) q1646 (by decide) rfl pd_X11_faults rfl dX11_amongHere_19) (ct_X11_faults h) hl.1 dX11_amongHere_19 [] rfl (Nat.le_of_ble_eq_true rfl) (Or.inl rfl) q1646 q113 ⟨Nat.le_of_ble_eq_true rfl, Nat.le_of_ble_eq_true rfl⟩ (fun v x1 H locs cells slots ex hq I => ?_) (fun a x1 H locs cells slots ex hq I => hq.elim)
      obtain ⟨M9, rfl, rfl, h⟩ := hq
      refine lv_goto (tgt := 54) C.1 C.2.1 dX11_amongHere_22 (by decide) ?_
      exact b_X11_amongHere_54 C M9 _ _ _ _ _ h I (hl.sub [0] rfl)
  · have h := h.2 c12
    refine lv_iconst (v := 0) C.1 C.2.1 dX11_amongHere_7 (by decide) ?_
    exact r_int C.1 C.2.1 C.2.2.2.2.2.1 rfl C.2.2.2.2.2.2 ⟨rfl, rfl⟩ I dX11_amongHere_8 ⟨_, rfl, _, rfl, h⟩
def w_X11_among_28 (Q : Int32 → MS → Prop) (l2 : Int32) (M : MS) : Prop := Q l2 M
set_option maxHeartbeats 4000000 in
theorem b_X11_among_28 {b0 z0 : Nat} {M0 : MS} {Q : Int32 → MS → Prop} (C : Cx p s m meth c D T Z "EndingTownModel" cX11_among 3 (some .int)) : ∀ (l2 : Int32) (M : MS) (H : Heap) (locs : List Loc) (cells slots : Nat) (ls : Array Slot), w_X11_among_28 Q l2 M → HI (twd D T Z) (mG b0 z0 M0) s (rmX (twd D T Z) 2 42 (mG b0 z0 M0)) H locs cells slots (mG b0 z0 M) → LH ls 3 [(2, .inl l2)] → W p l e (rmX (twd D T Z) 2 42 (mG b0 z0 M0)) s m args below meth c H locs cells slots (MQX (twd D T Z) (mG b0 z0 M0) (mq b0 z0 (qI Q)) (fun _ _ => False) below s) (F0 m 28 ls []) := by
  intro l2 M H locs cells slots ls h I hl
  refine l_ild_n C dX11_among_28 hl 0 rfl rfl ?_
  exact r_int C.1 C.2.1 C.2.2.2.2.2.1 rfl C.2.2.2.2.2.2 ⟨rfl, rfl⟩ I dX11_among_29 ⟨_, rfl, _, rfl, h⟩
def w_X11_among_16 (Q : Int32 → MS → Prop) (t0 : Int32) (M : MS) : Prop := w_X11_isGood (fun r2 M1 => ((r2 = 0) → (w_X11_among_28 Q t0 M1)) ∧ ((¬ r2 = 0) → (w_X11_steps (fun M3 => w_X11_among_28 Q t0 M3) M1))) M
set_option maxHeartbeats 4000000 in
theorem b_X11_among_16 {b0 z0 : Nat} {M0 : MS} {Q : Int32 → MS → Prop} (C : Cx p s m meth c D T Z "EndingTownModel" cX11_among 3 (some .int)) : ∀ (t0 : Int32) (M : MS) (H : Heap) (locs : List Loc) (cells slots : Nat) (ls : Array Slot), w_X11_among_16 Q t0 M → HI (twd D T Z) (mG b0 z0 M0) s (rmX (twd D T Z) 2 42 (mG b0 z0 M0)) H locs cells slots (mG b0 z0 M) → LH ls 3 [(0, .inr (.inl (some b0)))] → W p l e (rmX (twd D T Z) 2 42 (mG b0 z0 M0)) s m args below meth c H locs cells slots (MQX (twd D T Z) (mG b0 z0 M0) (mq b0 z0 (qI Q)) (fun _ _ => False) below s) (F0 m 16 ls [.int t0]) := by
  intro t0 M H locs cells slots ls h I hl
  refine l_ist_n C dX11_among_16 rfl hl (by decide) rfl (fun ls hl => ?_)
  have hl : LH ls 3 [(2, .inl t0), (0, .inr (.inl (some b0)))] := hl
  refine l_ald_n (x := some b0) C dX11_among_17 hl 1 rfl rfl ?_
  refine k_call Ext.tr C I (k_V (r := some b0) (As := []) (rest := []) (y := yX11_isGood) C (f_recv C I) q1625 q1627 qs51 (Or.inl rfl) q1628 (by decide) rfl pd_X11_isGood rfl dX11_among_18) (ct_X11_isGood h) hl.1 dX11_among_18 [] rfl (Nat.le_of_ble_eq_true rfl) (Or.inl rfl) q1628 q113 ⟨Nat.le_of_ble_eq_true rfl, Nat.le_of_ble_eq_true rfl⟩ (fun v x1 H locs cells slots ex hq I => ?_) (fun a x1 H locs cells slots ex hq I => hq.elim)
  obtain ⟨M1, rfl, r2, rfl, h⟩ := hq
  refine lv_if_eq (tgt := 28) C.1 C.2.1 dX11_among_21 (by decide) (fun c5 => ?_) (fun c5 => ?_)
  · have h := h.1 c5
    exact b_X11_among_28 C t0 M1 _ _ _ _ _ h I (hl.sub [0] rfl)
  · have h := h.2 c5
    refine l_ald_n (x := some b0) C dX11_among_24 hl 1 rfl rfl ?_
    refine k_call Ext.tr C I (k_V (r := some b0) (As := []) (rest := []) (y := yX11_steps) C (f_recv C I) q1611 q1613 qs49 (Or.inl rfl) q1614 (by decide) rfl pd_X11_steps rfl dX11_among_25) (ct_X11_steps h) hl.1 dX11_among_25 [] rfl (Nat.le_of_ble_eq_true rfl) (Or.inl rfl) q1614 q113 ⟨Nat.le_of_ble_eq_true rfl, Nat.le_of_ble_eq_true rfl⟩ (fun v x1 H locs cells slots ex hq I => ?_) (fun a x1 H locs cells slots ex hq I => hq.elim)
    obtain ⟨M3, rfl, rfl, h⟩ := hq
    exact b_X11_among_28 C t0 M3 _ _ _ _ _ h I (hl.sub [0] rfl)
def w_X11_among (Q : Int32 → MS → Prop) (p0 : Int32) (M : MS) : Prop := w_X11_amongHere (fun r2 M1 => ((r2 = 0) → (w_X11_among_16 Q ((0 : Int32)) M1)) ∧ ((¬ r2 = 0) → (w_X11_among_16 Q (mF M1 26) M1))) p0 M
theorem pd_X11_among : (parseMethodDescriptor yX11_among.desc).map (fun d => d.parameters.length) = some 1 := by decide +kernel
set_option maxHeartbeats 4000000 in
theorem ct_X11_among {l : Launch} {D : va_G} {T : Nat → ClassId} {Z : Heap} {b0 z0 : Nat} {M0 : MS} {Q : Int32 → MS → Prop} {p0 : Int32} (hw : w_X11_among Q p0 M0) : CT (twd D T Z) (Evd D T Z) l yX11_among (Cond.code yX11_among cX11_among 3 (some .int)) 2 42 [va_rf (some b0), .int p0] (mG b0 z0 M0) (mq b0 z0 (qI Q)) (fun _ _ => False) := by
  refine CT.ofW (cc := cX11_among) (nL := 3) (ret := (some .int)) Ext.rf (by decide) (Or.inl rfl) ?_
  intro p e s m below meth c hx hb hml hown hr hlk hnm hcb hm hc hn hE I
  have C : Cx p s m meth c D T Z "EndingTownModel" cX11_among 3 (some .int) := ⟨hx, hb, hml, hown, hE, hr, hlk⟩
  refine w_entry [.inr (.inl (some b0)), .inl p0] (Nat.le_of_ble_eq_true rfl) (fun ls hl => ?_)
  have hl : LH ls 3 [(0, .inr (.inl (some b0))), (1, .inl p0)] := hl
  have h := hw
  refine l_ald_n (x := some b0) C dX11_among_0 hl 0 rfl rfl ?_
  refine l_ild_n C dX11_among_1 hl 1 rfl rfl ?_
  refine k_call Ext.tr C I (k_V (r := some b0) (As := [.int p0]) (rest := []) (y := yX11_amongHere) C (f_recv C I) q1667 q1669 qs60 (Or.inl rfl) q1670 (by decide) rfl pd_X11_amongHere rfl dX11_among_2) (ct_X11_amongHere h) hl.1 dX11_among_2 [] rfl (Nat.le_of_ble_eq_true rfl) (Or.inl rfl) q1670 q113 ⟨Nat.le_of_ble_eq_true rfl, Nat.le_of_ble_eq_true rfl⟩ (fun v x1 H locs cells slots ex hq I => ?_) (fun a x1 H locs cells slots ex hq I => hq.elim)
  obtain ⟨M1, rfl, r2, rfl, h⟩ := hq
  refine lv_if_eq (tgt := 15) C.1 C.2.1 dX11_among_5 (by decide) (fun c3 => ?_) (fun c3 => ?_)
  · have h := h.1 c3
    refine lv_iconst (v := 0) C.1 C.2.1 dX11_among_15 (by decide) ?_
    exact b_X11_among_16 C ((0 : Int32)) M1 _ _ _ _ _ h I (hl.sub [0] rfl)
  · have h := h.2 c3
    refine l_ald_n (x := some b0) C dX11_among_8 hl 0 rfl rfl ?_
    refine f_I C I (fl_X11_149) (by decide) dX11_among_9 ?_
    refine lv_goto (tgt := 16) C.1 C.2.1 dX11_among_12 (by decide) ?_
    exact b_X11_among_16 C (mF M1 26) M1 _ _ _ _ _ h I (hl.sub [0] rfl)
def w_X11_readsAt_54 (Q : MS → Prop) (M : MS) : Prop := Q M
set_option maxHeartbeats 4000000 in
theorem b_X11_readsAt_54 {b0 z0 : Nat} {M0 : MS} {Q : MS → Prop} (C : Cx p s m meth c D T Z "EndingTownModel" cX11_readsAt 4 none) : ∀ (M : MS) (H : Heap) (locs : List Loc) (cells slots : Nat) (ls : Array Slot), w_X11_readsAt_54 Q M → HI (twd D T Z) (mG b0 z0 M0) s (rmX (twd D T Z) 3 65 (mG b0 z0 M0)) H locs cells slots (mG b0 z0 M) → LH ls 4 [] → W p l e (rmX (twd D T Z) 3 65 (mG b0 z0 M0)) s m args below meth c H locs cells slots (MQX (twd D T Z) (mG b0 z0 M0) (mq b0 z0 (qV Q)) (fun _ _ => False) below s) (F0 m 54 ls []) := by
  intro M H locs cells slots ls h I hl
  exact r_void C.1 C.2.1 C.2.2.2.2.2.1 C.2.2.2.2.2.2 ⟨rfl, rfl⟩ I dX11_readsAt_54 ⟨_, rfl, rfl, h⟩
def w_X11_readsAt (Q : MS → Prop) (M : MS) : Prop := ∀ M1 : MS, M1 = sF M 36 ((1 : Int32)) → w_X11_steps (fun M2 => w_X11_among (fun r5 M4 => w_X11_number (fun r7 M6 => w_X11_among (fun r9 M8 => w_X11_isGood (fun r11 M10 => ((r11 = 0) → (w_X11_readsAt_54 Q M10)) ∧ ((¬ r11 = 0) → (vp_in ((((24 : Int32) * r5) + r7)) (mlen 44) ∧ ∀ M12 : MS, M12 = sA M10 44 ((((24 : Int32) * r5) + r7)).toNatClampNeg r9 → w_X11_readsAt_54 Q M12))) M8) (mF M6 30) M6) ((0 : Int32)) ((23 : Int32)) M4) (mF M2 31) M2) M1
theorem pd_X11_readsAt : (parseMethodDescriptor yX11_readsAt.desc).map (fun d => d.parameters.length) = some 0 := by decide +kernel
set_option maxHeartbeats 4000000 in
theorem ct_X11_readsAt {l : Launch} {D : va_G} {T : Nat → ClassId} {Z : Heap} {b0 z0 : Nat} {M0 : MS} {Q : MS → Prop} (hw : w_X11_readsAt Q M0) : CT (twd D T Z) (Evd D T Z) l yX11_readsAt (Cond.code yX11_readsAt cX11_readsAt 4 none) 3 65 [va_rf (some b0)] (mG b0 z0 M0) (mq b0 z0 (qV Q)) (fun _ _ => False) := by
  refine CT.ofW (cc := cX11_readsAt) (nL := 4) (ret := none) Ext.rf (by decide) (Or.inl rfl) ?_
  intro p e s m below meth c hx hb hml hown hr hlk hnm hcb hm hc hn hE I
  have C : Cx p s m meth c D T Z "EndingTownModel" cX11_readsAt 4 none := ⟨hx, hb, hml, hown, hE, hr, hlk⟩
  refine w_entry [.inr (.inl (some b0))] (Nat.le_of_ble_eq_true rfl) (fun ls hl => ?_)
  have hl : LH ls 4 [(0, .inr (.inl (some b0)))] := hl
  have h := hw
  refine l_ald_n (x := some b0) C dX11_readsAt_0 hl 0 rfl rfl ?_
  refine lv_iconst (v := 1) C.1 C.2.1 dX11_readsAt_1 (by decide) ?_
  refine f_PI C I (fp_X11_197) (by decide) dX11_readsAt_2 (fit_z bz1) (fun H locs M1 eM1 I => ?_)
  have h := h M1 eM1
  refine l_ald_n (x := some b0) C dX11_readsAt_5 hl 0 rfl rfl ?_
  refine k_call Ext.tr C I (k_V (r := some b0) (As := []) (rest := []) (y := yX11_steps) C (f_recv C I) q1611 q1613 qs49 (Or.inl rfl) q1614 (by decide) rfl pd_X11_steps rfl dX11_readsAt_6) (ct_X11_steps h) hl.1 dX11_readsAt_6 [] rfl (Nat.le_of_ble_eq_true rfl) (Or.inl rfl) q1614 q113 ⟨Nat.le_of_ble_eq_true rfl, Nat.le_of_ble_eq_true rfl⟩ (fun v x1 H locs cells slots ex hq I => ?_) (fun a x1 H locs cells slots ex hq I => hq.elim)
  obtain ⟨M2, rfl, rfl, h⟩ := hq
  refine l_ald_n (x := some b0) C dX11_readsAt_9 hl 0 rfl rfl ?_
  refine l_ald_n (x := some b0) C dX11_readsAt_10 hl 0 rfl rfl ?_
  refine f_I C I (fl_X11_219) (by decide) dX11_readsAt_11 ?_
  refine k_call Ext.tr C I (k_V (r := some b0) (As := [.int (mF M2 31)]) (rest := []) (y := yX11_among) C (f_recv C I) q1663 q1665 qs59 (Or.inl rfl) q1666 (by decide) rfl pd_X11_among rfl dX11_readsAt_14) (ct_X11_among h) hl.1 dX11_readsAt_14 [] rfl (Nat.le_of_ble_eq_true rfl) (Or.inl rfl) q1666 q113 ⟨Nat.le_of_ble_eq_true rfl, Nat.le_of_ble_eq_true rfl⟩ (fun v x1 H locs cells slots ex hq I => ?_) (fun a x1 H locs cells slots ex hq I => hq.elim)
  obtain ⟨M4, rfl, r5, rfl, h⟩ := hq
  refine l_ist_n C dX11_readsAt_17 rfl hl (by decide) rfl (fun ls hl => ?_)
  have hl : LH ls 4 [(1, .inl r5), (0, .inr (.inl (some b0)))] := hl
  refine l_ald_n (x := some b0) C dX11_readsAt_18 hl 1 rfl rfl ?_
  refine lv_iconst (v := 0) C.1 C.2.1 dX11_readsAt_19 (by decide) ?_
  refine lv_bipush (v := 23) C.1 C.2.1 dX11_readsAt_20 (by decide) ?_
  refine k_call Ext.tr C I (k_V (r := some b0) (As := [.int ((0 : Int32)), .int ((23 : Int32))]) (rest := []) (y := yX11_number) C (f_recv C I) q1655 q1657 qs57 (Or.inl rfl) q1658 (by decide) rfl pd_X11_number rfl dX11_readsAt_22) (ct_X11_number h) hl.1 dX11_readsAt_22 [] rfl (Nat.le_of_ble_eq_true rfl) (Or.inl rfl) q1658 q113 ⟨Nat.le_of_ble_eq_true rfl, Nat.le_of_ble_eq_true rfl⟩ (fun v x1 H locs cells slots ex hq I => ?_) (fun a x1 H locs cells slots ex hq I => hq.elim)
  obtain ⟨M6, rfl, r7, rfl, h⟩ := hq
  refine l_ist_n C dX11_readsAt_25 rfl hl (by decide) rfl (fun ls hl => ?_)
  have hl : LH ls 4 [(2, .inl r7), (1, .inl r5), (0, .inr (.inl (some b0)))] := hl
  refine l_ald_n (x := some b0) C dX11_readsAt_26 hl 2 rfl rfl ?_
  refine l_ald_n (x := some b0) C dX11_readsAt_27 hl 2 rfl rfl ?_
  refine f_I C I (fl_X11_201) (by decide) dX11_readsAt_28 ?_
  refine k_call Ext.tr C I (k_V (r := some b0) (As := [.int (mF M6 30)]) (rest := []) (y := yX11_among) C (f_recv C I) q1663 q1665 qs59 (Or.inl rfl) q1666 (by decide) rfl pd_X11_among rfl dX11_readsAt_31) (ct_X11_among h) hl.1 dX11_readsAt_31 [] rfl (Nat.le_of_ble_eq_true rfl) (Or.inl rfl) q1666 q113 ⟨Nat.le_of_ble_eq_true rfl, Nat.le_of_ble_eq_true rfl⟩ (fun v x1 H locs cells slots ex hq I => ?_) (fun a x1 H locs cells slots ex hq I => hq.elim)
  obtain ⟨M8, rfl, r9, rfl, h⟩ := hq
  refine l_ist_n C dX11_readsAt_34 rfl hl (by decide) rfl (fun ls hl => ?_)
  have hl : LH ls 4 [(3, .inl r9), (2, .inl r7), (1, .inl r5), (0, .inr (.inl (some b0)))] := hl
  refine l_ald_n (x := some b0) C dX11_readsAt_35 hl 3 rfl rfl ?_
  refine k_call Ext.tr C I (k_V (r := some b0) (As := []) (rest := []) (y := yX11_isGood) C (f_recv C I) q1625 q1627 qs51 (Or.inl rfl) q1628 (by decide) rfl pd_X11_isGood rfl dX11_readsAt_36) (ct_X11_isGood h) hl.1 dX11_readsAt_36 [] rfl (Nat.le_of_ble_eq_true rfl) (Or.inl rfl) q1628 q113 ⟨Nat.le_of_ble_eq_true rfl, Nat.le_of_ble_eq_true rfl⟩ (fun v x1 H locs cells slots ex hq I => ?_) (fun a x1 H locs cells slots ex hq I => hq.elim)
  obtain ⟨M10, rfl, r11, rfl, h⟩ := hq
  refine lv_if_eq (tgt := 54) C.1 C.2.1 dX11_readsAt_39 (by decide) (fun c13 => ?_) (fun c13 => ?_)
  · have h := h.1 c13
    exact b_X11_readsAt_54 C M10 _ _ _ _ _ h I (hl.sub [] rfl)
  · have h := h.2 c13
    refine l_ald_n (x := some b0) C dX11_readsAt_42 hl 3 rfl rfl ?_
    refine f_A C I (fl_X11_71) (by decide) (by decide) dX11_readsAt_43 ?_
    refine lv_bipush (v := 24) C.1 C.2.1 dX11_readsAt_46 (by decide) ?_
    refine l_ild_n C dX11_readsAt_48 hl 2 rfl rfl ?_
    refine lv_imul C.1 C.2.1 dX11_readsAt_49 ?_
    refine l_ild_n C dX11_readsAt_50 hl 1 rfl rfl ?_
    refine lv_iadd C.1 C.2.1 dX11_readsAt_51 ?_
    refine l_ild_n C dX11_readsAt_52 hl 0 rfl rfl ?_
    obtain ⟨hi, h⟩ := h
    refine f_st (k := 44) C I (by decide) hi dX11_readsAt_53 (fun H locs M12 eM12 I => ?_)
    have h := h M12 eM12
    exact b_X11_readsAt_54 C M12 _ _ _ _ _ h I (hl.sub [] rfl)
def w_X11_word0_55 (Q : MS → Prop) : Nat → Nat → Int32 → Int32 → MS → Prop
  | 0 => fun _ _ _ _ => False
  | f55 + 1 => fun l1 l2 l3 M => ((mF M 25 ≤ l3) → (w_X11_steps (fun M1 => Q M1) M)) ∧ ((¬ mF M 25 ≤ l3) → (w_X11_byteAt (fun r4 M3 => mlen l1 ≠ 0 ∧ vp_in (((l2 + (1 : Int32)) + l3)) (mlen l1) ∧ ∀ M5 : MS, M5 = sA M3 l1 (((l2 + (1 : Int32)) + l3)).toNatClampNeg r4 → (w_X11_word0_55 Q f55) l1 l2 ((l3 + 1)) M5) ((mF M 24 + l3)) M))
set_option maxHeartbeats 4000000 in
theorem b_X11_word0_55 {b0 z0 : Nat} {M0 : MS} {Q : MS → Prop} (C : Cx p s m meth c D T Z "EndingTownModel" cX11_word0 4 none) : ∀ (n : Nat) (l1 : Nat) (l2 : Int32) (l3 : Int32) (M : MS) (H : Heap) (locs : List Loc) (cells slots : Nat) (ls : Array Slot), w_X11_word0_55 Q n l1 l2 l3 M → HI (twd D T Z) (mG b0 z0 M0) s (rmX (twd D T Z) 2 42 (mG b0 z0 M0)) H locs cells slots (mG b0 z0 M) → LH ls 4 [(0, .inr (.inl (some b0))), (1, .inr (.inl (some (b0 + moff l1)))), (2, .inl l2), (3, .inl l3)] → W p l e (rmX (twd D T Z) 2 42 (mG b0 z0 M0)) s m args below meth c H locs cells slots (MQX (twd D T Z) (mG b0 z0 M0) (mq b0 z0 (qV Q)) (fun _ _ => False) below s) (F0 m 55 ls []) := by
  intro n
  induction n with
  | zero => intro l1 l2 l3 M H locs cells slots ls h; exact (show False from h).elim
  | succ n ih =>
    intro l1 l2 l3 M H locs cells slots ls h I hl
    have hk55 := ih
    refine l_ild_n C dX11_word0_55 hl 3 rfl rfl ?_
    refine l_ald_n (x := some b0) C dX11_word0_56 hl 0 rfl rfl ?_
    refine f_I C I (fl_X11_162) (by decide) dX11_word0_57 ?_
    refine lv_icmp_ge (tgt := 86) C.1 C.2.1 dX11_word0_60 (by decide) (fun c6 => ?_) (fun c6 => ?_)
    · have h := h.1 c6
      refine l_ald_n (x := some b0) C dX11_word0_86 hl 0 rfl rfl ?_
      refine k_call Ext.tr C I (k_V (r := some b0) (As := []) (rest := []) (y := yX11_steps) C (f_recv C I) q1611 q1613 qs49 (Or.inl rfl) q1614 (by decide) rfl pd_X11_steps rfl dX11_word0_87) (ct_X11_steps h) hl.1 dX11_word0_87 [] rfl (Nat.le_of_ble_eq_true rfl) (Or.inl rfl) q1614 q113 ⟨Nat.le_of_ble_eq_true rfl, Nat.le_of_ble_eq_true rfl⟩ (fun v x1 H locs cells slots ex hq I => ?_) (fun a x1 H locs cells slots ex hq I => hq.elim)
      obtain ⟨M1, rfl, rfl, h⟩ := hq
      exact r_void C.1 C.2.1 C.2.2.2.2.2.1 C.2.2.2.2.2.2 ⟨rfl, rfl⟩ I dX11_word0_90 ⟨_, rfl, rfl, h⟩
    · have h := h.2 c6
      refine l_ald_n (x := some (b0 + moff l1)) C dX11_word0_63 hl 1 rfl rfl ?_
      refine l_ild_n C dX11_word0_64 hl 2 rfl rfl ?_
      refine lv_iconst (v := 1) C.1 C.2.1 dX11_word0_65 (by decide) ?_
      refine lv_iadd C.1 C.2.1 dX11_word0_66 ?_
      refine l_ild_n C dX11_word0_67 hl 3 rfl rfl ?_
      refine lv_iadd C.1 C.2.1 dX11_word0_68 ?_
      refine l_ald_n (x := some b0) C dX11_word0_69 hl 0 rfl rfl ?_
      refine l_ald_n (x := some b0) C dX11_word0_70 hl 0 rfl rfl ?_
      refine f_I C I (fl_X11_142) (by decide) dX11_word0_71 ?_
      refine l_ild_n C dX11_word0_74 hl 3 rfl rfl ?_
      refine lv_iadd C.1 C.2.1 dX11_word0_75 ?_
      refine k_call Ext.tr C I (k_V (r := some b0) (As := [.int ((mF M 24 + l3))]) (rest := [.int (((l2 + (1 : Int32)) + l3)), va_rf (some (b0 + moff l1))]) (y := yX11_byteAt) C (f_recv C I) q1615 q1617 qs50 (Or.inl rfl) q1618 (by decide) rfl pd_X11_byteAt rfl dX11_word0_76) (ct_X11_byteAt h) hl.1 dX11_word0_76 [.inl (((l2 + (1 : Int32)) + l3)), .inr (.inl (some (b0 + moff l1)))] rfl (Nat.le_of_ble_eq_true rfl) (Or.inl rfl) q1618 q113 ⟨Nat.le_of_ble_eq_true rfl, Nat.le_of_ble_eq_true rfl⟩ (fun v x1 H locs cells slots ex hq I => ?_) (fun a x1 H locs cells slots ex hq I => hq.elim)
      obtain ⟨M3, rfl, r4, rfl, h⟩ := hq
      obtain ⟨hm, h⟩ := h
      obtain ⟨hi, h⟩ := h
      refine f_st (k := l1) C I hm hi dX11_word0_79 (fun H locs M5 eM5 I => ?_)
      have h := h M5 eM5
      refine l_inc (q := 3) (v := 1) C dX11_word0_80 hl rfl (by decide) (by decide) rfl (fun ls hl => ?_)
      have hl : LH ls 4 [(3, .inl ((l3 + 1))), (0, .inr (.inl (some b0))), (1, .inr (.inl (some (b0 + moff l1)))), (2, .inl l2)] := hl
      refine lv_goto (tgt := 55) C.1 C.2.1 dX11_word0_83 (by decide) ?_
      exact hk55 l1 l2 ((l3 + 1)) M5 _ _ _ _ _ h I (hl.sub [1, 2, 3, 0] rfl)
def w_X11_word0_38 (Q : MS → Prop) (l1 : Nat) (l2 : Int32) (M : MS) : Prop := w_X11_isGood (fun r2 M1 => ((¬ r2 = 0) → (mlen l1 ≠ 0 ∧ vp_in l2 (mlen l1) ∧ ∀ M3 : MS, M3 = sA M1 l1 l2.toNatClampNeg (mF M1 25) → ∃ n, w_X11_word0_55 Q n l1 l2 ((0 : Int32)) M3)) ∧ ((r2 = 0) → (Q M1))) M
set_option maxHeartbeats 4000000 in
theorem b_X11_word0_38 {b0 z0 : Nat} {M0 : MS} {Q : MS → Prop} (C : Cx p s m meth c D T Z "EndingTownModel" cX11_word0 4 none) : ∀ (l1 : Nat) (l2 : Int32) (M : MS) (H : Heap) (locs : List Loc) (cells slots : Nat) (ls : Array Slot), w_X11_word0_38 Q l1 l2 M → HI (twd D T Z) (mG b0 z0 M0) s (rmX (twd D T Z) 2 42 (mG b0 z0 M0)) H locs cells slots (mG b0 z0 M) → LH ls 4 [(0, .inr (.inl (some b0))), (1, .inr (.inl (some (b0 + moff l1)))), (2, .inl l2)] → W p l e (rmX (twd D T Z) 2 42 (mG b0 z0 M0)) s m args below meth c H locs cells slots (MQX (twd D T Z) (mG b0 z0 M0) (mq b0 z0 (qV Q)) (fun _ _ => False) below s) (F0 m 38 ls []) := by
  intro l1 l2 M H locs cells slots ls h I hl
  refine l_ald_n (x := some b0) C dX11_word0_38 hl 0 rfl rfl ?_
  refine k_call Ext.tr C I (k_V (r := some b0) (As := []) (rest := []) (y := yX11_isGood) C (f_recv C I) q1625 q1627 qs51 (Or.inl rfl) q1628 (by decide) rfl pd_X11_isGood rfl dX11_word0_39) (ct_X11_isGood h) hl.1 dX11_word0_39 [] rfl (Nat.le_of_ble_eq_true rfl) (Or.inl rfl) q1628 q113 ⟨Nat.le_of_ble_eq_true rfl, Nat.le_of_ble_eq_true rfl⟩ (fun v x1 H locs cells slots ex hq I => ?_) (fun a x1 H locs cells slots ex hq I => hq.elim)
  obtain ⟨M1, rfl, r2, rfl, h⟩ := hq
  refine lv_if_ne (tgt := 46) C.1 C.2.1 dX11_word0_42 (by decide) (fun c4 => ?_) (fun c4 => ?_)
  · have h := h.1 c4
    refine l_ald_n (x := some (b0 + moff l1)) C dX11_word0_46 hl 1 rfl rfl ?_
    refine l_ild_n C dX11_word0_47 hl 2 rfl rfl ?_
    refine l_ald_n (x := some b0) C dX11_word0_48 hl 0 rfl rfl ?_
    refine f_I C I (fl_X11_162) (by decide) dX11_word0_49 ?_
    obtain ⟨hm, h⟩ := h
    obtain ⟨hi, h⟩ := h
    refine f_st (k := l1) C I hm hi dX11_word0_52 (fun H locs M3 eM3 I => ?_)
    have h := h M3 eM3
    refine lv_iconst (v := 0) C.1 C.2.1 dX11_word0_53 (by decide) ?_
    refine l_ist_n C dX11_word0_54 rfl hl (by decide) rfl (fun ls hl => ?_)
    have hl : LH ls 4 [(3, .inl ((0 : Int32))), (0, .inr (.inl (some b0))), (1, .inr (.inl (some (b0 + moff l1)))), (2, .inl l2)] := hl
    obtain ⟨n, h⟩ := h
    exact b_X11_word0_55 C n l1 l2 ((0 : Int32)) M3 _ _ _ _ _ h I (hl.sub [1, 2, 3, 0] rfl)
  · have h := h.2 c4
    exact r_void C.1 C.2.1 C.2.2.2.2.2.1 C.2.2.2.2.2.2 ⟨rfl, rfl⟩ I dX11_word0_45 ⟨_, rfl, rfl, h⟩
def w_X11_word0 (Q : MS → Prop) (p0 : Nat) (p1 : Int32) (M : MS) : Prop := w_X11_isGood (fun r2 M1 => ((¬ r2 = 0) → (((mF M1 23 = (1 : Int32)) → (((mF M1 25 ≤ (8 : Int32)) → (w_X11_word0_38 Q p0 p1 M1)) ∧ ((¬ mF M1 25 ≤ (8 : Int32)) → (w_X11_faults (fun M3 => w_X11_word0_38 Q p0 p1 M3) ((2 : Int32)) M1)))) ∧ ((¬ mF M1 23 = (1 : Int32)) → (w_X11_faults (fun M6 => w_X11_word0_38 Q p0 p1 M6) ((1 : Int32)) M1)))) ∧ ((r2 = 0) → (Q M1))) M
theorem pd_X11_word0 : (parseMethodDescriptor yX11_word0.desc).map (fun d => d.parameters.length) = some 2 := by decide +kernel
set_option maxHeartbeats 4000000 in
theorem ct_X11_word0 {l : Launch} {D : va_G} {T : Nat → ClassId} {Z : Heap} {b0 z0 : Nat} {M0 : MS} {Q : MS → Prop} {p0 : Nat} {p1 : Int32} (hw : w_X11_word0 Q p0 p1 M0) : CT (twd D T Z) (Evd D T Z) l yX11_word0 (Cond.code yX11_word0 cX11_word0 4 none) 2 42 [va_rf (some b0), va_rf (some (b0 + moff p0)), .int p1] (mG b0 z0 M0) (mq b0 z0 (qV Q)) (fun _ _ => False) := by
  refine CT.ofW (cc := cX11_word0) (nL := 4) (ret := none) Ext.rf (by decide) (Or.inl rfl) ?_
  intro p e s m below meth c hx hb hml hown hr hlk hnm hcb hm hc hn hE I
  have C : Cx p s m meth c D T Z "EndingTownModel" cX11_word0 4 none := ⟨hx, hb, hml, hown, hE, hr, hlk⟩
  refine w_entry [.inr (.inl (some b0)), .inr (.inl (some (b0 + moff p0))), .inl p1] (Nat.le_of_ble_eq_true rfl) (fun ls hl => ?_)
  have hl : LH ls 4 [(0, .inr (.inl (some b0))), (1, .inr (.inl (some (b0 + moff p0)))), (2, .inl p1)] := hl
  have h := hw
  refine l_ald_n (x := some b0) C dX11_word0_0 hl 0 rfl rfl ?_
  refine k_call Ext.tr C I (k_V (r := some b0) (As := []) (rest := []) (y := yX11_isGood) C (f_recv C I) q1625 q1627 qs51 (Or.inl rfl) q1628 (by decide) rfl pd_X11_isGood rfl dX11_word0_1) (ct_X11_isGood h) hl.1 dX11_word0_1 [] rfl (Nat.le_of_ble_eq_true rfl) (Or.inl rfl) q1628 q113 ⟨Nat.le_of_ble_eq_true rfl, Nat.le_of_ble_eq_true rfl⟩ (fun v x1 H locs cells slots ex hq I => ?_) (fun a x1 H locs cells slots ex hq I => hq.elim)
  obtain ⟨M1, rfl, r2, rfl, h⟩ := hq
  refine lv_if_ne (tgt := 8) C.1 C.2.1 dX11_word0_4 (by decide) (fun c9 => ?_) (fun c9 => ?_)
  · have h := h.1 c9
    refine l_ald_n (x := some b0) C dX11_word0_8 hl 0 rfl rfl ?_
    refine f_I C I (fl_X11_152) (by decide) dX11_word0_9 ?_
    refine lv_iconst (v := 1) C.1 C.2.1 dX11_word0_12 (by decide) ?_
    refine lv_icmp_eq (tgt := 24) C.1 C.2.1 dX11_word0_13 (by decide) (fun c8 => ?_) (fun c8 => ?_)
    · have h := h.1 c8
      refine l_ald_n (x := some b0) C dX11_word0_24 hl 0 rfl rfl ?_
      refine f_I C I (fl_X11_162) (by decide) dX11_word0_25 ?_
      refine lv_bipush (v := 8) C.1 C.2.1 dX11_word0_28 (by decide) ?_
      refine lv_icmp_le (tgt := 38) C.1 C.2.1 dX11_word0_30 (by decide) (fun c5 => ?_) (fun c5 => ?_)
      · have h := h.1 c5
        exact b_X11_word0_38 C p0 p1 M1 _ _ _ _ _ h I (hl.sub [0, 1, 2] rfl)
      · have h := h.2 c5
        refine l_ald_n (x := some b0) C dX11_word0_33 hl 0 rfl rfl ?_
        refine lv_iconst (v := 2) C.1 C.2.1 dX11_word0_34 (by decide) ?_
        refine k_call Ext.tr C I (k_V (r := some b0) (As := [.int ((2 : Int32))]) (rest := []) (y := yX11_faults) C (f_recv C I) q1643 q1645 qs54 (Or.inl rfl) q1646 (by decide) rfl pd_X11_faults rfl dX11_word0_35) (ct_X11_faults h) hl.1 dX11_word0_35 [] rfl (Nat.le_of_ble_eq_true rfl) (Or.inl rfl) q1646 q113 ⟨Nat.le_of_ble_eq_true rfl, Nat.le_of_ble_eq_true rfl⟩ (fun v x1 H locs cells slots ex hq I => ?_) (fun a x1 H locs cells slots ex hq I => hq.elim)
        obtain ⟨M3, rfl, rfl, h⟩ := hq
        exact b_X11_word0_38 C p0 p1 M3 _ _ _ _ _ h I (hl.sub [0, 1, 2] rfl)
    · have h := h.2 c8
      refine l_ald_n (x := some b0) C dX11_word0_16 hl 0 rfl rfl ?_
      refine lv_iconst (v := 1) C.1 C.2.1 dX11_word0_17 (by decide) ?_
      refine k_call Ext.tr C I (k_V (r := some b0) (As := [.int ((1 : Int32))]) (rest := []) (y := yX11_faults) C (f_recv C I) q1643 q1645 qs54 (Or.inl rfl) q1646 (by decide) rfl pd_X11_faults rfl dX11_word0_18) (ct_X11_faults h) hl.1 dX11_word0_18 [] rfl (Nat.le_of_ble_eq_true rfl) (Or.inl rfl) q1646 q113 ⟨Nat.le_of_ble_eq_true rfl, Nat.le_of_ble_eq_true rfl⟩ (fun v x1 H locs cells slots ex hq I => ?_) (fun a x1 H locs cells slots ex hq I => hq.elim)
      obtain ⟨M6, rfl, rfl, h⟩ := hq
      refine lv_goto (tgt := 38) C.1 C.2.1 dX11_word0_21 (by decide) ?_
      exact b_X11_word0_38 C p0 p1 M6 _ _ _ _ _ h I (hl.sub [0, 1, 2] rfl)
  · have h := h.2 c9
    exact r_void C.1 C.2.1 C.2.2.2.2.2.1 C.2.2.2.2.2.2 ⟨rfl, rfl⟩ I dX11_word0_7 ⟨_, rfl, rfl, h⟩
def w_X11_readsEnding_66 (Q : MS → Prop) (l1 : Int32) (M : MS) : Prop := w_X11_number (fun r2 M1 => w_X11_word0 (fun M3 => Q M3) 38 (((9 : Int32) * (((5 : Int32) * l1) + r2))) M1) ((0 : Int32)) ((4 : Int32)) M
set_option maxHeartbeats 4000000 in
theorem b_X11_readsEnding_66 {b0 z0 : Nat} {M0 : MS} {Q : MS → Prop} (C : Cx p s m meth c D T Z "EndingTownModel" cX11_readsEnding 3 none) : ∀ (l1 : Int32) (M : MS) (H : Heap) (locs : List Loc) (cells slots : Nat) (ls : Array Slot), w_X11_readsEnding_66 Q l1 M → HI (twd D T Z) (mG b0 z0 M0) s (rmX (twd D T Z) 3 65 (mG b0 z0 M0)) H locs cells slots (mG b0 z0 M) → LH ls 3 [(0, .inr (.inl (some b0))), (1, .inl l1)] → W p l e (rmX (twd D T Z) 3 65 (mG b0 z0 M0)) s m args below meth c H locs cells slots (MQX (twd D T Z) (mG b0 z0 M0) (mq b0 z0 (qV Q)) (fun _ _ => False) below s) (F0 m 66 ls []) := by
  intro l1 M H locs cells slots ls h I hl
  refine l_ald_n (x := some b0) C dX11_readsEnding_66 hl 0 rfl rfl ?_
  refine lv_iconst (v := 0) C.1 C.2.1 dX11_readsEnding_67 (by decide) ?_
  refine lv_iconst (v := 4) C.1 C.2.1 dX11_readsEnding_68 (by decide) ?_
  refine k_call Ext.tr C I (k_V (r := some b0) (As := [.int ((0 : Int32)), .int ((4 : Int32))]) (rest := []) (y := yX11_number) C (f_recv C I) q1655 q1657 qs57 (Or.inl rfl) q1658 (by decide) rfl pd_X11_number rfl dX11_readsEnding_69) (ct_X11_number h) hl.1 dX11_readsEnding_69 [] rfl (Nat.le_of_ble_eq_true rfl) (Or.inl rfl) q1658 q113 ⟨Nat.le_of_ble_eq_true rfl, Nat.le_of_ble_eq_true rfl⟩ (fun v x1 H locs cells slots ex hq I => ?_) (fun a x1 H locs cells slots ex hq I => hq.elim)
  obtain ⟨M1, rfl, r2, rfl, h⟩ := hq
  refine l_ist_n C dX11_readsEnding_72 rfl hl (by decide) rfl (fun ls hl => ?_)
  have hl : LH ls 3 [(2, .inl r2), (0, .inr (.inl (some b0))), (1, .inl l1)] := hl
  refine l_ald_n (x := some b0) C dX11_readsEnding_73 hl 1 rfl rfl ?_
  refine l_ald_n (x := some b0) C dX11_readsEnding_74 hl 1 rfl rfl ?_
  refine f_A C I (fl_X11_53) (by decide) (by decide) dX11_readsEnding_75 ?_
  refine lv_bipush (v := 9) C.1 C.2.1 dX11_readsEnding_78 (by decide) ?_
  refine lv_iconst (v := 5) C.1 C.2.1 dX11_readsEnding_80 (by decide) ?_
  refine l_ild_n C dX11_readsEnding_81 hl 2 rfl rfl ?_
  refine lv_imul C.1 C.2.1 dX11_readsEnding_82 ?_
  refine l_ild_n C dX11_readsEnding_83 hl 0 rfl rfl ?_
  refine lv_iadd C.1 C.2.1 dX11_readsEnding_84 ?_
  refine lv_imul C.1 C.2.1 dX11_readsEnding_85 ?_
  refine k_call Ext.tr C I (k_V (r := some b0) (As := [va_rf (some (b0 + moff 38)), .int (((9 : Int32) * (((5 : Int32) * l1) + r2)))]) (rest := []) (y := yX11_word0) C (f_recv C I) q1647 q1649 qs55 (Or.inl rfl) q1650 (by decide) rfl pd_X11_word0 rfl dX11_readsEnding_86) (ct_X11_word0 h) hl.1 dX11_readsEnding_86 [] rfl (Nat.le_of_ble_eq_true rfl) (Or.inl rfl) q1650 q113 ⟨Nat.le_of_ble_eq_true rfl, Nat.le_of_ble_eq_true rfl⟩ (fun v x1 H locs cells slots ex hq I => ?_) (fun a x1 H locs cells slots ex hq I => hq.elim)
  obtain ⟨M3, rfl, rfl, h⟩ := hq
  exact r_void C.1 C.2.1 C.2.2.2.2.2.1 C.2.2.2.2.2.2 ⟨rfl, rfl⟩ I dX11_readsEnding_89 ⟨_, rfl, rfl, h⟩
def w_X11_readsEnding (Q : MS → Prop) (M : MS) : Prop := w_X11_steps (fun M1 => w_X11_number (fun r4 M3 => w_X11_isGood (fun r6 M5 => ((r6 = 0) → (w_X11_readsEnding_66 Q r4 M5)) ∧ ((¬ r6 = 0) → (((¬ mF M5 23 = (2 : Int32)) → (w_X11_readsEnding_66 Q r4 M5)) ∧ ((mF M5 23 = (2 : Int32)) → ((((3 : Int32) < mF M5 25) → (w_X11_readsEnding_66 Q r4 M5)) ∧ ((¬ (3 : Int32) < mF M5 25) → ((((5 : Int32) ≤ mF M5 26) → (w_X11_readsEnding_66 Q r4 M5)) ∧ ((¬ (5 : Int32) ≤ mF M5 26) → (vp_in (((9 : Int32) * (((5 : Int32) * r4) + mF M5 26))) (mlen 38) ∧ ((mA M5 38 (((9 : Int32) * (((5 : Int32) * r4) + mF M5 26))).toNatClampNeg ≤ 0) → (w_X11_readsEnding_66 Q r4 M5)) ∧ ((¬ mA M5 38 (((9 : Int32) * (((5 : Int32) * r4) + mF M5 26))).toNatClampNeg ≤ 0) → (w_X11_faults (fun M7 => w_X11_readsEnding_66 Q r4 M7) ((4 : Int32)) M5))))))))))) M3) ((0 : Int32)) ((2 : Int32)) M1) M
theorem pd_X11_readsEnding : (parseMethodDescriptor yX11_readsEnding.desc).map (fun d => d.parameters.length) = some 0 := by decide +kernel
set_option maxHeartbeats 4000000 in
theorem ct_X11_readsEnding {l : Launch} {D : va_G} {T : Nat → ClassId} {Z : Heap} {b0 z0 : Nat} {M0 : MS} {Q : MS → Prop} (hw : w_X11_readsEnding Q M0) : CT (twd D T Z) (Evd D T Z) l yX11_readsEnding (Cond.code yX11_readsEnding cX11_readsEnding 3 none) 3 65 [va_rf (some b0)] (mG b0 z0 M0) (mq b0 z0 (qV Q)) (fun _ _ => False) := by
  refine CT.ofW (cc := cX11_readsEnding) (nL := 3) (ret := none) Ext.rf (by decide) (Or.inl rfl) ?_
  intro p e s m below meth c hx hb hml hown hr hlk hnm hcb hm hc hn hE I
  have C : Cx p s m meth c D T Z "EndingTownModel" cX11_readsEnding 3 none := ⟨hx, hb, hml, hown, hE, hr, hlk⟩
  refine w_entry [.inr (.inl (some b0))] (Nat.le_of_ble_eq_true rfl) (fun ls hl => ?_)
  have hl : LH ls 3 [(0, .inr (.inl (some b0)))] := hl
  have h := hw
  refine l_ald_n (x := some b0) C dX11_readsEnding_0 hl 0 rfl rfl ?_
  refine k_call Ext.tr C I (k_V (r := some b0) (As := []) (rest := []) (y := yX11_steps) C (f_recv C I) q1611 q1613 qs49 (Or.inl rfl) q1614 (by decide) rfl pd_X11_steps rfl dX11_readsEnding_1) (ct_X11_steps h) hl.1 dX11_readsEnding_1 [] rfl (Nat.le_of_ble_eq_true rfl) (Or.inl rfl) q1614 q113 ⟨Nat.le_of_ble_eq_true rfl, Nat.le_of_ble_eq_true rfl⟩ (fun v x1 H locs cells slots ex hq I => ?_) (fun a x1 H locs cells slots ex hq I => hq.elim)
  obtain ⟨M1, rfl, rfl, h⟩ := hq
  refine l_ald_n (x := some b0) C dX11_readsEnding_4 hl 0 rfl rfl ?_
  refine lv_iconst (v := 0) C.1 C.2.1 dX11_readsEnding_5 (by decide) ?_
  refine lv_iconst (v := 2) C.1 C.2.1 dX11_readsEnding_6 (by decide) ?_
  refine k_call Ext.tr C I (k_V (r := some b0) (As := [.int ((0 : Int32)), .int ((2 : Int32))]) (rest := []) (y := yX11_number) C (f_recv C I) q1655 q1657 qs57 (Or.inl rfl) q1658 (by decide) rfl pd_X11_number rfl dX11_readsEnding_7) (ct_X11_number h) hl.1 dX11_readsEnding_7 [] rfl (Nat.le_of_ble_eq_true rfl) (Or.inl rfl) q1658 q113 ⟨Nat.le_of_ble_eq_true rfl, Nat.le_of_ble_eq_true rfl⟩ (fun v x1 H locs cells slots ex hq I => ?_) (fun a x1 H locs cells slots ex hq I => hq.elim)
  obtain ⟨M3, rfl, r4, rfl, h⟩ := hq
  refine l_ist_n C dX11_readsEnding_10 rfl hl (by decide) rfl (fun ls hl => ?_)
  have hl : LH ls 3 [(1, .inl r4), (0, .inr (.inl (some b0)))] := hl
  refine l_ald_n (x := some b0) C dX11_readsEnding_11 hl 1 rfl rfl ?_
  refine k_call Ext.tr C I (k_V (r := some b0) (As := []) (rest := []) (y := yX11_isGood) C (f_recv C I) q1625 q1627 qs51 (Or.inl rfl) q1628 (by decide) rfl pd_X11_isGood rfl dX11_readsEnding_12) (ct_X11_isGood h) hl.1 dX11_readsEnding_12 [] rfl (Nat.le_of_ble_eq_true rfl) (Or.inl rfl) q1628 q113 ⟨Nat.le_of_ble_eq_true rfl, Nat.le_of_ble_eq_true rfl⟩ (fun v x1 H locs cells slots ex hq I => ?_) (fun a x1 H locs cells slots ex hq I => hq.elim)
  obtain ⟨M5, rfl, r6, rfl, h⟩ := hq
  refine lv_if_eq (tgt := 66) C.1 C.2.1 dX11_readsEnding_15 (by decide) (fun c13 => ?_) (fun c13 => ?_)
  · have h := h.1 c13
    exact b_X11_readsEnding_66 C r4 M5 _ _ _ _ _ h I (hl.sub [1, 0] rfl)
  · have h := h.2 c13
    refine l_ald_n (x := some b0) C dX11_readsEnding_18 hl 1 rfl rfl ?_
    refine f_I C I (fl_X11_152) (by decide) dX11_readsEnding_19 ?_
    refine lv_iconst (v := 2) C.1 C.2.1 dX11_readsEnding_22 (by decide) ?_
    refine lv_icmp_ne (tgt := 66) C.1 C.2.1 dX11_readsEnding_23 (by decide) (fun c12 => ?_) (fun c12 => ?_)
    · have h := h.1 c12
      exact b_X11_readsEnding_66 C r4 M5 _ _ _ _ _ h I (hl.sub [1, 0] rfl)
    · have h := h.2 c12
      refine l_ald_n (x := some b0) C dX11_readsEnding_26 hl 1 rfl rfl ?_
      refine f_I C I (fl_X11_162) (by decide) dX11_readsEnding_27 ?_
      refine lv_iconst (v := 3) C.1 C.2.1 dX11_readsEnding_30 (by decide) ?_
      refine lv_icmp_gt (tgt := 66) C.1 C.2.1 dX11_readsEnding_31 (by decide) (fun c11 => ?_) (fun c11 => ?_)
      · have h := h.1 c11
        exact b_X11_readsEnding_66 C r4 M5 _ _ _ _ _ h I (hl.sub [1, 0] rfl)
      · have h := h.2 c11
        refine l_ald_n (x := some b0) C dX11_readsEnding_34 hl 1 rfl rfl ?_
        refine f_I C I (fl_X11_149) (by decide) dX11_readsEnding_35 ?_
        refine lv_iconst (v := 5) C.1 C.2.1 dX11_readsEnding_38 (by decide) ?_
        refine lv_icmp_ge (tgt := 66) C.1 C.2.1 dX11_readsEnding_39 (by decide) (fun c10 => ?_) (fun c10 => ?_)
        · have h := h.1 c10
          exact b_X11_readsEnding_66 C r4 M5 _ _ _ _ _ h I (hl.sub [1, 0] rfl)
        · have h := h.2 c10
          refine l_ald_n (x := some b0) C dX11_readsEnding_42 hl 1 rfl rfl ?_
          refine f_A C I (fl_X11_53) (by decide) (by decide) dX11_readsEnding_43 ?_
          refine lv_bipush (v := 9) C.1 C.2.1 dX11_readsEnding_46 (by decide) ?_
          refine lv_iconst (v := 5) C.1 C.2.1 dX11_readsEnding_48 (by decide) ?_
          refine l_ild_n C dX11_readsEnding_49 hl 0 rfl rfl ?_
          refine lv_imul C.1 C.2.1 dX11_readsEnding_50 ?_
          refine l_ald_n (x := some b0) C dX11_readsEnding_51 hl 1 rfl rfl ?_
          refine f_I C I (fl_X11_149) (by decide) dX11_readsEnding_52 ?_
          refine lv_iadd C.1 C.2.1 dX11_readsEnding_55 ?_
          refine lv_imul C.1 C.2.1 dX11_readsEnding_56 ?_
          obtain ⟨hi, h⟩ := h
          refine f_ld (k := 38) C I (by decide) hi dX11_readsEnding_57 ?_
          refine lv_if_le (tgt := 66) C.1 C.2.1 dX11_readsEnding_58 (by decide) (fun c9 => ?_) (fun c9 => ?_)
          · have h := h.1 c9
            exact b_X11_readsEnding_66 C r4 M5 _ _ _ _ _ h I (hl.sub [1, 0] rfl)
          · have h := h.2 c9
            refine l_ald_n (x := some b0) C dX11_readsEnding_61 hl 1 rfl rfl ?_
            refine lv_iconst (v := 4) C.1 C.2.1 dX11_readsEnding_62 (by decide) ?_
            refine k_call Ext.tr C I (k_V (r := some b0) (As := [.int ((4 : Int32))]) (rest := []) (y := yX11_faults) C (f_recv C I) q1643 q1645 qs54 (Or.inl rfl) q1646 (by decide) rfl pd_X11_faults rfl dX11_readsEnding_63) (ct_X11_faults h) hl.1 dX11_readsEnding_63 [] rfl (Nat.le_of_ble_eq_true rfl) (Or.inl rfl) q1646 q113 ⟨Nat.le_of_ble_eq_true rfl, Nat.le_of_ble_eq_true rfl⟩ (fun v x1 H locs cells slots ex hq I => ?_) (fun a x1 H locs cells slots ex hq I => hq.elim)
            obtain ⟨M7, rfl, rfl, h⟩ := hq
            exact b_X11_readsEnding_66 C r4 M7 _ _ _ _ _ h I (hl.sub [1, 0] rfl)
def w_X11_readsNear_42 (Q : MS → Prop) (l1 : Int32) (M : MS) : Prop := w_X11_isGood (fun r2 M1 => ((¬ r2 = 0) → (vp_in l1 (mlen 43) ∧ vp_in l1 (mlen 43) ∧ ∀ M3 : MS, M3 = sA M1 43 l1.toNatClampNeg ((mA M1 43 l1.toNatClampNeg ||| ((1 : Int32) <<< (mF M1 26 &&& 31)))) → vp_in (mF M3 26) (mlen 43) ∧ vp_in (mF M3 26) (mlen 43) ∧ ∀ M4 : MS, M4 = sA M3 43 (mF M3 26).toNatClampNeg ((mA M3 43 (mF M3 26).toNatClampNeg ||| ((1 : Int32) <<< (l1 &&& 31)))) → w_X11_steps (fun M5 => Q M5) M4)) ∧ ((r2 = 0) → (Q M1))) M
set_option maxHeartbeats 4000000 in
theorem b_X11_readsNear_42 {b0 z0 : Nat} {M0 : MS} {Q : MS → Prop} (C : Cx p s m meth c D T Z "EndingTownModel" cX11_readsNear 2 none) : ∀ (l1 : Int32) (M : MS) (H : Heap) (locs : List Loc) (cells slots : Nat) (ls : Array Slot), w_X11_readsNear_42 Q l1 M → HI (twd D T Z) (mG b0 z0 M0) s (rmX (twd D T Z) 3 64 (mG b0 z0 M0)) H locs cells slots (mG b0 z0 M) → LH ls 2 [(0, .inr (.inl (some b0))), (1, .inl l1)] → W p l e (rmX (twd D T Z) 3 64 (mG b0 z0 M0)) s m args below meth c H locs cells slots (MQX (twd D T Z) (mG b0 z0 M0) (mq b0 z0 (qV Q)) (fun _ _ => False) below s) (F0 m 42 ls []) := by
  intro l1 M H locs cells slots ls h I hl
  refine l_ald_n (x := some b0) C dX11_readsNear_42 hl 0 rfl rfl ?_
  refine k_call Ext.tr C I (k_V (r := some b0) (As := []) (rest := []) (y := yX11_isGood) C (f_recv C I) q1625 q1627 qs51 (Or.inl rfl) q1628 (by decide) rfl pd_X11_isGood rfl dX11_readsNear_43) (ct_X11_isGood h) hl.1 dX11_readsNear_43 [] rfl (Nat.le_of_ble_eq_true rfl) (Or.inl rfl) q1628 q113 ⟨Nat.le_of_ble_eq_true rfl, Nat.le_of_ble_eq_true rfl⟩ (fun v x1 H locs cells slots ex hq I => ?_) (fun a x1 H locs cells slots ex hq I => hq.elim)
  obtain ⟨M1, rfl, r2, rfl, h⟩ := hq
  refine lv_if_ne (tgt := 50) C.1 C.2.1 dX11_readsNear_46 (by decide) (fun c7 => ?_) (fun c7 => ?_)
  · have h := h.1 c7
    refine l_ald_n (x := some b0) C dX11_readsNear_50 hl 0 rfl rfl ?_
    refine f_A C I (fl_X11_68) (by decide) (by decide) dX11_readsNear_51 ?_
    refine l_ild_n C dX11_readsNear_54 hl 1 rfl rfl ?_
    refine lv_dup2_11 C.1 C.2.1 dX11_readsNear_55 rfl (cat_rf _) ?_
    obtain ⟨hi, h⟩ := h
    refine f_ld (k := 43) C I (by decide) hi dX11_readsNear_56 ?_
    refine lv_iconst (v := 1) C.1 C.2.1 dX11_readsNear_57 (by decide) ?_
    refine l_ald_n (x := some b0) C dX11_readsNear_58 hl 0 rfl rfl ?_
    refine f_I C I (fl_X11_149) (by decide) dX11_readsNear_59 ?_
    refine lv_ishl C.1 C.2.1 dX11_readsNear_62 ?_
    refine lv_ior C.1 C.2.1 dX11_readsNear_63 ?_
    obtain ⟨hi, h⟩ := h
    refine f_st (k := 43) C I (by decide) hi dX11_readsNear_64 (fun H locs M3 eM3 I => ?_)
    have h := h M3 eM3
    refine l_ald_n (x := some b0) C dX11_readsNear_65 hl 0 rfl rfl ?_
    refine f_A C I (fl_X11_68) (by decide) (by decide) dX11_readsNear_66 ?_
    refine l_ald_n (x := some b0) C dX11_readsNear_69 hl 0 rfl rfl ?_
    refine f_I C I (fl_X11_149) (by decide) dX11_readsNear_70 ?_
    refine lv_dup2_11 C.1 C.2.1 dX11_readsNear_73 rfl (cat_rf _) ?_
    obtain ⟨hi, h⟩ := h
    refine f_ld (k := 43) C I (by decide) hi dX11_readsNear_74 ?_
    refine lv_iconst (v := 1) C.1 C.2.1 dX11_readsNear_75 (by decide) ?_
    refine l_ild_n C dX11_readsNear_76 hl 1 rfl rfl ?_
    refine lv_ishl C.1 C.2.1 dX11_readsNear_77 ?_
    refine lv_ior C.1 C.2.1 dX11_readsNear_78 ?_
    obtain ⟨hi, h⟩ := h
    refine f_st (k := 43) C I (by decide) hi dX11_readsNear_79 (fun H locs M4 eM4 I => ?_)
    have h := h M4 eM4
    refine l_ald_n (x := some b0) C dX11_readsNear_80 hl 0 rfl rfl ?_
    refine k_call Ext.tr C I (k_V (r := some b0) (As := []) (rest := []) (y := yX11_steps) C (f_recv C I) q1611 q1613 qs49 (Or.inl rfl) q1614 (by decide) rfl pd_X11_steps rfl dX11_readsNear_81) (ct_X11_steps h) hl.1 dX11_readsNear_81 [] rfl (Nat.le_of_ble_eq_true rfl) (Or.inl rfl) q1614 q113 ⟨Nat.le_of_ble_eq_true rfl, Nat.le_of_ble_eq_true rfl⟩ (fun v x1 H locs cells slots ex hq I => ?_) (fun a x1 H locs cells slots ex hq I => hq.elim)
    obtain ⟨M5, rfl, rfl, h⟩ := hq
    exact r_void C.1 C.2.1 C.2.2.2.2.2.1 C.2.2.2.2.2.2 ⟨rfl, rfl⟩ I dX11_readsNear_84 ⟨_, rfl, rfl, h⟩
  · have h := h.2 c7
    exact r_void C.1 C.2.1 C.2.2.2.2.2.1 C.2.2.2.2.2.2 ⟨rfl, rfl⟩ I dX11_readsNear_49 ⟨_, rfl, rfl, h⟩
def w_X11_readsNear (Q : MS → Prop) (M : MS) : Prop := ∀ M1 : MS, M1 = sF M 36 ((1 : Int32)) → w_X11_steps (fun M2 => w_X11_among (fun r5 M4 => w_X11_amongHere (fun r7 M6 => ((r7 = 0) → (w_X11_readsNear_42 Q r5 M6)) ∧ ((¬ r7 = 0) → (((¬ mF M6 26 = r5) → (w_X11_readsNear_42 Q r5 M6)) ∧ ((mF M6 26 = r5) → (w_X11_faults (fun M8 => w_X11_readsNear_42 Q r5 M8) ((4 : Int32)) M6))))) (mF M4 30) M4) (mF M2 30) M2) M1
theorem pd_X11_readsNear : (parseMethodDescriptor yX11_readsNear.desc).map (fun d => d.parameters.length) = some 0 := by decide +kernel
set_option maxHeartbeats 4000000 in
theorem ct_X11_readsNear {l : Launch} {D : va_G} {T : Nat → ClassId} {Z : Heap} {b0 z0 : Nat} {M0 : MS} {Q : MS → Prop} (hw : w_X11_readsNear Q M0) : CT (twd D T Z) (Evd D T Z) l yX11_readsNear (Cond.code yX11_readsNear cX11_readsNear 2 none) 3 64 [va_rf (some b0)] (mG b0 z0 M0) (mq b0 z0 (qV Q)) (fun _ _ => False) := by
  refine CT.ofW (cc := cX11_readsNear) (nL := 2) (ret := none) Ext.rf (by decide) (Or.inl rfl) ?_
  intro p e s m below meth c hx hb hml hown hr hlk hnm hcb hm hc hn hE I
  have C : Cx p s m meth c D T Z "EndingTownModel" cX11_readsNear 2 none := ⟨hx, hb, hml, hown, hE, hr, hlk⟩
  refine w_entry [.inr (.inl (some b0))] (Nat.le_of_ble_eq_true rfl) (fun ls hl => ?_)
  have hl : LH ls 2 [(0, .inr (.inl (some b0)))] := hl
  have h := hw
  refine l_ald_n (x := some b0) C dX11_readsNear_0 hl 0 rfl rfl ?_
  refine lv_iconst (v := 1) C.1 C.2.1 dX11_readsNear_1 (by decide) ?_
  refine f_PI C I (fp_X11_197) (by decide) dX11_readsNear_2 (fit_z bz1) (fun H locs M1 eM1 I => ?_)
  have h := h M1 eM1
  refine l_ald_n (x := some b0) C dX11_readsNear_5 hl 0 rfl rfl ?_
  refine k_call Ext.tr C I (k_V (r := some b0) (As := []) (rest := []) (y := yX11_steps) C (f_recv C I) q1611 q1613 qs49 (Or.inl rfl) q1614 (by decide) rfl pd_X11_steps rfl dX11_readsNear_6) (ct_X11_steps h) hl.1 dX11_readsNear_6 [] rfl (Nat.le_of_ble_eq_true rfl) (Or.inl rfl) q1614 q113 ⟨Nat.le_of_ble_eq_true rfl, Nat.le_of_ble_eq_true rfl⟩ (fun v x1 H locs cells slots ex hq I => ?_) (fun a x1 H locs cells slots ex hq I => hq.elim)
  obtain ⟨M2, rfl, rfl, h⟩ := hq
  refine l_ald_n (x := some b0) C dX11_readsNear_9 hl 0 rfl rfl ?_
  refine l_ald_n (x := some b0) C dX11_readsNear_10 hl 0 rfl rfl ?_
  refine f_I C I (fl_X11_201) (by decide) dX11_readsNear_11 ?_
  refine k_call Ext.tr C I (k_V (r := some b0) (As := [.int (mF M2 30)]) (rest := []) (y := yX11_among) C (f_recv C I) q1663 q1665 qs59 (Or.inl rfl) q1666 (by decide) rfl pd_X11_among rfl dX11_readsNear_14) (ct_X11_among h) hl.1 dX11_readsNear_14 [] rfl (Nat.le_of_ble_eq_true rfl) (Or.inl rfl) q1666 q113 ⟨Nat.le_of_ble_eq_true rfl, Nat.le_of_ble_eq_true rfl⟩ (fun v x1 H locs cells slots ex hq I => ?_) (fun a x1 H locs cells slots ex hq I => hq.elim)
  obtain ⟨M4, rfl, r5, rfl, h⟩ := hq
  refine l_ist_n C dX11_readsNear_17 rfl hl (by decide) rfl (fun ls hl => ?_)
  have hl : LH ls 2 [(1, .inl r5), (0, .inr (.inl (some b0)))] := hl
  refine l_ald_n (x := some b0) C dX11_readsNear_18 hl 1 rfl rfl ?_
  refine l_ald_n (x := some b0) C dX11_readsNear_19 hl 1 rfl rfl ?_
  refine f_I C I (fl_X11_201) (by decide) dX11_readsNear_20 ?_
  refine k_call Ext.tr C I (k_V (r := some b0) (As := [.int (mF M4 30)]) (rest := []) (y := yX11_amongHere) C (f_recv C I) q1667 q1669 qs60 (Or.inl rfl) q1670 (by decide) rfl pd_X11_amongHere rfl dX11_readsNear_23) (ct_X11_amongHere h) hl.1 dX11_readsNear_23 [] rfl (Nat.le_of_ble_eq_true rfl) (Or.inl rfl) q1670 q113 ⟨Nat.le_of_ble_eq_true rfl, Nat.le_of_ble_eq_true rfl⟩ (fun v x1 H locs cells slots ex hq I => ?_) (fun a x1 H locs cells slots ex hq I => hq.elim)
  obtain ⟨M6, rfl, r7, rfl, h⟩ := hq
  refine lv_if_eq (tgt := 42) C.1 C.2.1 dX11_readsNear_26 (by decide) (fun c11 => ?_) (fun c11 => ?_)
  · have h := h.1 c11
    exact b_X11_readsNear_42 C r5 M6 _ _ _ _ _ h I (hl.sub [1, 0] rfl)
  · have h := h.2 c11
    refine l_ald_n (x := some b0) C dX11_readsNear_29 hl 1 rfl rfl ?_
    refine f_I C I (fl_X11_149) (by decide) dX11_readsNear_30 ?_
    refine l_ild_n C dX11_readsNear_33 hl 0 rfl rfl ?_
    refine lv_icmp_ne (tgt := 42) C.1 C.2.1 dX11_readsNear_34 (by decide) (fun c10 => ?_) (fun c10 => ?_)
    · have h := h.1 c10
      exact b_X11_readsNear_42 C r5 M6 _ _ _ _ _ h I (hl.sub [1, 0] rfl)
    · have h := h.2 c10
      refine l_ald_n (x := some b0) C dX11_readsNear_37 hl 1 rfl rfl ?_
      refine lv_iconst (v := 4) C.1 C.2.1 dX11_readsNear_38 (by decide) ?_
      refine k_call Ext.tr C I (k_V (r := some b0) (As := [.int ((4 : Int32))]) (rest := []) (y := yX11_faults) C (f_recv C I) q1643 q1645 qs54 (Or.inl rfl) q1646 (by decide) rfl pd_X11_faults rfl dX11_readsNear_39) (ct_X11_faults h) hl.1 dX11_readsNear_39 [] rfl (Nat.le_of_ble_eq_true rfl) (Or.inl rfl) q1646 q113 ⟨Nat.le_of_ble_eq_true rfl, Nat.le_of_ble_eq_true rfl⟩ (fun v x1 H locs cells slots ex hq I => ?_) (fun a x1 H locs cells slots ex hq I => hq.elim)
      obtain ⟨M8, rfl, rfl, h⟩ := hq
      exact b_X11_readsNear_42 C r5 M8 _ _ _ _ _ h I (hl.sub [1, 0] rfl)
def w_X11_readsRule_114 (Q : MS → Prop) (k42 : Int32 → Int32 → MS → Prop) (k82 : Int32 → Int32 → MS → Prop) (l1 : Int32) (l3 : Int32) (M : MS) : Prop := k82 l1 ((l3 + 1)) M
set_option maxHeartbeats 4000000 in
theorem b_X11_readsRule_114 {b0 z0 : Nat} {M0 : MS} {Q : MS → Prop} {k42 : Int32 → Int32 → MS → Prop} {k82 : Int32 → Int32 → MS → Prop} (C : Cx p s m meth c D T Z "EndingTownModel" cX11_readsRule 4 none) (hk42 : ∀ (l1 : Int32) (l2 : Int32) (M : MS) (H : Heap) (locs : List Loc) (cells slots : Nat) (ls : Array Slot), k42 l1 l2 M → HI (twd D T Z) (mG b0 z0 M0) s (rmX (twd D T Z) 2 42 (mG b0 z0 M0)) H locs cells slots (mG b0 z0 M) → LH ls 4 [(0, .inr (.inl (some b0))), (1, .inl l1), (2, .inl l2)] → W p l e (rmX (twd D T Z) 2 42 (mG b0 z0 M0)) s m args below meth c H locs cells slots (MQX (twd D T Z) (mG b0 z0 M0) (mq b0 z0 (qV Q)) (fun _ _ => False) below s) (F0 m 42 ls [])) (hk82 : ∀ (l1 : Int32) (l3 : Int32) (M : MS) (H : Heap) (locs : List Loc) (cells slots : Nat) (ls : Array Slot), k82 l1 l3 M → HI (twd D T Z) (mG b0 z0 M0) s (rmX (twd D T Z) 2 42 (mG b0 z0 M0)) H locs cells slots (mG b0 z0 M) → LH ls 4 [(0, .inr (.inl (some b0))), (1, .inl l1), (3, .inl l3)] → W p l e (rmX (twd D T Z) 2 42 (mG b0 z0 M0)) s m args below meth c H locs cells slots (MQX (twd D T Z) (mG b0 z0 M0) (mq b0 z0 (qV Q)) (fun _ _ => False) below s) (F0 m 82 ls [])) : ∀ (l1 : Int32) (l3 : Int32) (M : MS) (H : Heap) (locs : List Loc) (cells slots : Nat) (ls : Array Slot), w_X11_readsRule_114 Q k42 k82 l1 l3 M → HI (twd D T Z) (mG b0 z0 M0) s (rmX (twd D T Z) 2 42 (mG b0 z0 M0)) H locs cells slots (mG b0 z0 M) → LH ls 4 [(0, .inr (.inl (some b0))), (1, .inl l1), (3, .inl l3)] → W p l e (rmX (twd D T Z) 2 42 (mG b0 z0 M0)) s m args below meth c H locs cells slots (MQX (twd D T Z) (mG b0 z0 M0) (mq b0 z0 (qV Q)) (fun _ _ => False) below s) (F0 m 114 ls []) := by
  intro l1 l3 M H locs cells slots ls h I hl
  refine l_inc (q := 2) (v := 1) C dX11_readsRule_114 hl rfl (by decide) (by decide) rfl (fun ls hl => ?_)
  have hl : LH ls 4 [(3, .inl ((l3 + 1))), (0, .inr (.inl (some b0))), (1, .inl l1)] := hl
  refine lv_goto (tgt := 82) C.1 C.2.1 dX11_readsRule_117 (by decide) ?_
  exact hk82 l1 ((l3 + 1)) M _ _ _ _ _ h I (hl.sub [1, 2, 0] rfl)
def w_X11_readsRule_190 (Q : MS → Prop) (k42 : Int32 → Int32 → MS → Prop) (l1 : Int32) (t0 : Int32) (M : MS) : Prop := k42 l1 t0 M
set_option maxHeartbeats 4000000 in
theorem b_X11_readsRule_190 {b0 z0 : Nat} {M0 : MS} {Q : MS → Prop} {k42 : Int32 → Int32 → MS → Prop} (C : Cx p s m meth c D T Z "EndingTownModel" cX11_readsRule 4 none) (hk42 : ∀ (l1 : Int32) (l2 : Int32) (M : MS) (H : Heap) (locs : List Loc) (cells slots : Nat) (ls : Array Slot), k42 l1 l2 M → HI (twd D T Z) (mG b0 z0 M0) s (rmX (twd D T Z) 2 42 (mG b0 z0 M0)) H locs cells slots (mG b0 z0 M) → LH ls 4 [(0, .inr (.inl (some b0))), (1, .inl l1), (2, .inl l2)] → W p l e (rmX (twd D T Z) 2 42 (mG b0 z0 M0)) s m args below meth c H locs cells slots (MQX (twd D T Z) (mG b0 z0 M0) (mq b0 z0 (qV Q)) (fun _ _ => False) below s) (F0 m 42 ls [])) : ∀ (l1 : Int32) (t0 : Int32) (M : MS) (H : Heap) (locs : List Loc) (cells slots : Nat) (ls : Array Slot), w_X11_readsRule_190 Q k42 l1 t0 M → HI (twd D T Z) (mG b0 z0 M0) s (rmX (twd D T Z) 2 42 (mG b0 z0 M0)) H locs cells slots (mG b0 z0 M) → LH ls 4 [(0, .inr (.inl (some b0))), (1, .inl l1)] → W p l e (rmX (twd D T Z) 2 42 (mG b0 z0 M0)) s m args below meth c H locs cells slots (MQX (twd D T Z) (mG b0 z0 M0) (mq b0 z0 (qV Q)) (fun _ _ => False) below s) (F0 m 190 ls [.int t0]) := by
  intro l1 t0 M H locs cells slots ls h I hl
  refine l_ist_n C dX11_readsRule_190 rfl hl (by decide) rfl (fun ls hl => ?_)
  have hl : LH ls 4 [(2, .inl t0), (0, .inr (.inl (some b0))), (1, .inl l1)] := hl
  refine lv_goto (tgt := 42) C.1 C.2.1 dX11_readsRule_191 (by decide) ?_
  exact hk42 l1 t0 M _ _ _ _ _ h I (hl.sub [1, 2, 0] rfl)
def w_X11_readsRule_185 (Q : MS → Prop) (k42 : Int32 → Int32 → MS → Prop) (l1 : Int32) (M : MS) : Prop := w_X11_readsRule_190 Q k42 l1 ((1 : Int32)) M
set_option maxHeartbeats 4000000 in
theorem b_X11_readsRule_185 {b0 z0 : Nat} {M0 : MS} {Q : MS → Prop} {k42 : Int32 → Int32 → MS → Prop} (C : Cx p s m meth c D T Z "EndingTownModel" cX11_readsRule 4 none) (hk42 : ∀ (l1 : Int32) (l2 : Int32) (M : MS) (H : Heap) (locs : List Loc) (cells slots : Nat) (ls : Array Slot), k42 l1 l2 M → HI (twd D T Z) (mG b0 z0 M0) s (rmX (twd D T Z) 2 42 (mG b0 z0 M0)) H locs cells slots (mG b0 z0 M) → LH ls 4 [(0, .inr (.inl (some b0))), (1, .inl l1), (2, .inl l2)] → W p l e (rmX (twd D T Z) 2 42 (mG b0 z0 M0)) s m args below meth c H locs cells slots (MQX (twd D T Z) (mG b0 z0 M0) (mq b0 z0 (qV Q)) (fun _ _ => False) below s) (F0 m 42 ls [])) : ∀ (l1 : Int32) (M : MS) (H : Heap) (locs : List Loc) (cells slots : Nat) (ls : Array Slot), w_X11_readsRule_185 Q k42 l1 M → HI (twd D T Z) (mG b0 z0 M0) s (rmX (twd D T Z) 2 42 (mG b0 z0 M0)) H locs cells slots (mG b0 z0 M) → LH ls 4 [(0, .inr (.inl (some b0))), (1, .inl l1)] → W p l e (rmX (twd D T Z) 2 42 (mG b0 z0 M0)) s m args below meth c H locs cells slots (MQX (twd D T Z) (mG b0 z0 M0) (mq b0 z0 (qV Q)) (fun _ _ => False) below s) (F0 m 185 ls []) := by
  intro l1 M H locs cells slots ls h I hl
  refine lv_iconst (v := 1) C.1 C.2.1 dX11_readsRule_185 (by decide) ?_
  refine lv_goto (tgt := 190) C.1 C.2.1 dX11_readsRule_186 (by decide) ?_
  exact b_X11_readsRule_190 C hk42 l1 ((1 : Int32)) M _ _ _ _ _ h I (hl.sub [0, 1] rfl)
def w_X11_readsRule_189 (Q : MS → Prop) (k42 : Int32 → Int32 → MS → Prop) (l1 : Int32) (M : MS) : Prop := w_X11_readsRule_190 Q k42 l1 ((0 : Int32)) M
set_option maxHeartbeats 4000000 in
theorem b_X11_readsRule_189 {b0 z0 : Nat} {M0 : MS} {Q : MS → Prop} {k42 : Int32 → Int32 → MS → Prop} (C : Cx p s m meth c D T Z "EndingTownModel" cX11_readsRule 4 none) (hk42 : ∀ (l1 : Int32) (l2 : Int32) (M : MS) (H : Heap) (locs : List Loc) (cells slots : Nat) (ls : Array Slot), k42 l1 l2 M → HI (twd D T Z) (mG b0 z0 M0) s (rmX (twd D T Z) 2 42 (mG b0 z0 M0)) H locs cells slots (mG b0 z0 M) → LH ls 4 [(0, .inr (.inl (some b0))), (1, .inl l1), (2, .inl l2)] → W p l e (rmX (twd D T Z) 2 42 (mG b0 z0 M0)) s m args below meth c H locs cells slots (MQX (twd D T Z) (mG b0 z0 M0) (mq b0 z0 (qV Q)) (fun _ _ => False) below s) (F0 m 42 ls [])) : ∀ (l1 : Int32) (M : MS) (H : Heap) (locs : List Loc) (cells slots : Nat) (ls : Array Slot), w_X11_readsRule_189 Q k42 l1 M → HI (twd D T Z) (mG b0 z0 M0) s (rmX (twd D T Z) 2 42 (mG b0 z0 M0)) H locs cells slots (mG b0 z0 M) → LH ls 4 [(0, .inr (.inl (some b0))), (1, .inl l1)] → W p l e (rmX (twd D T Z) 2 42 (mG b0 z0 M0)) s m args below meth c H locs cells slots (MQX (twd D T Z) (mG b0 z0 M0) (mq b0 z0 (qV Q)) (fun _ _ => False) below s) (F0 m 189 ls []) := by
  intro l1 M H locs cells slots ls h I hl
  refine lv_iconst (v := 0) C.1 C.2.1 dX11_readsRule_189 (by decide) ?_
  exact b_X11_readsRule_190 C hk42 l1 ((0 : Int32)) M _ _ _ _ _ h I (hl.sub [0, 1] rfl)
def w_X11_readsRule_160 (Q : MS → Prop) (k42 : Int32 → Int32 → MS → Prop) (l1 : Int32) (M : MS) : Prop := w_X11_isGood (fun r2 M1 => ((r2 = 0) → (w_X11_readsRule_189 Q k42 l1 M1)) ∧ ((¬ r2 = 0) → (((mF M1 23 = (2 : Int32)) → (w_X11_readsRule_185 Q k42 l1 M1)) ∧ ((¬ mF M1 23 = (2 : Int32)) → (vp_in l1 (mlen 42) ∧ (((2 : Int32) ≤ mA M1 42 l1.toNatClampNeg) → (w_X11_readsRule_189 Q k42 l1 M1)) ∧ ((¬ (2 : Int32) ≤ mA M1 42 l1.toNatClampNeg) → (w_X11_readsRule_185 Q k42 l1 M1))))))) M
set_option maxHeartbeats 4000000 in
theorem b_X11_readsRule_160 {b0 z0 : Nat} {M0 : MS} {Q : MS → Prop} {k42 : Int32 → Int32 → MS → Prop} (C : Cx p s m meth c D T Z "EndingTownModel" cX11_readsRule 4 none) (hk42 : ∀ (l1 : Int32) (l2 : Int32) (M : MS) (H : Heap) (locs : List Loc) (cells slots : Nat) (ls : Array Slot), k42 l1 l2 M → HI (twd D T Z) (mG b0 z0 M0) s (rmX (twd D T Z) 2 42 (mG b0 z0 M0)) H locs cells slots (mG b0 z0 M) → LH ls 4 [(0, .inr (.inl (some b0))), (1, .inl l1), (2, .inl l2)] → W p l e (rmX (twd D T Z) 2 42 (mG b0 z0 M0)) s m args below meth c H locs cells slots (MQX (twd D T Z) (mG b0 z0 M0) (mq b0 z0 (qV Q)) (fun _ _ => False) below s) (F0 m 42 ls [])) : ∀ (l1 : Int32) (M : MS) (H : Heap) (locs : List Loc) (cells slots : Nat) (ls : Array Slot), w_X11_readsRule_160 Q k42 l1 M → HI (twd D T Z) (mG b0 z0 M0) s (rmX (twd D T Z) 2 42 (mG b0 z0 M0)) H locs cells slots (mG b0 z0 M) → LH ls 4 [(0, .inr (.inl (some b0))), (1, .inl l1)] → W p l e (rmX (twd D T Z) 2 42 (mG b0 z0 M0)) s m args below meth c H locs cells slots (MQX (twd D T Z) (mG b0 z0 M0) (mq b0 z0 (qV Q)) (fun _ _ => False) below s) (F0 m 160 ls []) := by
  intro l1 M H locs cells slots ls h I hl
  refine l_ald_n (x := some b0) C dX11_readsRule_160 hl 0 rfl rfl ?_
  refine k_call Ext.tr C I (k_V (r := some b0) (As := []) (rest := []) (y := yX11_isGood) C (f_recv C I) q1625 q1627 qs51 (Or.inl rfl) q1628 (by decide) rfl pd_X11_isGood rfl dX11_readsRule_161) (ct_X11_isGood h) hl.1 dX11_readsRule_161 [] rfl (Nat.le_of_ble_eq_true rfl) (Or.inl rfl) q1628 q113 ⟨Nat.le_of_ble_eq_true rfl, Nat.le_of_ble_eq_true rfl⟩ (fun v x1 H locs cells slots ex hq I => ?_) (fun a x1 H locs cells slots ex hq I => hq.elim)
  obtain ⟨M1, rfl, r2, rfl, h⟩ := hq
  refine lv_if_eq (tgt := 189) C.1 C.2.1 dX11_readsRule_164 (by decide) (fun c5 => ?_) (fun c5 => ?_)
  · have h := h.1 c5
    exact b_X11_readsRule_189 C hk42 l1 M1 _ _ _ _ _ h I (hl.sub [0, 1] rfl)
  · have h := h.2 c5
    refine l_ald_n (x := some b0) C dX11_readsRule_167 hl 0 rfl rfl ?_
    refine f_I C I (fl_X11_152) (by decide) dX11_readsRule_168 ?_
    refine lv_iconst (v := 2) C.1 C.2.1 dX11_readsRule_171 (by decide) ?_
    refine lv_icmp_eq (tgt := 185) C.1 C.2.1 dX11_readsRule_172 (by decide) (fun c4 => ?_) (fun c4 => ?_)
    · have h := h.1 c4
      exact b_X11_readsRule_185 C hk42 l1 M1 _ _ _ _ _ h I (hl.sub [0, 1] rfl)
    · have h := h.2 c4
      refine l_ald_n (x := some b0) C dX11_readsRule_175 hl 0 rfl rfl ?_
      refine f_A C I (fl_X11_65) (by decide) (by decide) dX11_readsRule_176 ?_
      refine l_ild_n C dX11_readsRule_179 hl 1 rfl rfl ?_
      obtain ⟨hi, h⟩ := h
      refine f_ld (k := 42) C I (by decide) hi dX11_readsRule_180 ?_
      refine lv_iconst (v := 2) C.1 C.2.1 dX11_readsRule_181 (by decide) ?_
      refine lv_icmp_ge (tgt := 189) C.1 C.2.1 dX11_readsRule_182 (by decide) (fun c3 => ?_) (fun c3 => ?_)
      · have h := h.1 c3
        exact b_X11_readsRule_189 C hk42 l1 M1 _ _ _ _ _ h I (hl.sub [0, 1] rfl)
      · have h := h.2 c3
        exact b_X11_readsRule_185 C hk42 l1 M1 _ _ _ _ _ h I (hl.sub [0, 1] rfl)
def w_X11_readsRule_120 (Q : MS → Prop) (k42 : Int32 → Int32 → MS → Prop) (l1 : Int32) (M : MS) : Prop := w_X11_isGood (fun r2 M1 => ((r2 = 0) → (w_X11_readsRule_160 Q k42 l1 M1)) ∧ ((¬ r2 = 0) → (vp_in l1 (mlen 42) ∧ vp_in (((l1 + (1 : Int32)) + mA M1 42 l1.toNatClampNeg)) (mlen 42) ∧ ∀ M3 : MS, M3 = sA M1 42 (((l1 + (1 : Int32)) + mA M1 42 l1.toNatClampNeg)).toNatClampNeg (mF M1 26) → vp_in l1 (mlen 42) ∧ vp_in l1 (mlen 42) ∧ ∀ M4 : MS, M4 = sA M3 42 l1.toNatClampNeg ((mA M3 42 l1.toNatClampNeg + (1 : Int32))) → w_X11_steps (fun M5 => w_X11_readsRule_160 Q k42 l1 M5) M4))) M
set_option maxHeartbeats 4000000 in
theorem b_X11_readsRule_120 {b0 z0 : Nat} {M0 : MS} {Q : MS → Prop} {k42 : Int32 → Int32 → MS → Prop} (C : Cx p s m meth c D T Z "EndingTownModel" cX11_readsRule 4 none) (hk42 : ∀ (l1 : Int32) (l2 : Int32) (M : MS) (H : Heap) (locs : List Loc) (cells slots : Nat) (ls : Array Slot), k42 l1 l2 M → HI (twd D T Z) (mG b0 z0 M0) s (rmX (twd D T Z) 2 42 (mG b0 z0 M0)) H locs cells slots (mG b0 z0 M) → LH ls 4 [(0, .inr (.inl (some b0))), (1, .inl l1), (2, .inl l2)] → W p l e (rmX (twd D T Z) 2 42 (mG b0 z0 M0)) s m args below meth c H locs cells slots (MQX (twd D T Z) (mG b0 z0 M0) (mq b0 z0 (qV Q)) (fun _ _ => False) below s) (F0 m 42 ls [])) : ∀ (l1 : Int32) (M : MS) (H : Heap) (locs : List Loc) (cells slots : Nat) (ls : Array Slot), w_X11_readsRule_120 Q k42 l1 M → HI (twd D T Z) (mG b0 z0 M0) s (rmX (twd D T Z) 2 42 (mG b0 z0 M0)) H locs cells slots (mG b0 z0 M) → LH ls 4 [(0, .inr (.inl (some b0))), (1, .inl l1)] → W p l e (rmX (twd D T Z) 2 42 (mG b0 z0 M0)) s m args below meth c H locs cells slots (MQX (twd D T Z) (mG b0 z0 M0) (mq b0 z0 (qV Q)) (fun _ _ => False) below s) (F0 m 120 ls []) := by
  intro l1 M H locs cells slots ls h I hl
  refine l_ald_n (x := some b0) C dX11_readsRule_120 hl 0 rfl rfl ?_
  refine k_call Ext.tr C I (k_V (r := some b0) (As := []) (rest := []) (y := yX11_isGood) C (f_recv C I) q1625 q1627 qs51 (Or.inl rfl) q1628 (by decide) rfl pd_X11_isGood rfl dX11_readsRule_121) (ct_X11_isGood h) hl.1 dX11_readsRule_121 [] rfl (Nat.le_of_ble_eq_true rfl) (Or.inl rfl) q1628 q113 ⟨Nat.le_of_ble_eq_true rfl, Nat.le_of_ble_eq_true rfl⟩ (fun v x1 H locs cells slots ex hq I => ?_) (fun a x1 H locs cells slots ex hq I => hq.elim)
  obtain ⟨M1, rfl, r2, rfl, h⟩ := hq
  refine lv_if_eq (tgt := 160) C.1 C.2.1 dX11_readsRule_124 (by decide) (fun c7 => ?_) (fun c7 => ?_)
  · have h := h.1 c7
    exact b_X11_readsRule_160 C hk42 l1 M1 _ _ _ _ _ h I (hl.sub [0, 1] rfl)
  · have h := h.2 c7
    refine l_ald_n (x := some b0) C dX11_readsRule_127 hl 0 rfl rfl ?_
    refine f_A C I (fl_X11_65) (by decide) (by decide) dX11_readsRule_128 ?_
    refine l_ild_n C dX11_readsRule_131 hl 1 rfl rfl ?_
    refine lv_iconst (v := 1) C.1 C.2.1 dX11_readsRule_132 (by decide) ?_
    refine lv_iadd C.1 C.2.1 dX11_readsRule_133 ?_
    refine l_ald_n (x := some b0) C dX11_readsRule_134 hl 0 rfl rfl ?_
    refine f_A C I (fl_X11_65) (by decide) (by decide) dX11_readsRule_135 ?_
    refine l_ild_n C dX11_readsRule_138 hl 1 rfl rfl ?_
    obtain ⟨hi, h⟩ := h
    refine f_ld (k := 42) C I (by decide) hi dX11_readsRule_139 ?_
    refine lv_iadd C.1 C.2.1 dX11_readsRule_140 ?_
    refine l_ald_n (x := some b0) C dX11_readsRule_141 hl 0 rfl rfl ?_
    refine f_I C I (fl_X11_149) (by decide) dX11_readsRule_142 ?_
    obtain ⟨hi, h⟩ := h
    refine f_st (k := 42) C I (by decide) hi dX11_readsRule_145 (fun H locs M3 eM3 I => ?_)
    have h := h M3 eM3
    refine l_ald_n (x := some b0) C dX11_readsRule_146 hl 0 rfl rfl ?_
    refine f_A C I (fl_X11_65) (by decide) (by decide) dX11_readsRule_147 ?_
    refine l_ild_n C dX11_readsRule_150 hl 1 rfl rfl ?_
    refine lv_dup2_11 C.1 C.2.1 dX11_readsRule_151 rfl (cat_rf _) ?_
    obtain ⟨hi, h⟩ := h
    refine f_ld (k := 42) C I (by decide) hi dX11_readsRule_152 ?_
    refine lv_iconst (v := 1) C.1 C.2.1 dX11_readsRule_153 (by decide) ?_
    refine lv_iadd C.1 C.2.1 dX11_readsRule_154 ?_
    obtain ⟨hi, h⟩ := h
    refine f_st (k := 42) C I (by decide) hi dX11_readsRule_155 (fun H locs M4 eM4 I => ?_)
    have h := h M4 eM4
    refine l_ald_n (x := some b0) C dX11_readsRule_156 hl 0 rfl rfl ?_
    refine k_call Ext.tr C I (k_V (r := some b0) (As := []) (rest := []) (y := yX11_steps) C (f_recv C I) q1611 q1613 qs49 (Or.inl rfl) q1614 (by decide) rfl pd_X11_steps rfl dX11_readsRule_157) (ct_X11_steps h) hl.1 dX11_readsRule_157 [] rfl (Nat.le_of_ble_eq_true rfl) (Or.inl rfl) q1614 q113 ⟨Nat.le_of_ble_eq_true rfl, Nat.le_of_ble_eq_true rfl⟩ (fun v x1 H locs cells slots ex hq I => ?_) (fun a x1 H locs cells slots ex hq I => hq.elim)
    obtain ⟨M5, rfl, rfl, h⟩ := hq
    exact b_X11_readsRule_160 C hk42 l1 M5 _ _ _ _ _ h I (hl.sub [0, 1] rfl)
def w_X11_readsRule_82 (Q : MS → Prop) (k42 : Int32 → Int32 → MS → Prop) : Nat → Int32 → Int32 → MS → Prop
  | 0 => fun _ _ _ => False
  | f82 + 1 => fun l1 l3 M => vp_in l1 (mlen 42) ∧ ((mA M 42 l1.toNatClampNeg ≤ l3) → (w_X11_readsRule_120 Q k42 l1 M)) ∧ ((¬ mA M 42 l1.toNatClampNeg ≤ l3) → (vp_in (((l1 + (1 : Int32)) + l3)) (mlen 42) ∧ ((¬ mA M 42 (((l1 + (1 : Int32)) + l3)).toNatClampNeg = mF M 26) → (w_X11_readsRule_114 Q k42 (w_X11_readsRule_82 Q k42 f82) l1 l3 M)) ∧ ((mA M 42 (((l1 + (1 : Int32)) + l3)).toNatClampNeg = mF M 26) → (w_X11_faults (fun M1 => w_X11_readsRule_114 Q k42 (w_X11_readsRule_82 Q k42 f82) l1 l3 M1) ((4 : Int32)) M))))
set_option maxHeartbeats 4000000 in
theorem b_X11_readsRule_82 {b0 z0 : Nat} {M0 : MS} {Q : MS → Prop} {k42 : Int32 → Int32 → MS → Prop} (C : Cx p s m meth c D T Z "EndingTownModel" cX11_readsRule 4 none) (hk42 : ∀ (l1 : Int32) (l2 : Int32) (M : MS) (H : Heap) (locs : List Loc) (cells slots : Nat) (ls : Array Slot), k42 l1 l2 M → HI (twd D T Z) (mG b0 z0 M0) s (rmX (twd D T Z) 2 42 (mG b0 z0 M0)) H locs cells slots (mG b0 z0 M) → LH ls 4 [(0, .inr (.inl (some b0))), (1, .inl l1), (2, .inl l2)] → W p l e (rmX (twd D T Z) 2 42 (mG b0 z0 M0)) s m args below meth c H locs cells slots (MQX (twd D T Z) (mG b0 z0 M0) (mq b0 z0 (qV Q)) (fun _ _ => False) below s) (F0 m 42 ls [])) : ∀ (n : Nat) (l1 : Int32) (l3 : Int32) (M : MS) (H : Heap) (locs : List Loc) (cells slots : Nat) (ls : Array Slot), w_X11_readsRule_82 Q k42 n l1 l3 M → HI (twd D T Z) (mG b0 z0 M0) s (rmX (twd D T Z) 2 42 (mG b0 z0 M0)) H locs cells slots (mG b0 z0 M) → LH ls 4 [(0, .inr (.inl (some b0))), (1, .inl l1), (3, .inl l3)] → W p l e (rmX (twd D T Z) 2 42 (mG b0 z0 M0)) s m args below meth c H locs cells slots (MQX (twd D T Z) (mG b0 z0 M0) (mq b0 z0 (qV Q)) (fun _ _ => False) below s) (F0 m 82 ls []) := by
  intro n
  induction n with
  | zero => intro l1 l3 M H locs cells slots ls h; exact (show False from h).elim
  | succ n ih =>
    intro l1 l3 M H locs cells slots ls h I hl
    have hk82 := ih
    refine l_ild_n C dX11_readsRule_82 hl 2 rfl rfl ?_
    refine l_ald_n (x := some b0) C dX11_readsRule_83 hl 0 rfl rfl ?_
    refine f_A C I (fl_X11_65) (by decide) (by decide) dX11_readsRule_84 ?_
    refine l_ild_n C dX11_readsRule_87 hl 1 rfl rfl ?_
    obtain ⟨hi, h⟩ := h
    refine f_ld (k := 42) C I (by decide) hi dX11_readsRule_88 ?_
    refine lv_icmp_ge (tgt := 120) C.1 C.2.1 dX11_readsRule_89 (by decide) (fun c4 => ?_) (fun c4 => ?_)
    · have h := h.1 c4
      exact b_X11_readsRule_120 C hk42 l1 M _ _ _ _ _ h I (hl.sub [0, 1] rfl)
    · have h := h.2 c4
      refine l_ald_n (x := some b0) C dX11_readsRule_92 hl 0 rfl rfl ?_
      refine f_A C I (fl_X11_65) (by decide) (by decide) dX11_readsRule_93 ?_
      refine l_ild_n C dX11_readsRule_96 hl 1 rfl rfl ?_
      refine lv_iconst (v := 1) C.1 C.2.1 dX11_readsRule_97 (by decide) ?_
      refine lv_iadd C.1 C.2.1 dX11_readsRule_98 ?_
      refine l_ild_n C dX11_readsRule_99 hl 2 rfl rfl ?_
      refine lv_iadd C.1 C.2.1 dX11_readsRule_100 ?_
      obtain ⟨hi, h⟩ := h
      refine f_ld (k := 42) C I (by decide) hi dX11_readsRule_101 ?_
      refine l_ald_n (x := some b0) C dX11_readsRule_102 hl 0 rfl rfl ?_
      refine f_I C I (fl_X11_149) (by decide) dX11_readsRule_103 ?_
      refine lv_icmp_ne (tgt := 114) C.1 C.2.1 dX11_readsRule_106 (by decide) (fun c3 => ?_) (fun c3 => ?_)
      · have h := h.1 c3
        exact b_X11_readsRule_114 C hk42 hk82 l1 l3 M _ _ _ _ _ h I (hl.sub [0, 1, 2] rfl)
      · have h := h.2 c3
        refine l_ald_n (x := some b0) C dX11_readsRule_109 hl 0 rfl rfl ?_
        refine lv_iconst (v := 4) C.1 C.2.1 dX11_readsRule_110 (by decide) ?_
        refine k_call Ext.tr C I (k_V (r := some b0) (As := [.int ((4 : Int32))]) (rest := []) (y := yX11_faults) C (f_recv C I) q1643 q1645 qs54 (Or.inl rfl) q1646 (by decide) rfl pd_X11_faults rfl dX11_readsRule_111) (ct_X11_faults h) hl.1 dX11_readsRule_111 [] rfl (Nat.le_of_ble_eq_true rfl) (Or.inl rfl) q1646 q113 ⟨Nat.le_of_ble_eq_true rfl, Nat.le_of_ble_eq_true rfl⟩ (fun v x1 H locs cells slots ex hq I => ?_) (fun a x1 H locs cells slots ex hq I => hq.elim)
        obtain ⟨M1, rfl, rfl, h⟩ := hq
        exact b_X11_readsRule_114 C hk42 hk82 l1 l3 M1 _ _ _ _ _ h I (hl.sub [0, 1, 2] rfl)
def w_X11_readsRule_69 (Q : MS → Prop) (k42 : Int32 → Int32 → MS → Prop) (l1 : Int32) (M : MS) : Prop := w_X11_amongHere (fun r2 M1 => ((r2 = 0) → (w_X11_readsRule_120 Q k42 l1 M1)) ∧ ((¬ r2 = 0) → (∃ n, w_X11_readsRule_82 Q k42 n l1 ((0 : Int32)) M1))) (mF M 32) M
set_option maxHeartbeats 4000000 in
theorem b_X11_readsRule_69 {b0 z0 : Nat} {M0 : MS} {Q : MS → Prop} {k42 : Int32 → Int32 → MS → Prop} (C : Cx p s m meth c D T Z "EndingTownModel" cX11_readsRule 4 none) (hk42 : ∀ (l1 : Int32) (l2 : Int32) (M : MS) (H : Heap) (locs : List Loc) (cells slots : Nat) (ls : Array Slot), k42 l1 l2 M → HI (twd D T Z) (mG b0 z0 M0) s (rmX (twd D T Z) 2 42 (mG b0 z0 M0)) H locs cells slots (mG b0 z0 M) → LH ls 4 [(0, .inr (.inl (some b0))), (1, .inl l1), (2, .inl l2)] → W p l e (rmX (twd D T Z) 2 42 (mG b0 z0 M0)) s m args below meth c H locs cells slots (MQX (twd D T Z) (mG b0 z0 M0) (mq b0 z0 (qV Q)) (fun _ _ => False) below s) (F0 m 42 ls [])) : ∀ (l1 : Int32) (M : MS) (H : Heap) (locs : List Loc) (cells slots : Nat) (ls : Array Slot), w_X11_readsRule_69 Q k42 l1 M → HI (twd D T Z) (mG b0 z0 M0) s (rmX (twd D T Z) 2 42 (mG b0 z0 M0)) H locs cells slots (mG b0 z0 M) → LH ls 4 [(0, .inr (.inl (some b0))), (1, .inl l1)] → W p l e (rmX (twd D T Z) 2 42 (mG b0 z0 M0)) s m args below meth c H locs cells slots (MQX (twd D T Z) (mG b0 z0 M0) (mq b0 z0 (qV Q)) (fun _ _ => False) below s) (F0 m 69 ls []) := by
  intro l1 M H locs cells slots ls h I hl
  refine l_ald_n (x := some b0) C dX11_readsRule_69 hl 0 rfl rfl ?_
  refine l_ald_n (x := some b0) C dX11_readsRule_70 hl 0 rfl rfl ?_
  refine f_I C I (fl_X11_207) (by decide) dX11_readsRule_71 ?_
  refine k_call Ext.tr C I (k_V (r := some b0) (As := [.int (mF M 32)]) (rest := []) (y := yX11_amongHere) C (f_recv C I) q1667 q1669 qs60 (Or.inl rfl) q1670 (by decide) rfl pd_X11_amongHere rfl dX11_readsRule_74) (ct_X11_amongHere h) hl.1 dX11_readsRule_74 [] rfl (Nat.le_of_ble_eq_true rfl) (Or.inl rfl) q1670 q113 ⟨Nat.le_of_ble_eq_true rfl, Nat.le_of_ble_eq_true rfl⟩ (fun v x1 H locs cells slots ex hq I => ?_) (fun a x1 H locs cells slots ex hq I => hq.elim)
  obtain ⟨M1, rfl, r2, rfl, h⟩ := hq
  refine lv_if_eq (tgt := 120) C.1 C.2.1 dX11_readsRule_77 (by decide) (fun c3 => ?_) (fun c3 => ?_)
  · have h := h.1 c3
    exact b_X11_readsRule_120 C hk42 l1 M1 _ _ _ _ _ h I (hl.sub [0, 1] rfl)
  · have h := h.2 c3
    refine lv_iconst (v := 0) C.1 C.2.1 dX11_readsRule_80 (by decide) ?_
    refine l_ist_n C dX11_readsRule_81 rfl hl (by decide) rfl (fun ls hl => ?_)
    have hl : LH ls 4 [(3, .inl ((0 : Int32))), (0, .inr (.inl (some b0))), (1, .inl l1)] := hl
    obtain ⟨n, h⟩ := h
    exact b_X11_readsRule_82 C hk42 n l1 ((0 : Int32)) M1 _ _ _ _ _ h I (hl.sub [1, 2, 0] rfl)
def w_X11_readsRule_211 (Q : MS → Prop) (M : MS) : Prop := Q M
set_option maxHeartbeats 4000000 in
theorem b_X11_readsRule_211 {b0 z0 : Nat} {M0 : MS} {Q : MS → Prop} (C : Cx p s m meth c D T Z "EndingTownModel" cX11_readsRule 4 none) : ∀ (M : MS) (H : Heap) (locs : List Loc) (cells slots : Nat) (ls : Array Slot), w_X11_readsRule_211 Q M → HI (twd D T Z) (mG b0 z0 M0) s (rmX (twd D T Z) 2 42 (mG b0 z0 M0)) H locs cells slots (mG b0 z0 M) → LH ls 4 [] → W p l e (rmX (twd D T Z) 2 42 (mG b0 z0 M0)) s m args below meth c H locs cells slots (MQX (twd D T Z) (mG b0 z0 M0) (mq b0 z0 (qV Q)) (fun _ _ => False) below s) (F0 m 211 ls []) := by
  intro M H locs cells slots ls h I hl
  exact r_void C.1 C.2.1 C.2.2.2.2.2.1 C.2.2.2.2.2.2 ⟨rfl, rfl⟩ I dX11_readsRule_211 ⟨_, rfl, rfl, h⟩
def w_X11_readsRule_42 (Q : MS → Prop) : Nat → Int32 → Int32 → MS → Prop
  | 0 => fun _ _ _ => False
  | f42 + 1 => fun l1 l2 M => ((l2 = 0) → (w_X11_isGood (fun r2 M1 => ((r2 = 0) → (w_X11_readsRule_211 Q M1)) ∧ ((¬ r2 = 0) → (∀ M3 : MS, M3 = sF M1 33 ((mF M1 33 + (1 : Int32))) → w_X11_readsRule_211 Q M3))) M)) ∧ ((¬ l2 = 0) → (((¬ mF M 23 = (2 : Int32)) → (w_X11_readsRule_69 Q (w_X11_readsRule_42 Q f42) l1 M)) ∧ ((mF M 23 = (2 : Int32)) → (vp_in l1 (mlen 42) ∧ ((¬ mA M 42 l1.toNatClampNeg = (4 : Int32)) → (w_X11_readsRule_69 Q (w_X11_readsRule_42 Q f42) l1 M)) ∧ ((mA M 42 l1.toNatClampNeg = (4 : Int32)) → (w_X11_faults (fun M5 => w_X11_readsRule_69 Q (w_X11_readsRule_42 Q f42) l1 M5) ((2 : Int32)) M))))))
set_option maxHeartbeats 4000000 in
theorem b_X11_readsRule_42 {b0 z0 : Nat} {M0 : MS} {Q : MS → Prop} (C : Cx p s m meth c D T Z "EndingTownModel" cX11_readsRule 4 none) : ∀ (n : Nat) (l1 : Int32) (l2 : Int32) (M : MS) (H : Heap) (locs : List Loc) (cells slots : Nat) (ls : Array Slot), w_X11_readsRule_42 Q n l1 l2 M → HI (twd D T Z) (mG b0 z0 M0) s (rmX (twd D T Z) 2 42 (mG b0 z0 M0)) H locs cells slots (mG b0 z0 M) → LH ls 4 [(0, .inr (.inl (some b0))), (1, .inl l1), (2, .inl l2)] → W p l e (rmX (twd D T Z) 2 42 (mG b0 z0 M0)) s m args below meth c H locs cells slots (MQX (twd D T Z) (mG b0 z0 M0) (mq b0 z0 (qV Q)) (fun _ _ => False) below s) (F0 m 42 ls []) := by
  intro n
  induction n with
  | zero => intro l1 l2 M H locs cells slots ls h; exact (show False from h).elim
  | succ n ih =>
    intro l1 l2 M H locs cells slots ls h I hl
    have hk42 := ih
    refine l_ild_n C dX11_readsRule_42 hl 2 rfl rfl ?_
    refine lv_if_eq (tgt := 194) C.1 C.2.1 dX11_readsRule_43 (by decide) (fun c9 => ?_) (fun c9 => ?_)
    · have h := h.1 c9
      refine l_ald_n (x := some b0) C dX11_readsRule_194 hl 0 rfl rfl ?_
      refine k_call Ext.tr C I (k_V (r := some b0) (As := []) (rest := []) (y := yX11_isGood) C (f_recv C I) q1625 q1627 qs51 (Or.inl rfl) q1628 (by decide) rfl pd_X11_isGood rfl dX11_readsRule_195) (ct_X11_isGood h) hl.1 dX11_readsRule_195 [] rfl (Nat.le_of_ble_eq_true rfl) (Or.inl rfl) q1628 q113 ⟨Nat.le_of_ble_eq_true rfl, Nat.le_of_ble_eq_true rfl⟩ (fun v x1 H locs cells slots ex hq I => ?_) (fun a x1 H locs cells slots ex hq I => hq.elim)
      obtain ⟨M1, rfl, r2, rfl, h⟩ := hq
      refine lv_if_eq (tgt := 211) C.1 C.2.1 dX11_readsRule_198 (by decide) (fun c4 => ?_) (fun c4 => ?_)
      · have h := h.1 c4
        exact b_X11_readsRule_211 C M1 _ _ _ _ _ h I (hl.sub [] rfl)
      · have h := h.2 c4
        refine l_ald_n (x := some b0) C dX11_readsRule_201 hl 0 rfl rfl ?_
        refine lv_dup C.1 C.2.1 dX11_readsRule_202 (cat_rf _) ?_
        refine f_I C I (fl_X11_216) (by decide) dX11_readsRule_203 ?_
        refine lv_iconst (v := 1) C.1 C.2.1 dX11_readsRule_206 (by decide) ?_
        refine lv_iadd C.1 C.2.1 dX11_readsRule_207 ?_
        refine f_PI C I (fp_X11_216) (by decide) dX11_readsRule_208 (fit_i _) (fun H locs M3 eM3 I => ?_)
        have h := h M3 eM3
        exact b_X11_readsRule_211 C M3 _ _ _ _ _ h I (hl.sub [] rfl)
    · have h := h.2 c9
      refine l_ald_n (x := some b0) C dX11_readsRule_46 hl 0 rfl rfl ?_
      refine f_I C I (fl_X11_152) (by decide) dX11_readsRule_47 ?_
      refine lv_iconst (v := 2) C.1 C.2.1 dX11_readsRule_50 (by decide) ?_
      refine lv_icmp_ne (tgt := 69) C.1 C.2.1 dX11_readsRule_51 (by decide) (fun c8 => ?_) (fun c8 => ?_)
      · have h := h.1 c8
        exact b_X11_readsRule_69 C hk42 l1 M _ _ _ _ _ h I (hl.sub [0, 1] rfl)
      · have h := h.2 c8
        refine l_ald_n (x := some b0) C dX11_readsRule_54 hl 0 rfl rfl ?_
        refine f_A C I (fl_X11_65) (by decide) (by decide) dX11_readsRule_55 ?_
        refine l_ild_n C dX11_readsRule_58 hl 1 rfl rfl ?_
        obtain ⟨hi, h⟩ := h
        refine f_ld (k := 42) C I (by decide) hi dX11_readsRule_59 ?_
        refine lv_iconst (v := 4) C.1 C.2.1 dX11_readsRule_60 (by decide) ?_
        refine lv_icmp_ne (tgt := 69) C.1 C.2.1 dX11_readsRule_61 (by decide) (fun c7 => ?_) (fun c7 => ?_)
        · have h := h.1 c7
          exact b_X11_readsRule_69 C hk42 l1 M _ _ _ _ _ h I (hl.sub [0, 1] rfl)
        · have h := h.2 c7
          refine l_ald_n (x := some b0) C dX11_readsRule_64 hl 0 rfl rfl ?_
          refine lv_iconst (v := 2) C.1 C.2.1 dX11_readsRule_65 (by decide) ?_
          refine k_call Ext.tr C I (k_V (r := some b0) (As := [.int ((2 : Int32))]) (rest := []) (y := yX11_faults) C (f_recv C I) q1643 q1645 qs54 (Or.inl rfl) q1646 (by decide) rfl pd_X11_faults rfl dX11_readsRule_66) (ct_X11_faults h) hl.1 dX11_readsRule_66 [] rfl (Nat.le_of_ble_eq_true rfl) (Or.inl rfl) q1646 q113 ⟨Nat.le_of_ble_eq_true rfl, Nat.le_of_ble_eq_true rfl⟩ (fun v x1 H locs cells slots ex hq I => ?_) (fun a x1 H locs cells slots ex hq I => hq.elim)
          obtain ⟨M5, rfl, rfl, h⟩ := hq
          exact b_X11_readsRule_69 C hk42 l1 M5 _ _ _ _ _ h I (hl.sub [0, 1] rfl)
def w_X11_readsRule_14 (Q : MS → Prop) (M : MS) : Prop := w_X11_isGood (fun r2 M1 => ((¬ r2 = 0) → (w_X11_steps (fun M3 => vp_in (((5 : Int32) * mF M3 33)) (mlen 42) ∧ ∀ M5 : MS, M5 = sA M3 42 (((5 : Int32) * mF M3 33)).toNatClampNeg ((0 : Int32)) → ∃ n, w_X11_readsRule_42 Q n (((5 : Int32) * mF M3 33)) ((1 : Int32)) M5) M1)) ∧ ((r2 = 0) → (Q M1))) M
set_option maxHeartbeats 4000000 in
theorem b_X11_readsRule_14 {b0 z0 : Nat} {M0 : MS} {Q : MS → Prop} (C : Cx p s m meth c D T Z "EndingTownModel" cX11_readsRule 4 none) : ∀ (M : MS) (H : Heap) (locs : List Loc) (cells slots : Nat) (ls : Array Slot), w_X11_readsRule_14 Q M → HI (twd D T Z) (mG b0 z0 M0) s (rmX (twd D T Z) 2 42 (mG b0 z0 M0)) H locs cells slots (mG b0 z0 M) → LH ls 4 [(0, .inr (.inl (some b0)))] → W p l e (rmX (twd D T Z) 2 42 (mG b0 z0 M0)) s m args below meth c H locs cells slots (MQX (twd D T Z) (mG b0 z0 M0) (mq b0 z0 (qV Q)) (fun _ _ => False) below s) (F0 m 14 ls []) := by
  intro M H locs cells slots ls h I hl
  refine l_ald_n (x := some b0) C dX11_readsRule_14 hl 0 rfl rfl ?_
  refine k_call Ext.tr C I (k_V (r := some b0) (As := []) (rest := []) (y := yX11_isGood) C (f_recv C I) q1625 q1627 qs51 (Or.inl rfl) q1628 (by decide) rfl pd_X11_isGood rfl dX11_readsRule_15) (ct_X11_isGood h) hl.1 dX11_readsRule_15 [] rfl (Nat.le_of_ble_eq_true rfl) (Or.inl rfl) q1628 q113 ⟨Nat.le_of_ble_eq_true rfl, Nat.le_of_ble_eq_true rfl⟩ (fun v x1 H locs cells slots ex hq I => ?_) (fun a x1 H locs cells slots ex hq I => hq.elim)
  obtain ⟨M1, rfl, r2, rfl, h⟩ := hq
  refine lv_if_ne (tgt := 22) C.1 C.2.1 dX11_readsRule_18 (by decide) (fun c6 => ?_) (fun c6 => ?_)
  · have h := h.1 c6
    refine l_ald_n (x := some b0) C dX11_readsRule_22 hl 0 rfl rfl ?_
    refine k_call Ext.tr C I (k_V (r := some b0) (As := []) (rest := []) (y := yX11_steps) C (f_recv C I) q1611 q1613 qs49 (Or.inl rfl) q1614 (by decide) rfl pd_X11_steps rfl dX11_readsRule_23) (ct_X11_steps h) hl.1 dX11_readsRule_23 [] rfl (Nat.le_of_ble_eq_true rfl) (Or.inl rfl) q1614 q113 ⟨Nat.le_of_ble_eq_true rfl, Nat.le_of_ble_eq_true rfl⟩ (fun v x1 H locs cells slots ex hq I => ?_) (fun a x1 H locs cells slots ex hq I => hq.elim)
    obtain ⟨M3, rfl, rfl, h⟩ := hq
    refine lv_iconst (v := 5) C.1 C.2.1 dX11_readsRule_26 (by decide) ?_
    refine l_ald_n (x := some b0) C dX11_readsRule_27 hl 0 rfl rfl ?_
    refine f_I C I (fl_X11_216) (by decide) dX11_readsRule_28 ?_
    refine lv_imul C.1 C.2.1 dX11_readsRule_31 ?_
    refine l_ist_n C dX11_readsRule_32 rfl hl (by decide) rfl (fun ls hl => ?_)
    have hl : LH ls 4 [(1, .inl (((5 : Int32) * mF M3 33))), (0, .inr (.inl (some b0)))] := hl
    refine l_ald_n (x := some b0) C dX11_readsRule_33 hl 1 rfl rfl ?_
    refine f_A C I (fl_X11_65) (by decide) (by decide) dX11_readsRule_34 ?_
    refine l_ild_n C dX11_readsRule_37 hl 0 rfl rfl ?_
    refine lv_iconst (v := 0) C.1 C.2.1 dX11_readsRule_38 (by decide) ?_
    obtain ⟨hi, h⟩ := h
    refine f_st (k := 42) C I (by decide) hi dX11_readsRule_39 (fun H locs M5 eM5 I => ?_)
    have h := h M5 eM5
    refine lv_iconst (v := 1) C.1 C.2.1 dX11_readsRule_40 (by decide) ?_
    refine l_ist_n C dX11_readsRule_41 rfl hl (by decide) rfl (fun ls hl => ?_)
    have hl : LH ls 4 [(2, .inl ((1 : Int32))), (1, .inl (((5 : Int32) * mF M3 33))), (0, .inr (.inl (some b0)))] := hl
    obtain ⟨n, h⟩ := h
    exact b_X11_readsRule_42 C n (((5 : Int32) * mF M3 33)) ((1 : Int32)) M5 _ _ _ _ _ h I (hl.sub [2, 1, 0] rfl)
  · have h := h.2 c6
    exact r_void C.1 C.2.1 C.2.2.2.2.2.1 C.2.2.2.2.2.2 ⟨rfl, rfl⟩ I dX11_readsRule_21 ⟨_, rfl, rfl, h⟩
def w_X11_readsRule (Q : MS → Prop) (M : MS) : Prop := ((¬ mF M 33 = (6 : Int32)) → (w_X11_readsRule_14 Q M)) ∧ ((mF M 33 = (6 : Int32)) → (w_X11_faults (fun M1 => w_X11_readsRule_14 Q M1) ((2 : Int32)) M))
theorem pd_X11_readsRule : (parseMethodDescriptor yX11_readsRule.desc).map (fun d => d.parameters.length) = some 0 := by decide +kernel
set_option maxHeartbeats 4000000 in
theorem ct_X11_readsRule {l : Launch} {D : va_G} {T : Nat → ClassId} {Z : Heap} {b0 z0 : Nat} {M0 : MS} {Q : MS → Prop} (hw : w_X11_readsRule Q M0) : CT (twd D T Z) (Evd D T Z) l yX11_readsRule (Cond.code yX11_readsRule cX11_readsRule 4 none) 2 42 [va_rf (some b0)] (mG b0 z0 M0) (mq b0 z0 (qV Q)) (fun _ _ => False) := by
  refine CT.ofW (cc := cX11_readsRule) (nL := 4) (ret := none) Ext.rf (by decide) (Or.inl rfl) ?_
  intro p e s m below meth c hx hb hml hown hr hlk hnm hcb hm hc hn hE I
  have C : Cx p s m meth c D T Z "EndingTownModel" cX11_readsRule 4 none := ⟨hx, hb, hml, hown, hE, hr, hlk⟩
  refine w_entry [.inr (.inl (some b0))] (Nat.le_of_ble_eq_true rfl) (fun ls hl => ?_)
  have hl : LH ls 4 [(0, .inr (.inl (some b0)))] := hl
  have h := hw
  refine l_ald_n (x := some b0) C dX11_readsRule_0 hl 0 rfl rfl ?_
  refine f_I C I (fl_X11_216) (by decide) dX11_readsRule_1 ?_
  refine lv_bipush (v := 6) C.1 C.2.1 dX11_readsRule_4 (by decide) ?_
  refine lv_icmp_ne (tgt := 14) C.1 C.2.1 dX11_readsRule_6 (by decide) (fun c3 => ?_) (fun c3 => ?_)
  · have h := h.1 c3
    exact b_X11_readsRule_14 C M0 _ _ _ _ _ h I (hl.sub [0] rfl)
  · have h := h.2 c3
    refine l_ald_n (x := some b0) C dX11_readsRule_9 hl 0 rfl rfl ?_
    refine lv_iconst (v := 2) C.1 C.2.1 dX11_readsRule_10 (by decide) ?_
    refine k_call Ext.tr C I (k_V (r := some b0) (As := [.int ((2 : Int32))]) (rest := []) (y := yX11_faults) C (f_recv C I) q1643 q1645 qs54 (Or.inl rfl) q1646 (by decide) rfl pd_X11_faults rfl dX11_readsRule_11) (ct_X11_faults h) hl.1 dX11_readsRule_11 [] rfl (Nat.le_of_ble_eq_true rfl) (Or.inl rfl) q1646 q113 ⟨Nat.le_of_ble_eq_true rfl, Nat.le_of_ble_eq_true rfl⟩ (fun v x1 H locs cells slots ex hq I => ?_) (fun a x1 H locs cells slots ex hq I => hq.elim)
    obtain ⟨M1, rfl, rfl, h⟩ := hq
    exact b_X11_readsRule_14 C M1 _ _ _ _ _ h I (hl.sub [0] rfl)
def w_X11_readsThing_79 (Q : MS → Prop) (k51 : Int32 → Int32 → MS → Prop) (l1 : Int32) (l2 : Int32) (M : MS) : Prop := k51 l1 ((l2 + 1)) M
set_option maxHeartbeats 4000000 in
theorem b_X11_readsThing_79 {b0 z0 : Nat} {M0 : MS} {Q : MS → Prop} {k51 : Int32 → Int32 → MS → Prop} (C : Cx p s m meth c D T Z "EndingTownModel" cX11_readsThing 3 none) (hk51 : ∀ (l1 : Int32) (l2 : Int32) (M : MS) (H : Heap) (locs : List Loc) (cells slots : Nat) (ls : Array Slot), k51 l1 l2 M → HI (twd D T Z) (mG b0 z0 M0) s (rmX (twd D T Z) 3 68 (mG b0 z0 M0)) H locs cells slots (mG b0 z0 M) → LH ls 3 [(0, .inr (.inl (some b0))), (1, .inl l1), (2, .inl l2)] → W p l e (rmX (twd D T Z) 3 68 (mG b0 z0 M0)) s m args below meth c H locs cells slots (MQX (twd D T Z) (mG b0 z0 M0) (mq b0 z0 (qV Q)) (fun _ _ => False) below s) (F0 m 51 ls [])) : ∀ (l1 : Int32) (l2 : Int32) (M : MS) (H : Heap) (locs : List Loc) (cells slots : Nat) (ls : Array Slot), w_X11_readsThing_79 Q k51 l1 l2 M → HI (twd D T Z) (mG b0 z0 M0) s (rmX (twd D T Z) 3 68 (mG b0 z0 M0)) H locs cells slots (mG b0 z0 M) → LH ls 3 [(0, .inr (.inl (some b0))), (1, .inl l1), (2, .inl l2)] → W p l e (rmX (twd D T Z) 3 68 (mG b0 z0 M0)) s m args below meth c H locs cells slots (MQX (twd D T Z) (mG b0 z0 M0) (mq b0 z0 (qV Q)) (fun _ _ => False) below s) (F0 m 79 ls []) := by
  intro l1 l2 M H locs cells slots ls h I hl
  refine l_inc (q := 2) (v := 1) C dX11_readsThing_79 hl rfl (by decide) (by decide) rfl (fun ls hl => ?_)
  have hl : LH ls 3 [(2, .inl ((l2 + 1))), (0, .inr (.inl (some b0))), (1, .inl l1)] := hl
  refine lv_goto (tgt := 51) C.1 C.2.1 dX11_readsThing_82 (by decide) ?_
  exact hk51 l1 ((l2 + 1)) M _ _ _ _ _ h I (hl.sub [1, 2, 0] rfl)
def w_X11_readsThing_244 (Q : MS → Prop) (M : MS) : Prop := Q M
set_option maxHeartbeats 4000000 in
theorem b_X11_readsThing_244 {b0 z0 : Nat} {M0 : MS} {Q : MS → Prop} (C : Cx p s m meth c D T Z "EndingTownModel" cX11_readsThing 3 none) : ∀ (M : MS) (H : Heap) (locs : List Loc) (cells slots : Nat) (ls : Array Slot), w_X11_readsThing_244 Q M → HI (twd D T Z) (mG b0 z0 M0) s (rmX (twd D T Z) 3 68 (mG b0 z0 M0)) H locs cells slots (mG b0 z0 M) → LH ls 3 [] → W p l e (rmX (twd D T Z) 3 68 (mG b0 z0 M0)) s m args below meth c H locs cells slots (MQX (twd D T Z) (mG b0 z0 M0) (mq b0 z0 (qV Q)) (fun _ _ => False) below s) (F0 m 244 ls []) := by
  intro M H locs cells slots ls h I hl
  exact r_void C.1 C.2.1 C.2.2.2.2.2.1 C.2.2.2.2.2.2 ⟨rfl, rfl⟩ I dX11_readsThing_244 ⟨_, rfl, rfl, h⟩
def w_X11_readsThing_227 (Q : MS → Prop) (M : MS) : Prop := w_X11_isGood (fun r2 M1 => ((r2 = 0) → (w_X11_readsThing_244 Q M1)) ∧ ((¬ r2 = 0) → (∀ M3 : MS, M3 = sF M1 32 ((mF M1 32 + (1 : Int32))) → w_X11_readsThing_244 Q M3))) M
set_option maxHeartbeats 4000000 in
theorem b_X11_readsThing_227 {b0 z0 : Nat} {M0 : MS} {Q : MS → Prop} (C : Cx p s m meth c D T Z "EndingTownModel" cX11_readsThing 3 none) : ∀ (M : MS) (H : Heap) (locs : List Loc) (cells slots : Nat) (ls : Array Slot), w_X11_readsThing_227 Q M → HI (twd D T Z) (mG b0 z0 M0) s (rmX (twd D T Z) 3 68 (mG b0 z0 M0)) H locs cells slots (mG b0 z0 M) → LH ls 3 [(0, .inr (.inl (some b0)))] → W p l e (rmX (twd D T Z) 3 68 (mG b0 z0 M0)) s m args below meth c H locs cells slots (MQX (twd D T Z) (mG b0 z0 M0) (mq b0 z0 (qV Q)) (fun _ _ => False) below s) (F0 m 227 ls []) := by
  intro M H locs cells slots ls h I hl
  refine l_ald_n (x := some b0) C dX11_readsThing_227 hl 0 rfl rfl ?_
  refine k_call Ext.tr C I (k_V (r := some b0) (As := []) (rest := []) (y := yX11_isGood) C (f_recv C I) q1625 q1627 qs51 (Or.inl rfl) q1628 (by decide) rfl pd_X11_isGood rfl dX11_readsThing_228) (ct_X11_isGood h) hl.1 dX11_readsThing_228 [] rfl (Nat.le_of_ble_eq_true rfl) (Or.inl rfl) q1628 q113 ⟨Nat.le_of_ble_eq_true rfl, Nat.le_of_ble_eq_true rfl⟩ (fun v x1 H locs cells slots ex hq I => ?_) (fun a x1 H locs cells slots ex hq I => hq.elim)
  obtain ⟨M1, rfl, r2, rfl, h⟩ := hq
  refine lv_if_eq (tgt := 244) C.1 C.2.1 dX11_readsThing_231 (by decide) (fun c4 => ?_) (fun c4 => ?_)
  · have h := h.1 c4
    exact b_X11_readsThing_244 C M1 _ _ _ _ _ h I (hl.sub [] rfl)
  · have h := h.2 c4
    refine l_ald_n (x := some b0) C dX11_readsThing_234 hl 0 rfl rfl ?_
    refine lv_dup C.1 C.2.1 dX11_readsThing_235 (cat_rf _) ?_
    refine f_I C I (fl_X11_207) (by decide) dX11_readsThing_236 ?_
    refine lv_iconst (v := 1) C.1 C.2.1 dX11_readsThing_239 (by decide) ?_
    refine lv_iadd C.1 C.2.1 dX11_readsThing_240 ?_
    refine f_PI C I (fp_X11_207) (by decide) dX11_readsThing_241 (fit_i _) (fun H locs M3 eM3 I => ?_)
    have h := h M3 eM3
    exact b_X11_readsThing_244 C M3 _ _ _ _ _ h I (hl.sub [] rfl)
def w_X11_readsThing_210 (Q : MS → Prop) (l1 : Int32) (t0 : Int32) (t1 : Int32) (t2 : Nat) (M : MS) : Prop := mlen t2 ≠ 0 ∧ vp_in t1 (mlen t2) ∧ ∀ M1 : MS, M1 = sA M t2 t1.toNatClampNeg t0 → vp_in ((l1 + (4 : Int32))) (mlen 41) ∧ ((¬ mA M1 41 ((l1 + (4 : Int32))).toNatClampNeg = (1 : Int32)) → (w_X11_readsThing_227 Q M1)) ∧ ((mA M1 41 ((l1 + (4 : Int32))).toNatClampNeg = (1 : Int32)) → (w_X11_steps (fun M2 => w_X11_readsThing_227 Q M2) M1))
set_option maxHeartbeats 4000000 in
theorem b_X11_readsThing_210 {b0 z0 : Nat} {M0 : MS} {Q : MS → Prop} (C : Cx p s m meth c D T Z "EndingTownModel" cX11_readsThing 3 none) : ∀ (l1 : Int32) (t0 : Int32) (t1 : Int32) (t2 : Nat) (M : MS) (H : Heap) (locs : List Loc) (cells slots : Nat) (ls : Array Slot), w_X11_readsThing_210 Q l1 t0 t1 t2 M → HI (twd D T Z) (mG b0 z0 M0) s (rmX (twd D T Z) 3 68 (mG b0 z0 M0)) H locs cells slots (mG b0 z0 M) → LH ls 3 [(0, .inr (.inl (some b0))), (1, .inl l1)] → W p l e (rmX (twd D T Z) 3 68 (mG b0 z0 M0)) s m args below meth c H locs cells slots (MQX (twd D T Z) (mG b0 z0 M0) (mq b0 z0 (qV Q)) (fun _ _ => False) below s) (F0 m 210 ls [.int t0, .int t1, va_rf (some (b0 + moff t2))]) := by
  intro l1 t0 t1 t2 M H locs cells slots ls h I hl
  obtain ⟨hm, h⟩ := h
  obtain ⟨hi, h⟩ := h
  refine f_st (k := t2) C I hm hi dX11_readsThing_210 (fun H locs M1 eM1 I => ?_)
  have h := h M1 eM1
  refine l_ald_n (x := some b0) C dX11_readsThing_211 hl 0 rfl rfl ?_
  refine f_A C I (fl_X11_62) (by decide) (by decide) dX11_readsThing_212 ?_
  refine l_ild_n C dX11_readsThing_215 hl 1 rfl rfl ?_
  refine lv_iconst (v := 4) C.1 C.2.1 dX11_readsThing_216 (by decide) ?_
  refine lv_iadd C.1 C.2.1 dX11_readsThing_217 ?_
  obtain ⟨hi, h⟩ := h
  refine f_ld (k := 41) C I (by decide) hi dX11_readsThing_218 ?_
  refine lv_iconst (v := 1) C.1 C.2.1 dX11_readsThing_219 (by decide) ?_
  refine lv_icmp_ne (tgt := 227) C.1 C.2.1 dX11_readsThing_220 (by decide) (fun c4 => ?_) (fun c4 => ?_)
  · have h := h.1 c4
    exact b_X11_readsThing_227 C M1 _ _ _ _ _ h I (hl.sub [0] rfl)
  · have h := h.2 c4
    refine l_ald_n (x := some b0) C dX11_readsThing_223 hl 0 rfl rfl ?_
    refine k_call Ext.tr C I (k_V (r := some b0) (As := []) (rest := []) (y := yX11_steps) C (f_recv C I) q1611 q1613 qs49 (Or.inl rfl) q1614 (by decide) rfl pd_X11_steps rfl dX11_readsThing_224) (ct_X11_steps h) hl.1 dX11_readsThing_224 [] rfl (Nat.le_of_ble_eq_true rfl) (Or.inl rfl) q1614 q113 ⟨Nat.le_of_ble_eq_true rfl, Nat.le_of_ble_eq_true rfl⟩ (fun v x1 H locs cells slots ex hq I => ?_) (fun a x1 H locs cells slots ex hq I => hq.elim)
    obtain ⟨M2, rfl, rfl, h⟩ := hq
    exact b_X11_readsThing_227 C M2 _ _ _ _ _ h I (hl.sub [0] rfl)
def w_X11_readsThing_209 (Q : MS → Prop) (l1 : Int32) (t0 : Int32) (t1 : Nat) (M : MS) : Prop := w_X11_readsThing_210 Q l1 ((0 : Int32)) t0 t1 M
set_option maxHeartbeats 4000000 in
theorem b_X11_readsThing_209 {b0 z0 : Nat} {M0 : MS} {Q : MS → Prop} (C : Cx p s m meth c D T Z "EndingTownModel" cX11_readsThing 3 none) : ∀ (l1 : Int32) (t0 : Int32) (t1 : Nat) (M : MS) (H : Heap) (locs : List Loc) (cells slots : Nat) (ls : Array Slot), w_X11_readsThing_209 Q l1 t0 t1 M → HI (twd D T Z) (mG b0 z0 M0) s (rmX (twd D T Z) 3 68 (mG b0 z0 M0)) H locs cells slots (mG b0 z0 M) → LH ls 3 [(0, .inr (.inl (some b0))), (1, .inl l1)] → W p l e (rmX (twd D T Z) 3 68 (mG b0 z0 M0)) s m args below meth c H locs cells slots (MQX (twd D T Z) (mG b0 z0 M0) (mq b0 z0 (qV Q)) (fun _ _ => False) below s) (F0 m 209 ls [.int t0, va_rf (some (b0 + moff t1))]) := by
  intro l1 t0 t1 M H locs cells slots ls h I hl
  refine lv_iconst (v := 0) C.1 C.2.1 dX11_readsThing_209 (by decide) ?_
  exact b_X11_readsThing_210 C l1 ((0 : Int32)) t0 t1 M _ _ _ _ _ h I (hl.sub [0, 1] rfl)
def w_X11_readsThing_182 (Q : MS → Prop) (l1 : Int32) (M : MS) : Prop := w_X11_isGood (fun r2 M1 => ((r2 = 0) → (w_X11_readsThing_209 Q l1 ((l1 + (4 : Int32))) 41 M1)) ∧ ((¬ r2 = 0) → (w_X11_is (fun r4 M3 => ((r4 = 0) → (w_X11_readsThing_209 Q l1 ((l1 + (4 : Int32))) 41 M3)) ∧ ((¬ r4 = 0) → (w_X11_readsThing_210 Q l1 ((1 : Int32)) ((l1 + (4 : Int32))) 41 M3))) ((12 : Int32)) M1))) M
set_option maxHeartbeats 4000000 in
theorem b_X11_readsThing_182 {b0 z0 : Nat} {M0 : MS} {Q : MS → Prop} (C : Cx p s m meth c D T Z "EndingTownModel" cX11_readsThing 3 none) : ∀ (l1 : Int32) (M : MS) (H : Heap) (locs : List Loc) (cells slots : Nat) (ls : Array Slot), w_X11_readsThing_182 Q l1 M → HI (twd D T Z) (mG b0 z0 M0) s (rmX (twd D T Z) 3 68 (mG b0 z0 M0)) H locs cells slots (mG b0 z0 M) → LH ls 3 [(0, .inr (.inl (some b0))), (1, .inl l1)] → W p l e (rmX (twd D T Z) 3 68 (mG b0 z0 M0)) s m args below meth c H locs cells slots (MQX (twd D T Z) (mG b0 z0 M0) (mq b0 z0 (qV Q)) (fun _ _ => False) below s) (F0 m 182 ls []) := by
  intro l1 M H locs cells slots ls h I hl
  refine l_ald_n (x := some b0) C dX11_readsThing_182 hl 0 rfl rfl ?_
  refine f_A C I (fl_X11_62) (by decide) (by decide) dX11_readsThing_183 ?_
  refine l_ild_n C dX11_readsThing_186 hl 1 rfl rfl ?_
  refine lv_iconst (v := 4) C.1 C.2.1 dX11_readsThing_187 (by decide) ?_
  refine lv_iadd C.1 C.2.1 dX11_readsThing_188 ?_
  refine l_ald_n (x := some b0) C dX11_readsThing_189 hl 0 rfl rfl ?_
  refine k_call Ext.tr C I (k_V (r := some b0) (As := []) (rest := [.int ((l1 + (4 : Int32))), va_rf (some (b0 + moff 41))]) (y := yX11_isGood) C (f_recv C I) q1625 q1627 qs51 (Or.inl rfl) q1628 (by decide) rfl pd_X11_isGood rfl dX11_readsThing_190) (ct_X11_isGood h) hl.1 dX11_readsThing_190 [.inl ((l1 + (4 : Int32))), .inr (.inl (some (b0 + moff 41)))] rfl (Nat.le_of_ble_eq_true rfl) (Or.inl rfl) q1628 q113 ⟨Nat.le_of_ble_eq_true rfl, Nat.le_of_ble_eq_true rfl⟩ (fun v x1 H locs cells slots ex hq I => ?_) (fun a x1 H locs cells slots ex hq I => hq.elim)
  obtain ⟨M1, rfl, r2, rfl, h⟩ := hq
  refine lv_if_eq (tgt := 209) C.1 C.2.1 dX11_readsThing_193 (by decide) (fun c6 => ?_) (fun c6 => ?_)
  · have h := h.1 c6
    exact b_X11_readsThing_209 C l1 ((l1 + (4 : Int32))) 41 M1 _ _ _ _ _ h I (hl.sub [0, 1] rfl)
  · have h := h.2 c6
    refine l_ald_n (x := some b0) C dX11_readsThing_196 hl 0 rfl rfl ?_
    refine lv_bipush (v := 12) C.1 C.2.1 dX11_readsThing_197 (by decide) ?_
    refine k_call Ext.tr C I (k_V (r := some b0) (As := [.int ((12 : Int32))]) (rest := [.int ((l1 + (4 : Int32))), va_rf (some (b0 + moff 41))]) (y := yX11_is) C (f_recv C I) q1633 q1635 qs53 (Or.inl rfl) q1636 (by decide) rfl pd_X11_is rfl dX11_readsThing_199) (ct_X11_is h) hl.1 dX11_readsThing_199 [.inl ((l1 + (4 : Int32))), .inr (.inl (some (b0 + moff 41)))] rfl (Nat.le_of_ble_eq_true rfl) (Or.inl rfl) q1636 q113 ⟨Nat.le_of_ble_eq_true rfl, Nat.le_of_ble_eq_true rfl⟩ (fun v x1 H locs cells slots ex hq I => ?_) (fun a x1 H locs cells slots ex hq I => hq.elim)
    obtain ⟨M3, rfl, r4, rfl, h⟩ := hq
    refine lv_if_eq (tgt := 209) C.1 C.2.1 dX11_readsThing_202 (by decide) (fun c5 => ?_) (fun c5 => ?_)
    · have h := h.1 c5
      exact b_X11_readsThing_209 C l1 ((l1 + (4 : Int32))) 41 M3 _ _ _ _ _ h I (hl.sub [0, 1] rfl)
    · have h := h.2 c5
      refine lv_iconst (v := 1) C.1 C.2.1 dX11_readsThing_205 (by decide) ?_
      refine lv_goto (tgt := 210) C.1 C.2.1 dX11_readsThing_206 (by decide) ?_
      exact b_X11_readsThing_210 C l1 ((1 : Int32)) ((l1 + (4 : Int32))) 41 M3 _ _ _ _ _ h I (hl.sub [0, 1] rfl)
def w_X11_readsThing_165 (Q : MS → Prop) (l1 : Int32) (t0 : Int32) (t1 : Int32) (t2 : Nat) (M : MS) : Prop := mlen t2 ≠ 0 ∧ vp_in t1 (mlen t2) ∧ ∀ M1 : MS, M1 = sA M t2 t1.toNatClampNeg t0 → vp_in ((l1 + (3 : Int32))) (mlen 41) ∧ ((¬ mA M1 41 ((l1 + (3 : Int32))).toNatClampNeg = (1 : Int32)) → (w_X11_readsThing_182 Q l1 M1)) ∧ ((mA M1 41 ((l1 + (3 : Int32))).toNatClampNeg = (1 : Int32)) → (w_X11_steps (fun M2 => w_X11_readsThing_182 Q l1 M2) M1))
set_option maxHeartbeats 4000000 in
theorem b_X11_readsThing_165 {b0 z0 : Nat} {M0 : MS} {Q : MS → Prop} (C : Cx p s m meth c D T Z "EndingTownModel" cX11_readsThing 3 none) : ∀ (l1 : Int32) (t0 : Int32) (t1 : Int32) (t2 : Nat) (M : MS) (H : Heap) (locs : List Loc) (cells slots : Nat) (ls : Array Slot), w_X11_readsThing_165 Q l1 t0 t1 t2 M → HI (twd D T Z) (mG b0 z0 M0) s (rmX (twd D T Z) 3 68 (mG b0 z0 M0)) H locs cells slots (mG b0 z0 M) → LH ls 3 [(0, .inr (.inl (some b0))), (1, .inl l1)] → W p l e (rmX (twd D T Z) 3 68 (mG b0 z0 M0)) s m args below meth c H locs cells slots (MQX (twd D T Z) (mG b0 z0 M0) (mq b0 z0 (qV Q)) (fun _ _ => False) below s) (F0 m 165 ls [.int t0, .int t1, va_rf (some (b0 + moff t2))]) := by
  intro l1 t0 t1 t2 M H locs cells slots ls h I hl
  obtain ⟨hm, h⟩ := h
  obtain ⟨hi, h⟩ := h
  refine f_st (k := t2) C I hm hi dX11_readsThing_165 (fun H locs M1 eM1 I => ?_)
  have h := h M1 eM1
  refine l_ald_n (x := some b0) C dX11_readsThing_166 hl 0 rfl rfl ?_
  refine f_A C I (fl_X11_62) (by decide) (by decide) dX11_readsThing_167 ?_
  refine l_ild_n C dX11_readsThing_170 hl 1 rfl rfl ?_
  refine lv_iconst (v := 3) C.1 C.2.1 dX11_readsThing_171 (by decide) ?_
  refine lv_iadd C.1 C.2.1 dX11_readsThing_172 ?_
  obtain ⟨hi, h⟩ := h
  refine f_ld (k := 41) C I (by decide) hi dX11_readsThing_173 ?_
  refine lv_iconst (v := 1) C.1 C.2.1 dX11_readsThing_174 (by decide) ?_
  refine lv_icmp_ne (tgt := 182) C.1 C.2.1 dX11_readsThing_175 (by decide) (fun c4 => ?_) (fun c4 => ?_)
  · have h := h.1 c4
    exact b_X11_readsThing_182 C l1 M1 _ _ _ _ _ h I (hl.sub [0, 1] rfl)
  · have h := h.2 c4
    refine l_ald_n (x := some b0) C dX11_readsThing_178 hl 0 rfl rfl ?_
    refine k_call Ext.tr C I (k_V (r := some b0) (As := []) (rest := []) (y := yX11_steps) C (f_recv C I) q1611 q1613 qs49 (Or.inl rfl) q1614 (by decide) rfl pd_X11_steps rfl dX11_readsThing_179) (ct_X11_steps h) hl.1 dX11_readsThing_179 [] rfl (Nat.le_of_ble_eq_true rfl) (Or.inl rfl) q1614 q113 ⟨Nat.le_of_ble_eq_true rfl, Nat.le_of_ble_eq_true rfl⟩ (fun v x1 H locs cells slots ex hq I => ?_) (fun a x1 H locs cells slots ex hq I => hq.elim)
    obtain ⟨M2, rfl, rfl, h⟩ := hq
    exact b_X11_readsThing_182 C l1 M2 _ _ _ _ _ h I (hl.sub [0, 1] rfl)
def w_X11_readsThing_164 (Q : MS → Prop) (l1 : Int32) (t0 : Int32) (t1 : Nat) (M : MS) : Prop := w_X11_readsThing_165 Q l1 ((0 : Int32)) t0 t1 M
set_option maxHeartbeats 4000000 in
theorem b_X11_readsThing_164 {b0 z0 : Nat} {M0 : MS} {Q : MS → Prop} (C : Cx p s m meth c D T Z "EndingTownModel" cX11_readsThing 3 none) : ∀ (l1 : Int32) (t0 : Int32) (t1 : Nat) (M : MS) (H : Heap) (locs : List Loc) (cells slots : Nat) (ls : Array Slot), w_X11_readsThing_164 Q l1 t0 t1 M → HI (twd D T Z) (mG b0 z0 M0) s (rmX (twd D T Z) 3 68 (mG b0 z0 M0)) H locs cells slots (mG b0 z0 M) → LH ls 3 [(0, .inr (.inl (some b0))), (1, .inl l1)] → W p l e (rmX (twd D T Z) 3 68 (mG b0 z0 M0)) s m args below meth c H locs cells slots (MQX (twd D T Z) (mG b0 z0 M0) (mq b0 z0 (qV Q)) (fun _ _ => False) below s) (F0 m 164 ls [.int t0, va_rf (some (b0 + moff t1))]) := by
  intro l1 t0 t1 M H locs cells slots ls h I hl
  refine lv_iconst (v := 0) C.1 C.2.1 dX11_readsThing_164 (by decide) ?_
  exact b_X11_readsThing_165 C l1 ((0 : Int32)) t0 t1 M _ _ _ _ _ h I (hl.sub [0, 1] rfl)
def w_X11_readsThing_106 (Q : MS → Prop) (l1 : Int32) (M : MS) : Prop := w_X11_among (fun r2 M1 => vp_in ((l1 + (1 : Int32))) (mlen 41) ∧ ∀ M3 : MS, M3 = sA M1 41 ((l1 + (1 : Int32))).toNatClampNeg r2 → w_X11_number (fun r5 M4 => vp_in ((l1 + (2 : Int32))) (mlen 41) ∧ ∀ M6 : MS, M6 = sA M4 41 ((l1 + (2 : Int32))).toNatClampNeg r5 → w_X11_isGood (fun r8 M7 => ((r8 = 0) → (w_X11_readsThing_164 Q l1 ((l1 + (3 : Int32))) 41 M7)) ∧ ((¬ r8 = 0) → (w_X11_is (fun r10 M9 => ((r10 = 0) → (w_X11_readsThing_164 Q l1 ((l1 + (3 : Int32))) 41 M9)) ∧ ((¬ r10 = 0) → (w_X11_readsThing_165 Q l1 ((1 : Int32)) ((l1 + (3 : Int32))) 41 M9))) ((11 : Int32)) M7))) M6) ((0 : Int32)) ((23 : Int32)) M3) (mF M 30) M
set_option maxHeartbeats 4000000 in
theorem b_X11_readsThing_106 {b0 z0 : Nat} {M0 : MS} {Q : MS → Prop} (C : Cx p s m meth c D T Z "EndingTownModel" cX11_readsThing 3 none) : ∀ (l1 : Int32) (M : MS) (H : Heap) (locs : List Loc) (cells slots : Nat) (ls : Array Slot), w_X11_readsThing_106 Q l1 M → HI (twd D T Z) (mG b0 z0 M0) s (rmX (twd D T Z) 3 68 (mG b0 z0 M0)) H locs cells slots (mG b0 z0 M) → LH ls 3 [(0, .inr (.inl (some b0))), (1, .inl l1)] → W p l e (rmX (twd D T Z) 3 68 (mG b0 z0 M0)) s m args below meth c H locs cells slots (MQX (twd D T Z) (mG b0 z0 M0) (mq b0 z0 (qV Q)) (fun _ _ => False) below s) (F0 m 106 ls []) := by
  intro l1 M H locs cells slots ls h I hl
  refine l_ald_n (x := some b0) C dX11_readsThing_106 hl 0 rfl rfl ?_
  refine f_A C I (fl_X11_62) (by decide) (by decide) dX11_readsThing_107 ?_
  refine l_ild_n C dX11_readsThing_110 hl 1 rfl rfl ?_
  refine lv_iconst (v := 1) C.1 C.2.1 dX11_readsThing_111 (by decide) ?_
  refine lv_iadd C.1 C.2.1 dX11_readsThing_112 ?_
  refine l_ald_n (x := some b0) C dX11_readsThing_113 hl 0 rfl rfl ?_
  refine l_ald_n (x := some b0) C dX11_readsThing_114 hl 0 rfl rfl ?_
  refine f_I C I (fl_X11_201) (by decide) dX11_readsThing_115 ?_
  refine k_call Ext.tr C I (k_V (r := some b0) (As := [.int (mF M 30)]) (rest := [.int ((l1 + (1 : Int32))), va_rf (some (b0 + moff 41))]) (y := yX11_among) C (f_recv C I) q1663 q1665 qs59 (Or.inl rfl) q1666 (by decide) rfl pd_X11_among rfl dX11_readsThing_118) (ct_X11_among h) hl.1 dX11_readsThing_118 [.inl ((l1 + (1 : Int32))), .inr (.inl (some (b0 + moff 41)))] rfl (Nat.le_of_ble_eq_true rfl) (Or.inl rfl) q1666 q113 ⟨Nat.le_of_ble_eq_true rfl, Nat.le_of_ble_eq_true rfl⟩ (fun v x1 H locs cells slots ex hq I => ?_) (fun a x1 H locs cells slots ex hq I => hq.elim)
  obtain ⟨M1, rfl, r2, rfl, h⟩ := hq
  obtain ⟨hi, h⟩ := h
  refine f_st (k := 41) C I (by decide) hi dX11_readsThing_121 (fun H locs M3 eM3 I => ?_)
  have h := h M3 eM3
  refine l_ald_n (x := some b0) C dX11_readsThing_122 hl 0 rfl rfl ?_
  refine f_A C I (fl_X11_62) (by decide) (by decide) dX11_readsThing_123 ?_
  refine l_ild_n C dX11_readsThing_126 hl 1 rfl rfl ?_
  refine lv_iconst (v := 2) C.1 C.2.1 dX11_readsThing_127 (by decide) ?_
  refine lv_iadd C.1 C.2.1 dX11_readsThing_128 ?_
  refine l_ald_n (x := some b0) C dX11_readsThing_129 hl 0 rfl rfl ?_
  refine lv_iconst (v := 0) C.1 C.2.1 dX11_readsThing_130 (by decide) ?_
  refine lv_bipush (v := 23) C.1 C.2.1 dX11_readsThing_131 (by decide) ?_
  refine k_call Ext.tr C I (k_V (r := some b0) (As := [.int ((0 : Int32)), .int ((23 : Int32))]) (rest := [.int ((l1 + (2 : Int32))), va_rf (some (b0 + moff 41))]) (y := yX11_number) C (f_recv C I) q1655 q1657 qs57 (Or.inl rfl) q1658 (by decide) rfl pd_X11_number rfl dX11_readsThing_133) (ct_X11_number h) hl.1 dX11_readsThing_133 [.inl ((l1 + (2 : Int32))), .inr (.inl (some (b0 + moff 41)))] rfl (Nat.le_of_ble_eq_true rfl) (Or.inl rfl) q1658 q113 ⟨Nat.le_of_ble_eq_true rfl, Nat.le_of_ble_eq_true rfl⟩ (fun v x1 H locs cells slots ex hq I => ?_) (fun a x1 H locs cells slots ex hq I => hq.elim)
  obtain ⟨M4, rfl, r5, rfl, h⟩ := hq
  obtain ⟨hi, h⟩ := h
  refine f_st (k := 41) C I (by decide) hi dX11_readsThing_136 (fun H locs M6 eM6 I => ?_)
  have h := h M6 eM6
  refine l_ald_n (x := some b0) C dX11_readsThing_137 hl 0 rfl rfl ?_
  refine f_A C I (fl_X11_62) (by decide) (by decide) dX11_readsThing_138 ?_
  refine l_ild_n C dX11_readsThing_141 hl 1 rfl rfl ?_
  refine lv_iconst (v := 3) C.1 C.2.1 dX11_readsThing_142 (by decide) ?_
  refine lv_iadd C.1 C.2.1 dX11_readsThing_143 ?_
  refine l_ald_n (x := some b0) C dX11_readsThing_144 hl 0 rfl rfl ?_
  refine k_call Ext.tr C I (k_V (r := some b0) (As := []) (rest := [.int ((l1 + (3 : Int32))), va_rf (some (b0 + moff 41))]) (y := yX11_isGood) C (f_recv C I) q1625 q1627 qs51 (Or.inl rfl) q1628 (by decide) rfl pd_X11_isGood rfl dX11_readsThing_145) (ct_X11_isGood h) hl.1 dX11_readsThing_145 [.inl ((l1 + (3 : Int32))), .inr (.inl (some (b0 + moff 41)))] rfl (Nat.le_of_ble_eq_true rfl) (Or.inl rfl) q1628 q113 ⟨Nat.le_of_ble_eq_true rfl, Nat.le_of_ble_eq_true rfl⟩ (fun v x1 H locs cells slots ex hq I => ?_) (fun a x1 H locs cells slots ex hq I => hq.elim)
  obtain ⟨M7, rfl, r8, rfl, h⟩ := hq
  refine lv_if_eq (tgt := 164) C.1 C.2.1 dX11_readsThing_148 (by decide) (fun c12 => ?_) (fun c12 => ?_)
  · have h := h.1 c12
    exact b_X11_readsThing_164 C l1 ((l1 + (3 : Int32))) 41 M7 _ _ _ _ _ h I (hl.sub [0, 1] rfl)
  · have h := h.2 c12
    refine l_ald_n (x := some b0) C dX11_readsThing_151 hl 0 rfl rfl ?_
    refine lv_bipush (v := 11) C.1 C.2.1 dX11_readsThing_152 (by decide) ?_
    refine k_call Ext.tr C I (k_V (r := some b0) (As := [.int ((11 : Int32))]) (rest := [.int ((l1 + (3 : Int32))), va_rf (some (b0 + moff 41))]) (y := yX11_is) C (f_recv C I) q1633 q1635 qs53 (Or.inl rfl) q1636 (by decide) rfl pd_X11_is rfl dX11_readsThing_154) (ct_X11_is h) hl.1 dX11_readsThing_154 [.inl ((l1 + (3 : Int32))), .inr (.inl (some (b0 + moff 41)))] rfl (Nat.le_of_ble_eq_true rfl) (Or.inl rfl) q1636 q113 ⟨Nat.le_of_ble_eq_true rfl, Nat.le_of_ble_eq_true rfl⟩ (fun v x1 H locs cells slots ex hq I => ?_) (fun a x1 H locs cells slots ex hq I => hq.elim)
    obtain ⟨M9, rfl, r10, rfl, h⟩ := hq
    refine lv_if_eq (tgt := 164) C.1 C.2.1 dX11_readsThing_157 (by decide) (fun c11 => ?_) (fun c11 => ?_)
    · have h := h.1 c11
      exact b_X11_readsThing_164 C l1 ((l1 + (3 : Int32))) 41 M9 _ _ _ _ _ h I (hl.sub [0, 1] rfl)
    · have h := h.2 c11
      refine lv_iconst (v := 1) C.1 C.2.1 dX11_readsThing_160 (by decide) ?_
      refine lv_goto (tgt := 165) C.1 C.2.1 dX11_readsThing_161 (by decide) ?_
      exact b_X11_readsThing_165 C l1 ((1 : Int32)) ((l1 + (3 : Int32))) 41 M9 _ _ _ _ _ h I (hl.sub [0, 1] rfl)
def w_X11_readsThing_85 (Q : MS → Prop) (l1 : Int32) (M : MS) : Prop := vp_in l1 (mlen 41) ∧ ∀ M1 : MS, M1 = sA M 41 l1.toNatClampNeg (mF M 26) → w_X11_isGood (fun r3 M2 => ((r3 = 0) → (w_X11_readsThing_106 Q l1 M2)) ∧ ((¬ r3 = 0) → (w_X11_steps (fun M4 => w_X11_readsThing_106 Q l1 M4) M2))) M1
set_option maxHeartbeats 4000000 in
theorem b_X11_readsThing_85 {b0 z0 : Nat} {M0 : MS} {Q : MS → Prop} (C : Cx p s m meth c D T Z "EndingTownModel" cX11_readsThing 3 none) : ∀ (l1 : Int32) (M : MS) (H : Heap) (locs : List Loc) (cells slots : Nat) (ls : Array Slot), w_X11_readsThing_85 Q l1 M → HI (twd D T Z) (mG b0 z0 M0) s (rmX (twd D T Z) 3 68 (mG b0 z0 M0)) H locs cells slots (mG b0 z0 M) → LH ls 3 [(0, .inr (.inl (some b0))), (1, .inl l1)] → W p l e (rmX (twd D T Z) 3 68 (mG b0 z0 M0)) s m args below meth c H locs cells slots (MQX (twd D T Z) (mG b0 z0 M0) (mq b0 z0 (qV Q)) (fun _ _ => False) below s) (F0 m 85 ls []) := by
  intro l1 M H locs cells slots ls h I hl
  refine l_ald_n (x := some b0) C dX11_readsThing_85 hl 0 rfl rfl ?_
  refine f_A C I (fl_X11_62) (by decide) (by decide) dX11_readsThing_86 ?_
  refine l_ild_n C dX11_readsThing_89 hl 1 rfl rfl ?_
  refine l_ald_n (x := some b0) C dX11_readsThing_90 hl 0 rfl rfl ?_
  refine f_I C I (fl_X11_149) (by decide) dX11_readsThing_91 ?_
  obtain ⟨hi, h⟩ := h
  refine f_st (k := 41) C I (by decide) hi dX11_readsThing_94 (fun H locs M1 eM1 I => ?_)
  have h := h M1 eM1
  refine l_ald_n (x := some b0) C dX11_readsThing_95 hl 0 rfl rfl ?_
  refine k_call Ext.tr C I (k_V (r := some b0) (As := []) (rest := []) (y := yX11_isGood) C (f_recv C I) q1625 q1627 qs51 (Or.inl rfl) q1628 (by decide) rfl pd_X11_isGood rfl dX11_readsThing_96) (ct_X11_isGood h) hl.1 dX11_readsThing_96 [] rfl (Nat.le_of_ble_eq_true rfl) (Or.inl rfl) q1628 q113 ⟨Nat.le_of_ble_eq_true rfl, Nat.le_of_ble_eq_true rfl⟩ (fun v x1 H locs cells slots ex hq I => ?_) (fun a x1 H locs cells slots ex hq I => hq.elim)
  obtain ⟨M2, rfl, r3, rfl, h⟩ := hq
  refine lv_if_eq (tgt := 106) C.1 C.2.1 dX11_readsThing_99 (by decide) (fun c6 => ?_) (fun c6 => ?_)
  · have h := h.1 c6
    exact b_X11_readsThing_106 C l1 M2 _ _ _ _ _ h I (hl.sub [0, 1] rfl)
  · have h := h.2 c6
    refine l_ald_n (x := some b0) C dX11_readsThing_102 hl 0 rfl rfl ?_
    refine k_call Ext.tr C I (k_V (r := some b0) (As := []) (rest := []) (y := yX11_steps) C (f_recv C I) q1611 q1613 qs49 (Or.inl rfl) q1614 (by decide) rfl pd_X11_steps rfl dX11_readsThing_103) (ct_X11_steps h) hl.1 dX11_readsThing_103 [] rfl (Nat.le_of_ble_eq_true rfl) (Or.inl rfl) q1614 q113 ⟨Nat.le_of_ble_eq_true rfl, Nat.le_of_ble_eq_true rfl⟩ (fun v x1 H locs cells slots ex hq I => ?_) (fun a x1 H locs cells slots ex hq I => hq.elim)
    obtain ⟨M4, rfl, rfl, h⟩ := hq
    exact b_X11_readsThing_106 C l1 M4 _ _ _ _ _ h I (hl.sub [0, 1] rfl)
def w_X11_readsThing_51 (Q : MS → Prop) : Nat → Int32 → Int32 → MS → Prop
  | 0 => fun _ _ _ => False
  | f51 + 1 => fun l1 l2 M => ((mF M 32 ≤ l2) → (w_X11_readsThing_85 Q l1 M)) ∧ ((¬ mF M 32 ≤ l2) → (vp_in (((5 : Int32) * l2)) (mlen 41) ∧ ((¬ mA M 41 (((5 : Int32) * l2)).toNatClampNeg = mF M 26) → (w_X11_readsThing_79 Q (w_X11_readsThing_51 Q f51) l1 l2 M)) ∧ ((mA M 41 (((5 : Int32) * l2)).toNatClampNeg = mF M 26) → (w_X11_faults (fun M1 => w_X11_readsThing_79 Q (w_X11_readsThing_51 Q f51) l1 l2 M1) ((4 : Int32)) M))))
set_option maxHeartbeats 4000000 in
theorem b_X11_readsThing_51 {b0 z0 : Nat} {M0 : MS} {Q : MS → Prop} (C : Cx p s m meth c D T Z "EndingTownModel" cX11_readsThing 3 none) : ∀ (n : Nat) (l1 : Int32) (l2 : Int32) (M : MS) (H : Heap) (locs : List Loc) (cells slots : Nat) (ls : Array Slot), w_X11_readsThing_51 Q n l1 l2 M → HI (twd D T Z) (mG b0 z0 M0) s (rmX (twd D T Z) 3 68 (mG b0 z0 M0)) H locs cells slots (mG b0 z0 M) → LH ls 3 [(0, .inr (.inl (some b0))), (1, .inl l1), (2, .inl l2)] → W p l e (rmX (twd D T Z) 3 68 (mG b0 z0 M0)) s m args below meth c H locs cells slots (MQX (twd D T Z) (mG b0 z0 M0) (mq b0 z0 (qV Q)) (fun _ _ => False) below s) (F0 m 51 ls []) := by
  intro n
  induction n with
  | zero => intro l1 l2 M H locs cells slots ls h; exact (show False from h).elim
  | succ n ih =>
    intro l1 l2 M H locs cells slots ls h I hl
    have hk51 := ih
    refine l_ild_n C dX11_readsThing_51 hl 2 rfl rfl ?_
    refine l_ald_n (x := some b0) C dX11_readsThing_52 hl 0 rfl rfl ?_
    refine f_I C I (fl_X11_207) (by decide) dX11_readsThing_53 ?_
    refine lv_icmp_ge (tgt := 85) C.1 C.2.1 dX11_readsThing_56 (by decide) (fun c4 => ?_) (fun c4 => ?_)
    · have h := h.1 c4
      exact b_X11_readsThing_85 C l1 M _ _ _ _ _ h I (hl.sub [0, 1] rfl)
    · have h := h.2 c4
      refine l_ald_n (x := some b0) C dX11_readsThing_59 hl 0 rfl rfl ?_
      refine f_A C I (fl_X11_62) (by decide) (by decide) dX11_readsThing_60 ?_
      refine lv_iconst (v := 5) C.1 C.2.1 dX11_readsThing_63 (by decide) ?_
      refine l_ild_n C dX11_readsThing_64 hl 2 rfl rfl ?_
      refine lv_imul C.1 C.2.1 dX11_readsThing_65 ?_
      obtain ⟨hi, h⟩ := h
      refine f_ld (k := 41) C I (by decide) hi dX11_readsThing_66 ?_
      refine l_ald_n (x := some b0) C dX11_readsThing_67 hl 0 rfl rfl ?_
      refine f_I C I (fl_X11_149) (by decide) dX11_readsThing_68 ?_
      refine lv_icmp_ne (tgt := 79) C.1 C.2.1 dX11_readsThing_71 (by decide) (fun c3 => ?_) (fun c3 => ?_)
      · have h := h.1 c3
        exact b_X11_readsThing_79 C hk51 l1 l2 M _ _ _ _ _ h I (hl.sub [0, 1, 2] rfl)
      · have h := h.2 c3
        refine l_ald_n (x := some b0) C dX11_readsThing_74 hl 0 rfl rfl ?_
        refine lv_iconst (v := 4) C.1 C.2.1 dX11_readsThing_75 (by decide) ?_
        refine k_call Ext.tr C I (k_V (r := some b0) (As := [.int ((4 : Int32))]) (rest := []) (y := yX11_faults) C (f_recv C I) q1643 q1645 qs54 (Or.inl rfl) q1646 (by decide) rfl pd_X11_faults rfl dX11_readsThing_76) (ct_X11_faults h) hl.1 dX11_readsThing_76 [] rfl (Nat.le_of_ble_eq_true rfl) (Or.inl rfl) q1646 q113 ⟨Nat.le_of_ble_eq_true rfl, Nat.le_of_ble_eq_true rfl⟩ (fun v x1 H locs cells slots ex hq I => ?_) (fun a x1 H locs cells slots ex hq I => hq.elim)
        obtain ⟨M1, rfl, rfl, h⟩ := hq
        exact b_X11_readsThing_79 C hk51 l1 l2 M1 _ _ _ _ _ h I (hl.sub [0, 1, 2] rfl)
def w_X11_readsThing_14 (Q : MS → Prop) (M : MS) : Prop := w_X11_isGood (fun r2 M1 => ((¬ r2 = 0) → (∀ M3 : MS, M3 = sF M1 36 ((1 : Int32)) → w_X11_steps (fun M4 => w_X11_amongHere (fun r7 M6 => ((r7 = 0) → (w_X11_readsThing_85 Q (((5 : Int32) * mF M4 32)) M6)) ∧ ((¬ r7 = 0) → (∃ n, w_X11_readsThing_51 Q n (((5 : Int32) * mF M4 32)) ((0 : Int32)) M6))) (mF M4 28) M4) M3)) ∧ ((r2 = 0) → (Q M1))) M
set_option maxHeartbeats 4000000 in
theorem b_X11_readsThing_14 {b0 z0 : Nat} {M0 : MS} {Q : MS → Prop} (C : Cx p s m meth c D T Z "EndingTownModel" cX11_readsThing 3 none) : ∀ (M : MS) (H : Heap) (locs : List Loc) (cells slots : Nat) (ls : Array Slot), w_X11_readsThing_14 Q M → HI (twd D T Z) (mG b0 z0 M0) s (rmX (twd D T Z) 3 68 (mG b0 z0 M0)) H locs cells slots (mG b0 z0 M) → LH ls 3 [(0, .inr (.inl (some b0)))] → W p l e (rmX (twd D T Z) 3 68 (mG b0 z0 M0)) s m args below meth c H locs cells slots (MQX (twd D T Z) (mG b0 z0 M0) (mq b0 z0 (qV Q)) (fun _ _ => False) below s) (F0 m 14 ls []) := by
  intro M H locs cells slots ls h I hl
  refine l_ald_n (x := some b0) C dX11_readsThing_14 hl 0 rfl rfl ?_
  refine k_call Ext.tr C I (k_V (r := some b0) (As := []) (rest := []) (y := yX11_isGood) C (f_recv C I) q1625 q1627 qs51 (Or.inl rfl) q1628 (by decide) rfl pd_X11_isGood rfl dX11_readsThing_15) (ct_X11_isGood h) hl.1 dX11_readsThing_15 [] rfl (Nat.le_of_ble_eq_true rfl) (Or.inl rfl) q1628 q113 ⟨Nat.le_of_ble_eq_true rfl, Nat.le_of_ble_eq_true rfl⟩ (fun v x1 H locs cells slots ex hq I => ?_) (fun a x1 H locs cells slots ex hq I => hq.elim)
  obtain ⟨M1, rfl, r2, rfl, h⟩ := hq
  refine lv_if_ne (tgt := 22) C.1 C.2.1 dX11_readsThing_18 (by decide) (fun c9 => ?_) (fun c9 => ?_)
  · have h := h.1 c9
    refine l_ald_n (x := some b0) C dX11_readsThing_22 hl 0 rfl rfl ?_
    refine lv_iconst (v := 1) C.1 C.2.1 dX11_readsThing_23 (by decide) ?_
    refine f_PI C I (fp_X11_197) (by decide) dX11_readsThing_24 (fit_z bz1) (fun H locs M3 eM3 I => ?_)
    have h := h M3 eM3
    refine l_ald_n (x := some b0) C dX11_readsThing_27 hl 0 rfl rfl ?_
    refine k_call Ext.tr C I (k_V (r := some b0) (As := []) (rest := []) (y := yX11_steps) C (f_recv C I) q1611 q1613 qs49 (Or.inl rfl) q1614 (by decide) rfl pd_X11_steps rfl dX11_readsThing_28) (ct_X11_steps h) hl.1 dX11_readsThing_28 [] rfl (Nat.le_of_ble_eq_true rfl) (Or.inl rfl) q1614 q113 ⟨Nat.le_of_ble_eq_true rfl, Nat.le_of_ble_eq_true rfl⟩ (fun v x1 H locs cells slots ex hq I => ?_) (fun a x1 H locs cells slots ex hq I => hq.elim)
    obtain ⟨M4, rfl, rfl, h⟩ := hq
    refine lv_iconst (v := 5) C.1 C.2.1 dX11_readsThing_31 (by decide) ?_
    refine l_ald_n (x := some b0) C dX11_readsThing_32 hl 0 rfl rfl ?_
    refine f_I C I (fl_X11_207) (by decide) dX11_readsThing_33 ?_
    refine lv_imul C.1 C.2.1 dX11_readsThing_36 ?_
    refine l_ist_n C dX11_readsThing_37 rfl hl (by decide) rfl (fun ls hl => ?_)
    have hl : LH ls 3 [(1, .inl (((5 : Int32) * mF M4 32))), (0, .inr (.inl (some b0)))] := hl
    refine l_ald_n (x := some b0) C dX11_readsThing_38 hl 1 rfl rfl ?_
    refine l_ald_n (x := some b0) C dX11_readsThing_39 hl 1 rfl rfl ?_
    refine f_I C I (fl_X11_210) (by decide) dX11_readsThing_40 ?_
    refine k_call Ext.tr C I (k_V (r := some b0) (As := [.int (mF M4 28)]) (rest := []) (y := yX11_amongHere) C (f_recv C I) q1667 q1669 qs60 (Or.inl rfl) q1670 (by decide) rfl pd_X11_amongHere rfl dX11_readsThing_43) (ct_X11_amongHere h) hl.1 dX11_readsThing_43 [] rfl (Nat.le_of_ble_eq_true rfl) (Or.inl rfl) q1670 q113 ⟨Nat.le_of_ble_eq_true rfl, Nat.le_of_ble_eq_true rfl⟩ (fun v x1 H locs cells slots ex hq I => ?_) (fun a x1 H locs cells slots ex hq I => hq.elim)
    obtain ⟨M6, rfl, r7, rfl, h⟩ := hq
    refine lv_if_eq (tgt := 85) C.1 C.2.1 dX11_readsThing_46 (by decide) (fun c8 => ?_) (fun c8 => ?_)
    · have h := h.1 c8
      exact b_X11_readsThing_85 C (((5 : Int32) * mF M4 32)) M6 _ _ _ _ _ h I (hl.sub [1, 0] rfl)
    · have h := h.2 c8
      refine lv_iconst (v := 0) C.1 C.2.1 dX11_readsThing_49 (by decide) ?_
      refine l_ist_n C dX11_readsThing_50 rfl hl (by decide) rfl (fun ls hl => ?_)
      have hl : LH ls 3 [(2, .inl ((0 : Int32))), (1, .inl (((5 : Int32) * mF M4 32))), (0, .inr (.inl (some b0)))] := hl
      obtain ⟨n, h⟩ := h
      exact b_X11_readsThing_51 C n (((5 : Int32) * mF M4 32)) ((0 : Int32)) M6 _ _ _ _ _ h I (hl.sub [2, 1, 0] rfl)
  · have h := h.2 c9
    exact r_void C.1 C.2.1 C.2.2.2.2.2.1 C.2.2.2.2.2.2 ⟨rfl, rfl⟩ I dX11_readsThing_21 ⟨_, rfl, rfl, h⟩
def w_X11_readsThing (Q : MS → Prop) (M : MS) : Prop := ((¬ mF M 32 = (8 : Int32)) → (w_X11_readsThing_14 Q M)) ∧ ((mF M 32 = (8 : Int32)) → (w_X11_faults (fun M1 => w_X11_readsThing_14 Q M1) ((2 : Int32)) M))
theorem pd_X11_readsThing : (parseMethodDescriptor yX11_readsThing.desc).map (fun d => d.parameters.length) = some 0 := by decide +kernel
set_option maxHeartbeats 4000000 in
theorem ct_X11_readsThing {l : Launch} {D : va_G} {T : Nat → ClassId} {Z : Heap} {b0 z0 : Nat} {M0 : MS} {Q : MS → Prop} (hw : w_X11_readsThing Q M0) : CT (twd D T Z) (Evd D T Z) l yX11_readsThing (Cond.code yX11_readsThing cX11_readsThing 3 none) 3 68 [va_rf (some b0)] (mG b0 z0 M0) (mq b0 z0 (qV Q)) (fun _ _ => False) := by
  refine CT.ofW (cc := cX11_readsThing) (nL := 3) (ret := none) Ext.rf (by decide) (Or.inl rfl) ?_
  intro p e s m below meth c hx hb hml hown hr hlk hnm hcb hm hc hn hE I
  have C : Cx p s m meth c D T Z "EndingTownModel" cX11_readsThing 3 none := ⟨hx, hb, hml, hown, hE, hr, hlk⟩
  refine w_entry [.inr (.inl (some b0))] (Nat.le_of_ble_eq_true rfl) (fun ls hl => ?_)
  have hl : LH ls 3 [(0, .inr (.inl (some b0)))] := hl
  have h := hw
  refine l_ald_n (x := some b0) C dX11_readsThing_0 hl 0 rfl rfl ?_
  refine f_I C I (fl_X11_207) (by decide) dX11_readsThing_1 ?_
  refine lv_bipush (v := 8) C.1 C.2.1 dX11_readsThing_4 (by decide) ?_
  refine lv_icmp_ne (tgt := 14) C.1 C.2.1 dX11_readsThing_6 (by decide) (fun c3 => ?_) (fun c3 => ?_)
  · have h := h.1 c3
    exact b_X11_readsThing_14 C M0 _ _ _ _ _ h I (hl.sub [0] rfl)
  · have h := h.2 c3
    refine l_ald_n (x := some b0) C dX11_readsThing_9 hl 0 rfl rfl ?_
    refine lv_iconst (v := 2) C.1 C.2.1 dX11_readsThing_10 (by decide) ?_
    refine k_call Ext.tr C I (k_V (r := some b0) (As := [.int ((2 : Int32))]) (rest := []) (y := yX11_faults) C (f_recv C I) q1643 q1645 qs54 (Or.inl rfl) q1646 (by decide) rfl pd_X11_faults rfl dX11_readsThing_11) (ct_X11_faults h) hl.1 dX11_readsThing_11 [] rfl (Nat.le_of_ble_eq_true rfl) (Or.inl rfl) q1646 q113 ⟨Nat.le_of_ble_eq_true rfl, Nat.le_of_ble_eq_true rfl⟩ (fun v x1 H locs cells slots ex hq I => ?_) (fun a x1 H locs cells slots ex hq I => hq.elim)
    obtain ⟨M1, rfl, rfl, h⟩ := hq
    exact b_X11_readsThing_14 C M1 _ _ _ _ _ h I (hl.sub [0] rfl)
def w_X11_line_484 (Q : MS → Prop) (t0 : Int32) (M : MS) : Prop := w_X11_need (fun M1 => Q M1) t0 M
set_option maxHeartbeats 4000000 in
theorem b_X11_line_484 {b0 z0 : Nat} {M0 : MS} {Q : MS → Prop} (C : Cx p s m meth c D T Z "EndingTownModel" cX11_line 4 none) : ∀ (t0 : Int32) (M : MS) (H : Heap) (locs : List Loc) (cells slots : Nat) (ls : Array Slot), w_X11_line_484 Q t0 M → HI (twd D T Z) (mG b0 z0 M0) s (rmX (twd D T Z) 4 90 (mG b0 z0 M0)) H locs cells slots (mG b0 z0 M) → LH ls 4 [] → W p l e (rmX (twd D T Z) 4 90 (mG b0 z0 M0)) s m args below meth c H locs cells slots (MQX (twd D T Z) (mG b0 z0 M0) (mq b0 z0 (qV Q)) (fun _ _ => False) below s) (F0 m 484 ls [.int t0, va_rf (some b0)]) := by
  intro t0 M H locs cells slots ls h I hl
  refine k_call Ext.tr C I (k_V (r := some b0) (As := [.int t0]) (rest := []) (y := yX11_need) C (f_recv C I) q1683 q1685 qs64 (Or.inl rfl) q1686 (by decide) rfl pd_X11_need rfl dX11_line_484) (ct_X11_need h) hl.1 dX11_line_484 [] rfl (Nat.le_of_ble_eq_true rfl) (Or.inl rfl) q1686 q113 ⟨Nat.le_of_ble_eq_true rfl, Nat.le_of_ble_eq_true rfl⟩ (fun v x1 H locs cells slots ex hq I => ?_) (fun a x1 H locs cells slots ex hq I => hq.elim)
  obtain ⟨M1, rfl, rfl, h⟩ := hq
  exact r_void C.1 C.2.1 C.2.2.2.2.2.1 C.2.2.2.2.2.2 ⟨rfl, rfl⟩ I dX11_line_487 ⟨_, rfl, rfl, h⟩
def w_X11_line_470 (Q : MS → Prop) (M : MS) : Prop := ((¬ mF M 23 = (3 : Int32)) → (w_X11_line_484 Q ((0 : Int32)) M)) ∧ ((mF M 23 = (3 : Int32)) → (w_X11_line_484 Q ((1 : Int32)) M))
set_option maxHeartbeats 4000000 in
theorem b_X11_line_470 {b0 z0 : Nat} {M0 : MS} {Q : MS → Prop} (C : Cx p s m meth c D T Z "EndingTownModel" cX11_line 4 none) : ∀ (M : MS) (H : Heap) (locs : List Loc) (cells slots : Nat) (ls : Array Slot), w_X11_line_470 Q M → HI (twd D T Z) (mG b0 z0 M0) s (rmX (twd D T Z) 4 90 (mG b0 z0 M0)) H locs cells slots (mG b0 z0 M) → LH ls 4 [(0, .inr (.inl (some b0)))] → W p l e (rmX (twd D T Z) 4 90 (mG b0 z0 M0)) s m args below meth c H locs cells slots (MQX (twd D T Z) (mG b0 z0 M0) (mq b0 z0 (qV Q)) (fun _ _ => False) below s) (F0 m 470 ls []) := by
  intro M H locs cells slots ls h I hl
  refine l_ald_n (x := some b0) C dX11_line_470 hl 0 rfl rfl ?_
  refine l_ald_n (x := some b0) C dX11_line_471 hl 0 rfl rfl ?_
  refine f_I C I (fl_X11_152) (by decide) dX11_line_472 ?_
  refine lv_iconst (v := 3) C.1 C.2.1 dX11_line_475 (by decide) ?_
  refine lv_icmp_ne (tgt := 483) C.1 C.2.1 dX11_line_476 (by decide) (fun c1 => ?_) (fun c1 => ?_)
  · have h := h.1 c1
    refine lv_iconst (v := 0) C.1 C.2.1 dX11_line_483 (by decide) ?_
    exact b_X11_line_484 C ((0 : Int32)) M _ _ _ _ _ h I (hl.sub [] rfl)
  · have h := h.2 c1
    refine lv_iconst (v := 1) C.1 C.2.1 dX11_line_479 (by decide) ?_
    refine lv_goto (tgt := 484) C.1 C.2.1 dX11_line_480 (by decide) ?_
    exact b_X11_line_484 C ((1 : Int32)) M _ _ _ _ _ h I (hl.sub [] rfl)
def w_X11_line_22 (Q : MS → Prop) (M : MS) : Prop := w_X11_isGood (fun r2 M1 => ((¬ r2 = 0) → (w_X11_steps (fun M3 => w_X11_word0 (fun M5 => w_X11_isGood (fun r8 M7 => ((r8 = 0) → (w_X11_line_470 Q M7)) ∧ ((¬ r8 = 0) → (∀ M9 : MS, M9 = sF M7 28 ((mF M7 28 + (1 : Int32))) → w_X11_line_470 Q M9))) M5) 37 (((9 : Int32) * mF M3 28)) M3) M1)) ∧ ((r2 = 0) → (Q M1))) M
set_option maxHeartbeats 4000000 in
theorem b_X11_line_22 {b0 z0 : Nat} {M0 : MS} {Q : MS → Prop} (C : Cx p s m meth c D T Z "EndingTownModel" cX11_line 4 none) : ∀ (M : MS) (H : Heap) (locs : List Loc) (cells slots : Nat) (ls : Array Slot), w_X11_line_22 Q M → HI (twd D T Z) (mG b0 z0 M0) s (rmX (twd D T Z) 4 90 (mG b0 z0 M0)) H locs cells slots (mG b0 z0 M) → LH ls 4 [(0, .inr (.inl (some b0)))] → W p l e (rmX (twd D T Z) 4 90 (mG b0 z0 M0)) s m args below meth c H locs cells slots (MQX (twd D T Z) (mG b0 z0 M0) (mq b0 z0 (qV Q)) (fun _ _ => False) below s) (F0 m 22 ls []) := by
  intro M H locs cells slots ls h I hl
  refine l_ald_n (x := some b0) C dX11_line_22 hl 0 rfl rfl ?_
  refine k_call Ext.tr C I (k_V (r := some b0) (As := []) (rest := []) (y := yX11_isGood) C (f_recv C I) q1625 q1627 qs51 (Or.inl rfl) q1628 (by decide) rfl pd_X11_isGood rfl dX11_line_23) (ct_X11_isGood h) hl.1 dX11_line_23 [] rfl (Nat.le_of_ble_eq_true rfl) (Or.inl rfl) q1628 q113 ⟨Nat.le_of_ble_eq_true rfl, Nat.le_of_ble_eq_true rfl⟩ (fun v x1 H locs cells slots ex hq I => ?_) (fun a x1 H locs cells slots ex hq I => hq.elim)
  obtain ⟨M1, rfl, r2, rfl, h⟩ := hq
  refine lv_if_ne (tgt := 30) C.1 C.2.1 dX11_line_26 (by decide) (fun c11 => ?_) (fun c11 => ?_)
  · have h := h.1 c11
    refine l_ald_n (x := some b0) C dX11_line_30 hl 0 rfl rfl ?_
    refine k_call Ext.tr C I (k_V (r := some b0) (As := []) (rest := []) (y := yX11_steps) C (f_recv C I) q1611 q1613 qs49 (Or.inl rfl) q1614 (by decide) rfl pd_X11_steps rfl dX11_line_31) (ct_X11_steps h) hl.1 dX11_line_31 [] rfl (Nat.le_of_ble_eq_true rfl) (Or.inl rfl) q1614 q113 ⟨Nat.le_of_ble_eq_true rfl, Nat.le_of_ble_eq_true rfl⟩ (fun v x1 H locs cells slots ex hq I => ?_) (fun a x1 H locs cells slots ex hq I => hq.elim)
    obtain ⟨M3, rfl, rfl, h⟩ := hq
    refine l_ald_n (x := some b0) C dX11_line_34 hl 0 rfl rfl ?_
    refine l_ald_n (x := some b0) C dX11_line_35 hl 0 rfl rfl ?_
    refine f_A C I (fl_X11_50) (by decide) (by decide) dX11_line_36 ?_
    refine lv_bipush (v := 9) C.1 C.2.1 dX11_line_39 (by decide) ?_
    refine l_ald_n (x := some b0) C dX11_line_41 hl 0 rfl rfl ?_
    refine f_I C I (fl_X11_210) (by decide) dX11_line_42 ?_
    refine lv_imul C.1 C.2.1 dX11_line_45 ?_
    refine k_call Ext.tr C I (k_V (r := some b0) (As := [va_rf (some (b0 + moff 37)), .int (((9 : Int32) * mF M3 28))]) (rest := []) (y := yX11_word0) C (f_recv C I) q1647 q1649 qs55 (Or.inl rfl) q1650 (by decide) rfl pd_X11_word0 rfl dX11_line_46) (ct_X11_word0 h) hl.1 dX11_line_46 [] rfl (Nat.le_of_ble_eq_true rfl) (Or.inl rfl) q1650 q113 ⟨Nat.le_of_ble_eq_true rfl, Nat.le_of_ble_eq_true rfl⟩ (fun v x1 H locs cells slots ex hq I => ?_) (fun a x1 H locs cells slots ex hq I => hq.elim)
    obtain ⟨M5, rfl, rfl, h⟩ := hq
    refine l_ald_n (x := some b0) C dX11_line_49 hl 0 rfl rfl ?_
    refine k_call Ext.tr C I (k_V (r := some b0) (As := []) (rest := []) (y := yX11_isGood) C (f_recv C I) q1625 q1627 qs51 (Or.inl rfl) q1628 (by decide) rfl pd_X11_isGood rfl dX11_line_50) (ct_X11_isGood h) hl.1 dX11_line_50 [] rfl (Nat.le_of_ble_eq_true rfl) (Or.inl rfl) q1628 q113 ⟨Nat.le_of_ble_eq_true rfl, Nat.le_of_ble_eq_true rfl⟩ (fun v x1 H locs cells slots ex hq I => ?_) (fun a x1 H locs cells slots ex hq I => hq.elim)
    obtain ⟨M7, rfl, r8, rfl, h⟩ := hq
    refine lv_if_eq (tgt := 470) C.1 C.2.1 dX11_line_53 (by decide) (fun c10 => ?_) (fun c10 => ?_)
    · have h := h.1 c10
      exact b_X11_line_470 C M7 _ _ _ _ _ h I (hl.sub [0] rfl)
    · have h := h.2 c10
      refine l_ald_n (x := some b0) C dX11_line_56 hl 0 rfl rfl ?_
      refine lv_dup C.1 C.2.1 dX11_line_57 (cat_rf _) ?_
      refine f_I C I (fl_X11_210) (by decide) dX11_line_58 ?_
      refine lv_iconst (v := 1) C.1 C.2.1 dX11_line_61 (by decide) ?_
      refine lv_iadd C.1 C.2.1 dX11_line_62 ?_
      refine f_PI C I (fp_X11_210) (by decide) dX11_line_63 (fit_i _) (fun H locs M9 eM9 I => ?_)
      have h := h M9 eM9
      refine lv_goto (tgt := 470) C.1 C.2.1 dX11_line_66 (by decide) ?_
      exact b_X11_line_470 C M9 _ _ _ _ _ h I (hl.sub [0] rfl)
  · have h := h.2 c11
    exact r_void C.1 C.2.1 C.2.2.2.2.2.1 C.2.2.2.2.2.2 ⟨rfl, rfl⟩ I dX11_line_29 ⟨_, rfl, rfl, h⟩
def w_X11_line_120 (Q : MS → Prop) : Nat → Int32 → MS → Prop
  | 0 => fun _ _ => False
  | f120 + 1 => fun l1 M => (((3 : Int32) ≤ l1) → (w_X11_isGood (fun r2 M1 => ((r2 = 0) → (w_X11_line_470 Q M1)) ∧ ((¬ r2 = 0) → (∀ M3 : MS, M3 = sF M1 29 ((mF M1 29 + (1 : Int32))) → w_X11_line_470 Q M3))) M)) ∧ ((¬ (3 : Int32) ≤ l1) → (w_X11_word0 (fun M5 => (w_X11_line_120 Q f120) ((l1 + 1)) M5) 39 ((((27 : Int32) * mF M 29) + ((9 : Int32) * l1))) M))
set_option maxHeartbeats 4000000 in
theorem b_X11_line_120 {b0 z0 : Nat} {M0 : MS} {Q : MS → Prop} (C : Cx p s m meth c D T Z "EndingTownModel" cX11_line 4 none) : ∀ (n : Nat) (l1 : Int32) (M : MS) (H : Heap) (locs : List Loc) (cells slots : Nat) (ls : Array Slot), w_X11_line_120 Q n l1 M → HI (twd D T Z) (mG b0 z0 M0) s (rmX (twd D T Z) 4 90 (mG b0 z0 M0)) H locs cells slots (mG b0 z0 M) → LH ls 4 [(0, .inr (.inl (some b0))), (1, .inl l1)] → W p l e (rmX (twd D T Z) 4 90 (mG b0 z0 M0)) s m args below meth c H locs cells slots (MQX (twd D T Z) (mG b0 z0 M0) (mq b0 z0 (qV Q)) (fun _ _ => False) below s) (F0 m 120 ls []) := by
  intro n
  induction n with
  | zero => intro l1 M H locs cells slots ls h; exact (show False from h).elim
  | succ n ih =>
    intro l1 M H locs cells slots ls h I hl
    have hk120 := ih
    refine l_ild_n C dX11_line_120 hl 1 rfl rfl ?_
    refine lv_iconst (v := 3) C.1 C.2.1 dX11_line_121 (by decide) ?_
    refine lv_icmp_ge (tgt := 151) C.1 C.2.1 dX11_line_122 (by decide) (fun c7 => ?_) (fun c7 => ?_)
    · have h := h.1 c7
      refine l_ald_n (x := some b0) C dX11_line_151 hl 0 rfl rfl ?_
      refine k_call Ext.tr C I (k_V (r := some b0) (As := []) (rest := []) (y := yX11_isGood) C (f_recv C I) q1625 q1627 qs51 (Or.inl rfl) q1628 (by decide) rfl pd_X11_isGood rfl dX11_line_152) (ct_X11_isGood h) hl.1 dX11_line_152 [] rfl (Nat.le_of_ble_eq_true rfl) (Or.inl rfl) q1628 q113 ⟨Nat.le_of_ble_eq_true rfl, Nat.le_of_ble_eq_true rfl⟩ (fun v x1 H locs cells slots ex hq I => ?_) (fun a x1 H locs cells slots ex hq I => hq.elim)
      obtain ⟨M1, rfl, r2, rfl, h⟩ := hq
      refine lv_if_eq (tgt := 470) C.1 C.2.1 dX11_line_155 (by decide) (fun c4 => ?_) (fun c4 => ?_)
      · have h := h.1 c4
        exact b_X11_line_470 C M1 _ _ _ _ _ h I (hl.sub [0] rfl)
      · have h := h.2 c4
        refine l_ald_n (x := some b0) C dX11_line_158 hl 0 rfl rfl ?_
        refine lv_dup C.1 C.2.1 dX11_line_159 (cat_rf _) ?_
        refine f_I C I (fl_X11_225) (by decide) dX11_line_160 ?_
        refine lv_iconst (v := 1) C.1 C.2.1 dX11_line_163 (by decide) ?_
        refine lv_iadd C.1 C.2.1 dX11_line_164 ?_
        refine f_PI C I (fp_X11_225) (by decide) dX11_line_165 (fit_i _) (fun H locs M3 eM3 I => ?_)
        have h := h M3 eM3
        refine lv_goto (tgt := 470) C.1 C.2.1 dX11_line_168 (by decide) ?_
        exact b_X11_line_470 C M3 _ _ _ _ _ h I (hl.sub [0] rfl)
    · have h := h.2 c7
      refine l_ald_n (x := some b0) C dX11_line_125 hl 0 rfl rfl ?_
      refine l_ald_n (x := some b0) C dX11_line_126 hl 0 rfl rfl ?_
      refine f_A C I (fl_X11_56) (by decide) (by decide) dX11_line_127 ?_
      refine lv_bipush (v := 27) C.1 C.2.1 dX11_line_130 (by decide) ?_
      refine l_ald_n (x := some b0) C dX11_line_132 hl 0 rfl rfl ?_
      refine f_I C I (fl_X11_225) (by decide) dX11_line_133 ?_
      refine lv_imul C.1 C.2.1 dX11_line_136 ?_
      refine lv_bipush (v := 9) C.1 C.2.1 dX11_line_137 (by decide) ?_
      refine l_ild_n C dX11_line_139 hl 1 rfl rfl ?_
      refine lv_imul C.1 C.2.1 dX11_line_140 ?_
      refine lv_iadd C.1 C.2.1 dX11_line_141 ?_
      refine k_call Ext.tr C I (k_V (r := some b0) (As := [va_rf (some (b0 + moff 39)), .int ((((27 : Int32) * mF M 29) + ((9 : Int32) * l1)))]) (rest := []) (y := yX11_word0) C (f_recv C I) q1647 q1649 qs55 (Or.inl rfl) q1650 (by decide) rfl pd_X11_word0 rfl dX11_line_142) (ct_X11_word0 h) hl.1 dX11_line_142 [] rfl (Nat.le_of_ble_eq_true rfl) (Or.inl rfl) q1650 q113 ⟨Nat.le_of_ble_eq_true rfl, Nat.le_of_ble_eq_true rfl⟩ (fun v x1 H locs cells slots ex hq I => ?_) (fun a x1 H locs cells slots ex hq I => hq.elim)
      obtain ⟨M5, rfl, rfl, h⟩ := hq
      refine l_inc (q := 1) (v := 1) C dX11_line_145 hl rfl (by decide) (by decide) rfl (fun ls hl => ?_)
      have hl : LH ls 4 [(1, .inl ((l1 + 1))), (0, .inr (.inl (some b0)))] := hl
      refine lv_goto (tgt := 120) C.1 C.2.1 dX11_line_148 (by decide) ?_
      exact hk120 ((l1 + 1)) M5 _ _ _ _ _ h I (hl.sub [1, 0] rfl)
def w_X11_line_106 (Q : MS → Prop) (M : MS) : Prop := w_X11_isGood (fun r2 M1 => ((¬ r2 = 0) → (w_X11_steps (fun M3 => ∃ n, w_X11_line_120 Q n ((0 : Int32)) M3) M1)) ∧ ((r2 = 0) → (Q M1))) M
set_option maxHeartbeats 4000000 in
theorem b_X11_line_106 {b0 z0 : Nat} {M0 : MS} {Q : MS → Prop} (C : Cx p s m meth c D T Z "EndingTownModel" cX11_line 4 none) : ∀ (M : MS) (H : Heap) (locs : List Loc) (cells slots : Nat) (ls : Array Slot), w_X11_line_106 Q M → HI (twd D T Z) (mG b0 z0 M0) s (rmX (twd D T Z) 4 90 (mG b0 z0 M0)) H locs cells slots (mG b0 z0 M) → LH ls 4 [(0, .inr (.inl (some b0)))] → W p l e (rmX (twd D T Z) 4 90 (mG b0 z0 M0)) s m args below meth c H locs cells slots (MQX (twd D T Z) (mG b0 z0 M0) (mq b0 z0 (qV Q)) (fun _ _ => False) below s) (F0 m 106 ls []) := by
  intro M H locs cells slots ls h I hl
  refine l_ald_n (x := some b0) C dX11_line_106 hl 0 rfl rfl ?_
  refine k_call Ext.tr C I (k_V (r := some b0) (As := []) (rest := []) (y := yX11_isGood) C (f_recv C I) q1625 q1627 qs51 (Or.inl rfl) q1628 (by decide) rfl pd_X11_isGood rfl dX11_line_107) (ct_X11_isGood h) hl.1 dX11_line_107 [] rfl (Nat.le_of_ble_eq_true rfl) (Or.inl rfl) q1628 q113 ⟨Nat.le_of_ble_eq_true rfl, Nat.le_of_ble_eq_true rfl⟩ (fun v x1 H locs cells slots ex hq I => ?_) (fun a x1 H locs cells slots ex hq I => hq.elim)
  obtain ⟨M1, rfl, r2, rfl, h⟩ := hq
  refine lv_if_ne (tgt := 114) C.1 C.2.1 dX11_line_110 (by decide) (fun c5 => ?_) (fun c5 => ?_)
  · have h := h.1 c5
    refine l_ald_n (x := some b0) C dX11_line_114 hl 0 rfl rfl ?_
    refine k_call Ext.tr C I (k_V (r := some b0) (As := []) (rest := []) (y := yX11_steps) C (f_recv C I) q1611 q1613 qs49 (Or.inl rfl) q1614 (by decide) rfl pd_X11_steps rfl dX11_line_115) (ct_X11_steps h) hl.1 dX11_line_115 [] rfl (Nat.le_of_ble_eq_true rfl) (Or.inl rfl) q1614 q113 ⟨Nat.le_of_ble_eq_true rfl, Nat.le_of_ble_eq_true rfl⟩ (fun v x1 H locs cells slots ex hq I => ?_) (fun a x1 H locs cells slots ex hq I => hq.elim)
    obtain ⟨M3, rfl, rfl, h⟩ := hq
    refine lv_iconst (v := 0) C.1 C.2.1 dX11_line_118 (by decide) ?_
    refine l_ist_n C dX11_line_119 rfl hl (by decide) rfl (fun ls hl => ?_)
    have hl : LH ls 4 [(1, .inl ((0 : Int32))), (0, .inr (.inl (some b0)))] := hl
    obtain ⟨n, h⟩ := h
    exact b_X11_line_120 C n ((0 : Int32)) M3 _ _ _ _ _ h I (hl.sub [1, 0] rfl)
  · have h := h.2 c5
    exact r_void C.1 C.2.1 C.2.2.2.2.2.1 C.2.2.2.2.2.2 ⟨rfl, rfl⟩ I dX11_line_113 ⟨_, rfl, rfl, h⟩
def w_X11_line_191 (Q : MS → Prop) (M : MS) : Prop := w_X11_isGood (fun r2 M1 => ((¬ r2 = 0) → (∀ M3 : MS, M3 = sF M1 34 ((1 : Int32)) → w_X11_steps (fun M4 => w_X11_word0 (fun M6 => w_X11_line_470 Q M6) 40 ((0 : Int32)) M4) M3)) ∧ ((r2 = 0) → (Q M1))) M
set_option maxHeartbeats 4000000 in
theorem b_X11_line_191 {b0 z0 : Nat} {M0 : MS} {Q : MS → Prop} (C : Cx p s m meth c D T Z "EndingTownModel" cX11_line 4 none) : ∀ (M : MS) (H : Heap) (locs : List Loc) (cells slots : Nat) (ls : Array Slot), w_X11_line_191 Q M → HI (twd D T Z) (mG b0 z0 M0) s (rmX (twd D T Z) 4 90 (mG b0 z0 M0)) H locs cells slots (mG b0 z0 M) → LH ls 4 [(0, .inr (.inl (some b0)))] → W p l e (rmX (twd D T Z) 4 90 (mG b0 z0 M0)) s m args below meth c H locs cells slots (MQX (twd D T Z) (mG b0 z0 M0) (mq b0 z0 (qV Q)) (fun _ _ => False) below s) (F0 m 191 ls []) := by
  intro M H locs cells slots ls h I hl
  refine l_ald_n (x := some b0) C dX11_line_191 hl 0 rfl rfl ?_
  refine k_call Ext.tr C I (k_V (r := some b0) (As := []) (rest := []) (y := yX11_isGood) C (f_recv C I) q1625 q1627 qs51 (Or.inl rfl) q1628 (by decide) rfl pd_X11_isGood rfl dX11_line_192) (ct_X11_isGood h) hl.1 dX11_line_192 [] rfl (Nat.le_of_ble_eq_true rfl) (Or.inl rfl) q1628 q113 ⟨Nat.le_of_ble_eq_true rfl, Nat.le_of_ble_eq_true rfl⟩ (fun v x1 H locs cells slots ex hq I => ?_) (fun a x1 H locs cells slots ex hq I => hq.elim)
  obtain ⟨M1, rfl, r2, rfl, h⟩ := hq
  refine lv_if_ne (tgt := 199) C.1 C.2.1 dX11_line_195 (by decide) (fun c8 => ?_) (fun c8 => ?_)
  · have h := h.1 c8
    refine l_ald_n (x := some b0) C dX11_line_199 hl 0 rfl rfl ?_
    refine lv_iconst (v := 1) C.1 C.2.1 dX11_line_200 (by decide) ?_
    refine f_PI C I (fp_X11_228) (by decide) dX11_line_201 (fit_z bz1) (fun H locs M3 eM3 I => ?_)
    have h := h M3 eM3
    refine l_ald_n (x := some b0) C dX11_line_204 hl 0 rfl rfl ?_
    refine k_call Ext.tr C I (k_V (r := some b0) (As := []) (rest := []) (y := yX11_steps) C (f_recv C I) q1611 q1613 qs49 (Or.inl rfl) q1614 (by decide) rfl pd_X11_steps rfl dX11_line_205) (ct_X11_steps h) hl.1 dX11_line_205 [] rfl (Nat.le_of_ble_eq_true rfl) (Or.inl rfl) q1614 q113 ⟨Nat.le_of_ble_eq_true rfl, Nat.le_of_ble_eq_true rfl⟩ (fun v x1 H locs cells slots ex hq I => ?_) (fun a x1 H locs cells slots ex hq I => hq.elim)
    obtain ⟨M4, rfl, rfl, h⟩ := hq
    refine l_ald_n (x := some b0) C dX11_line_208 hl 0 rfl rfl ?_
    refine l_ald_n (x := some b0) C dX11_line_209 hl 0 rfl rfl ?_
    refine f_A C I (fl_X11_59) (by decide) (by decide) dX11_line_210 ?_
    refine lv_iconst (v := 0) C.1 C.2.1 dX11_line_213 (by decide) ?_
    refine k_call Ext.tr C I (k_V (r := some b0) (As := [va_rf (some (b0 + moff 40)), .int ((0 : Int32))]) (rest := []) (y := yX11_word0) C (f_recv C I) q1647 q1649 qs55 (Or.inl rfl) q1650 (by decide) rfl pd_X11_word0 rfl dX11_line_214) (ct_X11_word0 h) hl.1 dX11_line_214 [] rfl (Nat.le_of_ble_eq_true rfl) (Or.inl rfl) q1650 q113 ⟨Nat.le_of_ble_eq_true rfl, Nat.le_of_ble_eq_true rfl⟩ (fun v x1 H locs cells slots ex hq I => ?_) (fun a x1 H locs cells slots ex hq I => hq.elim)
    obtain ⟨M6, rfl, rfl, h⟩ := hq
    refine lv_goto (tgt := 470) C.1 C.2.1 dX11_line_217 (by decide) ?_
    exact b_X11_line_470 C M6 _ _ _ _ _ h I (hl.sub [0] rfl)
  · have h := h.2 c8
    exact r_void C.1 C.2.1 C.2.2.2.2.2.1 C.2.2.2.2.2.2 ⟨rfl, rfl⟩ I dX11_line_198 ⟨_, rfl, rfl, h⟩
def w_X11_line_255 (Q : MS → Prop) (M : MS) : Prop := w_X11_isGood (fun r2 M1 => ((¬ r2 = 0) → (∀ M3 : MS, M3 = sF M1 35 ((1 : Int32)) → w_X11_steps (fun M4 => w_X11_number (fun r7 M6 => ∀ M8 : MS, M8 = sF M6 30 r7 → w_X11_line_470 Q M8) ((1 : Int32)) ((6 : Int32)) M4) M3)) ∧ ((r2 = 0) → (Q M1))) M
set_option maxHeartbeats 4000000 in
theorem b_X11_line_255 {b0 z0 : Nat} {M0 : MS} {Q : MS → Prop} (C : Cx p s m meth c D T Z "EndingTownModel" cX11_line 4 none) : ∀ (M : MS) (H : Heap) (locs : List Loc) (cells slots : Nat) (ls : Array Slot), w_X11_line_255 Q M → HI (twd D T Z) (mG b0 z0 M0) s (rmX (twd D T Z) 4 90 (mG b0 z0 M0)) H locs cells slots (mG b0 z0 M) → LH ls 4 [(0, .inr (.inl (some b0)))] → W p l e (rmX (twd D T Z) 4 90 (mG b0 z0 M0)) s m args below meth c H locs cells slots (MQX (twd D T Z) (mG b0 z0 M0) (mq b0 z0 (qV Q)) (fun _ _ => False) below s) (F0 m 255 ls []) := by
  intro M H locs cells slots ls h I hl
  refine l_ald_n (x := some b0) C dX11_line_255 hl 0 rfl rfl ?_
  refine k_call Ext.tr C I (k_V (r := some b0) (As := []) (rest := []) (y := yX11_isGood) C (f_recv C I) q1625 q1627 qs51 (Or.inl rfl) q1628 (by decide) rfl pd_X11_isGood rfl dX11_line_256) (ct_X11_isGood h) hl.1 dX11_line_256 [] rfl (Nat.le_of_ble_eq_true rfl) (Or.inl rfl) q1628 q113 ⟨Nat.le_of_ble_eq_true rfl, Nat.le_of_ble_eq_true rfl⟩ (fun v x1 H locs cells slots ex hq I => ?_) (fun a x1 H locs cells slots ex hq I => hq.elim)
  obtain ⟨M1, rfl, r2, rfl, h⟩ := hq
  refine lv_if_ne (tgt := 263) C.1 C.2.1 dX11_line_259 (by decide) (fun c9 => ?_) (fun c9 => ?_)
  · have h := h.1 c9
    refine l_ald_n (x := some b0) C dX11_line_263 hl 0 rfl rfl ?_
    refine lv_iconst (v := 1) C.1 C.2.1 dX11_line_264 (by decide) ?_
    refine f_PI C I (fp_X11_231) (by decide) dX11_line_265 (fit_z bz1) (fun H locs M3 eM3 I => ?_)
    have h := h M3 eM3
    refine l_ald_n (x := some b0) C dX11_line_268 hl 0 rfl rfl ?_
    refine k_call Ext.tr C I (k_V (r := some b0) (As := []) (rest := []) (y := yX11_steps) C (f_recv C I) q1611 q1613 qs49 (Or.inl rfl) q1614 (by decide) rfl pd_X11_steps rfl dX11_line_269) (ct_X11_steps h) hl.1 dX11_line_269 [] rfl (Nat.le_of_ble_eq_true rfl) (Or.inl rfl) q1614 q113 ⟨Nat.le_of_ble_eq_true rfl, Nat.le_of_ble_eq_true rfl⟩ (fun v x1 H locs cells slots ex hq I => ?_) (fun a x1 H locs cells slots ex hq I => hq.elim)
    obtain ⟨M4, rfl, rfl, h⟩ := hq
    refine l_ald_n (x := some b0) C dX11_line_272 hl 0 rfl rfl ?_
    refine l_ald_n (x := some b0) C dX11_line_273 hl 0 rfl rfl ?_
    refine lv_iconst (v := 1) C.1 C.2.1 dX11_line_274 (by decide) ?_
    refine lv_bipush (v := 6) C.1 C.2.1 dX11_line_275 (by decide) ?_
    refine k_call Ext.tr C I (k_V (r := some b0) (As := [.int ((1 : Int32)), .int ((6 : Int32))]) (rest := [va_rf (some b0)]) (y := yX11_number) C (f_recv C I) q1655 q1657 qs57 (Or.inl rfl) q1658 (by decide) rfl pd_X11_number rfl dX11_line_277) (ct_X11_number h) hl.1 dX11_line_277 [.inr (.inl (some b0))] rfl (Nat.le_of_ble_eq_true rfl) (Or.inl rfl) q1658 q113 ⟨Nat.le_of_ble_eq_true rfl, Nat.le_of_ble_eq_true rfl⟩ (fun v x1 H locs cells slots ex hq I => ?_) (fun a x1 H locs cells slots ex hq I => hq.elim)
    obtain ⟨M6, rfl, r7, rfl, h⟩ := hq
    refine f_PI C I (fp_X11_201) (by decide) dX11_line_280 (fit_i _) (fun H locs M8 eM8 I => ?_)
    have h := h M8 eM8
    refine lv_goto (tgt := 470) C.1 C.2.1 dX11_line_283 (by decide) ?_
    exact b_X11_line_470 C M8 _ _ _ _ _ h I (hl.sub [0] rfl)
  · have h := h.2 c9
    exact r_void C.1 C.2.1 C.2.2.2.2.2.1 C.2.2.2.2.2.2 ⟨rfl, rfl⟩ I dX11_line_262 ⟨_, rfl, rfl, h⟩
def w_X11_line_324 (Q : MS → Prop) (M : MS) : Prop := w_X11_isGood (fun r2 M1 => ((¬ r2 = 0) → (w_X11_steps (fun M3 => ∀ M5 : MS, M5 = sF M3 31 ((mF M3 31 + (1 : Int32))) → w_X11_line_470 Q M5) M1)) ∧ ((r2 = 0) → (Q M1))) M
set_option maxHeartbeats 4000000 in
theorem b_X11_line_324 {b0 z0 : Nat} {M0 : MS} {Q : MS → Prop} (C : Cx p s m meth c D T Z "EndingTownModel" cX11_line 4 none) : ∀ (M : MS) (H : Heap) (locs : List Loc) (cells slots : Nat) (ls : Array Slot), w_X11_line_324 Q M → HI (twd D T Z) (mG b0 z0 M0) s (rmX (twd D T Z) 4 90 (mG b0 z0 M0)) H locs cells slots (mG b0 z0 M) → LH ls 4 [(0, .inr (.inl (some b0)))] → W p l e (rmX (twd D T Z) 4 90 (mG b0 z0 M0)) s m args below meth c H locs cells slots (MQX (twd D T Z) (mG b0 z0 M0) (mq b0 z0 (qV Q)) (fun _ _ => False) below s) (F0 m 324 ls []) := by
  intro M H locs cells slots ls h I hl
  refine l_ald_n (x := some b0) C dX11_line_324 hl 0 rfl rfl ?_
  refine k_call Ext.tr C I (k_V (r := some b0) (As := []) (rest := []) (y := yX11_isGood) C (f_recv C I) q1625 q1627 qs51 (Or.inl rfl) q1628 (by decide) rfl pd_X11_isGood rfl dX11_line_325) (ct_X11_isGood h) hl.1 dX11_line_325 [] rfl (Nat.le_of_ble_eq_true rfl) (Or.inl rfl) q1628 q113 ⟨Nat.le_of_ble_eq_true rfl, Nat.le_of_ble_eq_true rfl⟩ (fun v x1 H locs cells slots ex hq I => ?_) (fun a x1 H locs cells slots ex hq I => hq.elim)
  obtain ⟨M1, rfl, r2, rfl, h⟩ := hq
  refine lv_if_ne (tgt := 332) C.1 C.2.1 dX11_line_328 (by decide) (fun c6 => ?_) (fun c6 => ?_)
  · have h := h.1 c6
    refine l_ald_n (x := some b0) C dX11_line_332 hl 0 rfl rfl ?_
    refine k_call Ext.tr C I (k_V (r := some b0) (As := []) (rest := []) (y := yX11_steps) C (f_recv C I) q1611 q1613 qs49 (Or.inl rfl) q1614 (by decide) rfl pd_X11_steps rfl dX11_line_333) (ct_X11_steps h) hl.1 dX11_line_333 [] rfl (Nat.le_of_ble_eq_true rfl) (Or.inl rfl) q1614 q113 ⟨Nat.le_of_ble_eq_true rfl, Nat.le_of_ble_eq_true rfl⟩ (fun v x1 H locs cells slots ex hq I => ?_) (fun a x1 H locs cells slots ex hq I => hq.elim)
    obtain ⟨M3, rfl, rfl, h⟩ := hq
    refine l_ald_n (x := some b0) C dX11_line_336 hl 0 rfl rfl ?_
    refine lv_dup C.1 C.2.1 dX11_line_337 (cat_rf _) ?_
    refine f_I C I (fl_X11_219) (by decide) dX11_line_338 ?_
    refine lv_iconst (v := 1) C.1 C.2.1 dX11_line_341 (by decide) ?_
    refine lv_iadd C.1 C.2.1 dX11_line_342 ?_
    refine f_PI C I (fp_X11_219) (by decide) dX11_line_343 (fit_i _) (fun H locs M5 eM5 I => ?_)
    have h := h M5 eM5
    refine lv_goto (tgt := 470) C.1 C.2.1 dX11_line_346 (by decide) ?_
    exact b_X11_line_470 C M5 _ _ _ _ _ h I (hl.sub [0] rfl)
  · have h := h.2 c6
    exact r_void C.1 C.2.1 C.2.2.2.2.2.1 C.2.2.2.2.2.2 ⟨rfl, rfl⟩ I dX11_line_331 ⟨_, rfl, rfl, h⟩
def w_X11_line_462 (Q : MS → Prop) (M : MS) : Prop := w_X11_line_470 Q M
set_option maxHeartbeats 4000000 in
theorem b_X11_line_462 {b0 z0 : Nat} {M0 : MS} {Q : MS → Prop} (C : Cx p s m meth c D T Z "EndingTownModel" cX11_line 4 none) : ∀ (M : MS) (H : Heap) (locs : List Loc) (cells slots : Nat) (ls : Array Slot), w_X11_line_462 Q M → HI (twd D T Z) (mG b0 z0 M0) s (rmX (twd D T Z) 4 90 (mG b0 z0 M0)) H locs cells slots (mG b0 z0 M) → LH ls 4 [(0, .inr (.inl (some b0)))] → W p l e (rmX (twd D T Z) 4 90 (mG b0 z0 M0)) s m args below meth c H locs cells slots (MQX (twd D T Z) (mG b0 z0 M0) (mq b0 z0 (qV Q)) (fun _ _ => False) below s) (F0 m 462 ls []) := by
  intro M H locs cells slots ls h I hl
  refine lv_goto (tgt := 470) C.1 C.2.1 dX11_line_462 (by decide) ?_
  exact b_X11_line_470 C M _ _ _ _ _ h I (hl.sub [0] rfl)
def w_X11_line (Q : MS → Prop) (M : MS) : Prop := w_X11_is (fun r2 M1 => ((r2 = 0) → (w_X11_is (fun r4 M3 => ((r4 = 0) → (w_X11_is (fun r6 M5 => ((r6 = 0) → (w_X11_is (fun r8 M7 => ((r8 = 0) → (w_X11_is (fun r10 M9 => ((r10 = 0) → (w_X11_is (fun r12 M11 => ((r12 = 0) → (w_X11_is (fun r14 M13 => ((r14 = 0) → (w_X11_is (fun r16 M15 => ((r16 = 0) → (w_X11_is (fun r18 M17 => ((r18 = 0) → (w_X11_is (fun r20 M19 => ((r20 = 0) → (w_X11_is (fun r22 M21 => ((r22 = 0) → (w_X11_faults (fun M23 => w_X11_line_470 Q M23) ((1 : Int32)) M21)) ∧ ((¬ r22 = 0) → (w_X11_steps (fun M25 => w_X11_number (fun r28 M27 => w_X11_number (fun r30 M29 => w_X11_number (fun r32 M31 => w_X11_isGood (fun r34 M33 => ((r34 = 0) → (w_X11_line_462 Q M33)) ∧ ((¬ r34 = 0) → (vp_in (((2 : Int32) * r28)) (mlen 45) ∧ ∀ M35 : MS, M35 = sA M33 45 (((2 : Int32) * r28)).toNatClampNeg r30 → vp_in ((((2 : Int32) * r28) + (1 : Int32))) (mlen 45) ∧ ∀ M36 : MS, M36 = sA M35 45 ((((2 : Int32) * r28) + (1 : Int32))).toNatClampNeg r32 → w_X11_line_462 Q M36))) M31) ((0 : Int32)) ((1000 : Int32)) M29) ((0 : Int32)) ((1000 : Int32)) M27) ((0 : Int32)) ((4 : Int32)) M25) M21))) ((10 : Int32)) M19)) ∧ ((¬ r20 = 0) → (w_X11_readsAt (fun M39 => w_X11_line_470 Q M39) M19))) ((9 : Int32)) M17)) ∧ ((¬ r18 = 0) → (w_X11_readsRule (fun M42 => w_X11_line_470 Q M42) M17))) ((8 : Int32)) M15)) ∧ ((¬ r16 = 0) → (w_X11_readsThing (fun M45 => w_X11_line_470 Q M45) M15))) ((7 : Int32)) M13)) ∧ ((¬ r14 = 0) → (((¬ mF M13 31 = (6 : Int32)) → (w_X11_line_324 Q M13)) ∧ ((mF M13 31 = (6 : Int32)) → (w_X11_faults (fun M48 => w_X11_line_324 Q M48) ((2 : Int32)) M13))))) ((6 : Int32)) M11)) ∧ ((¬ r12 = 0) → (w_X11_readsNear (fun M52 => w_X11_line_470 Q M52) M11))) ((5 : Int32)) M9)) ∧ ((¬ r10 = 0) → (((mF M9 35 = 0) → (((mF M9 36 = 0) → (w_X11_line_255 Q M9)) ∧ ((¬ mF M9 36 = 0) → (w_X11_faults (fun M55 => w_X11_line_255 Q M55) ((5 : Int32)) M9)))) ∧ ((¬ mF M9 35 = 0) → (w_X11_faults (fun M58 => w_X11_line_255 Q M58) ((4 : Int32)) M9))))) ((4 : Int32)) M7)) ∧ ((¬ r8 = 0) → (((mF M7 34 = 0) → (w_X11_line_191 Q M7)) ∧ ((¬ mF M7 34 = 0) → (w_X11_faults (fun M62 => w_X11_line_191 Q M62) ((4 : Int32)) M7))))) ((3 : Int32)) M5)) ∧ ((¬ r6 = 0) → (((¬ mF M5 29 = (6 : Int32)) → (w_X11_line_106 Q M5)) ∧ ((mF M5 29 = (6 : Int32)) → (w_X11_faults (fun M66 => w_X11_line_106 Q M66) ((2 : Int32)) M5))))) ((2 : Int32)) M3)) ∧ ((¬ r4 = 0) → (w_X11_readsEnding (fun M70 => w_X11_line_470 Q M70) M3))) ((1 : Int32)) M1)) ∧ ((¬ r2 = 0) → (((¬ mF M1 28 = (12 : Int32)) → (w_X11_line_22 Q M1)) ∧ ((mF M1 28 = (12 : Int32)) → (w_X11_faults (fun M73 => w_X11_line_22 Q M73) ((2 : Int32)) M1))))) ((0 : Int32)) M
theorem pd_X11_line : (parseMethodDescriptor yX11_line.desc).map (fun d => d.parameters.length) = some 0 := by decide +kernel
set_option maxHeartbeats 4000000 in
theorem ct_X11_line {l : Launch} {D : va_G} {T : Nat → ClassId} {Z : Heap} {b0 z0 : Nat} {M0 : MS} {Q : MS → Prop} (hw : w_X11_line Q M0) : CT (twd D T Z) (Evd D T Z) l yX11_line (Cond.code yX11_line cX11_line 4 none) 4 90 [va_rf (some b0)] (mG b0 z0 M0) (mq b0 z0 (qV Q)) (fun _ _ => False) := by
  refine CT.ofW (cc := cX11_line) (nL := 4) (ret := none) Ext.rf (by decide) (Or.inl rfl) ?_
  intro p e s m below meth c hx hb hml hown hr hlk hnm hcb hm hc hn hE I
  have C : Cx p s m meth c D T Z "EndingTownModel" cX11_line 4 none := ⟨hx, hb, hml, hown, hE, hr, hlk⟩
  refine w_entry [.inr (.inl (some b0))] (Nat.le_of_ble_eq_true rfl) (fun ls hl => ?_)
  have hl : LH ls 4 [(0, .inr (.inl (some b0)))] := hl
  have h := hw
  refine l_ald_n (x := some b0) C dX11_line_0 hl 0 rfl rfl ?_
  refine lv_iconst (v := 0) C.1 C.2.1 dX11_line_1 (by decide) ?_
  refine k_call Ext.tr C I (k_V (r := some b0) (As := [.int ((0 : Int32))]) (rest := []) (y := yX11_is) C (f_recv C I) q1633 q1635 qs53 (Or.inl rfl) q1636 (by decide) rfl pd_X11_is rfl dX11_line_2) (ct_X11_is h) hl.1 dX11_line_2 [] rfl (Nat.le_of_ble_eq_true rfl) (Or.inl rfl) q1636 q113 ⟨Nat.le_of_ble_eq_true rfl, Nat.le_of_ble_eq_true rfl⟩ (fun v x1 H locs cells slots ex hq I => ?_) (fun a x1 H locs cells slots ex hq I => hq.elim)
  obtain ⟨M1, rfl, r2, rfl, h⟩ := hq
  refine lv_if_eq (tgt := 69) C.1 C.2.1 dX11_line_5 (by decide) (fun c76 => ?_) (fun c76 => ?_)
  · have h := h.1 c76
    refine l_ald_n (x := some b0) C dX11_line_69 hl 0 rfl rfl ?_
    refine lv_iconst (v := 1) C.1 C.2.1 dX11_line_70 (by decide) ?_
    refine k_call Ext.tr C I (k_V (r := some b0) (As := [.int ((1 : Int32))]) (rest := []) (y := yX11_is) C (f_recv C I) q1633 q1635 qs53 (Or.inl rfl) q1636 (by decide) rfl pd_X11_is rfl dX11_line_71) (ct_X11_is h) hl.1 dX11_line_71 [] rfl (Nat.le_of_ble_eq_true rfl) (Or.inl rfl) q1636 q113 ⟨Nat.le_of_ble_eq_true rfl, Nat.le_of_ble_eq_true rfl⟩ (fun v x1 H locs cells slots ex hq I => ?_) (fun a x1 H locs cells slots ex hq I => hq.elim)
    obtain ⟨M3, rfl, r4, rfl, h⟩ := hq
    refine lv_if_eq (tgt := 84) C.1 C.2.1 dX11_line_74 (by decide) (fun c72 => ?_) (fun c72 => ?_)
    · have h := h.1 c72
      refine l_ald_n (x := some b0) C dX11_line_84 hl 0 rfl rfl ?_
      refine lv_iconst (v := 2) C.1 C.2.1 dX11_line_85 (by decide) ?_
      refine k_call Ext.tr C I (k_V (r := some b0) (As := [.int ((2 : Int32))]) (rest := []) (y := yX11_is) C (f_recv C I) q1633 q1635 qs53 (Or.inl rfl) q1636 (by decide) rfl pd_X11_is rfl dX11_line_86) (ct_X11_is h) hl.1 dX11_line_86 [] rfl (Nat.le_of_ble_eq_true rfl) (Or.inl rfl) q1636 q113 ⟨Nat.le_of_ble_eq_true rfl, Nat.le_of_ble_eq_true rfl⟩ (fun v x1 H locs cells slots ex hq I => ?_) (fun a x1 H locs cells slots ex hq I => hq.elim)
      obtain ⟨M5, rfl, r6, rfl, h⟩ := hq
      refine lv_if_eq (tgt := 171) C.1 C.2.1 dX11_line_89 (by decide) (fun c69 => ?_) (fun c69 => ?_)
      · have h := h.1 c69
        refine l_ald_n (x := some b0) C dX11_line_171 hl 0 rfl rfl ?_
        refine lv_iconst (v := 3) C.1 C.2.1 dX11_line_172 (by decide) ?_
        refine k_call Ext.tr C I (k_V (r := some b0) (As := [.int ((3 : Int32))]) (rest := []) (y := yX11_is) C (f_recv C I) q1633 q1635 qs53 (Or.inl rfl) q1636 (by decide) rfl pd_X11_is rfl dX11_line_173) (ct_X11_is h) hl.1 dX11_line_173 [] rfl (Nat.le_of_ble_eq_true rfl) (Or.inl rfl) q1636 q113 ⟨Nat.le_of_ble_eq_true rfl, Nat.le_of_ble_eq_true rfl⟩ (fun v x1 H locs cells slots ex hq I => ?_) (fun a x1 H locs cells slots ex hq I => hq.elim)
        obtain ⟨M7, rfl, r8, rfl, h⟩ := hq
        refine lv_if_eq (tgt := 220) C.1 C.2.1 dX11_line_176 (by decide) (fun c65 => ?_) (fun c65 => ?_)
        · have h := h.1 c65
          refine l_ald_n (x := some b0) C dX11_line_220 hl 0 rfl rfl ?_
          refine lv_iconst (v := 4) C.1 C.2.1 dX11_line_221 (by decide) ?_
          refine k_call Ext.tr C I (k_V (r := some b0) (As := [.int ((4 : Int32))]) (rest := []) (y := yX11_is) C (f_recv C I) q1633 q1635 qs53 (Or.inl rfl) q1636 (by decide) rfl pd_X11_is rfl dX11_line_222) (ct_X11_is h) hl.1 dX11_line_222 [] rfl (Nat.le_of_ble_eq_true rfl) (Or.inl rfl) q1636 q113 ⟨Nat.le_of_ble_eq_true rfl, Nat.le_of_ble_eq_true rfl⟩ (fun v x1 H locs cells slots ex hq I => ?_) (fun a x1 H locs cells slots ex hq I => hq.elim)
          obtain ⟨M9, rfl, r10, rfl, h⟩ := hq
          refine lv_if_eq (tgt := 286) C.1 C.2.1 dX11_line_225 (by decide) (fun c61 => ?_) (fun c61 => ?_)
          · have h := h.1 c61
            refine l_ald_n (x := some b0) C dX11_line_286 hl 0 rfl rfl ?_
            refine lv_iconst (v := 5) C.1 C.2.1 dX11_line_287 (by decide) ?_
            refine k_call Ext.tr C I (k_V (r := some b0) (As := [.int ((5 : Int32))]) (rest := []) (y := yX11_is) C (f_recv C I) q1633 q1635 qs53 (Or.inl rfl) q1636 (by decide) rfl pd_X11_is rfl dX11_line_288) (ct_X11_is h) hl.1 dX11_line_288 [] rfl (Nat.le_of_ble_eq_true rfl) (Or.inl rfl) q1636 q113 ⟨Nat.le_of_ble_eq_true rfl, Nat.le_of_ble_eq_true rfl⟩ (fun v x1 H locs cells slots ex hq I => ?_) (fun a x1 H locs cells slots ex hq I => hq.elim)
            obtain ⟨M11, rfl, r12, rfl, h⟩ := hq
            refine lv_if_eq (tgt := 301) C.1 C.2.1 dX11_line_291 (by decide) (fun c54 => ?_) (fun c54 => ?_)
            · have h := h.1 c54
              refine l_ald_n (x := some b0) C dX11_line_301 hl 0 rfl rfl ?_
              refine lv_bipush (v := 6) C.1 C.2.1 dX11_line_302 (by decide) ?_
              refine k_call Ext.tr C I (k_V (r := some b0) (As := [.int ((6 : Int32))]) (rest := []) (y := yX11_is) C (f_recv C I) q1633 q1635 qs53 (Or.inl rfl) q1636 (by decide) rfl pd_X11_is rfl dX11_line_304) (ct_X11_is h) hl.1 dX11_line_304 [] rfl (Nat.le_of_ble_eq_true rfl) (Or.inl rfl) q1636 q113 ⟨Nat.le_of_ble_eq_true rfl, Nat.le_of_ble_eq_true rfl⟩ (fun v x1 H locs cells slots ex hq I => ?_) (fun a x1 H locs cells slots ex hq I => hq.elim)
              obtain ⟨M13, rfl, r14, rfl, h⟩ := hq
              refine lv_if_eq (tgt := 349) C.1 C.2.1 dX11_line_307 (by decide) (fun c51 => ?_) (fun c51 => ?_)
              · have h := h.1 c51
                refine l_ald_n (x := some b0) C dX11_line_349 hl 0 rfl rfl ?_
                refine lv_bipush (v := 7) C.1 C.2.1 dX11_line_350 (by decide) ?_
                refine k_call Ext.tr C I (k_V (r := some b0) (As := [.int ((7 : Int32))]) (rest := []) (y := yX11_is) C (f_recv C I) q1633 q1635 qs53 (Or.inl rfl) q1636 (by decide) rfl pd_X11_is rfl dX11_line_352) (ct_X11_is h) hl.1 dX11_line_352 [] rfl (Nat.le_of_ble_eq_true rfl) (Or.inl rfl) q1636 q113 ⟨Nat.le_of_ble_eq_true rfl, Nat.le_of_ble_eq_true rfl⟩ (fun v x1 H locs cells slots ex hq I => ?_) (fun a x1 H locs cells slots ex hq I => hq.elim)
                obtain ⟨M15, rfl, r16, rfl, h⟩ := hq
                refine lv_if_eq (tgt := 365) C.1 C.2.1 dX11_line_355 (by decide) (fun c47 => ?_) (fun c47 => ?_)
                · have h := h.1 c47
                  refine l_ald_n (x := some b0) C dX11_line_365 hl 0 rfl rfl ?_
                  refine lv_bipush (v := 8) C.1 C.2.1 dX11_line_366 (by decide) ?_
                  refine k_call Ext.tr C I (k_V (r := some b0) (As := [.int ((8 : Int32))]) (rest := []) (y := yX11_is) C (f_recv C I) q1633 q1635 qs53 (Or.inl rfl) q1636 (by decide) rfl pd_X11_is rfl dX11_line_368) (ct_X11_is h) hl.1 dX11_line_368 [] rfl (Nat.le_of_ble_eq_true rfl) (Or.inl rfl) q1636 q113 ⟨Nat.le_of_ble_eq_true rfl, Nat.le_of_ble_eq_true rfl⟩ (fun v x1 H locs cells slots ex hq I => ?_) (fun a x1 H locs cells slots ex hq I => hq.elim)
                  obtain ⟨M17, rfl, r18, rfl, h⟩ := hq
                  refine lv_if_eq (tgt := 381) C.1 C.2.1 dX11_line_371 (by decide) (fun c44 => ?_) (fun c44 => ?_)
                  · have h := h.1 c44
                    refine l_ald_n (x := some b0) C dX11_line_381 hl 0 rfl rfl ?_
                    refine lv_bipush (v := 9) C.1 C.2.1 dX11_line_382 (by decide) ?_
                    refine k_call Ext.tr C I (k_V (r := some b0) (As := [.int ((9 : Int32))]) (rest := []) (y := yX11_is) C (f_recv C I) q1633 q1635 qs53 (Or.inl rfl) q1636 (by decide) rfl pd_X11_is rfl dX11_line_384) (ct_X11_is h) hl.1 dX11_line_384 [] rfl (Nat.le_of_ble_eq_true rfl) (Or.inl rfl) q1636 q113 ⟨Nat.le_of_ble_eq_true rfl, Nat.le_of_ble_eq_true rfl⟩ (fun v x1 H locs cells slots ex hq I => ?_) (fun a x1 H locs cells slots ex hq I => hq.elim)
                    obtain ⟨M19, rfl, r20, rfl, h⟩ := hq
                    refine lv_if_eq (tgt := 397) C.1 C.2.1 dX11_line_387 (by decide) (fun c41 => ?_) (fun c41 => ?_)
                    · have h := h.1 c41
                      refine l_ald_n (x := some b0) C dX11_line_397 hl 0 rfl rfl ?_
                      refine lv_bipush (v := 10) C.1 C.2.1 dX11_line_398 (by decide) ?_
                      refine k_call Ext.tr C I (k_V (r := some b0) (As := [.int ((10 : Int32))]) (rest := []) (y := yX11_is) C (f_recv C I) q1633 q1635 qs53 (Or.inl rfl) q1636 (by decide) rfl pd_X11_is rfl dX11_line_400) (ct_X11_is h) hl.1 dX11_line_400 [] rfl (Nat.le_of_ble_eq_true rfl) (Or.inl rfl) q1636 q113 ⟨Nat.le_of_ble_eq_true rfl, Nat.le_of_ble_eq_true rfl⟩ (fun v x1 H locs cells slots ex hq I => ?_) (fun a x1 H locs cells slots ex hq I => hq.elim)
                      obtain ⟨M21, rfl, r22, rfl, h⟩ := hq
                      refine lv_if_eq (tgt := 465) C.1 C.2.1 dX11_line_403 (by decide) (fun c38 => ?_) (fun c38 => ?_)
                      · have h := h.1 c38
                        refine l_ald_n (x := some b0) C dX11_line_465 hl 0 rfl rfl ?_
                        refine lv_iconst (v := 1) C.1 C.2.1 dX11_line_466 (by decide) ?_
                        refine k_call Ext.tr C I (k_V (r := some b0) (As := [.int ((1 : Int32))]) (rest := []) (y := yX11_faults) C (f_recv C I) q1643 q1645 qs54 (Or.inl rfl) q1646 (by decide) rfl pd_X11_faults rfl dX11_line_467) (ct_X11_faults h) hl.1 dX11_line_467 [] rfl (Nat.le_of_ble_eq_true rfl) (Or.inl rfl) q1646 q113 ⟨Nat.le_of_ble_eq_true rfl, Nat.le_of_ble_eq_true rfl⟩ (fun v x1 H locs cells slots ex hq I => ?_) (fun a x1 H locs cells slots ex hq I => hq.elim)
                        obtain ⟨M23, rfl, rfl, h⟩ := hq
                        exact b_X11_line_470 C M23 _ _ _ _ _ h I (hl.sub [0] rfl)
                      · have h := h.2 c38
                        refine l_ald_n (x := some b0) C dX11_line_406 hl 0 rfl rfl ?_
                        refine k_call Ext.tr C I (k_V (r := some b0) (As := []) (rest := []) (y := yX11_steps) C (f_recv C I) q1611 q1613 qs49 (Or.inl rfl) q1614 (by decide) rfl pd_X11_steps rfl dX11_line_407) (ct_X11_steps h) hl.1 dX11_line_407 [] rfl (Nat.le_of_ble_eq_true rfl) (Or.inl rfl) q1614 q113 ⟨Nat.le_of_ble_eq_true rfl, Nat.le_of_ble_eq_true rfl⟩ (fun v x1 H locs cells slots ex hq I => ?_) (fun a x1 H locs cells slots ex hq I => hq.elim)
                        obtain ⟨M25, rfl, rfl, h⟩ := hq
                        refine l_ald_n (x := some b0) C dX11_line_410 hl 0 rfl rfl ?_
                        refine lv_iconst (v := 0) C.1 C.2.1 dX11_line_411 (by decide) ?_
                        refine lv_iconst (v := 4) C.1 C.2.1 dX11_line_412 (by decide) ?_
                        refine k_call Ext.tr C I (k_V (r := some b0) (As := [.int ((0 : Int32)), .int ((4 : Int32))]) (rest := []) (y := yX11_number) C (f_recv C I) q1655 q1657 qs57 (Or.inl rfl) q1658 (by decide) rfl pd_X11_number rfl dX11_line_413) (ct_X11_number h) hl.1 dX11_line_413 [] rfl (Nat.le_of_ble_eq_true rfl) (Or.inl rfl) q1658 q113 ⟨Nat.le_of_ble_eq_true rfl, Nat.le_of_ble_eq_true rfl⟩ (fun v x1 H locs cells slots ex hq I => ?_) (fun a x1 H locs cells slots ex hq I => hq.elim)
                        obtain ⟨M27, rfl, r28, rfl, h⟩ := hq
                        refine l_ist_n C dX11_line_416 rfl hl (by decide) rfl (fun ls hl => ?_)
                        have hl : LH ls 4 [(1, .inl r28), (0, .inr (.inl (some b0)))] := hl
                        refine l_ald_n (x := some b0) C dX11_line_417 hl 1 rfl rfl ?_
                        refine lv_iconst (v := 0) C.1 C.2.1 dX11_line_418 (by decide) ?_
                        refine lv_sipush (v := 1000) C.1 C.2.1 dX11_line_419 (by decide) ?_
                        refine k_call Ext.tr C I (k_V (r := some b0) (As := [.int ((0 : Int32)), .int ((1000 : Int32))]) (rest := []) (y := yX11_number) C (f_recv C I) q1655 q1657 qs57 (Or.inl rfl) q1658 (by decide) rfl pd_X11_number rfl dX11_line_422) (ct_X11_number h) hl.1 dX11_line_422 [] rfl (Nat.le_of_ble_eq_true rfl) (Or.inl rfl) q1658 q113 ⟨Nat.le_of_ble_eq_true rfl, Nat.le_of_ble_eq_true rfl⟩ (fun v x1 H locs cells slots ex hq I => ?_) (fun a x1 H locs cells slots ex hq I => hq.elim)
                        obtain ⟨M29, rfl, r30, rfl, h⟩ := hq
                        refine l_ist_n C dX11_line_425 rfl hl (by decide) rfl (fun ls hl => ?_)
                        have hl : LH ls 4 [(2, .inl r30), (1, .inl r28), (0, .inr (.inl (some b0)))] := hl
                        refine l_ald_n (x := some b0) C dX11_line_426 hl 2 rfl rfl ?_
                        refine lv_iconst (v := 0) C.1 C.2.1 dX11_line_427 (by decide) ?_
                        refine lv_sipush (v := 1000) C.1 C.2.1 dX11_line_428 (by decide) ?_
                        refine k_call Ext.tr C I (k_V (r := some b0) (As := [.int ((0 : Int32)), .int ((1000 : Int32))]) (rest := []) (y := yX11_number) C (f_recv C I) q1655 q1657 qs57 (Or.inl rfl) q1658 (by decide) rfl pd_X11_number rfl dX11_line_431) (ct_X11_number h) hl.1 dX11_line_431 [] rfl (Nat.le_of_ble_eq_true rfl) (Or.inl rfl) q1658 q113 ⟨Nat.le_of_ble_eq_true rfl, Nat.le_of_ble_eq_true rfl⟩ (fun v x1 H locs cells slots ex hq I => ?_) (fun a x1 H locs cells slots ex hq I => hq.elim)
                        obtain ⟨M31, rfl, r32, rfl, h⟩ := hq
                        refine l_ist_n C dX11_line_434 rfl hl (by decide) rfl (fun ls hl => ?_)
                        have hl : LH ls 4 [(3, .inl r32), (2, .inl r30), (1, .inl r28), (0, .inr (.inl (some b0)))] := hl
                        refine l_ald_n (x := some b0) C dX11_line_435 hl 3 rfl rfl ?_
                        refine k_call Ext.tr C I (k_V (r := some b0) (As := []) (rest := []) (y := yX11_isGood) C (f_recv C I) q1625 q1627 qs51 (Or.inl rfl) q1628 (by decide) rfl pd_X11_isGood rfl dX11_line_436) (ct_X11_isGood h) hl.1 dX11_line_436 [] rfl (Nat.le_of_ble_eq_true rfl) (Or.inl rfl) q1628 q113 ⟨Nat.le_of_ble_eq_true rfl, Nat.le_of_ble_eq_true rfl⟩ (fun v x1 H locs cells slots ex hq I => ?_) (fun a x1 H locs cells slots ex hq I => hq.elim)
                        obtain ⟨M33, rfl, r34, rfl, h⟩ := hq
                        refine lv_if_eq (tgt := 462) C.1 C.2.1 dX11_line_439 (by decide) (fun c37 => ?_) (fun c37 => ?_)
                        · have h := h.1 c37
                          exact b_X11_line_462 C M33 _ _ _ _ _ h I (hl.sub [3] rfl)
                        · have h := h.2 c37
                          refine l_ald_n (x := some b0) C dX11_line_442 hl 3 rfl rfl ?_
                          refine f_A C I (fl_X11_74) (by decide) (by decide) dX11_line_443 ?_
                          refine lv_iconst (v := 2) C.1 C.2.1 dX11_line_446 (by decide) ?_
                          refine l_ild_n C dX11_line_447 hl 2 rfl rfl ?_
                          refine lv_imul C.1 C.2.1 dX11_line_448 ?_
                          refine l_ild_n C dX11_line_449 hl 1 rfl rfl ?_
                          obtain ⟨hi, h⟩ := h
                          refine f_st (k := 45) C I (by decide) hi dX11_line_450 (fun H locs M35 eM35 I => ?_)
                          have h := h M35 eM35
                          refine l_ald_n (x := some b0) C dX11_line_451 hl 3 rfl rfl ?_
                          refine f_A C I (fl_X11_74) (by decide) (by decide) dX11_line_452 ?_
                          refine lv_iconst (v := 2) C.1 C.2.1 dX11_line_455 (by decide) ?_
                          refine l_ild_n C dX11_line_456 hl 2 rfl rfl ?_
                          refine lv_imul C.1 C.2.1 dX11_line_457 ?_
                          refine lv_iconst (v := 1) C.1 C.2.1 dX11_line_458 (by decide) ?_
                          refine lv_iadd C.1 C.2.1 dX11_line_459 ?_
                          refine l_ild_n C dX11_line_460 hl 0 rfl rfl ?_
                          obtain ⟨hi, h⟩ := h
                          refine f_st (k := 45) C I (by decide) hi dX11_line_461 (fun H locs M36 eM36 I => ?_)
                          have h := h M36 eM36
                          exact b_X11_line_462 C M36 _ _ _ _ _ h I (hl.sub [3] rfl)
                    · have h := h.2 c41
                      refine l_ald_n (x := some b0) C dX11_line_390 hl 0 rfl rfl ?_
                      refine k_call Ext.tr C I (k_V (r := some b0) (As := []) (rest := []) (y := yX11_readsAt) C (f_recv C I) q1679 q1681 qs63 (Or.inl rfl) q1682 (by decide) rfl pd_X11_readsAt rfl dX11_line_391) (ct_X11_readsAt h) hl.1 dX11_line_391 [] rfl (Nat.le_of_ble_eq_true rfl) (Or.inl rfl) q1682 q113 ⟨Nat.le_of_ble_eq_true rfl, Nat.le_of_ble_eq_true rfl⟩ (fun v x1 H locs cells slots ex hq I => ?_) (fun a x1 H locs cells slots ex hq I => hq.elim)
                      obtain ⟨M39, rfl, rfl, h⟩ := hq
                      refine lv_goto (tgt := 470) C.1 C.2.1 dX11_line_394 (by decide) ?_
                      exact b_X11_line_470 C M39 _ _ _ _ _ h I (hl.sub [0] rfl)
                  · have h := h.2 c44
                    refine l_ald_n (x := some b0) C dX11_line_374 hl 0 rfl rfl ?_
                    refine k_call Ext.tr C I (k_V (r := some b0) (As := []) (rest := []) (y := yX11_readsRule) C (f_recv C I) q1675 q1677 qs62 (Or.inl rfl) q1678 (by decide) rfl pd_X11_readsRule rfl dX11_line_375) (ct_X11_readsRule h) hl.1 dX11_line_375 [] rfl (Nat.le_of_ble_eq_true rfl) (Or.inl rfl) q1678 q113 ⟨Nat.le_of_ble_eq_true rfl, Nat.le_of_ble_eq_true rfl⟩ (fun v x1 H locs cells slots ex hq I => ?_) (fun a x1 H locs cells slots ex hq I => hq.elim)
                    obtain ⟨M42, rfl, rfl, h⟩ := hq
                    refine lv_goto (tgt := 470) C.1 C.2.1 dX11_line_378 (by decide) ?_
                    exact b_X11_line_470 C M42 _ _ _ _ _ h I (hl.sub [0] rfl)
                · have h := h.2 c47
                  refine l_ald_n (x := some b0) C dX11_line_358 hl 0 rfl rfl ?_
                  refine k_call Ext.tr C I (k_V (r := some b0) (As := []) (rest := []) (y := yX11_readsThing) C (f_recv C I) q1671 q1673 qs61 (Or.inl rfl) q1674 (by decide) rfl pd_X11_readsThing rfl dX11_line_359) (ct_X11_readsThing h) hl.1 dX11_line_359 [] rfl (Nat.le_of_ble_eq_true rfl) (Or.inl rfl) q1674 q113 ⟨Nat.le_of_ble_eq_true rfl, Nat.le_of_ble_eq_true rfl⟩ (fun v x1 H locs cells slots ex hq I => ?_) (fun a x1 H locs cells slots ex hq I => hq.elim)
                  obtain ⟨M45, rfl, rfl, h⟩ := hq
                  refine lv_goto (tgt := 470) C.1 C.2.1 dX11_line_362 (by decide) ?_
                  exact b_X11_line_470 C M45 _ _ _ _ _ h I (hl.sub [0] rfl)
              · have h := h.2 c51
                refine l_ald_n (x := some b0) C dX11_line_310 hl 0 rfl rfl ?_
                refine f_I C I (fl_X11_219) (by decide) dX11_line_311 ?_
                refine lv_bipush (v := 6) C.1 C.2.1 dX11_line_314 (by decide) ?_
                refine lv_icmp_ne (tgt := 324) C.1 C.2.1 dX11_line_316 (by decide) (fun c50 => ?_) (fun c50 => ?_)
                · have h := h.1 c50
                  exact b_X11_line_324 C M13 _ _ _ _ _ h I (hl.sub [0] rfl)
                · have h := h.2 c50
                  refine l_ald_n (x := some b0) C dX11_line_319 hl 0 rfl rfl ?_
                  refine lv_iconst (v := 2) C.1 C.2.1 dX11_line_320 (by decide) ?_
                  refine k_call Ext.tr C I (k_V (r := some b0) (As := [.int ((2 : Int32))]) (rest := []) (y := yX11_faults) C (f_recv C I) q1643 q1645 qs54 (Or.inl rfl) q1646 (by decide) rfl pd_X11_faults rfl dX11_line_321) (ct_X11_faults h) hl.1 dX11_line_321 [] rfl (Nat.le_of_ble_eq_true rfl) (Or.inl rfl) q1646 q113 ⟨Nat.le_of_ble_eq_true rfl, Nat.le_of_ble_eq_true rfl⟩ (fun v x1 H locs cells slots ex hq I => ?_) (fun a x1 H locs cells slots ex hq I => hq.elim)
                  obtain ⟨M48, rfl, rfl, h⟩ := hq
                  exact b_X11_line_324 C M48 _ _ _ _ _ h I (hl.sub [0] rfl)
            · have h := h.2 c54
              refine l_ald_n (x := some b0) C dX11_line_294 hl 0 rfl rfl ?_
              refine k_call Ext.tr C I (k_V (r := some b0) (As := []) (rest := []) (y := yX11_readsNear) C (f_recv C I) q1659 q1661 qs58 (Or.inl rfl) q1662 (by decide) rfl pd_X11_readsNear rfl dX11_line_295) (ct_X11_readsNear h) hl.1 dX11_line_295 [] rfl (Nat.le_of_ble_eq_true rfl) (Or.inl rfl) q1662 q113 ⟨Nat.le_of_ble_eq_true rfl, Nat.le_of_ble_eq_true rfl⟩ (fun v x1 H locs cells slots ex hq I => ?_) (fun a x1 H locs cells slots ex hq I => hq.elim)
              obtain ⟨M52, rfl, rfl, h⟩ := hq
              refine lv_goto (tgt := 470) C.1 C.2.1 dX11_line_298 (by decide) ?_
              exact b_X11_line_470 C M52 _ _ _ _ _ h I (hl.sub [0] rfl)
          · have h := h.2 c61
            refine l_ald_n (x := some b0) C dX11_line_228 hl 0 rfl rfl ?_
            refine f_I C I (fl_X11_231) (by decide) dX11_line_229 ?_
            refine lv_if_eq (tgt := 243) C.1 C.2.1 dX11_line_232 (by decide) (fun c60 => ?_) (fun c60 => ?_)
            · have h := h.1 c60
              refine l_ald_n (x := some b0) C dX11_line_243 hl 0 rfl rfl ?_
              refine f_I C I (fl_X11_197) (by decide) dX11_line_244 ?_
              refine lv_if_eq (tgt := 255) C.1 C.2.1 dX11_line_247 (by decide) (fun c57 => ?_) (fun c57 => ?_)
              · have h := h.1 c57
                exact b_X11_line_255 C M9 _ _ _ _ _ h I (hl.sub [0] rfl)
              · have h := h.2 c57
                refine l_ald_n (x := some b0) C dX11_line_250 hl 0 rfl rfl ?_
                refine lv_iconst (v := 5) C.1 C.2.1 dX11_line_251 (by decide) ?_
                refine k_call Ext.tr C I (k_V (r := some b0) (As := [.int ((5 : Int32))]) (rest := []) (y := yX11_faults) C (f_recv C I) q1643 q1645 qs54 (Or.inl rfl) q1646 (by decide) rfl pd_X11_faults rfl dX11_line_252) (ct_X11_faults h) hl.1 dX11_line_252 [] rfl (Nat.le_of_ble_eq_true rfl) (Or.inl rfl) q1646 q113 ⟨Nat.le_of_ble_eq_true rfl, Nat.le_of_ble_eq_true rfl⟩ (fun v x1 H locs cells slots ex hq I => ?_) (fun a x1 H locs cells slots ex hq I => hq.elim)
                obtain ⟨M55, rfl, rfl, h⟩ := hq
                exact b_X11_line_255 C M55 _ _ _ _ _ h I (hl.sub [0] rfl)
            · have h := h.2 c60
              refine l_ald_n (x := some b0) C dX11_line_235 hl 0 rfl rfl ?_
              refine lv_iconst (v := 4) C.1 C.2.1 dX11_line_236 (by decide) ?_
              refine k_call Ext.tr C I (k_V (r := some b0) (As := [.int ((4 : Int32))]) (rest := []) (y := yX11_faults) C (f_recv C I) q1643 q1645 qs54 (Or.inl rfl) q1646 (by decide) rfl pd_X11_faults rfl dX11_line_237) (ct_X11_faults h) hl.1 dX11_line_237 [] rfl (Nat.le_of_ble_eq_true rfl) (Or.inl rfl) q1646 q113 ⟨Nat.le_of_ble_eq_true rfl, Nat.le_of_ble_eq_true rfl⟩ (fun v x1 H locs cells slots ex hq I => ?_) (fun a x1 H locs cells slots ex hq I => hq.elim)
              obtain ⟨M58, rfl, rfl, h⟩ := hq
              refine lv_goto (tgt := 255) C.1 C.2.1 dX11_line_240 (by decide) ?_
              exact b_X11_line_255 C M58 _ _ _ _ _ h I (hl.sub [0] rfl)
        · have h := h.2 c65
          refine l_ald_n (x := some b0) C dX11_line_179 hl 0 rfl rfl ?_
          refine f_I C I (fl_X11_228) (by decide) dX11_line_180 ?_
          refine lv_if_eq (tgt := 191) C.1 C.2.1 dX11_line_183 (by decide) (fun c64 => ?_) (fun c64 => ?_)
          · have h := h.1 c64
            exact b_X11_line_191 C M7 _ _ _ _ _ h I (hl.sub [0] rfl)
          · have h := h.2 c64
            refine l_ald_n (x := some b0) C dX11_line_186 hl 0 rfl rfl ?_
            refine lv_iconst (v := 4) C.1 C.2.1 dX11_line_187 (by decide) ?_
            refine k_call Ext.tr C I (k_V (r := some b0) (As := [.int ((4 : Int32))]) (rest := []) (y := yX11_faults) C (f_recv C I) q1643 q1645 qs54 (Or.inl rfl) q1646 (by decide) rfl pd_X11_faults rfl dX11_line_188) (ct_X11_faults h) hl.1 dX11_line_188 [] rfl (Nat.le_of_ble_eq_true rfl) (Or.inl rfl) q1646 q113 ⟨Nat.le_of_ble_eq_true rfl, Nat.le_of_ble_eq_true rfl⟩ (fun v x1 H locs cells slots ex hq I => ?_) (fun a x1 H locs cells slots ex hq I => hq.elim)
            obtain ⟨M62, rfl, rfl, h⟩ := hq
            exact b_X11_line_191 C M62 _ _ _ _ _ h I (hl.sub [0] rfl)
      · have h := h.2 c69
        refine l_ald_n (x := some b0) C dX11_line_92 hl 0 rfl rfl ?_
        refine f_I C I (fl_X11_225) (by decide) dX11_line_93 ?_
        refine lv_bipush (v := 6) C.1 C.2.1 dX11_line_96 (by decide) ?_
        refine lv_icmp_ne (tgt := 106) C.1 C.2.1 dX11_line_98 (by decide) (fun c68 => ?_) (fun c68 => ?_)
        · have h := h.1 c68
          exact b_X11_line_106 C M5 _ _ _ _ _ h I (hl.sub [0] rfl)
        · have h := h.2 c68
          refine l_ald_n (x := some b0) C dX11_line_101 hl 0 rfl rfl ?_
          refine lv_iconst (v := 2) C.1 C.2.1 dX11_line_102 (by decide) ?_
          refine k_call Ext.tr C I (k_V (r := some b0) (As := [.int ((2 : Int32))]) (rest := []) (y := yX11_faults) C (f_recv C I) q1643 q1645 qs54 (Or.inl rfl) q1646 (by decide) rfl pd_X11_faults rfl dX11_line_103) (ct_X11_faults h) hl.1 dX11_line_103 [] rfl (Nat.le_of_ble_eq_true rfl) (Or.inl rfl) q1646 q113 ⟨Nat.le_of_ble_eq_true rfl, Nat.le_of_ble_eq_true rfl⟩ (fun v x1 H locs cells slots ex hq I => ?_) (fun a x1 H locs cells slots ex hq I => hq.elim)
          obtain ⟨M66, rfl, rfl, h⟩ := hq
          exact b_X11_line_106 C M66 _ _ _ _ _ h I (hl.sub [0] rfl)
    · have h := h.2 c72
      refine l_ald_n (x := some b0) C dX11_line_77 hl 0 rfl rfl ?_
      refine k_call Ext.tr C I (k_V (r := some b0) (As := []) (rest := []) (y := yX11_readsEnding) C (f_recv C I) q1651 q1653 qs56 (Or.inl rfl) q1654 (by decide) rfl pd_X11_readsEnding rfl dX11_line_78) (ct_X11_readsEnding h) hl.1 dX11_line_78 [] rfl (Nat.le_of_ble_eq_true rfl) (Or.inl rfl) q1654 q113 ⟨Nat.le_of_ble_eq_true rfl, Nat.le_of_ble_eq_true rfl⟩ (fun v x1 H locs cells slots ex hq I => ?_) (fun a x1 H locs cells slots ex hq I => hq.elim)
      obtain ⟨M70, rfl, rfl, h⟩ := hq
      refine lv_goto (tgt := 470) C.1 C.2.1 dX11_line_81 (by decide) ?_
      exact b_X11_line_470 C M70 _ _ _ _ _ h I (hl.sub [0] rfl)
  · have h := h.2 c76
    refine l_ald_n (x := some b0) C dX11_line_8 hl 0 rfl rfl ?_
    refine f_I C I (fl_X11_210) (by decide) dX11_line_9 ?_
    refine lv_bipush (v := 12) C.1 C.2.1 dX11_line_12 (by decide) ?_
    refine lv_icmp_ne (tgt := 22) C.1 C.2.1 dX11_line_14 (by decide) (fun c75 => ?_) (fun c75 => ?_)
    · have h := h.1 c75
      exact b_X11_line_22 C M1 _ _ _ _ _ h I (hl.sub [0] rfl)
    · have h := h.2 c75
      refine l_ald_n (x := some b0) C dX11_line_17 hl 0 rfl rfl ?_
      refine lv_iconst (v := 2) C.1 C.2.1 dX11_line_18 (by decide) ?_
      refine k_call Ext.tr C I (k_V (r := some b0) (As := [.int ((2 : Int32))]) (rest := []) (y := yX11_faults) C (f_recv C I) q1643 q1645 qs54 (Or.inl rfl) q1646 (by decide) rfl pd_X11_faults rfl dX11_line_19) (ct_X11_faults h) hl.1 dX11_line_19 [] rfl (Nat.le_of_ble_eq_true rfl) (Or.inl rfl) q1646 q113 ⟨Nat.le_of_ble_eq_true rfl, Nat.le_of_ble_eq_true rfl⟩ (fun v x1 H locs cells slots ex hq I => ?_) (fun a x1 H locs cells slots ex hq I => hq.elim)
      obtain ⟨M73, rfl, rfl, h⟩ := hq
      exact b_X11_line_22 C M73 _ _ _ _ _ h I (hl.sub [0] rfl)
end GM0
