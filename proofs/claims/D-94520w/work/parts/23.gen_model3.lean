/-! the Model: wp and contracts, by program -/
set_option maxRecDepth 100000
section GM2
variable {p : Program} {l : Launch} {e : Env} {s : State} {m : MethodId} {args : Array Value} {below : List Frame} {meth : Method} {c : Code} {D : va_G} {T : Nat → ClassId} {Z : Heap}
def w_X11_unsay (Q : Int32 → MS → Prop) (M : MS) : Prop := ∀ M1 : MS, M1 = sF M 0 ((0 : Int32)) → ((¬ mF M1 50 = 0) → (∀ M2 : MS, M2 = sF M1 50 ((mF M1 50 - (1 : Int32))) → Q (mF M2 50) M2)) ∧ ((mF M1 50 = 0) → (Q ((-1 : Int32)) M1))
theorem pd_X11_unsay : (parseMethodDescriptor yX11_unsay.desc).map (fun d => d.parameters.length) = some 0 := by decide +kernel
set_option maxHeartbeats 4000000 in
theorem ct_X11_unsay {l : Launch} {D : va_G} {T : Nat → ClassId} {Z : Heap} {b0 z0 : Nat} {M0 : MS} {Q : Int32 → MS → Prop} (hw : w_X11_unsay Q M0) : CT (twd D T Z) (Evd D T Z) l yX11_unsay (Cond.code yX11_unsay cX11_unsay 1 (some .int)) 0 0 [va_rf (some b0)] (mG b0 z0 M0) (mq b0 z0 (qI Q)) (fun _ _ => False) := by
  refine CT.ofW (cc := cX11_unsay) (nL := 1) (ret := (some .int)) Ext.rf (by decide) (Or.inl rfl) ?_
  intro p e s m below meth c hx hb hml hown hr hlk hnm hcb hm hc hn hE I
  have C : Cx p s m meth c D T Z "EndingTownModel" cX11_unsay 1 (some .int) := ⟨hx, hb, hml, hown, hE, hr, hlk⟩
  refine w_entry [.inr (.inl (some b0))] (Nat.le_of_ble_eq_true rfl) (fun ls hl => ?_)
  have hl : LH ls 1 [(0, .inr (.inl (some b0)))] := hl
  have h := hw
  refine l_ald_n (x := some b0) C dX11_unsay_0 hl 0 rfl rfl ?_
  refine lv_iconst (v := 0) C.1 C.2.1 dX11_unsay_1 (by decide) ?_
  refine f_PI C I (fp_X11_122) (by decide) dX11_unsay_2 (fit_i _) (fun H locs M1 eM1 I => ?_)
  have h := h M1 eM1
  refine l_ald_n (x := some b0) C dX11_unsay_5 hl 0 rfl rfl ?_
  refine f_I C I (fl_X11_279) (by decide) dX11_unsay_6 ?_
  refine lv_if_ne (tgt := 14) C.1 C.2.1 dX11_unsay_9 (by decide) (fun c3 => ?_) (fun c3 => ?_)
  · have h := h.1 c3
    refine l_ald_n (x := some b0) C dX11_unsay_14 hl 0 rfl rfl ?_
    refine lv_dup C.1 C.2.1 dX11_unsay_15 (cat_rf _) ?_
    refine f_I C I (fl_X11_279) (by decide) dX11_unsay_16 ?_
    refine lv_iconst (v := 1) C.1 C.2.1 dX11_unsay_19 (by decide) ?_
    refine lv_isub C.1 C.2.1 dX11_unsay_20 ?_
    refine f_PI C I (fp_X11_279) (by decide) dX11_unsay_21 (fit_i _) (fun H locs M2 eM2 I => ?_)
    have h := h M2 eM2
    refine l_ald_n (x := some b0) C dX11_unsay_24 hl 0 rfl rfl ?_
    refine f_I C I (fl_X11_279) (by decide) dX11_unsay_25 ?_
    exact r_int C.1 C.2.1 C.2.2.2.2.2.1 rfl C.2.2.2.2.2.2 ⟨rfl, rfl⟩ I dX11_unsay_28 ⟨_, rfl, _, rfl, h⟩
  · have h := h.2 c3
    refine lv_iconst (v := (-1)) C.1 C.2.1 dX11_unsay_12 (by decide) ?_
    exact r_int C.1 C.2.1 C.2.2.2.2.2.1 rfl C.2.2.2.2.2.2 ⟨rfl, rfl⟩ I dX11_unsay_13 ⟨_, rfl, _, rfl, h⟩
def w_X11_all (Q : Int32 → MS → Prop) (M : MS) : Prop := Q ((((1 : Int32) <<< (mF M 50 &&& 31)) - (1 : Int32))) M
theorem pd_X11_all : (parseMethodDescriptor yX11_all.desc).map (fun d => d.parameters.length) = some 0 := by decide +kernel
set_option maxHeartbeats 4000000 in
theorem ct_X11_all {l : Launch} {D : va_G} {T : Nat → ClassId} {Z : Heap} {b0 z0 : Nat} {M0 : MS} {Q : Int32 → MS → Prop} (hw : w_X11_all Q M0) : CT (twd D T Z) (Evd D T Z) l yX11_all (Cond.code yX11_all cX11_all 1 (some .int)) 0 0 [va_rf (some b0)] (mG b0 z0 M0) (mq b0 z0 (qI Q)) (fun _ _ => False) := by
  refine CT.ofW (cc := cX11_all) (nL := 1) (ret := (some .int)) Ext.rf (by decide) (Or.inl rfl) ?_
  intro p e s m below meth c hx hb hml hown hr hlk hnm hcb hm hc hn hE I
  have C : Cx p s m meth c D T Z "EndingTownModel" cX11_all 1 (some .int) := ⟨hx, hb, hml, hown, hE, hr, hlk⟩
  refine w_entry [.inr (.inl (some b0))] (Nat.le_of_ble_eq_true rfl) (fun ls hl => ?_)
  have hl : LH ls 1 [(0, .inr (.inl (some b0)))] := hl
  have h := hw
  refine lv_iconst (v := 1) C.1 C.2.1 dX11_all_0 (by decide) ?_
  refine l_ald_n (x := some b0) C dX11_all_1 hl 0 rfl rfl ?_
  refine f_I C I (fl_X11_279) (by decide) dX11_all_2 ?_
  refine lv_ishl C.1 C.2.1 dX11_all_5 ?_
  refine lv_iconst (v := 1) C.1 C.2.1 dX11_all_6 (by decide) ?_
  refine lv_isub C.1 C.2.1 dX11_all_7 ?_
  exact r_int C.1 C.2.1 C.2.2.2.2.2.1 rfl C.2.2.2.2.2.2 ⟨rfl, rfl⟩ I dX11_all_8 ⟨_, rfl, _, rfl, h⟩
def w_X11_of (Q : Int32 → MS → Prop) (p0 : Int32) (p1 : Int32) (M : MS) : Prop := vp_in ((((5 : Int32) * p0) + p1)) (mlen 51) ∧ Q (mA M 51 ((((5 : Int32) * p0) + p1)).toNatClampNeg) M
theorem pd_X11_of : (parseMethodDescriptor yX11_of.desc).map (fun d => d.parameters.length) = some 2 := by decide +kernel
set_option maxHeartbeats 4000000 in
theorem ct_X11_of {l : Launch} {D : va_G} {T : Nat → ClassId} {Z : Heap} {b0 z0 : Nat} {M0 : MS} {Q : Int32 → MS → Prop} {p0 : Int32} {p1 : Int32} (hw : w_X11_of Q p0 p1 M0) : CT (twd D T Z) (Evd D T Z) l yX11_of (Cond.code yX11_of cX11_of 3 (some .int)) 0 0 [va_rf (some b0), .int p0, .int p1] (mG b0 z0 M0) (mq b0 z0 (qI Q)) (fun _ _ => False) := by
  refine CT.ofW (cc := cX11_of) (nL := 3) (ret := (some .int)) Ext.rf (by decide) (Or.inl rfl) ?_
  intro p e s m below meth c hx hb hml hown hr hlk hnm hcb hm hc hn hE I
  have C : Cx p s m meth c D T Z "EndingTownModel" cX11_of 3 (some .int) := ⟨hx, hb, hml, hown, hE, hr, hlk⟩
  refine w_entry [.inr (.inl (some b0)), .inl p0, .inl p1] (Nat.le_of_ble_eq_true rfl) (fun ls hl => ?_)
  have hl : LH ls 3 [(0, .inr (.inl (some b0))), (1, .inl p0), (2, .inl p1)] := hl
  have h := hw
  refine l_ald_n (x := some b0) C dX11_of_0 hl 0 rfl rfl ?_
  refine f_A C I (fl_X11_83) (by decide) (by decide) dX11_of_1 ?_
  refine lv_iconst (v := 5) C.1 C.2.1 dX11_of_4 (by decide) ?_
  refine l_ild_n C dX11_of_5 hl 1 rfl rfl ?_
  refine lv_imul C.1 C.2.1 dX11_of_6 ?_
  refine l_ild_n C dX11_of_7 hl 2 rfl rfl ?_
  refine lv_iadd C.1 C.2.1 dX11_of_8 ?_
  obtain ⟨hi, h⟩ := h
  refine f_ld (k := 51) C I (by decide) hi dX11_of_9 ?_
  exact r_int C.1 C.2.1 C.2.2.2.2.2.1 rfl C.2.2.2.2.2.2 ⟨rfl, rfl⟩ I dX11_of_10 ⟨_, rfl, _, rfl, h⟩
def w_X11_pairAt_32 (Q : Int32 → MS → Prop) (k2 : Int32 → Int32 → Int32 → MS → Prop) (l1 : Int32) (l2 : Int32) (l3 : Int32) (M : MS) : Prop := k2 l1 l2 ((l3 + 1)) M
set_option maxHeartbeats 4000000 in
theorem b_X11_pairAt_32 {b0 z0 : Nat} {M0 : MS} {Q : Int32 → MS → Prop} {k2 : Int32 → Int32 → Int32 → MS → Prop} (C : Cx p s m meth c D T Z "EndingTownModel" cX11_pairAt 4 (some .int)) (hk2 : ∀ (l1 : Int32) (l2 : Int32) (l3 : Int32) (M : MS) (H : Heap) (locs : List Loc) (cells slots : Nat) (ls : Array Slot), k2 l1 l2 l3 M → HI (twd D T Z) (mG b0 z0 M0) s (rmX (twd D T Z) 0 0 (mG b0 z0 M0)) H locs cells slots (mG b0 z0 M) → LH ls 4 [(0, .inr (.inl (some b0))), (1, .inl l1), (2, .inl l2), (3, .inl l3)] → W p l e (rmX (twd D T Z) 0 0 (mG b0 z0 M0)) s m args below meth c H locs cells slots (MQX (twd D T Z) (mG b0 z0 M0) (mq b0 z0 (qI Q)) (fun _ _ => False) below s) (F0 m 2 ls [])) : ∀ (l1 : Int32) (l2 : Int32) (l3 : Int32) (M : MS) (H : Heap) (locs : List Loc) (cells slots : Nat) (ls : Array Slot), w_X11_pairAt_32 Q k2 l1 l2 l3 M → HI (twd D T Z) (mG b0 z0 M0) s (rmX (twd D T Z) 0 0 (mG b0 z0 M0)) H locs cells slots (mG b0 z0 M) → LH ls 4 [(0, .inr (.inl (some b0))), (1, .inl l1), (2, .inl l2), (3, .inl l3)] → W p l e (rmX (twd D T Z) 0 0 (mG b0 z0 M0)) s m args below meth c H locs cells slots (MQX (twd D T Z) (mG b0 z0 M0) (mq b0 z0 (qI Q)) (fun _ _ => False) below s) (F0 m 32 ls []) := by
  intro l1 l2 l3 M H locs cells slots ls h I hl
  refine l_inc (q := 3) (v := 1) C dX11_pairAt_32 hl rfl (by decide) (by decide) rfl (fun ls hl => ?_)
  have hl : LH ls 4 [(3, .inl ((l3 + 1))), (0, .inr (.inl (some b0))), (1, .inl l1), (2, .inl l2)] := hl
  refine lv_goto (tgt := 2) C.1 C.2.1 dX11_pairAt_35 (by decide) ?_
  exact hk2 l1 l2 ((l3 + 1)) M _ _ _ _ _ h I (hl.sub [1, 2, 3, 0] rfl)
def w_X11_pairAt_2 (Q : Int32 → MS → Prop) : Nat → Int32 → Int32 → Int32 → MS → Prop
  | 0 => fun _ _ _ _ => False
  | f2 + 1 => fun l1 l2 l3 M => ((mF M 59 ≤ l3) → (vp_in (mF M 59) (mlen 55) ∧ ∀ M1 : MS, M1 = sA M 55 (mF M 59).toNatClampNeg l1 → vp_in (mF M1 59) (mlen 56) ∧ ∀ M2 : MS, M2 = sA M1 56 (mF M1 59).toNatClampNeg l2 → ∀ M3 : MS, M3 = sF M2 59 ((mF M2 59 + (1 : Int32))) → Q ((mF M3 59 - (1 : Int32))) M3)) ∧ ((¬ mF M 59 ≤ l3) → (vp_in l3 (mlen 55) ∧ ((¬ mA M 55 l3.toNatClampNeg = l1) → (w_X11_pairAt_32 Q (w_X11_pairAt_2 Q f2) l1 l2 l3 M)) ∧ ((mA M 55 l3.toNatClampNeg = l1) → (vp_in l3 (mlen 56) ∧ ((¬ mA M 56 l3.toNatClampNeg = l2) → (w_X11_pairAt_32 Q (w_X11_pairAt_2 Q f2) l1 l2 l3 M)) ∧ ((mA M 56 l3.toNatClampNeg = l2) → (Q l3 M))))))
set_option maxHeartbeats 4000000 in
theorem b_X11_pairAt_2 {b0 z0 : Nat} {M0 : MS} {Q : Int32 → MS → Prop} (C : Cx p s m meth c D T Z "EndingTownModel" cX11_pairAt 4 (some .int)) : ∀ (n : Nat) (l1 : Int32) (l2 : Int32) (l3 : Int32) (M : MS) (H : Heap) (locs : List Loc) (cells slots : Nat) (ls : Array Slot), w_X11_pairAt_2 Q n l1 l2 l3 M → HI (twd D T Z) (mG b0 z0 M0) s (rmX (twd D T Z) 0 0 (mG b0 z0 M0)) H locs cells slots (mG b0 z0 M) → LH ls 4 [(0, .inr (.inl (some b0))), (1, .inl l1), (2, .inl l2), (3, .inl l3)] → W p l e (rmX (twd D T Z) 0 0 (mG b0 z0 M0)) s m args below meth c H locs cells slots (MQX (twd D T Z) (mG b0 z0 M0) (mq b0 z0 (qI Q)) (fun _ _ => False) below s) (F0 m 2 ls []) := by
  intro n
  induction n with
  | zero => intro l1 l2 l3 M H locs cells slots ls h; exact (show False from h).elim
  | succ n ih =>
    intro l1 l2 l3 M H locs cells slots ls h I hl
    have hk2 := ih
    refine l_ild_n C dX11_pairAt_2 hl 3 rfl rfl ?_
    refine l_ald_n (x := some b0) C dX11_pairAt_3 hl 0 rfl rfl ?_
    refine f_I C I (fl_X11_343) (by decide) dX11_pairAt_4 ?_
    refine lv_icmp_ge (tgt := 38) C.1 C.2.1 dX11_pairAt_7 (by decide) (fun c6 => ?_) (fun c6 => ?_)
    · have h := h.1 c6
      refine l_ald_n (x := some b0) C dX11_pairAt_38 hl 0 rfl rfl ?_
      refine f_A C I (fl_X11_95) (by decide) (by decide) dX11_pairAt_39 ?_
      refine l_ald_n (x := some b0) C dX11_pairAt_42 hl 0 rfl rfl ?_
      refine f_I C I (fl_X11_343) (by decide) dX11_pairAt_43 ?_
      refine l_ild_n C dX11_pairAt_46 hl 1 rfl rfl ?_
      obtain ⟨hi, h⟩ := h
      refine f_st (k := 55) C I (by decide) hi dX11_pairAt_47 (fun H locs M1 eM1 I => ?_)
      have h := h M1 eM1
      refine l_ald_n (x := some b0) C dX11_pairAt_48 hl 0 rfl rfl ?_
      refine f_A C I (fl_X11_98) (by decide) (by decide) dX11_pairAt_49 ?_
      refine l_ald_n (x := some b0) C dX11_pairAt_52 hl 0 rfl rfl ?_
      refine f_I C I (fl_X11_343) (by decide) dX11_pairAt_53 ?_
      refine l_ild_n C dX11_pairAt_56 hl 2 rfl rfl ?_
      obtain ⟨hi, h⟩ := h
      refine f_st (k := 56) C I (by decide) hi dX11_pairAt_57 (fun H locs M2 eM2 I => ?_)
      have h := h M2 eM2
      refine l_ald_n (x := some b0) C dX11_pairAt_58 hl 0 rfl rfl ?_
      refine lv_dup C.1 C.2.1 dX11_pairAt_59 (cat_rf _) ?_
      refine f_I C I (fl_X11_343) (by decide) dX11_pairAt_60 ?_
      refine lv_iconst (v := 1) C.1 C.2.1 dX11_pairAt_63 (by decide) ?_
      refine lv_iadd C.1 C.2.1 dX11_pairAt_64 ?_
      refine f_PI C I (fp_X11_343) (by decide) dX11_pairAt_65 (fit_i _) (fun H locs M3 eM3 I => ?_)
      have h := h M3 eM3
      refine l_ald_n (x := some b0) C dX11_pairAt_68 hl 0 rfl rfl ?_
      refine f_I C I (fl_X11_343) (by decide) dX11_pairAt_69 ?_
      refine lv_iconst (v := 1) C.1 C.2.1 dX11_pairAt_72 (by decide) ?_
      refine lv_isub C.1 C.2.1 dX11_pairAt_73 ?_
      exact r_int C.1 C.2.1 C.2.2.2.2.2.1 rfl C.2.2.2.2.2.2 ⟨rfl, rfl⟩ I dX11_pairAt_74 ⟨_, rfl, _, rfl, h⟩
    · have h := h.2 c6
      refine l_ald_n (x := some b0) C dX11_pairAt_10 hl 0 rfl rfl ?_
      refine f_A C I (fl_X11_95) (by decide) (by decide) dX11_pairAt_11 ?_
      refine l_ild_n C dX11_pairAt_14 hl 3 rfl rfl ?_
      obtain ⟨hi, h⟩ := h
      refine f_ld (k := 55) C I (by decide) hi dX11_pairAt_15 ?_
      refine l_ild_n C dX11_pairAt_16 hl 1 rfl rfl ?_
      refine lv_icmp_ne (tgt := 32) C.1 C.2.1 dX11_pairAt_17 (by decide) (fun c5 => ?_) (fun c5 => ?_)
      · have h := h.1 c5
        exact b_X11_pairAt_32 C hk2 l1 l2 l3 M _ _ _ _ _ h I (hl.sub [0, 1, 2, 3] rfl)
      · have h := h.2 c5
        refine l_ald_n (x := some b0) C dX11_pairAt_20 hl 0 rfl rfl ?_
        refine f_A C I (fl_X11_98) (by decide) (by decide) dX11_pairAt_21 ?_
        refine l_ild_n C dX11_pairAt_24 hl 3 rfl rfl ?_
        obtain ⟨hi, h⟩ := h
        refine f_ld (k := 56) C I (by decide) hi dX11_pairAt_25 ?_
        refine l_ild_n C dX11_pairAt_26 hl 2 rfl rfl ?_
        refine lv_icmp_ne (tgt := 32) C.1 C.2.1 dX11_pairAt_27 (by decide) (fun c4 => ?_) (fun c4 => ?_)
        · have h := h.1 c4
          exact b_X11_pairAt_32 C hk2 l1 l2 l3 M _ _ _ _ _ h I (hl.sub [0, 1, 2, 3] rfl)
        · have h := h.2 c4
          refine l_ild_n C dX11_pairAt_30 hl 3 rfl rfl ?_
          exact r_int C.1 C.2.1 C.2.2.2.2.2.1 rfl C.2.2.2.2.2.2 ⟨rfl, rfl⟩ I dX11_pairAt_31 ⟨_, rfl, _, rfl, h⟩
def w_X11_pairAt (Q : Int32 → MS → Prop) (p0 : Int32) (p1 : Int32) (M : MS) : Prop := ∃ n, w_X11_pairAt_2 Q n p0 p1 ((0 : Int32)) M
theorem pd_X11_pairAt : (parseMethodDescriptor yX11_pairAt.desc).map (fun d => d.parameters.length) = some 2 := by decide +kernel
set_option maxHeartbeats 4000000 in
theorem ct_X11_pairAt {l : Launch} {D : va_G} {T : Nat → ClassId} {Z : Heap} {b0 z0 : Nat} {M0 : MS} {Q : Int32 → MS → Prop} {p0 : Int32} {p1 : Int32} (hw : w_X11_pairAt Q p0 p1 M0) : CT (twd D T Z) (Evd D T Z) l yX11_pairAt (Cond.code yX11_pairAt cX11_pairAt 4 (some .int)) 0 0 [va_rf (some b0), .int p0, .int p1] (mG b0 z0 M0) (mq b0 z0 (qI Q)) (fun _ _ => False) := by
  refine CT.ofW (cc := cX11_pairAt) (nL := 4) (ret := (some .int)) Ext.rf (by decide) (Or.inl rfl) ?_
  intro p e s m below meth c hx hb hml hown hr hlk hnm hcb hm hc hn hE I
  have C : Cx p s m meth c D T Z "EndingTownModel" cX11_pairAt 4 (some .int) := ⟨hx, hb, hml, hown, hE, hr, hlk⟩
  refine w_entry [.inr (.inl (some b0)), .inl p0, .inl p1] (Nat.le_of_ble_eq_true rfl) (fun ls hl => ?_)
  have hl : LH ls 4 [(0, .inr (.inl (some b0))), (1, .inl p0), (2, .inl p1)] := hl
  have h := hw
  refine lv_iconst (v := 0) C.1 C.2.1 dX11_pairAt_0 (by decide) ?_
  refine l_ist_n C dX11_pairAt_1 rfl hl (by decide) rfl (fun ls hl => ?_)
  have hl : LH ls 4 [(3, .inl ((0 : Int32))), (0, .inr (.inl (some b0))), (1, .inl p0), (2, .inl p1)] := hl
  obtain ⟨n, h⟩ := h
  exact b_X11_pairAt_2 C n p0 p1 ((0 : Int32)) M0 _ _ _ _ _ h I (hl.sub [1, 2, 3, 0] rfl)
def w_X11_asks_55 (Q : MS → Prop) (M : MS) : Prop := Q M
set_option maxHeartbeats 4000000 in
theorem b_X11_asks_55 {b0 z0 : Nat} {M0 : MS} {Q : MS → Prop} (C : Cx p s m meth c D T Z "EndingTownModel" cX11_asks 4 none) : ∀ (M : MS) (H : Heap) (locs : List Loc) (cells slots : Nat) (ls : Array Slot), w_X11_asks_55 Q M → HI (twd D T Z) (mG b0 z0 M0) s (rmX (twd D T Z) 1 23 (mG b0 z0 M0)) H locs cells slots (mG b0 z0 M) → LH ls 4 [] → W p l e (rmX (twd D T Z) 1 23 (mG b0 z0 M0)) s m args below meth c H locs cells slots (MQX (twd D T Z) (mG b0 z0 M0) (mq b0 z0 (qV Q)) (fun _ _ => False) below s) (F0 m 55 ls []) := by
  intro M H locs cells slots ls h I hl
  exact r_void C.1 C.2.1 C.2.2.2.2.2.1 C.2.2.2.2.2.2 ⟨rfl, rfl⟩ I dX11_asks_55 ⟨_, rfl, rfl, h⟩
def w_X11_asks_7 (Q : MS → Prop) : Nat → Int32 → Int32 → Int32 → MS → Prop
  | 0 => fun _ _ _ _ => False
  | f7 + 1 => fun l1 l2 l3 M => ((mF M 50 ≤ l3) → (((l1 = (-1 : Int32)) → (w_X11_asks_55 Q M)) ∧ ((¬ l1 = (-1 : Int32)) → (w_X11_pairAt (fun r2 M1 => w_X11_asks_55 Q M1) l1 l2 M)))) ∧ ((¬ mF M 50 ≤ l3) → (w_X11_of (fun r5 M4 => w_X11_of (fun r7 M6 => w_X11_pairAt (fun r9 M8 => vp_in l3 (mlen 57) ∧ ∀ M10 : MS, M10 = sA M8 57 l3.toNatClampNeg r9 → (w_X11_asks_7 Q f7) l1 l2 ((l3 + 1)) M10) r5 r7 M6) l3 ((1 : Int32)) M4) l3 ((0 : Int32)) M))
set_option maxHeartbeats 4000000 in
theorem b_X11_asks_7 {b0 z0 : Nat} {M0 : MS} {Q : MS → Prop} (C : Cx p s m meth c D T Z "EndingTownModel" cX11_asks 4 none) : ∀ (n : Nat) (l1 : Int32) (l2 : Int32) (l3 : Int32) (M : MS) (H : Heap) (locs : List Loc) (cells slots : Nat) (ls : Array Slot), w_X11_asks_7 Q n l1 l2 l3 M → HI (twd D T Z) (mG b0 z0 M0) s (rmX (twd D T Z) 1 23 (mG b0 z0 M0)) H locs cells slots (mG b0 z0 M) → LH ls 4 [(0, .inr (.inl (some b0))), (1, .inl l1), (2, .inl l2), (3, .inl l3)] → W p l e (rmX (twd D T Z) 1 23 (mG b0 z0 M0)) s m args below meth c H locs cells slots (MQX (twd D T Z) (mG b0 z0 M0) (mq b0 z0 (qV Q)) (fun _ _ => False) below s) (F0 m 7 ls []) := by
  intro n
  induction n with
  | zero => intro l1 l2 l3 M H locs cells slots ls h; exact (show False from h).elim
  | succ n ih =>
    intro l1 l2 l3 M H locs cells slots ls h I hl
    have hk7 := ih
    refine l_ild_n C dX11_asks_7 hl 3 rfl rfl ?_
    refine l_ald_n (x := some b0) C dX11_asks_8 hl 0 rfl rfl ?_
    refine f_I C I (fl_X11_279) (by decide) dX11_asks_9 ?_
    refine lv_icmp_ge (tgt := 43) C.1 C.2.1 dX11_asks_12 (by decide) (fun c11 => ?_) (fun c11 => ?_)
    · have h := h.1 c11
      refine l_ild_n C dX11_asks_43 hl 1 rfl rfl ?_
      refine lv_iconst (v := (-1)) C.1 C.2.1 dX11_asks_44 (by decide) ?_
      refine lv_icmp_eq (tgt := 55) C.1 C.2.1 dX11_asks_45 (by decide) (fun c3 => ?_) (fun c3 => ?_)
      · have h := h.1 c3
        exact b_X11_asks_55 C M _ _ _ _ _ h I (hl.sub [] rfl)
      · have h := h.2 c3
        refine l_ald_n (x := some b0) C dX11_asks_48 hl 0 rfl rfl ?_
        refine l_ild_n C dX11_asks_49 hl 1 rfl rfl ?_
        refine l_ild_n C dX11_asks_50 hl 2 rfl rfl ?_
        refine k_call Ext.tr C I (k_V (r := some b0) (As := [.int l1, .int l2]) (rest := []) (y := yX11_pairAt) C (f_recv C I) q1797 q1799 qs80 (Or.inl rfl) q1800 (by decide) rfl pd_X11_pairAt rfl dX11_asks_51) (ct_X11_pairAt h) hl.1 dX11_asks_51 [] rfl (Nat.le_of_ble_eq_true rfl) (Or.inl rfl) q1800 q113 ⟨Nat.le_of_ble_eq_true rfl, Nat.le_of_ble_eq_true rfl⟩ (fun v x1 H locs cells slots ex hq I => ?_) (fun a x1 H locs cells slots ex hq I => hq.elim)
        obtain ⟨M1, rfl, r2, rfl, h⟩ := hq
        refine lv_pop C.1 C.2.1 dX11_asks_54 rfl ?_
        exact b_X11_asks_55 C M1 _ _ _ _ _ h I (hl.sub [] rfl)
    · have h := h.2 c11
      refine l_ald_n (x := some b0) C dX11_asks_15 hl 0 rfl rfl ?_
      refine f_A C I (fl_X11_101) (by decide) (by decide) dX11_asks_16 ?_
      refine l_ild_n C dX11_asks_19 hl 3 rfl rfl ?_
      refine l_ald_n (x := some b0) C dX11_asks_20 hl 0 rfl rfl ?_
      refine l_ald_n (x := some b0) C dX11_asks_21 hl 0 rfl rfl ?_
      refine l_ild_n C dX11_asks_22 hl 3 rfl rfl ?_
      refine lv_iconst (v := 0) C.1 C.2.1 dX11_asks_23 (by decide) ?_
      refine k_call Ext.tr C I (k_V (r := some b0) (As := [.int l3, .int ((0 : Int32))]) (rest := [va_rf (some b0), .int l3, va_rf (some (b0 + moff 57))]) (y := yX11_of) C (f_recv C I) q1789 q1791 qs78 (Or.inl rfl) q1792 (by decide) rfl pd_X11_of rfl dX11_asks_24) (ct_X11_of h) hl.1 dX11_asks_24 [.inr (.inl (some b0)), .inl l3, .inr (.inl (some (b0 + moff 57)))] rfl (Nat.le_of_ble_eq_true rfl) (Or.inl rfl) q1792 q113 ⟨Nat.le_of_ble_eq_true rfl, Nat.le_of_ble_eq_true rfl⟩ (fun v x1 H locs cells slots ex hq I => ?_) (fun a x1 H locs cells slots ex hq I => hq.elim)
      obtain ⟨M4, rfl, r5, rfl, h⟩ := hq
      refine l_ald_n (x := some b0) C dX11_asks_27 hl 0 rfl rfl ?_
      refine l_ild_n C dX11_asks_28 hl 3 rfl rfl ?_
      refine lv_iconst (v := 1) C.1 C.2.1 dX11_asks_29 (by decide) ?_
      refine k_call Ext.tr C I (k_V (r := some b0) (As := [.int l3, .int ((1 : Int32))]) (rest := [.int r5, va_rf (some b0), .int l3, va_rf (some (b0 + moff 57))]) (y := yX11_of) C (f_recv C I) q1789 q1791 qs78 (Or.inl rfl) q1792 (by decide) rfl pd_X11_of rfl dX11_asks_30) (ct_X11_of h) hl.1 dX11_asks_30 [.inl r5, .inr (.inl (some b0)), .inl l3, .inr (.inl (some (b0 + moff 57)))] rfl (Nat.le_of_ble_eq_true rfl) (Or.inl rfl) q1792 q113 ⟨Nat.le_of_ble_eq_true rfl, Nat.le_of_ble_eq_true rfl⟩ (fun v x1 H locs cells slots ex hq I => ?_) (fun a x1 H locs cells slots ex hq I => hq.elim)
      obtain ⟨M6, rfl, r7, rfl, h⟩ := hq
      refine k_call Ext.tr C I (k_V (r := some b0) (As := [.int r5, .int r7]) (rest := [.int l3, va_rf (some (b0 + moff 57))]) (y := yX11_pairAt) C (f_recv C I) q1797 q1799 qs80 (Or.inl rfl) q1800 (by decide) rfl pd_X11_pairAt rfl dX11_asks_33) (ct_X11_pairAt h) hl.1 dX11_asks_33 [.inl l3, .inr (.inl (some (b0 + moff 57)))] rfl (Nat.le_of_ble_eq_true rfl) (Or.inl rfl) q1800 q113 ⟨Nat.le_of_ble_eq_true rfl, Nat.le_of_ble_eq_true rfl⟩ (fun v x1 H locs cells slots ex hq I => ?_) (fun a x1 H locs cells slots ex hq I => hq.elim)
      obtain ⟨M8, rfl, r9, rfl, h⟩ := hq
      obtain ⟨hi, h⟩ := h
      refine f_st (k := 57) C I (by decide) hi dX11_asks_36 (fun H locs M10 eM10 I => ?_)
      have h := h M10 eM10
      refine l_inc (q := 3) (v := 1) C dX11_asks_37 hl rfl (by decide) (by decide) rfl (fun ls hl => ?_)
      have hl : LH ls 4 [(3, .inl ((l3 + 1))), (0, .inr (.inl (some b0))), (1, .inl l1), (2, .inl l2)] := hl
      refine lv_goto (tgt := 7) C.1 C.2.1 dX11_asks_40 (by decide) ?_
      exact hk7 l1 l2 ((l3 + 1)) M10 _ _ _ _ _ h I (hl.sub [1, 2, 3, 0] rfl)
def w_X11_asks (Q : MS → Prop) (p0 : Int32) (p1 : Int32) (M : MS) : Prop := ∀ M1 : MS, M1 = sF M 59 ((0 : Int32)) → ∃ n, w_X11_asks_7 Q n p0 p1 ((0 : Int32)) M1
theorem pd_X11_asks : (parseMethodDescriptor yX11_asks.desc).map (fun d => d.parameters.length) = some 2 := by decide +kernel
set_option maxHeartbeats 4000000 in
theorem ct_X11_asks {l : Launch} {D : va_G} {T : Nat → ClassId} {Z : Heap} {b0 z0 : Nat} {M0 : MS} {Q : MS → Prop} {p0 : Int32} {p1 : Int32} (hw : w_X11_asks Q p0 p1 M0) : CT (twd D T Z) (Evd D T Z) l yX11_asks (Cond.code yX11_asks cX11_asks 4 none) 1 23 [va_rf (some b0), .int p0, .int p1] (mG b0 z0 M0) (mq b0 z0 (qV Q)) (fun _ _ => False) := by
  refine CT.ofW (cc := cX11_asks) (nL := 4) (ret := none) Ext.rf (by decide) (Or.inl rfl) ?_
  intro p e s m below meth c hx hb hml hown hr hlk hnm hcb hm hc hn hE I
  have C : Cx p s m meth c D T Z "EndingTownModel" cX11_asks 4 none := ⟨hx, hb, hml, hown, hE, hr, hlk⟩
  refine w_entry [.inr (.inl (some b0)), .inl p0, .inl p1] (Nat.le_of_ble_eq_true rfl) (fun ls hl => ?_)
  have hl : LH ls 4 [(0, .inr (.inl (some b0))), (1, .inl p0), (2, .inl p1)] := hl
  have h := hw
  refine l_ald_n (x := some b0) C dX11_asks_0 hl 0 rfl rfl ?_
  refine lv_iconst (v := 0) C.1 C.2.1 dX11_asks_1 (by decide) ?_
  refine f_PI C I (fp_X11_343) (by decide) dX11_asks_2 (fit_i _) (fun H locs M1 eM1 I => ?_)
  have h := h M1 eM1
  refine lv_iconst (v := 0) C.1 C.2.1 dX11_asks_5 (by decide) ?_
  refine l_ist_n C dX11_asks_6 rfl hl (by decide) rfl (fun ls hl => ?_)
  have hl : LH ls 4 [(3, .inl ((0 : Int32))), (0, .inr (.inl (some b0))), (1, .inl p0), (2, .inl p1)] := hl
  obtain ⟨n, h⟩ := h
  exact b_X11_asks_7 C n p0 p1 ((0 : Int32)) M1 _ _ _ _ _ h I (hl.sub [1, 2, 3, 0] rfl)
def w_X11_isBy_78 (Q : Int32 → MS → Prop) (t0 : Int32) (M : MS) : Prop := bz t0 ∧ Q t0 M
set_option maxHeartbeats 4000000 in
theorem b_X11_isBy_78 {b0 z0 : Nat} {M0 : MS} {Q : Int32 → MS → Prop} (C : Cx p s m meth c D T Z "EndingTownModel" cX11_isBy 7 (some .boolean)) : ∀ (t0 : Int32) (M : MS) (H : Heap) (locs : List Loc) (cells slots : Nat) (ls : Array Slot), w_X11_isBy_78 Q t0 M → HI (twd D T Z) (mG b0 z0 M0) s (rmX (twd D T Z) 0 0 (mG b0 z0 M0)) H locs cells slots (mG b0 z0 M) → LH ls 7 [] → W p l e (rmX (twd D T Z) 0 0 (mG b0 z0 M0)) s m args below meth c H locs cells slots (MQX (twd D T Z) (mG b0 z0 M0) (mq b0 z0 (qI Q)) (fun _ _ => False) below s) (F0 m 78 ls [.int t0]) := by
  intro t0 M H locs cells slots ls h I hl
  exact r_int C.1 C.2.1 C.2.2.2.2.2.1 h.1.n C.2.2.2.2.2.2 ⟨rfl, rfl⟩ I dX11_isBy_78 ⟨_, rfl, _, rfl, h.2⟩
def w_X11_isBy_77 (Q : Int32 → MS → Prop) (M : MS) : Prop := w_X11_isBy_78 Q ((0 : Int32)) M
set_option maxHeartbeats 4000000 in
theorem b_X11_isBy_77 {b0 z0 : Nat} {M0 : MS} {Q : Int32 → MS → Prop} (C : Cx p s m meth c D T Z "EndingTownModel" cX11_isBy 7 (some .boolean)) : ∀ (M : MS) (H : Heap) (locs : List Loc) (cells slots : Nat) (ls : Array Slot), w_X11_isBy_77 Q M → HI (twd D T Z) (mG b0 z0 M0) s (rmX (twd D T Z) 0 0 (mG b0 z0 M0)) H locs cells slots (mG b0 z0 M) → LH ls 7 [] → W p l e (rmX (twd D T Z) 0 0 (mG b0 z0 M0)) s m args below meth c H locs cells slots (MQX (twd D T Z) (mG b0 z0 M0) (mq b0 z0 (qI Q)) (fun _ _ => False) below s) (F0 m 77 ls []) := by
  intro M H locs cells slots ls h I hl
  refine lv_iconst (v := 0) C.1 C.2.1 dX11_isBy_77 (by decide) ?_
  exact b_X11_isBy_78 C ((0 : Int32)) M _ _ _ _ _ h I (hl.sub [] rfl)
def w_X11_isBy_140 (Q : Int32 → MS → Prop) (t0 : Int32) (M : MS) : Prop := bz t0 ∧ Q t0 M
set_option maxHeartbeats 4000000 in
theorem b_X11_isBy_140 {b0 z0 : Nat} {M0 : MS} {Q : Int32 → MS → Prop} (C : Cx p s m meth c D T Z "EndingTownModel" cX11_isBy 7 (some .boolean)) : ∀ (t0 : Int32) (M : MS) (H : Heap) (locs : List Loc) (cells slots : Nat) (ls : Array Slot), w_X11_isBy_140 Q t0 M → HI (twd D T Z) (mG b0 z0 M0) s (rmX (twd D T Z) 0 0 (mG b0 z0 M0)) H locs cells slots (mG b0 z0 M) → LH ls 7 [] → W p l e (rmX (twd D T Z) 0 0 (mG b0 z0 M0)) s m args below meth c H locs cells slots (MQX (twd D T Z) (mG b0 z0 M0) (mq b0 z0 (qI Q)) (fun _ _ => False) below s) (F0 m 140 ls [.int t0]) := by
  intro t0 M H locs cells slots ls h I hl
  exact r_int C.1 C.2.1 C.2.2.2.2.2.1 h.1.n C.2.2.2.2.2.2 ⟨rfl, rfl⟩ I dX11_isBy_140 ⟨_, rfl, _, rfl, h.2⟩
def w_X11_isBy_139 (Q : Int32 → MS → Prop) (M : MS) : Prop := w_X11_isBy_140 Q ((0 : Int32)) M
set_option maxHeartbeats 4000000 in
theorem b_X11_isBy_139 {b0 z0 : Nat} {M0 : MS} {Q : Int32 → MS → Prop} (C : Cx p s m meth c D T Z "EndingTownModel" cX11_isBy 7 (some .boolean)) : ∀ (M : MS) (H : Heap) (locs : List Loc) (cells slots : Nat) (ls : Array Slot), w_X11_isBy_139 Q M → HI (twd D T Z) (mG b0 z0 M0) s (rmX (twd D T Z) 0 0 (mG b0 z0 M0)) H locs cells slots (mG b0 z0 M) → LH ls 7 [] → W p l e (rmX (twd D T Z) 0 0 (mG b0 z0 M0)) s m args below meth c H locs cells slots (MQX (twd D T Z) (mG b0 z0 M0) (mq b0 z0 (qI Q)) (fun _ _ => False) below s) (F0 m 139 ls []) := by
  intro M H locs cells slots ls h I hl
  refine lv_iconst (v := 0) C.1 C.2.1 dX11_isBy_139 (by decide) ?_
  exact b_X11_isBy_140 C ((0 : Int32)) M _ _ _ _ _ h I (hl.sub [] rfl)
def w_X11_isBy (Q : Int32 → MS → Prop) (p0 : Int32) (p1 : Int32) (p2 : Int32) (p3 : Int32) (p4 : Int32) (M : MS) : Prop := vp_in ((((5 : Int32) * p2) + (2 : Int32))) (mlen 11) ∧ vp_in ((((24 : Int32) * p0) + mA M 11 ((((5 : Int32) * p2) + (2 : Int32))).toNatClampNeg)) (mlen 14) ∧ vp_in ((((5 : Int32) * p2) + (2 : Int32))) (mlen 11) ∧ ((mA M 11 ((((5 : Int32) * p2) + (2 : Int32))).toNatClampNeg ≤ p1) → (((¬ p4 = 0) → (((¬ p3 = 0) → (w_X11_isBy_139 Q M)) ∧ ((p3 = 0) → (vp_in ((((5 : Int32) * p2) + (3 : Int32))) (mlen 11) ∧ ((¬ mA M 11 ((((5 : Int32) * p2) + (3 : Int32))).toNatClampNeg = (1 : Int32)) → (w_X11_isBy_139 Q M)) ∧ ((mA M 11 ((((5 : Int32) * p2) + (3 : Int32))).toNatClampNeg = (1 : Int32)) → (vp_in ((((5 : Int32) * p2) + (4 : Int32))) (mlen 11) ∧ ((¬ mA M 11 ((((5 : Int32) * p2) + (4 : Int32))).toNatClampNeg = 0) → (w_X11_isBy_139 Q M)) ∧ ((mA M 11 ((((5 : Int32) * p2) + (4 : Int32))).toNatClampNeg = 0) → (vp_in (mA M 14 ((((24 : Int32) * p0) + mA M 11 ((((5 : Int32) * p2) + (2 : Int32))).toNatClampNeg)).toNatClampNeg) (mlen 13) ∧ vp_in ((((5 : Int32) * p2) + (1 : Int32))) (mlen 11) ∧ ((¬ ((mA M 13 (mA M 14 ((((24 : Int32) * p0) + mA M 11 ((((5 : Int32) * p2) + (2 : Int32))).toNatClampNeg)).toNatClampNeg).toNatClampNeg >>> (mA M 11 ((((5 : Int32) * p2) + (1 : Int32))).toNatClampNeg &&& 31)) &&& (1 : Int32)) = (1 : Int32)) → (w_X11_isBy_139 Q M)) ∧ ((((mA M 13 (mA M 14 ((((24 : Int32) * p0) + mA M 11 ((((5 : Int32) * p2) + (2 : Int32))).toNatClampNeg)).toNatClampNeg).toNatClampNeg >>> (mA M 11 ((((5 : Int32) * p2) + (1 : Int32))).toNatClampNeg &&& 31)) &&& (1 : Int32)) = (1 : Int32)) → (w_X11_isBy_140 Q ((1 : Int32)) M)))))))))) ∧ ((p4 = 0) → (vp_in ((((5 : Int32) * p2) + (1 : Int32))) (mlen 11) ∧ ((¬ mA M 14 ((((24 : Int32) * p0) + mA M 11 ((((5 : Int32) * p2) + (2 : Int32))).toNatClampNeg)).toNatClampNeg = mA M 11 ((((5 : Int32) * p2) + (1 : Int32))).toNatClampNeg) → (w_X11_isBy_77 Q M)) ∧ ((mA M 14 ((((24 : Int32) * p0) + mA M 11 ((((5 : Int32) * p2) + (2 : Int32))).toNatClampNeg)).toNatClampNeg = mA M 11 ((((5 : Int32) * p2) + (1 : Int32))).toNatClampNeg) → (vp_in ((((5 : Int32) * p2) + (4 : Int32))) (mlen 11) ∧ ((¬ mA M 11 ((((5 : Int32) * p2) + (4 : Int32))).toNatClampNeg = p3) → (w_X11_isBy_77 Q M)) ∧ ((mA M 11 ((((5 : Int32) * p2) + (4 : Int32))).toNatClampNeg = p3) → (w_X11_isBy_78 Q ((1 : Int32)) M)))))))) ∧ ((¬ mA M 11 ((((5 : Int32) * p2) + (2 : Int32))).toNatClampNeg ≤ p1) → (Q (0 : Int32) M))
theorem pd_X11_isBy : (parseMethodDescriptor yX11_isBy.desc).map (fun d => d.parameters.length) = some 5 := by decide +kernel
set_option maxHeartbeats 4000000 in
theorem ct_X11_isBy {l : Launch} {D : va_G} {T : Nat → ClassId} {Z : Heap} {b0 z0 : Nat} {M0 : MS} {Q : Int32 → MS → Prop} {p0 : Int32} {p1 : Int32} {p2 : Int32} {p3 : Int32} {p4 : Int32} (hw : w_X11_isBy Q p0 p1 p2 p3 p4 M0) : CT (twd D T Z) (Evd D T Z) l yX11_isBy (Cond.code yX11_isBy cX11_isBy 7 (some .boolean)) 0 0 [va_rf (some b0), .int p0, .int p1, .int p2, .int p3, .int p4] (mG b0 z0 M0) (mq b0 z0 (qI Q)) (fun _ _ => False) := by
  refine CT.ofW (cc := cX11_isBy) (nL := 7) (ret := (some .boolean)) Ext.rf (by decide) (Or.inl rfl) ?_
  intro p e s m below meth c hx hb hml hown hr hlk hnm hcb hm hc hn hE I
  have C : Cx p s m meth c D T Z "EndingTownModel" cX11_isBy 7 (some .boolean) := ⟨hx, hb, hml, hown, hE, hr, hlk⟩
  refine w_entry [.inr (.inl (some b0)), .inl p0, .inl p1, .inl p2, .inl p3, .inl p4] (Nat.le_of_ble_eq_true rfl) (fun ls hl => ?_)
  have hl : LH ls 7 [(0, .inr (.inl (some b0))), (1, .inl p0), (2, .inl p1), (3, .inl p2), (4, .inl p3), (5, .inl p4)] := hl
  have h := hw
  refine l_ald_n (x := some b0) C dX11_isBy_0 hl 0 rfl rfl ?_
  refine f_A C I (fl_X11_35) (by decide) (by decide) dX11_isBy_1 ?_
  refine lv_bipush (v := 24) C.1 C.2.1 dX11_isBy_4 (by decide) ?_
  refine l_ild_n C dX11_isBy_6 hl 1 rfl rfl ?_
  refine lv_imul C.1 C.2.1 dX11_isBy_7 ?_
  refine l_ald_n (x := some b0) C dX11_isBy_8 hl 0 rfl rfl ?_
  refine f_A C I (fl_X11_26) (by decide) (by decide) dX11_isBy_9 ?_
  refine lv_iconst (v := 5) C.1 C.2.1 dX11_isBy_12 (by decide) ?_
  refine l_ild_n C dX11_isBy_13 hl 3 rfl rfl ?_
  refine lv_imul C.1 C.2.1 dX11_isBy_14 ?_
  refine lv_iconst (v := 2) C.1 C.2.1 dX11_isBy_15 (by decide) ?_
  refine lv_iadd C.1 C.2.1 dX11_isBy_16 ?_
  obtain ⟨hi, h⟩ := h
  refine f_ld (k := 11) C I (by decide) hi dX11_isBy_17 ?_
  refine lv_iadd C.1 C.2.1 dX11_isBy_18 ?_
  obtain ⟨hi, h⟩ := h
  refine f_ld (k := 14) C I (by decide) hi dX11_isBy_19 ?_
  refine l_ist C dX11_isBy_20 hl (by decide) rfl (fun ls hl => ?_)
  have hl : LH ls 7 [(6, .inl (mA M0 14 ((((24 : Int32) * p0) + mA M0 11 ((((5 : Int32) * p2) + (2 : Int32))).toNatClampNeg)).toNatClampNeg)), (0, .inr (.inl (some b0))), (1, .inl p0), (2, .inl p1), (3, .inl p2), (4, .inl p3), (5, .inl p4)] := hl
  refine l_ald_n (x := some b0) C dX11_isBy_22 hl 1 rfl rfl ?_
  refine f_A C I (fl_X11_26) (by decide) (by decide) dX11_isBy_23 ?_
  refine lv_iconst (v := 5) C.1 C.2.1 dX11_isBy_26 (by decide) ?_
  refine l_ild_n C dX11_isBy_27 hl 4 rfl rfl ?_
  refine lv_imul C.1 C.2.1 dX11_isBy_28 ?_
  refine lv_iconst (v := 2) C.1 C.2.1 dX11_isBy_29 (by decide) ?_
  refine lv_iadd C.1 C.2.1 dX11_isBy_30 ?_
  obtain ⟨hi, h⟩ := h
  refine f_ld (k := 11) C I (by decide) hi dX11_isBy_31 ?_
  refine l_ild_n C dX11_isBy_32 hl 3 rfl rfl ?_
  refine lv_icmp_le (tgt := 38) C.1 C.2.1 dX11_isBy_33 (by decide) (fun c8 => ?_) (fun c8 => ?_)
  · have h := h.1 c8
    refine l_ild C dX11_isBy_38 hl 6 rfl ?_
    refine lv_if_ne (tgt := 79) C.1 C.2.1 dX11_isBy_40 (by decide) (fun c7 => ?_) (fun c7 => ?_)
    · have h := h.1 c7
      refine l_ild C dX11_isBy_79 hl 5 rfl ?_
      refine lv_if_ne (tgt := 139) C.1 C.2.1 dX11_isBy_81 (by decide) (fun c4 => ?_) (fun c4 => ?_)
      · have h := h.1 c4
        exact b_X11_isBy_139 C M0 _ _ _ _ _ h I (hl.sub [] rfl)
      · have h := h.2 c4
        refine l_ald_n (x := some b0) C dX11_isBy_84 hl 1 rfl rfl ?_
        refine f_A C I (fl_X11_26) (by decide) (by decide) dX11_isBy_85 ?_
        refine lv_iconst (v := 5) C.1 C.2.1 dX11_isBy_88 (by decide) ?_
        refine l_ild_n C dX11_isBy_89 hl 4 rfl rfl ?_
        refine lv_imul C.1 C.2.1 dX11_isBy_90 ?_
        refine lv_iconst (v := 3) C.1 C.2.1 dX11_isBy_91 (by decide) ?_
        refine lv_iadd C.1 C.2.1 dX11_isBy_92 ?_
        obtain ⟨hi, h⟩ := h
        refine f_ld (k := 11) C I (by decide) hi dX11_isBy_93 ?_
        refine lv_iconst (v := 1) C.1 C.2.1 dX11_isBy_94 (by decide) ?_
        refine lv_icmp_ne (tgt := 139) C.1 C.2.1 dX11_isBy_95 (by decide) (fun c3 => ?_) (fun c3 => ?_)
        · have h := h.1 c3
          exact b_X11_isBy_139 C M0 _ _ _ _ _ h I (hl.sub [] rfl)
        · have h := h.2 c3
          refine l_ald_n (x := some b0) C dX11_isBy_98 hl 1 rfl rfl ?_
          refine f_A C I (fl_X11_26) (by decide) (by decide) dX11_isBy_99 ?_
          refine lv_iconst (v := 5) C.1 C.2.1 dX11_isBy_102 (by decide) ?_
          refine l_ild_n C dX11_isBy_103 hl 4 rfl rfl ?_
          refine lv_imul C.1 C.2.1 dX11_isBy_104 ?_
          refine lv_iconst (v := 4) C.1 C.2.1 dX11_isBy_105 (by decide) ?_
          refine lv_iadd C.1 C.2.1 dX11_isBy_106 ?_
          obtain ⟨hi, h⟩ := h
          refine f_ld (k := 11) C I (by decide) hi dX11_isBy_107 ?_
          refine lv_if_ne (tgt := 139) C.1 C.2.1 dX11_isBy_108 (by decide) (fun c2 => ?_) (fun c2 => ?_)
          · have h := h.1 c2
            exact b_X11_isBy_139 C M0 _ _ _ _ _ h I (hl.sub [] rfl)
          · have h := h.2 c2
            refine l_ald_n (x := some b0) C dX11_isBy_111 hl 1 rfl rfl ?_
            refine f_A C I (fl_X11_32) (by decide) (by decide) dX11_isBy_112 ?_
            refine l_ild C dX11_isBy_115 hl 0 rfl ?_
            obtain ⟨hi, h⟩ := h
            refine f_ld (k := 13) C I (by decide) hi dX11_isBy_117 ?_
            refine l_ald_n (x := some b0) C dX11_isBy_118 hl 1 rfl rfl ?_
            refine f_A C I (fl_X11_26) (by decide) (by decide) dX11_isBy_119 ?_
            refine lv_iconst (v := 5) C.1 C.2.1 dX11_isBy_122 (by decide) ?_
            refine l_ild_n C dX11_isBy_123 hl 4 rfl rfl ?_
            refine lv_imul C.1 C.2.1 dX11_isBy_124 ?_
            refine lv_iconst (v := 1) C.1 C.2.1 dX11_isBy_125 (by decide) ?_
            refine lv_iadd C.1 C.2.1 dX11_isBy_126 ?_
            obtain ⟨hi, h⟩ := h
            refine f_ld (k := 11) C I (by decide) hi dX11_isBy_127 ?_
            refine lv_ishr C.1 C.2.1 dX11_isBy_128 ?_
            refine lv_iconst (v := 1) C.1 C.2.1 dX11_isBy_129 (by decide) ?_
            refine lv_iand C.1 C.2.1 dX11_isBy_130 ?_
            refine lv_iconst (v := 1) C.1 C.2.1 dX11_isBy_131 (by decide) ?_
            refine lv_icmp_ne (tgt := 139) C.1 C.2.1 dX11_isBy_132 (by decide) (fun c1 => ?_) (fun c1 => ?_)
            · have h := h.1 c1
              exact b_X11_isBy_139 C M0 _ _ _ _ _ h I (hl.sub [] rfl)
            · have h := h.2 c1
              refine lv_iconst (v := 1) C.1 C.2.1 dX11_isBy_135 (by decide) ?_
              refine lv_goto (tgt := 140) C.1 C.2.1 dX11_isBy_136 (by decide) ?_
              exact b_X11_isBy_140 C ((1 : Int32)) M0 _ _ _ _ _ h I (hl.sub [] rfl)
    · have h := h.2 c7
      refine l_ild C dX11_isBy_43 hl 0 rfl ?_
      refine l_ald_n (x := some b0) C dX11_isBy_45 hl 1 rfl rfl ?_
      refine f_A C I (fl_X11_26) (by decide) (by decide) dX11_isBy_46 ?_
      refine lv_iconst (v := 5) C.1 C.2.1 dX11_isBy_49 (by decide) ?_
      refine l_ild_n C dX11_isBy_50 hl 4 rfl rfl ?_
      refine lv_imul C.1 C.2.1 dX11_isBy_51 ?_
      refine lv_iconst (v := 1) C.1 C.2.1 dX11_isBy_52 (by decide) ?_
      refine lv_iadd C.1 C.2.1 dX11_isBy_53 ?_
      obtain ⟨hi, h⟩ := h
      refine f_ld (k := 11) C I (by decide) hi dX11_isBy_54 ?_
      refine lv_icmp_ne (tgt := 77) C.1 C.2.1 dX11_isBy_55 (by decide) (fun c6 => ?_) (fun c6 => ?_)
      · have h := h.1 c6
        exact b_X11_isBy_77 C M0 _ _ _ _ _ h I (hl.sub [] rfl)
      · have h := h.2 c6
        refine l_ald_n (x := some b0) C dX11_isBy_58 hl 1 rfl rfl ?_
        refine f_A C I (fl_X11_26) (by decide) (by decide) dX11_isBy_59 ?_
        refine lv_iconst (v := 5) C.1 C.2.1 dX11_isBy_62 (by decide) ?_
        refine l_ild_n C dX11_isBy_63 hl 4 rfl rfl ?_
        refine lv_imul C.1 C.2.1 dX11_isBy_64 ?_
        refine lv_iconst (v := 4) C.1 C.2.1 dX11_isBy_65 (by decide) ?_
        refine lv_iadd C.1 C.2.1 dX11_isBy_66 ?_
        obtain ⟨hi, h⟩ := h
        refine f_ld (k := 11) C I (by decide) hi dX11_isBy_67 ?_
        refine l_ild C dX11_isBy_68 hl 5 rfl ?_
        refine lv_icmp_ne (tgt := 77) C.1 C.2.1 dX11_isBy_70 (by decide) (fun c5 => ?_) (fun c5 => ?_)
        · have h := h.1 c5
          exact b_X11_isBy_77 C M0 _ _ _ _ _ h I (hl.sub [] rfl)
        · have h := h.2 c5
          refine lv_iconst (v := 1) C.1 C.2.1 dX11_isBy_73 (by decide) ?_
          refine lv_goto (tgt := 78) C.1 C.2.1 dX11_isBy_74 (by decide) ?_
          exact b_X11_isBy_78 C ((1 : Int32)) M0 _ _ _ _ _ h I (hl.sub [] rfl)
  · have h := h.2 c8
    refine lv_iconst (v := 0) C.1 C.2.1 dX11_isBy_36 (by decide) ?_
    exact r_int C.1 C.2.1 C.2.2.2.2.2.1 rfl C.2.2.2.2.2.2 ⟨rfl, rfl⟩ I dX11_isBy_37 ⟨_, rfl, _, rfl, h⟩
def w_X11_ruleEyes_95 (Q : Int32 → MS → Prop) (k5 : Int32 → Int32 → Int32 → Int32 → MS → Prop) (k41 : Int32 → Int32 → Int32 → Int32 → Int32 → Int32 → Int32 → MS → Prop) (l1 : Int32) (l2 : Int32) (l3 : Int32) (l4 : Int32) (l5 : Int32) (l7 : Int32) (t0 : Int32) (M : MS) : Prop := vp_in (((((5 : Int32) * l4) + (1 : Int32)) + l7)) (mlen 12) ∧ vp_in ((((8 : Int32) * l1) + mA M 12 (((((5 : Int32) * l4) + (1 : Int32)) + l7)).toNatClampNeg)) (mlen 64) ∧ k41 l1 l2 l3 l4 ((l5 ||| mA M 64 ((((8 : Int32) * l1) + mA M 12 (((((5 : Int32) * l4) + (1 : Int32)) + l7)).toNatClampNeg)).toNatClampNeg)) t0 ((l7 + 1)) M
set_option maxHeartbeats 4000000 in
theorem b_X11_ruleEyes_95 {b0 z0 : Nat} {M0 : MS} {Q : Int32 → MS → Prop} {k5 : Int32 → Int32 → Int32 → Int32 → MS → Prop} {k41 : Int32 → Int32 → Int32 → Int32 → Int32 → Int32 → Int32 → MS → Prop} (C : Cx p s m meth c D T Z "EndingTownModel" cX11_ruleEyes 8 (some .int)) (hk5 : ∀ (l1 : Int32) (l2 : Int32) (l3 : Int32) (l4 : Int32) (M : MS) (H : Heap) (locs : List Loc) (cells slots : Nat) (ls : Array Slot), k5 l1 l2 l3 l4 M → HI (twd D T Z) (mG b0 z0 M0) s (rmX (twd D T Z) 0 0 (mG b0 z0 M0)) H locs cells slots (mG b0 z0 M) → LH ls 8 [(0, .inr (.inl (some b0))), (1, .inl l1), (2, .inl l2), (3, .inl l3), (4, .inl l4)] → W p l e (rmX (twd D T Z) 0 0 (mG b0 z0 M0)) s m args below meth c H locs cells slots (MQX (twd D T Z) (mG b0 z0 M0) (mq b0 z0 (qI Q)) (fun _ _ => False) below s) (F0 m 5 ls [])) (hk41 : ∀ (l1 : Int32) (l2 : Int32) (l3 : Int32) (l4 : Int32) (l5 : Int32) (l6 : Int32) (l7 : Int32) (M : MS) (H : Heap) (locs : List Loc) (cells slots : Nat) (ls : Array Slot), k41 l1 l2 l3 l4 l5 l6 l7 M → HI (twd D T Z) (mG b0 z0 M0) s (rmX (twd D T Z) 0 0 (mG b0 z0 M0)) H locs cells slots (mG b0 z0 M) → LH ls 8 [(0, .inr (.inl (some b0))), (1, .inl l1), (2, .inl l2), (3, .inl l3), (4, .inl l4), (5, .inl l5), (6, .inl l6), (7, .inl l7)] → W p l e (rmX (twd D T Z) 0 0 (mG b0 z0 M0)) s m args below meth c H locs cells slots (MQX (twd D T Z) (mG b0 z0 M0) (mq b0 z0 (qI Q)) (fun _ _ => False) below s) (F0 m 41 ls [])) : ∀ (l1 : Int32) (l2 : Int32) (l3 : Int32) (l4 : Int32) (l5 : Int32) (l7 : Int32) (t0 : Int32) (M : MS) (H : Heap) (locs : List Loc) (cells slots : Nat) (ls : Array Slot), w_X11_ruleEyes_95 Q k5 k41 l1 l2 l3 l4 l5 l7 t0 M → HI (twd D T Z) (mG b0 z0 M0) s (rmX (twd D T Z) 0 0 (mG b0 z0 M0)) H locs cells slots (mG b0 z0 M) → LH ls 8 [(0, .inr (.inl (some b0))), (1, .inl l1), (2, .inl l2), (3, .inl l3), (4, .inl l4), (5, .inl l5), (7, .inl l7)] → W p l e (rmX (twd D T Z) 0 0 (mG b0 z0 M0)) s m args below meth c H locs cells slots (MQX (twd D T Z) (mG b0 z0 M0) (mq b0 z0 (qI Q)) (fun _ _ => False) below s) (F0 m 95 ls [.int t0]) := by
  intro l1 l2 l3 l4 l5 l7 t0 M H locs cells slots ls h I hl
  refine l_ist C dX11_ruleEyes_95 hl (by decide) rfl (fun ls hl => ?_)
  have hl : LH ls 8 [(6, .inl t0), (0, .inr (.inl (some b0))), (1, .inl l1), (2, .inl l2), (3, .inl l3), (4, .inl l4), (5, .inl l5), (7, .inl l7)] := hl
  refine l_ild C dX11_ruleEyes_97 hl 6 rfl ?_
  refine l_ald_n (x := some b0) C dX11_ruleEyes_99 hl 1 rfl rfl ?_
  refine f_A C I (fl_X11_110) (by decide) (by decide) dX11_ruleEyes_100 ?_
  refine lv_bipush (v := 8) C.1 C.2.1 dX11_ruleEyes_103 (by decide) ?_
  refine l_ild_n C dX11_ruleEyes_105 hl 2 rfl rfl ?_
  refine lv_imul C.1 C.2.1 dX11_ruleEyes_106 ?_
  refine l_ald_n (x := some b0) C dX11_ruleEyes_107 hl 1 rfl rfl ?_
  refine f_A C I (fl_X11_29) (by decide) (by decide) dX11_ruleEyes_108 ?_
  refine lv_iconst (v := 5) C.1 C.2.1 dX11_ruleEyes_111 (by decide) ?_
  refine l_ild C dX11_ruleEyes_112 hl 5 rfl ?_
  refine lv_imul C.1 C.2.1 dX11_ruleEyes_114 ?_
  refine lv_iconst (v := 1) C.1 C.2.1 dX11_ruleEyes_115 (by decide) ?_
  refine lv_iadd C.1 C.2.1 dX11_ruleEyes_116 ?_
  refine l_ild C dX11_ruleEyes_117 hl 7 rfl ?_
  refine lv_iadd C.1 C.2.1 dX11_ruleEyes_119 ?_
  obtain ⟨hi, h⟩ := h
  refine f_ld (k := 12) C I (by decide) hi dX11_ruleEyes_120 ?_
  refine lv_iadd C.1 C.2.1 dX11_ruleEyes_121 ?_
  obtain ⟨hi, h⟩ := h
  refine f_ld (k := 64) C I (by decide) hi dX11_ruleEyes_122 ?_
  refine lv_ior C.1 C.2.1 dX11_ruleEyes_123 ?_
  refine l_ist C dX11_ruleEyes_124 hl (by decide) rfl (fun ls hl => ?_)
  have hl : LH ls 8 [(5, .inl ((l5 ||| mA M 64 ((((8 : Int32) * l1) + mA M 12 (((((5 : Int32) * l4) + (1 : Int32)) + l7)).toNatClampNeg)).toNatClampNeg))), (6, .inl t0), (0, .inr (.inl (some b0))), (1, .inl l1), (2, .inl l2), (3, .inl l3), (4, .inl l4), (7, .inl l7)] := hl
  refine l_inc (q := 7) (v := 1) C dX11_ruleEyes_126 hl rfl (by decide) (by decide) rfl (fun ls hl => ?_)
  have hl : LH ls 8 [(7, .inl ((l7 + 1))), (5, .inl ((l5 ||| mA M 64 ((((8 : Int32) * l1) + mA M 12 (((((5 : Int32) * l4) + (1 : Int32)) + l7)).toNatClampNeg)).toNatClampNeg))), (6, .inl t0), (0, .inr (.inl (some b0))), (1, .inl l1), (2, .inl l2), (3, .inl l3), (4, .inl l4)] := hl
  refine lv_goto (tgt := 41) C.1 C.2.1 dX11_ruleEyes_129 (by decide) ?_
  exact hk41 l1 l2 l3 l4 ((l5 ||| mA M 64 ((((8 : Int32) * l1) + mA M 12 (((((5 : Int32) * l4) + (1 : Int32)) + l7)).toNatClampNeg)).toNatClampNeg)) t0 ((l7 + 1)) M _ _ _ _ _ h I (hl.sub [3, 4, 5, 6, 7, 1, 2, 0] rfl)
def w_X11_ruleEyes_94 (Q : Int32 → MS → Prop) (k5 : Int32 → Int32 → Int32 → Int32 → MS → Prop) (k41 : Int32 → Int32 → Int32 → Int32 → Int32 → Int32 → Int32 → MS → Prop) (l1 : Int32) (l2 : Int32) (l3 : Int32) (l4 : Int32) (l5 : Int32) (l7 : Int32) (M : MS) : Prop := w_X11_ruleEyes_95 Q k5 k41 l1 l2 l3 l4 l5 l7 ((0 : Int32)) M
set_option maxHeartbeats 4000000 in
theorem b_X11_ruleEyes_94 {b0 z0 : Nat} {M0 : MS} {Q : Int32 → MS → Prop} {k5 : Int32 → Int32 → Int32 → Int32 → MS → Prop} {k41 : Int32 → Int32 → Int32 → Int32 → Int32 → Int32 → Int32 → MS → Prop} (C : Cx p s m meth c D T Z "EndingTownModel" cX11_ruleEyes 8 (some .int)) (hk5 : ∀ (l1 : Int32) (l2 : Int32) (l3 : Int32) (l4 : Int32) (M : MS) (H : Heap) (locs : List Loc) (cells slots : Nat) (ls : Array Slot), k5 l1 l2 l3 l4 M → HI (twd D T Z) (mG b0 z0 M0) s (rmX (twd D T Z) 0 0 (mG b0 z0 M0)) H locs cells slots (mG b0 z0 M) → LH ls 8 [(0, .inr (.inl (some b0))), (1, .inl l1), (2, .inl l2), (3, .inl l3), (4, .inl l4)] → W p l e (rmX (twd D T Z) 0 0 (mG b0 z0 M0)) s m args below meth c H locs cells slots (MQX (twd D T Z) (mG b0 z0 M0) (mq b0 z0 (qI Q)) (fun _ _ => False) below s) (F0 m 5 ls [])) (hk41 : ∀ (l1 : Int32) (l2 : Int32) (l3 : Int32) (l4 : Int32) (l5 : Int32) (l6 : Int32) (l7 : Int32) (M : MS) (H : Heap) (locs : List Loc) (cells slots : Nat) (ls : Array Slot), k41 l1 l2 l3 l4 l5 l6 l7 M → HI (twd D T Z) (mG b0 z0 M0) s (rmX (twd D T Z) 0 0 (mG b0 z0 M0)) H locs cells slots (mG b0 z0 M) → LH ls 8 [(0, .inr (.inl (some b0))), (1, .inl l1), (2, .inl l2), (3, .inl l3), (4, .inl l4), (5, .inl l5), (6, .inl l6), (7, .inl l7)] → W p l e (rmX (twd D T Z) 0 0 (mG b0 z0 M0)) s m args below meth c H locs cells slots (MQX (twd D T Z) (mG b0 z0 M0) (mq b0 z0 (qI Q)) (fun _ _ => False) below s) (F0 m 41 ls [])) : ∀ (l1 : Int32) (l2 : Int32) (l3 : Int32) (l4 : Int32) (l5 : Int32) (l7 : Int32) (M : MS) (H : Heap) (locs : List Loc) (cells slots : Nat) (ls : Array Slot), w_X11_ruleEyes_94 Q k5 k41 l1 l2 l3 l4 l5 l7 M → HI (twd D T Z) (mG b0 z0 M0) s (rmX (twd D T Z) 0 0 (mG b0 z0 M0)) H locs cells slots (mG b0 z0 M) → LH ls 8 [(0, .inr (.inl (some b0))), (1, .inl l1), (2, .inl l2), (3, .inl l3), (4, .inl l4), (5, .inl l5), (7, .inl l7)] → W p l e (rmX (twd D T Z) 0 0 (mG b0 z0 M0)) s m args below meth c H locs cells slots (MQX (twd D T Z) (mG b0 z0 M0) (mq b0 z0 (qI Q)) (fun _ _ => False) below s) (F0 m 94 ls []) := by
  intro l1 l2 l3 l4 l5 l7 M H locs cells slots ls h I hl
  refine lv_iconst (v := 0) C.1 C.2.1 dX11_ruleEyes_94 (by decide) ?_
  exact b_X11_ruleEyes_95 C hk5 hk41 l1 l2 l3 l4 l5 l7 ((0 : Int32)) M _ _ _ _ _ h I (hl.sub [0, 1, 2, 3, 4, 5, 6] rfl)
def w_X11_ruleEyes_146 (Q : Int32 → MS → Prop) (k5 : Int32 → Int32 → Int32 → Int32 → MS → Prop) (l1 : Int32) (l2 : Int32) (l3 : Int32) (l4 : Int32) (M : MS) : Prop := k5 l1 l2 l3 ((l4 + 1)) M
set_option maxHeartbeats 4000000 in
theorem b_X11_ruleEyes_146 {b0 z0 : Nat} {M0 : MS} {Q : Int32 → MS → Prop} {k5 : Int32 → Int32 → Int32 → Int32 → MS → Prop} (C : Cx p s m meth c D T Z "EndingTownModel" cX11_ruleEyes 8 (some .int)) (hk5 : ∀ (l1 : Int32) (l2 : Int32) (l3 : Int32) (l4 : Int32) (M : MS) (H : Heap) (locs : List Loc) (cells slots : Nat) (ls : Array Slot), k5 l1 l2 l3 l4 M → HI (twd D T Z) (mG b0 z0 M0) s (rmX (twd D T Z) 0 0 (mG b0 z0 M0)) H locs cells slots (mG b0 z0 M) → LH ls 8 [(0, .inr (.inl (some b0))), (1, .inl l1), (2, .inl l2), (3, .inl l3), (4, .inl l4)] → W p l e (rmX (twd D T Z) 0 0 (mG b0 z0 M0)) s m args below meth c H locs cells slots (MQX (twd D T Z) (mG b0 z0 M0) (mq b0 z0 (qI Q)) (fun _ _ => False) below s) (F0 m 5 ls [])) : ∀ (l1 : Int32) (l2 : Int32) (l3 : Int32) (l4 : Int32) (M : MS) (H : Heap) (locs : List Loc) (cells slots : Nat) (ls : Array Slot), w_X11_ruleEyes_146 Q k5 l1 l2 l3 l4 M → HI (twd D T Z) (mG b0 z0 M0) s (rmX (twd D T Z) 0 0 (mG b0 z0 M0)) H locs cells slots (mG b0 z0 M) → LH ls 8 [(0, .inr (.inl (some b0))), (1, .inl l1), (2, .inl l2), (3, .inl l3), (4, .inl l4)] → W p l e (rmX (twd D T Z) 0 0 (mG b0 z0 M0)) s m args below meth c H locs cells slots (MQX (twd D T Z) (mG b0 z0 M0) (mq b0 z0 (qI Q)) (fun _ _ => False) below s) (F0 m 146 ls []) := by
  intro l1 l2 l3 l4 M H locs cells slots ls h I hl
  refine l_inc (q := 4) (v := 1) C dX11_ruleEyes_146 hl rfl (by decide) (by decide) rfl (fun ls hl => ?_)
  have hl : LH ls 8 [(4, .inl ((l4 + 1))), (0, .inr (.inl (some b0))), (1, .inl l1), (2, .inl l2), (3, .inl l3)] := hl
  refine lv_goto (tgt := 5) C.1 C.2.1 dX11_ruleEyes_149 (by decide) ?_
  exact hk5 l1 l2 l3 ((l4 + 1)) M _ _ _ _ _ h I (hl.sub [1, 2, 3, 4, 0] rfl)
def w_X11_ruleEyes_144 (Q : Int32 → MS → Prop) (k5 : Int32 → Int32 → Int32 → Int32 → MS → Prop) (l1 : Int32) (l2 : Int32) (l4 : Int32) (t0 : Int32) (t1 : Int32) (M : MS) : Prop := w_X11_ruleEyes_146 Q k5 l1 l2 ((t1 ||| t0)) l4 M
set_option maxHeartbeats 4000000 in
theorem b_X11_ruleEyes_144 {b0 z0 : Nat} {M0 : MS} {Q : Int32 → MS → Prop} {k5 : Int32 → Int32 → Int32 → Int32 → MS → Prop} (C : Cx p s m meth c D T Z "EndingTownModel" cX11_ruleEyes 8 (some .int)) (hk5 : ∀ (l1 : Int32) (l2 : Int32) (l3 : Int32) (l4 : Int32) (M : MS) (H : Heap) (locs : List Loc) (cells slots : Nat) (ls : Array Slot), k5 l1 l2 l3 l4 M → HI (twd D T Z) (mG b0 z0 M0) s (rmX (twd D T Z) 0 0 (mG b0 z0 M0)) H locs cells slots (mG b0 z0 M) → LH ls 8 [(0, .inr (.inl (some b0))), (1, .inl l1), (2, .inl l2), (3, .inl l3), (4, .inl l4)] → W p l e (rmX (twd D T Z) 0 0 (mG b0 z0 M0)) s m args below meth c H locs cells slots (MQX (twd D T Z) (mG b0 z0 M0) (mq b0 z0 (qI Q)) (fun _ _ => False) below s) (F0 m 5 ls [])) : ∀ (l1 : Int32) (l2 : Int32) (l4 : Int32) (t0 : Int32) (t1 : Int32) (M : MS) (H : Heap) (locs : List Loc) (cells slots : Nat) (ls : Array Slot), w_X11_ruleEyes_144 Q k5 l1 l2 l4 t0 t1 M → HI (twd D T Z) (mG b0 z0 M0) s (rmX (twd D T Z) 0 0 (mG b0 z0 M0)) H locs cells slots (mG b0 z0 M) → LH ls 8 [(0, .inr (.inl (some b0))), (1, .inl l1), (2, .inl l2), (4, .inl l4)] → W p l e (rmX (twd D T Z) 0 0 (mG b0 z0 M0)) s m args below meth c H locs cells slots (MQX (twd D T Z) (mG b0 z0 M0) (mq b0 z0 (qI Q)) (fun _ _ => False) below s) (F0 m 144 ls [.int t0, .int t1]) := by
  intro l1 l2 l4 t0 t1 M H locs cells slots ls h I hl
  refine lv_ior C.1 C.2.1 dX11_ruleEyes_144 ?_
  refine l_ist_n C dX11_ruleEyes_145 rfl hl (by decide) rfl (fun ls hl => ?_)
  have hl : LH ls 8 [(3, .inl ((t1 ||| t0))), (0, .inr (.inl (some b0))), (1, .inl l1), (2, .inl l2), (4, .inl l4)] := hl
  exact b_X11_ruleEyes_146 C hk5 l1 l2 ((t1 ||| t0)) l4 M _ _ _ _ _ h I (hl.sub [1, 2, 3, 0, 4] rfl)
def w_X11_ruleEyes_41 (Q : Int32 → MS → Prop) (k5 : Int32 → Int32 → Int32 → Int32 → MS → Prop) : Nat → Int32 → Int32 → Int32 → Int32 → Int32 → Int32 → Int32 → MS → Prop
  | 0 => fun _ _ _ _ _ _ _ _ => False
  | f41 + 1 => fun l1 l2 l3 l4 l5 l6 l7 M => vp_in (((5 : Int32) * l4)) (mlen 12) ∧ ((mA M 12 (((5 : Int32) * l4)).toNatClampNeg ≤ l7) → (((l6 = 0) → (w_X11_ruleEyes_144 Q k5 l1 l2 l4 ((0 : Int32)) l3 M)) ∧ ((¬ l6 = 0) → (w_X11_ruleEyes_144 Q k5 l1 l2 l4 l5 l3 M)))) ∧ ((¬ mA M 12 (((5 : Int32) * l4)).toNatClampNeg ≤ l7) → (((l6 = 0) → (w_X11_ruleEyes_94 Q k5 (w_X11_ruleEyes_41 Q k5 f41) l1 l2 l3 l4 l5 l7 M)) ∧ ((¬ l6 = 0) → (vp_in (((((5 : Int32) * l4) + (1 : Int32)) + l7)) (mlen 12) ∧ vp_in ((((8 : Int32) * l1) + mA M 12 (((((5 : Int32) * l4) + (1 : Int32)) + l7)).toNatClampNeg)) (mlen 58) ∧ (((1000 : Int32) ≤ mA M 58 ((((8 : Int32) * l1) + mA M 12 (((((5 : Int32) * l4) + (1 : Int32)) + l7)).toNatClampNeg)).toNatClampNeg) → (w_X11_ruleEyes_94 Q k5 (w_X11_ruleEyes_41 Q k5 f41) l1 l2 l3 l4 l5 l7 M)) ∧ ((¬ (1000 : Int32) ≤ mA M 58 ((((8 : Int32) * l1) + mA M 12 (((((5 : Int32) * l4) + (1 : Int32)) + l7)).toNatClampNeg)).toNatClampNeg) → (w_X11_ruleEyes_95 Q k5 (w_X11_ruleEyes_41 Q k5 f41) l1 l2 l3 l4 l5 l7 ((1 : Int32)) M))))))
set_option maxHeartbeats 4000000 in
theorem b_X11_ruleEyes_41 {b0 z0 : Nat} {M0 : MS} {Q : Int32 → MS → Prop} {k5 : Int32 → Int32 → Int32 → Int32 → MS → Prop} (C : Cx p s m meth c D T Z "EndingTownModel" cX11_ruleEyes 8 (some .int)) (hk5 : ∀ (l1 : Int32) (l2 : Int32) (l3 : Int32) (l4 : Int32) (M : MS) (H : Heap) (locs : List Loc) (cells slots : Nat) (ls : Array Slot), k5 l1 l2 l3 l4 M → HI (twd D T Z) (mG b0 z0 M0) s (rmX (twd D T Z) 0 0 (mG b0 z0 M0)) H locs cells slots (mG b0 z0 M) → LH ls 8 [(0, .inr (.inl (some b0))), (1, .inl l1), (2, .inl l2), (3, .inl l3), (4, .inl l4)] → W p l e (rmX (twd D T Z) 0 0 (mG b0 z0 M0)) s m args below meth c H locs cells slots (MQX (twd D T Z) (mG b0 z0 M0) (mq b0 z0 (qI Q)) (fun _ _ => False) below s) (F0 m 5 ls [])) : ∀ (n : Nat) (l1 : Int32) (l2 : Int32) (l3 : Int32) (l4 : Int32) (l5 : Int32) (l6 : Int32) (l7 : Int32) (M : MS) (H : Heap) (locs : List Loc) (cells slots : Nat) (ls : Array Slot), w_X11_ruleEyes_41 Q k5 n l1 l2 l3 l4 l5 l6 l7 M → HI (twd D T Z) (mG b0 z0 M0) s (rmX (twd D T Z) 0 0 (mG b0 z0 M0)) H locs cells slots (mG b0 z0 M) → LH ls 8 [(0, .inr (.inl (some b0))), (1, .inl l1), (2, .inl l2), (3, .inl l3), (4, .inl l4), (5, .inl l5), (6, .inl l6), (7, .inl l7)] → W p l e (rmX (twd D T Z) 0 0 (mG b0 z0 M0)) s m args below meth c H locs cells slots (MQX (twd D T Z) (mG b0 z0 M0) (mq b0 z0 (qI Q)) (fun _ _ => False) below s) (F0 m 41 ls []) := by
  intro n
  induction n with
  | zero => intro l1 l2 l3 l4 l5 l6 l7 M H locs cells slots ls h; exact (show False from h).elim
  | succ n ih =>
    intro l1 l2 l3 l4 l5 l6 l7 M H locs cells slots ls h I hl
    have hk41 := ih
    refine l_ild C dX11_ruleEyes_41 hl 7 rfl ?_
    refine l_ald_n (x := some b0) C dX11_ruleEyes_43 hl 0 rfl rfl ?_
    refine f_A C I (fl_X11_29) (by decide) (by decide) dX11_ruleEyes_44 ?_
    refine lv_iconst (v := 5) C.1 C.2.1 dX11_ruleEyes_47 (by decide) ?_
    refine l_ild C dX11_ruleEyes_48 hl 4 rfl ?_
    refine lv_imul C.1 C.2.1 dX11_ruleEyes_50 ?_
    obtain ⟨hi, h⟩ := h
    refine f_ld (k := 12) C I (by decide) hi dX11_ruleEyes_51 ?_
    refine lv_icmp_ge (tgt := 132) C.1 C.2.1 dX11_ruleEyes_52 (by decide) (fun c4 => ?_) (fun c4 => ?_)
    · have h := h.1 c4
      refine l_ild_n C dX11_ruleEyes_132 hl 3 rfl rfl ?_
      refine l_ild C dX11_ruleEyes_133 hl 6 rfl ?_
      refine lv_if_eq (tgt := 143) C.1 C.2.1 dX11_ruleEyes_135 (by decide) (fun c1 => ?_) (fun c1 => ?_)
      · have h := h.1 c1
        refine lv_iconst (v := 0) C.1 C.2.1 dX11_ruleEyes_143 (by decide) ?_
        exact b_X11_ruleEyes_144 C hk5 l1 l2 l4 ((0 : Int32)) l3 M _ _ _ _ _ h I (hl.sub [0, 1, 2, 4] rfl)
      · have h := h.2 c1
        refine l_ild C dX11_ruleEyes_138 hl 5 rfl ?_
        refine lv_goto (tgt := 144) C.1 C.2.1 dX11_ruleEyes_140 (by decide) ?_
        exact b_X11_ruleEyes_144 C hk5 l1 l2 l4 l5 l3 M _ _ _ _ _ h I (hl.sub [0, 1, 2, 4] rfl)
    · have h := h.2 c4
      refine l_ild C dX11_ruleEyes_55 hl 6 rfl ?_
      refine lv_if_eq (tgt := 94) C.1 C.2.1 dX11_ruleEyes_57 (by decide) (fun c3 => ?_) (fun c3 => ?_)
      · have h := h.1 c3
        exact b_X11_ruleEyes_94 C hk5 hk41 l1 l2 l3 l4 l5 l7 M _ _ _ _ _ h I (hl.sub [0, 1, 2, 3, 4, 5, 7] rfl)
      · have h := h.2 c3
        refine l_ald_n (x := some b0) C dX11_ruleEyes_60 hl 0 rfl rfl ?_
        refine f_A C I (fl_X11_104) (by decide) (by decide) dX11_ruleEyes_61 ?_
        refine lv_bipush (v := 8) C.1 C.2.1 dX11_ruleEyes_64 (by decide) ?_
        refine l_ild_n C dX11_ruleEyes_66 hl 1 rfl rfl ?_
        refine lv_imul C.1 C.2.1 dX11_ruleEyes_67 ?_
        refine l_ald_n (x := some b0) C dX11_ruleEyes_68 hl 0 rfl rfl ?_
        refine f_A C I (fl_X11_29) (by decide) (by decide) dX11_ruleEyes_69 ?_
        refine lv_iconst (v := 5) C.1 C.2.1 dX11_ruleEyes_72 (by decide) ?_
        refine l_ild C dX11_ruleEyes_73 hl 4 rfl ?_
        refine lv_imul C.1 C.2.1 dX11_ruleEyes_75 ?_
        refine lv_iconst (v := 1) C.1 C.2.1 dX11_ruleEyes_76 (by decide) ?_
        refine lv_iadd C.1 C.2.1 dX11_ruleEyes_77 ?_
        refine l_ild C dX11_ruleEyes_78 hl 7 rfl ?_
        refine lv_iadd C.1 C.2.1 dX11_ruleEyes_80 ?_
        obtain ⟨hi, h⟩ := h
        refine f_ld (k := 12) C I (by decide) hi dX11_ruleEyes_81 ?_
        refine lv_iadd C.1 C.2.1 dX11_ruleEyes_82 ?_
        obtain ⟨hi, h⟩ := h
        refine f_ld (k := 58) C I (by decide) hi dX11_ruleEyes_83 ?_
        refine lv_sipush (v := 1000) C.1 C.2.1 dX11_ruleEyes_84 (by decide) ?_
        refine lv_icmp_ge (tgt := 94) C.1 C.2.1 dX11_ruleEyes_87 (by decide) (fun c2 => ?_) (fun c2 => ?_)
        · have h := h.1 c2
          exact b_X11_ruleEyes_94 C hk5 hk41 l1 l2 l3 l4 l5 l7 M _ _ _ _ _ h I (hl.sub [0, 1, 2, 3, 4, 5, 7] rfl)
        · have h := h.2 c2
          refine lv_iconst (v := 1) C.1 C.2.1 dX11_ruleEyes_90 (by decide) ?_
          refine lv_goto (tgt := 95) C.1 C.2.1 dX11_ruleEyes_91 (by decide) ?_
          exact b_X11_ruleEyes_95 C hk5 hk41 l1 l2 l3 l4 l5 l7 ((1 : Int32)) M _ _ _ _ _ h I (hl.sub [0, 1, 2, 3, 4, 5, 7] rfl)
def w_X11_ruleEyes_5 (Q : Int32 → MS → Prop) : Nat → Int32 → Int32 → Int32 → Int32 → MS → Prop
  | 0 => fun _ _ _ _ _ => False
  | f5 + 1 => fun l1 l2 l3 l4 M => ((mF M 6 ≤ l4) → (Q l3 M)) ∧ ((¬ mF M 6 ≤ l4) → (vp_in ((((5 : Int32) * l4) + (1 : Int32))) (mlen 12) ∧ ((mA M 12 ((((5 : Int32) * l4) + (1 : Int32))).toNatClampNeg = l2) → (∃ n, w_X11_ruleEyes_41 Q (w_X11_ruleEyes_5 Q f5) n l1 l2 l3 l4 ((0 : Int32)) ((1 : Int32)) ((1 : Int32)) M)) ∧ ((¬ mA M 12 ((((5 : Int32) * l4) + (1 : Int32))).toNatClampNeg = l2) → (w_X11_ruleEyes_146 Q (w_X11_ruleEyes_5 Q f5) l1 l2 l3 l4 M))))
set_option maxHeartbeats 4000000 in
theorem b_X11_ruleEyes_5 {b0 z0 : Nat} {M0 : MS} {Q : Int32 → MS → Prop} (C : Cx p s m meth c D T Z "EndingTownModel" cX11_ruleEyes 8 (some .int)) : ∀ (n : Nat) (l1 : Int32) (l2 : Int32) (l3 : Int32) (l4 : Int32) (M : MS) (H : Heap) (locs : List Loc) (cells slots : Nat) (ls : Array Slot), w_X11_ruleEyes_5 Q n l1 l2 l3 l4 M → HI (twd D T Z) (mG b0 z0 M0) s (rmX (twd D T Z) 0 0 (mG b0 z0 M0)) H locs cells slots (mG b0 z0 M) → LH ls 8 [(0, .inr (.inl (some b0))), (1, .inl l1), (2, .inl l2), (3, .inl l3), (4, .inl l4)] → W p l e (rmX (twd D T Z) 0 0 (mG b0 z0 M0)) s m args below meth c H locs cells slots (MQX (twd D T Z) (mG b0 z0 M0) (mq b0 z0 (qI Q)) (fun _ _ => False) below s) (F0 m 5 ls []) := by
  intro n
  induction n with
  | zero => intro l1 l2 l3 l4 M H locs cells slots ls h; exact (show False from h).elim
  | succ n ih =>
    intro l1 l2 l3 l4 M H locs cells slots ls h I hl
    have hk5 := ih
    refine l_ild C dX11_ruleEyes_5 hl 4 rfl ?_
    refine l_ald_n (x := some b0) C dX11_ruleEyes_7 hl 0 rfl rfl ?_
    refine f_I C I (fl_X11_272) (by decide) dX11_ruleEyes_8 ?_
    refine lv_icmp_ge (tgt := 152) C.1 C.2.1 dX11_ruleEyes_11 (by decide) (fun c2 => ?_) (fun c2 => ?_)
    · have h := h.1 c2
      refine l_ild_n C dX11_ruleEyes_152 hl 3 rfl rfl ?_
      exact r_int C.1 C.2.1 C.2.2.2.2.2.1 rfl C.2.2.2.2.2.2 ⟨rfl, rfl⟩ I dX11_ruleEyes_153 ⟨_, rfl, _, rfl, h⟩
    · have h := h.2 c2
      refine l_ald_n (x := some b0) C dX11_ruleEyes_14 hl 0 rfl rfl ?_
      refine f_A C I (fl_X11_29) (by decide) (by decide) dX11_ruleEyes_15 ?_
      refine lv_iconst (v := 5) C.1 C.2.1 dX11_ruleEyes_18 (by decide) ?_
      refine l_ild C dX11_ruleEyes_19 hl 4 rfl ?_
      refine lv_imul C.1 C.2.1 dX11_ruleEyes_21 ?_
      refine lv_iconst (v := 1) C.1 C.2.1 dX11_ruleEyes_22 (by decide) ?_
      refine lv_iadd C.1 C.2.1 dX11_ruleEyes_23 ?_
      obtain ⟨hi, h⟩ := h
      refine f_ld (k := 12) C I (by decide) hi dX11_ruleEyes_24 ?_
      refine l_ild_n C dX11_ruleEyes_25 hl 2 rfl rfl ?_
      refine lv_icmp_eq (tgt := 32) C.1 C.2.1 dX11_ruleEyes_26 (by decide) (fun c1 => ?_) (fun c1 => ?_)
      · have h := h.1 c1
        refine lv_iconst (v := 0) C.1 C.2.1 dX11_ruleEyes_32 (by decide) ?_
        refine l_ist C dX11_ruleEyes_33 hl (by decide) rfl (fun ls hl => ?_)
        have hl : LH ls 8 [(5, .inl ((0 : Int32))), (0, .inr (.inl (some b0))), (1, .inl l1), (2, .inl l2), (3, .inl l3), (4, .inl l4)] := hl
        refine lv_iconst (v := 1) C.1 C.2.1 dX11_ruleEyes_35 (by decide) ?_
        refine l_ist C dX11_ruleEyes_36 hl (by decide) rfl (fun ls hl => ?_)
        have hl : LH ls 8 [(6, .inl ((1 : Int32))), (5, .inl ((0 : Int32))), (0, .inr (.inl (some b0))), (1, .inl l1), (2, .inl l2), (3, .inl l3), (4, .inl l4)] := hl
        refine lv_iconst (v := 1) C.1 C.2.1 dX11_ruleEyes_38 (by decide) ?_
        refine l_ist C dX11_ruleEyes_39 hl (by decide) rfl (fun ls hl => ?_)
        have hl : LH ls 8 [(7, .inl ((1 : Int32))), (6, .inl ((1 : Int32))), (5, .inl ((0 : Int32))), (0, .inr (.inl (some b0))), (1, .inl l1), (2, .inl l2), (3, .inl l3), (4, .inl l4)] := hl
        obtain ⟨n, h⟩ := h
        exact b_X11_ruleEyes_41 C hk5 n l1 l2 l3 l4 ((0 : Int32)) ((1 : Int32)) ((1 : Int32)) M _ _ _ _ _ h I (hl.sub [3, 4, 5, 6, 7, 2, 1, 0] rfl)
      · have h := h.2 c1
        refine lv_goto (tgt := 146) C.1 C.2.1 dX11_ruleEyes_29 (by decide) ?_
        exact b_X11_ruleEyes_146 C hk5 l1 l2 l3 l4 M _ _ _ _ _ h I (hl.sub [0, 1, 2, 3, 4] rfl)
def w_X11_ruleEyes (Q : Int32 → MS → Prop) (p0 : Int32) (p1 : Int32) (M : MS) : Prop := ∃ n, w_X11_ruleEyes_5 Q n p0 p1 ((0 : Int32)) ((0 : Int32)) M
theorem pd_X11_ruleEyes : (parseMethodDescriptor yX11_ruleEyes.desc).map (fun d => d.parameters.length) = some 2 := by decide +kernel
set_option maxHeartbeats 4000000 in
theorem ct_X11_ruleEyes {l : Launch} {D : va_G} {T : Nat → ClassId} {Z : Heap} {b0 z0 : Nat} {M0 : MS} {Q : Int32 → MS → Prop} {p0 : Int32} {p1 : Int32} (hw : w_X11_ruleEyes Q p0 p1 M0) : CT (twd D T Z) (Evd D T Z) l yX11_ruleEyes (Cond.code yX11_ruleEyes cX11_ruleEyes 8 (some .int)) 0 0 [va_rf (some b0), .int p0, .int p1] (mG b0 z0 M0) (mq b0 z0 (qI Q)) (fun _ _ => False) := by
  refine CT.ofW (cc := cX11_ruleEyes) (nL := 8) (ret := (some .int)) Ext.rf (by decide) (Or.inl rfl) ?_
  intro p e s m below meth c hx hb hml hown hr hlk hnm hcb hm hc hn hE I
  have C : Cx p s m meth c D T Z "EndingTownModel" cX11_ruleEyes 8 (some .int) := ⟨hx, hb, hml, hown, hE, hr, hlk⟩
  refine w_entry [.inr (.inl (some b0)), .inl p0, .inl p1] (Nat.le_of_ble_eq_true rfl) (fun ls hl => ?_)
  have hl : LH ls 8 [(0, .inr (.inl (some b0))), (1, .inl p0), (2, .inl p1)] := hl
  have h := hw
  refine lv_iconst (v := 0) C.1 C.2.1 dX11_ruleEyes_0 (by decide) ?_
  refine l_ist_n C dX11_ruleEyes_1 rfl hl (by decide) rfl (fun ls hl => ?_)
  have hl : LH ls 8 [(3, .inl ((0 : Int32))), (0, .inr (.inl (some b0))), (1, .inl p0), (2, .inl p1)] := hl
  refine lv_iconst (v := 0) C.1 C.2.1 dX11_ruleEyes_2 (by decide) ?_
  refine l_ist C dX11_ruleEyes_3 hl (by decide) rfl (fun ls hl => ?_)
  have hl : LH ls 8 [(4, .inl ((0 : Int32))), (3, .inl ((0 : Int32))), (0, .inr (.inl (some b0))), (1, .inl p0), (2, .inl p1)] := hl
  obtain ⟨n, h⟩ := h
  exact b_X11_ruleEyes_5 C n p0 p1 ((0 : Int32)) ((0 : Int32)) M0 _ _ _ _ _ h I (hl.sub [2, 3, 4, 1, 0] rfl)
def w_X11_isTold_53 (Q : Int32 → MS → Prop) (M : MS) : Prop := Q (0 : Int32) M
set_option maxHeartbeats 4000000 in
theorem b_X11_isTold_53 {b0 z0 : Nat} {M0 : MS} {Q : Int32 → MS → Prop} (C : Cx p s m meth c D T Z "EndingTownModel" cX11_isTold 6 (some .boolean)) : ∀ (M : MS) (H : Heap) (locs : List Loc) (cells slots : Nat) (ls : Array Slot), w_X11_isTold_53 Q M → HI (twd D T Z) (mG b0 z0 M0) s (rmX (twd D T Z) 1 22 (mG b0 z0 M0)) H locs cells slots (mG b0 z0 M) → LH ls 6 [] → W p l e (rmX (twd D T Z) 1 22 (mG b0 z0 M0)) s m args below meth c H locs cells slots (MQX (twd D T Z) (mG b0 z0 M0) (mq b0 z0 (qI Q)) (fun _ _ => False) below s) (F0 m 53 ls []) := by
  intro M H locs cells slots ls h I hl
  refine lv_iconst (v := 0) C.1 C.2.1 dX11_isTold_53 (by decide) ?_
  exact r_int C.1 C.2.1 C.2.2.2.2.2.1 rfl C.2.2.2.2.2.2 ⟨rfl, rfl⟩ I dX11_isTold_54 ⟨_, rfl, _, rfl, h⟩
def w_X11_isTold_124 (Q : Int32 → MS → Prop) (t0 : Int32) (M : MS) : Prop := bz t0 ∧ Q t0 M
set_option maxHeartbeats 4000000 in
theorem b_X11_isTold_124 {b0 z0 : Nat} {M0 : MS} {Q : Int32 → MS → Prop} (C : Cx p s m meth c D T Z "EndingTownModel" cX11_isTold 6 (some .boolean)) : ∀ (t0 : Int32) (M : MS) (H : Heap) (locs : List Loc) (cells slots : Nat) (ls : Array Slot), w_X11_isTold_124 Q t0 M → HI (twd D T Z) (mG b0 z0 M0) s (rmX (twd D T Z) 1 22 (mG b0 z0 M0)) H locs cells slots (mG b0 z0 M) → LH ls 6 [] → W p l e (rmX (twd D T Z) 1 22 (mG b0 z0 M0)) s m args below meth c H locs cells slots (MQX (twd D T Z) (mG b0 z0 M0) (mq b0 z0 (qI Q)) (fun _ _ => False) below s) (F0 m 124 ls [.int t0]) := by
  intro t0 M H locs cells slots ls h I hl
  exact r_int C.1 C.2.1 C.2.2.2.2.2.1 h.1.n C.2.2.2.2.2.2 ⟨rfl, rfl⟩ I dX11_isTold_124 ⟨_, rfl, _, rfl, h.2⟩
def w_X11_isTold_119 (Q : Int32 → MS → Prop) (M : MS) : Prop := w_X11_isTold_124 Q ((1 : Int32)) M
set_option maxHeartbeats 4000000 in
theorem b_X11_isTold_119 {b0 z0 : Nat} {M0 : MS} {Q : Int32 → MS → Prop} (C : Cx p s m meth c D T Z "EndingTownModel" cX11_isTold 6 (some .boolean)) : ∀ (M : MS) (H : Heap) (locs : List Loc) (cells slots : Nat) (ls : Array Slot), w_X11_isTold_119 Q M → HI (twd D T Z) (mG b0 z0 M0) s (rmX (twd D T Z) 1 22 (mG b0 z0 M0)) H locs cells slots (mG b0 z0 M) → LH ls 6 [] → W p l e (rmX (twd D T Z) 1 22 (mG b0 z0 M0)) s m args below meth c H locs cells slots (MQX (twd D T Z) (mG b0 z0 M0) (mq b0 z0 (qI Q)) (fun _ _ => False) below s) (F0 m 119 ls []) := by
  intro M H locs cells slots ls h I hl
  refine lv_iconst (v := 1) C.1 C.2.1 dX11_isTold_119 (by decide) ?_
  refine lv_goto (tgt := 124) C.1 C.2.1 dX11_isTold_120 (by decide) ?_
  exact b_X11_isTold_124 C ((1 : Int32)) M _ _ _ _ _ h I (hl.sub [] rfl)
def w_X11_isTold (Q : Int32 → MS → Prop) (p0 : Int32) (p1 : Int32) (p2 : Int32) (p3 : Int32) (p4 : Int32) (M : MS) : Prop := ((((mF M 60 >>> (p0 &&& 31)) &&& (1 : Int32)) = 0) → (w_X11_isTold_53 Q M)) ∧ ((¬ ((mF M 60 >>> (p0 &&& 31)) &&& (1 : Int32)) = 0) → (w_X11_of (fun r2 M1 => ((r2 = p1) → (w_X11_isTold_53 Q M1)) ∧ ((¬ r2 = p1) → (w_X11_of (fun r4 M3 => ((¬ r4 = p3) → (w_X11_isTold_53 Q M3)) ∧ ((r4 = p3) → (w_X11_of (fun r6 M5 => ((¬ r6 = p4) → (w_X11_isTold_53 Q M5)) ∧ ((r6 = p4) → (w_X11_of (fun r8 M7 => ((r8 ≤ p2) → (w_X11_of (fun r10 M9 => vp_in ((((24 : Int32) * p1) + r10)) (mlen 14) ∧ w_X11_of (fun r12 M11 => w_X11_of (fun r14 M13 => vp_in ((((24 : Int32) * r12) + r14)) (mlen 14) ∧ ((mA M9 14 ((((24 : Int32) * p1) + r10)).toNatClampNeg = mA M13 14 ((((24 : Int32) * r12) + r14)).toNatClampNeg) → (((((mF M13 61 >>> (p0 &&& 31)) &&& (1 : Int32)) = (1 : Int32)) → (w_X11_isTold_119 Q M13)) ∧ ((¬ ((mF M13 61 >>> (p0 &&& 31)) &&& (1 : Int32)) = (1 : Int32)) → (w_X11_of (fun r16 M15 => ((r16 = (4 : Int32)) → (w_X11_isTold_124 Q ((0 : Int32)) M15)) ∧ ((¬ r16 = (4 : Int32)) → (w_X11_isTold_119 Q M15))) p0 ((3 : Int32)) M13)))) ∧ ((¬ mA M9 14 ((((24 : Int32) * p1) + r10)).toNatClampNeg = mA M13 14 ((((24 : Int32) * r12) + r14)).toNatClampNeg) → (Q (0 : Int32) M13))) p0 ((1 : Int32)) M11) p0 ((0 : Int32)) M9) p0 ((1 : Int32)) M7)) ∧ ((¬ r8 ≤ p2) → (w_X11_isTold_53 Q M7))) p0 ((1 : Int32)) M5))) p0 ((4 : Int32)) M3))) p0 ((2 : Int32)) M1))) p0 ((0 : Int32)) M))
theorem pd_X11_isTold : (parseMethodDescriptor yX11_isTold.desc).map (fun d => d.parameters.length) = some 5 := by decide +kernel
set_option maxHeartbeats 4000000 in
theorem ct_X11_isTold {l : Launch} {D : va_G} {T : Nat → ClassId} {Z : Heap} {b0 z0 : Nat} {M0 : MS} {Q : Int32 → MS → Prop} {p0 : Int32} {p1 : Int32} {p2 : Int32} {p3 : Int32} {p4 : Int32} (hw : w_X11_isTold Q p0 p1 p2 p3 p4 M0) : CT (twd D T Z) (Evd D T Z) l yX11_isTold (Cond.code yX11_isTold cX11_isTold 6 (some .boolean)) 1 22 [va_rf (some b0), .int p0, .int p1, .int p2, .int p3, .int p4] (mG b0 z0 M0) (mq b0 z0 (qI Q)) (fun _ _ => False) := by
  refine CT.ofW (cc := cX11_isTold) (nL := 6) (ret := (some .boolean)) Ext.rf (by decide) (Or.inl rfl) ?_
  intro p e s m below meth c hx hb hml hown hr hlk hnm hcb hm hc hn hE I
  have C : Cx p s m meth c D T Z "EndingTownModel" cX11_isTold 6 (some .boolean) := ⟨hx, hb, hml, hown, hE, hr, hlk⟩
  refine w_entry [.inr (.inl (some b0)), .inl p0, .inl p1, .inl p2, .inl p3, .inl p4] (Nat.le_of_ble_eq_true rfl) (fun ls hl => ?_)
  have hl : LH ls 6 [(0, .inr (.inl (some b0))), (1, .inl p0), (2, .inl p1), (3, .inl p2), (4, .inl p3), (5, .inl p4)] := hl
  have h := hw
  refine l_ald_n (x := some b0) C dX11_isTold_0 hl 0 rfl rfl ?_
  refine f_I C I (fl_X11_352) (by decide) dX11_isTold_1 ?_
  refine l_ild_n C dX11_isTold_4 hl 1 rfl rfl ?_
  refine lv_ishr C.1 C.2.1 dX11_isTold_5 ?_
  refine lv_iconst (v := 1) C.1 C.2.1 dX11_isTold_6 (by decide) ?_
  refine lv_iand C.1 C.2.1 dX11_isTold_7 ?_
  refine lv_if_eq (tgt := 53) C.1 C.2.1 dX11_isTold_8 (by decide) (fun c24 => ?_) (fun c24 => ?_)
  · have h := h.1 c24
    exact b_X11_isTold_53 C M0 _ _ _ _ _ h I (hl.sub [] rfl)
  · have h := h.2 c24
    refine l_ald_n (x := some b0) C dX11_isTold_11 hl 0 rfl rfl ?_
    refine l_ild_n C dX11_isTold_12 hl 1 rfl rfl ?_
    refine lv_iconst (v := 0) C.1 C.2.1 dX11_isTold_13 (by decide) ?_
    refine k_call Ext.tr C I (k_V (r := some b0) (As := [.int p0, .int ((0 : Int32))]) (rest := []) (y := yX11_of) C (f_recv C I) q1789 q1791 qs78 (Or.inl rfl) q1792 (by decide) rfl pd_X11_of rfl dX11_isTold_14) (ct_X11_of h) hl.1 dX11_isTold_14 [] rfl (Nat.le_of_ble_eq_true rfl) (Or.inl rfl) q1792 q113 ⟨Nat.le_of_ble_eq_true rfl, Nat.le_of_ble_eq_true rfl⟩ (fun v x1 H locs cells slots ex hq I => ?_) (fun a x1 H locs cells slots ex hq I => hq.elim)
    obtain ⟨M1, rfl, r2, rfl, h⟩ := hq
    refine l_ild_n C dX11_isTold_17 hl 2 rfl rfl ?_
    refine lv_icmp_eq (tgt := 53) C.1 C.2.1 dX11_isTold_18 (by decide) (fun c23 => ?_) (fun c23 => ?_)
    · have h := h.1 c23
      exact b_X11_isTold_53 C M1 _ _ _ _ _ h I (hl.sub [] rfl)
    · have h := h.2 c23
      refine l_ald_n (x := some b0) C dX11_isTold_21 hl 0 rfl rfl ?_
      refine l_ild_n C dX11_isTold_22 hl 1 rfl rfl ?_
      refine lv_iconst (v := 2) C.1 C.2.1 dX11_isTold_23 (by decide) ?_
      refine k_call Ext.tr C I (k_V (r := some b0) (As := [.int p0, .int ((2 : Int32))]) (rest := []) (y := yX11_of) C (f_recv C I) q1789 q1791 qs78 (Or.inl rfl) q1792 (by decide) rfl pd_X11_of rfl dX11_isTold_24) (ct_X11_of h) hl.1 dX11_isTold_24 [] rfl (Nat.le_of_ble_eq_true rfl) (Or.inl rfl) q1792 q113 ⟨Nat.le_of_ble_eq_true rfl, Nat.le_of_ble_eq_true rfl⟩ (fun v x1 H locs cells slots ex hq I => ?_) (fun a x1 H locs cells slots ex hq I => hq.elim)
      obtain ⟨M3, rfl, r4, rfl, h⟩ := hq
      refine l_ild C dX11_isTold_27 hl 4 rfl ?_
      refine lv_icmp_ne (tgt := 53) C.1 C.2.1 dX11_isTold_29 (by decide) (fun c22 => ?_) (fun c22 => ?_)
      · have h := h.1 c22
        exact b_X11_isTold_53 C M3 _ _ _ _ _ h I (hl.sub [] rfl)
      · have h := h.2 c22
        refine l_ald_n (x := some b0) C dX11_isTold_32 hl 0 rfl rfl ?_
        refine l_ild_n C dX11_isTold_33 hl 1 rfl rfl ?_
        refine lv_iconst (v := 4) C.1 C.2.1 dX11_isTold_34 (by decide) ?_
        refine k_call Ext.tr C I (k_V (r := some b0) (As := [.int p0, .int ((4 : Int32))]) (rest := []) (y := yX11_of) C (f_recv C I) q1789 q1791 qs78 (Or.inl rfl) q1792 (by decide) rfl pd_X11_of rfl dX11_isTold_35) (ct_X11_of h) hl.1 dX11_isTold_35 [] rfl (Nat.le_of_ble_eq_true rfl) (Or.inl rfl) q1792 q113 ⟨Nat.le_of_ble_eq_true rfl, Nat.le_of_ble_eq_true rfl⟩ (fun v x1 H locs cells slots ex hq I => ?_) (fun a x1 H locs cells slots ex hq I => hq.elim)
        obtain ⟨M5, rfl, r6, rfl, h⟩ := hq
        refine l_ild C dX11_isTold_38 hl 5 rfl ?_
        refine lv_icmp_ne (tgt := 53) C.1 C.2.1 dX11_isTold_40 (by decide) (fun c21 => ?_) (fun c21 => ?_)
        · have h := h.1 c21
          exact b_X11_isTold_53 C M5 _ _ _ _ _ h I (hl.sub [] rfl)
        · have h := h.2 c21
          refine l_ald_n (x := some b0) C dX11_isTold_43 hl 0 rfl rfl ?_
          refine l_ild_n C dX11_isTold_44 hl 1 rfl rfl ?_
          refine lv_iconst (v := 1) C.1 C.2.1 dX11_isTold_45 (by decide) ?_
          refine k_call Ext.tr C I (k_V (r := some b0) (As := [.int p0, .int ((1 : Int32))]) (rest := []) (y := yX11_of) C (f_recv C I) q1789 q1791 qs78 (Or.inl rfl) q1792 (by decide) rfl pd_X11_of rfl dX11_isTold_46) (ct_X11_of h) hl.1 dX11_isTold_46 [] rfl (Nat.le_of_ble_eq_true rfl) (Or.inl rfl) q1792 q113 ⟨Nat.le_of_ble_eq_true rfl, Nat.le_of_ble_eq_true rfl⟩ (fun v x1 H locs cells slots ex hq I => ?_) (fun a x1 H locs cells slots ex hq I => hq.elim)
          obtain ⟨M7, rfl, r8, rfl, h⟩ := hq
          refine l_ild_n C dX11_isTold_49 hl 3 rfl rfl ?_
          refine lv_icmp_le (tgt := 55) C.1 C.2.1 dX11_isTold_50 (by decide) (fun c20 => ?_) (fun c20 => ?_)
          · have h := h.1 c20
            refine l_ald_n (x := some b0) C dX11_isTold_55 hl 0 rfl rfl ?_
            refine f_A C I (fl_X11_35) (by decide) (by decide) dX11_isTold_56 ?_
            refine lv_bipush (v := 24) C.1 C.2.1 dX11_isTold_59 (by decide) ?_
            refine l_ild_n C dX11_isTold_61 hl 2 rfl rfl ?_
            refine lv_imul C.1 C.2.1 dX11_isTold_62 ?_
            refine l_ald_n (x := some b0) C dX11_isTold_63 hl 0 rfl rfl ?_
            refine l_ild_n C dX11_isTold_64 hl 1 rfl rfl ?_
            refine lv_iconst (v := 1) C.1 C.2.1 dX11_isTold_65 (by decide) ?_
            refine k_call Ext.tr C I (k_V (r := some b0) (As := [.int p0, .int ((1 : Int32))]) (rest := [.int (((24 : Int32) * p1)), va_rf (some (b0 + moff 14))]) (y := yX11_of) C (f_recv C I) q1789 q1791 qs78 (Or.inl rfl) q1792 (by decide) rfl pd_X11_of rfl dX11_isTold_66) (ct_X11_of h) hl.1 dX11_isTold_66 [.inl (((24 : Int32) * p1)), .inr (.inl (some (b0 + moff 14)))] rfl (Nat.le_of_ble_eq_true rfl) (Or.inl rfl) q1792 q113 ⟨Nat.le_of_ble_eq_true rfl, Nat.le_of_ble_eq_true rfl⟩ (fun v x1 H locs cells slots ex hq I => ?_) (fun a x1 H locs cells slots ex hq I => hq.elim)
            obtain ⟨M9, rfl, r10, rfl, h⟩ := hq
            refine lv_iadd C.1 C.2.1 dX11_isTold_69 ?_
            obtain ⟨hi, h⟩ := h
            refine f_ld (k := 14) C I (by decide) hi dX11_isTold_70 ?_
            refine l_ald_n (x := some b0) C dX11_isTold_71 hl 0 rfl rfl ?_
            refine f_A C I (fl_X11_35) (by decide) (by decide) dX11_isTold_72 ?_
            refine lv_bipush (v := 24) C.1 C.2.1 dX11_isTold_75 (by decide) ?_
            refine l_ald_n (x := some b0) C dX11_isTold_77 hl 0 rfl rfl ?_
            refine l_ild_n C dX11_isTold_78 hl 1 rfl rfl ?_
            refine lv_iconst (v := 0) C.1 C.2.1 dX11_isTold_79 (by decide) ?_
            refine k_call Ext.tr C I (k_V (r := some b0) (As := [.int p0, .int ((0 : Int32))]) (rest := [.int ((24 : Int32)), va_rf (some (b0 + moff 14)), .int (mA M9 14 ((((24 : Int32) * p1) + r10)).toNatClampNeg)]) (y := yX11_of) C (f_recv C I) q1789 q1791 qs78 (Or.inl rfl) q1792 (by decide) rfl pd_X11_of rfl dX11_isTold_80) (ct_X11_of h) hl.1 dX11_isTold_80 [.inl ((24 : Int32)), .inr (.inl (some (b0 + moff 14))), .inl (mA M9 14 ((((24 : Int32) * p1) + r10)).toNatClampNeg)] rfl (Nat.le_of_ble_eq_true rfl) (Or.inl rfl) q1792 q113 ⟨Nat.le_of_ble_eq_true rfl, Nat.le_of_ble_eq_true rfl⟩ (fun v x1 H locs cells slots ex hq I => ?_) (fun a x1 H locs cells slots ex hq I => hq.elim)
            obtain ⟨M11, rfl, r12, rfl, h⟩ := hq
            refine lv_imul C.1 C.2.1 dX11_isTold_83 ?_
            refine l_ald_n (x := some b0) C dX11_isTold_84 hl 0 rfl rfl ?_
            refine l_ild_n C dX11_isTold_85 hl 1 rfl rfl ?_
            refine lv_iconst (v := 1) C.1 C.2.1 dX11_isTold_86 (by decide) ?_
            refine k_call Ext.tr C I (k_V (r := some b0) (As := [.int p0, .int ((1 : Int32))]) (rest := [.int (((24 : Int32) * r12)), va_rf (some (b0 + moff 14)), .int (mA M9 14 ((((24 : Int32) * p1) + r10)).toNatClampNeg)]) (y := yX11_of) C (f_recv C I) q1789 q1791 qs78 (Or.inl rfl) q1792 (by decide) rfl pd_X11_of rfl dX11_isTold_87) (ct_X11_of h) hl.1 dX11_isTold_87 [.inl (((24 : Int32) * r12)), .inr (.inl (some (b0 + moff 14))), .inl (mA M9 14 ((((24 : Int32) * p1) + r10)).toNatClampNeg)] rfl (Nat.le_of_ble_eq_true rfl) (Or.inl rfl) q1792 q113 ⟨Nat.le_of_ble_eq_true rfl, Nat.le_of_ble_eq_true rfl⟩ (fun v x1 H locs cells slots ex hq I => ?_) (fun a x1 H locs cells slots ex hq I => hq.elim)
            obtain ⟨M13, rfl, r14, rfl, h⟩ := hq
            refine lv_iadd C.1 C.2.1 dX11_isTold_90 ?_
            obtain ⟨hi, h⟩ := h
            refine f_ld (k := 14) C I (by decide) hi dX11_isTold_91 ?_
            refine lv_icmp_eq (tgt := 97) C.1 C.2.1 dX11_isTold_92 (by decide) (fun c19 => ?_) (fun c19 => ?_)
            · have h := h.1 c19
              refine l_ald_n (x := some b0) C dX11_isTold_97 hl 0 rfl rfl ?_
              refine f_I C I (fl_X11_355) (by decide) dX11_isTold_98 ?_
              refine l_ild_n C dX11_isTold_101 hl 1 rfl rfl ?_
              refine lv_ishr C.1 C.2.1 dX11_isTold_102 ?_
              refine lv_iconst (v := 1) C.1 C.2.1 dX11_isTold_103 (by decide) ?_
              refine lv_iand C.1 C.2.1 dX11_isTold_104 ?_
              refine lv_iconst (v := 1) C.1 C.2.1 dX11_isTold_105 (by decide) ?_
              refine lv_icmp_eq (tgt := 119) C.1 C.2.1 dX11_isTold_106 (by decide) (fun c18 => ?_) (fun c18 => ?_)
              · have h := h.1 c18
                exact b_X11_isTold_119 C M13 _ _ _ _ _ h I (hl.sub [] rfl)
              · have h := h.2 c18
                refine l_ald_n (x := some b0) C dX11_isTold_109 hl 0 rfl rfl ?_
                refine l_ild_n C dX11_isTold_110 hl 1 rfl rfl ?_
                refine lv_iconst (v := 3) C.1 C.2.1 dX11_isTold_111 (by decide) ?_
                refine k_call Ext.tr C I (k_V (r := some b0) (As := [.int p0, .int ((3 : Int32))]) (rest := []) (y := yX11_of) C (f_recv C I) q1789 q1791 qs78 (Or.inl rfl) q1792 (by decide) rfl pd_X11_of rfl dX11_isTold_112) (ct_X11_of h) hl.1 dX11_isTold_112 [] rfl (Nat.le_of_ble_eq_true rfl) (Or.inl rfl) q1792 q113 ⟨Nat.le_of_ble_eq_true rfl, Nat.le_of_ble_eq_true rfl⟩ (fun v x1 H locs cells slots ex hq I => ?_) (fun a x1 H locs cells slots ex hq I => hq.elim)
                obtain ⟨M15, rfl, r16, rfl, h⟩ := hq
                refine lv_iconst (v := 4) C.1 C.2.1 dX11_isTold_115 (by decide) ?_
                refine lv_icmp_eq (tgt := 123) C.1 C.2.1 dX11_isTold_116 (by decide) (fun c17 => ?_) (fun c17 => ?_)
                · have h := h.1 c17
                  refine lv_iconst (v := 0) C.1 C.2.1 dX11_isTold_123 (by decide) ?_
                  exact b_X11_isTold_124 C ((0 : Int32)) M15 _ _ _ _ _ h I (hl.sub [] rfl)
                · have h := h.2 c17
                  exact b_X11_isTold_119 C M15 _ _ _ _ _ h I (hl.sub [] rfl)
            · have h := h.2 c19
              refine lv_iconst (v := 0) C.1 C.2.1 dX11_isTold_95 (by decide) ?_
              exact r_int C.1 C.2.1 C.2.2.2.2.2.1 rfl C.2.2.2.2.2.2 ⟨rfl, rfl⟩ I dX11_isTold_96 ⟨_, rfl, _, rfl, h⟩
          · have h := h.2 c20
            exact b_X11_isTold_53 C M7 _ _ _ _ _ h I (hl.sub [] rfl)
def w_X11_toldEyes_54 (Q : Int32 → MS → Prop) (k6 : Int32 → Int32 → Int32 → Int32 → Int32 → Int32 → MS → Prop) (l1 : Int32) (l2 : Int32) (l3 : Int32) (l4 : Int32) (l5 : Int32) (l6 : Int32) (M : MS) : Prop := k6 l1 l2 l3 l4 l5 ((l6 + 1)) M
set_option maxHeartbeats 4000000 in
theorem b_X11_toldEyes_54 {b0 z0 : Nat} {M0 : MS} {Q : Int32 → MS → Prop} {k6 : Int32 → Int32 → Int32 → Int32 → Int32 → Int32 → MS → Prop} (C : Cx p s m meth c D T Z "EndingTownModel" cX11_toldEyes 7 (some .int)) (hk6 : ∀ (l1 : Int32) (l2 : Int32) (l3 : Int32) (l4 : Int32) (l5 : Int32) (l6 : Int32) (M : MS) (H : Heap) (locs : List Loc) (cells slots : Nat) (ls : Array Slot), k6 l1 l2 l3 l4 l5 l6 M → HI (twd D T Z) (mG b0 z0 M0) s (rmX (twd D T Z) 2 47 (mG b0 z0 M0)) H locs cells slots (mG b0 z0 M) → LH ls 7 [(0, .inr (.inl (some b0))), (1, .inl l1), (2, .inl l2), (3, .inl l3), (4, .inl l4), (5, .inl l5), (6, .inl l6)] → W p l e (rmX (twd D T Z) 2 47 (mG b0 z0 M0)) s m args below meth c H locs cells slots (MQX (twd D T Z) (mG b0 z0 M0) (mq b0 z0 (qI Q)) (fun _ _ => False) below s) (F0 m 6 ls [])) : ∀ (l1 : Int32) (l2 : Int32) (l3 : Int32) (l4 : Int32) (l5 : Int32) (l6 : Int32) (M : MS) (H : Heap) (locs : List Loc) (cells slots : Nat) (ls : Array Slot), w_X11_toldEyes_54 Q k6 l1 l2 l3 l4 l5 l6 M → HI (twd D T Z) (mG b0 z0 M0) s (rmX (twd D T Z) 2 47 (mG b0 z0 M0)) H locs cells slots (mG b0 z0 M) → LH ls 7 [(0, .inr (.inl (some b0))), (1, .inl l1), (2, .inl l2), (3, .inl l3), (4, .inl l4), (5, .inl l5), (6, .inl l6)] → W p l e (rmX (twd D T Z) 2 47 (mG b0 z0 M0)) s m args below meth c H locs cells slots (MQX (twd D T Z) (mG b0 z0 M0) (mq b0 z0 (qI Q)) (fun _ _ => False) below s) (F0 m 54 ls []) := by
  intro l1 l2 l3 l4 l5 l6 M H locs cells slots ls h I hl
  refine l_inc (q := 6) (v := 1) C dX11_toldEyes_54 hl rfl (by decide) (by decide) rfl (fun ls hl => ?_)
  have hl : LH ls 7 [(6, .inl ((l6 + 1))), (0, .inr (.inl (some b0))), (1, .inl l1), (2, .inl l2), (3, .inl l3), (4, .inl l4), (5, .inl l5)] := hl
  refine lv_goto (tgt := 6) C.1 C.2.1 dX11_toldEyes_57 (by decide) ?_
  exact hk6 l1 l2 l3 l4 l5 ((l6 + 1)) M _ _ _ _ _ h I (hl.sub [1, 2, 3, 4, 5, 6, 0] rfl)
def w_X11_toldEyes_6 (Q : Int32 → MS → Prop) : Nat → Int32 → Int32 → Int32 → Int32 → Int32 → Int32 → MS → Prop
  | 0 => fun _ _ _ _ _ _ _ => False
  | f6 + 1 => fun l1 l2 l3 l4 l5 l6 M => ((mF M 50 ≤ l6) → (Q l5 M)) ∧ ((¬ mF M 50 ≤ l6) → (vp_in l6 (mlen 53) ∧ (((1000 : Int32) ≤ mA M 53 l6.toNatClampNeg) → (w_X11_toldEyes_54 Q (w_X11_toldEyes_6 Q f6) l1 l2 l3 l4 l5 l6 M)) ∧ ((¬ (1000 : Int32) ≤ mA M 53 l6.toNatClampNeg) → (w_X11_isTold (fun r2 M1 => ((r2 = 0) → (w_X11_toldEyes_54 Q (w_X11_toldEyes_6 Q f6) l1 l2 l3 l4 l5 l6 M1)) ∧ ((¬ r2 = 0) → (vp_in l6 (mlen 63) ∧ w_X11_toldEyes_54 Q (w_X11_toldEyes_6 Q f6) l1 l2 l3 l4 ((l5 ||| mA M1 63 l6.toNatClampNeg)) l6 M1))) l6 l1 l2 l3 l4 M))))
set_option maxHeartbeats 4000000 in
theorem b_X11_toldEyes_6 {b0 z0 : Nat} {M0 : MS} {Q : Int32 → MS → Prop} (C : Cx p s m meth c D T Z "EndingTownModel" cX11_toldEyes 7 (some .int)) : ∀ (n : Nat) (l1 : Int32) (l2 : Int32) (l3 : Int32) (l4 : Int32) (l5 : Int32) (l6 : Int32) (M : MS) (H : Heap) (locs : List Loc) (cells slots : Nat) (ls : Array Slot), w_X11_toldEyes_6 Q n l1 l2 l3 l4 l5 l6 M → HI (twd D T Z) (mG b0 z0 M0) s (rmX (twd D T Z) 2 47 (mG b0 z0 M0)) H locs cells slots (mG b0 z0 M) → LH ls 7 [(0, .inr (.inl (some b0))), (1, .inl l1), (2, .inl l2), (3, .inl l3), (4, .inl l4), (5, .inl l5), (6, .inl l6)] → W p l e (rmX (twd D T Z) 2 47 (mG b0 z0 M0)) s m args below meth c H locs cells slots (MQX (twd D T Z) (mG b0 z0 M0) (mq b0 z0 (qI Q)) (fun _ _ => False) below s) (F0 m 6 ls []) := by
  intro n
  induction n with
  | zero => intro l1 l2 l3 l4 l5 l6 M H locs cells slots ls h; exact (show False from h).elim
  | succ n ih =>
    intro l1 l2 l3 l4 l5 l6 M H locs cells slots ls h I hl
    have hk6 := ih
    refine l_ild C dX11_toldEyes_6 hl 6 rfl ?_
    refine l_ald_n (x := some b0) C dX11_toldEyes_8 hl 0 rfl rfl ?_
    refine f_I C I (fl_X11_279) (by decide) dX11_toldEyes_9 ?_
    refine lv_icmp_ge (tgt := 60) C.1 C.2.1 dX11_toldEyes_12 (by decide) (fun c5 => ?_) (fun c5 => ?_)
    · have h := h.1 c5
      refine l_ild C dX11_toldEyes_60 hl 5 rfl ?_
      exact r_int C.1 C.2.1 C.2.2.2.2.2.1 rfl C.2.2.2.2.2.2 ⟨rfl, rfl⟩ I dX11_toldEyes_62 ⟨_, rfl, _, rfl, h⟩
    · have h := h.2 c5
      refine l_ald_n (x := some b0) C dX11_toldEyes_15 hl 0 rfl rfl ?_
      refine f_A C I (fl_X11_89) (by decide) (by decide) dX11_toldEyes_16 ?_
      refine l_ild C dX11_toldEyes_19 hl 6 rfl ?_
      obtain ⟨hi, h⟩ := h
      refine f_ld (k := 53) C I (by decide) hi dX11_toldEyes_21 ?_
      refine lv_sipush (v := 1000) C.1 C.2.1 dX11_toldEyes_22 (by decide) ?_
      refine lv_icmp_ge (tgt := 54) C.1 C.2.1 dX11_toldEyes_25 (by decide) (fun c4 => ?_) (fun c4 => ?_)
      · have h := h.1 c4
        exact b_X11_toldEyes_54 C hk6 l1 l2 l3 l4 l5 l6 M _ _ _ _ _ h I (hl.sub [0, 1, 2, 3, 4, 5, 6] rfl)
      · have h := h.2 c4
        refine l_ald_n (x := some b0) C dX11_toldEyes_28 hl 0 rfl rfl ?_
        refine l_ild C dX11_toldEyes_29 hl 6 rfl ?_
        refine l_ild_n C dX11_toldEyes_31 hl 1 rfl rfl ?_
        refine l_ild_n C dX11_toldEyes_32 hl 2 rfl rfl ?_
        refine l_ild_n C dX11_toldEyes_33 hl 3 rfl rfl ?_
        refine l_ild C dX11_toldEyes_34 hl 4 rfl ?_
        refine k_call Ext.tr C I (k_V (r := some b0) (As := [.int l6, .int l1, .int l2, .int l3, .int l4]) (rest := []) (y := yX11_isTold) C (f_recv C I) q1821 q1823 qs86 (Or.inl rfl) q1824 (by decide) rfl pd_X11_isTold rfl dX11_toldEyes_36) (ct_X11_isTold h) hl.1 dX11_toldEyes_36 [] rfl (Nat.le_of_ble_eq_true rfl) (Or.inl rfl) q1824 q113 ⟨Nat.le_of_ble_eq_true rfl, Nat.le_of_ble_eq_true rfl⟩ (fun v x1 H locs cells slots ex hq I => ?_) (fun a x1 H locs cells slots ex hq I => hq.elim)
        obtain ⟨M1, rfl, r2, rfl, h⟩ := hq
        refine lv_if_eq (tgt := 54) C.1 C.2.1 dX11_toldEyes_39 (by decide) (fun c3 => ?_) (fun c3 => ?_)
        · have h := h.1 c3
          exact b_X11_toldEyes_54 C hk6 l1 l2 l3 l4 l5 l6 M1 _ _ _ _ _ h I (hl.sub [0, 1, 2, 3, 4, 5, 6] rfl)
        · have h := h.2 c3
          refine l_ild C dX11_toldEyes_42 hl 5 rfl ?_
          refine l_ald_n (x := some b0) C dX11_toldEyes_44 hl 0 rfl rfl ?_
          refine f_A C I (fl_X11_107) (by decide) (by decide) dX11_toldEyes_45 ?_
          refine l_ild C dX11_toldEyes_48 hl 6 rfl ?_
          obtain ⟨hi, h⟩ := h
          refine f_ld (k := 63) C I (by decide) hi dX11_toldEyes_50 ?_
          refine lv_ior C.1 C.2.1 dX11_toldEyes_51 ?_
          refine l_ist C dX11_toldEyes_52 hl (by decide) rfl (fun ls hl => ?_)
          have hl : LH ls 7 [(5, .inl ((l5 ||| mA M1 63 l6.toNatClampNeg))), (0, .inr (.inl (some b0))), (1, .inl l1), (2, .inl l2), (3, .inl l3), (4, .inl l4), (6, .inl l6)] := hl
          exact b_X11_toldEyes_54 C hk6 l1 l2 l3 l4 ((l5 ||| mA M1 63 l6.toNatClampNeg)) l6 M1 _ _ _ _ _ h I (hl.sub [1, 2, 3, 4, 5, 0, 6] rfl)
def w_X11_toldEyes (Q : Int32 → MS → Prop) (p0 : Int32) (p1 : Int32) (p2 : Int32) (p3 : Int32) (M : MS) : Prop := ∃ n, w_X11_toldEyes_6 Q n p0 p1 p2 p3 ((0 : Int32)) ((0 : Int32)) M
theorem pd_X11_toldEyes : (parseMethodDescriptor yX11_toldEyes.desc).map (fun d => d.parameters.length) = some 4 := by decide +kernel
set_option maxHeartbeats 4000000 in
theorem ct_X11_toldEyes {l : Launch} {D : va_G} {T : Nat → ClassId} {Z : Heap} {b0 z0 : Nat} {M0 : MS} {Q : Int32 → MS → Prop} {p0 : Int32} {p1 : Int32} {p2 : Int32} {p3 : Int32} (hw : w_X11_toldEyes Q p0 p1 p2 p3 M0) : CT (twd D T Z) (Evd D T Z) l yX11_toldEyes (Cond.code yX11_toldEyes cX11_toldEyes 7 (some .int)) 2 47 [va_rf (some b0), .int p0, .int p1, .int p2, .int p3] (mG b0 z0 M0) (mq b0 z0 (qI Q)) (fun _ _ => False) := by
  refine CT.ofW (cc := cX11_toldEyes) (nL := 7) (ret := (some .int)) Ext.rf (by decide) (Or.inl rfl) ?_
  intro p e s m below meth c hx hb hml hown hr hlk hnm hcb hm hc hn hE I
  have C : Cx p s m meth c D T Z "EndingTownModel" cX11_toldEyes 7 (some .int) := ⟨hx, hb, hml, hown, hE, hr, hlk⟩
  refine w_entry [.inr (.inl (some b0)), .inl p0, .inl p1, .inl p2, .inl p3] (Nat.le_of_ble_eq_true rfl) (fun ls hl => ?_)
  have hl : LH ls 7 [(0, .inr (.inl (some b0))), (1, .inl p0), (2, .inl p1), (3, .inl p2), (4, .inl p3)] := hl
  have h := hw
  refine lv_iconst (v := 0) C.1 C.2.1 dX11_toldEyes_0 (by decide) ?_
  refine l_ist C dX11_toldEyes_1 hl (by decide) rfl (fun ls hl => ?_)
  have hl : LH ls 7 [(5, .inl ((0 : Int32))), (0, .inr (.inl (some b0))), (1, .inl p0), (2, .inl p1), (3, .inl p2), (4, .inl p3)] := hl
  refine lv_iconst (v := 0) C.1 C.2.1 dX11_toldEyes_3 (by decide) ?_
  refine l_ist C dX11_toldEyes_4 hl (by decide) rfl (fun ls hl => ?_)
  have hl : LH ls 7 [(6, .inl ((0 : Int32))), (5, .inl ((0 : Int32))), (0, .inr (.inl (some b0))), (1, .inl p0), (2, .inl p1), (3, .inl p2), (4, .inl p3)] := hl
  obtain ⟨n, h⟩ := h
  exact b_X11_toldEyes_6 C n p0 p1 p2 p3 ((0 : Int32)) ((0 : Int32)) M0 _ _ _ _ _ h I (hl.sub [2, 3, 4, 5, 6, 1, 0] rfl)
def w_X11_eyesBy_58 (Q : Int32 → MS → Prop) (t0 : Int32) (M : MS) : Prop := Q t0 M
set_option maxHeartbeats 4000000 in
theorem b_X11_eyesBy_58 {b0 z0 : Nat} {M0 : MS} {Q : Int32 → MS → Prop} (C : Cx p s m meth c D T Z "EndingTownModel" cX11_eyesBy 6 (some .int)) : ∀ (t0 : Int32) (M : MS) (H : Heap) (locs : List Loc) (cells slots : Nat) (ls : Array Slot), w_X11_eyesBy_58 Q t0 M → HI (twd D T Z) (mG b0 z0 M0) s (rmX (twd D T Z) 3 73 (mG b0 z0 M0)) H locs cells slots (mG b0 z0 M) → LH ls 6 [] → W p l e (rmX (twd D T Z) 3 73 (mG b0 z0 M0)) s m args below meth c H locs cells slots (MQX (twd D T Z) (mG b0 z0 M0) (mq b0 z0 (qI Q)) (fun _ _ => False) below s) (F0 m 58 ls [.int t0]) := by
  intro t0 M H locs cells slots ls h I hl
  exact r_int C.1 C.2.1 C.2.2.2.2.2.1 rfl C.2.2.2.2.2.2 ⟨rfl, rfl⟩ I dX11_eyesBy_58 ⟨_, rfl, _, rfl, h⟩
def w_X11_eyesBy_86 (Q : Int32 → MS → Prop) (t0 : Int32) (M : MS) : Prop := Q t0 M
set_option maxHeartbeats 4000000 in
theorem b_X11_eyesBy_86 {b0 z0 : Nat} {M0 : MS} {Q : Int32 → MS → Prop} (C : Cx p s m meth c D T Z "EndingTownModel" cX11_eyesBy 6 (some .int)) : ∀ (t0 : Int32) (M : MS) (H : Heap) (locs : List Loc) (cells slots : Nat) (ls : Array Slot), w_X11_eyesBy_86 Q t0 M → HI (twd D T Z) (mG b0 z0 M0) s (rmX (twd D T Z) 3 73 (mG b0 z0 M0)) H locs cells slots (mG b0 z0 M) → LH ls 6 [] → W p l e (rmX (twd D T Z) 3 73 (mG b0 z0 M0)) s m args below meth c H locs cells slots (MQX (twd D T Z) (mG b0 z0 M0) (mq b0 z0 (qI Q)) (fun _ _ => False) below s) (F0 m 86 ls [.int t0]) := by
  intro t0 M H locs cells slots ls h I hl
  exact r_int C.1 C.2.1 C.2.2.2.2.2.1 rfl C.2.2.2.2.2.2 ⟨rfl, rfl⟩ I dX11_eyesBy_86 ⟨_, rfl, _, rfl, h⟩
def w_X11_eyesBy (Q : Int32 → MS → Prop) (p0 : Int32) (p1 : Int32) (p2 : Int32) (p3 : Int32) (M : MS) : Prop := vp_in p0 (mlen 55) ∧ ((¬ p3 = (4 : Int32)) → (((¬ p3 = (2 : Int32)) → (((¬ p3 = (3 : Int32)) → (vp_in p0 (mlen 56) ∧ w_X11_isBy (fun r2 M1 => ((r2 = 0) → (w_X11_eyesBy_86 Q ((0 : Int32)) M1)) ∧ ((¬ r2 = 0) → (w_X11_eyesBy_86 Q (((1 : Int32) <<< (mA M 55 p0.toNatClampNeg &&& 31))) M1))) (mA M 55 p0.toNatClampNeg) (mA M 56 p0.toNatClampNeg) p1 p2 p3 M)) ∧ ((p3 = (3 : Int32)) → (((¬ p2 = (1 : Int32)) → (w_X11_ruleEyes (fun r5 M4 => w_X11_eyesBy_58 Q r5 M4) p0 p1 M)) ∧ ((p2 = (1 : Int32)) → (w_X11_eyesBy_58 Q ((0 : Int32)) M)))))) ∧ ((p3 = (2 : Int32)) → (vp_in p0 (mlen 56) ∧ w_X11_toldEyes (fun r9 M8 => Q r9 M8) (mA M 55 p0.toNatClampNeg) (mA M 56 p0.toNatClampNeg) p1 p2 M)))) ∧ ((p3 = (4 : Int32)) → (Q ((0 : Int32)) M))
theorem pd_X11_eyesBy : (parseMethodDescriptor yX11_eyesBy.desc).map (fun d => d.parameters.length) = some 4 := by decide +kernel
set_option maxHeartbeats 4000000 in
theorem ct_X11_eyesBy {l : Launch} {D : va_G} {T : Nat → ClassId} {Z : Heap} {b0 z0 : Nat} {M0 : MS} {Q : Int32 → MS → Prop} {p0 : Int32} {p1 : Int32} {p2 : Int32} {p3 : Int32} (hw : w_X11_eyesBy Q p0 p1 p2 p3 M0) : CT (twd D T Z) (Evd D T Z) l yX11_eyesBy (Cond.code yX11_eyesBy cX11_eyesBy 6 (some .int)) 3 73 [va_rf (some b0), .int p0, .int p1, .int p2, .int p3] (mG b0 z0 M0) (mq b0 z0 (qI Q)) (fun _ _ => False) := by
  refine CT.ofW (cc := cX11_eyesBy) (nL := 6) (ret := (some .int)) Ext.rf (by decide) (Or.inl rfl) ?_
  intro p e s m below meth c hx hb hml hown hr hlk hnm hcb hm hc hn hE I
  have C : Cx p s m meth c D T Z "EndingTownModel" cX11_eyesBy 6 (some .int) := ⟨hx, hb, hml, hown, hE, hr, hlk⟩
  refine w_entry [.inr (.inl (some b0)), .inl p0, .inl p1, .inl p2, .inl p3] (Nat.le_of_ble_eq_true rfl) (fun ls hl => ?_)
  have hl : LH ls 6 [(0, .inr (.inl (some b0))), (1, .inl p0), (2, .inl p1), (3, .inl p2), (4, .inl p3)] := hl
  have h := hw
  refine l_ald_n (x := some b0) C dX11_eyesBy_0 hl 0 rfl rfl ?_
  refine f_A C I (fl_X11_95) (by decide) (by decide) dX11_eyesBy_1 ?_
  refine l_ild_n C dX11_eyesBy_4 hl 1 rfl rfl ?_
  obtain ⟨hi, h⟩ := h
  refine f_ld (k := 55) C I (by decide) hi dX11_eyesBy_5 ?_
  refine l_ist C dX11_eyesBy_6 hl (by decide) rfl (fun ls hl => ?_)
  have hl : LH ls 6 [(5, .inl (mA M0 55 p0.toNatClampNeg)), (0, .inr (.inl (some b0))), (1, .inl p0), (2, .inl p1), (3, .inl p2), (4, .inl p3)] := hl
  refine l_ild C dX11_eyesBy_8 hl 5 rfl ?_
  refine lv_iconst (v := 4) C.1 C.2.1 dX11_eyesBy_10 (by decide) ?_
  refine lv_icmp_ne (tgt := 16) C.1 C.2.1 dX11_eyesBy_11 (by decide) (fun c11 => ?_) (fun c11 => ?_)
  · have h := h.1 c11
    refine l_ild C dX11_eyesBy_16 hl 5 rfl ?_
    refine lv_iconst (v := 2) C.1 C.2.1 dX11_eyesBy_18 (by decide) ?_
    refine lv_icmp_ne (tgt := 37) C.1 C.2.1 dX11_eyesBy_19 (by decide) (fun c10 => ?_) (fun c10 => ?_)
    · have h := h.1 c10
      refine l_ild C dX11_eyesBy_37 hl 5 rfl ?_
      refine lv_iconst (v := 3) C.1 C.2.1 dX11_eyesBy_39 (by decide) ?_
      refine lv_icmp_ne (tgt := 59) C.1 C.2.1 dX11_eyesBy_40 (by decide) (fun c7 => ?_) (fun c7 => ?_)
      · have h := h.1 c7
        refine l_ald_n (x := some b0) C dX11_eyesBy_59 hl 1 rfl rfl ?_
        refine l_ild C dX11_eyesBy_60 hl 0 rfl ?_
        refine l_ald_n (x := some b0) C dX11_eyesBy_62 hl 1 rfl rfl ?_
        refine f_A C I (fl_X11_98) (by decide) (by decide) dX11_eyesBy_63 ?_
        refine l_ild_n C dX11_eyesBy_66 hl 2 rfl rfl ?_
        obtain ⟨hi, h⟩ := h
        refine f_ld (k := 56) C I (by decide) hi dX11_eyesBy_67 ?_
        refine l_ild_n C dX11_eyesBy_68 hl 3 rfl rfl ?_
        refine l_ild_n C dX11_eyesBy_69 hl 4 rfl rfl ?_
        refine l_ild C dX11_eyesBy_70 hl 5 rfl ?_
        refine k_call Ext.tr C I (k_V (r := some b0) (As := [.int (mA M0 55 p0.toNatClampNeg), .int (mA M0 56 p0.toNatClampNeg), .int p1, .int p2, .int p3]) (rest := []) (y := yX11_isBy) C (f_recv C I) q1829 q1831 qs88 (Or.inl rfl) q1832 (by decide) rfl pd_X11_isBy rfl dX11_eyesBy_72) (ct_X11_isBy h) hl.1 dX11_eyesBy_72 [] rfl (Nat.le_of_ble_eq_true rfl) (Or.inl rfl) q1832 q113 ⟨Nat.le_of_ble_eq_true rfl, Nat.le_of_ble_eq_true rfl⟩ (fun v x1 H locs cells slots ex hq I => ?_) (fun a x1 H locs cells slots ex hq I => hq.elim)
        obtain ⟨M1, rfl, r2, rfl, h⟩ := hq
        refine lv_if_eq (tgt := 85) C.1 C.2.1 dX11_eyesBy_75 (by decide) (fun c3 => ?_) (fun c3 => ?_)
        · have h := h.1 c3
          refine lv_iconst (v := 0) C.1 C.2.1 dX11_eyesBy_85 (by decide) ?_
          exact b_X11_eyesBy_86 C ((0 : Int32)) M1 _ _ _ _ _ h I (hl.sub [] rfl)
        · have h := h.2 c3
          refine lv_iconst (v := 1) C.1 C.2.1 dX11_eyesBy_78 (by decide) ?_
          refine l_ild C dX11_eyesBy_79 hl 0 rfl ?_
          refine lv_ishl C.1 C.2.1 dX11_eyesBy_81 ?_
          refine lv_goto (tgt := 86) C.1 C.2.1 dX11_eyesBy_82 (by decide) ?_
          exact b_X11_eyesBy_86 C (((1 : Int32) <<< (mA M0 55 p0.toNatClampNeg &&& 31))) M1 _ _ _ _ _ h I (hl.sub [] rfl)
      · have h := h.2 c7
        refine l_ild_n C dX11_eyesBy_43 hl 4 rfl rfl ?_
        refine lv_iconst (v := 1) C.1 C.2.1 dX11_eyesBy_44 (by decide) ?_
        refine lv_icmp_ne (tgt := 52) C.1 C.2.1 dX11_eyesBy_45 (by decide) (fun c6 => ?_) (fun c6 => ?_)
        · have h := h.1 c6
          refine l_ald_n (x := some b0) C dX11_eyesBy_52 hl 1 rfl rfl ?_
          refine l_ild_n C dX11_eyesBy_53 hl 2 rfl rfl ?_
          refine l_ild_n C dX11_eyesBy_54 hl 3 rfl rfl ?_
          refine k_call Ext.tr C I (k_V (r := some b0) (As := [.int p0, .int p1]) (rest := []) (y := yX11_ruleEyes) C (f_recv C I) q1845 q1847 qs92 (Or.inl rfl) q1848 (by decide) rfl pd_X11_ruleEyes rfl dX11_eyesBy_55) (ct_X11_ruleEyes h) hl.1 dX11_eyesBy_55 [] rfl (Nat.le_of_ble_eq_true rfl) (Or.inl rfl) q1848 q113 ⟨Nat.le_of_ble_eq_true rfl, Nat.le_of_ble_eq_true rfl⟩ (fun v x1 H locs cells slots ex hq I => ?_) (fun a x1 H locs cells slots ex hq I => hq.elim)
          obtain ⟨M4, rfl, r5, rfl, h⟩ := hq
          exact b_X11_eyesBy_58 C r5 M4 _ _ _ _ _ h I (hl.sub [] rfl)
        · have h := h.2 c6
          refine lv_iconst (v := 0) C.1 C.2.1 dX11_eyesBy_48 (by decide) ?_
          refine lv_goto (tgt := 58) C.1 C.2.1 dX11_eyesBy_49 (by decide) ?_
          exact b_X11_eyesBy_58 C ((0 : Int32)) M0 _ _ _ _ _ h I (hl.sub [] rfl)
    · have h := h.2 c10
      refine l_ald_n (x := some b0) C dX11_eyesBy_22 hl 1 rfl rfl ?_
      refine l_ild C dX11_eyesBy_23 hl 0 rfl ?_
      refine l_ald_n (x := some b0) C dX11_eyesBy_25 hl 1 rfl rfl ?_
      refine f_A C I (fl_X11_98) (by decide) (by decide) dX11_eyesBy_26 ?_
      refine l_ild_n C dX11_eyesBy_29 hl 2 rfl rfl ?_
      obtain ⟨hi, h⟩ := h
      refine f_ld (k := 56) C I (by decide) hi dX11_eyesBy_30 ?_
      refine l_ild_n C dX11_eyesBy_31 hl 3 rfl rfl ?_
      refine l_ild_n C dX11_eyesBy_32 hl 4 rfl rfl ?_
      refine k_call Ext.tr C I (k_V (r := some b0) (As := [.int (mA M0 55 p0.toNatClampNeg), .int (mA M0 56 p0.toNatClampNeg), .int p1, .int p2]) (rest := []) (y := yX11_toldEyes) C (f_recv C I) q1841 q1843 qs91 (Or.inl rfl) q1844 (by decide) rfl pd_X11_toldEyes rfl dX11_eyesBy_33) (ct_X11_toldEyes h) hl.1 dX11_eyesBy_33 [] rfl (Nat.le_of_ble_eq_true rfl) (Or.inl rfl) q1844 q113 ⟨Nat.le_of_ble_eq_true rfl, Nat.le_of_ble_eq_true rfl⟩ (fun v x1 H locs cells slots ex hq I => ?_) (fun a x1 H locs cells slots ex hq I => hq.elim)
      obtain ⟨M8, rfl, r9, rfl, h⟩ := hq
      exact r_int C.1 C.2.1 C.2.2.2.2.2.1 rfl C.2.2.2.2.2.2 ⟨rfl, rfl⟩ I dX11_eyesBy_36 ⟨_, rfl, _, rfl, h⟩
  · have h := h.2 c11
    refine lv_iconst (v := 0) C.1 C.2.1 dX11_eyesBy_14 (by decide) ?_
    exact r_int C.1 C.2.1 C.2.2.2.2.2.1 rfl C.2.2.2.2.2.2 ⟨rfl, rfl⟩ I dX11_eyesBy_15 ⟨_, rfl, _, rfl, h⟩
def w_X11_looks_144 (Q : MS → Prop) (k51 : Int32 → MS → Prop) (k59 : Int32 → Int32 → MS → Prop) (k69 : Int32 → Int32 → Int32 → MS → Prop) (l2 : Int32) (l3 : Int32) (l4 : Int32) (t0 : Int32) (M : MS) : Prop := vp_in ((((8 : Int32) * l2) + l3)) (mlen 64) ∧ ∀ M1 : MS, M1 = sA M 64 ((((8 : Int32) * l2) + l3)).toNatClampNeg l4 → k69 t0 l2 ((l3 + 1)) M1
set_option maxHeartbeats 4000000 in
theorem b_X11_looks_144 {b0 z0 : Nat} {M0 : MS} {Q : MS → Prop} {k51 : Int32 → MS → Prop} {k59 : Int32 → Int32 → MS → Prop} {k69 : Int32 → Int32 → Int32 → MS → Prop} (C : Cx p s m meth c D T Z "EndingTownModel" cX11_looks 6 none) (hk51 : ∀ (l1 : Int32) (M : MS) (H : Heap) (locs : List Loc) (cells slots : Nat) (ls : Array Slot), k51 l1 M → HI (twd D T Z) (mG b0 z0 M0) s (rmX (twd D T Z) 4 98 (mG b0 z0 M0)) H locs cells slots (mG b0 z0 M) → LH ls 6 [(0, .inr (.inl (some b0))), (1, .inl l1)] → W p l e (rmX (twd D T Z) 4 98 (mG b0 z0 M0)) s m args below meth c H locs cells slots (MQX (twd D T Z) (mG b0 z0 M0) (mq b0 z0 (qV Q)) (fun _ _ => False) below s) (F0 m 51 ls [])) (hk59 : ∀ (l1 : Int32) (l2 : Int32) (M : MS) (H : Heap) (locs : List Loc) (cells slots : Nat) (ls : Array Slot), k59 l1 l2 M → HI (twd D T Z) (mG b0 z0 M0) s (rmX (twd D T Z) 4 98 (mG b0 z0 M0)) H locs cells slots (mG b0 z0 M) → LH ls 6 [(0, .inr (.inl (some b0))), (1, .inl l1), (2, .inl l2)] → W p l e (rmX (twd D T Z) 4 98 (mG b0 z0 M0)) s m args below meth c H locs cells slots (MQX (twd D T Z) (mG b0 z0 M0) (mq b0 z0 (qV Q)) (fun _ _ => False) below s) (F0 m 59 ls [])) (hk69 : ∀ (l1 : Int32) (l2 : Int32) (l3 : Int32) (M : MS) (H : Heap) (locs : List Loc) (cells slots : Nat) (ls : Array Slot), k69 l1 l2 l3 M → HI (twd D T Z) (mG b0 z0 M0) s (rmX (twd D T Z) 4 98 (mG b0 z0 M0)) H locs cells slots (mG b0 z0 M) → LH ls 6 [(0, .inr (.inl (some b0))), (1, .inl l1), (2, .inl l2), (3, .inl l3)] → W p l e (rmX (twd D T Z) 4 98 (mG b0 z0 M0)) s m args below meth c H locs cells slots (MQX (twd D T Z) (mG b0 z0 M0) (mq b0 z0 (qV Q)) (fun _ _ => False) below s) (F0 m 69 ls [])) : ∀ (l2 : Int32) (l3 : Int32) (l4 : Int32) (t0 : Int32) (M : MS) (H : Heap) (locs : List Loc) (cells slots : Nat) (ls : Array Slot), w_X11_looks_144 Q k51 k59 k69 l2 l3 l4 t0 M → HI (twd D T Z) (mG b0 z0 M0) s (rmX (twd D T Z) 4 98 (mG b0 z0 M0)) H locs cells slots (mG b0 z0 M) → LH ls 6 [(0, .inr (.inl (some b0))), (2, .inl l2), (3, .inl l3), (4, .inl l4)] → W p l e (rmX (twd D T Z) 4 98 (mG b0 z0 M0)) s m args below meth c H locs cells slots (MQX (twd D T Z) (mG b0 z0 M0) (mq b0 z0 (qV Q)) (fun _ _ => False) below s) (F0 m 144 ls [.int t0]) := by
  intro l2 l3 l4 t0 M H locs cells slots ls h I hl
  refine l_ist_n C dX11_looks_144 rfl hl (by decide) rfl (fun ls hl => ?_)
  have hl : LH ls 6 [(1, .inl t0), (0, .inr (.inl (some b0))), (2, .inl l2), (3, .inl l3), (4, .inl l4)] := hl
  refine l_ald_n (x := some b0) C dX11_looks_145 hl 1 rfl rfl ?_
  refine f_A C I (fl_X11_110) (by decide) (by decide) dX11_looks_146 ?_
  refine lv_bipush (v := 8) C.1 C.2.1 dX11_looks_149 (by decide) ?_
  refine l_ild_n C dX11_looks_151 hl 2 rfl rfl ?_
  refine lv_imul C.1 C.2.1 dX11_looks_152 ?_
  refine l_ild_n C dX11_looks_153 hl 3 rfl rfl ?_
  refine lv_iadd C.1 C.2.1 dX11_looks_154 ?_
  refine l_ild C dX11_looks_155 hl 4 rfl ?_
  obtain ⟨hi, h⟩ := h
  refine f_st (k := 64) C I (by decide) hi dX11_looks_157 (fun H locs M1 eM1 I => ?_)
  have h := h M1 eM1
  refine l_inc (q := 3) (v := 1) C dX11_looks_158 hl rfl (by decide) (by decide) rfl (fun ls hl => ?_)
  have hl : LH ls 6 [(3, .inl ((l3 + 1))), (1, .inl t0), (0, .inr (.inl (some b0))), (2, .inl l2), (4, .inl l4)] := hl
  refine lv_goto (tgt := 69) C.1 C.2.1 dX11_looks_161 (by decide) ?_
  exact hk69 t0 l2 ((l3 + 1)) M1 _ _ _ _ _ h I (hl.sub [2, 1, 3, 0] rfl)
def w_X11_looks_139 (Q : MS → Prop) (k51 : Int32 → MS → Prop) (k59 : Int32 → Int32 → MS → Prop) (k69 : Int32 → Int32 → Int32 → MS → Prop) (l2 : Int32) (l3 : Int32) (l4 : Int32) (M : MS) : Prop := w_X11_looks_144 Q k51 k59 k69 l2 l3 l4 ((1 : Int32)) M
set_option maxHeartbeats 4000000 in
theorem b_X11_looks_139 {b0 z0 : Nat} {M0 : MS} {Q : MS → Prop} {k51 : Int32 → MS → Prop} {k59 : Int32 → Int32 → MS → Prop} {k69 : Int32 → Int32 → Int32 → MS → Prop} (C : Cx p s m meth c D T Z "EndingTownModel" cX11_looks 6 none) (hk51 : ∀ (l1 : Int32) (M : MS) (H : Heap) (locs : List Loc) (cells slots : Nat) (ls : Array Slot), k51 l1 M → HI (twd D T Z) (mG b0 z0 M0) s (rmX (twd D T Z) 4 98 (mG b0 z0 M0)) H locs cells slots (mG b0 z0 M) → LH ls 6 [(0, .inr (.inl (some b0))), (1, .inl l1)] → W p l e (rmX (twd D T Z) 4 98 (mG b0 z0 M0)) s m args below meth c H locs cells slots (MQX (twd D T Z) (mG b0 z0 M0) (mq b0 z0 (qV Q)) (fun _ _ => False) below s) (F0 m 51 ls [])) (hk59 : ∀ (l1 : Int32) (l2 : Int32) (M : MS) (H : Heap) (locs : List Loc) (cells slots : Nat) (ls : Array Slot), k59 l1 l2 M → HI (twd D T Z) (mG b0 z0 M0) s (rmX (twd D T Z) 4 98 (mG b0 z0 M0)) H locs cells slots (mG b0 z0 M) → LH ls 6 [(0, .inr (.inl (some b0))), (1, .inl l1), (2, .inl l2)] → W p l e (rmX (twd D T Z) 4 98 (mG b0 z0 M0)) s m args below meth c H locs cells slots (MQX (twd D T Z) (mG b0 z0 M0) (mq b0 z0 (qV Q)) (fun _ _ => False) below s) (F0 m 59 ls [])) (hk69 : ∀ (l1 : Int32) (l2 : Int32) (l3 : Int32) (M : MS) (H : Heap) (locs : List Loc) (cells slots : Nat) (ls : Array Slot), k69 l1 l2 l3 M → HI (twd D T Z) (mG b0 z0 M0) s (rmX (twd D T Z) 4 98 (mG b0 z0 M0)) H locs cells slots (mG b0 z0 M) → LH ls 6 [(0, .inr (.inl (some b0))), (1, .inl l1), (2, .inl l2), (3, .inl l3)] → W p l e (rmX (twd D T Z) 4 98 (mG b0 z0 M0)) s m args below meth c H locs cells slots (MQX (twd D T Z) (mG b0 z0 M0) (mq b0 z0 (qV Q)) (fun _ _ => False) below s) (F0 m 69 ls [])) : ∀ (l2 : Int32) (l3 : Int32) (l4 : Int32) (M : MS) (H : Heap) (locs : List Loc) (cells slots : Nat) (ls : Array Slot), w_X11_looks_139 Q k51 k59 k69 l2 l3 l4 M → HI (twd D T Z) (mG b0 z0 M0) s (rmX (twd D T Z) 4 98 (mG b0 z0 M0)) H locs cells slots (mG b0 z0 M) → LH ls 6 [(0, .inr (.inl (some b0))), (2, .inl l2), (3, .inl l3), (4, .inl l4)] → W p l e (rmX (twd D T Z) 4 98 (mG b0 z0 M0)) s m args below meth c H locs cells slots (MQX (twd D T Z) (mG b0 z0 M0) (mq b0 z0 (qV Q)) (fun _ _ => False) below s) (F0 m 139 ls []) := by
  intro l2 l3 l4 M H locs cells slots ls h I hl
  refine lv_iconst (v := 1) C.1 C.2.1 dX11_looks_139 (by decide) ?_
  refine lv_goto (tgt := 144) C.1 C.2.1 dX11_looks_140 (by decide) ?_
  exact b_X11_looks_144 C hk51 hk59 hk69 l2 l3 l4 ((1 : Int32)) M _ _ _ _ _ h I (hl.sub [0, 1, 2, 3] rfl)
def w_X11_looks_93 (Q : MS → Prop) (k51 : Int32 → MS → Prop) (k59 : Int32 → Int32 → MS → Prop) (k69 : Int32 → Int32 → Int32 → MS → Prop) : Nat → Int32 → Int32 → Int32 → Int32 → Int32 → MS → Prop
  | 0 => fun _ _ _ _ _ _ => False
  | f93 + 1 => fun l1 l2 l3 l4 l5 M => (((4 : Int32) ≤ l5) → (((¬ l1 = 0) → (w_X11_looks_139 Q k51 k59 k69 l2 l3 l4 M)) ∧ ((l1 = 0) → (vp_in ((((8 : Int32) * l2) + l3)) (mlen 64) ∧ ((l4 = mA M 64 ((((8 : Int32) * l2) + l3)).toNatClampNeg) → (w_X11_looks_144 Q k51 k59 k69 l2 l3 l4 ((0 : Int32)) M)) ∧ ((¬ l4 = mA M 64 ((((8 : Int32) * l2) + l3)).toNatClampNeg) → (w_X11_looks_139 Q k51 k59 k69 l2 l3 l4 M)))))) ∧ ((¬ (4 : Int32) ≤ l5) → (w_X11_eyesBy (fun r4 M3 => (w_X11_looks_93 Q k51 k59 k69 f93) l1 l2 l3 ((l4 ||| r4)) ((l5 + 1)) M3) l2 l3 ((0 : Int32)) l5 M))
set_option maxHeartbeats 4000000 in
theorem b_X11_looks_93 {b0 z0 : Nat} {M0 : MS} {Q : MS → Prop} {k51 : Int32 → MS → Prop} {k59 : Int32 → Int32 → MS → Prop} {k69 : Int32 → Int32 → Int32 → MS → Prop} (C : Cx p s m meth c D T Z "EndingTownModel" cX11_looks 6 none) (hk51 : ∀ (l1 : Int32) (M : MS) (H : Heap) (locs : List Loc) (cells slots : Nat) (ls : Array Slot), k51 l1 M → HI (twd D T Z) (mG b0 z0 M0) s (rmX (twd D T Z) 4 98 (mG b0 z0 M0)) H locs cells slots (mG b0 z0 M) → LH ls 6 [(0, .inr (.inl (some b0))), (1, .inl l1)] → W p l e (rmX (twd D T Z) 4 98 (mG b0 z0 M0)) s m args below meth c H locs cells slots (MQX (twd D T Z) (mG b0 z0 M0) (mq b0 z0 (qV Q)) (fun _ _ => False) below s) (F0 m 51 ls [])) (hk59 : ∀ (l1 : Int32) (l2 : Int32) (M : MS) (H : Heap) (locs : List Loc) (cells slots : Nat) (ls : Array Slot), k59 l1 l2 M → HI (twd D T Z) (mG b0 z0 M0) s (rmX (twd D T Z) 4 98 (mG b0 z0 M0)) H locs cells slots (mG b0 z0 M) → LH ls 6 [(0, .inr (.inl (some b0))), (1, .inl l1), (2, .inl l2)] → W p l e (rmX (twd D T Z) 4 98 (mG b0 z0 M0)) s m args below meth c H locs cells slots (MQX (twd D T Z) (mG b0 z0 M0) (mq b0 z0 (qV Q)) (fun _ _ => False) below s) (F0 m 59 ls [])) (hk69 : ∀ (l1 : Int32) (l2 : Int32) (l3 : Int32) (M : MS) (H : Heap) (locs : List Loc) (cells slots : Nat) (ls : Array Slot), k69 l1 l2 l3 M → HI (twd D T Z) (mG b0 z0 M0) s (rmX (twd D T Z) 4 98 (mG b0 z0 M0)) H locs cells slots (mG b0 z0 M) → LH ls 6 [(0, .inr (.inl (some b0))), (1, .inl l1), (2, .inl l2), (3, .inl l3)] → W p l e (rmX (twd D T Z) 4 98 (mG b0 z0 M0)) s m args below meth c H locs cells slots (MQX (twd D T Z) (mG b0 z0 M0) (mq b0 z0 (qV Q)) (fun _ _ => False) below s) (F0 m 69 ls [])) : ∀ (n : Nat) (l1 : Int32) (l2 : Int32) (l3 : Int32) (l4 : Int32) (l5 : Int32) (M : MS) (H : Heap) (locs : List Loc) (cells slots : Nat) (ls : Array Slot), w_X11_looks_93 Q k51 k59 k69 n l1 l2 l3 l4 l5 M → HI (twd D T Z) (mG b0 z0 M0) s (rmX (twd D T Z) 4 98 (mG b0 z0 M0)) H locs cells slots (mG b0 z0 M) → LH ls 6 [(0, .inr (.inl (some b0))), (1, .inl l1), (2, .inl l2), (3, .inl l3), (4, .inl l4), (5, .inl l5)] → W p l e (rmX (twd D T Z) 4 98 (mG b0 z0 M0)) s m args below meth c H locs cells slots (MQX (twd D T Z) (mG b0 z0 M0) (mq b0 z0 (qV Q)) (fun _ _ => False) below s) (F0 m 93 ls []) := by
  intro n
  induction n with
  | zero => intro l1 l2 l3 l4 l5 M H locs cells slots ls h; exact (show False from h).elim
  | succ n ih =>
    intro l1 l2 l3 l4 l5 M H locs cells slots ls h I hl
    have hk93 := ih
    refine l_ild C dX11_looks_93 hl 5 rfl ?_
    refine lv_iconst (v := 4) C.1 C.2.1 dX11_looks_95 (by decide) ?_
    refine lv_icmp_ge (tgt := 119) C.1 C.2.1 dX11_looks_96 (by decide) (fun c5 => ?_) (fun c5 => ?_)
    · have h := h.1 c5
      refine l_ild_n C dX11_looks_119 hl 1 rfl rfl ?_
      refine lv_if_ne (tgt := 139) C.1 C.2.1 dX11_looks_120 (by decide) (fun c2 => ?_) (fun c2 => ?_)
      · have h := h.1 c2
        exact b_X11_looks_139 C hk51 hk59 hk69 l2 l3 l4 M _ _ _ _ _ h I (hl.sub [0, 2, 3, 4] rfl)
      · have h := h.2 c2
        refine l_ild C dX11_looks_123 hl 4 rfl ?_
        refine l_ald_n (x := some b0) C dX11_looks_125 hl 0 rfl rfl ?_
        refine f_A C I (fl_X11_110) (by decide) (by decide) dX11_looks_126 ?_
        refine lv_bipush (v := 8) C.1 C.2.1 dX11_looks_129 (by decide) ?_
        refine l_ild_n C dX11_looks_131 hl 2 rfl rfl ?_
        refine lv_imul C.1 C.2.1 dX11_looks_132 ?_
        refine l_ild_n C dX11_looks_133 hl 3 rfl rfl ?_
        refine lv_iadd C.1 C.2.1 dX11_looks_134 ?_
        obtain ⟨hi, h⟩ := h
        refine f_ld (k := 64) C I (by decide) hi dX11_looks_135 ?_
        refine lv_icmp_eq (tgt := 143) C.1 C.2.1 dX11_looks_136 (by decide) (fun c1 => ?_) (fun c1 => ?_)
        · have h := h.1 c1
          refine lv_iconst (v := 0) C.1 C.2.1 dX11_looks_143 (by decide) ?_
          exact b_X11_looks_144 C hk51 hk59 hk69 l2 l3 l4 ((0 : Int32)) M _ _ _ _ _ h I (hl.sub [0, 2, 3, 4] rfl)
        · have h := h.2 c1
          exact b_X11_looks_139 C hk51 hk59 hk69 l2 l3 l4 M _ _ _ _ _ h I (hl.sub [0, 2, 3, 4] rfl)
    · have h := h.2 c5
      refine l_ild C dX11_looks_99 hl 4 rfl ?_
      refine l_ald_n (x := some b0) C dX11_looks_101 hl 0 rfl rfl ?_
      refine l_ild_n C dX11_looks_102 hl 2 rfl rfl ?_
      refine l_ild_n C dX11_looks_103 hl 3 rfl rfl ?_
      refine lv_iconst (v := 0) C.1 C.2.1 dX11_looks_104 (by decide) ?_
      refine l_ild C dX11_looks_105 hl 5 rfl ?_
      refine k_call Ext.tr C I (k_V (r := some b0) (As := [.int l2, .int l3, .int ((0 : Int32)), .int l5]) (rest := [.int l4]) (y := yX11_eyesBy) C (f_recv C I) q1837 q1839 qs90 (Or.inl rfl) q1840 (by decide) rfl pd_X11_eyesBy rfl dX11_looks_107) (ct_X11_eyesBy h) hl.1 dX11_looks_107 [.inl l4] rfl (Nat.le_of_ble_eq_true rfl) (Or.inl rfl) q1840 q113 ⟨Nat.le_of_ble_eq_true rfl, Nat.le_of_ble_eq_true rfl⟩ (fun v x1 H locs cells slots ex hq I => ?_) (fun a x1 H locs cells slots ex hq I => hq.elim)
      obtain ⟨M3, rfl, r4, rfl, h⟩ := hq
      refine lv_ior C.1 C.2.1 dX11_looks_110 ?_
      refine l_ist C dX11_looks_111 hl (by decide) rfl (fun ls hl => ?_)
      have hl : LH ls 6 [(4, .inl ((l4 ||| r4))), (0, .inr (.inl (some b0))), (1, .inl l1), (2, .inl l2), (3, .inl l3), (5, .inl l5)] := hl
      refine l_inc (q := 5) (v := 1) C dX11_looks_113 hl rfl (by decide) (by decide) rfl (fun ls hl => ?_)
      have hl : LH ls 6 [(5, .inl ((l5 + 1))), (4, .inl ((l4 ||| r4))), (0, .inr (.inl (some b0))), (1, .inl l1), (2, .inl l2), (3, .inl l3)] := hl
      refine lv_goto (tgt := 93) C.1 C.2.1 dX11_looks_116 (by decide) ?_
      exact hk93 l1 l2 l3 ((l4 ||| r4)) ((l5 + 1)) M3 _ _ _ _ _ h I (hl.sub [2, 3, 4, 5, 1, 0] rfl)
def w_X11_looks_69 (Q : MS → Prop) (k51 : Int32 → MS → Prop) (k59 : Int32 → Int32 → MS → Prop) : Nat → Int32 → Int32 → Int32 → MS → Prop
  | 0 => fun _ _ _ _ => False
  | f69 + 1 => fun l1 l2 l3 M => ((mF M 5 ≤ l3) → (k59 l1 ((l2 + 1)) M)) ∧ ((¬ mF M 5 ≤ l3) → (vp_in ((((8 : Int32) * l2) + l3)) (mlen 64) ∧ ∃ n, w_X11_looks_93 Q k51 k59 (w_X11_looks_69 Q k51 k59 f69) n l1 l2 l3 (mA M 64 ((((8 : Int32) * l2) + l3)).toNatClampNeg) ((0 : Int32)) M))
set_option maxHeartbeats 4000000 in
theorem b_X11_looks_69 {b0 z0 : Nat} {M0 : MS} {Q : MS → Prop} {k51 : Int32 → MS → Prop} {k59 : Int32 → Int32 → MS → Prop} (C : Cx p s m meth c D T Z "EndingTownModel" cX11_looks 6 none) (hk51 : ∀ (l1 : Int32) (M : MS) (H : Heap) (locs : List Loc) (cells slots : Nat) (ls : Array Slot), k51 l1 M → HI (twd D T Z) (mG b0 z0 M0) s (rmX (twd D T Z) 4 98 (mG b0 z0 M0)) H locs cells slots (mG b0 z0 M) → LH ls 6 [(0, .inr (.inl (some b0))), (1, .inl l1)] → W p l e (rmX (twd D T Z) 4 98 (mG b0 z0 M0)) s m args below meth c H locs cells slots (MQX (twd D T Z) (mG b0 z0 M0) (mq b0 z0 (qV Q)) (fun _ _ => False) below s) (F0 m 51 ls [])) (hk59 : ∀ (l1 : Int32) (l2 : Int32) (M : MS) (H : Heap) (locs : List Loc) (cells slots : Nat) (ls : Array Slot), k59 l1 l2 M → HI (twd D T Z) (mG b0 z0 M0) s (rmX (twd D T Z) 4 98 (mG b0 z0 M0)) H locs cells slots (mG b0 z0 M) → LH ls 6 [(0, .inr (.inl (some b0))), (1, .inl l1), (2, .inl l2)] → W p l e (rmX (twd D T Z) 4 98 (mG b0 z0 M0)) s m args below meth c H locs cells slots (MQX (twd D T Z) (mG b0 z0 M0) (mq b0 z0 (qV Q)) (fun _ _ => False) below s) (F0 m 59 ls [])) : ∀ (n : Nat) (l1 : Int32) (l2 : Int32) (l3 : Int32) (M : MS) (H : Heap) (locs : List Loc) (cells slots : Nat) (ls : Array Slot), w_X11_looks_69 Q k51 k59 n l1 l2 l3 M → HI (twd D T Z) (mG b0 z0 M0) s (rmX (twd D T Z) 4 98 (mG b0 z0 M0)) H locs cells slots (mG b0 z0 M) → LH ls 6 [(0, .inr (.inl (some b0))), (1, .inl l1), (2, .inl l2), (3, .inl l3)] → W p l e (rmX (twd D T Z) 4 98 (mG b0 z0 M0)) s m args below meth c H locs cells slots (MQX (twd D T Z) (mG b0 z0 M0) (mq b0 z0 (qV Q)) (fun _ _ => False) below s) (F0 m 69 ls []) := by
  intro n
  induction n with
  | zero => intro l1 l2 l3 M H locs cells slots ls h; exact (show False from h).elim
  | succ n ih =>
    intro l1 l2 l3 M H locs cells slots ls h I hl
    have hk69 := ih
    refine l_ild_n C dX11_looks_69 hl 3 rfl rfl ?_
    refine l_ald_n (x := some b0) C dX11_looks_70 hl 0 rfl rfl ?_
    refine f_I C I (fl_X11_269) (by decide) dX11_looks_71 ?_
    refine lv_icmp_ge (tgt := 164) C.1 C.2.1 dX11_looks_74 (by decide) (fun c1 => ?_) (fun c1 => ?_)
    · have h := h.1 c1
      refine l_inc (q := 2) (v := 1) C dX11_looks_164 hl rfl (by decide) (by decide) rfl (fun ls hl => ?_)
      have hl : LH ls 6 [(2, .inl ((l2 + 1))), (0, .inr (.inl (some b0))), (1, .inl l1), (3, .inl l3)] := hl
      refine lv_goto (tgt := 59) C.1 C.2.1 dX11_looks_167 (by decide) ?_
      exact hk59 l1 ((l2 + 1)) M _ _ _ _ _ h I (hl.sub [1, 2, 0] rfl)
    · have h := h.2 c1
      refine l_ald_n (x := some b0) C dX11_looks_77 hl 0 rfl rfl ?_
      refine f_A C I (fl_X11_110) (by decide) (by decide) dX11_looks_78 ?_
      refine lv_bipush (v := 8) C.1 C.2.1 dX11_looks_81 (by decide) ?_
      refine l_ild_n C dX11_looks_83 hl 2 rfl rfl ?_
      refine lv_imul C.1 C.2.1 dX11_looks_84 ?_
      refine l_ild_n C dX11_looks_85 hl 3 rfl rfl ?_
      refine lv_iadd C.1 C.2.1 dX11_looks_86 ?_
      obtain ⟨hi, h⟩ := h
      refine f_ld (k := 64) C I (by decide) hi dX11_looks_87 ?_
      refine l_ist C dX11_looks_88 hl (by decide) rfl (fun ls hl => ?_)
      have hl : LH ls 6 [(4, .inl (mA M 64 ((((8 : Int32) * l2) + l3)).toNatClampNeg)), (0, .inr (.inl (some b0))), (1, .inl l1), (2, .inl l2), (3, .inl l3)] := hl
      refine lv_iconst (v := 0) C.1 C.2.1 dX11_looks_90 (by decide) ?_
      refine l_ist C dX11_looks_91 hl (by decide) rfl (fun ls hl => ?_)
      have hl : LH ls 6 [(5, .inl ((0 : Int32))), (4, .inl (mA M 64 ((((8 : Int32) * l2) + l3)).toNatClampNeg)), (0, .inr (.inl (some b0))), (1, .inl l1), (2, .inl l2), (3, .inl l3)] := hl
      obtain ⟨n, h⟩ := h
      exact b_X11_looks_93 C hk51 hk59 hk69 n l1 l2 l3 (mA M 64 ((((8 : Int32) * l2) + l3)).toNatClampNeg) ((0 : Int32)) M _ _ _ _ _ h I (hl.sub [2, 3, 4, 5, 1, 0] rfl)
def w_X11_looks_258 (Q : MS → Prop) (k51 : Int32 → MS → Prop) (k172 : Int32 → Int32 → MS → Prop) (l1 : Int32) (l2 : Int32) (M : MS) : Prop := k172 l1 ((l2 + 1)) M
set_option maxHeartbeats 4000000 in
theorem b_X11_looks_258 {b0 z0 : Nat} {M0 : MS} {Q : MS → Prop} {k51 : Int32 → MS → Prop} {k172 : Int32 → Int32 → MS → Prop} (C : Cx p s m meth c D T Z "EndingTownModel" cX11_looks 6 none) (hk51 : ∀ (l1 : Int32) (M : MS) (H : Heap) (locs : List Loc) (cells slots : Nat) (ls : Array Slot), k51 l1 M → HI (twd D T Z) (mG b0 z0 M0) s (rmX (twd D T Z) 4 98 (mG b0 z0 M0)) H locs cells slots (mG b0 z0 M) → LH ls 6 [(0, .inr (.inl (some b0))), (1, .inl l1)] → W p l e (rmX (twd D T Z) 4 98 (mG b0 z0 M0)) s m args below meth c H locs cells slots (MQX (twd D T Z) (mG b0 z0 M0) (mq b0 z0 (qV Q)) (fun _ _ => False) below s) (F0 m 51 ls [])) (hk172 : ∀ (l1 : Int32) (l2 : Int32) (M : MS) (H : Heap) (locs : List Loc) (cells slots : Nat) (ls : Array Slot), k172 l1 l2 M → HI (twd D T Z) (mG b0 z0 M0) s (rmX (twd D T Z) 4 98 (mG b0 z0 M0)) H locs cells slots (mG b0 z0 M) → LH ls 6 [(0, .inr (.inl (some b0))), (1, .inl l1), (2, .inl l2)] → W p l e (rmX (twd D T Z) 4 98 (mG b0 z0 M0)) s m args below meth c H locs cells slots (MQX (twd D T Z) (mG b0 z0 M0) (mq b0 z0 (qV Q)) (fun _ _ => False) below s) (F0 m 172 ls [])) : ∀ (l1 : Int32) (l2 : Int32) (M : MS) (H : Heap) (locs : List Loc) (cells slots : Nat) (ls : Array Slot), w_X11_looks_258 Q k51 k172 l1 l2 M → HI (twd D T Z) (mG b0 z0 M0) s (rmX (twd D T Z) 4 98 (mG b0 z0 M0)) H locs cells slots (mG b0 z0 M) → LH ls 6 [(0, .inr (.inl (some b0))), (1, .inl l1), (2, .inl l2)] → W p l e (rmX (twd D T Z) 4 98 (mG b0 z0 M0)) s m args below meth c H locs cells slots (MQX (twd D T Z) (mG b0 z0 M0) (mq b0 z0 (qV Q)) (fun _ _ => False) below s) (F0 m 258 ls []) := by
  intro l1 l2 M H locs cells slots ls h I hl
  refine l_inc (q := 2) (v := 1) C dX11_looks_258 hl rfl (by decide) (by decide) rfl (fun ls hl => ?_)
  have hl : LH ls 6 [(2, .inl ((l2 + 1))), (0, .inr (.inl (some b0))), (1, .inl l1)] := hl
  refine lv_goto (tgt := 172) C.1 C.2.1 dX11_looks_261 (by decide) ?_
  exact hk172 l1 ((l2 + 1)) M _ _ _ _ _ h I (hl.sub [1, 2, 0] rfl)
def w_X11_looks_250 (Q : MS → Prop) (k51 : Int32 → MS → Prop) (k172 : Int32 → Int32 → MS → Prop) (l2 : Int32) (l3 : Int32) (t0 : Int32) (M : MS) : Prop := vp_in l2 (mlen 63) ∧ ∀ M1 : MS, M1 = sA M 63 l2.toNatClampNeg l3 → w_X11_looks_258 Q k51 k172 t0 l2 M1
set_option maxHeartbeats 4000000 in
theorem b_X11_looks_250 {b0 z0 : Nat} {M0 : MS} {Q : MS → Prop} {k51 : Int32 → MS → Prop} {k172 : Int32 → Int32 → MS → Prop} (C : Cx p s m meth c D T Z "EndingTownModel" cX11_looks 6 none) (hk51 : ∀ (l1 : Int32) (M : MS) (H : Heap) (locs : List Loc) (cells slots : Nat) (ls : Array Slot), k51 l1 M → HI (twd D T Z) (mG b0 z0 M0) s (rmX (twd D T Z) 4 98 (mG b0 z0 M0)) H locs cells slots (mG b0 z0 M) → LH ls 6 [(0, .inr (.inl (some b0))), (1, .inl l1)] → W p l e (rmX (twd D T Z) 4 98 (mG b0 z0 M0)) s m args below meth c H locs cells slots (MQX (twd D T Z) (mG b0 z0 M0) (mq b0 z0 (qV Q)) (fun _ _ => False) below s) (F0 m 51 ls [])) (hk172 : ∀ (l1 : Int32) (l2 : Int32) (M : MS) (H : Heap) (locs : List Loc) (cells slots : Nat) (ls : Array Slot), k172 l1 l2 M → HI (twd D T Z) (mG b0 z0 M0) s (rmX (twd D T Z) 4 98 (mG b0 z0 M0)) H locs cells slots (mG b0 z0 M) → LH ls 6 [(0, .inr (.inl (some b0))), (1, .inl l1), (2, .inl l2)] → W p l e (rmX (twd D T Z) 4 98 (mG b0 z0 M0)) s m args below meth c H locs cells slots (MQX (twd D T Z) (mG b0 z0 M0) (mq b0 z0 (qV Q)) (fun _ _ => False) below s) (F0 m 172 ls [])) : ∀ (l2 : Int32) (l3 : Int32) (t0 : Int32) (M : MS) (H : Heap) (locs : List Loc) (cells slots : Nat) (ls : Array Slot), w_X11_looks_250 Q k51 k172 l2 l3 t0 M → HI (twd D T Z) (mG b0 z0 M0) s (rmX (twd D T Z) 4 98 (mG b0 z0 M0)) H locs cells slots (mG b0 z0 M) → LH ls 6 [(0, .inr (.inl (some b0))), (2, .inl l2), (3, .inl l3)] → W p l e (rmX (twd D T Z) 4 98 (mG b0 z0 M0)) s m args below meth c H locs cells slots (MQX (twd D T Z) (mG b0 z0 M0) (mq b0 z0 (qV Q)) (fun _ _ => False) below s) (F0 m 250 ls [.int t0]) := by
  intro l2 l3 t0 M H locs cells slots ls h I hl
  refine l_ist_n C dX11_looks_250 rfl hl (by decide) rfl (fun ls hl => ?_)
  have hl : LH ls 6 [(1, .inl t0), (0, .inr (.inl (some b0))), (2, .inl l2), (3, .inl l3)] := hl
  refine l_ald_n (x := some b0) C dX11_looks_251 hl 1 rfl rfl ?_
  refine f_A C I (fl_X11_107) (by decide) (by decide) dX11_looks_252 ?_
  refine l_ild_n C dX11_looks_255 hl 2 rfl rfl ?_
  refine l_ild_n C dX11_looks_256 hl 3 rfl rfl ?_
  obtain ⟨hi, h⟩ := h
  refine f_st (k := 63) C I (by decide) hi dX11_looks_257 (fun H locs M1 eM1 I => ?_)
  have h := h M1 eM1
  exact b_X11_looks_258 C hk51 hk172 t0 l2 M1 _ _ _ _ _ h I (hl.sub [1, 0, 2] rfl)
def w_X11_looks_245 (Q : MS → Prop) (k51 : Int32 → MS → Prop) (k172 : Int32 → Int32 → MS → Prop) (l2 : Int32) (l3 : Int32) (M : MS) : Prop := w_X11_looks_250 Q k51 k172 l2 l3 ((1 : Int32)) M
set_option maxHeartbeats 4000000 in
theorem b_X11_looks_245 {b0 z0 : Nat} {M0 : MS} {Q : MS → Prop} {k51 : Int32 → MS → Prop} {k172 : Int32 → Int32 → MS → Prop} (C : Cx p s m meth c D T Z "EndingTownModel" cX11_looks 6 none) (hk51 : ∀ (l1 : Int32) (M : MS) (H : Heap) (locs : List Loc) (cells slots : Nat) (ls : Array Slot), k51 l1 M → HI (twd D T Z) (mG b0 z0 M0) s (rmX (twd D T Z) 4 98 (mG b0 z0 M0)) H locs cells slots (mG b0 z0 M) → LH ls 6 [(0, .inr (.inl (some b0))), (1, .inl l1)] → W p l e (rmX (twd D T Z) 4 98 (mG b0 z0 M0)) s m args below meth c H locs cells slots (MQX (twd D T Z) (mG b0 z0 M0) (mq b0 z0 (qV Q)) (fun _ _ => False) below s) (F0 m 51 ls [])) (hk172 : ∀ (l1 : Int32) (l2 : Int32) (M : MS) (H : Heap) (locs : List Loc) (cells slots : Nat) (ls : Array Slot), k172 l1 l2 M → HI (twd D T Z) (mG b0 z0 M0) s (rmX (twd D T Z) 4 98 (mG b0 z0 M0)) H locs cells slots (mG b0 z0 M) → LH ls 6 [(0, .inr (.inl (some b0))), (1, .inl l1), (2, .inl l2)] → W p l e (rmX (twd D T Z) 4 98 (mG b0 z0 M0)) s m args below meth c H locs cells slots (MQX (twd D T Z) (mG b0 z0 M0) (mq b0 z0 (qV Q)) (fun _ _ => False) below s) (F0 m 172 ls [])) : ∀ (l2 : Int32) (l3 : Int32) (M : MS) (H : Heap) (locs : List Loc) (cells slots : Nat) (ls : Array Slot), w_X11_looks_245 Q k51 k172 l2 l3 M → HI (twd D T Z) (mG b0 z0 M0) s (rmX (twd D T Z) 4 98 (mG b0 z0 M0)) H locs cells slots (mG b0 z0 M) → LH ls 6 [(0, .inr (.inl (some b0))), (2, .inl l2), (3, .inl l3)] → W p l e (rmX (twd D T Z) 4 98 (mG b0 z0 M0)) s m args below meth c H locs cells slots (MQX (twd D T Z) (mG b0 z0 M0) (mq b0 z0 (qV Q)) (fun _ _ => False) below s) (F0 m 245 ls []) := by
  intro l2 l3 M H locs cells slots ls h I hl
  refine lv_iconst (v := 1) C.1 C.2.1 dX11_looks_245 (by decide) ?_
  refine lv_goto (tgt := 250) C.1 C.2.1 dX11_looks_246 (by decide) ?_
  exact b_X11_looks_250 C hk51 hk172 l2 l3 ((1 : Int32)) M _ _ _ _ _ h I (hl.sub [0, 1, 2] rfl)
def w_X11_looks_172 (Q : MS → Prop) (k51 : Int32 → MS → Prop) : Nat → Int32 → Int32 → MS → Prop
  | 0 => fun _ _ _ => False
  | f172 + 1 => fun l1 l2 M => ((mF M 50 ≤ l2) → (k51 l1 M)) ∧ ((¬ mF M 50 ≤ l2) → (vp_in l2 (mlen 53) ∧ ((¬ mA M 53 l2.toNatClampNeg = (1000 : Int32)) → (vp_in l2 (mlen 63) ∧ vp_in l2 (mlen 57) ∧ w_X11_of (fun r2 M1 => w_X11_of (fun r4 M3 => w_X11_of (fun r6 M5 => w_X11_eyesBy (fun r8 M7 => ((¬ l1 = 0) → (w_X11_looks_245 Q k51 (w_X11_looks_172 Q k51 f172) l2 ((mA M 63 l2.toNatClampNeg ||| r8)) M7)) ∧ ((l1 = 0) → (vp_in l2 (mlen 63) ∧ (((mA M 63 l2.toNatClampNeg ||| r8) = mA M7 63 l2.toNatClampNeg) → (w_X11_looks_250 Q k51 (w_X11_looks_172 Q k51 f172) l2 ((mA M 63 l2.toNatClampNeg ||| r8)) ((0 : Int32)) M7)) ∧ ((¬ (mA M 63 l2.toNatClampNeg ||| r8) = mA M7 63 l2.toNatClampNeg) → (w_X11_looks_245 Q k51 (w_X11_looks_172 Q k51 f172) l2 ((mA M 63 l2.toNatClampNeg ||| r8)) M7))))) (mA M 57 l2.toNatClampNeg) r2 r4 r6 M5) l2 ((3 : Int32)) M3) l2 ((4 : Int32)) M1) l2 ((2 : Int32)) M)) ∧ ((mA M 53 l2.toNatClampNeg = (1000 : Int32)) → (w_X11_looks_258 Q k51 (w_X11_looks_172 Q k51 f172) l1 l2 M))))
set_option maxHeartbeats 4000000 in
theorem b_X11_looks_172 {b0 z0 : Nat} {M0 : MS} {Q : MS → Prop} {k51 : Int32 → MS → Prop} (C : Cx p s m meth c D T Z "EndingTownModel" cX11_looks 6 none) (hk51 : ∀ (l1 : Int32) (M : MS) (H : Heap) (locs : List Loc) (cells slots : Nat) (ls : Array Slot), k51 l1 M → HI (twd D T Z) (mG b0 z0 M0) s (rmX (twd D T Z) 4 98 (mG b0 z0 M0)) H locs cells slots (mG b0 z0 M) → LH ls 6 [(0, .inr (.inl (some b0))), (1, .inl l1)] → W p l e (rmX (twd D T Z) 4 98 (mG b0 z0 M0)) s m args below meth c H locs cells slots (MQX (twd D T Z) (mG b0 z0 M0) (mq b0 z0 (qV Q)) (fun _ _ => False) below s) (F0 m 51 ls [])) : ∀ (n : Nat) (l1 : Int32) (l2 : Int32) (M : MS) (H : Heap) (locs : List Loc) (cells slots : Nat) (ls : Array Slot), w_X11_looks_172 Q k51 n l1 l2 M → HI (twd D T Z) (mG b0 z0 M0) s (rmX (twd D T Z) 4 98 (mG b0 z0 M0)) H locs cells slots (mG b0 z0 M) → LH ls 6 [(0, .inr (.inl (some b0))), (1, .inl l1), (2, .inl l2)] → W p l e (rmX (twd D T Z) 4 98 (mG b0 z0 M0)) s m args below meth c H locs cells slots (MQX (twd D T Z) (mG b0 z0 M0) (mq b0 z0 (qV Q)) (fun _ _ => False) below s) (F0 m 172 ls []) := by
  intro n
  induction n with
  | zero => intro l1 l2 M H locs cells slots ls h; exact (show False from h).elim
  | succ n ih =>
    intro l1 l2 M H locs cells slots ls h I hl
    have hk172 := ih
    refine l_ild_n C dX11_looks_172 hl 2 rfl rfl ?_
    refine l_ald_n (x := some b0) C dX11_looks_173 hl 0 rfl rfl ?_
    refine f_I C I (fl_X11_279) (by decide) dX11_looks_174 ?_
    refine lv_icmp_ge (tgt := 264) C.1 C.2.1 dX11_looks_177 (by decide) (fun c12 => ?_) (fun c12 => ?_)
    · have h := h.1 c12
      refine lv_goto (tgt := 51) C.1 C.2.1 dX11_looks_264 (by decide) ?_
      exact hk51 l1 M _ _ _ _ _ h I (hl.sub [0, 1] rfl)
    · have h := h.2 c12
      refine l_ald_n (x := some b0) C dX11_looks_180 hl 0 rfl rfl ?_
      refine f_A C I (fl_X11_89) (by decide) (by decide) dX11_looks_181 ?_
      refine l_ild_n C dX11_looks_184 hl 2 rfl rfl ?_
      obtain ⟨hi, h⟩ := h
      refine f_ld (k := 53) C I (by decide) hi dX11_looks_185 ?_
      refine lv_sipush (v := 1000) C.1 C.2.1 dX11_looks_186 (by decide) ?_
      refine lv_icmp_ne (tgt := 195) C.1 C.2.1 dX11_looks_189 (by decide) (fun c11 => ?_) (fun c11 => ?_)
      · have h := h.1 c11
        refine l_ald_n (x := some b0) C dX11_looks_195 hl 0 rfl rfl ?_
        refine f_A C I (fl_X11_107) (by decide) (by decide) dX11_looks_196 ?_
        refine l_ild_n C dX11_looks_199 hl 2 rfl rfl ?_
        obtain ⟨hi, h⟩ := h
        refine f_ld (k := 63) C I (by decide) hi dX11_looks_200 ?_
        refine l_ald_n (x := some b0) C dX11_looks_201 hl 0 rfl rfl ?_
        refine l_ald_n (x := some b0) C dX11_looks_202 hl 0 rfl rfl ?_
        refine f_A C I (fl_X11_101) (by decide) (by decide) dX11_looks_203 ?_
        refine l_ild_n C dX11_looks_206 hl 2 rfl rfl ?_
        obtain ⟨hi, h⟩ := h
        refine f_ld (k := 57) C I (by decide) hi dX11_looks_207 ?_
        refine l_ald_n (x := some b0) C dX11_looks_208 hl 0 rfl rfl ?_
        refine l_ild_n C dX11_looks_209 hl 2 rfl rfl ?_
        refine lv_iconst (v := 2) C.1 C.2.1 dX11_looks_210 (by decide) ?_
        refine k_call Ext.tr C I (k_V (r := some b0) (As := [.int l2, .int ((2 : Int32))]) (rest := [.int (mA M 57 l2.toNatClampNeg), va_rf (some b0), .int (mA M 63 l2.toNatClampNeg)]) (y := yX11_of) C (f_recv C I) q1789 q1791 qs78 (Or.inl rfl) q1792 (by decide) rfl pd_X11_of rfl dX11_looks_211) (ct_X11_of h) hl.1 dX11_looks_211 [.inl (mA M 57 l2.toNatClampNeg), .inr (.inl (some b0)), .inl (mA M 63 l2.toNatClampNeg)] rfl (Nat.le_of_ble_eq_true rfl) (Or.inl rfl) q1792 q113 ⟨Nat.le_of_ble_eq_true rfl, Nat.le_of_ble_eq_true rfl⟩ (fun v x1 H locs cells slots ex hq I => ?_) (fun a x1 H locs cells slots ex hq I => hq.elim)
        obtain ⟨M1, rfl, r2, rfl, h⟩ := hq
        refine l_ald_n (x := some b0) C dX11_looks_214 hl 0 rfl rfl ?_
        refine l_ild_n C dX11_looks_215 hl 2 rfl rfl ?_
        refine lv_iconst (v := 4) C.1 C.2.1 dX11_looks_216 (by decide) ?_
        refine k_call Ext.tr C I (k_V (r := some b0) (As := [.int l2, .int ((4 : Int32))]) (rest := [.int r2, .int (mA M 57 l2.toNatClampNeg), va_rf (some b0), .int (mA M 63 l2.toNatClampNeg)]) (y := yX11_of) C (f_recv C I) q1789 q1791 qs78 (Or.inl rfl) q1792 (by decide) rfl pd_X11_of rfl dX11_looks_217) (ct_X11_of h) hl.1 dX11_looks_217 [.inl r2, .inl (mA M 57 l2.toNatClampNeg), .inr (.inl (some b0)), .inl (mA M 63 l2.toNatClampNeg)] rfl (Nat.le_of_ble_eq_true rfl) (Or.inl rfl) q1792 q113 ⟨Nat.le_of_ble_eq_true rfl, Nat.le_of_ble_eq_true rfl⟩ (fun v x1 H locs cells slots ex hq I => ?_) (fun a x1 H locs cells slots ex hq I => hq.elim)
        obtain ⟨M3, rfl, r4, rfl, h⟩ := hq
        refine l_ald_n (x := some b0) C dX11_looks_220 hl 0 rfl rfl ?_
        refine l_ild_n C dX11_looks_221 hl 2 rfl rfl ?_
        refine lv_iconst (v := 3) C.1 C.2.1 dX11_looks_222 (by decide) ?_
        refine k_call Ext.tr C I (k_V (r := some b0) (As := [.int l2, .int ((3 : Int32))]) (rest := [.int r4, .int r2, .int (mA M 57 l2.toNatClampNeg), va_rf (some b0), .int (mA M 63 l2.toNatClampNeg)]) (y := yX11_of) C (f_recv C I) q1789 q1791 qs78 (Or.inl rfl) q1792 (by decide) rfl pd_X11_of rfl dX11_looks_223) (ct_X11_of h) hl.1 dX11_looks_223 [.inl r4, .inl r2, .inl (mA M 57 l2.toNatClampNeg), .inr (.inl (some b0)), .inl (mA M 63 l2.toNatClampNeg)] rfl (Nat.le_of_ble_eq_true rfl) (Or.inl rfl) q1792 q113 ⟨Nat.le_of_ble_eq_true rfl, Nat.le_of_ble_eq_true rfl⟩ (fun v x1 H locs cells slots ex hq I => ?_) (fun a x1 H locs cells slots ex hq I => hq.elim)
        obtain ⟨M5, rfl, r6, rfl, h⟩ := hq
        refine k_call Ext.tr C I (k_V (r := some b0) (As := [.int (mA M 57 l2.toNatClampNeg), .int r2, .int r4, .int r6]) (rest := [.int (mA M 63 l2.toNatClampNeg)]) (y := yX11_eyesBy) C (f_recv C I) q1837 q1839 qs90 (Or.inl rfl) q1840 (by decide) rfl pd_X11_eyesBy rfl dX11_looks_226) (ct_X11_eyesBy h) hl.1 dX11_looks_226 [.inl (mA M 63 l2.toNatClampNeg)] rfl (Nat.le_of_ble_eq_true rfl) (Or.inl rfl) q1840 q113 ⟨Nat.le_of_ble_eq_true rfl, Nat.le_of_ble_eq_true rfl⟩ (fun v x1 H locs cells slots ex hq I => ?_) (fun a x1 H locs cells slots ex hq I => hq.elim)
        obtain ⟨M7, rfl, r8, rfl, h⟩ := hq
        refine lv_ior C.1 C.2.1 dX11_looks_229 ?_
        refine l_ist_n C dX11_looks_230 rfl hl (by decide) rfl (fun ls hl => ?_)
        have hl : LH ls 6 [(3, .inl ((mA M 63 l2.toNatClampNeg ||| r8))), (0, .inr (.inl (some b0))), (1, .inl l1), (2, .inl l2)] := hl
        refine l_ild_n C dX11_looks_231 hl 2 rfl rfl ?_
        refine lv_if_ne (tgt := 245) C.1 C.2.1 dX11_looks_232 (by decide) (fun c10 => ?_) (fun c10 => ?_)
        · have h := h.1 c10
          exact b_X11_looks_245 C hk51 hk172 l2 ((mA M 63 l2.toNatClampNeg ||| r8)) M7 _ _ _ _ _ h I (hl.sub [1, 3, 0] rfl)
        · have h := h.2 c10
          refine l_ild_n C dX11_looks_235 hl 0 rfl rfl ?_
          refine l_ald_n (x := some b0) C dX11_looks_236 hl 1 rfl rfl ?_
          refine f_A C I (fl_X11_107) (by decide) (by decide) dX11_looks_237 ?_
          refine l_ild_n C dX11_looks_240 hl 3 rfl rfl ?_
          obtain ⟨hi, h⟩ := h
          refine f_ld (k := 63) C I (by decide) hi dX11_looks_241 ?_
          refine lv_icmp_eq (tgt := 249) C.1 C.2.1 dX11_looks_242 (by decide) (fun c9 => ?_) (fun c9 => ?_)
          · have h := h.1 c9
            refine lv_iconst (v := 0) C.1 C.2.1 dX11_looks_249 (by decide) ?_
            exact b_X11_looks_250 C hk51 hk172 l2 ((mA M 63 l2.toNatClampNeg ||| r8)) ((0 : Int32)) M7 _ _ _ _ _ h I (hl.sub [1, 3, 0] rfl)
          · have h := h.2 c9
            exact b_X11_looks_245 C hk51 hk172 l2 ((mA M 63 l2.toNatClampNeg ||| r8)) M7 _ _ _ _ _ h I (hl.sub [1, 3, 0] rfl)
      · have h := h.2 c11
        refine lv_goto (tgt := 258) C.1 C.2.1 dX11_looks_192 (by decide) ?_
        exact b_X11_looks_258 C hk51 hk172 l1 l2 M _ _ _ _ _ h I (hl.sub [0, 1, 2] rfl)
def w_X11_looks_59 (Q : MS → Prop) (k51 : Int32 → MS → Prop) : Nat → Int32 → Int32 → MS → Prop
  | 0 => fun _ _ _ => False
  | f59 + 1 => fun l1 l2 M => ((mF M 59 ≤ l2) → (∃ n, w_X11_looks_172 Q k51 n l1 ((0 : Int32)) M)) ∧ ((¬ mF M 59 ≤ l2) → (∃ n, w_X11_looks_69 Q k51 (w_X11_looks_59 Q k51 f59) n l1 l2 ((0 : Int32)) M))
set_option maxHeartbeats 4000000 in
theorem b_X11_looks_59 {b0 z0 : Nat} {M0 : MS} {Q : MS → Prop} {k51 : Int32 → MS → Prop} (C : Cx p s m meth c D T Z "EndingTownModel" cX11_looks 6 none) (hk51 : ∀ (l1 : Int32) (M : MS) (H : Heap) (locs : List Loc) (cells slots : Nat) (ls : Array Slot), k51 l1 M → HI (twd D T Z) (mG b0 z0 M0) s (rmX (twd D T Z) 4 98 (mG b0 z0 M0)) H locs cells slots (mG b0 z0 M) → LH ls 6 [(0, .inr (.inl (some b0))), (1, .inl l1)] → W p l e (rmX (twd D T Z) 4 98 (mG b0 z0 M0)) s m args below meth c H locs cells slots (MQX (twd D T Z) (mG b0 z0 M0) (mq b0 z0 (qV Q)) (fun _ _ => False) below s) (F0 m 51 ls [])) : ∀ (n : Nat) (l1 : Int32) (l2 : Int32) (M : MS) (H : Heap) (locs : List Loc) (cells slots : Nat) (ls : Array Slot), w_X11_looks_59 Q k51 n l1 l2 M → HI (twd D T Z) (mG b0 z0 M0) s (rmX (twd D T Z) 4 98 (mG b0 z0 M0)) H locs cells slots (mG b0 z0 M) → LH ls 6 [(0, .inr (.inl (some b0))), (1, .inl l1), (2, .inl l2)] → W p l e (rmX (twd D T Z) 4 98 (mG b0 z0 M0)) s m args below meth c H locs cells slots (MQX (twd D T Z) (mG b0 z0 M0) (mq b0 z0 (qV Q)) (fun _ _ => False) below s) (F0 m 59 ls []) := by
  intro n
  induction n with
  | zero => intro l1 l2 M H locs cells slots ls h; exact (show False from h).elim
  | succ n ih =>
    intro l1 l2 M H locs cells slots ls h I hl
    have hk59 := ih
    refine l_ild_n C dX11_looks_59 hl 2 rfl rfl ?_
    refine l_ald_n (x := some b0) C dX11_looks_60 hl 0 rfl rfl ?_
    refine f_I C I (fl_X11_343) (by decide) dX11_looks_61 ?_
    refine lv_icmp_ge (tgt := 170) C.1 C.2.1 dX11_looks_64 (by decide) (fun c1 => ?_) (fun c1 => ?_)
    · have h := h.1 c1
      refine lv_iconst (v := 0) C.1 C.2.1 dX11_looks_170 (by decide) ?_
      refine l_ist_n C dX11_looks_171 rfl hl (by decide) rfl (fun ls hl => ?_)
      have hl : LH ls 6 [(2, .inl ((0 : Int32))), (0, .inr (.inl (some b0))), (1, .inl l1)] := hl
      obtain ⟨n, h⟩ := h
      exact b_X11_looks_172 C hk51 n l1 ((0 : Int32)) M _ _ _ _ _ h I (hl.sub [1, 2, 0] rfl)
    · have h := h.2 c1
      refine lv_iconst (v := 0) C.1 C.2.1 dX11_looks_67 (by decide) ?_
      refine l_ist_n C dX11_looks_68 rfl hl (by decide) rfl (fun ls hl => ?_)
      have hl : LH ls 6 [(3, .inl ((0 : Int32))), (0, .inr (.inl (some b0))), (1, .inl l1), (2, .inl l2)] := hl
      obtain ⟨n, h⟩ := h
      exact b_X11_looks_69 C hk51 hk59 n l1 l2 ((0 : Int32)) M _ _ _ _ _ h I (hl.sub [1, 2, 3, 0] rfl)
def w_X11_looks_51 (Q : MS → Prop) : Nat → Int32 → MS → Prop
  | 0 => fun _ _ => False
  | f51 + 1 => fun l1 M => ((l1 = 0) → (Q M)) ∧ ((¬ l1 = 0) → (∃ n, w_X11_looks_59 Q (w_X11_looks_51 Q f51) n ((0 : Int32)) ((0 : Int32)) M))
set_option maxHeartbeats 4000000 in
theorem b_X11_looks_51 {b0 z0 : Nat} {M0 : MS} {Q : MS → Prop} (C : Cx p s m meth c D T Z "EndingTownModel" cX11_looks 6 none) : ∀ (n : Nat) (l1 : Int32) (M : MS) (H : Heap) (locs : List Loc) (cells slots : Nat) (ls : Array Slot), w_X11_looks_51 Q n l1 M → HI (twd D T Z) (mG b0 z0 M0) s (rmX (twd D T Z) 4 98 (mG b0 z0 M0)) H locs cells slots (mG b0 z0 M) → LH ls 6 [(0, .inr (.inl (some b0))), (1, .inl l1)] → W p l e (rmX (twd D T Z) 4 98 (mG b0 z0 M0)) s m args below meth c H locs cells slots (MQX (twd D T Z) (mG b0 z0 M0) (mq b0 z0 (qV Q)) (fun _ _ => False) below s) (F0 m 51 ls []) := by
  intro n
  induction n with
  | zero => intro l1 M H locs cells slots ls h; exact (show False from h).elim
  | succ n ih =>
    intro l1 M H locs cells slots ls h I hl
    have hk51 := ih
    refine l_ild_n C dX11_looks_51 hl 1 rfl rfl ?_
    refine lv_if_eq (tgt := 267) C.1 C.2.1 dX11_looks_52 (by decide) (fun c1 => ?_) (fun c1 => ?_)
    · have h := h.1 c1
      exact r_void C.1 C.2.1 C.2.2.2.2.2.1 C.2.2.2.2.2.2 ⟨rfl, rfl⟩ I dX11_looks_267 ⟨_, rfl, rfl, h⟩
    · have h := h.2 c1
      refine lv_iconst (v := 0) C.1 C.2.1 dX11_looks_55 (by decide) ?_
      refine l_ist_n C dX11_looks_56 rfl hl (by decide) rfl (fun ls hl => ?_)
      have hl : LH ls 6 [(1, .inl ((0 : Int32))), (0, .inr (.inl (some b0)))] := hl
      refine lv_iconst (v := 0) C.1 C.2.1 dX11_looks_57 (by decide) ?_
      refine l_ist_n C dX11_looks_58 rfl hl (by decide) rfl (fun ls hl => ?_)
      have hl : LH ls 6 [(2, .inl ((0 : Int32))), (1, .inl ((0 : Int32))), (0, .inr (.inl (some b0)))] := hl
      obtain ⟨n, h⟩ := h
      exact b_X11_looks_59 C hk51 n ((0 : Int32)) ((0 : Int32)) M _ _ _ _ _ h I (hl.sub [2, 1, 0] rfl)
def w_X11_looks_25 (Q : MS → Prop) : Nat → Int32 → MS → Prop
  | 0 => fun _ _ => False
  | f25 + 1 => fun l1 M => ((((8 : Int32) * mF M 59) ≤ l1) → (∃ n, w_X11_looks_51 Q n ((1 : Int32)) M)) ∧ ((¬ ((8 : Int32) * mF M 59) ≤ l1) → (vp_in l1 (mlen 64) ∧ ∀ M1 : MS, M1 = sA M 64 l1.toNatClampNeg ((0 : Int32)) → (w_X11_looks_25 Q f25) ((l1 + 1)) M1))
set_option maxHeartbeats 4000000 in
theorem b_X11_looks_25 {b0 z0 : Nat} {M0 : MS} {Q : MS → Prop} (C : Cx p s m meth c D T Z "EndingTownModel" cX11_looks 6 none) : ∀ (n : Nat) (l1 : Int32) (M : MS) (H : Heap) (locs : List Loc) (cells slots : Nat) (ls : Array Slot), w_X11_looks_25 Q n l1 M → HI (twd D T Z) (mG b0 z0 M0) s (rmX (twd D T Z) 4 98 (mG b0 z0 M0)) H locs cells slots (mG b0 z0 M) → LH ls 6 [(0, .inr (.inl (some b0))), (1, .inl l1)] → W p l e (rmX (twd D T Z) 4 98 (mG b0 z0 M0)) s m args below meth c H locs cells slots (MQX (twd D T Z) (mG b0 z0 M0) (mq b0 z0 (qV Q)) (fun _ _ => False) below s) (F0 m 25 ls []) := by
  intro n
  induction n with
  | zero => intro l1 M H locs cells slots ls h; exact (show False from h).elim
  | succ n ih =>
    intro l1 M H locs cells slots ls h I hl
    have hk25 := ih
    refine l_ild_n C dX11_looks_25 hl 1 rfl rfl ?_
    refine lv_bipush (v := 8) C.1 C.2.1 dX11_looks_26 (by decide) ?_
    refine l_ald_n (x := some b0) C dX11_looks_28 hl 0 rfl rfl ?_
    refine f_I C I (fl_X11_343) (by decide) dX11_looks_29 ?_
    refine lv_imul C.1 C.2.1 dX11_looks_32 ?_
    refine lv_icmp_ge (tgt := 49) C.1 C.2.1 dX11_looks_33 (by decide) (fun c2 => ?_) (fun c2 => ?_)
    · have h := h.1 c2
      refine lv_iconst (v := 1) C.1 C.2.1 dX11_looks_49 (by decide) ?_
      refine l_ist_n C dX11_looks_50 rfl hl (by decide) rfl (fun ls hl => ?_)
      have hl : LH ls 6 [(1, .inl ((1 : Int32))), (0, .inr (.inl (some b0)))] := hl
      obtain ⟨n, h⟩ := h
      exact b_X11_looks_51 C n ((1 : Int32)) M _ _ _ _ _ h I (hl.sub [1, 0] rfl)
    · have h := h.2 c2
      refine l_ald_n (x := some b0) C dX11_looks_36 hl 0 rfl rfl ?_
      refine f_A C I (fl_X11_110) (by decide) (by decide) dX11_looks_37 ?_
      refine l_ild_n C dX11_looks_40 hl 1 rfl rfl ?_
      refine lv_iconst (v := 0) C.1 C.2.1 dX11_looks_41 (by decide) ?_
      obtain ⟨hi, h⟩ := h
      refine f_st (k := 64) C I (by decide) hi dX11_looks_42 (fun H locs M1 eM1 I => ?_)
      have h := h M1 eM1
      refine l_inc (q := 1) (v := 1) C dX11_looks_43 hl rfl (by decide) (by decide) rfl (fun ls hl => ?_)
      have hl : LH ls 6 [(1, .inl ((l1 + 1))), (0, .inr (.inl (some b0)))] := hl
      refine lv_goto (tgt := 25) C.1 C.2.1 dX11_looks_46 (by decide) ?_
      exact hk25 ((l1 + 1)) M1 _ _ _ _ _ h I (hl.sub [1, 0] rfl)
def w_X11_looks_2 (Q : MS → Prop) : Nat → Int32 → MS → Prop
  | 0 => fun _ _ => False
  | f2 + 1 => fun l1 M => ((mF M 50 ≤ l1) → (∃ n, w_X11_looks_25 Q n ((0 : Int32)) M)) ∧ ((¬ mF M 50 ≤ l1) → (vp_in l1 (mlen 63) ∧ ∀ M1 : MS, M1 = sA M 63 l1.toNatClampNeg ((0 : Int32)) → (w_X11_looks_2 Q f2) ((l1 + 1)) M1))
set_option maxHeartbeats 4000000 in
theorem b_X11_looks_2 {b0 z0 : Nat} {M0 : MS} {Q : MS → Prop} (C : Cx p s m meth c D T Z "EndingTownModel" cX11_looks 6 none) : ∀ (n : Nat) (l1 : Int32) (M : MS) (H : Heap) (locs : List Loc) (cells slots : Nat) (ls : Array Slot), w_X11_looks_2 Q n l1 M → HI (twd D T Z) (mG b0 z0 M0) s (rmX (twd D T Z) 4 98 (mG b0 z0 M0)) H locs cells slots (mG b0 z0 M) → LH ls 6 [(0, .inr (.inl (some b0))), (1, .inl l1)] → W p l e (rmX (twd D T Z) 4 98 (mG b0 z0 M0)) s m args below meth c H locs cells slots (MQX (twd D T Z) (mG b0 z0 M0) (mq b0 z0 (qV Q)) (fun _ _ => False) below s) (F0 m 2 ls []) := by
  intro n
  induction n with
  | zero => intro l1 M H locs cells slots ls h; exact (show False from h).elim
  | succ n ih =>
    intro l1 M H locs cells slots ls h I hl
    have hk2 := ih
    refine l_ild_n C dX11_looks_2 hl 1 rfl rfl ?_
    refine l_ald_n (x := some b0) C dX11_looks_3 hl 0 rfl rfl ?_
    refine f_I C I (fl_X11_279) (by decide) dX11_looks_4 ?_
    refine lv_icmp_ge (tgt := 23) C.1 C.2.1 dX11_looks_7 (by decide) (fun c2 => ?_) (fun c2 => ?_)
    · have h := h.1 c2
      refine lv_iconst (v := 0) C.1 C.2.1 dX11_looks_23 (by decide) ?_
      refine l_ist_n C dX11_looks_24 rfl hl (by decide) rfl (fun ls hl => ?_)
      have hl : LH ls 6 [(1, .inl ((0 : Int32))), (0, .inr (.inl (some b0)))] := hl
      obtain ⟨n, h⟩ := h
      exact b_X11_looks_25 C n ((0 : Int32)) M _ _ _ _ _ h I (hl.sub [1, 0] rfl)
    · have h := h.2 c2
      refine l_ald_n (x := some b0) C dX11_looks_10 hl 0 rfl rfl ?_
      refine f_A C I (fl_X11_107) (by decide) (by decide) dX11_looks_11 ?_
      refine l_ild_n C dX11_looks_14 hl 1 rfl rfl ?_
      refine lv_iconst (v := 0) C.1 C.2.1 dX11_looks_15 (by decide) ?_
      obtain ⟨hi, h⟩ := h
      refine f_st (k := 63) C I (by decide) hi dX11_looks_16 (fun H locs M1 eM1 I => ?_)
      have h := h M1 eM1
      refine l_inc (q := 1) (v := 1) C dX11_looks_17 hl rfl (by decide) (by decide) rfl (fun ls hl => ?_)
      have hl : LH ls 6 [(1, .inl ((l1 + 1))), (0, .inr (.inl (some b0)))] := hl
      refine lv_goto (tgt := 2) C.1 C.2.1 dX11_looks_20 (by decide) ?_
      exact hk2 ((l1 + 1)) M1 _ _ _ _ _ h I (hl.sub [1, 0] rfl)
def w_X11_looks (Q : MS → Prop) (M : MS) : Prop := ∃ n, w_X11_looks_2 Q n ((0 : Int32)) M
theorem pd_X11_looks : (parseMethodDescriptor yX11_looks.desc).map (fun d => d.parameters.length) = some 0 := by decide +kernel
set_option maxHeartbeats 4000000 in
theorem ct_X11_looks {l : Launch} {D : va_G} {T : Nat → ClassId} {Z : Heap} {b0 z0 : Nat} {M0 : MS} {Q : MS → Prop} (hw : w_X11_looks Q M0) : CT (twd D T Z) (Evd D T Z) l yX11_looks (Cond.code yX11_looks cX11_looks 6 none) 4 98 [va_rf (some b0)] (mG b0 z0 M0) (mq b0 z0 (qV Q)) (fun _ _ => False) := by
  refine CT.ofW (cc := cX11_looks) (nL := 6) (ret := none) Ext.rf (by decide) (Or.inl rfl) ?_
  intro p e s m below meth c hx hb hml hown hr hlk hnm hcb hm hc hn hE I
  have C : Cx p s m meth c D T Z "EndingTownModel" cX11_looks 6 none := ⟨hx, hb, hml, hown, hE, hr, hlk⟩
  refine w_entry [.inr (.inl (some b0))] (Nat.le_of_ble_eq_true rfl) (fun ls hl => ?_)
  have hl : LH ls 6 [(0, .inr (.inl (some b0)))] := hl
  have h := hw
  refine lv_iconst (v := 0) C.1 C.2.1 dX11_looks_0 (by decide) ?_
  refine l_ist_n C dX11_looks_1 rfl hl (by decide) rfl (fun ls hl => ?_)
  have hl : LH ls 6 [(1, .inl ((0 : Int32))), (0, .inr (.inl (some b0)))] := hl
  obtain ⟨n, h⟩ := h
  exact b_X11_looks_2 C n ((0 : Int32)) M0 _ _ _ _ _ h I (hl.sub [1, 0] rfl)
def w_X11_byRules_94 (Q : Int32 → MS → Prop) (k7 : Int32 → Int32 → Int32 → Int32 → MS → Prop) (k40 : Int32 → Int32 → Int32 → Int32 → Int32 → Int32 → MS → Prop) (l1 : Int32) (l2 : Int32) (l3 : Int32) (l4 : Int32) (l6 : Int32) (t0 : Int32) (M : MS) : Prop := k40 l1 l2 l3 l4 t0 ((l6 + 1)) M
set_option maxHeartbeats 4000000 in
theorem b_X11_byRules_94 {b0 z0 : Nat} {M0 : MS} {Q : Int32 → MS → Prop} {k7 : Int32 → Int32 → Int32 → Int32 → MS → Prop} {k40 : Int32 → Int32 → Int32 → Int32 → Int32 → Int32 → MS → Prop} (C : Cx p s m meth c D T Z "EndingTownModel" cX11_byRules 8 (some .int)) (hk7 : ∀ (l1 : Int32) (l2 : Int32) (l3 : Int32) (l4 : Int32) (M : MS) (H : Heap) (locs : List Loc) (cells slots : Nat) (ls : Array Slot), k7 l1 l2 l3 l4 M → HI (twd D T Z) (mG b0 z0 M0) s (rmX (twd D T Z) 0 0 (mG b0 z0 M0)) H locs cells slots (mG b0 z0 M) → LH ls 8 [(0, .inr (.inl (some b0))), (1, .inl l1), (2, .inl l2), (3, .inl l3), (4, .inl l4)] → W p l e (rmX (twd D T Z) 0 0 (mG b0 z0 M0)) s m args below meth c H locs cells slots (MQX (twd D T Z) (mG b0 z0 M0) (mq b0 z0 (qI Q)) (fun _ _ => False) below s) (F0 m 7 ls [])) (hk40 : ∀ (l1 : Int32) (l2 : Int32) (l3 : Int32) (l4 : Int32) (l5 : Int32) (l6 : Int32) (M : MS) (H : Heap) (locs : List Loc) (cells slots : Nat) (ls : Array Slot), k40 l1 l2 l3 l4 l5 l6 M → HI (twd D T Z) (mG b0 z0 M0) s (rmX (twd D T Z) 0 0 (mG b0 z0 M0)) H locs cells slots (mG b0 z0 M) → LH ls 8 [(0, .inr (.inl (some b0))), (1, .inl l1), (2, .inl l2), (3, .inl l3), (4, .inl l4), (5, .inl l5), (6, .inl l6)] → W p l e (rmX (twd D T Z) 0 0 (mG b0 z0 M0)) s m args below meth c H locs cells slots (MQX (twd D T Z) (mG b0 z0 M0) (mq b0 z0 (qI Q)) (fun _ _ => False) below s) (F0 m 40 ls [])) : ∀ (l1 : Int32) (l2 : Int32) (l3 : Int32) (l4 : Int32) (l6 : Int32) (t0 : Int32) (M : MS) (H : Heap) (locs : List Loc) (cells slots : Nat) (ls : Array Slot), w_X11_byRules_94 Q k7 k40 l1 l2 l3 l4 l6 t0 M → HI (twd D T Z) (mG b0 z0 M0) s (rmX (twd D T Z) 0 0 (mG b0 z0 M0)) H locs cells slots (mG b0 z0 M) → LH ls 8 [(0, .inr (.inl (some b0))), (1, .inl l1), (2, .inl l2), (3, .inl l3), (4, .inl l4), (6, .inl l6)] → W p l e (rmX (twd D T Z) 0 0 (mG b0 z0 M0)) s m args below meth c H locs cells slots (MQX (twd D T Z) (mG b0 z0 M0) (mq b0 z0 (qI Q)) (fun _ _ => False) below s) (F0 m 94 ls [.int t0]) := by
  intro l1 l2 l3 l4 l6 t0 M H locs cells slots ls h I hl
  refine l_ist C dX11_byRules_94 hl (by decide) rfl (fun ls hl => ?_)
  have hl : LH ls 8 [(5, .inl t0), (0, .inr (.inl (some b0))), (1, .inl l1), (2, .inl l2), (3, .inl l3), (4, .inl l4), (6, .inl l6)] := hl
  refine l_inc (q := 6) (v := 1) C dX11_byRules_96 hl rfl (by decide) (by decide) rfl (fun ls hl => ?_)
  have hl : LH ls 8 [(6, .inl ((l6 + 1))), (5, .inl t0), (0, .inr (.inl (some b0))), (1, .inl l1), (2, .inl l2), (3, .inl l3), (4, .inl l4)] := hl
  refine lv_goto (tgt := 40) C.1 C.2.1 dX11_byRules_99 (by decide) ?_
  exact hk40 l1 l2 l3 l4 t0 ((l6 + 1)) M _ _ _ _ _ h I (hl.sub [2, 3, 4, 5, 6, 1, 0] rfl)
def w_X11_byRules_119 (Q : Int32 → MS → Prop) (k7 : Int32 → Int32 → Int32 → Int32 → MS → Prop) (l1 : Int32) (l2 : Int32) (l3 : Int32) (l4 : Int32) (M : MS) : Prop := k7 l1 l2 l3 ((l4 + 1)) M
set_option maxHeartbeats 4000000 in
theorem b_X11_byRules_119 {b0 z0 : Nat} {M0 : MS} {Q : Int32 → MS → Prop} {k7 : Int32 → Int32 → Int32 → Int32 → MS → Prop} (C : Cx p s m meth c D T Z "EndingTownModel" cX11_byRules 8 (some .int)) (hk7 : ∀ (l1 : Int32) (l2 : Int32) (l3 : Int32) (l4 : Int32) (M : MS) (H : Heap) (locs : List Loc) (cells slots : Nat) (ls : Array Slot), k7 l1 l2 l3 l4 M → HI (twd D T Z) (mG b0 z0 M0) s (rmX (twd D T Z) 0 0 (mG b0 z0 M0)) H locs cells slots (mG b0 z0 M) → LH ls 8 [(0, .inr (.inl (some b0))), (1, .inl l1), (2, .inl l2), (3, .inl l3), (4, .inl l4)] → W p l e (rmX (twd D T Z) 0 0 (mG b0 z0 M0)) s m args below meth c H locs cells slots (MQX (twd D T Z) (mG b0 z0 M0) (mq b0 z0 (qI Q)) (fun _ _ => False) below s) (F0 m 7 ls [])) : ∀ (l1 : Int32) (l2 : Int32) (l3 : Int32) (l4 : Int32) (M : MS) (H : Heap) (locs : List Loc) (cells slots : Nat) (ls : Array Slot), w_X11_byRules_119 Q k7 l1 l2 l3 l4 M → HI (twd D T Z) (mG b0 z0 M0) s (rmX (twd D T Z) 0 0 (mG b0 z0 M0)) H locs cells slots (mG b0 z0 M) → LH ls 8 [(0, .inr (.inl (some b0))), (1, .inl l1), (2, .inl l2), (3, .inl l3), (4, .inl l4)] → W p l e (rmX (twd D T Z) 0 0 (mG b0 z0 M0)) s m args below meth c H locs cells slots (MQX (twd D T Z) (mG b0 z0 M0) (mq b0 z0 (qI Q)) (fun _ _ => False) below s) (F0 m 119 ls []) := by
  intro l1 l2 l3 l4 M H locs cells slots ls h I hl
  refine l_inc (q := 4) (v := 1) C dX11_byRules_119 hl rfl (by decide) (by decide) rfl (fun ls hl => ?_)
  have hl : LH ls 8 [(4, .inl ((l4 + 1))), (0, .inr (.inl (some b0))), (1, .inl l1), (2, .inl l2), (3, .inl l3)] := hl
  refine lv_goto (tgt := 7) C.1 C.2.1 dX11_byRules_122 (by decide) ?_
  exact hk7 l1 l2 l3 ((l4 + 1)) M _ _ _ _ _ h I (hl.sub [1, 2, 3, 4, 0] rfl)
def w_X11_byRules_118 (Q : Int32 → MS → Prop) (k7 : Int32 → Int32 → Int32 → Int32 → MS → Prop) (l1 : Int32) (l2 : Int32) (l4 : Int32) (t0 : Int32) (M : MS) : Prop := w_X11_byRules_119 Q k7 l1 l2 t0 l4 M
set_option maxHeartbeats 4000000 in
theorem b_X11_byRules_118 {b0 z0 : Nat} {M0 : MS} {Q : Int32 → MS → Prop} {k7 : Int32 → Int32 → Int32 → Int32 → MS → Prop} (C : Cx p s m meth c D T Z "EndingTownModel" cX11_byRules 8 (some .int)) (hk7 : ∀ (l1 : Int32) (l2 : Int32) (l3 : Int32) (l4 : Int32) (M : MS) (H : Heap) (locs : List Loc) (cells slots : Nat) (ls : Array Slot), k7 l1 l2 l3 l4 M → HI (twd D T Z) (mG b0 z0 M0) s (rmX (twd D T Z) 0 0 (mG b0 z0 M0)) H locs cells slots (mG b0 z0 M) → LH ls 8 [(0, .inr (.inl (some b0))), (1, .inl l1), (2, .inl l2), (3, .inl l3), (4, .inl l4)] → W p l e (rmX (twd D T Z) 0 0 (mG b0 z0 M0)) s m args below meth c H locs cells slots (MQX (twd D T Z) (mG b0 z0 M0) (mq b0 z0 (qI Q)) (fun _ _ => False) below s) (F0 m 7 ls [])) : ∀ (l1 : Int32) (l2 : Int32) (l4 : Int32) (t0 : Int32) (M : MS) (H : Heap) (locs : List Loc) (cells slots : Nat) (ls : Array Slot), w_X11_byRules_118 Q k7 l1 l2 l4 t0 M → HI (twd D T Z) (mG b0 z0 M0) s (rmX (twd D T Z) 0 0 (mG b0 z0 M0)) H locs cells slots (mG b0 z0 M) → LH ls 8 [(0, .inr (.inl (some b0))), (1, .inl l1), (2, .inl l2), (4, .inl l4)] → W p l e (rmX (twd D T Z) 0 0 (mG b0 z0 M0)) s m args below meth c H locs cells slots (MQX (twd D T Z) (mG b0 z0 M0) (mq b0 z0 (qI Q)) (fun _ _ => False) below s) (F0 m 118 ls [.int t0]) := by
  intro l1 l2 l4 t0 M H locs cells slots ls h I hl
  refine l_ist_n C dX11_byRules_118 rfl hl (by decide) rfl (fun ls hl => ?_)
  have hl : LH ls 8 [(3, .inl t0), (0, .inr (.inl (some b0))), (1, .inl l1), (2, .inl l2), (4, .inl l4)] := hl
  exact b_X11_byRules_119 C hk7 l1 l2 t0 l4 M _ _ _ _ _ h I (hl.sub [1, 2, 3, 0, 4] rfl)
def w_X11_byRules_40 (Q : Int32 → MS → Prop) (k7 : Int32 → Int32 → Int32 → Int32 → MS → Prop) : Nat → Int32 → Int32 → Int32 → Int32 → Int32 → Int32 → MS → Prop
  | 0 => fun _ _ _ _ _ _ _ => False
  | f40 + 1 => fun l1 l2 l3 l4 l5 l6 M => vp_in (((5 : Int32) * l4)) (mlen 12) ∧ ((mA M 12 (((5 : Int32) * l4)).toNatClampNeg ≤ l6) → (((l3 ≤ (l5 + (1 : Int32))) → (w_X11_byRules_118 Q k7 l1 l2 l4 l3 M)) ∧ ((¬ l3 ≤ (l5 + (1 : Int32))) → (w_X11_byRules_118 Q k7 l1 l2 l4 ((l5 + (1 : Int32))) M)))) ∧ ((¬ mA M 12 (((5 : Int32) * l4)).toNatClampNeg ≤ l6) → (vp_in (((((5 : Int32) * l4) + (1 : Int32)) + l6)) (mlen 12) ∧ vp_in ((((8 : Int32) * l1) + mA M 12 (((((5 : Int32) * l4) + (1 : Int32)) + l6)).toNatClampNeg)) (mlen 58) ∧ ((mA M 58 ((((8 : Int32) * l1) + mA M 12 (((((5 : Int32) * l4) + (1 : Int32)) + l6)).toNatClampNeg)).toNatClampNeg ≤ l5) → (w_X11_byRules_94 Q k7 (w_X11_byRules_40 Q k7 f40) l1 l2 l3 l4 l6 l5 M)) ∧ ((¬ mA M 58 ((((8 : Int32) * l1) + mA M 12 (((((5 : Int32) * l4) + (1 : Int32)) + l6)).toNatClampNeg)).toNatClampNeg ≤ l5) → (w_X11_byRules_94 Q k7 (w_X11_byRules_40 Q k7 f40) l1 l2 l3 l4 l6 (mA M 58 ((((8 : Int32) * l1) + mA M 12 (((((5 : Int32) * l4) + (1 : Int32)) + l6)).toNatClampNeg)).toNatClampNeg) M))))
set_option maxHeartbeats 4000000 in
theorem b_X11_byRules_40 {b0 z0 : Nat} {M0 : MS} {Q : Int32 → MS → Prop} {k7 : Int32 → Int32 → Int32 → Int32 → MS → Prop} (C : Cx p s m meth c D T Z "EndingTownModel" cX11_byRules 8 (some .int)) (hk7 : ∀ (l1 : Int32) (l2 : Int32) (l3 : Int32) (l4 : Int32) (M : MS) (H : Heap) (locs : List Loc) (cells slots : Nat) (ls : Array Slot), k7 l1 l2 l3 l4 M → HI (twd D T Z) (mG b0 z0 M0) s (rmX (twd D T Z) 0 0 (mG b0 z0 M0)) H locs cells slots (mG b0 z0 M) → LH ls 8 [(0, .inr (.inl (some b0))), (1, .inl l1), (2, .inl l2), (3, .inl l3), (4, .inl l4)] → W p l e (rmX (twd D T Z) 0 0 (mG b0 z0 M0)) s m args below meth c H locs cells slots (MQX (twd D T Z) (mG b0 z0 M0) (mq b0 z0 (qI Q)) (fun _ _ => False) below s) (F0 m 7 ls [])) : ∀ (n : Nat) (l1 : Int32) (l2 : Int32) (l3 : Int32) (l4 : Int32) (l5 : Int32) (l6 : Int32) (M : MS) (H : Heap) (locs : List Loc) (cells slots : Nat) (ls : Array Slot), w_X11_byRules_40 Q k7 n l1 l2 l3 l4 l5 l6 M → HI (twd D T Z) (mG b0 z0 M0) s (rmX (twd D T Z) 0 0 (mG b0 z0 M0)) H locs cells slots (mG b0 z0 M) → LH ls 8 [(0, .inr (.inl (some b0))), (1, .inl l1), (2, .inl l2), (3, .inl l3), (4, .inl l4), (5, .inl l5), (6, .inl l6)] → W p l e (rmX (twd D T Z) 0 0 (mG b0 z0 M0)) s m args below meth c H locs cells slots (MQX (twd D T Z) (mG b0 z0 M0) (mq b0 z0 (qI Q)) (fun _ _ => False) below s) (F0 m 40 ls []) := by
  intro n
  induction n with
  | zero => intro l1 l2 l3 l4 l5 l6 M H locs cells slots ls h; exact (show False from h).elim
  | succ n ih =>
    intro l1 l2 l3 l4 l5 l6 M H locs cells slots ls h I hl
    have hk40 := ih
    refine l_ild C dX11_byRules_40 hl 6 rfl ?_
    refine l_ald_n (x := some b0) C dX11_byRules_42 hl 0 rfl rfl ?_
    refine f_A C I (fl_X11_29) (by decide) (by decide) dX11_byRules_43 ?_
    refine lv_iconst (v := 5) C.1 C.2.1 dX11_byRules_46 (by decide) ?_
    refine l_ild C dX11_byRules_47 hl 4 rfl ?_
    refine lv_imul C.1 C.2.1 dX11_byRules_49 ?_
    obtain ⟨hi, h⟩ := h
    refine f_ld (k := 12) C I (by decide) hi dX11_byRules_50 ?_
    refine lv_icmp_ge (tgt := 102) C.1 C.2.1 dX11_byRules_51 (by decide) (fun c3 => ?_) (fun c3 => ?_)
    · have h := h.1 c3
      refine l_ild C dX11_byRules_102 hl 5 rfl ?_
      refine lv_iconst (v := 1) C.1 C.2.1 dX11_byRules_104 (by decide) ?_
      refine lv_iadd C.1 C.2.1 dX11_byRules_105 ?_
      refine l_ild_n C dX11_byRules_106 hl 3 rfl rfl ?_
      refine lv_icmp_ge (tgt := 117) C.1 C.2.1 dX11_byRules_107 (by decide) (fun c1 => ?_) (fun c1 => ?_)
      · have h := h.1 c1
        refine l_ild_n C dX11_byRules_117 hl 3 rfl rfl ?_
        exact b_X11_byRules_118 C hk7 l1 l2 l4 l3 M _ _ _ _ _ h I (hl.sub [0, 1, 2, 4] rfl)
      · have h := h.2 c1
        refine l_ild C dX11_byRules_110 hl 5 rfl ?_
        refine lv_iconst (v := 1) C.1 C.2.1 dX11_byRules_112 (by decide) ?_
        refine lv_iadd C.1 C.2.1 dX11_byRules_113 ?_
        refine lv_goto (tgt := 118) C.1 C.2.1 dX11_byRules_114 (by decide) ?_
        exact b_X11_byRules_118 C hk7 l1 l2 l4 ((l5 + (1 : Int32))) M _ _ _ _ _ h I (hl.sub [0, 1, 2, 4] rfl)
    · have h := h.2 c3
      refine l_ald_n (x := some b0) C dX11_byRules_54 hl 0 rfl rfl ?_
      refine f_A C I (fl_X11_104) (by decide) (by decide) dX11_byRules_55 ?_
      refine lv_bipush (v := 8) C.1 C.2.1 dX11_byRules_58 (by decide) ?_
      refine l_ild_n C dX11_byRules_60 hl 1 rfl rfl ?_
      refine lv_imul C.1 C.2.1 dX11_byRules_61 ?_
      refine l_ald_n (x := some b0) C dX11_byRules_62 hl 0 rfl rfl ?_
      refine f_A C I (fl_X11_29) (by decide) (by decide) dX11_byRules_63 ?_
      refine lv_iconst (v := 5) C.1 C.2.1 dX11_byRules_66 (by decide) ?_
      refine l_ild C dX11_byRules_67 hl 4 rfl ?_
      refine lv_imul C.1 C.2.1 dX11_byRules_69 ?_
      refine lv_iconst (v := 1) C.1 C.2.1 dX11_byRules_70 (by decide) ?_
      refine lv_iadd C.1 C.2.1 dX11_byRules_71 ?_
      refine l_ild C dX11_byRules_72 hl 6 rfl ?_
      refine lv_iadd C.1 C.2.1 dX11_byRules_74 ?_
      obtain ⟨hi, h⟩ := h
      refine f_ld (k := 12) C I (by decide) hi dX11_byRules_75 ?_
      refine lv_iadd C.1 C.2.1 dX11_byRules_76 ?_
      obtain ⟨hi, h⟩ := h
      refine f_ld (k := 58) C I (by decide) hi dX11_byRules_77 ?_
      refine l_ist C dX11_byRules_78 hl (by decide) rfl (fun ls hl => ?_)
      have hl : LH ls 8 [(7, .inl (mA M 58 ((((8 : Int32) * l1) + mA M 12 (((((5 : Int32) * l4) + (1 : Int32)) + l6)).toNatClampNeg)).toNatClampNeg)), (0, .inr (.inl (some b0))), (1, .inl l1), (2, .inl l2), (3, .inl l3), (4, .inl l4), (5, .inl l5), (6, .inl l6)] := hl
      refine l_ild C dX11_byRules_80 hl 0 rfl ?_
      refine l_ild C dX11_byRules_82 hl 6 rfl ?_
      refine lv_icmp_le (tgt := 92) C.1 C.2.1 dX11_byRules_84 (by decide) (fun c2 => ?_) (fun c2 => ?_)
      · have h := h.1 c2
        refine l_ild C dX11_byRules_92 hl 6 rfl ?_
        exact b_X11_byRules_94 C hk7 hk40 l1 l2 l3 l4 l6 l5 M _ _ _ _ _ h I (hl.sub [1, 2, 3, 4, 5, 7] rfl)
      · have h := h.2 c2
        refine l_ild C dX11_byRules_87 hl 0 rfl ?_
        refine lv_goto (tgt := 94) C.1 C.2.1 dX11_byRules_89 (by decide) ?_
        exact b_X11_byRules_94 C hk7 hk40 l1 l2 l3 l4 l6 (mA M 58 ((((8 : Int32) * l1) + mA M 12 (((((5 : Int32) * l4) + (1 : Int32)) + l6)).toNatClampNeg)).toNatClampNeg) M _ _ _ _ _ h I (hl.sub [1, 2, 3, 4, 5, 7] rfl)
def w_X11_byRules_7 (Q : Int32 → MS → Prop) : Nat → Int32 → Int32 → Int32 → Int32 → MS → Prop
  | 0 => fun _ _ _ _ _ => False
  | f7 + 1 => fun l1 l2 l3 l4 M => ((mF M 6 ≤ l4) → (Q l3 M)) ∧ ((¬ mF M 6 ≤ l4) → (vp_in ((((5 : Int32) * l4) + (1 : Int32))) (mlen 12) ∧ ((mA M 12 ((((5 : Int32) * l4) + (1 : Int32))).toNatClampNeg = l2) → (∃ n, w_X11_byRules_40 Q (w_X11_byRules_7 Q f7) n l1 l2 l3 l4 ((0 : Int32)) ((1 : Int32)) M)) ∧ ((¬ mA M 12 ((((5 : Int32) * l4) + (1 : Int32))).toNatClampNeg = l2) → (w_X11_byRules_119 Q (w_X11_byRules_7 Q f7) l1 l2 l3 l4 M))))
set_option maxHeartbeats 4000000 in
theorem b_X11_byRules_7 {b0 z0 : Nat} {M0 : MS} {Q : Int32 → MS → Prop} (C : Cx p s m meth c D T Z "EndingTownModel" cX11_byRules 8 (some .int)) : ∀ (n : Nat) (l1 : Int32) (l2 : Int32) (l3 : Int32) (l4 : Int32) (M : MS) (H : Heap) (locs : List Loc) (cells slots : Nat) (ls : Array Slot), w_X11_byRules_7 Q n l1 l2 l3 l4 M → HI (twd D T Z) (mG b0 z0 M0) s (rmX (twd D T Z) 0 0 (mG b0 z0 M0)) H locs cells slots (mG b0 z0 M) → LH ls 8 [(0, .inr (.inl (some b0))), (1, .inl l1), (2, .inl l2), (3, .inl l3), (4, .inl l4)] → W p l e (rmX (twd D T Z) 0 0 (mG b0 z0 M0)) s m args below meth c H locs cells slots (MQX (twd D T Z) (mG b0 z0 M0) (mq b0 z0 (qI Q)) (fun _ _ => False) below s) (F0 m 7 ls []) := by
  intro n
  induction n with
  | zero => intro l1 l2 l3 l4 M H locs cells slots ls h; exact (show False from h).elim
  | succ n ih =>
    intro l1 l2 l3 l4 M H locs cells slots ls h I hl
    have hk7 := ih
    refine l_ild C dX11_byRules_7 hl 4 rfl ?_
    refine l_ald_n (x := some b0) C dX11_byRules_9 hl 0 rfl rfl ?_
    refine f_I C I (fl_X11_272) (by decide) dX11_byRules_10 ?_
    refine lv_icmp_ge (tgt := 125) C.1 C.2.1 dX11_byRules_13 (by decide) (fun c2 => ?_) (fun c2 => ?_)
    · have h := h.1 c2
      refine l_ild_n C dX11_byRules_125 hl 3 rfl rfl ?_
      exact r_int C.1 C.2.1 C.2.2.2.2.2.1 rfl C.2.2.2.2.2.2 ⟨rfl, rfl⟩ I dX11_byRules_126 ⟨_, rfl, _, rfl, h⟩
    · have h := h.2 c2
      refine l_ald_n (x := some b0) C dX11_byRules_16 hl 0 rfl rfl ?_
      refine f_A C I (fl_X11_29) (by decide) (by decide) dX11_byRules_17 ?_
      refine lv_iconst (v := 5) C.1 C.2.1 dX11_byRules_20 (by decide) ?_
      refine l_ild C dX11_byRules_21 hl 4 rfl ?_
      refine lv_imul C.1 C.2.1 dX11_byRules_23 ?_
      refine lv_iconst (v := 1) C.1 C.2.1 dX11_byRules_24 (by decide) ?_
      refine lv_iadd C.1 C.2.1 dX11_byRules_25 ?_
      obtain ⟨hi, h⟩ := h
      refine f_ld (k := 12) C I (by decide) hi dX11_byRules_26 ?_
      refine l_ild_n C dX11_byRules_27 hl 2 rfl rfl ?_
      refine lv_icmp_eq (tgt := 34) C.1 C.2.1 dX11_byRules_28 (by decide) (fun c1 => ?_) (fun c1 => ?_)
      · have h := h.1 c1
        refine lv_iconst (v := 0) C.1 C.2.1 dX11_byRules_34 (by decide) ?_
        refine l_ist C dX11_byRules_35 hl (by decide) rfl (fun ls hl => ?_)
        have hl : LH ls 8 [(5, .inl ((0 : Int32))), (0, .inr (.inl (some b0))), (1, .inl l1), (2, .inl l2), (3, .inl l3), (4, .inl l4)] := hl
        refine lv_iconst (v := 1) C.1 C.2.1 dX11_byRules_37 (by decide) ?_
        refine l_ist C dX11_byRules_38 hl (by decide) rfl (fun ls hl => ?_)
        have hl : LH ls 8 [(6, .inl ((1 : Int32))), (5, .inl ((0 : Int32))), (0, .inr (.inl (some b0))), (1, .inl l1), (2, .inl l2), (3, .inl l3), (4, .inl l4)] := hl
        obtain ⟨n, h⟩ := h
        exact b_X11_byRules_40 C hk7 n l1 l2 l3 l4 ((0 : Int32)) ((1 : Int32)) M _ _ _ _ _ h I (hl.sub [2, 3, 4, 5, 6, 1, 0] rfl)
      · have h := h.2 c1
        refine lv_goto (tgt := 119) C.1 C.2.1 dX11_byRules_31 (by decide) ?_
        exact b_X11_byRules_119 C hk7 l1 l2 l3 l4 M _ _ _ _ _ h I (hl.sub [0, 1, 2, 3, 4] rfl)
def w_X11_byRules (Q : Int32 → MS → Prop) (p0 : Int32) (p1 : Int32) (M : MS) : Prop := ∃ n, w_X11_byRules_7 Q n p0 p1 ((1000 : Int32)) ((0 : Int32)) M
theorem pd_X11_byRules : (parseMethodDescriptor yX11_byRules.desc).map (fun d => d.parameters.length) = some 2 := by decide +kernel
set_option maxHeartbeats 4000000 in
theorem ct_X11_byRules {l : Launch} {D : va_G} {T : Nat → ClassId} {Z : Heap} {b0 z0 : Nat} {M0 : MS} {Q : Int32 → MS → Prop} {p0 : Int32} {p1 : Int32} (hw : w_X11_byRules Q p0 p1 M0) : CT (twd D T Z) (Evd D T Z) l yX11_byRules (Cond.code yX11_byRules cX11_byRules 8 (some .int)) 0 0 [va_rf (some b0), .int p0, .int p1] (mG b0 z0 M0) (mq b0 z0 (qI Q)) (fun _ _ => False) := by
  refine CT.ofW (cc := cX11_byRules) (nL := 8) (ret := (some .int)) Ext.rf (by decide) (Or.inl rfl) ?_
  intro p e s m below meth c hx hb hml hown hr hlk hnm hcb hm hc hn hE I
  have C : Cx p s m meth c D T Z "EndingTownModel" cX11_byRules 8 (some .int) := ⟨hx, hb, hml, hown, hE, hr, hlk⟩
  refine w_entry [.inr (.inl (some b0)), .inl p0, .inl p1] (Nat.le_of_ble_eq_true rfl) (fun ls hl => ?_)
  have hl : LH ls 8 [(0, .inr (.inl (some b0))), (1, .inl p0), (2, .inl p1)] := hl
  have h := hw
  refine lv_sipush (v := 1000) C.1 C.2.1 dX11_byRules_0 (by decide) ?_
  refine l_ist_n C dX11_byRules_3 rfl hl (by decide) rfl (fun ls hl => ?_)
  have hl : LH ls 8 [(3, .inl ((1000 : Int32))), (0, .inr (.inl (some b0))), (1, .inl p0), (2, .inl p1)] := hl
  refine lv_iconst (v := 0) C.1 C.2.1 dX11_byRules_4 (by decide) ?_
  refine l_ist C dX11_byRules_5 hl (by decide) rfl (fun ls hl => ?_)
  have hl : LH ls 8 [(4, .inl ((0 : Int32))), (3, .inl ((1000 : Int32))), (0, .inr (.inl (some b0))), (1, .inl p0), (2, .inl p1)] := hl
  obtain ⟨n, h⟩ := h
  exact b_X11_byRules_7 C n p0 p1 ((1000 : Int32)) ((0 : Int32)) M0 _ _ _ _ _ h I (hl.sub [2, 3, 4, 1, 0] rfl)
def w_X11_byTold_56 (Q : Int32 → MS → Prop) (k8 : Int32 → Int32 → Int32 → Int32 → Int32 → Int32 → MS → Prop) (l1 : Int32) (l2 : Int32) (l3 : Int32) (l4 : Int32) (l5 : Int32) (l6 : Int32) (M : MS) : Prop := k8 l1 l2 l3 l4 l5 ((l6 + 1)) M
set_option maxHeartbeats 4000000 in
theorem b_X11_byTold_56 {b0 z0 : Nat} {M0 : MS} {Q : Int32 → MS → Prop} {k8 : Int32 → Int32 → Int32 → Int32 → Int32 → Int32 → MS → Prop} (C : Cx p s m meth c D T Z "EndingTownModel" cX11_byTold 7 (some .int)) (hk8 : ∀ (l1 : Int32) (l2 : Int32) (l3 : Int32) (l4 : Int32) (l5 : Int32) (l6 : Int32) (M : MS) (H : Heap) (locs : List Loc) (cells slots : Nat) (ls : Array Slot), k8 l1 l2 l3 l4 l5 l6 M → HI (twd D T Z) (mG b0 z0 M0) s (rmX (twd D T Z) 2 47 (mG b0 z0 M0)) H locs cells slots (mG b0 z0 M) → LH ls 7 [(0, .inr (.inl (some b0))), (1, .inl l1), (2, .inl l2), (3, .inl l3), (4, .inl l4), (5, .inl l5), (6, .inl l6)] → W p l e (rmX (twd D T Z) 2 47 (mG b0 z0 M0)) s m args below meth c H locs cells slots (MQX (twd D T Z) (mG b0 z0 M0) (mq b0 z0 (qI Q)) (fun _ _ => False) below s) (F0 m 8 ls [])) : ∀ (l1 : Int32) (l2 : Int32) (l3 : Int32) (l4 : Int32) (l5 : Int32) (l6 : Int32) (M : MS) (H : Heap) (locs : List Loc) (cells slots : Nat) (ls : Array Slot), w_X11_byTold_56 Q k8 l1 l2 l3 l4 l5 l6 M → HI (twd D T Z) (mG b0 z0 M0) s (rmX (twd D T Z) 2 47 (mG b0 z0 M0)) H locs cells slots (mG b0 z0 M) → LH ls 7 [(0, .inr (.inl (some b0))), (1, .inl l1), (2, .inl l2), (3, .inl l3), (4, .inl l4), (5, .inl l5), (6, .inl l6)] → W p l e (rmX (twd D T Z) 2 47 (mG b0 z0 M0)) s m args below meth c H locs cells slots (MQX (twd D T Z) (mG b0 z0 M0) (mq b0 z0 (qI Q)) (fun _ _ => False) below s) (F0 m 56 ls []) := by
  intro l1 l2 l3 l4 l5 l6 M H locs cells slots ls h I hl
  refine l_inc (q := 6) (v := 1) C dX11_byTold_56 hl rfl (by decide) (by decide) rfl (fun ls hl => ?_)
  have hl : LH ls 7 [(6, .inl ((l6 + 1))), (0, .inr (.inl (some b0))), (1, .inl l1), (2, .inl l2), (3, .inl l3), (4, .inl l4), (5, .inl l5)] := hl
  refine lv_goto (tgt := 8) C.1 C.2.1 dX11_byTold_59 (by decide) ?_
  exact hk8 l1 l2 l3 l4 l5 ((l6 + 1)) M _ _ _ _ _ h I (hl.sub [1, 2, 3, 4, 5, 6, 0] rfl)
def w_X11_byTold_8 (Q : Int32 → MS → Prop) : Nat → Int32 → Int32 → Int32 → Int32 → Int32 → Int32 → MS → Prop
  | 0 => fun _ _ _ _ _ _ _ => False
  | f8 + 1 => fun l1 l2 l3 l4 l5 l6 M => ((mF M 50 ≤ l6) → (Q l5 M)) ∧ ((¬ mF M 50 ≤ l6) → (vp_in l6 (mlen 53) ∧ ((l5 ≤ (mA M 53 l6.toNatClampNeg + (1 : Int32))) → (w_X11_byTold_56 Q (w_X11_byTold_8 Q f8) l1 l2 l3 l4 l5 l6 M)) ∧ ((¬ l5 ≤ (mA M 53 l6.toNatClampNeg + (1 : Int32))) → (w_X11_isTold (fun r2 M1 => ((r2 = 0) → (w_X11_byTold_56 Q (w_X11_byTold_8 Q f8) l1 l2 l3 l4 l5 l6 M1)) ∧ ((¬ r2 = 0) → (vp_in l6 (mlen 53) ∧ w_X11_byTold_56 Q (w_X11_byTold_8 Q f8) l1 l2 l3 l4 ((mA M1 53 l6.toNatClampNeg + (1 : Int32))) l6 M1))) l6 l1 l2 l3 l4 M))))
set_option maxHeartbeats 4000000 in
theorem b_X11_byTold_8 {b0 z0 : Nat} {M0 : MS} {Q : Int32 → MS → Prop} (C : Cx p s m meth c D T Z "EndingTownModel" cX11_byTold 7 (some .int)) : ∀ (n : Nat) (l1 : Int32) (l2 : Int32) (l3 : Int32) (l4 : Int32) (l5 : Int32) (l6 : Int32) (M : MS) (H : Heap) (locs : List Loc) (cells slots : Nat) (ls : Array Slot), w_X11_byTold_8 Q n l1 l2 l3 l4 l5 l6 M → HI (twd D T Z) (mG b0 z0 M0) s (rmX (twd D T Z) 2 47 (mG b0 z0 M0)) H locs cells slots (mG b0 z0 M) → LH ls 7 [(0, .inr (.inl (some b0))), (1, .inl l1), (2, .inl l2), (3, .inl l3), (4, .inl l4), (5, .inl l5), (6, .inl l6)] → W p l e (rmX (twd D T Z) 2 47 (mG b0 z0 M0)) s m args below meth c H locs cells slots (MQX (twd D T Z) (mG b0 z0 M0) (mq b0 z0 (qI Q)) (fun _ _ => False) below s) (F0 m 8 ls []) := by
  intro n
  induction n with
  | zero => intro l1 l2 l3 l4 l5 l6 M H locs cells slots ls h; exact (show False from h).elim
  | succ n ih =>
    intro l1 l2 l3 l4 l5 l6 M H locs cells slots ls h I hl
    have hk8 := ih
    refine l_ild C dX11_byTold_8 hl 6 rfl ?_
    refine l_ald_n (x := some b0) C dX11_byTold_10 hl 0 rfl rfl ?_
    refine f_I C I (fl_X11_279) (by decide) dX11_byTold_11 ?_
    refine lv_icmp_ge (tgt := 62) C.1 C.2.1 dX11_byTold_14 (by decide) (fun c5 => ?_) (fun c5 => ?_)
    · have h := h.1 c5
      refine l_ild C dX11_byTold_62 hl 5 rfl ?_
      exact r_int C.1 C.2.1 C.2.2.2.2.2.1 rfl C.2.2.2.2.2.2 ⟨rfl, rfl⟩ I dX11_byTold_64 ⟨_, rfl, _, rfl, h⟩
    · have h := h.2 c5
      refine l_ald_n (x := some b0) C dX11_byTold_17 hl 0 rfl rfl ?_
      refine f_A C I (fl_X11_89) (by decide) (by decide) dX11_byTold_18 ?_
      refine l_ild C dX11_byTold_21 hl 6 rfl ?_
      obtain ⟨hi, h⟩ := h
      refine f_ld (k := 53) C I (by decide) hi dX11_byTold_23 ?_
      refine lv_iconst (v := 1) C.1 C.2.1 dX11_byTold_24 (by decide) ?_
      refine lv_iadd C.1 C.2.1 dX11_byTold_25 ?_
      refine l_ild C dX11_byTold_26 hl 5 rfl ?_
      refine lv_icmp_ge (tgt := 56) C.1 C.2.1 dX11_byTold_28 (by decide) (fun c4 => ?_) (fun c4 => ?_)
      · have h := h.1 c4
        exact b_X11_byTold_56 C hk8 l1 l2 l3 l4 l5 l6 M _ _ _ _ _ h I (hl.sub [0, 1, 2, 3, 4, 5, 6] rfl)
      · have h := h.2 c4
        refine l_ald_n (x := some b0) C dX11_byTold_31 hl 0 rfl rfl ?_
        refine l_ild C dX11_byTold_32 hl 6 rfl ?_
        refine l_ild_n C dX11_byTold_34 hl 1 rfl rfl ?_
        refine l_ild_n C dX11_byTold_35 hl 2 rfl rfl ?_
        refine l_ild_n C dX11_byTold_36 hl 3 rfl rfl ?_
        refine l_ild C dX11_byTold_37 hl 4 rfl ?_
        refine k_call Ext.tr C I (k_V (r := some b0) (As := [.int l6, .int l1, .int l2, .int l3, .int l4]) (rest := []) (y := yX11_isTold) C (f_recv C I) q1821 q1823 qs86 (Or.inl rfl) q1824 (by decide) rfl pd_X11_isTold rfl dX11_byTold_39) (ct_X11_isTold h) hl.1 dX11_byTold_39 [] rfl (Nat.le_of_ble_eq_true rfl) (Or.inl rfl) q1824 q113 ⟨Nat.le_of_ble_eq_true rfl, Nat.le_of_ble_eq_true rfl⟩ (fun v x1 H locs cells slots ex hq I => ?_) (fun a x1 H locs cells slots ex hq I => hq.elim)
        obtain ⟨M1, rfl, r2, rfl, h⟩ := hq
        refine lv_if_eq (tgt := 56) C.1 C.2.1 dX11_byTold_42 (by decide) (fun c3 => ?_) (fun c3 => ?_)
        · have h := h.1 c3
          exact b_X11_byTold_56 C hk8 l1 l2 l3 l4 l5 l6 M1 _ _ _ _ _ h I (hl.sub [0, 1, 2, 3, 4, 5, 6] rfl)
        · have h := h.2 c3
          refine l_ald_n (x := some b0) C dX11_byTold_45 hl 0 rfl rfl ?_
          refine f_A C I (fl_X11_89) (by decide) (by decide) dX11_byTold_46 ?_
          refine l_ild C dX11_byTold_49 hl 6 rfl ?_
          obtain ⟨hi, h⟩ := h
          refine f_ld (k := 53) C I (by decide) hi dX11_byTold_51 ?_
          refine lv_iconst (v := 1) C.1 C.2.1 dX11_byTold_52 (by decide) ?_
          refine lv_iadd C.1 C.2.1 dX11_byTold_53 ?_
          refine l_ist C dX11_byTold_54 hl (by decide) rfl (fun ls hl => ?_)
          have hl : LH ls 7 [(5, .inl ((mA M1 53 l6.toNatClampNeg + (1 : Int32)))), (0, .inr (.inl (some b0))), (1, .inl l1), (2, .inl l2), (3, .inl l3), (4, .inl l4), (6, .inl l6)] := hl
          exact b_X11_byTold_56 C hk8 l1 l2 l3 l4 ((mA M1 53 l6.toNatClampNeg + (1 : Int32))) l6 M1 _ _ _ _ _ h I (hl.sub [1, 2, 3, 4, 5, 0, 6] rfl)
def w_X11_byTold (Q : Int32 → MS → Prop) (p0 : Int32) (p1 : Int32) (p2 : Int32) (p3 : Int32) (M : MS) : Prop := ∃ n, w_X11_byTold_8 Q n p0 p1 p2 p3 ((1000 : Int32)) ((0 : Int32)) M
theorem pd_X11_byTold : (parseMethodDescriptor yX11_byTold.desc).map (fun d => d.parameters.length) = some 4 := by decide +kernel
set_option maxHeartbeats 4000000 in
theorem ct_X11_byTold {l : Launch} {D : va_G} {T : Nat → ClassId} {Z : Heap} {b0 z0 : Nat} {M0 : MS} {Q : Int32 → MS → Prop} {p0 : Int32} {p1 : Int32} {p2 : Int32} {p3 : Int32} (hw : w_X11_byTold Q p0 p1 p2 p3 M0) : CT (twd D T Z) (Evd D T Z) l yX11_byTold (Cond.code yX11_byTold cX11_byTold 7 (some .int)) 2 47 [va_rf (some b0), .int p0, .int p1, .int p2, .int p3] (mG b0 z0 M0) (mq b0 z0 (qI Q)) (fun _ _ => False) := by
  refine CT.ofW (cc := cX11_byTold) (nL := 7) (ret := (some .int)) Ext.rf (by decide) (Or.inl rfl) ?_
  intro p e s m below meth c hx hb hml hown hr hlk hnm hcb hm hc hn hE I
  have C : Cx p s m meth c D T Z "EndingTownModel" cX11_byTold 7 (some .int) := ⟨hx, hb, hml, hown, hE, hr, hlk⟩
  refine w_entry [.inr (.inl (some b0)), .inl p0, .inl p1, .inl p2, .inl p3] (Nat.le_of_ble_eq_true rfl) (fun ls hl => ?_)
  have hl : LH ls 7 [(0, .inr (.inl (some b0))), (1, .inl p0), (2, .inl p1), (3, .inl p2), (4, .inl p3)] := hl
  have h := hw
  refine lv_sipush (v := 1000) C.1 C.2.1 dX11_byTold_0 (by decide) ?_
  refine l_ist C dX11_byTold_3 hl (by decide) rfl (fun ls hl => ?_)
  have hl : LH ls 7 [(5, .inl ((1000 : Int32))), (0, .inr (.inl (some b0))), (1, .inl p0), (2, .inl p1), (3, .inl p2), (4, .inl p3)] := hl
  refine lv_iconst (v := 0) C.1 C.2.1 dX11_byTold_5 (by decide) ?_
  refine l_ist C dX11_byTold_6 hl (by decide) rfl (fun ls hl => ?_)
  have hl : LH ls 7 [(6, .inl ((0 : Int32))), (5, .inl ((1000 : Int32))), (0, .inr (.inl (some b0))), (1, .inl p0), (2, .inl p1), (3, .inl p2), (4, .inl p3)] := hl
  obtain ⟨n, h⟩ := h
  exact b_X11_byTold_8 C n p0 p1 p2 p3 ((1000 : Int32)) ((0 : Int32)) M0 _ _ _ _ _ h I (hl.sub [2, 3, 4, 5, 6, 1, 0] rfl)
def w_X11_byHow_64 (Q : Int32 → MS → Prop) (t0 : Int32) (M : MS) : Prop := Q t0 M
set_option maxHeartbeats 4000000 in
theorem b_X11_byHow_64 {b0 z0 : Nat} {M0 : MS} {Q : Int32 → MS → Prop} (C : Cx p s m meth c D T Z "EndingTownModel" cX11_byHow 7 (some .int)) : ∀ (t0 : Int32) (M : MS) (H : Heap) (locs : List Loc) (cells slots : Nat) (ls : Array Slot), w_X11_byHow_64 Q t0 M → HI (twd D T Z) (mG b0 z0 M0) s (rmX (twd D T Z) 3 73 (mG b0 z0 M0)) H locs cells slots (mG b0 z0 M) → LH ls 7 [] → W p l e (rmX (twd D T Z) 3 73 (mG b0 z0 M0)) s m args below meth c H locs cells slots (MQX (twd D T Z) (mG b0 z0 M0) (mq b0 z0 (qI Q)) (fun _ _ => False) below s) (F0 m 64 ls [.int t0]) := by
  intro t0 M H locs cells slots ls h I hl
  exact r_int C.1 C.2.1 C.2.2.2.2.2.1 rfl C.2.2.2.2.2.2 ⟨rfl, rfl⟩ I dX11_byHow_64 ⟨_, rfl, _, rfl, h⟩
def w_X11_byHow_87 (Q : Int32 → MS → Prop) (t0 : Int32) (M : MS) : Prop := Q t0 M
set_option maxHeartbeats 4000000 in
theorem b_X11_byHow_87 {b0 z0 : Nat} {M0 : MS} {Q : Int32 → MS → Prop} (C : Cx p s m meth c D T Z "EndingTownModel" cX11_byHow 7 (some .int)) : ∀ (t0 : Int32) (M : MS) (H : Heap) (locs : List Loc) (cells slots : Nat) (ls : Array Slot), w_X11_byHow_87 Q t0 M → HI (twd D T Z) (mG b0 z0 M0) s (rmX (twd D T Z) 3 73 (mG b0 z0 M0)) H locs cells slots (mG b0 z0 M) → LH ls 7 [] → W p l e (rmX (twd D T Z) 3 73 (mG b0 z0 M0)) s m args below meth c H locs cells slots (MQX (twd D T Z) (mG b0 z0 M0) (mq b0 z0 (qI Q)) (fun _ _ => False) below s) (F0 m 87 ls [.int t0]) := by
  intro t0 M H locs cells slots ls h I hl
  exact r_int C.1 C.2.1 C.2.2.2.2.2.1 rfl C.2.2.2.2.2.2 ⟨rfl, rfl⟩ I dX11_byHow_87 ⟨_, rfl, _, rfl, h⟩
def w_X11_byHow (Q : Int32 → MS → Prop) (p0 : Int32) (p1 : Int32) (p2 : Int32) (p3 : Int32) (M : MS) : Prop := vp_in p0 (mlen 55) ∧ vp_in p0 (mlen 56) ∧ ((¬ p3 = (4 : Int32)) → (((¬ p3 = (2 : Int32)) → (((¬ p3 = (3 : Int32)) → (w_X11_isBy (fun r2 M1 => ((r2 = 0) → (w_X11_byHow_87 Q ((1000 : Int32)) M1)) ∧ ((¬ r2 = 0) → (w_X11_byHow_87 Q ((1 : Int32)) M1))) (mA M 55 p0.toNatClampNeg) (mA M 56 p0.toNatClampNeg) p1 p2 p3 M)) ∧ ((p3 = (3 : Int32)) → (((¬ p2 = (1 : Int32)) → (w_X11_byRules (fun r5 M4 => w_X11_byHow_64 Q r5 M4) p0 p1 M)) ∧ ((p2 = (1 : Int32)) → (w_X11_byHow_64 Q ((1000 : Int32)) M)))))) ∧ ((p3 = (2 : Int32)) → (w_X11_byTold (fun r9 M8 => Q r9 M8) (mA M 55 p0.toNatClampNeg) (mA M 56 p0.toNatClampNeg) p1 p2 M)))) ∧ ((p3 = (4 : Int32)) → (Q ((1 : Int32)) M))
theorem pd_X11_byHow : (parseMethodDescriptor yX11_byHow.desc).map (fun d => d.parameters.length) = some 4 := by decide +kernel
set_option maxHeartbeats 4000000 in
theorem ct_X11_byHow {l : Launch} {D : va_G} {T : Nat → ClassId} {Z : Heap} {b0 z0 : Nat} {M0 : MS} {Q : Int32 → MS → Prop} {p0 : Int32} {p1 : Int32} {p2 : Int32} {p3 : Int32} (hw : w_X11_byHow Q p0 p1 p2 p3 M0) : CT (twd D T Z) (Evd D T Z) l yX11_byHow (Cond.code yX11_byHow cX11_byHow 7 (some .int)) 3 73 [va_rf (some b0), .int p0, .int p1, .int p2, .int p3] (mG b0 z0 M0) (mq b0 z0 (qI Q)) (fun _ _ => False) := by
  refine CT.ofW (cc := cX11_byHow) (nL := 7) (ret := (some .int)) Ext.rf (by decide) (Or.inl rfl) ?_
  intro p e s m below meth c hx hb hml hown hr hlk hnm hcb hm hc hn hE I
  have C : Cx p s m meth c D T Z "EndingTownModel" cX11_byHow 7 (some .int) := ⟨hx, hb, hml, hown, hE, hr, hlk⟩
  refine w_entry [.inr (.inl (some b0)), .inl p0, .inl p1, .inl p2, .inl p3] (Nat.le_of_ble_eq_true rfl) (fun ls hl => ?_)
  have hl : LH ls 7 [(0, .inr (.inl (some b0))), (1, .inl p0), (2, .inl p1), (3, .inl p2), (4, .inl p3)] := hl
  have h := hw
  refine l_ald_n (x := some b0) C dX11_byHow_0 hl 0 rfl rfl ?_
  refine f_A C I (fl_X11_95) (by decide) (by decide) dX11_byHow_1 ?_
  refine l_ild_n C dX11_byHow_4 hl 1 rfl rfl ?_
  obtain ⟨hi, h⟩ := h
  refine f_ld (k := 55) C I (by decide) hi dX11_byHow_5 ?_
  refine l_ist C dX11_byHow_6 hl (by decide) rfl (fun ls hl => ?_)
  have hl : LH ls 7 [(5, .inl (mA M0 55 p0.toNatClampNeg)), (0, .inr (.inl (some b0))), (1, .inl p0), (2, .inl p1), (3, .inl p2), (4, .inl p3)] := hl
  refine l_ald_n (x := some b0) C dX11_byHow_8 hl 1 rfl rfl ?_
  refine f_A C I (fl_X11_98) (by decide) (by decide) dX11_byHow_9 ?_
  refine l_ild_n C dX11_byHow_12 hl 2 rfl rfl ?_
  obtain ⟨hi, h⟩ := h
  refine f_ld (k := 56) C I (by decide) hi dX11_byHow_13 ?_
  refine l_ist C dX11_byHow_14 hl (by decide) rfl (fun ls hl => ?_)
  have hl : LH ls 7 [(6, .inl (mA M0 56 p0.toNatClampNeg)), (5, .inl (mA M0 55 p0.toNatClampNeg)), (0, .inr (.inl (some b0))), (1, .inl p0), (2, .inl p1), (3, .inl p2), (4, .inl p3)] := hl
  refine l_ild C dX11_byHow_16 hl 6 rfl ?_
  refine lv_iconst (v := 4) C.1 C.2.1 dX11_byHow_18 (by decide) ?_
  refine lv_icmp_ne (tgt := 24) C.1 C.2.1 dX11_byHow_19 (by decide) (fun c11 => ?_) (fun c11 => ?_)
  · have h := h.1 c11
    refine l_ild C dX11_byHow_24 hl 6 rfl ?_
    refine lv_iconst (v := 2) C.1 C.2.1 dX11_byHow_26 (by decide) ?_
    refine lv_icmp_ne (tgt := 41) C.1 C.2.1 dX11_byHow_27 (by decide) (fun c10 => ?_) (fun c10 => ?_)
    · have h := h.1 c10
      refine l_ild C dX11_byHow_41 hl 6 rfl ?_
      refine lv_iconst (v := 3) C.1 C.2.1 dX11_byHow_43 (by decide) ?_
      refine lv_icmp_ne (tgt := 65) C.1 C.2.1 dX11_byHow_44 (by decide) (fun c7 => ?_) (fun c7 => ?_)
      · have h := h.1 c7
        refine l_ald_n (x := some b0) C dX11_byHow_65 hl 2 rfl rfl ?_
        refine l_ild C dX11_byHow_66 hl 1 rfl ?_
        refine l_ild C dX11_byHow_68 hl 0 rfl ?_
        refine l_ild_n C dX11_byHow_70 hl 4 rfl rfl ?_
        refine l_ild_n C dX11_byHow_71 hl 5 rfl rfl ?_
        refine l_ild C dX11_byHow_72 hl 6 rfl ?_
        refine k_call Ext.tr C I (k_V (r := some b0) (As := [.int (mA M0 55 p0.toNatClampNeg), .int (mA M0 56 p0.toNatClampNeg), .int p1, .int p2, .int p3]) (rest := []) (y := yX11_isBy) C (f_recv C I) q1829 q1831 qs88 (Or.inl rfl) q1832 (by decide) rfl pd_X11_isBy rfl dX11_byHow_74) (ct_X11_isBy h) hl.1 dX11_byHow_74 [] rfl (Nat.le_of_ble_eq_true rfl) (Or.inl rfl) q1832 q113 ⟨Nat.le_of_ble_eq_true rfl, Nat.le_of_ble_eq_true rfl⟩ (fun v x1 H locs cells slots ex hq I => ?_) (fun a x1 H locs cells slots ex hq I => hq.elim)
        obtain ⟨M1, rfl, r2, rfl, h⟩ := hq
        refine lv_if_eq (tgt := 84) C.1 C.2.1 dX11_byHow_77 (by decide) (fun c3 => ?_) (fun c3 => ?_)
        · have h := h.1 c3
          refine lv_sipush (v := 1000) C.1 C.2.1 dX11_byHow_84 (by decide) ?_
          exact b_X11_byHow_87 C ((1000 : Int32)) M1 _ _ _ _ _ h I (hl.sub [] rfl)
        · have h := h.2 c3
          refine lv_iconst (v := 1) C.1 C.2.1 dX11_byHow_80 (by decide) ?_
          refine lv_goto (tgt := 87) C.1 C.2.1 dX11_byHow_81 (by decide) ?_
          exact b_X11_byHow_87 C ((1 : Int32)) M1 _ _ _ _ _ h I (hl.sub [] rfl)
      · have h := h.2 c7
        refine l_ild_n C dX11_byHow_47 hl 5 rfl rfl ?_
        refine lv_iconst (v := 1) C.1 C.2.1 dX11_byHow_48 (by decide) ?_
        refine lv_icmp_ne (tgt := 58) C.1 C.2.1 dX11_byHow_49 (by decide) (fun c6 => ?_) (fun c6 => ?_)
        · have h := h.1 c6
          refine l_ald_n (x := some b0) C dX11_byHow_58 hl 2 rfl rfl ?_
          refine l_ild_n C dX11_byHow_59 hl 3 rfl rfl ?_
          refine l_ild_n C dX11_byHow_60 hl 4 rfl rfl ?_
          refine k_call Ext.tr C I (k_V (r := some b0) (As := [.int p0, .int p1]) (rest := []) (y := yX11_byRules) C (f_recv C I) q1825 q1827 qs87 (Or.inl rfl) q1828 (by decide) rfl pd_X11_byRules rfl dX11_byHow_61) (ct_X11_byRules h) hl.1 dX11_byHow_61 [] rfl (Nat.le_of_ble_eq_true rfl) (Or.inl rfl) q1828 q113 ⟨Nat.le_of_ble_eq_true rfl, Nat.le_of_ble_eq_true rfl⟩ (fun v x1 H locs cells slots ex hq I => ?_) (fun a x1 H locs cells slots ex hq I => hq.elim)
          obtain ⟨M4, rfl, r5, rfl, h⟩ := hq
          exact b_X11_byHow_64 C r5 M4 _ _ _ _ _ h I (hl.sub [] rfl)
        · have h := h.2 c6
          refine lv_sipush (v := 1000) C.1 C.2.1 dX11_byHow_52 (by decide) ?_
          refine lv_goto (tgt := 64) C.1 C.2.1 dX11_byHow_55 (by decide) ?_
          exact b_X11_byHow_64 C ((1000 : Int32)) M0 _ _ _ _ _ h I (hl.sub [] rfl)
    · have h := h.2 c10
      refine l_ald_n (x := some b0) C dX11_byHow_30 hl 2 rfl rfl ?_
      refine l_ild C dX11_byHow_31 hl 1 rfl ?_
      refine l_ild C dX11_byHow_33 hl 0 rfl ?_
      refine l_ild_n C dX11_byHow_35 hl 4 rfl rfl ?_
      refine l_ild_n C dX11_byHow_36 hl 5 rfl rfl ?_
      refine k_call Ext.tr C I (k_V (r := some b0) (As := [.int (mA M0 55 p0.toNatClampNeg), .int (mA M0 56 p0.toNatClampNeg), .int p1, .int p2]) (rest := []) (y := yX11_byTold) C (f_recv C I) q1817 q1819 qs85 (Or.inl rfl) q1820 (by decide) rfl pd_X11_byTold rfl dX11_byHow_37) (ct_X11_byTold h) hl.1 dX11_byHow_37 [] rfl (Nat.le_of_ble_eq_true rfl) (Or.inl rfl) q1820 q113 ⟨Nat.le_of_ble_eq_true rfl, Nat.le_of_ble_eq_true rfl⟩ (fun v x1 H locs cells slots ex hq I => ?_) (fun a x1 H locs cells slots ex hq I => hq.elim)
      obtain ⟨M8, rfl, r9, rfl, h⟩ := hq
      exact r_int C.1 C.2.1 C.2.2.2.2.2.1 rfl C.2.2.2.2.2.2 ⟨rfl, rfl⟩ I dX11_byHow_40 ⟨_, rfl, _, rfl, h⟩
  · have h := h.2 c11
    refine lv_iconst (v := 1) C.1 C.2.1 dX11_byHow_22 (by decide) ?_
    exact r_int C.1 C.2.1 C.2.2.2.2.2.1 rfl C.2.2.2.2.2.2 ⟨rfl, rfl⟩ I dX11_byHow_23 ⟨_, rfl, _, rfl, h⟩
def w_X11_least_45 (Q : Int32 → MS → Prop) (k8 : Int32 → Int32 → Int32 → Int32 → Int32 → MS → Prop) (l1 : Int32) (l2 : Int32) (l3 : Int32) (l4 : Int32) (l5 : Int32) (M : MS) : Prop := k8 l1 l2 l3 l4 ((l5 + 1)) M
set_option maxHeartbeats 4000000 in
theorem b_X11_least_45 {b0 z0 : Nat} {M0 : MS} {Q : Int32 → MS → Prop} {k8 : Int32 → Int32 → Int32 → Int32 → Int32 → MS → Prop} (C : Cx p s m meth c D T Z "EndingTownModel" cX11_least 7 (some .int)) (hk8 : ∀ (l1 : Int32) (l2 : Int32) (l3 : Int32) (l4 : Int32) (l5 : Int32) (M : MS) (H : Heap) (locs : List Loc) (cells slots : Nat) (ls : Array Slot), k8 l1 l2 l3 l4 l5 M → HI (twd D T Z) (mG b0 z0 M0) s (rmX (twd D T Z) 4 99 (mG b0 z0 M0)) H locs cells slots (mG b0 z0 M) → LH ls 7 [(0, .inr (.inl (some b0))), (1, .inl l1), (2, .inl l2), (3, .inl l3), (4, .inl l4), (5, .inl l5)] → W p l e (rmX (twd D T Z) 4 99 (mG b0 z0 M0)) s m args below meth c H locs cells slots (MQX (twd D T Z) (mG b0 z0 M0) (mq b0 z0 (qI Q)) (fun _ _ => False) below s) (F0 m 8 ls [])) : ∀ (l1 : Int32) (l2 : Int32) (l3 : Int32) (l4 : Int32) (l5 : Int32) (M : MS) (H : Heap) (locs : List Loc) (cells slots : Nat) (ls : Array Slot), w_X11_least_45 Q k8 l1 l2 l3 l4 l5 M → HI (twd D T Z) (mG b0 z0 M0) s (rmX (twd D T Z) 4 99 (mG b0 z0 M0)) H locs cells slots (mG b0 z0 M) → LH ls 7 [(0, .inr (.inl (some b0))), (1, .inl l1), (2, .inl l2), (3, .inl l3), (4, .inl l4), (5, .inl l5)] → W p l e (rmX (twd D T Z) 4 99 (mG b0 z0 M0)) s m args below meth c H locs cells slots (MQX (twd D T Z) (mG b0 z0 M0) (mq b0 z0 (qI Q)) (fun _ _ => False) below s) (F0 m 45 ls []) := by
  intro l1 l2 l3 l4 l5 M H locs cells slots ls h I hl
  refine l_inc (q := 5) (v := 1) C dX11_least_45 hl rfl (by decide) (by decide) rfl (fun ls hl => ?_)
  have hl : LH ls 7 [(5, .inl ((l5 + 1))), (0, .inr (.inl (some b0))), (1, .inl l1), (2, .inl l2), (3, .inl l3), (4, .inl l4)] := hl
  refine lv_goto (tgt := 8) C.1 C.2.1 dX11_least_48 (by decide) ?_
  exact hk8 l1 l2 l3 l4 ((l5 + 1)) M _ _ _ _ _ h I (hl.sub [1, 2, 3, 4, 5, 0] rfl)
def w_X11_least_8 (Q : Int32 → MS → Prop) : Nat → Int32 → Int32 → Int32 → Int32 → Int32 → MS → Prop
  | 0 => fun _ _ _ _ _ _ => False
  | f8 + 1 => fun l1 l2 l3 l4 l5 M => (((4 : Int32) ≤ l5) → (Q l4 M)) ∧ ((¬ (4 : Int32) ≤ l5) → (w_X11_byHow (fun r2 M1 => ((r2 < l4) → (∀ M3 : MS, M3 = sF M1 62 l5 → w_X11_least_45 Q (w_X11_least_8 Q f8) l1 l2 l3 r2 l5 M3)) ∧ ((¬ r2 < l4) → (w_X11_least_45 Q (w_X11_least_8 Q f8) l1 l2 l3 l4 l5 M1))) l1 l2 l3 l5 M))
set_option maxHeartbeats 4000000 in
theorem b_X11_least_8 {b0 z0 : Nat} {M0 : MS} {Q : Int32 → MS → Prop} (C : Cx p s m meth c D T Z "EndingTownModel" cX11_least 7 (some .int)) : ∀ (n : Nat) (l1 : Int32) (l2 : Int32) (l3 : Int32) (l4 : Int32) (l5 : Int32) (M : MS) (H : Heap) (locs : List Loc) (cells slots : Nat) (ls : Array Slot), w_X11_least_8 Q n l1 l2 l3 l4 l5 M → HI (twd D T Z) (mG b0 z0 M0) s (rmX (twd D T Z) 4 99 (mG b0 z0 M0)) H locs cells slots (mG b0 z0 M) → LH ls 7 [(0, .inr (.inl (some b0))), (1, .inl l1), (2, .inl l2), (3, .inl l3), (4, .inl l4), (5, .inl l5)] → W p l e (rmX (twd D T Z) 4 99 (mG b0 z0 M0)) s m args below meth c H locs cells slots (MQX (twd D T Z) (mG b0 z0 M0) (mq b0 z0 (qI Q)) (fun _ _ => False) below s) (F0 m 8 ls []) := by
  intro n
  induction n with
  | zero => intro l1 l2 l3 l4 l5 M H locs cells slots ls h; exact (show False from h).elim
  | succ n ih =>
    intro l1 l2 l3 l4 l5 M H locs cells slots ls h I hl
    have hk8 := ih
    refine l_ild C dX11_least_8 hl 5 rfl ?_
    refine lv_iconst (v := 4) C.1 C.2.1 dX11_least_10 (by decide) ?_
    refine lv_icmp_ge (tgt := 51) C.1 C.2.1 dX11_least_11 (by decide) (fun c5 => ?_) (fun c5 => ?_)
    · have h := h.1 c5
      refine l_ild C dX11_least_51 hl 4 rfl ?_
      exact r_int C.1 C.2.1 C.2.2.2.2.2.1 rfl C.2.2.2.2.2.2 ⟨rfl, rfl⟩ I dX11_least_53 ⟨_, rfl, _, rfl, h⟩
    · have h := h.2 c5
      refine l_ald_n (x := some b0) C dX11_least_14 hl 0 rfl rfl ?_
      refine l_ild_n C dX11_least_15 hl 1 rfl rfl ?_
      refine l_ild_n C dX11_least_16 hl 2 rfl rfl ?_
      refine l_ild_n C dX11_least_17 hl 3 rfl rfl ?_
      refine l_ild C dX11_least_18 hl 5 rfl ?_
      refine k_call Ext.tr C I (k_V (r := some b0) (As := [.int l1, .int l2, .int l3, .int l5]) (rest := []) (y := yX11_byHow) C (f_recv C I) q1813 q1815 qs84 (Or.inl rfl) q1816 (by decide) rfl pd_X11_byHow rfl dX11_least_20) (ct_X11_byHow h) hl.1 dX11_least_20 [] rfl (Nat.le_of_ble_eq_true rfl) (Or.inl rfl) q1816 q113 ⟨Nat.le_of_ble_eq_true rfl, Nat.le_of_ble_eq_true rfl⟩ (fun v x1 H locs cells slots ex hq I => ?_) (fun a x1 H locs cells slots ex hq I => hq.elim)
      obtain ⟨M1, rfl, r2, rfl, h⟩ := hq
      refine l_ist C dX11_least_23 hl (by decide) rfl (fun ls hl => ?_)
      have hl : LH ls 7 [(6, .inl r2), (0, .inr (.inl (some b0))), (1, .inl l1), (2, .inl l2), (3, .inl l3), (4, .inl l4), (5, .inl l5)] := hl
      refine l_ild C dX11_least_25 hl 0 rfl ?_
      refine l_ild C dX11_least_27 hl 5 rfl ?_
      refine lv_icmp_lt (tgt := 35) C.1 C.2.1 dX11_least_29 (by decide) (fun c4 => ?_) (fun c4 => ?_)
      · have h := h.1 c4
        refine l_ild C dX11_least_35 hl 0 rfl ?_
        refine l_ist C dX11_least_37 hl (by decide) rfl (fun ls hl => ?_)
        have hl : LH ls 7 [(4, .inl r2), (6, .inl r2), (0, .inr (.inl (some b0))), (1, .inl l1), (2, .inl l2), (3, .inl l3), (5, .inl l5)] := hl
        refine l_ald_n (x := some b0) C dX11_least_39 hl 2 rfl rfl ?_
        refine l_ild C dX11_least_40 hl 6 rfl ?_
        refine f_PI C I (fp_X11_375) (by decide) dX11_least_42 (fit_i _) (fun H locs M3 eM3 I => ?_)
        have h := h M3 eM3
        exact b_X11_least_45 C hk8 l1 l2 l3 r2 l5 M3 _ _ _ _ _ h I (hl.sub [2, 3, 4, 5, 0, 6] rfl)
      · have h := h.2 c4
        refine lv_goto (tgt := 45) C.1 C.2.1 dX11_least_32 (by decide) ?_
        exact b_X11_least_45 C hk8 l1 l2 l3 l4 l5 M1 _ _ _ _ _ h I (hl.sub [1, 2, 3, 4, 5, 6] rfl)
def w_X11_least (Q : Int32 → MS → Prop) (p0 : Int32) (p1 : Int32) (p2 : Int32) (M : MS) : Prop := ∃ n, w_X11_least_8 Q n p0 p1 p2 ((1000 : Int32)) ((0 : Int32)) M
theorem pd_X11_least : (parseMethodDescriptor yX11_least.desc).map (fun d => d.parameters.length) = some 3 := by decide +kernel
set_option maxHeartbeats 4000000 in
theorem ct_X11_least {l : Launch} {D : va_G} {T : Nat → ClassId} {Z : Heap} {b0 z0 : Nat} {M0 : MS} {Q : Int32 → MS → Prop} {p0 : Int32} {p1 : Int32} {p2 : Int32} (hw : w_X11_least Q p0 p1 p2 M0) : CT (twd D T Z) (Evd D T Z) l yX11_least (Cond.code yX11_least cX11_least 7 (some .int)) 4 99 [va_rf (some b0), .int p0, .int p1, .int p2] (mG b0 z0 M0) (mq b0 z0 (qI Q)) (fun _ _ => False) := by
  refine CT.ofW (cc := cX11_least) (nL := 7) (ret := (some .int)) Ext.rf (by decide) (Or.inl rfl) ?_
  intro p e s m below meth c hx hb hml hown hr hlk hnm hcb hm hc hn hE I
  have C : Cx p s m meth c D T Z "EndingTownModel" cX11_least 7 (some .int) := ⟨hx, hb, hml, hown, hE, hr, hlk⟩
  refine w_entry [.inr (.inl (some b0)), .inl p0, .inl p1, .inl p2] (Nat.le_of_ble_eq_true rfl) (fun ls hl => ?_)
  have hl : LH ls 7 [(0, .inr (.inl (some b0))), (1, .inl p0), (2, .inl p1), (3, .inl p2)] := hl
  have h := hw
  refine lv_sipush (v := 1000) C.1 C.2.1 dX11_least_0 (by decide) ?_
  refine l_ist C dX11_least_3 hl (by decide) rfl (fun ls hl => ?_)
  have hl : LH ls 7 [(4, .inl ((1000 : Int32))), (0, .inr (.inl (some b0))), (1, .inl p0), (2, .inl p1), (3, .inl p2)] := hl
  refine lv_iconst (v := 0) C.1 C.2.1 dX11_least_5 (by decide) ?_
  refine l_ist C dX11_least_6 hl (by decide) rfl (fun ls hl => ?_)
  have hl : LH ls 7 [(5, .inl ((0 : Int32))), (4, .inl ((1000 : Int32))), (0, .inr (.inl (some b0))), (1, .inl p0), (2, .inl p1), (3, .inl p2)] := hl
  obtain ⟨n, h⟩ := h
  exact b_X11_least_8 C n p0 p1 p2 ((1000 : Int32)) ((0 : Int32)) M0 _ _ _ _ _ h I (hl.sub [2, 3, 4, 5, 1, 0] rfl)
def w_X11_reckons_144 (Q : MS → Prop) (k65 : Int32 → Int32 → Int32 → MS → Prop) (k74 : Int32 → Int32 → Int32 → Int32 → MS → Prop) (k86 : Int32 → Int32 → Int32 → Int32 → Int32 → MS → Prop) (l1 : Int32) (l2 : Int32) (l3 : Int32) (l4 : Int32) (l5 : Int32) (M : MS) : Prop := k86 l1 l2 l3 l4 ((l5 + 1)) M
set_option maxHeartbeats 4000000 in
theorem b_X11_reckons_144 {b0 z0 : Nat} {M0 : MS} {Q : MS → Prop} {k65 : Int32 → Int32 → Int32 → MS → Prop} {k74 : Int32 → Int32 → Int32 → Int32 → MS → Prop} {k86 : Int32 → Int32 → Int32 → Int32 → Int32 → MS → Prop} (C : Cx p s m meth c D T Z "EndingTownModel" cX11_reckons 7 none) (hk65 : ∀ (l1 : Int32) (l2 : Int32) (l3 : Int32) (M : MS) (H : Heap) (locs : List Loc) (cells slots : Nat) (ls : Array Slot), k65 l1 l2 l3 M → HI (twd D T Z) (mG b0 z0 M0) s (rmX (twd D T Z) 5 125 (mG b0 z0 M0)) H locs cells slots (mG b0 z0 M) → LH ls 7 [(0, .inr (.inl (some b0))), (1, .inl l1), (2, .inl l2), (3, .inl l3)] → W p l e (rmX (twd D T Z) 5 125 (mG b0 z0 M0)) s m args below meth c H locs cells slots (MQX (twd D T Z) (mG b0 z0 M0) (mq b0 z0 (qV Q)) (fun _ _ => False) below s) (F0 m 65 ls [])) (hk74 : ∀ (l1 : Int32) (l2 : Int32) (l3 : Int32) (l4 : Int32) (M : MS) (H : Heap) (locs : List Loc) (cells slots : Nat) (ls : Array Slot), k74 l1 l2 l3 l4 M → HI (twd D T Z) (mG b0 z0 M0) s (rmX (twd D T Z) 5 125 (mG b0 z0 M0)) H locs cells slots (mG b0 z0 M) → LH ls 7 [(0, .inr (.inl (some b0))), (1, .inl l1), (2, .inl l2), (3, .inl l3), (4, .inl l4)] → W p l e (rmX (twd D T Z) 5 125 (mG b0 z0 M0)) s m args below meth c H locs cells slots (MQX (twd D T Z) (mG b0 z0 M0) (mq b0 z0 (qV Q)) (fun _ _ => False) below s) (F0 m 74 ls [])) (hk86 : ∀ (l1 : Int32) (l2 : Int32) (l3 : Int32) (l4 : Int32) (l5 : Int32) (M : MS) (H : Heap) (locs : List Loc) (cells slots : Nat) (ls : Array Slot), k86 l1 l2 l3 l4 l5 M → HI (twd D T Z) (mG b0 z0 M0) s (rmX (twd D T Z) 5 125 (mG b0 z0 M0)) H locs cells slots (mG b0 z0 M) → LH ls 7 [(0, .inr (.inl (some b0))), (1, .inl l1), (2, .inl l2), (3, .inl l3), (4, .inl l4), (5, .inl l5)] → W p l e (rmX (twd D T Z) 5 125 (mG b0 z0 M0)) s m args below meth c H locs cells slots (MQX (twd D T Z) (mG b0 z0 M0) (mq b0 z0 (qV Q)) (fun _ _ => False) below s) (F0 m 86 ls [])) : ∀ (l1 : Int32) (l2 : Int32) (l3 : Int32) (l4 : Int32) (l5 : Int32) (M : MS) (H : Heap) (locs : List Loc) (cells slots : Nat) (ls : Array Slot), w_X11_reckons_144 Q k65 k74 k86 l1 l2 l3 l4 l5 M → HI (twd D T Z) (mG b0 z0 M0) s (rmX (twd D T Z) 5 125 (mG b0 z0 M0)) H locs cells slots (mG b0 z0 M) → LH ls 7 [(0, .inr (.inl (some b0))), (1, .inl l1), (2, .inl l2), (3, .inl l3), (4, .inl l4), (5, .inl l5)] → W p l e (rmX (twd D T Z) 5 125 (mG b0 z0 M0)) s m args below meth c H locs cells slots (MQX (twd D T Z) (mG b0 z0 M0) (mq b0 z0 (qV Q)) (fun _ _ => False) below s) (F0 m 144 ls []) := by
  intro l1 l2 l3 l4 l5 M H locs cells slots ls h I hl
  refine l_inc (q := 5) (v := 1) C dX11_reckons_144 hl rfl (by decide) (by decide) rfl (fun ls hl => ?_)
  have hl : LH ls 7 [(5, .inl ((l5 + 1))), (0, .inr (.inl (some b0))), (1, .inl l1), (2, .inl l2), (3, .inl l3), (4, .inl l4)] := hl
  refine lv_goto (tgt := 86) C.1 C.2.1 dX11_reckons_147 (by decide) ?_
  exact hk86 l1 l2 l3 l4 ((l5 + 1)) M _ _ _ _ _ h I (hl.sub [1, 2, 3, 4, 5, 0] rfl)
def w_X11_reckons_86 (Q : MS → Prop) (k65 : Int32 → Int32 → Int32 → MS → Prop) (k74 : Int32 → Int32 → Int32 → Int32 → MS → Prop) : Nat → Int32 → Int32 → Int32 → Int32 → Int32 → MS → Prop
  | 0 => fun _ _ _ _ _ _ => False
  | f86 + 1 => fun l1 l2 l3 l4 l5 M => ((mF M 5 ≤ l5) → (k74 l1 l2 l3 ((l4 + 1)) M)) ∧ ((¬ mF M 5 ≤ l5) → (w_X11_least (fun r2 M1 => vp_in ((((8 : Int32) * l4) + l5)) (mlen 58) ∧ ((r2 < mA M1 58 ((((8 : Int32) * l4) + l5)).toNatClampNeg) → (vp_in ((((8 : Int32) * l4) + l5)) (mlen 58) ∧ ∀ M3 : MS, M3 = sA M1 58 ((((8 : Int32) * l4) + l5)).toNatClampNeg r2 → w_X11_reckons_144 Q k65 k74 (w_X11_reckons_86 Q k65 k74 f86) l1 l2 ((1 : Int32)) l4 l5 M3)) ∧ ((¬ r2 < mA M1 58 ((((8 : Int32) * l4) + l5)).toNatClampNeg) → (w_X11_reckons_144 Q k65 k74 (w_X11_reckons_86 Q k65 k74 f86) l1 l2 l3 l4 l5 M1))) l4 l5 ((0 : Int32)) M))
set_option maxHeartbeats 4000000 in
theorem b_X11_reckons_86 {b0 z0 : Nat} {M0 : MS} {Q : MS → Prop} {k65 : Int32 → Int32 → Int32 → MS → Prop} {k74 : Int32 → Int32 → Int32 → Int32 → MS → Prop} (C : Cx p s m meth c D T Z "EndingTownModel" cX11_reckons 7 none) (hk65 : ∀ (l1 : Int32) (l2 : Int32) (l3 : Int32) (M : MS) (H : Heap) (locs : List Loc) (cells slots : Nat) (ls : Array Slot), k65 l1 l2 l3 M → HI (twd D T Z) (mG b0 z0 M0) s (rmX (twd D T Z) 5 125 (mG b0 z0 M0)) H locs cells slots (mG b0 z0 M) → LH ls 7 [(0, .inr (.inl (some b0))), (1, .inl l1), (2, .inl l2), (3, .inl l3)] → W p l e (rmX (twd D T Z) 5 125 (mG b0 z0 M0)) s m args below meth c H locs cells slots (MQX (twd D T Z) (mG b0 z0 M0) (mq b0 z0 (qV Q)) (fun _ _ => False) below s) (F0 m 65 ls [])) (hk74 : ∀ (l1 : Int32) (l2 : Int32) (l3 : Int32) (l4 : Int32) (M : MS) (H : Heap) (locs : List Loc) (cells slots : Nat) (ls : Array Slot), k74 l1 l2 l3 l4 M → HI (twd D T Z) (mG b0 z0 M0) s (rmX (twd D T Z) 5 125 (mG b0 z0 M0)) H locs cells slots (mG b0 z0 M) → LH ls 7 [(0, .inr (.inl (some b0))), (1, .inl l1), (2, .inl l2), (3, .inl l3), (4, .inl l4)] → W p l e (rmX (twd D T Z) 5 125 (mG b0 z0 M0)) s m args below meth c H locs cells slots (MQX (twd D T Z) (mG b0 z0 M0) (mq b0 z0 (qV Q)) (fun _ _ => False) below s) (F0 m 74 ls [])) : ∀ (n : Nat) (l1 : Int32) (l2 : Int32) (l3 : Int32) (l4 : Int32) (l5 : Int32) (M : MS) (H : Heap) (locs : List Loc) (cells slots : Nat) (ls : Array Slot), w_X11_reckons_86 Q k65 k74 n l1 l2 l3 l4 l5 M → HI (twd D T Z) (mG b0 z0 M0) s (rmX (twd D T Z) 5 125 (mG b0 z0 M0)) H locs cells slots (mG b0 z0 M) → LH ls 7 [(0, .inr (.inl (some b0))), (1, .inl l1), (2, .inl l2), (3, .inl l3), (4, .inl l4), (5, .inl l5)] → W p l e (rmX (twd D T Z) 5 125 (mG b0 z0 M0)) s m args below meth c H locs cells slots (MQX (twd D T Z) (mG b0 z0 M0) (mq b0 z0 (qV Q)) (fun _ _ => False) below s) (F0 m 86 ls []) := by
  intro n
  induction n with
  | zero => intro l1 l2 l3 l4 l5 M H locs cells slots ls h; exact (show False from h).elim
  | succ n ih =>
    intro l1 l2 l3 l4 l5 M H locs cells slots ls h I hl
    have hk86 := ih
    refine l_ild C dX11_reckons_86 hl 5 rfl ?_
    refine l_ald_n (x := some b0) C dX11_reckons_88 hl 0 rfl rfl ?_
    refine f_I C I (fl_X11_269) (by decide) dX11_reckons_89 ?_
    refine lv_icmp_ge (tgt := 150) C.1 C.2.1 dX11_reckons_92 (by decide) (fun c5 => ?_) (fun c5 => ?_)
    · have h := h.1 c5
      refine l_inc (q := 4) (v := 1) C dX11_reckons_150 hl rfl (by decide) (by decide) rfl (fun ls hl => ?_)
      have hl : LH ls 7 [(4, .inl ((l4 + 1))), (0, .inr (.inl (some b0))), (1, .inl l1), (2, .inl l2), (3, .inl l3), (5, .inl l5)] := hl
      refine lv_goto (tgt := 74) C.1 C.2.1 dX11_reckons_153 (by decide) ?_
      exact hk74 l1 l2 l3 ((l4 + 1)) M _ _ _ _ _ h I (hl.sub [1, 2, 3, 4, 0] rfl)
    · have h := h.2 c5
      refine l_ald_n (x := some b0) C dX11_reckons_95 hl 0 rfl rfl ?_
      refine l_ild C dX11_reckons_96 hl 4 rfl ?_
      refine l_ild C dX11_reckons_98 hl 5 rfl ?_
      refine lv_iconst (v := 0) C.1 C.2.1 dX11_reckons_100 (by decide) ?_
      refine k_call Ext.tr C I (k_V (r := some b0) (As := [.int l4, .int l5, .int ((0 : Int32))]) (rest := []) (y := yX11_least) C (f_recv C I) q1809 q1811 qs83 (Or.inl rfl) q1812 (by decide) rfl pd_X11_least rfl dX11_reckons_101) (ct_X11_least h) hl.1 dX11_reckons_101 [] rfl (Nat.le_of_ble_eq_true rfl) (Or.inl rfl) q1812 q113 ⟨Nat.le_of_ble_eq_true rfl, Nat.le_of_ble_eq_true rfl⟩ (fun v x1 H locs cells slots ex hq I => ?_) (fun a x1 H locs cells slots ex hq I => hq.elim)
      obtain ⟨M1, rfl, r2, rfl, h⟩ := hq
      refine l_ist C dX11_reckons_104 hl (by decide) rfl (fun ls hl => ?_)
      have hl : LH ls 7 [(6, .inl r2), (0, .inr (.inl (some b0))), (1, .inl l1), (2, .inl l2), (3, .inl l3), (4, .inl l4), (5, .inl l5)] := hl
      refine l_ild C dX11_reckons_106 hl 0 rfl ?_
      refine l_ald_n (x := some b0) C dX11_reckons_108 hl 1 rfl rfl ?_
      refine f_A C I (fl_X11_104) (by decide) (by decide) dX11_reckons_109 ?_
      refine lv_bipush (v := 8) C.1 C.2.1 dX11_reckons_112 (by decide) ?_
      refine l_ild C dX11_reckons_114 hl 5 rfl ?_
      refine lv_imul C.1 C.2.1 dX11_reckons_116 ?_
      refine l_ild C dX11_reckons_117 hl 6 rfl ?_
      refine lv_iadd C.1 C.2.1 dX11_reckons_119 ?_
      obtain ⟨hi, h⟩ := h
      refine f_ld (k := 58) C I (by decide) hi dX11_reckons_120 ?_
      refine lv_icmp_lt (tgt := 127) C.1 C.2.1 dX11_reckons_121 (by decide) (fun c4 => ?_) (fun c4 => ?_)
      · have h := h.1 c4
        refine l_ald_n (x := some b0) C dX11_reckons_127 hl 1 rfl rfl ?_
        refine f_A C I (fl_X11_104) (by decide) (by decide) dX11_reckons_128 ?_
        refine lv_bipush (v := 8) C.1 C.2.1 dX11_reckons_131 (by decide) ?_
        refine l_ild C dX11_reckons_133 hl 5 rfl ?_
        refine lv_imul C.1 C.2.1 dX11_reckons_135 ?_
        refine l_ild C dX11_reckons_136 hl 6 rfl ?_
        refine lv_iadd C.1 C.2.1 dX11_reckons_138 ?_
        refine l_ild C dX11_reckons_139 hl 0 rfl ?_
        obtain ⟨hi, h⟩ := h
        refine f_st (k := 58) C I (by decide) hi dX11_reckons_141 (fun H locs M3 eM3 I => ?_)
        have h := h M3 eM3
        refine lv_iconst (v := 1) C.1 C.2.1 dX11_reckons_142 (by decide) ?_
        refine l_ist_n C dX11_reckons_143 rfl hl (by decide) rfl (fun ls hl => ?_)
        have hl : LH ls 7 [(3, .inl ((1 : Int32))), (6, .inl r2), (0, .inr (.inl (some b0))), (1, .inl l1), (2, .inl l2), (4, .inl l4), (5, .inl l5)] := hl
        exact b_X11_reckons_144 C hk65 hk74 hk86 l1 l2 ((1 : Int32)) l4 l5 M3 _ _ _ _ _ h I (hl.sub [2, 3, 4, 0, 5, 6] rfl)
      · have h := h.2 c4
        refine lv_goto (tgt := 144) C.1 C.2.1 dX11_reckons_124 (by decide) ?_
        exact b_X11_reckons_144 C hk65 hk74 hk86 l1 l2 l3 l4 l5 M1 _ _ _ _ _ h I (hl.sub [1, 2, 3, 4, 5, 6] rfl)
def w_X11_reckons_295 (Q : MS → Prop) (k65 : Int32 → Int32 → Int32 → MS → Prop) (k159 : Int32 → Int32 → Int32 → Int32 → MS → Prop) (l1 : Int32) (l2 : Int32) (l3 : Int32) (l4 : Int32) (M : MS) : Prop := k159 l1 l2 l3 ((l4 + 1)) M
set_option maxHeartbeats 4000000 in
theorem b_X11_reckons_295 {b0 z0 : Nat} {M0 : MS} {Q : MS → Prop} {k65 : Int32 → Int32 → Int32 → MS → Prop} {k159 : Int32 → Int32 → Int32 → Int32 → MS → Prop} (C : Cx p s m meth c D T Z "EndingTownModel" cX11_reckons 7 none) (hk65 : ∀ (l1 : Int32) (l2 : Int32) (l3 : Int32) (M : MS) (H : Heap) (locs : List Loc) (cells slots : Nat) (ls : Array Slot), k65 l1 l2 l3 M → HI (twd D T Z) (mG b0 z0 M0) s (rmX (twd D T Z) 5 125 (mG b0 z0 M0)) H locs cells slots (mG b0 z0 M) → LH ls 7 [(0, .inr (.inl (some b0))), (1, .inl l1), (2, .inl l2), (3, .inl l3)] → W p l e (rmX (twd D T Z) 5 125 (mG b0 z0 M0)) s m args below meth c H locs cells slots (MQX (twd D T Z) (mG b0 z0 M0) (mq b0 z0 (qV Q)) (fun _ _ => False) below s) (F0 m 65 ls [])) (hk159 : ∀ (l1 : Int32) (l2 : Int32) (l3 : Int32) (l4 : Int32) (M : MS) (H : Heap) (locs : List Loc) (cells slots : Nat) (ls : Array Slot), k159 l1 l2 l3 l4 M → HI (twd D T Z) (mG b0 z0 M0) s (rmX (twd D T Z) 5 125 (mG b0 z0 M0)) H locs cells slots (mG b0 z0 M) → LH ls 7 [(0, .inr (.inl (some b0))), (1, .inl l1), (2, .inl l2), (3, .inl l3), (4, .inl l4)] → W p l e (rmX (twd D T Z) 5 125 (mG b0 z0 M0)) s m args below meth c H locs cells slots (MQX (twd D T Z) (mG b0 z0 M0) (mq b0 z0 (qV Q)) (fun _ _ => False) below s) (F0 m 159 ls [])) : ∀ (l1 : Int32) (l2 : Int32) (l3 : Int32) (l4 : Int32) (M : MS) (H : Heap) (locs : List Loc) (cells slots : Nat) (ls : Array Slot), w_X11_reckons_295 Q k65 k159 l1 l2 l3 l4 M → HI (twd D T Z) (mG b0 z0 M0) s (rmX (twd D T Z) 5 125 (mG b0 z0 M0)) H locs cells slots (mG b0 z0 M) → LH ls 7 [(0, .inr (.inl (some b0))), (1, .inl l1), (2, .inl l2), (3, .inl l3), (4, .inl l4)] → W p l e (rmX (twd D T Z) 5 125 (mG b0 z0 M0)) s m args below meth c H locs cells slots (MQX (twd D T Z) (mG b0 z0 M0) (mq b0 z0 (qV Q)) (fun _ _ => False) below s) (F0 m 295 ls []) := by
  intro l1 l2 l3 l4 M H locs cells slots ls h I hl
  refine l_inc (q := 4) (v := 1) C dX11_reckons_295 hl rfl (by decide) (by decide) rfl (fun ls hl => ?_)
  have hl : LH ls 7 [(4, .inl ((l4 + 1))), (0, .inr (.inl (some b0))), (1, .inl l1), (2, .inl l2), (3, .inl l3)] := hl
  refine lv_goto (tgt := 159) C.1 C.2.1 dX11_reckons_298 (by decide) ?_
  exact hk159 l1 l2 l3 ((l4 + 1)) M _ _ _ _ _ h I (hl.sub [1, 2, 3, 4, 0] rfl)
def w_X11_reckons_267 (Q : MS → Prop) (k65 : Int32 → Int32 → Int32 → MS → Prop) (k159 : Int32 → Int32 → Int32 → Int32 → MS → Prop) (l1 : Int32) (l2 : Int32) (l3 : Int32) (l4 : Int32) (t0 : Int32) (M : MS) : Prop := vp_in l4 (mlen 53) ∧ ((t0 < mA M 53 l4.toNatClampNeg) → (vp_in l4 (mlen 53) ∧ ∀ M1 : MS, M1 = sA M 53 l4.toNatClampNeg t0 → w_X11_reckons_295 Q k65 k159 l1 l2 ((1 : Int32)) l4 M1)) ∧ ((¬ t0 < mA M 53 l4.toNatClampNeg) → (w_X11_reckons_295 Q k65 k159 l1 l2 l3 l4 M))
set_option maxHeartbeats 4000000 in
theorem b_X11_reckons_267 {b0 z0 : Nat} {M0 : MS} {Q : MS → Prop} {k65 : Int32 → Int32 → Int32 → MS → Prop} {k159 : Int32 → Int32 → Int32 → Int32 → MS → Prop} (C : Cx p s m meth c D T Z "EndingTownModel" cX11_reckons 7 none) (hk65 : ∀ (l1 : Int32) (l2 : Int32) (l3 : Int32) (M : MS) (H : Heap) (locs : List Loc) (cells slots : Nat) (ls : Array Slot), k65 l1 l2 l3 M → HI (twd D T Z) (mG b0 z0 M0) s (rmX (twd D T Z) 5 125 (mG b0 z0 M0)) H locs cells slots (mG b0 z0 M) → LH ls 7 [(0, .inr (.inl (some b0))), (1, .inl l1), (2, .inl l2), (3, .inl l3)] → W p l e (rmX (twd D T Z) 5 125 (mG b0 z0 M0)) s m args below meth c H locs cells slots (MQX (twd D T Z) (mG b0 z0 M0) (mq b0 z0 (qV Q)) (fun _ _ => False) below s) (F0 m 65 ls [])) (hk159 : ∀ (l1 : Int32) (l2 : Int32) (l3 : Int32) (l4 : Int32) (M : MS) (H : Heap) (locs : List Loc) (cells slots : Nat) (ls : Array Slot), k159 l1 l2 l3 l4 M → HI (twd D T Z) (mG b0 z0 M0) s (rmX (twd D T Z) 5 125 (mG b0 z0 M0)) H locs cells slots (mG b0 z0 M) → LH ls 7 [(0, .inr (.inl (some b0))), (1, .inl l1), (2, .inl l2), (3, .inl l3), (4, .inl l4)] → W p l e (rmX (twd D T Z) 5 125 (mG b0 z0 M0)) s m args below meth c H locs cells slots (MQX (twd D T Z) (mG b0 z0 M0) (mq b0 z0 (qV Q)) (fun _ _ => False) below s) (F0 m 159 ls [])) : ∀ (l1 : Int32) (l2 : Int32) (l3 : Int32) (l4 : Int32) (t0 : Int32) (M : MS) (H : Heap) (locs : List Loc) (cells slots : Nat) (ls : Array Slot), w_X11_reckons_267 Q k65 k159 l1 l2 l3 l4 t0 M → HI (twd D T Z) (mG b0 z0 M0) s (rmX (twd D T Z) 5 125 (mG b0 z0 M0)) H locs cells slots (mG b0 z0 M) → LH ls 7 [(0, .inr (.inl (some b0))), (1, .inl l1), (2, .inl l2), (3, .inl l3), (4, .inl l4)] → W p l e (rmX (twd D T Z) 5 125 (mG b0 z0 M0)) s m args below meth c H locs cells slots (MQX (twd D T Z) (mG b0 z0 M0) (mq b0 z0 (qV Q)) (fun _ _ => False) below s) (F0 m 267 ls [.int t0]) := by
  intro l1 l2 l3 l4 t0 M H locs cells slots ls h I hl
  refine l_ist C dX11_reckons_267 hl (by decide) rfl (fun ls hl => ?_)
  have hl : LH ls 7 [(6, .inl t0), (0, .inr (.inl (some b0))), (1, .inl l1), (2, .inl l2), (3, .inl l3), (4, .inl l4)] := hl
  refine l_ild C dX11_reckons_269 hl 0 rfl ?_
  refine l_ald_n (x := some b0) C dX11_reckons_271 hl 1 rfl rfl ?_
  refine f_A C I (fl_X11_89) (by decide) (by decide) dX11_reckons_272 ?_
  refine l_ild C dX11_reckons_275 hl 5 rfl ?_
  obtain ⟨hi, h⟩ := h
  refine f_ld (k := 53) C I (by decide) hi dX11_reckons_277 ?_
  refine lv_icmp_lt (tgt := 284) C.1 C.2.1 dX11_reckons_278 (by decide) (fun c2 => ?_) (fun c2 => ?_)
  · have h := h.1 c2
    refine l_ald_n (x := some b0) C dX11_reckons_284 hl 1 rfl rfl ?_
    refine f_A C I (fl_X11_89) (by decide) (by decide) dX11_reckons_285 ?_
    refine l_ild C dX11_reckons_288 hl 5 rfl ?_
    refine l_ild C dX11_reckons_290 hl 0 rfl ?_
    obtain ⟨hi, h⟩ := h
    refine f_st (k := 53) C I (by decide) hi dX11_reckons_292 (fun H locs M1 eM1 I => ?_)
    have h := h M1 eM1
    refine lv_iconst (v := 1) C.1 C.2.1 dX11_reckons_293 (by decide) ?_
    refine l_ist_n C dX11_reckons_294 rfl hl (by decide) rfl (fun ls hl => ?_)
    have hl : LH ls 7 [(3, .inl ((1 : Int32))), (6, .inl t0), (0, .inr (.inl (some b0))), (1, .inl l1), (2, .inl l2), (4, .inl l4)] := hl
    exact b_X11_reckons_295 C hk65 hk159 l1 l2 ((1 : Int32)) l4 M1 _ _ _ _ _ h I (hl.sub [2, 3, 4, 0, 5] rfl)
  · have h := h.2 c2
    refine lv_goto (tgt := 295) C.1 C.2.1 dX11_reckons_281 (by decide) ?_
    exact b_X11_reckons_295 C hk65 hk159 l1 l2 l3 l4 M _ _ _ _ _ h I (hl.sub [1, 2, 3, 4, 5] rfl)
def w_X11_reckons_200 (Q : MS → Prop) (k65 : Int32 → Int32 → Int32 → MS → Prop) (k159 : Int32 → Int32 → Int32 → Int32 → MS → Prop) (l1 : Int32) (l2 : Int32) (l3 : Int32) (l4 : Int32) (t0 : Int32) (M : MS) : Prop := ((t0 = 0) → (vp_in l4 (mlen 57) ∧ w_X11_of (fun r2 M1 => w_X11_of (fun r4 M3 => w_X11_of (fun r6 M5 => w_X11_byHow (fun r8 M7 => w_X11_reckons_267 Q k65 k159 l1 l2 l3 l4 r8 M7) (mA M 57 l4.toNatClampNeg) r2 r4 r6 M5) l4 ((3 : Int32)) M3) l4 ((4 : Int32)) M1) l4 ((2 : Int32)) M)) ∧ ((¬ t0 = 0) → (vp_in l4 (mlen 57) ∧ w_X11_of (fun r10 M9 => w_X11_of (fun r12 M11 => w_X11_least (fun r14 M13 => w_X11_reckons_267 Q k65 k159 l1 l2 l3 l4 r14 M13) (mA M 57 l4.toNatClampNeg) r10 r12 M11) l4 ((4 : Int32)) M9) l4 ((2 : Int32)) M))
set_option maxHeartbeats 4000000 in
theorem b_X11_reckons_200 {b0 z0 : Nat} {M0 : MS} {Q : MS → Prop} {k65 : Int32 → Int32 → Int32 → MS → Prop} {k159 : Int32 → Int32 → Int32 → Int32 → MS → Prop} (C : Cx p s m meth c D T Z "EndingTownModel" cX11_reckons 7 none) (hk65 : ∀ (l1 : Int32) (l2 : Int32) (l3 : Int32) (M : MS) (H : Heap) (locs : List Loc) (cells slots : Nat) (ls : Array Slot), k65 l1 l2 l3 M → HI (twd D T Z) (mG b0 z0 M0) s (rmX (twd D T Z) 5 125 (mG b0 z0 M0)) H locs cells slots (mG b0 z0 M) → LH ls 7 [(0, .inr (.inl (some b0))), (1, .inl l1), (2, .inl l2), (3, .inl l3)] → W p l e (rmX (twd D T Z) 5 125 (mG b0 z0 M0)) s m args below meth c H locs cells slots (MQX (twd D T Z) (mG b0 z0 M0) (mq b0 z0 (qV Q)) (fun _ _ => False) below s) (F0 m 65 ls [])) (hk159 : ∀ (l1 : Int32) (l2 : Int32) (l3 : Int32) (l4 : Int32) (M : MS) (H : Heap) (locs : List Loc) (cells slots : Nat) (ls : Array Slot), k159 l1 l2 l3 l4 M → HI (twd D T Z) (mG b0 z0 M0) s (rmX (twd D T Z) 5 125 (mG b0 z0 M0)) H locs cells slots (mG b0 z0 M) → LH ls 7 [(0, .inr (.inl (some b0))), (1, .inl l1), (2, .inl l2), (3, .inl l3), (4, .inl l4)] → W p l e (rmX (twd D T Z) 5 125 (mG b0 z0 M0)) s m args below meth c H locs cells slots (MQX (twd D T Z) (mG b0 z0 M0) (mq b0 z0 (qV Q)) (fun _ _ => False) below s) (F0 m 159 ls [])) : ∀ (l1 : Int32) (l2 : Int32) (l3 : Int32) (l4 : Int32) (t0 : Int32) (M : MS) (H : Heap) (locs : List Loc) (cells slots : Nat) (ls : Array Slot), w_X11_reckons_200 Q k65 k159 l1 l2 l3 l4 t0 M → HI (twd D T Z) (mG b0 z0 M0) s (rmX (twd D T Z) 5 125 (mG b0 z0 M0)) H locs cells slots (mG b0 z0 M) → LH ls 7 [(0, .inr (.inl (some b0))), (1, .inl l1), (2, .inl l2), (3, .inl l3), (4, .inl l4)] → W p l e (rmX (twd D T Z) 5 125 (mG b0 z0 M0)) s m args below meth c H locs cells slots (MQX (twd D T Z) (mG b0 z0 M0) (mq b0 z0 (qV Q)) (fun _ _ => False) below s) (F0 m 200 ls [.int t0]) := by
  intro l1 l2 l3 l4 t0 M H locs cells slots ls h I hl
  refine l_ist C dX11_reckons_200 hl (by decide) rfl (fun ls hl => ?_)
  have hl : LH ls 7 [(5, .inl t0), (0, .inr (.inl (some b0))), (1, .inl l1), (2, .inl l2), (3, .inl l3), (4, .inl l4)] := hl
  refine l_ild C dX11_reckons_202 hl 0 rfl ?_
  refine lv_if_eq (tgt := 235) C.1 C.2.1 dX11_reckons_204 (by decide) (fun c15 => ?_) (fun c15 => ?_)
  · have h := h.1 c15
    refine l_ald_n (x := some b0) C dX11_reckons_235 hl 1 rfl rfl ?_
    refine l_ald_n (x := some b0) C dX11_reckons_236 hl 1 rfl rfl ?_
    refine f_A C I (fl_X11_101) (by decide) (by decide) dX11_reckons_237 ?_
    refine l_ild C dX11_reckons_240 hl 5 rfl ?_
    obtain ⟨hi, h⟩ := h
    refine f_ld (k := 57) C I (by decide) hi dX11_reckons_242 ?_
    refine l_ald_n (x := some b0) C dX11_reckons_243 hl 1 rfl rfl ?_
    refine l_ild C dX11_reckons_244 hl 5 rfl ?_
    refine lv_iconst (v := 2) C.1 C.2.1 dX11_reckons_246 (by decide) ?_
    refine k_call Ext.tr C I (k_V (r := some b0) (As := [.int l4, .int ((2 : Int32))]) (rest := [.int (mA M 57 l4.toNatClampNeg), va_rf (some b0)]) (y := yX11_of) C (f_recv C I) q1789 q1791 qs78 (Or.inl rfl) q1792 (by decide) rfl pd_X11_of rfl dX11_reckons_247) (ct_X11_of h) hl.1 dX11_reckons_247 [.inl (mA M 57 l4.toNatClampNeg), .inr (.inl (some b0))] rfl (Nat.le_of_ble_eq_true rfl) (Or.inl rfl) q1792 q113 ⟨Nat.le_of_ble_eq_true rfl, Nat.le_of_ble_eq_true rfl⟩ (fun v x1 H locs cells slots ex hq I => ?_) (fun a x1 H locs cells slots ex hq I => hq.elim)
    obtain ⟨M1, rfl, r2, rfl, h⟩ := hq
    refine l_ald_n (x := some b0) C dX11_reckons_250 hl 1 rfl rfl ?_
    refine l_ild C dX11_reckons_251 hl 5 rfl ?_
    refine lv_iconst (v := 4) C.1 C.2.1 dX11_reckons_253 (by decide) ?_
    refine k_call Ext.tr C I (k_V (r := some b0) (As := [.int l4, .int ((4 : Int32))]) (rest := [.int r2, .int (mA M 57 l4.toNatClampNeg), va_rf (some b0)]) (y := yX11_of) C (f_recv C I) q1789 q1791 qs78 (Or.inl rfl) q1792 (by decide) rfl pd_X11_of rfl dX11_reckons_254) (ct_X11_of h) hl.1 dX11_reckons_254 [.inl r2, .inl (mA M 57 l4.toNatClampNeg), .inr (.inl (some b0))] rfl (Nat.le_of_ble_eq_true rfl) (Or.inl rfl) q1792 q113 ⟨Nat.le_of_ble_eq_true rfl, Nat.le_of_ble_eq_true rfl⟩ (fun v x1 H locs cells slots ex hq I => ?_) (fun a x1 H locs cells slots ex hq I => hq.elim)
    obtain ⟨M3, rfl, r4, rfl, h⟩ := hq
    refine l_ald_n (x := some b0) C dX11_reckons_257 hl 1 rfl rfl ?_
    refine l_ild C dX11_reckons_258 hl 5 rfl ?_
    refine lv_iconst (v := 3) C.1 C.2.1 dX11_reckons_260 (by decide) ?_
    refine k_call Ext.tr C I (k_V (r := some b0) (As := [.int l4, .int ((3 : Int32))]) (rest := [.int r4, .int r2, .int (mA M 57 l4.toNatClampNeg), va_rf (some b0)]) (y := yX11_of) C (f_recv C I) q1789 q1791 qs78 (Or.inl rfl) q1792 (by decide) rfl pd_X11_of rfl dX11_reckons_261) (ct_X11_of h) hl.1 dX11_reckons_261 [.inl r4, .inl r2, .inl (mA M 57 l4.toNatClampNeg), .inr (.inl (some b0))] rfl (Nat.le_of_ble_eq_true rfl) (Or.inl rfl) q1792 q113 ⟨Nat.le_of_ble_eq_true rfl, Nat.le_of_ble_eq_true rfl⟩ (fun v x1 H locs cells slots ex hq I => ?_) (fun a x1 H locs cells slots ex hq I => hq.elim)
    obtain ⟨M5, rfl, r6, rfl, h⟩ := hq
    refine k_call Ext.tr C I (k_V (r := some b0) (As := [.int (mA M 57 l4.toNatClampNeg), .int r2, .int r4, .int r6]) (rest := []) (y := yX11_byHow) C (f_recv C I) q1813 q1815 qs84 (Or.inl rfl) q1816 (by decide) rfl pd_X11_byHow rfl dX11_reckons_264) (ct_X11_byHow h) hl.1 dX11_reckons_264 [] rfl (Nat.le_of_ble_eq_true rfl) (Or.inl rfl) q1816 q113 ⟨Nat.le_of_ble_eq_true rfl, Nat.le_of_ble_eq_true rfl⟩ (fun v x1 H locs cells slots ex hq I => ?_) (fun a x1 H locs cells slots ex hq I => hq.elim)
    obtain ⟨M7, rfl, r8, rfl, h⟩ := hq
    exact b_X11_reckons_267 C hk65 hk159 l1 l2 l3 l4 r8 M7 _ _ _ _ _ h I (hl.sub [1, 2, 3, 4, 5] rfl)
  · have h := h.2 c15
    refine l_ald_n (x := some b0) C dX11_reckons_207 hl 1 rfl rfl ?_
    refine l_ald_n (x := some b0) C dX11_reckons_208 hl 1 rfl rfl ?_
    refine f_A C I (fl_X11_101) (by decide) (by decide) dX11_reckons_209 ?_
    refine l_ild C dX11_reckons_212 hl 5 rfl ?_
    obtain ⟨hi, h⟩ := h
    refine f_ld (k := 57) C I (by decide) hi dX11_reckons_214 ?_
    refine l_ald_n (x := some b0) C dX11_reckons_215 hl 1 rfl rfl ?_
    refine l_ild C dX11_reckons_216 hl 5 rfl ?_
    refine lv_iconst (v := 2) C.1 C.2.1 dX11_reckons_218 (by decide) ?_
    refine k_call Ext.tr C I (k_V (r := some b0) (As := [.int l4, .int ((2 : Int32))]) (rest := [.int (mA M 57 l4.toNatClampNeg), va_rf (some b0)]) (y := yX11_of) C (f_recv C I) q1789 q1791 qs78 (Or.inl rfl) q1792 (by decide) rfl pd_X11_of rfl dX11_reckons_219) (ct_X11_of h) hl.1 dX11_reckons_219 [.inl (mA M 57 l4.toNatClampNeg), .inr (.inl (some b0))] rfl (Nat.le_of_ble_eq_true rfl) (Or.inl rfl) q1792 q113 ⟨Nat.le_of_ble_eq_true rfl, Nat.le_of_ble_eq_true rfl⟩ (fun v x1 H locs cells slots ex hq I => ?_) (fun a x1 H locs cells slots ex hq I => hq.elim)
    obtain ⟨M9, rfl, r10, rfl, h⟩ := hq
    refine l_ald_n (x := some b0) C dX11_reckons_222 hl 1 rfl rfl ?_
    refine l_ild C dX11_reckons_223 hl 5 rfl ?_
    refine lv_iconst (v := 4) C.1 C.2.1 dX11_reckons_225 (by decide) ?_
    refine k_call Ext.tr C I (k_V (r := some b0) (As := [.int l4, .int ((4 : Int32))]) (rest := [.int r10, .int (mA M 57 l4.toNatClampNeg), va_rf (some b0)]) (y := yX11_of) C (f_recv C I) q1789 q1791 qs78 (Or.inl rfl) q1792 (by decide) rfl pd_X11_of rfl dX11_reckons_226) (ct_X11_of h) hl.1 dX11_reckons_226 [.inl r10, .inl (mA M 57 l4.toNatClampNeg), .inr (.inl (some b0))] rfl (Nat.le_of_ble_eq_true rfl) (Or.inl rfl) q1792 q113 ⟨Nat.le_of_ble_eq_true rfl, Nat.le_of_ble_eq_true rfl⟩ (fun v x1 H locs cells slots ex hq I => ?_) (fun a x1 H locs cells slots ex hq I => hq.elim)
    obtain ⟨M11, rfl, r12, rfl, h⟩ := hq
    refine k_call Ext.tr C I (k_V (r := some b0) (As := [.int (mA M 57 l4.toNatClampNeg), .int r10, .int r12]) (rest := []) (y := yX11_least) C (f_recv C I) q1809 q1811 qs83 (Or.inl rfl) q1812 (by decide) rfl pd_X11_least rfl dX11_reckons_229) (ct_X11_least h) hl.1 dX11_reckons_229 [] rfl (Nat.le_of_ble_eq_true rfl) (Or.inl rfl) q1812 q113 ⟨Nat.le_of_ble_eq_true rfl, Nat.le_of_ble_eq_true rfl⟩ (fun v x1 H locs cells slots ex hq I => ?_) (fun a x1 H locs cells slots ex hq I => hq.elim)
    obtain ⟨M13, rfl, r14, rfl, h⟩ := hq
    refine lv_goto (tgt := 267) C.1 C.2.1 dX11_reckons_232 (by decide) ?_
    exact b_X11_reckons_267 C hk65 hk159 l1 l2 l3 l4 r14 M13 _ _ _ _ _ h I (hl.sub [1, 2, 3, 4, 5] rfl)
def w_X11_reckons_159 (Q : MS → Prop) (k65 : Int32 → Int32 → Int32 → MS → Prop) : Nat → Int32 → Int32 → Int32 → Int32 → MS → Prop
  | 0 => fun _ _ _ _ _ => False
  | f159 + 1 => fun l1 l2 l3 l4 M => ((mF M 50 ≤ l4) → (k65 l1 l2 l3 M)) ∧ ((¬ mF M 50 ≤ l4) → (((¬ ((l1 >>> (l4 &&& 31)) &&& (1 : Int32)) = 0) → (∀ M1 : MS, M1 = sF M 62 ((4 : Int32)) → ((¬ ((l2 >>> (l4 &&& 31)) &&& (1 : Int32)) = (1 : Int32)) → (w_X11_reckons_200 Q k65 (w_X11_reckons_159 Q k65 f159) l1 l2 l3 l4 ((0 : Int32)) M1)) ∧ ((((l2 >>> (l4 &&& 31)) &&& (1 : Int32)) = (1 : Int32)) → (w_X11_reckons_200 Q k65 (w_X11_reckons_159 Q k65 f159) l1 l2 l3 l4 ((1 : Int32)) M1)))) ∧ ((((l1 >>> (l4 &&& 31)) &&& (1 : Int32)) = 0) → (w_X11_reckons_295 Q k65 (w_X11_reckons_159 Q k65 f159) l1 l2 l3 l4 M))))
set_option maxHeartbeats 4000000 in
theorem b_X11_reckons_159 {b0 z0 : Nat} {M0 : MS} {Q : MS → Prop} {k65 : Int32 → Int32 → Int32 → MS → Prop} (C : Cx p s m meth c D T Z "EndingTownModel" cX11_reckons 7 none) (hk65 : ∀ (l1 : Int32) (l2 : Int32) (l3 : Int32) (M : MS) (H : Heap) (locs : List Loc) (cells slots : Nat) (ls : Array Slot), k65 l1 l2 l3 M → HI (twd D T Z) (mG b0 z0 M0) s (rmX (twd D T Z) 5 125 (mG b0 z0 M0)) H locs cells slots (mG b0 z0 M) → LH ls 7 [(0, .inr (.inl (some b0))), (1, .inl l1), (2, .inl l2), (3, .inl l3)] → W p l e (rmX (twd D T Z) 5 125 (mG b0 z0 M0)) s m args below meth c H locs cells slots (MQX (twd D T Z) (mG b0 z0 M0) (mq b0 z0 (qV Q)) (fun _ _ => False) below s) (F0 m 65 ls [])) : ∀ (n : Nat) (l1 : Int32) (l2 : Int32) (l3 : Int32) (l4 : Int32) (M : MS) (H : Heap) (locs : List Loc) (cells slots : Nat) (ls : Array Slot), w_X11_reckons_159 Q k65 n l1 l2 l3 l4 M → HI (twd D T Z) (mG b0 z0 M0) s (rmX (twd D T Z) 5 125 (mG b0 z0 M0)) H locs cells slots (mG b0 z0 M) → LH ls 7 [(0, .inr (.inl (some b0))), (1, .inl l1), (2, .inl l2), (3, .inl l3), (4, .inl l4)] → W p l e (rmX (twd D T Z) 5 125 (mG b0 z0 M0)) s m args below meth c H locs cells slots (MQX (twd D T Z) (mG b0 z0 M0) (mq b0 z0 (qV Q)) (fun _ _ => False) below s) (F0 m 159 ls []) := by
  intro n
  induction n with
  | zero => intro l1 l2 l3 l4 M H locs cells slots ls h; exact (show False from h).elim
  | succ n ih =>
    intro l1 l2 l3 l4 M H locs cells slots ls h I hl
    have hk159 := ih
    refine l_ild C dX11_reckons_159 hl 4 rfl ?_
    refine l_ald_n (x := some b0) C dX11_reckons_161 hl 0 rfl rfl ?_
    refine f_I C I (fl_X11_279) (by decide) dX11_reckons_162 ?_
    refine lv_icmp_ge (tgt := 301) C.1 C.2.1 dX11_reckons_165 (by decide) (fun c4 => ?_) (fun c4 => ?_)
    · have h := h.1 c4
      refine lv_goto (tgt := 65) C.1 C.2.1 dX11_reckons_301 (by decide) ?_
      exact hk65 l1 l2 l3 M _ _ _ _ _ h I (hl.sub [0, 1, 2, 3] rfl)
    · have h := h.2 c4
      refine l_ild_n C dX11_reckons_168 hl 1 rfl rfl ?_
      refine l_ild C dX11_reckons_169 hl 4 rfl ?_
      refine lv_ishr C.1 C.2.1 dX11_reckons_171 ?_
      refine lv_iconst (v := 1) C.1 C.2.1 dX11_reckons_172 (by decide) ?_
      refine lv_iand C.1 C.2.1 dX11_reckons_173 ?_
      refine lv_if_ne (tgt := 180) C.1 C.2.1 dX11_reckons_174 (by decide) (fun c3 => ?_) (fun c3 => ?_)
      · have h := h.1 c3
        refine l_ald_n (x := some b0) C dX11_reckons_180 hl 0 rfl rfl ?_
        refine lv_iconst (v := 4) C.1 C.2.1 dX11_reckons_181 (by decide) ?_
        refine f_PI C I (fp_X11_375) (by decide) dX11_reckons_182 (fit_i _) (fun H locs M1 eM1 I => ?_)
        have h := h M1 eM1
        refine l_ild_n C dX11_reckons_185 hl 2 rfl rfl ?_
        refine l_ild C dX11_reckons_186 hl 4 rfl ?_
        refine lv_ishr C.1 C.2.1 dX11_reckons_188 ?_
        refine lv_iconst (v := 1) C.1 C.2.1 dX11_reckons_189 (by decide) ?_
        refine lv_iand C.1 C.2.1 dX11_reckons_190 ?_
        refine lv_iconst (v := 1) C.1 C.2.1 dX11_reckons_191 (by decide) ?_
        refine lv_icmp_ne (tgt := 199) C.1 C.2.1 dX11_reckons_192 (by decide) (fun c2 => ?_) (fun c2 => ?_)
        · have h := h.1 c2
          refine lv_iconst (v := 0) C.1 C.2.1 dX11_reckons_199 (by decide) ?_
          exact b_X11_reckons_200 C hk65 hk159 l1 l2 l3 l4 ((0 : Int32)) M1 _ _ _ _ _ h I (hl.sub [0, 1, 2, 3, 4] rfl)
        · have h := h.2 c2
          refine lv_iconst (v := 1) C.1 C.2.1 dX11_reckons_195 (by decide) ?_
          refine lv_goto (tgt := 200) C.1 C.2.1 dX11_reckons_196 (by decide) ?_
          exact b_X11_reckons_200 C hk65 hk159 l1 l2 l3 l4 ((1 : Int32)) M1 _ _ _ _ _ h I (hl.sub [0, 1, 2, 3, 4] rfl)
      · have h := h.2 c3
        refine lv_goto (tgt := 295) C.1 C.2.1 dX11_reckons_177 (by decide) ?_
        exact b_X11_reckons_295 C hk65 hk159 l1 l2 l3 l4 M _ _ _ _ _ h I (hl.sub [0, 1, 2, 3, 4] rfl)
def w_X11_reckons_74 (Q : MS → Prop) (k65 : Int32 → Int32 → Int32 → MS → Prop) : Nat → Int32 → Int32 → Int32 → Int32 → MS → Prop
  | 0 => fun _ _ _ _ _ => False
  | f74 + 1 => fun l1 l2 l3 l4 M => ((mF M 59 ≤ l4) → (∃ n, w_X11_reckons_159 Q k65 n l1 l2 l3 ((0 : Int32)) M)) ∧ ((¬ mF M 59 ≤ l4) → (∃ n, w_X11_reckons_86 Q k65 (w_X11_reckons_74 Q k65 f74) n l1 l2 l3 l4 ((0 : Int32)) M))
set_option maxHeartbeats 4000000 in
theorem b_X11_reckons_74 {b0 z0 : Nat} {M0 : MS} {Q : MS → Prop} {k65 : Int32 → Int32 → Int32 → MS → Prop} (C : Cx p s m meth c D T Z "EndingTownModel" cX11_reckons 7 none) (hk65 : ∀ (l1 : Int32) (l2 : Int32) (l3 : Int32) (M : MS) (H : Heap) (locs : List Loc) (cells slots : Nat) (ls : Array Slot), k65 l1 l2 l3 M → HI (twd D T Z) (mG b0 z0 M0) s (rmX (twd D T Z) 5 125 (mG b0 z0 M0)) H locs cells slots (mG b0 z0 M) → LH ls 7 [(0, .inr (.inl (some b0))), (1, .inl l1), (2, .inl l2), (3, .inl l3)] → W p l e (rmX (twd D T Z) 5 125 (mG b0 z0 M0)) s m args below meth c H locs cells slots (MQX (twd D T Z) (mG b0 z0 M0) (mq b0 z0 (qV Q)) (fun _ _ => False) below s) (F0 m 65 ls [])) : ∀ (n : Nat) (l1 : Int32) (l2 : Int32) (l3 : Int32) (l4 : Int32) (M : MS) (H : Heap) (locs : List Loc) (cells slots : Nat) (ls : Array Slot), w_X11_reckons_74 Q k65 n l1 l2 l3 l4 M → HI (twd D T Z) (mG b0 z0 M0) s (rmX (twd D T Z) 5 125 (mG b0 z0 M0)) H locs cells slots (mG b0 z0 M) → LH ls 7 [(0, .inr (.inl (some b0))), (1, .inl l1), (2, .inl l2), (3, .inl l3), (4, .inl l4)] → W p l e (rmX (twd D T Z) 5 125 (mG b0 z0 M0)) s m args below meth c H locs cells slots (MQX (twd D T Z) (mG b0 z0 M0) (mq b0 z0 (qV Q)) (fun _ _ => False) below s) (F0 m 74 ls []) := by
  intro n
  induction n with
  | zero => intro l1 l2 l3 l4 M H locs cells slots ls h; exact (show False from h).elim
  | succ n ih =>
    intro l1 l2 l3 l4 M H locs cells slots ls h I hl
    have hk74 := ih
    refine l_ild C dX11_reckons_74 hl 4 rfl ?_
    refine l_ald_n (x := some b0) C dX11_reckons_76 hl 0 rfl rfl ?_
    refine f_I C I (fl_X11_343) (by decide) dX11_reckons_77 ?_
    refine lv_icmp_ge (tgt := 156) C.1 C.2.1 dX11_reckons_80 (by decide) (fun c1 => ?_) (fun c1 => ?_)
    · have h := h.1 c1
      refine lv_iconst (v := 0) C.1 C.2.1 dX11_reckons_156 (by decide) ?_
      refine l_ist C dX11_reckons_157 hl (by decide) rfl (fun ls hl => ?_)
      have hl : LH ls 7 [(4, .inl ((0 : Int32))), (0, .inr (.inl (some b0))), (1, .inl l1), (2, .inl l2), (3, .inl l3)] := hl
      obtain ⟨n, h⟩ := h
      exact b_X11_reckons_159 C hk65 n l1 l2 l3 ((0 : Int32)) M _ _ _ _ _ h I (hl.sub [1, 2, 3, 4, 0] rfl)
    · have h := h.2 c1
      refine lv_iconst (v := 0) C.1 C.2.1 dX11_reckons_83 (by decide) ?_
      refine l_ist C dX11_reckons_84 hl (by decide) rfl (fun ls hl => ?_)
      have hl : LH ls 7 [(5, .inl ((0 : Int32))), (0, .inr (.inl (some b0))), (1, .inl l1), (2, .inl l2), (3, .inl l3), (4, .inl l4)] := hl
      obtain ⟨n, h⟩ := h
      exact b_X11_reckons_86 C hk65 hk74 n l1 l2 l3 l4 ((0 : Int32)) M _ _ _ _ _ h I (hl.sub [1, 2, 3, 4, 5, 0] rfl)
def w_X11_reckons_397 (Q : MS → Prop) (k307 : Int32 → Int32 → MS → Prop) (l2 : Int32) (l4 : Int32) (M : MS) : Prop := k307 l2 ((l4 + 1)) M
set_option maxHeartbeats 4000000 in
theorem b_X11_reckons_397 {b0 z0 : Nat} {M0 : MS} {Q : MS → Prop} {k307 : Int32 → Int32 → MS → Prop} (C : Cx p s m meth c D T Z "EndingTownModel" cX11_reckons 7 none) (hk307 : ∀ (l2 : Int32) (l4 : Int32) (M : MS) (H : Heap) (locs : List Loc) (cells slots : Nat) (ls : Array Slot), k307 l2 l4 M → HI (twd D T Z) (mG b0 z0 M0) s (rmX (twd D T Z) 5 125 (mG b0 z0 M0)) H locs cells slots (mG b0 z0 M) → LH ls 7 [(0, .inr (.inl (some b0))), (2, .inl l2), (4, .inl l4)] → W p l e (rmX (twd D T Z) 5 125 (mG b0 z0 M0)) s m args below meth c H locs cells slots (MQX (twd D T Z) (mG b0 z0 M0) (mq b0 z0 (qV Q)) (fun _ _ => False) below s) (F0 m 307 ls [])) : ∀ (l2 : Int32) (l4 : Int32) (M : MS) (H : Heap) (locs : List Loc) (cells slots : Nat) (ls : Array Slot), w_X11_reckons_397 Q k307 l2 l4 M → HI (twd D T Z) (mG b0 z0 M0) s (rmX (twd D T Z) 5 125 (mG b0 z0 M0)) H locs cells slots (mG b0 z0 M) → LH ls 7 [(0, .inr (.inl (some b0))), (2, .inl l2), (4, .inl l4)] → W p l e (rmX (twd D T Z) 5 125 (mG b0 z0 M0)) s m args below meth c H locs cells slots (MQX (twd D T Z) (mG b0 z0 M0) (mq b0 z0 (qV Q)) (fun _ _ => False) below s) (F0 m 397 ls []) := by
  intro l2 l4 M H locs cells slots ls h I hl
  refine l_inc (q := 2) (v := 1) C dX11_reckons_397 hl rfl (by decide) (by decide) rfl (fun ls hl => ?_)
  have hl : LH ls 7 [(4, .inl ((l4 + 1))), (0, .inr (.inl (some b0))), (2, .inl l2)] := hl
  refine lv_goto (tgt := 307) C.1 C.2.1 dX11_reckons_400 (by decide) ?_
  exact hk307 l2 ((l4 + 1)) M _ _ _ _ _ h I (hl.sub [1, 2, 0] rfl)
def w_X11_reckons_307 (Q : MS → Prop) : Nat → Int32 → Int32 → MS → Prop
  | 0 => fun _ _ _ => False
  | f307 + 1 => fun l2 l4 M => ((mF M 50 ≤ l4) → (Q M)) ∧ ((¬ mF M 50 ≤ l4) → (w_X11_of (fun r2 M1 => vp_in l4 (mlen 54) ∧ ∀ M3 : MS, M3 = sA M1 54 l4.toNatClampNeg r2 → ((¬ ((l2 >>> (l4 &&& 31)) &&& (1 : Int32)) = 0) → (vp_in l4 (mlen 54) ∧ ∀ M4 : MS, M4 = sA M3 54 l4.toNatClampNeg ((4 : Int32)) → ∀ M5 : MS, M5 = sF M4 62 ((4 : Int32)) → vp_in l4 (mlen 57) ∧ w_X11_of (fun r7 M6 => w_X11_of (fun r9 M8 => w_X11_least (fun r11 M10 => (((1000 : Int32) ≤ r11) → (w_X11_reckons_397 Q (w_X11_reckons_307 Q f307) l2 l4 M10)) ∧ ((¬ (1000 : Int32) ≤ r11) → (vp_in l4 (mlen 54) ∧ ∀ M12 : MS, M12 = sA M10 54 l4.toNatClampNeg (mF M10 62) → w_X11_reckons_397 Q (w_X11_reckons_307 Q f307) l2 l4 M12))) (mA M5 57 l4.toNatClampNeg) r7 r9 M8) l4 ((4 : Int32)) M6) l4 ((2 : Int32)) M5)) ∧ ((((l2 >>> (l4 &&& 31)) &&& (1 : Int32)) = 0) → (w_X11_reckons_397 Q (w_X11_reckons_307 Q f307) l2 l4 M3))) l4 ((3 : Int32)) M))
set_option maxHeartbeats 4000000 in
theorem b_X11_reckons_307 {b0 z0 : Nat} {M0 : MS} {Q : MS → Prop} (C : Cx p s m meth c D T Z "EndingTownModel" cX11_reckons 7 none) : ∀ (n : Nat) (l2 : Int32) (l4 : Int32) (M : MS) (H : Heap) (locs : List Loc) (cells slots : Nat) (ls : Array Slot), w_X11_reckons_307 Q n l2 l4 M → HI (twd D T Z) (mG b0 z0 M0) s (rmX (twd D T Z) 5 125 (mG b0 z0 M0)) H locs cells slots (mG b0 z0 M) → LH ls 7 [(0, .inr (.inl (some b0))), (2, .inl l2), (4, .inl l4)] → W p l e (rmX (twd D T Z) 5 125 (mG b0 z0 M0)) s m args below meth c H locs cells slots (MQX (twd D T Z) (mG b0 z0 M0) (mq b0 z0 (qV Q)) (fun _ _ => False) below s) (F0 m 307 ls []) := by
  intro n
  induction n with
  | zero => intro l2 l4 M H locs cells slots ls h; exact (show False from h).elim
  | succ n ih =>
    intro l2 l4 M H locs cells slots ls h I hl
    have hk307 := ih
    refine l_ild C dX11_reckons_307 hl 2 rfl ?_
    refine l_ald_n (x := some b0) C dX11_reckons_309 hl 0 rfl rfl ?_
    refine f_I C I (fl_X11_279) (by decide) dX11_reckons_310 ?_
    refine lv_icmp_ge (tgt := 403) C.1 C.2.1 dX11_reckons_313 (by decide) (fun c15 => ?_) (fun c15 => ?_)
    · have h := h.1 c15
      exact r_void C.1 C.2.1 C.2.2.2.2.2.1 C.2.2.2.2.2.2 ⟨rfl, rfl⟩ I dX11_reckons_403 ⟨_, rfl, rfl, h⟩
    · have h := h.2 c15
      refine l_ald_n (x := some b0) C dX11_reckons_316 hl 0 rfl rfl ?_
      refine f_A C I (fl_X11_92) (by decide) (by decide) dX11_reckons_317 ?_
      refine l_ild C dX11_reckons_320 hl 2 rfl ?_
      refine l_ald_n (x := some b0) C dX11_reckons_322 hl 0 rfl rfl ?_
      refine l_ild C dX11_reckons_323 hl 2 rfl ?_
      refine lv_iconst (v := 3) C.1 C.2.1 dX11_reckons_325 (by decide) ?_
      refine k_call Ext.tr C I (k_V (r := some b0) (As := [.int l4, .int ((3 : Int32))]) (rest := [.int l4, va_rf (some (b0 + moff 54))]) (y := yX11_of) C (f_recv C I) q1789 q1791 qs78 (Or.inl rfl) q1792 (by decide) rfl pd_X11_of rfl dX11_reckons_326) (ct_X11_of h) hl.1 dX11_reckons_326 [.inl l4, .inr (.inl (some (b0 + moff 54)))] rfl (Nat.le_of_ble_eq_true rfl) (Or.inl rfl) q1792 q113 ⟨Nat.le_of_ble_eq_true rfl, Nat.le_of_ble_eq_true rfl⟩ (fun v x1 H locs cells slots ex hq I => ?_) (fun a x1 H locs cells slots ex hq I => hq.elim)
      obtain ⟨M1, rfl, r2, rfl, h⟩ := hq
      obtain ⟨hi, h⟩ := h
      refine f_st (k := 54) C I (by decide) hi dX11_reckons_329 (fun H locs M3 eM3 I => ?_)
      have h := h M3 eM3
      refine l_ild_n C dX11_reckons_330 hl 1 rfl rfl ?_
      refine l_ild C dX11_reckons_331 hl 2 rfl ?_
      refine lv_ishr C.1 C.2.1 dX11_reckons_333 ?_
      refine lv_iconst (v := 1) C.1 C.2.1 dX11_reckons_334 (by decide) ?_
      refine lv_iand C.1 C.2.1 dX11_reckons_335 ?_
      refine lv_if_ne (tgt := 342) C.1 C.2.1 dX11_reckons_336 (by decide) (fun c14 => ?_) (fun c14 => ?_)
      · have h := h.1 c14
        refine l_ald_n (x := some b0) C dX11_reckons_342 hl 0 rfl rfl ?_
        refine f_A C I (fl_X11_92) (by decide) (by decide) dX11_reckons_343 ?_
        refine l_ild C dX11_reckons_346 hl 2 rfl ?_
        refine lv_iconst (v := 4) C.1 C.2.1 dX11_reckons_348 (by decide) ?_
        obtain ⟨hi, h⟩ := h
        refine f_st (k := 54) C I (by decide) hi dX11_reckons_349 (fun H locs M4 eM4 I => ?_)
        have h := h M4 eM4
        refine l_ald_n (x := some b0) C dX11_reckons_350 hl 0 rfl rfl ?_
        refine lv_iconst (v := 4) C.1 C.2.1 dX11_reckons_351 (by decide) ?_
        refine f_PI C I (fp_X11_375) (by decide) dX11_reckons_352 (fit_i _) (fun H locs M5 eM5 I => ?_)
        have h := h M5 eM5
        refine l_ald_n (x := some b0) C dX11_reckons_355 hl 0 rfl rfl ?_
        refine l_ald_n (x := some b0) C dX11_reckons_356 hl 0 rfl rfl ?_
        refine f_A C I (fl_X11_101) (by decide) (by decide) dX11_reckons_357 ?_
        refine l_ild C dX11_reckons_360 hl 2 rfl ?_
        obtain ⟨hi, h⟩ := h
        refine f_ld (k := 57) C I (by decide) hi dX11_reckons_362 ?_
        refine l_ald_n (x := some b0) C dX11_reckons_363 hl 0 rfl rfl ?_
        refine l_ild C dX11_reckons_364 hl 2 rfl ?_
        refine lv_iconst (v := 2) C.1 C.2.1 dX11_reckons_366 (by decide) ?_
        refine k_call Ext.tr C I (k_V (r := some b0) (As := [.int l4, .int ((2 : Int32))]) (rest := [.int (mA M5 57 l4.toNatClampNeg), va_rf (some b0)]) (y := yX11_of) C (f_recv C I) q1789 q1791 qs78 (Or.inl rfl) q1792 (by decide) rfl pd_X11_of rfl dX11_reckons_367) (ct_X11_of h) hl.1 dX11_reckons_367 [.inl (mA M5 57 l4.toNatClampNeg), .inr (.inl (some b0))] rfl (Nat.le_of_ble_eq_true rfl) (Or.inl rfl) q1792 q113 ⟨Nat.le_of_ble_eq_true rfl, Nat.le_of_ble_eq_true rfl⟩ (fun v x1 H locs cells slots ex hq I => ?_) (fun a x1 H locs cells slots ex hq I => hq.elim)
        obtain ⟨M6, rfl, r7, rfl, h⟩ := hq
        refine l_ald_n (x := some b0) C dX11_reckons_370 hl 0 rfl rfl ?_
        refine l_ild C dX11_reckons_371 hl 2 rfl ?_
        refine lv_iconst (v := 4) C.1 C.2.1 dX11_reckons_373 (by decide) ?_
        refine k_call Ext.tr C I (k_V (r := some b0) (As := [.int l4, .int ((4 : Int32))]) (rest := [.int r7, .int (mA M5 57 l4.toNatClampNeg), va_rf (some b0)]) (y := yX11_of) C (f_recv C I) q1789 q1791 qs78 (Or.inl rfl) q1792 (by decide) rfl pd_X11_of rfl dX11_reckons_374) (ct_X11_of h) hl.1 dX11_reckons_374 [.inl r7, .inl (mA M5 57 l4.toNatClampNeg), .inr (.inl (some b0))] rfl (Nat.le_of_ble_eq_true rfl) (Or.inl rfl) q1792 q113 ⟨Nat.le_of_ble_eq_true rfl, Nat.le_of_ble_eq_true rfl⟩ (fun v x1 H locs cells slots ex hq I => ?_) (fun a x1 H locs cells slots ex hq I => hq.elim)
        obtain ⟨M8, rfl, r9, rfl, h⟩ := hq
        refine k_call Ext.tr C I (k_V (r := some b0) (As := [.int (mA M5 57 l4.toNatClampNeg), .int r7, .int r9]) (rest := []) (y := yX11_least) C (f_recv C I) q1809 q1811 qs83 (Or.inl rfl) q1812 (by decide) rfl pd_X11_least rfl dX11_reckons_377) (ct_X11_least h) hl.1 dX11_reckons_377 [] rfl (Nat.le_of_ble_eq_true rfl) (Or.inl rfl) q1812 q113 ⟨Nat.le_of_ble_eq_true rfl, Nat.le_of_ble_eq_true rfl⟩ (fun v x1 H locs cells slots ex hq I => ?_) (fun a x1 H locs cells slots ex hq I => hq.elim)
        obtain ⟨M10, rfl, r11, rfl, h⟩ := hq
        refine lv_sipush (v := 1000) C.1 C.2.1 dX11_reckons_380 (by decide) ?_
        refine lv_icmp_ge (tgt := 397) C.1 C.2.1 dX11_reckons_383 (by decide) (fun c13 => ?_) (fun c13 => ?_)
        · have h := h.1 c13
          exact b_X11_reckons_397 C hk307 l2 l4 M10 _ _ _ _ _ h I (hl.sub [0, 1, 2] rfl)
        · have h := h.2 c13
          refine l_ald_n (x := some b0) C dX11_reckons_386 hl 0 rfl rfl ?_
          refine f_A C I (fl_X11_92) (by decide) (by decide) dX11_reckons_387 ?_
          refine l_ild C dX11_reckons_390 hl 2 rfl ?_
          refine l_ald_n (x := some b0) C dX11_reckons_392 hl 0 rfl rfl ?_
          refine f_I C I (fl_X11_375) (by decide) dX11_reckons_393 ?_
          obtain ⟨hi, h⟩ := h
          refine f_st (k := 54) C I (by decide) hi dX11_reckons_396 (fun H locs M12 eM12 I => ?_)
          have h := h M12 eM12
          exact b_X11_reckons_397 C hk307 l2 l4 M12 _ _ _ _ _ h I (hl.sub [0, 1, 2] rfl)
      · have h := h.2 c14
        refine lv_goto (tgt := 397) C.1 C.2.1 dX11_reckons_339 (by decide) ?_
        exact b_X11_reckons_397 C hk307 l2 l4 M3 _ _ _ _ _ h I (hl.sub [0, 1, 2] rfl)
def w_X11_reckons_65 (Q : MS → Prop) : Nat → Int32 → Int32 → Int32 → MS → Prop
  | 0 => fun _ _ _ _ => False
  | f65 + 1 => fun l1 l2 l3 M => ((l3 = 0) → (∃ n, w_X11_reckons_307 Q n l2 ((0 : Int32)) M)) ∧ ((¬ l3 = 0) → (∃ n, w_X11_reckons_74 Q (w_X11_reckons_65 Q f65) n l1 l2 ((0 : Int32)) ((0 : Int32)) M))
set_option maxHeartbeats 4000000 in
theorem b_X11_reckons_65 {b0 z0 : Nat} {M0 : MS} {Q : MS → Prop} (C : Cx p s m meth c D T Z "EndingTownModel" cX11_reckons 7 none) : ∀ (n : Nat) (l1 : Int32) (l2 : Int32) (l3 : Int32) (M : MS) (H : Heap) (locs : List Loc) (cells slots : Nat) (ls : Array Slot), w_X11_reckons_65 Q n l1 l2 l3 M → HI (twd D T Z) (mG b0 z0 M0) s (rmX (twd D T Z) 5 125 (mG b0 z0 M0)) H locs cells slots (mG b0 z0 M) → LH ls 7 [(0, .inr (.inl (some b0))), (1, .inl l1), (2, .inl l2), (3, .inl l3)] → W p l e (rmX (twd D T Z) 5 125 (mG b0 z0 M0)) s m args below meth c H locs cells slots (MQX (twd D T Z) (mG b0 z0 M0) (mq b0 z0 (qV Q)) (fun _ _ => False) below s) (F0 m 65 ls []) := by
  intro n
  induction n with
  | zero => intro l1 l2 l3 M H locs cells slots ls h; exact (show False from h).elim
  | succ n ih =>
    intro l1 l2 l3 M H locs cells slots ls h I hl
    have hk65 := ih
    refine l_ild_n C dX11_reckons_65 hl 3 rfl rfl ?_
    refine lv_if_eq (tgt := 304) C.1 C.2.1 dX11_reckons_66 (by decide) (fun c1 => ?_) (fun c1 => ?_)
    · have h := h.1 c1
      refine lv_iconst (v := 0) C.1 C.2.1 dX11_reckons_304 (by decide) ?_
      refine l_ist C dX11_reckons_305 hl (by decide) rfl (fun ls hl => ?_)
      have hl : LH ls 7 [(4, .inl ((0 : Int32))), (0, .inr (.inl (some b0))), (1, .inl l1), (2, .inl l2), (3, .inl l3)] := hl
      obtain ⟨n, h⟩ := h
      exact b_X11_reckons_307 C n l2 ((0 : Int32)) M _ _ _ _ _ h I (hl.sub [1, 3, 0] rfl)
    · have h := h.2 c1
      refine lv_iconst (v := 0) C.1 C.2.1 dX11_reckons_69 (by decide) ?_
      refine l_ist_n C dX11_reckons_70 rfl hl (by decide) rfl (fun ls hl => ?_)
      have hl : LH ls 7 [(3, .inl ((0 : Int32))), (0, .inr (.inl (some b0))), (1, .inl l1), (2, .inl l2)] := hl
      refine lv_iconst (v := 0) C.1 C.2.1 dX11_reckons_71 (by decide) ?_
      refine l_ist C dX11_reckons_72 hl (by decide) rfl (fun ls hl => ?_)
      have hl : LH ls 7 [(4, .inl ((0 : Int32))), (3, .inl ((0 : Int32))), (0, .inr (.inl (some b0))), (1, .inl l1), (2, .inl l2)] := hl
      obtain ⟨n, h⟩ := h
      exact b_X11_reckons_74 C hk65 n l1 l2 ((0 : Int32)) ((0 : Int32)) M _ _ _ _ _ h I (hl.sub [2, 3, 4, 1, 0] rfl)
def w_X11_reckons_37 (Q : MS → Prop) : Nat → Int32 → Int32 → Int32 → MS → Prop
  | 0 => fun _ _ _ _ => False
  | f37 + 1 => fun l1 l2 l3 M => ((((8 : Int32) * mF M 59) ≤ l3) → (∃ n, w_X11_reckons_65 Q n l1 l2 ((1 : Int32)) M)) ∧ ((¬ ((8 : Int32) * mF M 59) ≤ l3) → (vp_in l3 (mlen 58) ∧ ∀ M1 : MS, M1 = sA M 58 l3.toNatClampNeg ((1000 : Int32)) → (w_X11_reckons_37 Q f37) l1 l2 ((l3 + 1)) M1))
set_option maxHeartbeats 4000000 in
theorem b_X11_reckons_37 {b0 z0 : Nat} {M0 : MS} {Q : MS → Prop} (C : Cx p s m meth c D T Z "EndingTownModel" cX11_reckons 7 none) : ∀ (n : Nat) (l1 : Int32) (l2 : Int32) (l3 : Int32) (M : MS) (H : Heap) (locs : List Loc) (cells slots : Nat) (ls : Array Slot), w_X11_reckons_37 Q n l1 l2 l3 M → HI (twd D T Z) (mG b0 z0 M0) s (rmX (twd D T Z) 5 125 (mG b0 z0 M0)) H locs cells slots (mG b0 z0 M) → LH ls 7 [(0, .inr (.inl (some b0))), (1, .inl l1), (2, .inl l2), (3, .inl l3)] → W p l e (rmX (twd D T Z) 5 125 (mG b0 z0 M0)) s m args below meth c H locs cells slots (MQX (twd D T Z) (mG b0 z0 M0) (mq b0 z0 (qV Q)) (fun _ _ => False) below s) (F0 m 37 ls []) := by
  intro n
  induction n with
  | zero => intro l1 l2 l3 M H locs cells slots ls h; exact (show False from h).elim
  | succ n ih =>
    intro l1 l2 l3 M H locs cells slots ls h I hl
    have hk37 := ih
    refine l_ild_n C dX11_reckons_37 hl 3 rfl rfl ?_
    refine lv_bipush (v := 8) C.1 C.2.1 dX11_reckons_38 (by decide) ?_
    refine l_ald_n (x := some b0) C dX11_reckons_40 hl 0 rfl rfl ?_
    refine f_I C I (fl_X11_343) (by decide) dX11_reckons_41 ?_
    refine lv_imul C.1 C.2.1 dX11_reckons_44 ?_
    refine lv_icmp_ge (tgt := 63) C.1 C.2.1 dX11_reckons_45 (by decide) (fun c2 => ?_) (fun c2 => ?_)
    · have h := h.1 c2
      refine lv_iconst (v := 1) C.1 C.2.1 dX11_reckons_63 (by decide) ?_
      refine l_ist_n C dX11_reckons_64 rfl hl (by decide) rfl (fun ls hl => ?_)
      have hl : LH ls 7 [(3, .inl ((1 : Int32))), (0, .inr (.inl (some b0))), (1, .inl l1), (2, .inl l2)] := hl
      obtain ⟨n, h⟩ := h
      exact b_X11_reckons_65 C n l1 l2 ((1 : Int32)) M _ _ _ _ _ h I (hl.sub [1, 2, 3, 0] rfl)
    · have h := h.2 c2
      refine l_ald_n (x := some b0) C dX11_reckons_48 hl 0 rfl rfl ?_
      refine f_A C I (fl_X11_104) (by decide) (by decide) dX11_reckons_49 ?_
      refine l_ild_n C dX11_reckons_52 hl 3 rfl rfl ?_
      refine lv_sipush (v := 1000) C.1 C.2.1 dX11_reckons_53 (by decide) ?_
      obtain ⟨hi, h⟩ := h
      refine f_st (k := 58) C I (by decide) hi dX11_reckons_56 (fun H locs M1 eM1 I => ?_)
      have h := h M1 eM1
      refine l_inc (q := 3) (v := 1) C dX11_reckons_57 hl rfl (by decide) (by decide) rfl (fun ls hl => ?_)
      have hl : LH ls 7 [(3, .inl ((l3 + 1))), (0, .inr (.inl (some b0))), (1, .inl l1), (2, .inl l2)] := hl
      refine lv_goto (tgt := 37) C.1 C.2.1 dX11_reckons_60 (by decide) ?_
      exact hk37 l1 l2 ((l3 + 1)) M1 _ _ _ _ _ h I (hl.sub [1, 2, 3, 0] rfl)
def w_X11_reckons_12 (Q : MS → Prop) : Nat → Int32 → Int32 → Int32 → MS → Prop
  | 0 => fun _ _ _ _ => False
  | f12 + 1 => fun l1 l2 l3 M => ((mF M 50 ≤ l3) → (∃ n, w_X11_reckons_37 Q n l1 l2 ((0 : Int32)) M)) ∧ ((¬ mF M 50 ≤ l3) → (vp_in l3 (mlen 53) ∧ ∀ M1 : MS, M1 = sA M 53 l3.toNatClampNeg ((1000 : Int32)) → (w_X11_reckons_12 Q f12) l1 l2 ((l3 + 1)) M1))
set_option maxHeartbeats 4000000 in
theorem b_X11_reckons_12 {b0 z0 : Nat} {M0 : MS} {Q : MS → Prop} (C : Cx p s m meth c D T Z "EndingTownModel" cX11_reckons 7 none) : ∀ (n : Nat) (l1 : Int32) (l2 : Int32) (l3 : Int32) (M : MS) (H : Heap) (locs : List Loc) (cells slots : Nat) (ls : Array Slot), w_X11_reckons_12 Q n l1 l2 l3 M → HI (twd D T Z) (mG b0 z0 M0) s (rmX (twd D T Z) 5 125 (mG b0 z0 M0)) H locs cells slots (mG b0 z0 M) → LH ls 7 [(0, .inr (.inl (some b0))), (1, .inl l1), (2, .inl l2), (3, .inl l3)] → W p l e (rmX (twd D T Z) 5 125 (mG b0 z0 M0)) s m args below meth c H locs cells slots (MQX (twd D T Z) (mG b0 z0 M0) (mq b0 z0 (qV Q)) (fun _ _ => False) below s) (F0 m 12 ls []) := by
  intro n
  induction n with
  | zero => intro l1 l2 l3 M H locs cells slots ls h; exact (show False from h).elim
  | succ n ih =>
    intro l1 l2 l3 M H locs cells slots ls h I hl
    have hk12 := ih
    refine l_ild_n C dX11_reckons_12 hl 3 rfl rfl ?_
    refine l_ald_n (x := some b0) C dX11_reckons_13 hl 0 rfl rfl ?_
    refine f_I C I (fl_X11_279) (by decide) dX11_reckons_14 ?_
    refine lv_icmp_ge (tgt := 35) C.1 C.2.1 dX11_reckons_17 (by decide) (fun c2 => ?_) (fun c2 => ?_)
    · have h := h.1 c2
      refine lv_iconst (v := 0) C.1 C.2.1 dX11_reckons_35 (by decide) ?_
      refine l_ist_n C dX11_reckons_36 rfl hl (by decide) rfl (fun ls hl => ?_)
      have hl : LH ls 7 [(3, .inl ((0 : Int32))), (0, .inr (.inl (some b0))), (1, .inl l1), (2, .inl l2)] := hl
      obtain ⟨n, h⟩ := h
      exact b_X11_reckons_37 C n l1 l2 ((0 : Int32)) M _ _ _ _ _ h I (hl.sub [1, 2, 3, 0] rfl)
    · have h := h.2 c2
      refine l_ald_n (x := some b0) C dX11_reckons_20 hl 0 rfl rfl ?_
      refine f_A C I (fl_X11_89) (by decide) (by decide) dX11_reckons_21 ?_
      refine l_ild_n C dX11_reckons_24 hl 3 rfl rfl ?_
      refine lv_sipush (v := 1000) C.1 C.2.1 dX11_reckons_25 (by decide) ?_
      obtain ⟨hi, h⟩ := h
      refine f_st (k := 53) C I (by decide) hi dX11_reckons_28 (fun H locs M1 eM1 I => ?_)
      have h := h M1 eM1
      refine l_inc (q := 3) (v := 1) C dX11_reckons_29 hl rfl (by decide) (by decide) rfl (fun ls hl => ?_)
      have hl : LH ls 7 [(3, .inl ((l3 + 1))), (0, .inr (.inl (some b0))), (1, .inl l1), (2, .inl l2)] := hl
      refine lv_goto (tgt := 12) C.1 C.2.1 dX11_reckons_32 (by decide) ?_
      exact hk12 l1 l2 ((l3 + 1)) M1 _ _ _ _ _ h I (hl.sub [1, 2, 3, 0] rfl)
def w_X11_reckons (Q : MS → Prop) (p0 : Int32) (p1 : Int32) (M : MS) : Prop := ∀ M1 : MS, M1 = sF M 60 p0 → ∀ M2 : MS, M2 = sF M1 61 p1 → ∃ n, w_X11_reckons_12 Q n p0 p1 ((0 : Int32)) M2
theorem pd_X11_reckons : (parseMethodDescriptor yX11_reckons.desc).map (fun d => d.parameters.length) = some 2 := by decide +kernel
set_option maxHeartbeats 4000000 in
theorem ct_X11_reckons {l : Launch} {D : va_G} {T : Nat → ClassId} {Z : Heap} {b0 z0 : Nat} {M0 : MS} {Q : MS → Prop} {p0 : Int32} {p1 : Int32} (hw : w_X11_reckons Q p0 p1 M0) : CT (twd D T Z) (Evd D T Z) l yX11_reckons (Cond.code yX11_reckons cX11_reckons 7 none) 5 125 [va_rf (some b0), .int p0, .int p1] (mG b0 z0 M0) (mq b0 z0 (qV Q)) (fun _ _ => False) := by
  refine CT.ofW (cc := cX11_reckons) (nL := 7) (ret := none) Ext.rf (by decide) (Or.inl rfl) ?_
  intro p e s m below meth c hx hb hml hown hr hlk hnm hcb hm hc hn hE I
  have C : Cx p s m meth c D T Z "EndingTownModel" cX11_reckons 7 none := ⟨hx, hb, hml, hown, hE, hr, hlk⟩
  refine w_entry [.inr (.inl (some b0)), .inl p0, .inl p1] (Nat.le_of_ble_eq_true rfl) (fun ls hl => ?_)
  have hl : LH ls 7 [(0, .inr (.inl (some b0))), (1, .inl p0), (2, .inl p1)] := hl
  have h := hw
  refine l_ald_n (x := some b0) C dX11_reckons_0 hl 0 rfl rfl ?_
  refine l_ild_n C dX11_reckons_1 hl 1 rfl rfl ?_
  refine f_PI C I (fp_X11_352) (by decide) dX11_reckons_2 (fit_i _) (fun H locs M1 eM1 I => ?_)
  have h := h M1 eM1
  refine l_ald_n (x := some b0) C dX11_reckons_5 hl 0 rfl rfl ?_
  refine l_ild_n C dX11_reckons_6 hl 2 rfl rfl ?_
  refine f_PI C I (fp_X11_355) (by decide) dX11_reckons_7 (fit_i _) (fun H locs M2 eM2 I => ?_)
  have h := h M2 eM2
  refine lv_iconst (v := 0) C.1 C.2.1 dX11_reckons_10 (by decide) ?_
  refine l_ist_n C dX11_reckons_11 rfl hl (by decide) rfl (fun ls hl => ?_)
  have hl : LH ls 7 [(3, .inl ((0 : Int32))), (0, .inr (.inl (some b0))), (1, .inl p0), (2, .inl p1)] := hl
  obtain ⟨n, h⟩ := h
  exact b_X11_reckons_12 C n p0 p1 ((0 : Int32)) M2 _ _ _ _ _ h I (hl.sub [1, 2, 3, 0] rfl)
end GM2
