/-! the Model: wp and contracts, by program -/
set_option maxRecDepth 100000
section GM3
variable {p : Program} {l : Launch} {e : Env} {s : State} {m : MethodId} {args : Array Value} {below : List Frame} {meth : Method} {c : Code} {D : va_G} {T : Nat → ClassId} {Z : Heap}
def w_X11_saying_122 (Q : Int32 → MS → Prop) (t0 : Int32) (M : MS) : Prop := Q t0 M
set_option maxHeartbeats 4000000 in
theorem b_X11_saying_122 {b0 z0 : Nat} {M0 : MS} {Q : Int32 → MS → Prop} (C : Cx p s m meth c D T Z "EndingTownModel" cX11_saying 3 (some .int)) : ∀ (t0 : Int32) (M : MS) (H : Heap) (locs : List Loc) (cells slots : Nat) (ls : Array Slot), w_X11_saying_122 Q t0 M → HI (twd D T Z) (mG b0 z0 M0) s (rmX (twd D T Z) 6 151 (mG b0 z0 M0)) H locs cells slots (mG b0 z0 M) → LH ls 3 [] → W p l e (rmX (twd D T Z) 6 151 (mG b0 z0 M0)) s m args below meth c H locs cells slots (MQX (twd D T Z) (mG b0 z0 M0) (mq b0 z0 (qI Q)) (fun _ _ => False) below s) (F0 m 122 ls [.int t0]) := by
  intro t0 M H locs cells slots ls h I hl
  exact r_int C.1 C.2.1 C.2.2.2.2.2.1 rfl C.2.2.2.2.2.2 ⟨rfl, rfl⟩ I dX11_saying_122 ⟨_, rfl, _, rfl, h⟩
def w_X11_saying_33 (Q : Int32 → MS → Prop) (l1 : Int32) (l2 : Int32) (t0 : Int32) (M : MS) : Prop := w_X11_right (fun r2 M1 => ((¬ r2 = 0) → ((((5 : Int32) ≤ l2) → (w_X11_asks (fun M3 => w_X11_all (fun r6 M5 => w_X11_reckons (fun M7 => (((7 : Int32) ≤ l2) → (w_X11_looks (fun M9 => vp_in l1 (mlen 63) ∧ Q (mA M9 63 l1.toNatClampNeg) M9) M7)) ∧ ((¬ (7 : Int32) ≤ l2) → (((¬ l2 = (5 : Int32)) → (vp_in l1 (mlen 53) ∧ (((1000 : Int32) ≤ mA M7 53 l1.toNatClampNeg) → (w_X11_saying_122 Q ((0 : Int32)) M7)) ∧ ((¬ (1000 : Int32) ≤ mA M7 53 l1.toNatClampNeg) → (vp_in l1 (mlen 53) ∧ w_X11_saying_122 Q (mA M7 53 l1.toNatClampNeg) M7)))) ∧ ((l2 = (5 : Int32)) → (vp_in l1 (mlen 53) ∧ (((1000 : Int32) ≤ mA M7 53 l1.toNatClampNeg) → (w_X11_saying_122 Q ((0 : Int32)) M7)) ∧ ((¬ (1000 : Int32) ≤ mA M7 53 l1.toNatClampNeg) → (w_X11_saying_122 Q ((1 : Int32)) M7))))))) r6 ((0 : Int32)) M5) M3) ((-1 : Int32)) ((0 : Int32)) M1)) ∧ ((¬ (5 : Int32) ≤ l2) → (w_X11_of (fun r16 M15 => Q r16 M15) l1 l2 M1)))) ∧ ((r2 = 0) → (Q ((0 : Int32)) M1))) t0 ((1 : Int32)) M
set_option maxHeartbeats 4000000 in
theorem b_X11_saying_33 {b0 z0 : Nat} {M0 : MS} {Q : Int32 → MS → Prop} (C : Cx p s m meth c D T Z "EndingTownModel" cX11_saying 3 (some .int)) : ∀ (l1 : Int32) (l2 : Int32) (t0 : Int32) (M : MS) (H : Heap) (locs : List Loc) (cells slots : Nat) (ls : Array Slot), w_X11_saying_33 Q l1 l2 t0 M → HI (twd D T Z) (mG b0 z0 M0) s (rmX (twd D T Z) 6 151 (mG b0 z0 M0)) H locs cells slots (mG b0 z0 M) → LH ls 3 [(0, .inr (.inl (some b0))), (1, .inl l1), (2, .inl l2)] → W p l e (rmX (twd D T Z) 6 151 (mG b0 z0 M0)) s m args below meth c H locs cells slots (MQX (twd D T Z) (mG b0 z0 M0) (mq b0 z0 (qI Q)) (fun _ _ => False) below s) (F0 m 33 ls [.int t0, va_rf (some b0)]) := by
  intro l1 l2 t0 M H locs cells slots ls h I hl
  refine lv_iconst (v := 1) C.1 C.2.1 dX11_saying_33 (by decide) ?_
  refine k_call Ext.tr C I (k_V (r := some b0) (As := [.int t0, .int ((1 : Int32))]) (rest := []) (y := yX11_right) C (f_recv C I) q1603 q1605 qs47 (Or.inl rfl) q1606 (by decide) rfl pd_X11_right rfl dX11_saying_34) (ct_X11_right h) hl.1 dX11_saying_34 [] rfl (Nat.le_of_ble_eq_true rfl) (Or.inl rfl) q1606 q113 ⟨Nat.le_of_ble_eq_true rfl, Nat.le_of_ble_eq_true rfl⟩ (fun v x1 H locs cells slots ex hq I => ?_) (fun a x1 H locs cells slots ex hq I => hq.elim)
  obtain ⟨M1, rfl, r2, rfl, h⟩ := hq
  refine lv_if_ne (tgt := 42) C.1 C.2.1 dX11_saying_37 (by decide) (fun c18 => ?_) (fun c18 => ?_)
  · have h := h.1 c18
    refine l_ild_n C dX11_saying_42 hl 2 rfl rfl ?_
    refine lv_iconst (v := 5) C.1 C.2.1 dX11_saying_43 (by decide) ?_
    refine lv_icmp_ge (tgt := 54) C.1 C.2.1 dX11_saying_44 (by decide) (fun c17 => ?_) (fun c17 => ?_)
    · have h := h.1 c17
      refine l_ald_n (x := some b0) C dX11_saying_54 hl 0 rfl rfl ?_
      refine lv_iconst (v := (-1)) C.1 C.2.1 dX11_saying_55 (by decide) ?_
      refine lv_iconst (v := 0) C.1 C.2.1 dX11_saying_56 (by decide) ?_
      refine k_call Ext.tr C I (k_V (r := some b0) (As := [.int ((-1 : Int32)), .int ((0 : Int32))]) (rest := []) (y := yX11_asks) C (f_recv C I) q1793 q1795 qs79 (Or.inl rfl) q1796 (by decide) rfl pd_X11_asks rfl dX11_saying_57) (ct_X11_asks h) hl.1 dX11_saying_57 [] rfl (Nat.le_of_ble_eq_true rfl) (Or.inl rfl) q1796 q113 ⟨Nat.le_of_ble_eq_true rfl, Nat.le_of_ble_eq_true rfl⟩ (fun v x1 H locs cells slots ex hq I => ?_) (fun a x1 H locs cells slots ex hq I => hq.elim)
      obtain ⟨M3, rfl, rfl, h⟩ := hq
      refine l_ald_n (x := some b0) C dX11_saying_60 hl 0 rfl rfl ?_
      refine l_ald_n (x := some b0) C dX11_saying_61 hl 0 rfl rfl ?_
      refine k_call Ext.tr C I (k_V (r := some b0) (As := []) (rest := [va_rf (some b0)]) (y := yX11_all) C (f_recv C I) q1801 q1803 qs81 (Or.inl rfl) q1804 (by decide) rfl pd_X11_all rfl dX11_saying_62) (ct_X11_all h) hl.1 dX11_saying_62 [.inr (.inl (some b0))] rfl (Nat.le_of_ble_eq_true rfl) (Or.inl rfl) q1804 q113 ⟨Nat.le_of_ble_eq_true rfl, Nat.le_of_ble_eq_true rfl⟩ (fun v x1 H locs cells slots ex hq I => ?_) (fun a x1 H locs cells slots ex hq I => hq.elim)
      obtain ⟨M5, rfl, r6, rfl, h⟩ := hq
      refine lv_iconst (v := 0) C.1 C.2.1 dX11_saying_65 (by decide) ?_
      refine k_call Ext.tr C I (k_V (r := some b0) (As := [.int r6, .int ((0 : Int32))]) (rest := []) (y := yX11_reckons) C (f_recv C I) q1805 q1807 qs82 (Or.inl rfl) q1808 (by decide) rfl pd_X11_reckons rfl dX11_saying_66) (ct_X11_reckons h) hl.1 dX11_saying_66 [] rfl (Nat.le_of_ble_eq_true rfl) (Or.inl rfl) q1808 q113 ⟨Nat.le_of_ble_eq_true rfl, Nat.le_of_ble_eq_true rfl⟩ (fun v x1 H locs cells slots ex hq I => ?_) (fun a x1 H locs cells slots ex hq I => hq.elim)
      obtain ⟨M7, rfl, rfl, h⟩ := hq
      refine l_ild_n C dX11_saying_69 hl 2 rfl rfl ?_
      refine lv_bipush (v := 7) C.1 C.2.1 dX11_saying_70 (by decide) ?_
      refine lv_icmp_ge (tgt := 123) C.1 C.2.1 dX11_saying_72 (by decide) (fun c14 => ?_) (fun c14 => ?_)
      · have h := h.1 c14
        refine l_ald_n (x := some b0) C dX11_saying_123 hl 0 rfl rfl ?_
        refine k_call Ext.tr C I (k_V (r := some b0) (As := []) (rest := []) (y := yX11_looks) C (f_recv C I) q1833 q1835 qs89 (Or.inl rfl) q1836 (by decide) rfl pd_X11_looks rfl dX11_saying_124) (ct_X11_looks h) hl.1 dX11_saying_124 [] rfl (Nat.le_of_ble_eq_true rfl) (Or.inl rfl) q1836 q113 ⟨Nat.le_of_ble_eq_true rfl, Nat.le_of_ble_eq_true rfl⟩ (fun v x1 H locs cells slots ex hq I => ?_) (fun a x1 H locs cells slots ex hq I => hq.elim)
        obtain ⟨M9, rfl, rfl, h⟩ := hq
        refine l_ald_n (x := some b0) C dX11_saying_127 hl 0 rfl rfl ?_
        refine f_A C I (fl_X11_107) (by decide) (by decide) dX11_saying_128 ?_
        refine l_ild_n C dX11_saying_131 hl 1 rfl rfl ?_
        obtain ⟨hi, h⟩ := h
        refine f_ld (k := 63) C I (by decide) hi dX11_saying_132 ?_
        exact r_int C.1 C.2.1 C.2.2.2.2.2.1 rfl C.2.2.2.2.2.2 ⟨rfl, rfl⟩ I dX11_saying_133 ⟨_, rfl, _, rfl, h⟩
      · have h := h.2 c14
        refine l_ild_n C dX11_saying_75 hl 2 rfl rfl ?_
        refine lv_iconst (v := 5) C.1 C.2.1 dX11_saying_76 (by decide) ?_
        refine lv_icmp_ne (tgt := 100) C.1 C.2.1 dX11_saying_77 (by decide) (fun c13 => ?_) (fun c13 => ?_)
        · have h := h.1 c13
          refine l_ald_n (x := some b0) C dX11_saying_100 hl 0 rfl rfl ?_
          refine f_A C I (fl_X11_89) (by decide) (by decide) dX11_saying_101 ?_
          refine l_ild_n C dX11_saying_104 hl 1 rfl rfl ?_
          obtain ⟨hi, h⟩ := h
          refine f_ld (k := 53) C I (by decide) hi dX11_saying_105 ?_
          refine lv_sipush (v := 1000) C.1 C.2.1 dX11_saying_106 (by decide) ?_
          refine lv_icmp_ge (tgt := 121) C.1 C.2.1 dX11_saying_109 (by decide) (fun c11 => ?_) (fun c11 => ?_)
          · have h := h.1 c11
            refine lv_iconst (v := 0) C.1 C.2.1 dX11_saying_121 (by decide) ?_
            exact b_X11_saying_122 C ((0 : Int32)) M7 _ _ _ _ _ h I (hl.sub [] rfl)
          · have h := h.2 c11
            refine l_ald_n (x := some b0) C dX11_saying_112 hl 0 rfl rfl ?_
            refine f_A C I (fl_X11_89) (by decide) (by decide) dX11_saying_113 ?_
            refine l_ild_n C dX11_saying_116 hl 1 rfl rfl ?_
            obtain ⟨hi, h⟩ := h
            refine f_ld (k := 53) C I (by decide) hi dX11_saying_117 ?_
            refine lv_goto (tgt := 122) C.1 C.2.1 dX11_saying_118 (by decide) ?_
            exact b_X11_saying_122 C (mA M7 53 l1.toNatClampNeg) M7 _ _ _ _ _ h I (hl.sub [] rfl)
        · have h := h.2 c13
          refine l_ald_n (x := some b0) C dX11_saying_80 hl 0 rfl rfl ?_
          refine f_A C I (fl_X11_89) (by decide) (by decide) dX11_saying_81 ?_
          refine l_ild_n C dX11_saying_84 hl 1 rfl rfl ?_
          obtain ⟨hi, h⟩ := h
          refine f_ld (k := 53) C I (by decide) hi dX11_saying_85 ?_
          refine lv_sipush (v := 1000) C.1 C.2.1 dX11_saying_86 (by decide) ?_
          refine lv_icmp_ge (tgt := 96) C.1 C.2.1 dX11_saying_89 (by decide) (fun c12 => ?_) (fun c12 => ?_)
          · have h := h.1 c12
            refine lv_iconst (v := 0) C.1 C.2.1 dX11_saying_96 (by decide) ?_
            refine lv_goto (tgt := 122) C.1 C.2.1 dX11_saying_97 (by decide) ?_
            exact b_X11_saying_122 C ((0 : Int32)) M7 _ _ _ _ _ h I (hl.sub [] rfl)
          · have h := h.2 c12
            refine lv_iconst (v := 1) C.1 C.2.1 dX11_saying_92 (by decide) ?_
            refine lv_goto (tgt := 122) C.1 C.2.1 dX11_saying_93 (by decide) ?_
            exact b_X11_saying_122 C ((1 : Int32)) M7 _ _ _ _ _ h I (hl.sub [] rfl)
    · have h := h.2 c17
      refine l_ald_n (x := some b0) C dX11_saying_47 hl 0 rfl rfl ?_
      refine l_ild_n C dX11_saying_48 hl 1 rfl rfl ?_
      refine l_ild_n C dX11_saying_49 hl 2 rfl rfl ?_
      refine k_call Ext.tr C I (k_V (r := some b0) (As := [.int l1, .int l2]) (rest := []) (y := yX11_of) C (f_recv C I) q1789 q1791 qs78 (Or.inl rfl) q1792 (by decide) rfl pd_X11_of rfl dX11_saying_50) (ct_X11_of h) hl.1 dX11_saying_50 [] rfl (Nat.le_of_ble_eq_true rfl) (Or.inl rfl) q1792 q113 ⟨Nat.le_of_ble_eq_true rfl, Nat.le_of_ble_eq_true rfl⟩ (fun v x1 H locs cells slots ex hq I => ?_) (fun a x1 H locs cells slots ex hq I => hq.elim)
      obtain ⟨M15, rfl, r16, rfl, h⟩ := hq
      exact r_int C.1 C.2.1 C.2.2.2.2.2.1 rfl C.2.2.2.2.2.2 ⟨rfl, rfl⟩ I dX11_saying_53 ⟨_, rfl, _, rfl, h⟩
  · have h := h.2 c18
    refine lv_iconst (v := 0) C.1 C.2.1 dX11_saying_40 (by decide) ?_
    exact r_int C.1 C.2.1 C.2.2.2.2.2.1 rfl C.2.2.2.2.2.2 ⟨rfl, rfl⟩ I dX11_saying_41 ⟨_, rfl, _, rfl, h⟩
def w_X11_saying_32 (Q : Int32 → MS → Prop) (l1 : Int32) (l2 : Int32) (M : MS) : Prop := w_X11_saying_33 Q l1 l2 ((0 : Int32)) M
set_option maxHeartbeats 4000000 in
theorem b_X11_saying_32 {b0 z0 : Nat} {M0 : MS} {Q : Int32 → MS → Prop} (C : Cx p s m meth c D T Z "EndingTownModel" cX11_saying 3 (some .int)) : ∀ (l1 : Int32) (l2 : Int32) (M : MS) (H : Heap) (locs : List Loc) (cells slots : Nat) (ls : Array Slot), w_X11_saying_32 Q l1 l2 M → HI (twd D T Z) (mG b0 z0 M0) s (rmX (twd D T Z) 6 151 (mG b0 z0 M0)) H locs cells slots (mG b0 z0 M) → LH ls 3 [(0, .inr (.inl (some b0))), (1, .inl l1), (2, .inl l2)] → W p l e (rmX (twd D T Z) 6 151 (mG b0 z0 M0)) s m args below meth c H locs cells slots (MQX (twd D T Z) (mG b0 z0 M0) (mq b0 z0 (qI Q)) (fun _ _ => False) below s) (F0 m 32 ls [va_rf (some b0)]) := by
  intro l1 l2 M H locs cells slots ls h I hl
  refine lv_iconst (v := 0) C.1 C.2.1 dX11_saying_32 (by decide) ?_
  exact b_X11_saying_33 C l1 l2 ((0 : Int32)) M _ _ _ _ _ h I (hl.sub [0, 1, 2] rfl)
def w_X11_saying (Q : Int32 → MS → Prop) (p0 : Int32) (p1 : Int32) (M : MS) : Prop := ∀ M1 : MS, M1 = sF M 0 ((0 : Int32)) → ((p0 < 0) → (w_X11_saying_32 Q p0 p1 M1)) ∧ ((¬ p0 < 0) → (((mF M1 50 ≤ p0) → (w_X11_saying_32 Q p0 p1 M1)) ∧ ((¬ mF M1 50 ≤ p0) → (w_X11_within (fun r3 M2 => ((r3 = 0) → (w_X11_saying_32 Q p0 p1 M2)) ∧ ((¬ r3 = 0) → (w_X11_saying_33 Q p0 p1 ((1 : Int32)) M2))) p1 ((0 : Int32)) ((7 : Int32)) M1))))
theorem pd_X11_saying : (parseMethodDescriptor yX11_saying.desc).map (fun d => d.parameters.length) = some 2 := by decide +kernel
set_option maxHeartbeats 4000000 in
theorem ct_X11_saying {l : Launch} {D : va_G} {T : Nat → ClassId} {Z : Heap} {b0 z0 : Nat} {M0 : MS} {Q : Int32 → MS → Prop} {p0 : Int32} {p1 : Int32} (hw : w_X11_saying Q p0 p1 M0) : CT (twd D T Z) (Evd D T Z) l yX11_saying (Cond.code yX11_saying cX11_saying 3 (some .int)) 6 151 [va_rf (some b0), .int p0, .int p1] (mG b0 z0 M0) (mq b0 z0 (qI Q)) (fun _ _ => False) := by
  refine CT.ofW (cc := cX11_saying) (nL := 3) (ret := (some .int)) Ext.rf (by decide) (Or.inl rfl) ?_
  intro p e s m below meth c hx hb hml hown hr hlk hnm hcb hm hc hn hE I
  have C : Cx p s m meth c D T Z "EndingTownModel" cX11_saying 3 (some .int) := ⟨hx, hb, hml, hown, hE, hr, hlk⟩
  refine w_entry [.inr (.inl (some b0)), .inl p0, .inl p1] (Nat.le_of_ble_eq_true rfl) (fun ls hl => ?_)
  have hl : LH ls 3 [(0, .inr (.inl (some b0))), (1, .inl p0), (2, .inl p1)] := hl
  have h := hw
  refine l_ald_n (x := some b0) C dX11_saying_0 hl 0 rfl rfl ?_
  refine lv_iconst (v := 0) C.1 C.2.1 dX11_saying_1 (by decide) ?_
  refine f_PI C I (fp_X11_122) (by decide) dX11_saying_2 (fit_i _) (fun H locs M1 eM1 I => ?_)
  have h := h M1 eM1
  refine l_ald_n (x := some b0) C dX11_saying_5 hl 0 rfl rfl ?_
  refine l_ild_n C dX11_saying_6 hl 1 rfl rfl ?_
  refine lv_if_lt (tgt := 32) C.1 C.2.1 dX11_saying_7 (by decide) (fun c6 => ?_) (fun c6 => ?_)
  · have h := h.1 c6
    exact b_X11_saying_32 C p0 p1 M1 _ _ _ _ _ h I (hl.sub [0, 1, 2] rfl)
  · have h := h.2 c6
    refine l_ild_n C dX11_saying_10 hl 1 rfl rfl ?_
    refine l_ald_n (x := some b0) C dX11_saying_11 hl 0 rfl rfl ?_
    refine f_I C I (fl_X11_279) (by decide) dX11_saying_12 ?_
    refine lv_icmp_ge (tgt := 32) C.1 C.2.1 dX11_saying_15 (by decide) (fun c5 => ?_) (fun c5 => ?_)
    · have h := h.1 c5
      exact b_X11_saying_32 C p0 p1 M1 _ _ _ _ _ h I (hl.sub [0, 1, 2] rfl)
    · have h := h.2 c5
      refine l_ild_n C dX11_saying_18 hl 2 rfl rfl ?_
      refine lv_iconst (v := 0) C.1 C.2.1 dX11_saying_19 (by decide) ?_
      refine lv_bipush (v := 7) C.1 C.2.1 dX11_saying_20 (by decide) ?_
      refine k_call Ext.tr C I (k_S (As := [.int p1, .int ((0 : Int32)), .int ((7 : Int32))]) (rest := [va_rf (some b0)]) (y := yX11_within) C q1699 q1700 q113 (Or.inl rfl) q1701 (by decide) rfl pd_X11_within rfl dX11_saying_22) (ct_X11_within h) hl.1 dX11_saying_22 [.inr (.inl (some b0))] rfl (Nat.le_of_ble_eq_true rfl) (Or.inl rfl) q1701 q113 ⟨Nat.le_of_ble_eq_true rfl, Nat.le_of_ble_eq_true rfl⟩ (fun v x1 H locs cells slots ex hq I => ?_) (fun a x1 H locs cells slots ex hq I => hq.elim)
      obtain ⟨M2, rfl, r3, rfl, h⟩ := hq
      refine lv_if_eq (tgt := 32) C.1 C.2.1 dX11_saying_25 (by decide) (fun c4 => ?_) (fun c4 => ?_)
      · have h := h.1 c4
        exact b_X11_saying_32 C p0 p1 M2 _ _ _ _ _ h I (hl.sub [0, 1, 2] rfl)
      · have h := h.2 c4
        refine lv_iconst (v := 1) C.1 C.2.1 dX11_saying_28 (by decide) ?_
        refine lv_goto (tgt := 33) C.1 C.2.1 dX11_saying_29 (by decide) ?_
        exact b_X11_saying_33 C p0 p1 ((1 : Int32)) M2 _ _ _ _ _ h I (hl.sub [0, 1, 2] rfl)
def w_X11_could_22 (Q : Int32 → MS → Prop) (M : MS) : Prop := Q ((0 : Int32)) M
set_option maxHeartbeats 4000000 in
theorem b_X11_could_22 {b0 z0 : Nat} {M0 : MS} {Q : Int32 → MS → Prop} (C : Cx p s m meth c D T Z "EndingTownModel" cX11_could 8 (some .int)) : ∀ (M : MS) (H : Heap) (locs : List Loc) (cells slots : Nat) (ls : Array Slot), w_X11_could_22 Q M → HI (twd D T Z) (mG b0 z0 M0) s (rmX (twd D T Z) 6 151 (mG b0 z0 M0)) H locs cells slots (mG b0 z0 M) → LH ls 8 [] → W p l e (rmX (twd D T Z) 6 151 (mG b0 z0 M0)) s m args below meth c H locs cells slots (MQX (twd D T Z) (mG b0 z0 M0) (mq b0 z0 (qI Q)) (fun _ _ => False) below s) (F0 m 22 ls []) := by
  intro M H locs cells slots ls h I hl
  refine lv_iconst (v := 0) C.1 C.2.1 dX11_could_22 (by decide) ?_
  exact r_int C.1 C.2.1 C.2.2.2.2.2.1 rfl C.2.2.2.2.2.2 ⟨rfl, rfl⟩ I dX11_could_23 ⟨_, rfl, _, rfl, h⟩
def w_X11_could_94 (Q : Int32 → MS → Prop) (k53 : Int32 → Int32 → Int32 → Int32 → Int32 → MS → Prop) (l3 : Int32) (l4 : Int32) (l5 : Int32) (l7 : Int32) (t0 : Int32) (t1 : Int32) (M : MS) : Prop := k53 l3 l4 l5 ((t1 ||| t0)) ((l7 + 1)) M
set_option maxHeartbeats 4000000 in
theorem b_X11_could_94 {b0 z0 : Nat} {M0 : MS} {Q : Int32 → MS → Prop} {k53 : Int32 → Int32 → Int32 → Int32 → Int32 → MS → Prop} (C : Cx p s m meth c D T Z "EndingTownModel" cX11_could 8 (some .int)) (hk53 : ∀ (l3 : Int32) (l4 : Int32) (l5 : Int32) (l6 : Int32) (l7 : Int32) (M : MS) (H : Heap) (locs : List Loc) (cells slots : Nat) (ls : Array Slot), k53 l3 l4 l5 l6 l7 M → HI (twd D T Z) (mG b0 z0 M0) s (rmX (twd D T Z) 6 151 (mG b0 z0 M0)) H locs cells slots (mG b0 z0 M) → LH ls 8 [(0, .inr (.inl (some b0))), (3, .inl l3), (4, .inl l4), (5, .inl l5), (6, .inl l6), (7, .inl l7)] → W p l e (rmX (twd D T Z) 6 151 (mG b0 z0 M0)) s m args below meth c H locs cells slots (MQX (twd D T Z) (mG b0 z0 M0) (mq b0 z0 (qI Q)) (fun _ _ => False) below s) (F0 m 53 ls [])) : ∀ (l3 : Int32) (l4 : Int32) (l5 : Int32) (l7 : Int32) (t0 : Int32) (t1 : Int32) (M : MS) (H : Heap) (locs : List Loc) (cells slots : Nat) (ls : Array Slot), w_X11_could_94 Q k53 l3 l4 l5 l7 t0 t1 M → HI (twd D T Z) (mG b0 z0 M0) s (rmX (twd D T Z) 6 151 (mG b0 z0 M0)) H locs cells slots (mG b0 z0 M) → LH ls 8 [(0, .inr (.inl (some b0))), (3, .inl l3), (4, .inl l4), (5, .inl l5), (7, .inl l7)] → W p l e (rmX (twd D T Z) 6 151 (mG b0 z0 M0)) s m args below meth c H locs cells slots (MQX (twd D T Z) (mG b0 z0 M0) (mq b0 z0 (qI Q)) (fun _ _ => False) below s) (F0 m 94 ls [.int t0, .int t1]) := by
  intro l3 l4 l5 l7 t0 t1 M H locs cells slots ls h I hl
  refine lv_ior C.1 C.2.1 dX11_could_94 ?_
  refine l_ist C dX11_could_95 hl (by decide) rfl (fun ls hl => ?_)
  have hl : LH ls 8 [(6, .inl ((t1 ||| t0))), (0, .inr (.inl (some b0))), (3, .inl l3), (4, .inl l4), (5, .inl l5), (7, .inl l7)] := hl
  refine l_inc (q := 5) (v := 1) C dX11_could_97 hl rfl (by decide) (by decide) rfl (fun ls hl => ?_)
  have hl : LH ls 8 [(7, .inl ((l7 + 1))), (6, .inl ((t1 ||| t0))), (0, .inr (.inl (some b0))), (3, .inl l3), (4, .inl l4), (5, .inl l5)] := hl
  refine lv_goto (tgt := 53) C.1 C.2.1 dX11_could_100 (by decide) ?_
  exact hk53 l3 l4 l5 ((t1 ||| t0)) ((l7 + 1)) M _ _ _ _ _ h I (hl.sub [2, 3, 4, 5, 1, 0] rfl)
def w_X11_could_75 (Q : Int32 → MS → Prop) (k53 : Int32 → Int32 → Int32 → Int32 → Int32 → MS → Prop) (l3 : Int32) (l4 : Int32) (l5 : Int32) (l7 : Int32) (t0 : Int32) (t1 : Int32) (t2 : Int32) (t4 : Int32) (M : MS) : Prop := w_X11_byHow (fun r2 M1 => (((1000 : Int32) ≤ r2) → (w_X11_could_94 Q k53 l3 l4 l5 l7 ((0 : Int32)) t4 M1)) ∧ ((¬ (1000 : Int32) ≤ r2) → (w_X11_could_94 Q k53 l3 l4 l5 l7 (((1 : Int32) <<< (l7 &&& 31))) t4 M1))) t2 t1 t0 l7 M
set_option maxHeartbeats 4000000 in
theorem b_X11_could_75 {b0 z0 : Nat} {M0 : MS} {Q : Int32 → MS → Prop} {k53 : Int32 → Int32 → Int32 → Int32 → Int32 → MS → Prop} (C : Cx p s m meth c D T Z "EndingTownModel" cX11_could 8 (some .int)) (hk53 : ∀ (l3 : Int32) (l4 : Int32) (l5 : Int32) (l6 : Int32) (l7 : Int32) (M : MS) (H : Heap) (locs : List Loc) (cells slots : Nat) (ls : Array Slot), k53 l3 l4 l5 l6 l7 M → HI (twd D T Z) (mG b0 z0 M0) s (rmX (twd D T Z) 6 151 (mG b0 z0 M0)) H locs cells slots (mG b0 z0 M) → LH ls 8 [(0, .inr (.inl (some b0))), (3, .inl l3), (4, .inl l4), (5, .inl l5), (6, .inl l6), (7, .inl l7)] → W p l e (rmX (twd D T Z) 6 151 (mG b0 z0 M0)) s m args below meth c H locs cells slots (MQX (twd D T Z) (mG b0 z0 M0) (mq b0 z0 (qI Q)) (fun _ _ => False) below s) (F0 m 53 ls [])) : ∀ (l3 : Int32) (l4 : Int32) (l5 : Int32) (l7 : Int32) (t0 : Int32) (t1 : Int32) (t2 : Int32) (t4 : Int32) (M : MS) (H : Heap) (locs : List Loc) (cells slots : Nat) (ls : Array Slot), w_X11_could_75 Q k53 l3 l4 l5 l7 t0 t1 t2 t4 M → HI (twd D T Z) (mG b0 z0 M0) s (rmX (twd D T Z) 6 151 (mG b0 z0 M0)) H locs cells slots (mG b0 z0 M) → LH ls 8 [(0, .inr (.inl (some b0))), (3, .inl l3), (4, .inl l4), (5, .inl l5), (7, .inl l7)] → W p l e (rmX (twd D T Z) 6 151 (mG b0 z0 M0)) s m args below meth c H locs cells slots (MQX (twd D T Z) (mG b0 z0 M0) (mq b0 z0 (qI Q)) (fun _ _ => False) below s) (F0 m 75 ls [.int t0, .int t1, .int t2, va_rf (some b0), .int t4]) := by
  intro l3 l4 l5 l7 t0 t1 t2 t4 M H locs cells slots ls h I hl
  refine l_ild C dX11_could_75 hl 4 rfl ?_
  refine k_call Ext.tr C I (k_V (r := some b0) (As := [.int t2, .int t1, .int t0, .int l7]) (rest := [.int t4]) (y := yX11_byHow) C (f_recv C I) q1813 q1815 qs84 (Or.inl rfl) q1816 (by decide) rfl pd_X11_byHow rfl dX11_could_77) (ct_X11_byHow h) hl.1 dX11_could_77 [.inl t4] rfl (Nat.le_of_ble_eq_true rfl) (Or.inl rfl) q1816 q113 ⟨Nat.le_of_ble_eq_true rfl, Nat.le_of_ble_eq_true rfl⟩ (fun v x1 H locs cells slots ex hq I => ?_) (fun a x1 H locs cells slots ex hq I => hq.elim)
  obtain ⟨M1, rfl, r2, rfl, h⟩ := hq
  refine lv_sipush (v := 1000) C.1 C.2.1 dX11_could_80 (by decide) ?_
  refine lv_icmp_ge (tgt := 93) C.1 C.2.1 dX11_could_83 (by decide) (fun c3 => ?_) (fun c3 => ?_)
  · have h := h.1 c3
    refine lv_iconst (v := 0) C.1 C.2.1 dX11_could_93 (by decide) ?_
    exact b_X11_could_94 C hk53 l3 l4 l5 l7 ((0 : Int32)) t4 M1 _ _ _ _ _ h I (hl.sub [0, 1, 2, 3, 4] rfl)
  · have h := h.2 c3
    refine lv_iconst (v := 1) C.1 C.2.1 dX11_could_86 (by decide) ?_
    refine l_ild C dX11_could_87 hl 4 rfl ?_
    refine lv_ishl C.1 C.2.1 dX11_could_89 ?_
    refine lv_goto (tgt := 94) C.1 C.2.1 dX11_could_90 (by decide) ?_
    exact b_X11_could_94 C hk53 l3 l4 l5 l7 (((1 : Int32) <<< (l7 &&& 31))) t4 M1 _ _ _ _ _ h I (hl.sub [0, 1, 2, 3, 4] rfl)
def w_X11_could_53 (Q : Int32 → MS → Prop) : Nat → Int32 → Int32 → Int32 → Int32 → Int32 → MS → Prop
  | 0 => fun _ _ _ _ _ _ => False
  | f53 + 1 => fun l3 l4 l5 l6 l7 M => (((4 : Int32) < l7) → (Q l6 M)) ∧ ((¬ (4 : Int32) < l7) → (((l4 = 0) → (w_X11_could_75 Q (w_X11_could_53 Q f53) l3 l4 l5 l7 ((0 : Int32)) l3 l5 l6 M)) ∧ ((¬ l4 = 0) → (w_X11_could_75 Q (w_X11_could_53 Q f53) l3 l4 l5 l7 ((1 : Int32)) l3 l5 l6 M))))
set_option maxHeartbeats 4000000 in
theorem b_X11_could_53 {b0 z0 : Nat} {M0 : MS} {Q : Int32 → MS → Prop} (C : Cx p s m meth c D T Z "EndingTownModel" cX11_could 8 (some .int)) : ∀ (n : Nat) (l3 : Int32) (l4 : Int32) (l5 : Int32) (l6 : Int32) (l7 : Int32) (M : MS) (H : Heap) (locs : List Loc) (cells slots : Nat) (ls : Array Slot), w_X11_could_53 Q n l3 l4 l5 l6 l7 M → HI (twd D T Z) (mG b0 z0 M0) s (rmX (twd D T Z) 6 151 (mG b0 z0 M0)) H locs cells slots (mG b0 z0 M) → LH ls 8 [(0, .inr (.inl (some b0))), (3, .inl l3), (4, .inl l4), (5, .inl l5), (6, .inl l6), (7, .inl l7)] → W p l e (rmX (twd D T Z) 6 151 (mG b0 z0 M0)) s m args below meth c H locs cells slots (MQX (twd D T Z) (mG b0 z0 M0) (mq b0 z0 (qI Q)) (fun _ _ => False) below s) (F0 m 53 ls []) := by
  intro n
  induction n with
  | zero => intro l3 l4 l5 l6 l7 M H locs cells slots ls h; exact (show False from h).elim
  | succ n ih =>
    intro l3 l4 l5 l6 l7 M H locs cells slots ls h I hl
    have hk53 := ih
    refine l_ild C dX11_could_53 hl 5 rfl ?_
    refine lv_iconst (v := 4) C.1 C.2.1 dX11_could_55 (by decide) ?_
    refine lv_icmp_gt (tgt := 103) C.1 C.2.1 dX11_could_56 (by decide) (fun c2 => ?_) (fun c2 => ?_)
    · have h := h.1 c2
      refine l_ild C dX11_could_103 hl 4 rfl ?_
      exact r_int C.1 C.2.1 C.2.2.2.2.2.1 rfl C.2.2.2.2.2.2 ⟨rfl, rfl⟩ I dX11_could_105 ⟨_, rfl, _, rfl, h⟩
    · have h := h.2 c2
      refine l_ild C dX11_could_59 hl 4 rfl ?_
      refine l_ald_n (x := some b0) C dX11_could_61 hl 0 rfl rfl ?_
      refine l_ild C dX11_could_62 hl 3 rfl ?_
      refine l_ild_n C dX11_could_64 hl 1 rfl rfl ?_
      refine l_ild C dX11_could_65 hl 2 rfl ?_
      refine lv_if_eq (tgt := 74) C.1 C.2.1 dX11_could_67 (by decide) (fun c1 => ?_) (fun c1 => ?_)
      · have h := h.1 c1
        refine lv_iconst (v := 0) C.1 C.2.1 dX11_could_74 (by decide) ?_
        exact b_X11_could_75 C hk53 l3 l4 l5 l7 ((0 : Int32)) l3 l5 l6 M _ _ _ _ _ h I (hl.sub [0, 1, 2, 3, 5] rfl)
      · have h := h.2 c1
        refine lv_iconst (v := 1) C.1 C.2.1 dX11_could_70 (by decide) ?_
        refine lv_goto (tgt := 75) C.1 C.2.1 dX11_could_71 (by decide) ?_
        exact b_X11_could_75 C hk53 l3 l4 l5 l7 ((1 : Int32)) l3 l5 l6 M _ _ _ _ _ h I (hl.sub [0, 1, 2, 3, 5] rfl)
def w_X11_could (Q : Int32 → MS → Prop) (p0 : Int32) (p1 : Int32) (p2 : Int32) (p3 : Int32) (M : MS) : Prop := ∀ M1 : MS, M1 = sF M 0 ((0 : Int32)) → w_X11_isWho (fun r3 M2 => ((r3 = 0) → (w_X11_could_22 Q M2)) ∧ ((¬ r3 = 0) → (w_X11_isThing (fun r5 M4 => ((¬ r5 = 0) → (w_X11_asks (fun M6 => w_X11_all (fun r9 M8 => w_X11_reckons (fun M10 => w_X11_pairAt (fun r13 M12 => ∃ n, w_X11_could_53 Q n p2 p3 r13 ((0 : Int32)) ((0 : Int32)) M12) p0 p1 M10) r9 ((0 : Int32)) M8) M6) p0 p1 M4)) ∧ ((r5 = 0) → (w_X11_could_22 Q M4))) p2 M2))) p0 p1 M1
theorem pd_X11_could : (parseMethodDescriptor yX11_could.desc).map (fun d => d.parameters.length) = some 4 := by decide +kernel
set_option maxHeartbeats 4000000 in
theorem ct_X11_could {l : Launch} {D : va_G} {T : Nat → ClassId} {Z : Heap} {b0 z0 : Nat} {M0 : MS} {Q : Int32 → MS → Prop} {p0 : Int32} {p1 : Int32} {p2 : Int32} {p3 : Int32} (hw : w_X11_could Q p0 p1 p2 p3 M0) : CT (twd D T Z) (Evd D T Z) l yX11_could (Cond.code yX11_could cX11_could 8 (some .int)) 6 151 [va_rf (some b0), .int p0, .int p1, .int p2, .int p3] (mG b0 z0 M0) (mq b0 z0 (qI Q)) (fun _ _ => False) := by
  refine CT.ofW (cc := cX11_could) (nL := 8) (ret := (some .int)) Ext.rf (by decide) (Or.inl rfl) ?_
  intro p e s m below meth c hx hb hml hown hr hlk hnm hcb hm hc hn hE I
  have C : Cx p s m meth c D T Z "EndingTownModel" cX11_could 8 (some .int) := ⟨hx, hb, hml, hown, hE, hr, hlk⟩
  refine w_entry [.inr (.inl (some b0)), .inl p0, .inl p1, .inl p2, .inl p3] (Nat.le_of_ble_eq_true rfl) (fun ls hl => ?_)
  have hl : LH ls 8 [(0, .inr (.inl (some b0))), (1, .inl p0), (2, .inl p1), (3, .inl p2), (4, .inl p3)] := hl
  have h := hw
  refine l_ald_n (x := some b0) C dX11_could_0 hl 0 rfl rfl ?_
  refine lv_iconst (v := 0) C.1 C.2.1 dX11_could_1 (by decide) ?_
  refine f_PI C I (fp_X11_122) (by decide) dX11_could_2 (fit_i _) (fun H locs M1 eM1 I => ?_)
  have h := h M1 eM1
  refine l_ald_n (x := some b0) C dX11_could_5 hl 0 rfl rfl ?_
  refine l_ild_n C dX11_could_6 hl 1 rfl rfl ?_
  refine l_ild_n C dX11_could_7 hl 2 rfl rfl ?_
  refine k_call Ext.tr C I (k_V (r := some b0) (As := [.int p0, .int p1]) (rest := []) (y := yX11_isWho) C (f_recv C I) q1709 q1711 qs66 (Or.inl rfl) q1712 (by decide) rfl pd_X11_isWho rfl dX11_could_8) (ct_X11_isWho h) hl.1 dX11_could_8 [] rfl (Nat.le_of_ble_eq_true rfl) (Or.inl rfl) q1712 q113 ⟨Nat.le_of_ble_eq_true rfl, Nat.le_of_ble_eq_true rfl⟩ (fun v x1 H locs cells slots ex hq I => ?_) (fun a x1 H locs cells slots ex hq I => hq.elim)
  obtain ⟨M2, rfl, r3, rfl, h⟩ := hq
  refine lv_if_eq (tgt := 22) C.1 C.2.1 dX11_could_11 (by decide) (fun c15 => ?_) (fun c15 => ?_)
  · have h := h.1 c15
    exact b_X11_could_22 C M2 _ _ _ _ _ h I (hl.sub [] rfl)
  · have h := h.2 c15
    refine l_ald_n (x := some b0) C dX11_could_14 hl 0 rfl rfl ?_
    refine l_ild_n C dX11_could_15 hl 3 rfl rfl ?_
    refine k_call Ext.tr C I (k_V (r := some b0) (As := [.int p2]) (rest := []) (y := yX11_isThing) C (f_recv C I) q1717 q1719 qs67 (Or.inl rfl) q1720 (by decide) rfl pd_X11_isThing rfl dX11_could_16) (ct_X11_isThing h) hl.1 dX11_could_16 [] rfl (Nat.le_of_ble_eq_true rfl) (Or.inl rfl) q1720 q113 ⟨Nat.le_of_ble_eq_true rfl, Nat.le_of_ble_eq_true rfl⟩ (fun v x1 H locs cells slots ex hq I => ?_) (fun a x1 H locs cells slots ex hq I => hq.elim)
    obtain ⟨M4, rfl, r5, rfl, h⟩ := hq
    refine lv_if_ne (tgt := 24) C.1 C.2.1 dX11_could_19 (by decide) (fun c14 => ?_) (fun c14 => ?_)
    · have h := h.1 c14
      refine l_ald_n (x := some b0) C dX11_could_24 hl 0 rfl rfl ?_
      refine l_ild_n C dX11_could_25 hl 1 rfl rfl ?_
      refine l_ild_n C dX11_could_26 hl 2 rfl rfl ?_
      refine k_call Ext.tr C I (k_V (r := some b0) (As := [.int p0, .int p1]) (rest := []) (y := yX11_asks) C (f_recv C I) q1793 q1795 qs79 (Or.inl rfl) q1796 (by decide) rfl pd_X11_asks rfl dX11_could_27) (ct_X11_asks h) hl.1 dX11_could_27 [] rfl (Nat.le_of_ble_eq_true rfl) (Or.inl rfl) q1796 q113 ⟨Nat.le_of_ble_eq_true rfl, Nat.le_of_ble_eq_true rfl⟩ (fun v x1 H locs cells slots ex hq I => ?_) (fun a x1 H locs cells slots ex hq I => hq.elim)
      obtain ⟨M6, rfl, rfl, h⟩ := hq
      refine l_ald_n (x := some b0) C dX11_could_30 hl 0 rfl rfl ?_
      refine l_ald_n (x := some b0) C dX11_could_31 hl 0 rfl rfl ?_
      refine k_call Ext.tr C I (k_V (r := some b0) (As := []) (rest := [va_rf (some b0)]) (y := yX11_all) C (f_recv C I) q1801 q1803 qs81 (Or.inl rfl) q1804 (by decide) rfl pd_X11_all rfl dX11_could_32) (ct_X11_all h) hl.1 dX11_could_32 [.inr (.inl (some b0))] rfl (Nat.le_of_ble_eq_true rfl) (Or.inl rfl) q1804 q113 ⟨Nat.le_of_ble_eq_true rfl, Nat.le_of_ble_eq_true rfl⟩ (fun v x1 H locs cells slots ex hq I => ?_) (fun a x1 H locs cells slots ex hq I => hq.elim)
      obtain ⟨M8, rfl, r9, rfl, h⟩ := hq
      refine lv_iconst (v := 0) C.1 C.2.1 dX11_could_35 (by decide) ?_
      refine k_call Ext.tr C I (k_V (r := some b0) (As := [.int r9, .int ((0 : Int32))]) (rest := []) (y := yX11_reckons) C (f_recv C I) q1805 q1807 qs82 (Or.inl rfl) q1808 (by decide) rfl pd_X11_reckons rfl dX11_could_36) (ct_X11_reckons h) hl.1 dX11_could_36 [] rfl (Nat.le_of_ble_eq_true rfl) (Or.inl rfl) q1808 q113 ⟨Nat.le_of_ble_eq_true rfl, Nat.le_of_ble_eq_true rfl⟩ (fun v x1 H locs cells slots ex hq I => ?_) (fun a x1 H locs cells slots ex hq I => hq.elim)
      obtain ⟨M10, rfl, rfl, h⟩ := hq
      refine l_ald_n (x := some b0) C dX11_could_39 hl 0 rfl rfl ?_
      refine l_ild_n C dX11_could_40 hl 1 rfl rfl ?_
      refine l_ild_n C dX11_could_41 hl 2 rfl rfl ?_
      refine k_call Ext.tr C I (k_V (r := some b0) (As := [.int p0, .int p1]) (rest := []) (y := yX11_pairAt) C (f_recv C I) q1797 q1799 qs80 (Or.inl rfl) q1800 (by decide) rfl pd_X11_pairAt rfl dX11_could_42) (ct_X11_pairAt h) hl.1 dX11_could_42 [] rfl (Nat.le_of_ble_eq_true rfl) (Or.inl rfl) q1800 q113 ⟨Nat.le_of_ble_eq_true rfl, Nat.le_of_ble_eq_true rfl⟩ (fun v x1 H locs cells slots ex hq I => ?_) (fun a x1 H locs cells slots ex hq I => hq.elim)
      obtain ⟨M12, rfl, r13, rfl, h⟩ := hq
      refine l_ist C dX11_could_45 hl (by decide) rfl (fun ls hl => ?_)
      have hl : LH ls 8 [(5, .inl r13), (0, .inr (.inl (some b0))), (1, .inl p0), (2, .inl p1), (3, .inl p2), (4, .inl p3)] := hl
      refine lv_iconst (v := 0) C.1 C.2.1 dX11_could_47 (by decide) ?_
      refine l_ist C dX11_could_48 hl (by decide) rfl (fun ls hl => ?_)
      have hl : LH ls 8 [(6, .inl ((0 : Int32))), (5, .inl r13), (0, .inr (.inl (some b0))), (1, .inl p0), (2, .inl p1), (3, .inl p2), (4, .inl p3)] := hl
      refine lv_iconst (v := 0) C.1 C.2.1 dX11_could_50 (by decide) ?_
      refine l_ist C dX11_could_51 hl (by decide) rfl (fun ls hl => ?_)
      have hl : LH ls 8 [(7, .inl ((0 : Int32))), (6, .inl ((0 : Int32))), (5, .inl r13), (0, .inr (.inl (some b0))), (1, .inl p0), (2, .inl p1), (3, .inl p2), (4, .inl p3)] := hl
      obtain ⟨n, h⟩ := h
      exact b_X11_could_53 C n p2 p3 r13 ((0 : Int32)) ((0 : Int32)) M12 _ _ _ _ _ h I (hl.sub [3, 6, 7, 2, 1, 0] rfl)
    · have h := h.2 c14
      exact b_X11_could_22 C M4 _ _ _ _ _ h I (hl.sub [] rfl)
def w_X11_holding_41 (Q : Int32 → MS → Prop) (k12 : Int32 → Int32 → MS → Prop) (l1 : Int32) (l2 : Int32) (t0 : Int32) (t1 : Int32) (t2 : Nat) (M : MS) : Prop := mlen t2 ≠ 0 ∧ vp_in t1 (mlen t2) ∧ ∀ M1 : MS, M1 = sA M t2 t1.toNatClampNeg t0 → k12 l1 ((l2 + 1)) M1
set_option maxHeartbeats 4000000 in
theorem b_X11_holding_41 {b0 z0 : Nat} {M0 : MS} {Q : Int32 → MS → Prop} {k12 : Int32 → Int32 → MS → Prop} (C : Cx p s m meth c D T Z "EndingTownModel" cX11_holding 5 (some .int)) (hk12 : ∀ (l1 : Int32) (l2 : Int32) (M : MS) (H : Heap) (locs : List Loc) (cells slots : Nat) (ls : Array Slot), k12 l1 l2 M → HI (twd D T Z) (mG b0 z0 M0) s (rmX (twd D T Z) 5 125 (mG b0 z0 M0)) H locs cells slots (mG b0 z0 M) → LH ls 5 [(0, .inr (.inl (some b0))), (1, .inl l1), (2, .inl l2)] → W p l e (rmX (twd D T Z) 5 125 (mG b0 z0 M0)) s m args below meth c H locs cells slots (MQX (twd D T Z) (mG b0 z0 M0) (mq b0 z0 (qI Q)) (fun _ _ => False) below s) (F0 m 12 ls [])) : ∀ (l1 : Int32) (l2 : Int32) (t0 : Int32) (t1 : Int32) (t2 : Nat) (M : MS) (H : Heap) (locs : List Loc) (cells slots : Nat) (ls : Array Slot), w_X11_holding_41 Q k12 l1 l2 t0 t1 t2 M → HI (twd D T Z) (mG b0 z0 M0) s (rmX (twd D T Z) 5 125 (mG b0 z0 M0)) H locs cells slots (mG b0 z0 M) → LH ls 5 [(0, .inr (.inl (some b0))), (1, .inl l1), (2, .inl l2)] → W p l e (rmX (twd D T Z) 5 125 (mG b0 z0 M0)) s m args below meth c H locs cells slots (MQX (twd D T Z) (mG b0 z0 M0) (mq b0 z0 (qI Q)) (fun _ _ => False) below s) (F0 m 41 ls [.int t0, .int t1, va_rf (some (b0 + moff t2))]) := by
  intro l1 l2 t0 t1 t2 M H locs cells slots ls h I hl
  obtain ⟨hm, h⟩ := h
  obtain ⟨hi, h⟩ := h
  refine f_st (k := t2) C I hm hi dX11_holding_41 (fun H locs M1 eM1 I => ?_)
  have h := h M1 eM1
  refine l_inc (q := 2) (v := 1) C dX11_holding_42 hl rfl (by decide) (by decide) rfl (fun ls hl => ?_)
  have hl : LH ls 5 [(2, .inl ((l2 + 1))), (0, .inr (.inl (some b0))), (1, .inl l1)] := hl
  refine lv_goto (tgt := 12) C.1 C.2.1 dX11_holding_45 (by decide) ?_
  exact hk12 l1 ((l2 + 1)) M1 _ _ _ _ _ h I (hl.sub [1, 2, 0] rfl)
def w_X11_holding_151 (Q : Int32 → MS → Prop) (k78 : Int32 → Int32 → MS → Prop) (k86 : Int32 → Int32 → Int32 → MS → Prop) (l1 : Int32) (l2 : Int32) (l3 : Int32) (M : MS) : Prop := k86 l1 l2 ((l3 + 1)) M
set_option maxHeartbeats 4000000 in
theorem b_X11_holding_151 {b0 z0 : Nat} {M0 : MS} {Q : Int32 → MS → Prop} {k78 : Int32 → Int32 → MS → Prop} {k86 : Int32 → Int32 → Int32 → MS → Prop} (C : Cx p s m meth c D T Z "EndingTownModel" cX11_holding 5 (some .int)) (hk78 : ∀ (l1 : Int32) (l2 : Int32) (M : MS) (H : Heap) (locs : List Loc) (cells slots : Nat) (ls : Array Slot), k78 l1 l2 M → HI (twd D T Z) (mG b0 z0 M0) s (rmX (twd D T Z) 5 125 (mG b0 z0 M0)) H locs cells slots (mG b0 z0 M) → LH ls 5 [(0, .inr (.inl (some b0))), (1, .inl l1), (2, .inl l2)] → W p l e (rmX (twd D T Z) 5 125 (mG b0 z0 M0)) s m args below meth c H locs cells slots (MQX (twd D T Z) (mG b0 z0 M0) (mq b0 z0 (qI Q)) (fun _ _ => False) below s) (F0 m 78 ls [])) (hk86 : ∀ (l1 : Int32) (l2 : Int32) (l3 : Int32) (M : MS) (H : Heap) (locs : List Loc) (cells slots : Nat) (ls : Array Slot), k86 l1 l2 l3 M → HI (twd D T Z) (mG b0 z0 M0) s (rmX (twd D T Z) 5 125 (mG b0 z0 M0)) H locs cells slots (mG b0 z0 M) → LH ls 5 [(0, .inr (.inl (some b0))), (1, .inl l1), (2, .inl l2), (3, .inl l3)] → W p l e (rmX (twd D T Z) 5 125 (mG b0 z0 M0)) s m args below meth c H locs cells slots (MQX (twd D T Z) (mG b0 z0 M0) (mq b0 z0 (qI Q)) (fun _ _ => False) below s) (F0 m 86 ls [])) : ∀ (l1 : Int32) (l2 : Int32) (l3 : Int32) (M : MS) (H : Heap) (locs : List Loc) (cells slots : Nat) (ls : Array Slot), w_X11_holding_151 Q k78 k86 l1 l2 l3 M → HI (twd D T Z) (mG b0 z0 M0) s (rmX (twd D T Z) 5 125 (mG b0 z0 M0)) H locs cells slots (mG b0 z0 M) → LH ls 5 [(0, .inr (.inl (some b0))), (1, .inl l1), (2, .inl l2), (3, .inl l3)] → W p l e (rmX (twd D T Z) 5 125 (mG b0 z0 M0)) s m args below meth c H locs cells slots (MQX (twd D T Z) (mG b0 z0 M0) (mq b0 z0 (qI Q)) (fun _ _ => False) below s) (F0 m 151 ls []) := by
  intro l1 l2 l3 M H locs cells slots ls h I hl
  refine l_inc (q := 3) (v := 1) C dX11_holding_151 hl rfl (by decide) (by decide) rfl (fun ls hl => ?_)
  have hl : LH ls 5 [(3, .inl ((l3 + 1))), (0, .inr (.inl (some b0))), (1, .inl l1), (2, .inl l2)] := hl
  refine lv_goto (tgt := 86) C.1 C.2.1 dX11_holding_154 (by decide) ?_
  exact hk86 l1 l2 ((l3 + 1)) M _ _ _ _ _ h I (hl.sub [1, 2, 3, 0] rfl)
def w_X11_holding_86 (Q : Int32 → MS → Prop) (k78 : Int32 → Int32 → MS → Prop) : Nat → Int32 → Int32 → Int32 → MS → Prop
  | 0 => fun _ _ _ _ => False
  | f86 + 1 => fun l1 l2 l3 M => ((((8 : Int32) * mF M 59) ≤ l3) → (k78 l1 l2 M)) ∧ ((¬ ((8 : Int32) * mF M 59) ≤ l3) → (vp_in l3 (mlen 58) ∧ ((mA M 58 l3.toNatClampNeg < (1000 : Int32)) → (w_X11_holding_151 Q k78 (w_X11_holding_86 Q k78 f86) l1 l2 l3 M)) ∧ ((¬ mA M 58 l3.toNatClampNeg < (1000 : Int32)) → (((mF M 5 ≤ (l3 - l3 / (8 : Int32) * (8 : Int32))) → (w_X11_holding_151 Q k78 (w_X11_holding_86 Q k78 f86) l1 l2 l3 M)) ∧ ((¬ mF M 5 ≤ (l3 - l3 / (8 : Int32) * (8 : Int32))) → (w_X11_least (fun r2 M1 => ((r2 < (1000 : Int32)) → (vp_in l3 (mlen 58) ∧ ∀ M3 : MS, M3 = sA M1 58 l3.toNatClampNeg ((1 : Int32)) → w_X11_holding_151 Q k78 (w_X11_holding_86 Q k78 f86) l1 ((1 : Int32)) l3 M3)) ∧ ((¬ r2 < (1000 : Int32)) → (w_X11_holding_151 Q k78 (w_X11_holding_86 Q k78 f86) l1 l2 l3 M1))) ((l3 / (8 : Int32))) ((l3 - l3 / (8 : Int32) * (8 : Int32))) ((0 : Int32)) M))))))
set_option maxHeartbeats 4000000 in
theorem b_X11_holding_86 {b0 z0 : Nat} {M0 : MS} {Q : Int32 → MS → Prop} {k78 : Int32 → Int32 → MS → Prop} (C : Cx p s m meth c D T Z "EndingTownModel" cX11_holding 5 (some .int)) (hk78 : ∀ (l1 : Int32) (l2 : Int32) (M : MS) (H : Heap) (locs : List Loc) (cells slots : Nat) (ls : Array Slot), k78 l1 l2 M → HI (twd D T Z) (mG b0 z0 M0) s (rmX (twd D T Z) 5 125 (mG b0 z0 M0)) H locs cells slots (mG b0 z0 M) → LH ls 5 [(0, .inr (.inl (some b0))), (1, .inl l1), (2, .inl l2)] → W p l e (rmX (twd D T Z) 5 125 (mG b0 z0 M0)) s m args below meth c H locs cells slots (MQX (twd D T Z) (mG b0 z0 M0) (mq b0 z0 (qI Q)) (fun _ _ => False) below s) (F0 m 78 ls [])) : ∀ (n : Nat) (l1 : Int32) (l2 : Int32) (l3 : Int32) (M : MS) (H : Heap) (locs : List Loc) (cells slots : Nat) (ls : Array Slot), w_X11_holding_86 Q k78 n l1 l2 l3 M → HI (twd D T Z) (mG b0 z0 M0) s (rmX (twd D T Z) 5 125 (mG b0 z0 M0)) H locs cells slots (mG b0 z0 M) → LH ls 5 [(0, .inr (.inl (some b0))), (1, .inl l1), (2, .inl l2), (3, .inl l3)] → W p l e (rmX (twd D T Z) 5 125 (mG b0 z0 M0)) s m args below meth c H locs cells slots (MQX (twd D T Z) (mG b0 z0 M0) (mq b0 z0 (qI Q)) (fun _ _ => False) below s) (F0 m 86 ls []) := by
  intro n
  induction n with
  | zero => intro l1 l2 l3 M H locs cells slots ls h; exact (show False from h).elim
  | succ n ih =>
    intro l1 l2 l3 M H locs cells slots ls h I hl
    have hk86 := ih
    refine l_ild_n C dX11_holding_86 hl 3 rfl rfl ?_
    refine lv_bipush (v := 8) C.1 C.2.1 dX11_holding_87 (by decide) ?_
    refine l_ald_n (x := some b0) C dX11_holding_89 hl 0 rfl rfl ?_
    refine f_I C I (fl_X11_343) (by decide) dX11_holding_90 ?_
    refine lv_imul C.1 C.2.1 dX11_holding_93 ?_
    refine lv_icmp_ge (tgt := 157) C.1 C.2.1 dX11_holding_94 (by decide) (fun c7 => ?_) (fun c7 => ?_)
    · have h := h.1 c7
      refine lv_goto (tgt := 78) C.1 C.2.1 dX11_holding_157 (by decide) ?_
      exact hk78 l1 l2 M _ _ _ _ _ h I (hl.sub [0, 1, 2] rfl)
    · have h := h.2 c7
      refine l_ald_n (x := some b0) C dX11_holding_97 hl 0 rfl rfl ?_
      refine f_A C I (fl_X11_104) (by decide) (by decide) dX11_holding_98 ?_
      refine l_ild_n C dX11_holding_101 hl 3 rfl rfl ?_
      obtain ⟨hi, h⟩ := h
      refine f_ld (k := 58) C I (by decide) hi dX11_holding_102 ?_
      refine lv_sipush (v := 1000) C.1 C.2.1 dX11_holding_103 (by decide) ?_
      refine lv_icmp_lt (tgt := 151) C.1 C.2.1 dX11_holding_106 (by decide) (fun c6 => ?_) (fun c6 => ?_)
      · have h := h.1 c6
        exact b_X11_holding_151 C hk78 hk86 l1 l2 l3 M _ _ _ _ _ h I (hl.sub [0, 1, 2, 3] rfl)
      · have h := h.2 c6
        refine l_ild_n C dX11_holding_109 hl 3 rfl rfl ?_
        refine lv_bipush (v := 8) C.1 C.2.1 dX11_holding_110 (by decide) ?_
        refine lv_irem C.1 C.2.1 dX11_holding_112 (by decide) ?_
        refine l_ald_n (x := some b0) C dX11_holding_113 hl 0 rfl rfl ?_
        refine f_I C I (fl_X11_269) (by decide) dX11_holding_114 ?_
        refine lv_icmp_ge (tgt := 151) C.1 C.2.1 dX11_holding_117 (by decide) (fun c5 => ?_) (fun c5 => ?_)
        · have h := h.1 c5
          exact b_X11_holding_151 C hk78 hk86 l1 l2 l3 M _ _ _ _ _ h I (hl.sub [0, 1, 2, 3] rfl)
        · have h := h.2 c5
          refine l_ald_n (x := some b0) C dX11_holding_120 hl 0 rfl rfl ?_
          refine l_ild_n C dX11_holding_121 hl 3 rfl rfl ?_
          refine lv_bipush (v := 8) C.1 C.2.1 dX11_holding_122 (by decide) ?_
          refine lv_idiv C.1 C.2.1 dX11_holding_124 (by decide) ?_
          refine l_ild_n C dX11_holding_125 hl 3 rfl rfl ?_
          refine lv_bipush (v := 8) C.1 C.2.1 dX11_holding_126 (by decide) ?_
          refine lv_irem C.1 C.2.1 dX11_holding_128 (by decide) ?_
          refine lv_iconst (v := 0) C.1 C.2.1 dX11_holding_129 (by decide) ?_
          refine k_call Ext.tr C I (k_V (r := some b0) (As := [.int ((l3 / (8 : Int32))), .int ((l3 - l3 / (8 : Int32) * (8 : Int32))), .int ((0 : Int32))]) (rest := []) (y := yX11_least) C (f_recv C I) q1809 q1811 qs83 (Or.inl rfl) q1812 (by decide) rfl pd_X11_least rfl dX11_holding_130) (ct_X11_least h) hl.1 dX11_holding_130 [] rfl (Nat.le_of_ble_eq_true rfl) (Or.inl rfl) q1812 q113 ⟨Nat.le_of_ble_eq_true rfl, Nat.le_of_ble_eq_true rfl⟩ (fun v x1 H locs cells slots ex hq I => ?_) (fun a x1 H locs cells slots ex hq I => hq.elim)
          obtain ⟨M1, rfl, r2, rfl, h⟩ := hq
          refine lv_sipush (v := 1000) C.1 C.2.1 dX11_holding_133 (by decide) ?_
          refine lv_icmp_lt (tgt := 142) C.1 C.2.1 dX11_holding_136 (by decide) (fun c4 => ?_) (fun c4 => ?_)
          · have h := h.1 c4
            refine l_ald_n (x := some b0) C dX11_holding_142 hl 0 rfl rfl ?_
            refine f_A C I (fl_X11_104) (by decide) (by decide) dX11_holding_143 ?_
            refine l_ild_n C dX11_holding_146 hl 3 rfl rfl ?_
            refine lv_iconst (v := 1) C.1 C.2.1 dX11_holding_147 (by decide) ?_
            obtain ⟨hi, h⟩ := h
            refine f_st (k := 58) C I (by decide) hi dX11_holding_148 (fun H locs M3 eM3 I => ?_)
            have h := h M3 eM3
            refine lv_iconst (v := 1) C.1 C.2.1 dX11_holding_149 (by decide) ?_
            refine l_ist_n C dX11_holding_150 rfl hl (by decide) rfl (fun ls hl => ?_)
            have hl : LH ls 5 [(2, .inl ((1 : Int32))), (0, .inr (.inl (some b0))), (1, .inl l1), (3, .inl l3)] := hl
            exact b_X11_holding_151 C hk78 hk86 l1 ((1 : Int32)) l3 M3 _ _ _ _ _ h I (hl.sub [1, 2, 0, 3] rfl)
          · have h := h.2 c4
            refine lv_goto (tgt := 151) C.1 C.2.1 dX11_holding_139 (by decide) ?_
            exact b_X11_holding_151 C hk78 hk86 l1 l2 l3 M1 _ _ _ _ _ h I (hl.sub [0, 1, 2, 3] rfl)
def w_X11_holding_229 (Q : Int32 → MS → Prop) (k165 : Int32 → Int32 → Int32 → MS → Prop) (l1 : Int32) (l3 : Int32) (l4 : Int32) (M : MS) : Prop := k165 l1 l3 ((l4 + 1)) M
set_option maxHeartbeats 4000000 in
theorem b_X11_holding_229 {b0 z0 : Nat} {M0 : MS} {Q : Int32 → MS → Prop} {k165 : Int32 → Int32 → Int32 → MS → Prop} (C : Cx p s m meth c D T Z "EndingTownModel" cX11_holding 5 (some .int)) (hk165 : ∀ (l1 : Int32) (l3 : Int32) (l4 : Int32) (M : MS) (H : Heap) (locs : List Loc) (cells slots : Nat) (ls : Array Slot), k165 l1 l3 l4 M → HI (twd D T Z) (mG b0 z0 M0) s (rmX (twd D T Z) 5 125 (mG b0 z0 M0)) H locs cells slots (mG b0 z0 M) → LH ls 5 [(0, .inr (.inl (some b0))), (1, .inl l1), (3, .inl l3), (4, .inl l4)] → W p l e (rmX (twd D T Z) 5 125 (mG b0 z0 M0)) s m args below meth c H locs cells slots (MQX (twd D T Z) (mG b0 z0 M0) (mq b0 z0 (qI Q)) (fun _ _ => False) below s) (F0 m 165 ls [])) : ∀ (l1 : Int32) (l3 : Int32) (l4 : Int32) (M : MS) (H : Heap) (locs : List Loc) (cells slots : Nat) (ls : Array Slot), w_X11_holding_229 Q k165 l1 l3 l4 M → HI (twd D T Z) (mG b0 z0 M0) s (rmX (twd D T Z) 5 125 (mG b0 z0 M0)) H locs cells slots (mG b0 z0 M) → LH ls 5 [(0, .inr (.inl (some b0))), (1, .inl l1), (3, .inl l3), (4, .inl l4)] → W p l e (rmX (twd D T Z) 5 125 (mG b0 z0 M0)) s m args below meth c H locs cells slots (MQX (twd D T Z) (mG b0 z0 M0) (mq b0 z0 (qI Q)) (fun _ _ => False) below s) (F0 m 229 ls []) := by
  intro l1 l3 l4 M H locs cells slots ls h I hl
  refine l_inc (q := 3) (v := 1) C dX11_holding_229 hl rfl (by decide) (by decide) rfl (fun ls hl => ?_)
  have hl : LH ls 5 [(4, .inl ((l4 + 1))), (0, .inr (.inl (some b0))), (1, .inl l1), (3, .inl l3)] := hl
  refine lv_goto (tgt := 165) C.1 C.2.1 dX11_holding_232 (by decide) ?_
  exact hk165 l1 l3 ((l4 + 1)) M _ _ _ _ _ h I (hl.sub [1, 2, 3, 0] rfl)
def w_X11_holding_165 (Q : Int32 → MS → Prop) : Nat → Int32 → Int32 → Int32 → MS → Prop
  | 0 => fun _ _ _ _ => False
  | f165 + 1 => fun l1 l3 l4 M => ((mF M 50 ≤ l4) → (Q l3 M)) ∧ ((¬ mF M 50 ≤ l4) → (((¬ ((l1 >>> (l4 &&& 31)) &&& (1 : Int32)) = (1 : Int32)) → (w_X11_holding_229 Q (w_X11_holding_165 Q f165) l1 l3 l4 M)) ∧ ((((l1 >>> (l4 &&& 31)) &&& (1 : Int32)) = (1 : Int32)) → (vp_in l4 (mlen 57) ∧ w_X11_of (fun r2 M1 => w_X11_of (fun r4 M3 => w_X11_of (fun r6 M5 => w_X11_byHow (fun r8 M7 => (((1000 : Int32) ≤ r8) → (w_X11_holding_229 Q (w_X11_holding_165 Q f165) l1 l3 l4 M7)) ∧ ((¬ (1000 : Int32) ≤ r8) → (w_X11_holding_229 Q (w_X11_holding_165 Q f165) l1 ((l3 ||| ((1 : Int32) <<< (l4 &&& 31)))) l4 M7))) (mA M 57 l4.toNatClampNeg) r2 r4 r6 M5) l4 ((3 : Int32)) M3) l4 ((4 : Int32)) M1) l4 ((2 : Int32)) M))))
set_option maxHeartbeats 4000000 in
theorem b_X11_holding_165 {b0 z0 : Nat} {M0 : MS} {Q : Int32 → MS → Prop} (C : Cx p s m meth c D T Z "EndingTownModel" cX11_holding 5 (some .int)) : ∀ (n : Nat) (l1 : Int32) (l3 : Int32) (l4 : Int32) (M : MS) (H : Heap) (locs : List Loc) (cells slots : Nat) (ls : Array Slot), w_X11_holding_165 Q n l1 l3 l4 M → HI (twd D T Z) (mG b0 z0 M0) s (rmX (twd D T Z) 5 125 (mG b0 z0 M0)) H locs cells slots (mG b0 z0 M) → LH ls 5 [(0, .inr (.inl (some b0))), (1, .inl l1), (3, .inl l3), (4, .inl l4)] → W p l e (rmX (twd D T Z) 5 125 (mG b0 z0 M0)) s m args below meth c H locs cells slots (MQX (twd D T Z) (mG b0 z0 M0) (mq b0 z0 (qI Q)) (fun _ _ => False) below s) (F0 m 165 ls []) := by
  intro n
  induction n with
  | zero => intro l1 l3 l4 M H locs cells slots ls h; exact (show False from h).elim
  | succ n ih =>
    intro l1 l3 l4 M H locs cells slots ls h I hl
    have hk165 := ih
    refine l_ild C dX11_holding_165 hl 3 rfl ?_
    refine l_ald_n (x := some b0) C dX11_holding_167 hl 0 rfl rfl ?_
    refine f_I C I (fl_X11_279) (by decide) dX11_holding_168 ?_
    refine lv_icmp_ge (tgt := 235) C.1 C.2.1 dX11_holding_171 (by decide) (fun c11 => ?_) (fun c11 => ?_)
    · have h := h.1 c11
      refine l_ild_n C dX11_holding_235 hl 2 rfl rfl ?_
      exact r_int C.1 C.2.1 C.2.2.2.2.2.1 rfl C.2.2.2.2.2.2 ⟨rfl, rfl⟩ I dX11_holding_236 ⟨_, rfl, _, rfl, h⟩
    · have h := h.2 c11
      refine l_ild_n C dX11_holding_174 hl 1 rfl rfl ?_
      refine l_ild C dX11_holding_175 hl 3 rfl ?_
      refine lv_ishr C.1 C.2.1 dX11_holding_177 ?_
      refine lv_iconst (v := 1) C.1 C.2.1 dX11_holding_178 (by decide) ?_
      refine lv_iand C.1 C.2.1 dX11_holding_179 ?_
      refine lv_iconst (v := 1) C.1 C.2.1 dX11_holding_180 (by decide) ?_
      refine lv_icmp_ne (tgt := 229) C.1 C.2.1 dX11_holding_181 (by decide) (fun c10 => ?_) (fun c10 => ?_)
      · have h := h.1 c10
        exact b_X11_holding_229 C hk165 l1 l3 l4 M _ _ _ _ _ h I (hl.sub [0, 1, 2, 3] rfl)
      · have h := h.2 c10
        refine l_ald_n (x := some b0) C dX11_holding_184 hl 0 rfl rfl ?_
        refine l_ald_n (x := some b0) C dX11_holding_185 hl 0 rfl rfl ?_
        refine f_A C I (fl_X11_101) (by decide) (by decide) dX11_holding_186 ?_
        refine l_ild C dX11_holding_189 hl 3 rfl ?_
        obtain ⟨hi, h⟩ := h
        refine f_ld (k := 57) C I (by decide) hi dX11_holding_191 ?_
        refine l_ald_n (x := some b0) C dX11_holding_192 hl 0 rfl rfl ?_
        refine l_ild C dX11_holding_193 hl 3 rfl ?_
        refine lv_iconst (v := 2) C.1 C.2.1 dX11_holding_195 (by decide) ?_
        refine k_call Ext.tr C I (k_V (r := some b0) (As := [.int l4, .int ((2 : Int32))]) (rest := [.int (mA M 57 l4.toNatClampNeg), va_rf (some b0)]) (y := yX11_of) C (f_recv C I) q1789 q1791 qs78 (Or.inl rfl) q1792 (by decide) rfl pd_X11_of rfl dX11_holding_196) (ct_X11_of h) hl.1 dX11_holding_196 [.inl (mA M 57 l4.toNatClampNeg), .inr (.inl (some b0))] rfl (Nat.le_of_ble_eq_true rfl) (Or.inl rfl) q1792 q113 ⟨Nat.le_of_ble_eq_true rfl, Nat.le_of_ble_eq_true rfl⟩ (fun v x1 H locs cells slots ex hq I => ?_) (fun a x1 H locs cells slots ex hq I => hq.elim)
        obtain ⟨M1, rfl, r2, rfl, h⟩ := hq
        refine l_ald_n (x := some b0) C dX11_holding_199 hl 0 rfl rfl ?_
        refine l_ild C dX11_holding_200 hl 3 rfl ?_
        refine lv_iconst (v := 4) C.1 C.2.1 dX11_holding_202 (by decide) ?_
        refine k_call Ext.tr C I (k_V (r := some b0) (As := [.int l4, .int ((4 : Int32))]) (rest := [.int r2, .int (mA M 57 l4.toNatClampNeg), va_rf (some b0)]) (y := yX11_of) C (f_recv C I) q1789 q1791 qs78 (Or.inl rfl) q1792 (by decide) rfl pd_X11_of rfl dX11_holding_203) (ct_X11_of h) hl.1 dX11_holding_203 [.inl r2, .inl (mA M 57 l4.toNatClampNeg), .inr (.inl (some b0))] rfl (Nat.le_of_ble_eq_true rfl) (Or.inl rfl) q1792 q113 ⟨Nat.le_of_ble_eq_true rfl, Nat.le_of_ble_eq_true rfl⟩ (fun v x1 H locs cells slots ex hq I => ?_) (fun a x1 H locs cells slots ex hq I => hq.elim)
        obtain ⟨M3, rfl, r4, rfl, h⟩ := hq
        refine l_ald_n (x := some b0) C dX11_holding_206 hl 0 rfl rfl ?_
        refine l_ild C dX11_holding_207 hl 3 rfl ?_
        refine lv_iconst (v := 3) C.1 C.2.1 dX11_holding_209 (by decide) ?_
        refine k_call Ext.tr C I (k_V (r := some b0) (As := [.int l4, .int ((3 : Int32))]) (rest := [.int r4, .int r2, .int (mA M 57 l4.toNatClampNeg), va_rf (some b0)]) (y := yX11_of) C (f_recv C I) q1789 q1791 qs78 (Or.inl rfl) q1792 (by decide) rfl pd_X11_of rfl dX11_holding_210) (ct_X11_of h) hl.1 dX11_holding_210 [.inl r4, .inl r2, .inl (mA M 57 l4.toNatClampNeg), .inr (.inl (some b0))] rfl (Nat.le_of_ble_eq_true rfl) (Or.inl rfl) q1792 q113 ⟨Nat.le_of_ble_eq_true rfl, Nat.le_of_ble_eq_true rfl⟩ (fun v x1 H locs cells slots ex hq I => ?_) (fun a x1 H locs cells slots ex hq I => hq.elim)
        obtain ⟨M5, rfl, r6, rfl, h⟩ := hq
        refine k_call Ext.tr C I (k_V (r := some b0) (As := [.int (mA M 57 l4.toNatClampNeg), .int r2, .int r4, .int r6]) (rest := []) (y := yX11_byHow) C (f_recv C I) q1813 q1815 qs84 (Or.inl rfl) q1816 (by decide) rfl pd_X11_byHow rfl dX11_holding_213) (ct_X11_byHow h) hl.1 dX11_holding_213 [] rfl (Nat.le_of_ble_eq_true rfl) (Or.inl rfl) q1816 q113 ⟨Nat.le_of_ble_eq_true rfl, Nat.le_of_ble_eq_true rfl⟩ (fun v x1 H locs cells slots ex hq I => ?_) (fun a x1 H locs cells slots ex hq I => hq.elim)
        obtain ⟨M7, rfl, r8, rfl, h⟩ := hq
        refine lv_sipush (v := 1000) C.1 C.2.1 dX11_holding_216 (by decide) ?_
        refine lv_icmp_ge (tgt := 229) C.1 C.2.1 dX11_holding_219 (by decide) (fun c9 => ?_) (fun c9 => ?_)
        · have h := h.1 c9
          exact b_X11_holding_229 C hk165 l1 l3 l4 M7 _ _ _ _ _ h I (hl.sub [0, 1, 2, 3] rfl)
        · have h := h.2 c9
          refine l_ild_n C dX11_holding_222 hl 2 rfl rfl ?_
          refine lv_iconst (v := 1) C.1 C.2.1 dX11_holding_223 (by decide) ?_
          refine l_ild C dX11_holding_224 hl 3 rfl ?_
          refine lv_ishl C.1 C.2.1 dX11_holding_226 ?_
          refine lv_ior C.1 C.2.1 dX11_holding_227 ?_
          refine l_ist_n C dX11_holding_228 rfl hl (by decide) rfl (fun ls hl => ?_)
          have hl : LH ls 5 [(3, .inl ((l3 ||| ((1 : Int32) <<< (l4 &&& 31))))), (0, .inr (.inl (some b0))), (1, .inl l1), (4, .inl l4)] := hl
          exact b_X11_holding_229 C hk165 l1 ((l3 ||| ((1 : Int32) <<< (l4 &&& 31)))) l4 M7 _ _ _ _ _ h I (hl.sub [1, 2, 0, 3] rfl)
def w_X11_holding_78 (Q : Int32 → MS → Prop) : Nat → Int32 → Int32 → MS → Prop
  | 0 => fun _ _ _ => False
  | f78 + 1 => fun l1 l2 M => ((l2 = 0) → (∃ n, w_X11_holding_165 Q n l1 ((0 : Int32)) ((0 : Int32)) M)) ∧ ((¬ l2 = 0) → (∃ n, w_X11_holding_86 Q (w_X11_holding_78 Q f78) n l1 ((0 : Int32)) ((0 : Int32)) M))
set_option maxHeartbeats 4000000 in
theorem b_X11_holding_78 {b0 z0 : Nat} {M0 : MS} {Q : Int32 → MS → Prop} (C : Cx p s m meth c D T Z "EndingTownModel" cX11_holding 5 (some .int)) : ∀ (n : Nat) (l1 : Int32) (l2 : Int32) (M : MS) (H : Heap) (locs : List Loc) (cells slots : Nat) (ls : Array Slot), w_X11_holding_78 Q n l1 l2 M → HI (twd D T Z) (mG b0 z0 M0) s (rmX (twd D T Z) 5 125 (mG b0 z0 M0)) H locs cells slots (mG b0 z0 M) → LH ls 5 [(0, .inr (.inl (some b0))), (1, .inl l1), (2, .inl l2)] → W p l e (rmX (twd D T Z) 5 125 (mG b0 z0 M0)) s m args below meth c H locs cells slots (MQX (twd D T Z) (mG b0 z0 M0) (mq b0 z0 (qI Q)) (fun _ _ => False) below s) (F0 m 78 ls []) := by
  intro n
  induction n with
  | zero => intro l1 l2 M H locs cells slots ls h; exact (show False from h).elim
  | succ n ih =>
    intro l1 l2 M H locs cells slots ls h I hl
    have hk78 := ih
    refine l_ild_n C dX11_holding_78 hl 2 rfl rfl ?_
    refine lv_if_eq (tgt := 160) C.1 C.2.1 dX11_holding_79 (by decide) (fun c1 => ?_) (fun c1 => ?_)
    · have h := h.1 c1
      refine lv_iconst (v := 0) C.1 C.2.1 dX11_holding_160 (by decide) ?_
      refine l_ist_n C dX11_holding_161 rfl hl (by decide) rfl (fun ls hl => ?_)
      have hl : LH ls 5 [(3, .inl ((0 : Int32))), (0, .inr (.inl (some b0))), (1, .inl l1), (2, .inl l2)] := hl
      refine lv_iconst (v := 0) C.1 C.2.1 dX11_holding_162 (by decide) ?_
      refine l_ist C dX11_holding_163 hl (by decide) rfl (fun ls hl => ?_)
      have hl : LH ls 5 [(4, .inl ((0 : Int32))), (3, .inl ((0 : Int32))), (0, .inr (.inl (some b0))), (1, .inl l1), (2, .inl l2)] := hl
      obtain ⟨n, h⟩ := h
      exact b_X11_holding_165 C n l1 ((0 : Int32)) ((0 : Int32)) M _ _ _ _ _ h I (hl.sub [2, 3, 1, 0] rfl)
    · have h := h.2 c1
      refine lv_iconst (v := 0) C.1 C.2.1 dX11_holding_82 (by decide) ?_
      refine l_ist_n C dX11_holding_83 rfl hl (by decide) rfl (fun ls hl => ?_)
      have hl : LH ls 5 [(2, .inl ((0 : Int32))), (0, .inr (.inl (some b0))), (1, .inl l1)] := hl
      refine lv_iconst (v := 0) C.1 C.2.1 dX11_holding_84 (by decide) ?_
      refine l_ist_n C dX11_holding_85 rfl hl (by decide) rfl (fun ls hl => ?_)
      have hl : LH ls 5 [(3, .inl ((0 : Int32))), (2, .inl ((0 : Int32))), (0, .inr (.inl (some b0))), (1, .inl l1)] := hl
      obtain ⟨n, h⟩ := h
      exact b_X11_holding_86 C hk78 n l1 ((0 : Int32)) ((0 : Int32)) M _ _ _ _ _ h I (hl.sub [2, 3, 1, 0] rfl)
def w_X11_holding_50 (Q : Int32 → MS → Prop) : Nat → Int32 → Int32 → MS → Prop
  | 0 => fun _ _ _ => False
  | f50 + 1 => fun l1 l2 M => ((((8 : Int32) * mF M 59) ≤ l2) → (∃ n, w_X11_holding_78 Q n l1 ((1 : Int32)) M)) ∧ ((¬ ((8 : Int32) * mF M 59) ≤ l2) → (vp_in l2 (mlen 58) ∧ ∀ M1 : MS, M1 = sA M 58 l2.toNatClampNeg ((1000 : Int32)) → (w_X11_holding_50 Q f50) l1 ((l2 + 1)) M1))
set_option maxHeartbeats 4000000 in
theorem b_X11_holding_50 {b0 z0 : Nat} {M0 : MS} {Q : Int32 → MS → Prop} (C : Cx p s m meth c D T Z "EndingTownModel" cX11_holding 5 (some .int)) : ∀ (n : Nat) (l1 : Int32) (l2 : Int32) (M : MS) (H : Heap) (locs : List Loc) (cells slots : Nat) (ls : Array Slot), w_X11_holding_50 Q n l1 l2 M → HI (twd D T Z) (mG b0 z0 M0) s (rmX (twd D T Z) 5 125 (mG b0 z0 M0)) H locs cells slots (mG b0 z0 M) → LH ls 5 [(0, .inr (.inl (some b0))), (1, .inl l1), (2, .inl l2)] → W p l e (rmX (twd D T Z) 5 125 (mG b0 z0 M0)) s m args below meth c H locs cells slots (MQX (twd D T Z) (mG b0 z0 M0) (mq b0 z0 (qI Q)) (fun _ _ => False) below s) (F0 m 50 ls []) := by
  intro n
  induction n with
  | zero => intro l1 l2 M H locs cells slots ls h; exact (show False from h).elim
  | succ n ih =>
    intro l1 l2 M H locs cells slots ls h I hl
    have hk50 := ih
    refine l_ild_n C dX11_holding_50 hl 2 rfl rfl ?_
    refine lv_bipush (v := 8) C.1 C.2.1 dX11_holding_51 (by decide) ?_
    refine l_ald_n (x := some b0) C dX11_holding_53 hl 0 rfl rfl ?_
    refine f_I C I (fl_X11_343) (by decide) dX11_holding_54 ?_
    refine lv_imul C.1 C.2.1 dX11_holding_57 ?_
    refine lv_icmp_ge (tgt := 76) C.1 C.2.1 dX11_holding_58 (by decide) (fun c2 => ?_) (fun c2 => ?_)
    · have h := h.1 c2
      refine lv_iconst (v := 1) C.1 C.2.1 dX11_holding_76 (by decide) ?_
      refine l_ist_n C dX11_holding_77 rfl hl (by decide) rfl (fun ls hl => ?_)
      have hl : LH ls 5 [(2, .inl ((1 : Int32))), (0, .inr (.inl (some b0))), (1, .inl l1)] := hl
      obtain ⟨n, h⟩ := h
      exact b_X11_holding_78 C n l1 ((1 : Int32)) M _ _ _ _ _ h I (hl.sub [1, 2, 0] rfl)
    · have h := h.2 c2
      refine l_ald_n (x := some b0) C dX11_holding_61 hl 0 rfl rfl ?_
      refine f_A C I (fl_X11_104) (by decide) (by decide) dX11_holding_62 ?_
      refine l_ild_n C dX11_holding_65 hl 2 rfl rfl ?_
      refine lv_sipush (v := 1000) C.1 C.2.1 dX11_holding_66 (by decide) ?_
      obtain ⟨hi, h⟩ := h
      refine f_st (k := 58) C I (by decide) hi dX11_holding_69 (fun H locs M1 eM1 I => ?_)
      have h := h M1 eM1
      refine l_inc (q := 2) (v := 1) C dX11_holding_70 hl rfl (by decide) (by decide) rfl (fun ls hl => ?_)
      have hl : LH ls 5 [(2, .inl ((l2 + 1))), (0, .inr (.inl (some b0))), (1, .inl l1)] := hl
      refine lv_goto (tgt := 50) C.1 C.2.1 dX11_holding_73 (by decide) ?_
      exact hk50 l1 ((l2 + 1)) M1 _ _ _ _ _ h I (hl.sub [1, 2, 0] rfl)
def w_X11_holding_12 (Q : Int32 → MS → Prop) : Nat → Int32 → Int32 → MS → Prop
  | 0 => fun _ _ _ => False
  | f12 + 1 => fun l1 l2 M => ((mF M 50 ≤ l2) → (∃ n, w_X11_holding_50 Q n l1 ((0 : Int32)) M)) ∧ ((¬ mF M 50 ≤ l2) → (((¬ ((l1 >>> (l2 &&& 31)) &&& (1 : Int32)) = (1 : Int32)) → (w_X11_holding_41 Q (w_X11_holding_12 Q f12) l1 l2 ((1000 : Int32)) l2 53 M)) ∧ ((((l1 >>> (l2 &&& 31)) &&& (1 : Int32)) = (1 : Int32)) → (w_X11_holding_41 Q (w_X11_holding_12 Q f12) l1 l2 ((1 : Int32)) l2 53 M))))
set_option maxHeartbeats 4000000 in
theorem b_X11_holding_12 {b0 z0 : Nat} {M0 : MS} {Q : Int32 → MS → Prop} (C : Cx p s m meth c D T Z "EndingTownModel" cX11_holding 5 (some .int)) : ∀ (n : Nat) (l1 : Int32) (l2 : Int32) (M : MS) (H : Heap) (locs : List Loc) (cells slots : Nat) (ls : Array Slot), w_X11_holding_12 Q n l1 l2 M → HI (twd D T Z) (mG b0 z0 M0) s (rmX (twd D T Z) 5 125 (mG b0 z0 M0)) H locs cells slots (mG b0 z0 M) → LH ls 5 [(0, .inr (.inl (some b0))), (1, .inl l1), (2, .inl l2)] → W p l e (rmX (twd D T Z) 5 125 (mG b0 z0 M0)) s m args below meth c H locs cells slots (MQX (twd D T Z) (mG b0 z0 M0) (mq b0 z0 (qI Q)) (fun _ _ => False) below s) (F0 m 12 ls []) := by
  intro n
  induction n with
  | zero => intro l1 l2 M H locs cells slots ls h; exact (show False from h).elim
  | succ n ih =>
    intro l1 l2 M H locs cells slots ls h I hl
    have hk12 := ih
    refine l_ild_n C dX11_holding_12 hl 2 rfl rfl ?_
    refine l_ald_n (x := some b0) C dX11_holding_13 hl 0 rfl rfl ?_
    refine f_I C I (fl_X11_279) (by decide) dX11_holding_14 ?_
    refine lv_icmp_ge (tgt := 48) C.1 C.2.1 dX11_holding_17 (by decide) (fun c2 => ?_) (fun c2 => ?_)
    · have h := h.1 c2
      refine lv_iconst (v := 0) C.1 C.2.1 dX11_holding_48 (by decide) ?_
      refine l_ist_n C dX11_holding_49 rfl hl (by decide) rfl (fun ls hl => ?_)
      have hl : LH ls 5 [(2, .inl ((0 : Int32))), (0, .inr (.inl (some b0))), (1, .inl l1)] := hl
      obtain ⟨n, h⟩ := h
      exact b_X11_holding_50 C n l1 ((0 : Int32)) M _ _ _ _ _ h I (hl.sub [1, 2, 0] rfl)
    · have h := h.2 c2
      refine l_ald_n (x := some b0) C dX11_holding_20 hl 0 rfl rfl ?_
      refine f_A C I (fl_X11_89) (by decide) (by decide) dX11_holding_21 ?_
      refine l_ild_n C dX11_holding_24 hl 2 rfl rfl ?_
      refine l_ild_n C dX11_holding_25 hl 1 rfl rfl ?_
      refine l_ild_n C dX11_holding_26 hl 2 rfl rfl ?_
      refine lv_ishr C.1 C.2.1 dX11_holding_27 ?_
      refine lv_iconst (v := 1) C.1 C.2.1 dX11_holding_28 (by decide) ?_
      refine lv_iand C.1 C.2.1 dX11_holding_29 ?_
      refine lv_iconst (v := 1) C.1 C.2.1 dX11_holding_30 (by decide) ?_
      refine lv_icmp_ne (tgt := 38) C.1 C.2.1 dX11_holding_31 (by decide) (fun c1 => ?_) (fun c1 => ?_)
      · have h := h.1 c1
        refine lv_sipush (v := 1000) C.1 C.2.1 dX11_holding_38 (by decide) ?_
        exact b_X11_holding_41 C hk12 l1 l2 ((1000 : Int32)) l2 53 M _ _ _ _ _ h I (hl.sub [0, 1, 2] rfl)
      · have h := h.2 c1
        refine lv_iconst (v := 1) C.1 C.2.1 dX11_holding_34 (by decide) ?_
        refine lv_goto (tgt := 41) C.1 C.2.1 dX11_holding_35 (by decide) ?_
        exact b_X11_holding_41 C hk12 l1 l2 ((1 : Int32)) l2 53 M _ _ _ _ _ h I (hl.sub [0, 1, 2] rfl)
def w_X11_holding (Q : Int32 → MS → Prop) (p0 : Int32) (M : MS) : Prop := ∀ M1 : MS, M1 = sF M 60 p0 → ∀ M2 : MS, M2 = sF M1 61 ((0 : Int32)) → ∃ n, w_X11_holding_12 Q n p0 ((0 : Int32)) M2
theorem pd_X11_holding : (parseMethodDescriptor yX11_holding.desc).map (fun d => d.parameters.length) = some 1 := by decide +kernel
set_option maxHeartbeats 4000000 in
theorem ct_X11_holding {l : Launch} {D : va_G} {T : Nat → ClassId} {Z : Heap} {b0 z0 : Nat} {M0 : MS} {Q : Int32 → MS → Prop} {p0 : Int32} (hw : w_X11_holding Q p0 M0) : CT (twd D T Z) (Evd D T Z) l yX11_holding (Cond.code yX11_holding cX11_holding 5 (some .int)) 5 125 [va_rf (some b0), .int p0] (mG b0 z0 M0) (mq b0 z0 (qI Q)) (fun _ _ => False) := by
  refine CT.ofW (cc := cX11_holding) (nL := 5) (ret := (some .int)) Ext.rf (by decide) (Or.inl rfl) ?_
  intro p e s m below meth c hx hb hml hown hr hlk hnm hcb hm hc hn hE I
  have C : Cx p s m meth c D T Z "EndingTownModel" cX11_holding 5 (some .int) := ⟨hx, hb, hml, hown, hE, hr, hlk⟩
  refine w_entry [.inr (.inl (some b0)), .inl p0] (Nat.le_of_ble_eq_true rfl) (fun ls hl => ?_)
  have hl : LH ls 5 [(0, .inr (.inl (some b0))), (1, .inl p0)] := hl
  have h := hw
  refine l_ald_n (x := some b0) C dX11_holding_0 hl 0 rfl rfl ?_
  refine l_ild_n C dX11_holding_1 hl 1 rfl rfl ?_
  refine f_PI C I (fp_X11_352) (by decide) dX11_holding_2 (fit_i _) (fun H locs M1 eM1 I => ?_)
  have h := h M1 eM1
  refine l_ald_n (x := some b0) C dX11_holding_5 hl 0 rfl rfl ?_
  refine lv_iconst (v := 0) C.1 C.2.1 dX11_holding_6 (by decide) ?_
  refine f_PI C I (fp_X11_355) (by decide) dX11_holding_7 (fit_i _) (fun H locs M2 eM2 I => ?_)
  have h := h M2 eM2
  refine lv_iconst (v := 0) C.1 C.2.1 dX11_holding_10 (by decide) ?_
  refine l_ist_n C dX11_holding_11 rfl hl (by decide) rfl (fun ls hl => ?_)
  have hl : LH ls 5 [(2, .inl ((0 : Int32))), (0, .inr (.inl (some b0))), (1, .inl p0)] := hl
  obtain ⟨n, h⟩ := h
  exact b_X11_holding_12 C n p0 ((0 : Int32)) M2 _ _ _ _ _ h I (hl.sub [1, 2, 0] rfl)
def w_X11_wrong_76 (Q : Int32 → MS → Prop) (k48 : Int32 → Int32 → Int32 → MS → Prop) (l1 : Int32) (l3 : Int32) (t0 : Int32) (t1 : Int32) (M : MS) : Prop := k48 l1 ((t1 ||| t0)) ((l3 + 1)) M
set_option maxHeartbeats 4000000 in
theorem b_X11_wrong_76 {b0 z0 : Nat} {M0 : MS} {Q : Int32 → MS → Prop} {k48 : Int32 → Int32 → Int32 → MS → Prop} (C : Cx p s m meth c D T Z "EndingTownModel" cX11_wrong 5 (some .int)) (hk48 : ∀ (l1 : Int32) (l2 : Int32) (l3 : Int32) (M : MS) (H : Heap) (locs : List Loc) (cells slots : Nat) (ls : Array Slot), k48 l1 l2 l3 M → HI (twd D T Z) (mG b0 z0 M0) s (rmX (twd D T Z) 6 151 (mG b0 z0 M0)) H locs cells slots (mG b0 z0 M) → LH ls 5 [(0, .inr (.inl (some b0))), (1, .inl l1), (2, .inl l2), (3, .inl l3)] → W p l e (rmX (twd D T Z) 6 151 (mG b0 z0 M0)) s m args below meth c H locs cells slots (MQX (twd D T Z) (mG b0 z0 M0) (mq b0 z0 (qI Q)) (fun _ _ => False) below s) (F0 m 48 ls [])) : ∀ (l1 : Int32) (l3 : Int32) (t0 : Int32) (t1 : Int32) (M : MS) (H : Heap) (locs : List Loc) (cells slots : Nat) (ls : Array Slot), w_X11_wrong_76 Q k48 l1 l3 t0 t1 M → HI (twd D T Z) (mG b0 z0 M0) s (rmX (twd D T Z) 6 151 (mG b0 z0 M0)) H locs cells slots (mG b0 z0 M) → LH ls 5 [(0, .inr (.inl (some b0))), (1, .inl l1), (3, .inl l3)] → W p l e (rmX (twd D T Z) 6 151 (mG b0 z0 M0)) s m args below meth c H locs cells slots (MQX (twd D T Z) (mG b0 z0 M0) (mq b0 z0 (qI Q)) (fun _ _ => False) below s) (F0 m 76 ls [.int t0, .int t1]) := by
  intro l1 l3 t0 t1 M H locs cells slots ls h I hl
  refine lv_ior C.1 C.2.1 dX11_wrong_76 ?_
  refine l_ist_n C dX11_wrong_77 rfl hl (by decide) rfl (fun ls hl => ?_)
  have hl : LH ls 5 [(2, .inl ((t1 ||| t0))), (0, .inr (.inl (some b0))), (1, .inl l1), (3, .inl l3)] := hl
  refine l_inc (q := 3) (v := 1) C dX11_wrong_78 hl rfl (by decide) (by decide) rfl (fun ls hl => ?_)
  have hl : LH ls 5 [(3, .inl ((l3 + 1))), (2, .inl ((t1 ||| t0))), (0, .inr (.inl (some b0))), (1, .inl l1)] := hl
  refine lv_goto (tgt := 48) C.1 C.2.1 dX11_wrong_81 (by decide) ?_
  exact hk48 l1 ((t1 ||| t0)) ((l3 + 1)) M _ _ _ _ _ h I (hl.sub [2, 3, 1, 0] rfl)
def w_X11_wrong_109 (Q : Int32 → MS → Prop) : Nat → Int32 → Int32 → Int32 → MS → Prop
  | 0 => fun _ _ _ _ => False
  | f109 + 1 => fun l2 l3 l4 M => ((l4 = l3) → (Q ((l3 &&& (l2 ^^^ (-1 : Int32)))) M)) ∧ ((¬ l4 = l3) → (w_X11_holding (fun r2 M1 => (w_X11_wrong_109 Q f109) l2 l4 r2 M1) l4 M))
set_option maxHeartbeats 4000000 in
theorem b_X11_wrong_109 {b0 z0 : Nat} {M0 : MS} {Q : Int32 → MS → Prop} (C : Cx p s m meth c D T Z "EndingTownModel" cX11_wrong 5 (some .int)) : ∀ (n : Nat) (l2 : Int32) (l3 : Int32) (l4 : Int32) (M : MS) (H : Heap) (locs : List Loc) (cells slots : Nat) (ls : Array Slot), w_X11_wrong_109 Q n l2 l3 l4 M → HI (twd D T Z) (mG b0 z0 M0) s (rmX (twd D T Z) 6 151 (mG b0 z0 M0)) H locs cells slots (mG b0 z0 M) → LH ls 5 [(0, .inr (.inl (some b0))), (2, .inl l2), (3, .inl l3), (4, .inl l4)] → W p l e (rmX (twd D T Z) 6 151 (mG b0 z0 M0)) s m args below meth c H locs cells slots (MQX (twd D T Z) (mG b0 z0 M0) (mq b0 z0 (qI Q)) (fun _ _ => False) below s) (F0 m 109 ls []) := by
  intro n
  induction n with
  | zero => intro l2 l3 l4 M H locs cells slots ls h; exact (show False from h).elim
  | succ n ih =>
    intro l2 l3 l4 M H locs cells slots ls h I hl
    have hk109 := ih
    refine l_ild C dX11_wrong_109 hl 3 rfl ?_
    refine l_ild_n C dX11_wrong_111 hl 2 rfl rfl ?_
    refine lv_icmp_eq (tgt := 128) C.1 C.2.1 dX11_wrong_112 (by decide) (fun c3 => ?_) (fun c3 => ?_)
    · have h := h.1 c3
      refine l_ild_n C dX11_wrong_128 hl 2 rfl rfl ?_
      refine l_ild_n C dX11_wrong_129 hl 1 rfl rfl ?_
      refine lv_iconst (v := (-1)) C.1 C.2.1 dX11_wrong_130 (by decide) ?_
      refine lv_ixor C.1 C.2.1 dX11_wrong_131 ?_
      refine lv_iand C.1 C.2.1 dX11_wrong_132 ?_
      exact r_int C.1 C.2.1 C.2.2.2.2.2.1 rfl C.2.2.2.2.2.2 ⟨rfl, rfl⟩ I dX11_wrong_133 ⟨_, rfl, _, rfl, h⟩
    · have h := h.2 c3
      refine l_ild C dX11_wrong_115 hl 3 rfl ?_
      refine l_ist_n C dX11_wrong_117 rfl hl (by decide) rfl (fun ls hl => ?_)
      have hl : LH ls 5 [(3, .inl l4), (0, .inr (.inl (some b0))), (2, .inl l2), (4, .inl l4)] := hl
      refine l_ald_n (x := some b0) C dX11_wrong_118 hl 1 rfl rfl ?_
      refine l_ild_n C dX11_wrong_119 hl 0 rfl rfl ?_
      refine k_call Ext.tr C I (k_V (r := some b0) (As := [.int l4]) (rest := []) (y := yX11_holding) C (f_recv C I) q1857 q1859 qs93 (Or.inl rfl) q1860 (by decide) rfl pd_X11_holding rfl dX11_wrong_120) (ct_X11_holding h) hl.1 dX11_wrong_120 [] rfl (Nat.le_of_ble_eq_true rfl) (Or.inl rfl) q1860 q113 ⟨Nat.le_of_ble_eq_true rfl, Nat.le_of_ble_eq_true rfl⟩ (fun v x1 H locs cells slots ex hq I => ?_) (fun a x1 H locs cells slots ex hq I => hq.elim)
      obtain ⟨M1, rfl, r2, rfl, h⟩ := hq
      refine l_ist C dX11_wrong_123 hl (by decide) rfl (fun ls hl => ?_)
      have hl : LH ls 5 [(4, .inl r2), (3, .inl l4), (0, .inr (.inl (some b0))), (2, .inl l2)] := hl
      refine lv_goto (tgt := 109) C.1 C.2.1 dX11_wrong_125 (by decide) ?_
      exact hk109 l2 l4 r2 M1 _ _ _ _ _ h I (hl.sub [2, 3, 1, 0] rfl)
def w_X11_wrong_48 (Q : Int32 → MS → Prop) : Nat → Int32 → Int32 → Int32 → MS → Prop
  | 0 => fun _ _ _ _ => False
  | f48 + 1 => fun l1 l2 l3 M => ((mF M 50 ≤ l3) → (((¬ l1 = 0) → (w_X11_all (fun r2 M1 => w_X11_holding (fun r4 M3 => ∃ n, w_X11_wrong_109 Q n l2 r2 r4 M3) r2 M1) M)) ∧ ((l1 = 0) → (w_X11_all (fun r6 M5 => Q ((r6 &&& (l2 ^^^ (-1 : Int32)))) M5) M)))) ∧ ((¬ mF M 50 ≤ l3) → (vp_in l3 (mlen 53) ∧ (((1000 : Int32) ≤ mA M 53 l3.toNatClampNeg) → (w_X11_wrong_76 Q (w_X11_wrong_48 Q f48) l1 l3 ((0 : Int32)) l2 M)) ∧ ((¬ (1000 : Int32) ≤ mA M 53 l3.toNatClampNeg) → (w_X11_wrong_76 Q (w_X11_wrong_48 Q f48) l1 l3 (((1 : Int32) <<< (l3 &&& 31))) l2 M))))
set_option maxHeartbeats 4000000 in
theorem b_X11_wrong_48 {b0 z0 : Nat} {M0 : MS} {Q : Int32 → MS → Prop} (C : Cx p s m meth c D T Z "EndingTownModel" cX11_wrong 5 (some .int)) : ∀ (n : Nat) (l1 : Int32) (l2 : Int32) (l3 : Int32) (M : MS) (H : Heap) (locs : List Loc) (cells slots : Nat) (ls : Array Slot), w_X11_wrong_48 Q n l1 l2 l3 M → HI (twd D T Z) (mG b0 z0 M0) s (rmX (twd D T Z) 6 151 (mG b0 z0 M0)) H locs cells slots (mG b0 z0 M) → LH ls 5 [(0, .inr (.inl (some b0))), (1, .inl l1), (2, .inl l2), (3, .inl l3)] → W p l e (rmX (twd D T Z) 6 151 (mG b0 z0 M0)) s m args below meth c H locs cells slots (MQX (twd D T Z) (mG b0 z0 M0) (mq b0 z0 (qI Q)) (fun _ _ => False) below s) (F0 m 48 ls []) := by
  intro n
  induction n with
  | zero => intro l1 l2 l3 M H locs cells slots ls h; exact (show False from h).elim
  | succ n ih =>
    intro l1 l2 l3 M H locs cells slots ls h I hl
    have hk48 := ih
    refine l_ild_n C dX11_wrong_48 hl 3 rfl rfl ?_
    refine l_ald_n (x := some b0) C dX11_wrong_49 hl 0 rfl rfl ?_
    refine f_I C I (fl_X11_279) (by decide) dX11_wrong_50 ?_
    refine lv_icmp_ge (tgt := 84) C.1 C.2.1 dX11_wrong_53 (by decide) (fun c9 => ?_) (fun c9 => ?_)
    · have h := h.1 c9
      refine l_ild_n C dX11_wrong_84 hl 1 rfl rfl ?_
      refine lv_if_ne (tgt := 97) C.1 C.2.1 dX11_wrong_85 (by decide) (fun c7 => ?_) (fun c7 => ?_)
      · have h := h.1 c7
        refine l_ald_n (x := some b0) C dX11_wrong_97 hl 0 rfl rfl ?_
        refine k_call Ext.tr C I (k_V (r := some b0) (As := []) (rest := []) (y := yX11_all) C (f_recv C I) q1801 q1803 qs81 (Or.inl rfl) q1804 (by decide) rfl pd_X11_all rfl dX11_wrong_98) (ct_X11_all h) hl.1 dX11_wrong_98 [] rfl (Nat.le_of_ble_eq_true rfl) (Or.inl rfl) q1804 q113 ⟨Nat.le_of_ble_eq_true rfl, Nat.le_of_ble_eq_true rfl⟩ (fun v x1 H locs cells slots ex hq I => ?_) (fun a x1 H locs cells slots ex hq I => hq.elim)
        obtain ⟨M1, rfl, r2, rfl, h⟩ := hq
        refine l_ist_n C dX11_wrong_101 rfl hl (by decide) rfl (fun ls hl => ?_)
        have hl : LH ls 5 [(3, .inl r2), (0, .inr (.inl (some b0))), (1, .inl l1), (2, .inl l2)] := hl
        refine l_ald_n (x := some b0) C dX11_wrong_102 hl 1 rfl rfl ?_
        refine l_ild_n C dX11_wrong_103 hl 0 rfl rfl ?_
        refine k_call Ext.tr C I (k_V (r := some b0) (As := [.int r2]) (rest := []) (y := yX11_holding) C (f_recv C I) q1857 q1859 qs93 (Or.inl rfl) q1860 (by decide) rfl pd_X11_holding rfl dX11_wrong_104) (ct_X11_holding h) hl.1 dX11_wrong_104 [] rfl (Nat.le_of_ble_eq_true rfl) (Or.inl rfl) q1860 q113 ⟨Nat.le_of_ble_eq_true rfl, Nat.le_of_ble_eq_true rfl⟩ (fun v x1 H locs cells slots ex hq I => ?_) (fun a x1 H locs cells slots ex hq I => hq.elim)
        obtain ⟨M3, rfl, r4, rfl, h⟩ := hq
        refine l_ist C dX11_wrong_107 hl (by decide) rfl (fun ls hl => ?_)
        have hl : LH ls 5 [(4, .inl r4), (3, .inl r2), (0, .inr (.inl (some b0))), (1, .inl l1), (2, .inl l2)] := hl
        obtain ⟨n, h⟩ := h
        exact b_X11_wrong_109 C n l2 r2 r4 M3 _ _ _ _ _ h I (hl.sub [2, 4, 1, 0] rfl)
      · have h := h.2 c7
        refine l_ald_n (x := some b0) C dX11_wrong_88 hl 0 rfl rfl ?_
        refine k_call Ext.tr C I (k_V (r := some b0) (As := []) (rest := []) (y := yX11_all) C (f_recv C I) q1801 q1803 qs81 (Or.inl rfl) q1804 (by decide) rfl pd_X11_all rfl dX11_wrong_89) (ct_X11_all h) hl.1 dX11_wrong_89 [] rfl (Nat.le_of_ble_eq_true rfl) (Or.inl rfl) q1804 q113 ⟨Nat.le_of_ble_eq_true rfl, Nat.le_of_ble_eq_true rfl⟩ (fun v x1 H locs cells slots ex hq I => ?_) (fun a x1 H locs cells slots ex hq I => hq.elim)
        obtain ⟨M5, rfl, r6, rfl, h⟩ := hq
        refine l_ild_n C dX11_wrong_92 hl 2 rfl rfl ?_
        refine lv_iconst (v := (-1)) C.1 C.2.1 dX11_wrong_93 (by decide) ?_
        refine lv_ixor C.1 C.2.1 dX11_wrong_94 ?_
        refine lv_iand C.1 C.2.1 dX11_wrong_95 ?_
        exact r_int C.1 C.2.1 C.2.2.2.2.2.1 rfl C.2.2.2.2.2.2 ⟨rfl, rfl⟩ I dX11_wrong_96 ⟨_, rfl, _, rfl, h⟩
    · have h := h.2 c9
      refine l_ild_n C dX11_wrong_56 hl 2 rfl rfl ?_
      refine l_ald_n (x := some b0) C dX11_wrong_57 hl 0 rfl rfl ?_
      refine f_A C I (fl_X11_89) (by decide) (by decide) dX11_wrong_58 ?_
      refine l_ild_n C dX11_wrong_61 hl 3 rfl rfl ?_
      obtain ⟨hi, h⟩ := h
      refine f_ld (k := 53) C I (by decide) hi dX11_wrong_62 ?_
      refine lv_sipush (v := 1000) C.1 C.2.1 dX11_wrong_63 (by decide) ?_
      refine lv_icmp_ge (tgt := 75) C.1 C.2.1 dX11_wrong_66 (by decide) (fun c8 => ?_) (fun c8 => ?_)
      · have h := h.1 c8
        refine lv_iconst (v := 0) C.1 C.2.1 dX11_wrong_75 (by decide) ?_
        exact b_X11_wrong_76 C hk48 l1 l3 ((0 : Int32)) l2 M _ _ _ _ _ h I (hl.sub [0, 1, 3] rfl)
      · have h := h.2 c8
        refine lv_iconst (v := 1) C.1 C.2.1 dX11_wrong_69 (by decide) ?_
        refine l_ild_n C dX11_wrong_70 hl 3 rfl rfl ?_
        refine lv_ishl C.1 C.2.1 dX11_wrong_71 ?_
        refine lv_goto (tgt := 76) C.1 C.2.1 dX11_wrong_72 (by decide) ?_
        exact b_X11_wrong_76 C hk48 l1 l3 (((1 : Int32) <<< (l3 &&& 31))) l2 M _ _ _ _ _ h I (hl.sub [0, 1, 3] rfl)
def w_X11_wrong_20 (Q : Int32 → MS → Prop) (l1 : Int32) (t0 : Int32) (M : MS) : Prop := w_X11_right (fun r2 M1 => ((¬ r2 = 0) → (w_X11_asks (fun M3 => w_X11_all (fun r6 M5 => w_X11_reckons (fun M7 => ∃ n, w_X11_wrong_48 Q n l1 ((0 : Int32)) ((0 : Int32)) M7) r6 ((0 : Int32)) M5) M3) ((-1 : Int32)) ((0 : Int32)) M1)) ∧ ((r2 = 0) → (Q ((0 : Int32)) M1))) t0 ((1 : Int32)) M
set_option maxHeartbeats 4000000 in
theorem b_X11_wrong_20 {b0 z0 : Nat} {M0 : MS} {Q : Int32 → MS → Prop} (C : Cx p s m meth c D T Z "EndingTownModel" cX11_wrong 5 (some .int)) : ∀ (l1 : Int32) (t0 : Int32) (M : MS) (H : Heap) (locs : List Loc) (cells slots : Nat) (ls : Array Slot), w_X11_wrong_20 Q l1 t0 M → HI (twd D T Z) (mG b0 z0 M0) s (rmX (twd D T Z) 6 151 (mG b0 z0 M0)) H locs cells slots (mG b0 z0 M) → LH ls 5 [(0, .inr (.inl (some b0))), (1, .inl l1)] → W p l e (rmX (twd D T Z) 6 151 (mG b0 z0 M0)) s m args below meth c H locs cells slots (MQX (twd D T Z) (mG b0 z0 M0) (mq b0 z0 (qI Q)) (fun _ _ => False) below s) (F0 m 20 ls [.int t0, va_rf (some b0)]) := by
  intro l1 t0 M H locs cells slots ls h I hl
  refine lv_iconst (v := 1) C.1 C.2.1 dX11_wrong_20 (by decide) ?_
  refine k_call Ext.tr C I (k_V (r := some b0) (As := [.int t0, .int ((1 : Int32))]) (rest := []) (y := yX11_right) C (f_recv C I) q1603 q1605 qs47 (Or.inl rfl) q1606 (by decide) rfl pd_X11_right rfl dX11_wrong_21) (ct_X11_right h) hl.1 dX11_wrong_21 [] rfl (Nat.le_of_ble_eq_true rfl) (Or.inl rfl) q1606 q113 ⟨Nat.le_of_ble_eq_true rfl, Nat.le_of_ble_eq_true rfl⟩ (fun v x1 H locs cells slots ex hq I => ?_) (fun a x1 H locs cells slots ex hq I => hq.elim)
  obtain ⟨M1, rfl, r2, rfl, h⟩ := hq
  refine lv_if_ne (tgt := 29) C.1 C.2.1 dX11_wrong_24 (by decide) (fun c9 => ?_) (fun c9 => ?_)
  · have h := h.1 c9
    refine l_ald_n (x := some b0) C dX11_wrong_29 hl 0 rfl rfl ?_
    refine lv_iconst (v := (-1)) C.1 C.2.1 dX11_wrong_30 (by decide) ?_
    refine lv_iconst (v := 0) C.1 C.2.1 dX11_wrong_31 (by decide) ?_
    refine k_call Ext.tr C I (k_V (r := some b0) (As := [.int ((-1 : Int32)), .int ((0 : Int32))]) (rest := []) (y := yX11_asks) C (f_recv C I) q1793 q1795 qs79 (Or.inl rfl) q1796 (by decide) rfl pd_X11_asks rfl dX11_wrong_32) (ct_X11_asks h) hl.1 dX11_wrong_32 [] rfl (Nat.le_of_ble_eq_true rfl) (Or.inl rfl) q1796 q113 ⟨Nat.le_of_ble_eq_true rfl, Nat.le_of_ble_eq_true rfl⟩ (fun v x1 H locs cells slots ex hq I => ?_) (fun a x1 H locs cells slots ex hq I => hq.elim)
    obtain ⟨M3, rfl, rfl, h⟩ := hq
    refine l_ald_n (x := some b0) C dX11_wrong_35 hl 0 rfl rfl ?_
    refine l_ald_n (x := some b0) C dX11_wrong_36 hl 0 rfl rfl ?_
    refine k_call Ext.tr C I (k_V (r := some b0) (As := []) (rest := [va_rf (some b0)]) (y := yX11_all) C (f_recv C I) q1801 q1803 qs81 (Or.inl rfl) q1804 (by decide) rfl pd_X11_all rfl dX11_wrong_37) (ct_X11_all h) hl.1 dX11_wrong_37 [.inr (.inl (some b0))] rfl (Nat.le_of_ble_eq_true rfl) (Or.inl rfl) q1804 q113 ⟨Nat.le_of_ble_eq_true rfl, Nat.le_of_ble_eq_true rfl⟩ (fun v x1 H locs cells slots ex hq I => ?_) (fun a x1 H locs cells slots ex hq I => hq.elim)
    obtain ⟨M5, rfl, r6, rfl, h⟩ := hq
    refine lv_iconst (v := 0) C.1 C.2.1 dX11_wrong_40 (by decide) ?_
    refine k_call Ext.tr C I (k_V (r := some b0) (As := [.int r6, .int ((0 : Int32))]) (rest := []) (y := yX11_reckons) C (f_recv C I) q1805 q1807 qs82 (Or.inl rfl) q1808 (by decide) rfl pd_X11_reckons rfl dX11_wrong_41) (ct_X11_reckons h) hl.1 dX11_wrong_41 [] rfl (Nat.le_of_ble_eq_true rfl) (Or.inl rfl) q1808 q113 ⟨Nat.le_of_ble_eq_true rfl, Nat.le_of_ble_eq_true rfl⟩ (fun v x1 H locs cells slots ex hq I => ?_) (fun a x1 H locs cells slots ex hq I => hq.elim)
    obtain ⟨M7, rfl, rfl, h⟩ := hq
    refine lv_iconst (v := 0) C.1 C.2.1 dX11_wrong_44 (by decide) ?_
    refine l_ist_n C dX11_wrong_45 rfl hl (by decide) rfl (fun ls hl => ?_)
    have hl : LH ls 5 [(2, .inl ((0 : Int32))), (0, .inr (.inl (some b0))), (1, .inl l1)] := hl
    refine lv_iconst (v := 0) C.1 C.2.1 dX11_wrong_46 (by decide) ?_
    refine l_ist_n C dX11_wrong_47 rfl hl (by decide) rfl (fun ls hl => ?_)
    have hl : LH ls 5 [(3, .inl ((0 : Int32))), (2, .inl ((0 : Int32))), (0, .inr (.inl (some b0))), (1, .inl l1)] := hl
    obtain ⟨n, h⟩ := h
    exact b_X11_wrong_48 C n l1 ((0 : Int32)) ((0 : Int32)) M7 _ _ _ _ _ h I (hl.sub [2, 3, 1, 0] rfl)
  · have h := h.2 c9
    refine lv_iconst (v := 0) C.1 C.2.1 dX11_wrong_27 (by decide) ?_
    exact r_int C.1 C.2.1 C.2.2.2.2.2.1 rfl C.2.2.2.2.2.2 ⟨rfl, rfl⟩ I dX11_wrong_28 ⟨_, rfl, _, rfl, h⟩
def w_X11_wrong_15 (Q : Int32 → MS → Prop) (l1 : Int32) (M : MS) : Prop := w_X11_wrong_20 Q l1 ((1 : Int32)) M
set_option maxHeartbeats 4000000 in
theorem b_X11_wrong_15 {b0 z0 : Nat} {M0 : MS} {Q : Int32 → MS → Prop} (C : Cx p s m meth c D T Z "EndingTownModel" cX11_wrong 5 (some .int)) : ∀ (l1 : Int32) (M : MS) (H : Heap) (locs : List Loc) (cells slots : Nat) (ls : Array Slot), w_X11_wrong_15 Q l1 M → HI (twd D T Z) (mG b0 z0 M0) s (rmX (twd D T Z) 6 151 (mG b0 z0 M0)) H locs cells slots (mG b0 z0 M) → LH ls 5 [(0, .inr (.inl (some b0))), (1, .inl l1)] → W p l e (rmX (twd D T Z) 6 151 (mG b0 z0 M0)) s m args below meth c H locs cells slots (MQX (twd D T Z) (mG b0 z0 M0) (mq b0 z0 (qI Q)) (fun _ _ => False) below s) (F0 m 15 ls [va_rf (some b0)]) := by
  intro l1 M H locs cells slots ls h I hl
  refine lv_iconst (v := 1) C.1 C.2.1 dX11_wrong_15 (by decide) ?_
  refine lv_goto (tgt := 20) C.1 C.2.1 dX11_wrong_16 (by decide) ?_
  exact b_X11_wrong_20 C l1 ((1 : Int32)) M _ _ _ _ _ h I (hl.sub [0, 1] rfl)
def w_X11_wrong (Q : Int32 → MS → Prop) (p0 : Int32) (M : MS) : Prop := ∀ M1 : MS, M1 = sF M 0 ((0 : Int32)) → ((p0 = 0) → (w_X11_wrong_15 Q p0 M1)) ∧ ((¬ p0 = 0) → (((¬ p0 = (1 : Int32)) → (w_X11_wrong_20 Q p0 ((0 : Int32)) M1)) ∧ ((p0 = (1 : Int32)) → (w_X11_wrong_15 Q p0 M1))))
theorem pd_X11_wrong : (parseMethodDescriptor yX11_wrong.desc).map (fun d => d.parameters.length) = some 1 := by decide +kernel
set_option maxHeartbeats 4000000 in
theorem ct_X11_wrong {l : Launch} {D : va_G} {T : Nat → ClassId} {Z : Heap} {b0 z0 : Nat} {M0 : MS} {Q : Int32 → MS → Prop} {p0 : Int32} (hw : w_X11_wrong Q p0 M0) : CT (twd D T Z) (Evd D T Z) l yX11_wrong (Cond.code yX11_wrong cX11_wrong 5 (some .int)) 6 151 [va_rf (some b0), .int p0] (mG b0 z0 M0) (mq b0 z0 (qI Q)) (fun _ _ => False) := by
  refine CT.ofW (cc := cX11_wrong) (nL := 5) (ret := (some .int)) Ext.rf (by decide) (Or.inl rfl) ?_
  intro p e s m below meth c hx hb hml hown hr hlk hnm hcb hm hc hn hE I
  have C : Cx p s m meth c D T Z "EndingTownModel" cX11_wrong 5 (some .int) := ⟨hx, hb, hml, hown, hE, hr, hlk⟩
  refine w_entry [.inr (.inl (some b0)), .inl p0] (Nat.le_of_ble_eq_true rfl) (fun ls hl => ?_)
  have hl : LH ls 5 [(0, .inr (.inl (some b0))), (1, .inl p0)] := hl
  have h := hw
  refine l_ald_n (x := some b0) C dX11_wrong_0 hl 0 rfl rfl ?_
  refine lv_iconst (v := 0) C.1 C.2.1 dX11_wrong_1 (by decide) ?_
  refine f_PI C I (fp_X11_122) (by decide) dX11_wrong_2 (fit_i _) (fun H locs M1 eM1 I => ?_)
  have h := h M1 eM1
  refine l_ald_n (x := some b0) C dX11_wrong_5 hl 0 rfl rfl ?_
  refine l_ild_n C dX11_wrong_6 hl 1 rfl rfl ?_
  refine lv_if_eq (tgt := 15) C.1 C.2.1 dX11_wrong_7 (by decide) (fun c3 => ?_) (fun c3 => ?_)
  · have h := h.1 c3
    exact b_X11_wrong_15 C p0 M1 _ _ _ _ _ h I (hl.sub [0, 1] rfl)
  · have h := h.2 c3
    refine l_ild_n C dX11_wrong_10 hl 1 rfl rfl ?_
    refine lv_iconst (v := 1) C.1 C.2.1 dX11_wrong_11 (by decide) ?_
    refine lv_icmp_ne (tgt := 19) C.1 C.2.1 dX11_wrong_12 (by decide) (fun c2 => ?_) (fun c2 => ?_)
    · have h := h.1 c2
      refine lv_iconst (v := 0) C.1 C.2.1 dX11_wrong_19 (by decide) ?_
      exact b_X11_wrong_20 C p0 ((0 : Int32)) M1 _ _ _ _ _ h I (hl.sub [0, 1] rfl)
    · have h := h.2 c2
      exact b_X11_wrong_15 C p0 M1 _ _ _ _ _ h I (hl.sub [0, 1] rfl)
def w_X11_mend_110 (Q : Int32 → MS → Prop) (k26 : Int32 → Int32 → MS → Prop) (k69 : Int32 → Int32 → Int32 → Int32 → MS → Prop) (l1 : Int32) (l2 : Int32) (l4 : Int32) (t0 : Int32) (M : MS) : Prop := k69 l1 l2 t0 ((l4 + 1)) M
set_option maxHeartbeats 4000000 in
theorem b_X11_mend_110 {b0 z0 : Nat} {M0 : MS} {Q : Int32 → MS → Prop} {k26 : Int32 → Int32 → MS → Prop} {k69 : Int32 → Int32 → Int32 → Int32 → MS → Prop} (C : Cx p s m meth c D T Z "EndingTownModel" cX11_mend 5 (some .int)) (hk26 : ∀ (l1 : Int32) (l2 : Int32) (M : MS) (H : Heap) (locs : List Loc) (cells slots : Nat) (ls : Array Slot), k26 l1 l2 M → HI (twd D T Z) (mG b0 z0 M0) s (rmX (twd D T Z) 6 151 (mG b0 z0 M0)) H locs cells slots (mG b0 z0 M) → LH ls 5 [(0, .inr (.inl (some b0))), (1, .inl l1), (2, .inl l2)] → W p l e (rmX (twd D T Z) 6 151 (mG b0 z0 M0)) s m args below meth c H locs cells slots (MQX (twd D T Z) (mG b0 z0 M0) (mq b0 z0 (qI Q)) (fun _ _ => False) below s) (F0 m 26 ls [])) (hk69 : ∀ (l1 : Int32) (l2 : Int32) (l3 : Int32) (l4 : Int32) (M : MS) (H : Heap) (locs : List Loc) (cells slots : Nat) (ls : Array Slot), k69 l1 l2 l3 l4 M → HI (twd D T Z) (mG b0 z0 M0) s (rmX (twd D T Z) 6 151 (mG b0 z0 M0)) H locs cells slots (mG b0 z0 M) → LH ls 5 [(0, .inr (.inl (some b0))), (1, .inl l1), (2, .inl l2), (3, .inl l3), (4, .inl l4)] → W p l e (rmX (twd D T Z) 6 151 (mG b0 z0 M0)) s m args below meth c H locs cells slots (MQX (twd D T Z) (mG b0 z0 M0) (mq b0 z0 (qI Q)) (fun _ _ => False) below s) (F0 m 69 ls [])) : ∀ (l1 : Int32) (l2 : Int32) (l4 : Int32) (t0 : Int32) (M : MS) (H : Heap) (locs : List Loc) (cells slots : Nat) (ls : Array Slot), w_X11_mend_110 Q k26 k69 l1 l2 l4 t0 M → HI (twd D T Z) (mG b0 z0 M0) s (rmX (twd D T Z) 6 151 (mG b0 z0 M0)) H locs cells slots (mG b0 z0 M) → LH ls 5 [(0, .inr (.inl (some b0))), (1, .inl l1), (2, .inl l2), (4, .inl l4)] → W p l e (rmX (twd D T Z) 6 151 (mG b0 z0 M0)) s m args below meth c H locs cells slots (MQX (twd D T Z) (mG b0 z0 M0) (mq b0 z0 (qI Q)) (fun _ _ => False) below s) (F0 m 110 ls [.int t0]) := by
  intro l1 l2 l4 t0 M H locs cells slots ls h I hl
  refine l_ist_n C dX11_mend_110 rfl hl (by decide) rfl (fun ls hl => ?_)
  have hl : LH ls 5 [(3, .inl t0), (0, .inr (.inl (some b0))), (1, .inl l1), (2, .inl l2), (4, .inl l4)] := hl
  refine l_inc (q := 4) (v := 1) C dX11_mend_111 hl rfl (by decide) (by decide) rfl (fun ls hl => ?_)
  have hl : LH ls 5 [(4, .inl ((l4 + 1))), (3, .inl t0), (0, .inr (.inl (some b0))), (1, .inl l1), (2, .inl l2)] := hl
  refine lv_goto (tgt := 69) C.1 C.2.1 dX11_mend_114 (by decide) ?_
  exact hk69 l1 l2 t0 ((l4 + 1)) M _ _ _ _ _ h I (hl.sub [2, 3, 4, 1, 0] rfl)
def w_X11_mend_105 (Q : Int32 → MS → Prop) (k26 : Int32 → Int32 → MS → Prop) (k69 : Int32 → Int32 → Int32 → Int32 → MS → Prop) (l1 : Int32) (l2 : Int32) (l4 : Int32) (M : MS) : Prop := w_X11_mend_110 Q k26 k69 l1 l2 l4 ((1 : Int32)) M
set_option maxHeartbeats 4000000 in
theorem b_X11_mend_105 {b0 z0 : Nat} {M0 : MS} {Q : Int32 → MS → Prop} {k26 : Int32 → Int32 → MS → Prop} {k69 : Int32 → Int32 → Int32 → Int32 → MS → Prop} (C : Cx p s m meth c D T Z "EndingTownModel" cX11_mend 5 (some .int)) (hk26 : ∀ (l1 : Int32) (l2 : Int32) (M : MS) (H : Heap) (locs : List Loc) (cells slots : Nat) (ls : Array Slot), k26 l1 l2 M → HI (twd D T Z) (mG b0 z0 M0) s (rmX (twd D T Z) 6 151 (mG b0 z0 M0)) H locs cells slots (mG b0 z0 M) → LH ls 5 [(0, .inr (.inl (some b0))), (1, .inl l1), (2, .inl l2)] → W p l e (rmX (twd D T Z) 6 151 (mG b0 z0 M0)) s m args below meth c H locs cells slots (MQX (twd D T Z) (mG b0 z0 M0) (mq b0 z0 (qI Q)) (fun _ _ => False) below s) (F0 m 26 ls [])) (hk69 : ∀ (l1 : Int32) (l2 : Int32) (l3 : Int32) (l4 : Int32) (M : MS) (H : Heap) (locs : List Loc) (cells slots : Nat) (ls : Array Slot), k69 l1 l2 l3 l4 M → HI (twd D T Z) (mG b0 z0 M0) s (rmX (twd D T Z) 6 151 (mG b0 z0 M0)) H locs cells slots (mG b0 z0 M) → LH ls 5 [(0, .inr (.inl (some b0))), (1, .inl l1), (2, .inl l2), (3, .inl l3), (4, .inl l4)] → W p l e (rmX (twd D T Z) 6 151 (mG b0 z0 M0)) s m args below meth c H locs cells slots (MQX (twd D T Z) (mG b0 z0 M0) (mq b0 z0 (qI Q)) (fun _ _ => False) below s) (F0 m 69 ls [])) : ∀ (l1 : Int32) (l2 : Int32) (l4 : Int32) (M : MS) (H : Heap) (locs : List Loc) (cells slots : Nat) (ls : Array Slot), w_X11_mend_105 Q k26 k69 l1 l2 l4 M → HI (twd D T Z) (mG b0 z0 M0) s (rmX (twd D T Z) 6 151 (mG b0 z0 M0)) H locs cells slots (mG b0 z0 M) → LH ls 5 [(0, .inr (.inl (some b0))), (1, .inl l1), (2, .inl l2), (4, .inl l4)] → W p l e (rmX (twd D T Z) 6 151 (mG b0 z0 M0)) s m args below meth c H locs cells slots (MQX (twd D T Z) (mG b0 z0 M0) (mq b0 z0 (qI Q)) (fun _ _ => False) below s) (F0 m 105 ls []) := by
  intro l1 l2 l4 M H locs cells slots ls h I hl
  refine lv_iconst (v := 1) C.1 C.2.1 dX11_mend_105 (by decide) ?_
  refine lv_goto (tgt := 110) C.1 C.2.1 dX11_mend_106 (by decide) ?_
  exact b_X11_mend_110 C hk26 hk69 l1 l2 l4 ((1 : Int32)) M _ _ _ _ _ h I (hl.sub [0, 1, 2, 3] rfl)
def w_X11_mend_109 (Q : Int32 → MS → Prop) (k26 : Int32 → Int32 → MS → Prop) (k69 : Int32 → Int32 → Int32 → Int32 → MS → Prop) (l1 : Int32) (l2 : Int32) (l4 : Int32) (M : MS) : Prop := w_X11_mend_110 Q k26 k69 l1 l2 l4 ((0 : Int32)) M
set_option maxHeartbeats 4000000 in
theorem b_X11_mend_109 {b0 z0 : Nat} {M0 : MS} {Q : Int32 → MS → Prop} {k26 : Int32 → Int32 → MS → Prop} {k69 : Int32 → Int32 → Int32 → Int32 → MS → Prop} (C : Cx p s m meth c D T Z "EndingTownModel" cX11_mend 5 (some .int)) (hk26 : ∀ (l1 : Int32) (l2 : Int32) (M : MS) (H : Heap) (locs : List Loc) (cells slots : Nat) (ls : Array Slot), k26 l1 l2 M → HI (twd D T Z) (mG b0 z0 M0) s (rmX (twd D T Z) 6 151 (mG b0 z0 M0)) H locs cells slots (mG b0 z0 M) → LH ls 5 [(0, .inr (.inl (some b0))), (1, .inl l1), (2, .inl l2)] → W p l e (rmX (twd D T Z) 6 151 (mG b0 z0 M0)) s m args below meth c H locs cells slots (MQX (twd D T Z) (mG b0 z0 M0) (mq b0 z0 (qI Q)) (fun _ _ => False) below s) (F0 m 26 ls [])) (hk69 : ∀ (l1 : Int32) (l2 : Int32) (l3 : Int32) (l4 : Int32) (M : MS) (H : Heap) (locs : List Loc) (cells slots : Nat) (ls : Array Slot), k69 l1 l2 l3 l4 M → HI (twd D T Z) (mG b0 z0 M0) s (rmX (twd D T Z) 6 151 (mG b0 z0 M0)) H locs cells slots (mG b0 z0 M) → LH ls 5 [(0, .inr (.inl (some b0))), (1, .inl l1), (2, .inl l2), (3, .inl l3), (4, .inl l4)] → W p l e (rmX (twd D T Z) 6 151 (mG b0 z0 M0)) s m args below meth c H locs cells slots (MQX (twd D T Z) (mG b0 z0 M0) (mq b0 z0 (qI Q)) (fun _ _ => False) below s) (F0 m 69 ls [])) : ∀ (l1 : Int32) (l2 : Int32) (l4 : Int32) (M : MS) (H : Heap) (locs : List Loc) (cells slots : Nat) (ls : Array Slot), w_X11_mend_109 Q k26 k69 l1 l2 l4 M → HI (twd D T Z) (mG b0 z0 M0) s (rmX (twd D T Z) 6 151 (mG b0 z0 M0)) H locs cells slots (mG b0 z0 M) → LH ls 5 [(0, .inr (.inl (some b0))), (1, .inl l1), (2, .inl l2), (4, .inl l4)] → W p l e (rmX (twd D T Z) 6 151 (mG b0 z0 M0)) s m args below meth c H locs cells slots (MQX (twd D T Z) (mG b0 z0 M0) (mq b0 z0 (qI Q)) (fun _ _ => False) below s) (F0 m 109 ls []) := by
  intro l1 l2 l4 M H locs cells slots ls h I hl
  refine lv_iconst (v := 0) C.1 C.2.1 dX11_mend_109 (by decide) ?_
  exact b_X11_mend_110 C hk26 hk69 l1 l2 l4 ((0 : Int32)) M _ _ _ _ _ h I (hl.sub [0, 1, 2, 3] rfl)
def w_X11_mend_138 (Q : Int32 → MS → Prop) (k26 : Int32 → Int32 → MS → Prop) (l1 : Int32) (l2 : Int32) (M : MS) : Prop := k26 l1 ((l2 + 1)) M
set_option maxHeartbeats 4000000 in
theorem b_X11_mend_138 {b0 z0 : Nat} {M0 : MS} {Q : Int32 → MS → Prop} {k26 : Int32 → Int32 → MS → Prop} (C : Cx p s m meth c D T Z "EndingTownModel" cX11_mend 5 (some .int)) (hk26 : ∀ (l1 : Int32) (l2 : Int32) (M : MS) (H : Heap) (locs : List Loc) (cells slots : Nat) (ls : Array Slot), k26 l1 l2 M → HI (twd D T Z) (mG b0 z0 M0) s (rmX (twd D T Z) 6 151 (mG b0 z0 M0)) H locs cells slots (mG b0 z0 M) → LH ls 5 [(0, .inr (.inl (some b0))), (1, .inl l1), (2, .inl l2)] → W p l e (rmX (twd D T Z) 6 151 (mG b0 z0 M0)) s m args below meth c H locs cells slots (MQX (twd D T Z) (mG b0 z0 M0) (mq b0 z0 (qI Q)) (fun _ _ => False) below s) (F0 m 26 ls [])) : ∀ (l1 : Int32) (l2 : Int32) (M : MS) (H : Heap) (locs : List Loc) (cells slots : Nat) (ls : Array Slot), w_X11_mend_138 Q k26 l1 l2 M → HI (twd D T Z) (mG b0 z0 M0) s (rmX (twd D T Z) 6 151 (mG b0 z0 M0)) H locs cells slots (mG b0 z0 M) → LH ls 5 [(0, .inr (.inl (some b0))), (1, .inl l1), (2, .inl l2)] → W p l e (rmX (twd D T Z) 6 151 (mG b0 z0 M0)) s m args below meth c H locs cells slots (MQX (twd D T Z) (mG b0 z0 M0) (mq b0 z0 (qI Q)) (fun _ _ => False) below s) (F0 m 138 ls []) := by
  intro l1 l2 M H locs cells slots ls h I hl
  refine l_inc (q := 2) (v := 1) C dX11_mend_138 hl rfl (by decide) (by decide) rfl (fun ls hl => ?_)
  have hl : LH ls 5 [(2, .inl ((l2 + 1))), (0, .inr (.inl (some b0))), (1, .inl l1)] := hl
  refine lv_goto (tgt := 26) C.1 C.2.1 dX11_mend_141 (by decide) ?_
  exact hk26 l1 ((l2 + 1)) M _ _ _ _ _ h I (hl.sub [1, 2, 0] rfl)
def w_X11_mend_69 (Q : Int32 → MS → Prop) (k26 : Int32 → Int32 → MS → Prop) : Nat → Int32 → Int32 → Int32 → Int32 → MS → Prop
  | 0 => fun _ _ _ _ _ => False
  | f69 + 1 => fun l1 l2 l3 l4 M => ((mF M 50 ≤ l4) → (((¬ l3 = 0) → (w_X11_copies (fun M1 => w_X11_mend_138 Q k26 l2 l2 M1) 54 66 M)) ∧ ((l3 = 0) → (w_X11_mend_138 Q k26 l1 l2 M)))) ∧ ((¬ mF M 50 ≤ l4) → (((l3 = 0) → (w_X11_mend_109 Q k26 (w_X11_mend_69 Q k26 f69) l1 l2 l4 M)) ∧ ((¬ l3 = 0) → (((((l2 >>> (l4 &&& 31)) &&& (1 : Int32)) = (1 : Int32)) → (w_X11_mend_105 Q k26 (w_X11_mend_69 Q k26 f69) l1 l2 l4 M)) ∧ ((¬ ((l2 >>> (l4 &&& 31)) &&& (1 : Int32)) = (1 : Int32)) → (vp_in l4 (mlen 53) ∧ (((1000 : Int32) ≤ mA M 53 l4.toNatClampNeg) → (w_X11_mend_109 Q k26 (w_X11_mend_69 Q k26 f69) l1 l2 l4 M)) ∧ ((¬ (1000 : Int32) ≤ mA M 53 l4.toNatClampNeg) → (w_X11_mend_105 Q k26 (w_X11_mend_69 Q k26 f69) l1 l2 l4 M))))))))
set_option maxHeartbeats 4000000 in
theorem b_X11_mend_69 {b0 z0 : Nat} {M0 : MS} {Q : Int32 → MS → Prop} {k26 : Int32 → Int32 → MS → Prop} (C : Cx p s m meth c D T Z "EndingTownModel" cX11_mend 5 (some .int)) (hk26 : ∀ (l1 : Int32) (l2 : Int32) (M : MS) (H : Heap) (locs : List Loc) (cells slots : Nat) (ls : Array Slot), k26 l1 l2 M → HI (twd D T Z) (mG b0 z0 M0) s (rmX (twd D T Z) 6 151 (mG b0 z0 M0)) H locs cells slots (mG b0 z0 M) → LH ls 5 [(0, .inr (.inl (some b0))), (1, .inl l1), (2, .inl l2)] → W p l e (rmX (twd D T Z) 6 151 (mG b0 z0 M0)) s m args below meth c H locs cells slots (MQX (twd D T Z) (mG b0 z0 M0) (mq b0 z0 (qI Q)) (fun _ _ => False) below s) (F0 m 26 ls [])) : ∀ (n : Nat) (l1 : Int32) (l2 : Int32) (l3 : Int32) (l4 : Int32) (M : MS) (H : Heap) (locs : List Loc) (cells slots : Nat) (ls : Array Slot), w_X11_mend_69 Q k26 n l1 l2 l3 l4 M → HI (twd D T Z) (mG b0 z0 M0) s (rmX (twd D T Z) 6 151 (mG b0 z0 M0)) H locs cells slots (mG b0 z0 M) → LH ls 5 [(0, .inr (.inl (some b0))), (1, .inl l1), (2, .inl l2), (3, .inl l3), (4, .inl l4)] → W p l e (rmX (twd D T Z) 6 151 (mG b0 z0 M0)) s m args below meth c H locs cells slots (MQX (twd D T Z) (mG b0 z0 M0) (mq b0 z0 (qI Q)) (fun _ _ => False) below s) (F0 m 69 ls []) := by
  intro n
  induction n with
  | zero => intro l1 l2 l3 l4 M H locs cells slots ls h; exact (show False from h).elim
  | succ n ih =>
    intro l1 l2 l3 l4 M H locs cells slots ls h I hl
    have hk69 := ih
    refine l_ild C dX11_mend_69 hl 4 rfl ?_
    refine l_ald_n (x := some b0) C dX11_mend_71 hl 0 rfl rfl ?_
    refine f_I C I (fl_X11_279) (by decide) dX11_mend_72 ?_
    refine lv_icmp_ge (tgt := 117) C.1 C.2.1 dX11_mend_75 (by decide) (fun c7 => ?_) (fun c7 => ?_)
    · have h := h.1 c7
      refine l_ild_n C dX11_mend_117 hl 3 rfl rfl ?_
      refine lv_if_ne (tgt := 124) C.1 C.2.1 dX11_mend_118 (by decide) (fun c3 => ?_) (fun c3 => ?_)
      · have h := h.1 c3
        refine l_ild_n C dX11_mend_124 hl 2 rfl rfl ?_
        refine l_ist_n C dX11_mend_125 rfl hl (by decide) rfl (fun ls hl => ?_)
        have hl : LH ls 5 [(1, .inl l2), (0, .inr (.inl (some b0))), (2, .inl l2), (3, .inl l3), (4, .inl l4)] := hl
        refine l_ald_n (x := some b0) C dX11_mend_126 hl 1 rfl rfl ?_
        refine l_ald_n (x := some b0) C dX11_mend_127 hl 1 rfl rfl ?_
        refine f_A C I (fl_X11_92) (by decide) (by decide) dX11_mend_128 ?_
        refine l_ald_n (x := some b0) C dX11_mend_131 hl 1 rfl rfl ?_
        refine f_A C I (fl_X11_116) (by decide) (by decide) dX11_mend_132 ?_
        refine k_call Ext.tr C I (k_V (r := some b0) (As := [va_rf (some (b0 + moff 54)), va_rf (some (b0 + moff 66))]) (rest := []) (y := yX11_copies) C (f_recv C I) q1687 q1689 qs65 (Or.inl rfl) q1690 (by decide) rfl pd_X11_copies rfl dX11_mend_135) (ct_X11_copies h) hl.1 dX11_mend_135 [] rfl (Nat.le_of_ble_eq_true rfl) (Or.inl rfl) q1690 q113 ⟨Nat.le_of_ble_eq_true rfl, Nat.le_of_ble_eq_true rfl⟩ (fun v x1 H locs cells slots ex hq I => ?_) (fun a x1 H locs cells slots ex hq I => hq.elim)
        obtain ⟨M1, rfl, rfl, h⟩ := hq
        exact b_X11_mend_138 C hk26 l2 l2 M1 _ _ _ _ _ h I (hl.sub [1, 0, 2] rfl)
      · have h := h.2 c3
        refine lv_goto (tgt := 138) C.1 C.2.1 dX11_mend_121 (by decide) ?_
        exact b_X11_mend_138 C hk26 l1 l2 M _ _ _ _ _ h I (hl.sub [0, 1, 2] rfl)
    · have h := h.2 c7
      refine l_ild_n C dX11_mend_78 hl 3 rfl rfl ?_
      refine lv_if_eq (tgt := 109) C.1 C.2.1 dX11_mend_79 (by decide) (fun c6 => ?_) (fun c6 => ?_)
      · have h := h.1 c6
        exact b_X11_mend_109 C hk26 hk69 l1 l2 l4 M _ _ _ _ _ h I (hl.sub [0, 1, 2, 4] rfl)
      · have h := h.2 c6
        refine l_ild_n C dX11_mend_82 hl 2 rfl rfl ?_
        refine l_ild C dX11_mend_83 hl 4 rfl ?_
        refine lv_ishr C.1 C.2.1 dX11_mend_85 ?_
        refine lv_iconst (v := 1) C.1 C.2.1 dX11_mend_86 (by decide) ?_
        refine lv_iand C.1 C.2.1 dX11_mend_87 ?_
        refine lv_iconst (v := 1) C.1 C.2.1 dX11_mend_88 (by decide) ?_
        refine lv_icmp_eq (tgt := 105) C.1 C.2.1 dX11_mend_89 (by decide) (fun c5 => ?_) (fun c5 => ?_)
        · have h := h.1 c5
          exact b_X11_mend_105 C hk26 hk69 l1 l2 l4 M _ _ _ _ _ h I (hl.sub [0, 1, 2, 4] rfl)
        · have h := h.2 c5
          refine l_ald_n (x := some b0) C dX11_mend_92 hl 0 rfl rfl ?_
          refine f_A C I (fl_X11_89) (by decide) (by decide) dX11_mend_93 ?_
          refine l_ild C dX11_mend_96 hl 4 rfl ?_
          obtain ⟨hi, h⟩ := h
          refine f_ld (k := 53) C I (by decide) hi dX11_mend_98 ?_
          refine lv_sipush (v := 1000) C.1 C.2.1 dX11_mend_99 (by decide) ?_
          refine lv_icmp_ge (tgt := 109) C.1 C.2.1 dX11_mend_102 (by decide) (fun c4 => ?_) (fun c4 => ?_)
          · have h := h.1 c4
            exact b_X11_mend_109 C hk26 hk69 l1 l2 l4 M _ _ _ _ _ h I (hl.sub [0, 1, 2, 4] rfl)
          · have h := h.2 c4
            exact b_X11_mend_105 C hk26 hk69 l1 l2 l4 M _ _ _ _ _ h I (hl.sub [0, 1, 2, 4] rfl)
def w_X11_mend_55 (Q : Int32 → MS → Prop) (k26 : Int32 → Int32 → MS → Prop) (l1 : Int32) (l2 : Int32) (M : MS) : Prop := w_X11_all (fun r2 M1 => w_X11_reckons (fun M3 => ∃ n, w_X11_mend_69 Q k26 n l1 l2 ((1 : Int32)) ((0 : Int32)) M3) r2 l2 M1) M
set_option maxHeartbeats 4000000 in
theorem b_X11_mend_55 {b0 z0 : Nat} {M0 : MS} {Q : Int32 → MS → Prop} {k26 : Int32 → Int32 → MS → Prop} (C : Cx p s m meth c D T Z "EndingTownModel" cX11_mend 5 (some .int)) (hk26 : ∀ (l1 : Int32) (l2 : Int32) (M : MS) (H : Heap) (locs : List Loc) (cells slots : Nat) (ls : Array Slot), k26 l1 l2 M → HI (twd D T Z) (mG b0 z0 M0) s (rmX (twd D T Z) 6 151 (mG b0 z0 M0)) H locs cells slots (mG b0 z0 M) → LH ls 5 [(0, .inr (.inl (some b0))), (1, .inl l1), (2, .inl l2)] → W p l e (rmX (twd D T Z) 6 151 (mG b0 z0 M0)) s m args below meth c H locs cells slots (MQX (twd D T Z) (mG b0 z0 M0) (mq b0 z0 (qI Q)) (fun _ _ => False) below s) (F0 m 26 ls [])) : ∀ (l1 : Int32) (l2 : Int32) (M : MS) (H : Heap) (locs : List Loc) (cells slots : Nat) (ls : Array Slot), w_X11_mend_55 Q k26 l1 l2 M → HI (twd D T Z) (mG b0 z0 M0) s (rmX (twd D T Z) 6 151 (mG b0 z0 M0)) H locs cells slots (mG b0 z0 M) → LH ls 5 [(0, .inr (.inl (some b0))), (1, .inl l1), (2, .inl l2)] → W p l e (rmX (twd D T Z) 6 151 (mG b0 z0 M0)) s m args below meth c H locs cells slots (MQX (twd D T Z) (mG b0 z0 M0) (mq b0 z0 (qI Q)) (fun _ _ => False) below s) (F0 m 55 ls []) := by
  intro l1 l2 M H locs cells slots ls h I hl
  refine l_ald_n (x := some b0) C dX11_mend_55 hl 0 rfl rfl ?_
  refine l_ald_n (x := some b0) C dX11_mend_56 hl 0 rfl rfl ?_
  refine k_call Ext.tr C I (k_V (r := some b0) (As := []) (rest := [va_rf (some b0)]) (y := yX11_all) C (f_recv C I) q1801 q1803 qs81 (Or.inl rfl) q1804 (by decide) rfl pd_X11_all rfl dX11_mend_57) (ct_X11_all h) hl.1 dX11_mend_57 [.inr (.inl (some b0))] rfl (Nat.le_of_ble_eq_true rfl) (Or.inl rfl) q1804 q113 ⟨Nat.le_of_ble_eq_true rfl, Nat.le_of_ble_eq_true rfl⟩ (fun v x1 H locs cells slots ex hq I => ?_) (fun a x1 H locs cells slots ex hq I => hq.elim)
  obtain ⟨M1, rfl, r2, rfl, h⟩ := hq
  refine l_ild_n C dX11_mend_60 hl 2 rfl rfl ?_
  refine k_call Ext.tr C I (k_V (r := some b0) (As := [.int r2, .int l2]) (rest := []) (y := yX11_reckons) C (f_recv C I) q1805 q1807 qs82 (Or.inl rfl) q1808 (by decide) rfl pd_X11_reckons rfl dX11_mend_61) (ct_X11_reckons h) hl.1 dX11_mend_61 [] rfl (Nat.le_of_ble_eq_true rfl) (Or.inl rfl) q1808 q113 ⟨Nat.le_of_ble_eq_true rfl, Nat.le_of_ble_eq_true rfl⟩ (fun v x1 H locs cells slots ex hq I => ?_) (fun a x1 H locs cells slots ex hq I => hq.elim)
  obtain ⟨M3, rfl, rfl, h⟩ := hq
  refine lv_iconst (v := 1) C.1 C.2.1 dX11_mend_64 (by decide) ?_
  refine l_ist_n C dX11_mend_65 rfl hl (by decide) rfl (fun ls hl => ?_)
  have hl : LH ls 5 [(3, .inl ((1 : Int32))), (0, .inr (.inl (some b0))), (1, .inl l1), (2, .inl l2)] := hl
  refine lv_iconst (v := 0) C.1 C.2.1 dX11_mend_66 (by decide) ?_
  refine l_ist C dX11_mend_67 hl (by decide) rfl (fun ls hl => ?_)
  have hl : LH ls 5 [(4, .inl ((0 : Int32))), (3, .inl ((1 : Int32))), (0, .inr (.inl (some b0))), (1, .inl l1), (2, .inl l2)] := hl
  obtain ⟨n, h⟩ := h
  exact b_X11_mend_69 C hk26 n l1 l2 ((1 : Int32)) ((0 : Int32)) M3 _ _ _ _ _ h I (hl.sub [2, 3, 4, 1, 0] rfl)
def w_X11_mend_26 (Q : Int32 → MS → Prop) : Nat → Int32 → Int32 → MS → Prop
  | 0 => fun _ _ _ => False
  | f26 + 1 => fun l1 l2 M => ((((1 : Int32) <<< (mF M 50 &&& 31)) ≤ l2) → (∀ M1 : MS, M1 = sF M 65 (mF M 50) → w_X11_bits (fun r3 M2 => Q r3 M2) l1 M1)) ∧ ((¬ ((1 : Int32) <<< (mF M 50 &&& 31)) ≤ l2) → (((l1 = (-1 : Int32)) → (w_X11_mend_55 Q (w_X11_mend_26 Q f26) l1 l2 M)) ∧ ((¬ l1 = (-1 : Int32)) → (w_X11_bits (fun r5 M4 => w_X11_bits (fun r7 M6 => ((r5 < r7) → (w_X11_mend_55 Q (w_X11_mend_26 Q f26) l1 l2 M6)) ∧ ((¬ r5 < r7) → (w_X11_mend_138 Q (w_X11_mend_26 Q f26) l1 l2 M6))) l1 M4) l2 M))))
set_option maxHeartbeats 4000000 in
theorem b_X11_mend_26 {b0 z0 : Nat} {M0 : MS} {Q : Int32 → MS → Prop} (C : Cx p s m meth c D T Z "EndingTownModel" cX11_mend 5 (some .int)) : ∀ (n : Nat) (l1 : Int32) (l2 : Int32) (M : MS) (H : Heap) (locs : List Loc) (cells slots : Nat) (ls : Array Slot), w_X11_mend_26 Q n l1 l2 M → HI (twd D T Z) (mG b0 z0 M0) s (rmX (twd D T Z) 6 151 (mG b0 z0 M0)) H locs cells slots (mG b0 z0 M) → LH ls 5 [(0, .inr (.inl (some b0))), (1, .inl l1), (2, .inl l2)] → W p l e (rmX (twd D T Z) 6 151 (mG b0 z0 M0)) s m args below meth c H locs cells slots (MQX (twd D T Z) (mG b0 z0 M0) (mq b0 z0 (qI Q)) (fun _ _ => False) below s) (F0 m 26 ls []) := by
  intro n
  induction n with
  | zero => intro l1 l2 M H locs cells slots ls h; exact (show False from h).elim
  | succ n ih =>
    intro l1 l2 M H locs cells slots ls h I hl
    have hk26 := ih
    refine l_ild_n C dX11_mend_26 hl 2 rfl rfl ?_
    refine lv_iconst (v := 1) C.1 C.2.1 dX11_mend_27 (by decide) ?_
    refine l_ald_n (x := some b0) C dX11_mend_28 hl 0 rfl rfl ?_
    refine f_I C I (fl_X11_279) (by decide) dX11_mend_29 ?_
    refine lv_ishl C.1 C.2.1 dX11_mend_32 ?_
    refine lv_icmp_ge (tgt := 144) C.1 C.2.1 dX11_mend_33 (by decide) (fun c10 => ?_) (fun c10 => ?_)
    · have h := h.1 c10
      refine l_ald_n (x := some b0) C dX11_mend_144 hl 0 rfl rfl ?_
      refine l_ald_n (x := some b0) C dX11_mend_145 hl 0 rfl rfl ?_
      refine f_I C I (fl_X11_279) (by decide) dX11_mend_146 ?_
      refine f_PI C I (fp_X11_113) (by decide) dX11_mend_149 (fit_i _) (fun H locs M1 eM1 I => ?_)
      have h := h M1 eM1
      refine l_ild_n C dX11_mend_152 hl 1 rfl rfl ?_
      refine k_call Ext.tr C I (k_S (As := [.int l1]) (rest := []) (y := yX11_bits) C q1702 q1703 q113 (Or.inl rfl) q1704 (by decide) rfl pd_X11_bits rfl dX11_mend_153) (ct_X11_bits h) hl.1 dX11_mend_153 [] rfl (Nat.le_of_ble_eq_true rfl) (Or.inl rfl) q1704 q113 ⟨Nat.le_of_ble_eq_true rfl, Nat.le_of_ble_eq_true rfl⟩ (fun v x1 H locs cells slots ex hq I => ?_) (fun a x1 H locs cells slots ex hq I => hq.elim)
      obtain ⟨M2, rfl, r3, rfl, h⟩ := hq
      exact r_int C.1 C.2.1 C.2.2.2.2.2.1 rfl C.2.2.2.2.2.2 ⟨rfl, rfl⟩ I dX11_mend_156 ⟨_, rfl, _, rfl, h⟩
    · have h := h.2 c10
      refine l_ild_n C dX11_mend_36 hl 1 rfl rfl ?_
      refine lv_iconst (v := (-1)) C.1 C.2.1 dX11_mend_37 (by decide) ?_
      refine lv_icmp_eq (tgt := 55) C.1 C.2.1 dX11_mend_38 (by decide) (fun c9 => ?_) (fun c9 => ?_)
      · have h := h.1 c9
        exact b_X11_mend_55 C hk26 l1 l2 M _ _ _ _ _ h I (hl.sub [0, 1, 2] rfl)
      · have h := h.2 c9
        refine l_ild_n C dX11_mend_41 hl 2 rfl rfl ?_
        refine k_call Ext.tr C I (k_S (As := [.int l2]) (rest := []) (y := yX11_bits) C q1702 q1703 q113 (Or.inl rfl) q1704 (by decide) rfl pd_X11_bits rfl dX11_mend_42) (ct_X11_bits h) hl.1 dX11_mend_42 [] rfl (Nat.le_of_ble_eq_true rfl) (Or.inl rfl) q1704 q113 ⟨Nat.le_of_ble_eq_true rfl, Nat.le_of_ble_eq_true rfl⟩ (fun v x1 H locs cells slots ex hq I => ?_) (fun a x1 H locs cells slots ex hq I => hq.elim)
        obtain ⟨M4, rfl, r5, rfl, h⟩ := hq
        refine l_ild_n C dX11_mend_45 hl 1 rfl rfl ?_
        refine k_call Ext.tr C I (k_S (As := [.int l1]) (rest := [.int r5]) (y := yX11_bits) C q1702 q1703 q113 (Or.inl rfl) q1704 (by decide) rfl pd_X11_bits rfl dX11_mend_46) (ct_X11_bits h) hl.1 dX11_mend_46 [.inl r5] rfl (Nat.le_of_ble_eq_true rfl) (Or.inl rfl) q1704 q113 ⟨Nat.le_of_ble_eq_true rfl, Nat.le_of_ble_eq_true rfl⟩ (fun v x1 H locs cells slots ex hq I => ?_) (fun a x1 H locs cells slots ex hq I => hq.elim)
        obtain ⟨M6, rfl, r7, rfl, h⟩ := hq
        refine lv_icmp_lt (tgt := 55) C.1 C.2.1 dX11_mend_49 (by decide) (fun c8 => ?_) (fun c8 => ?_)
        · have h := h.1 c8
          exact b_X11_mend_55 C hk26 l1 l2 M6 _ _ _ _ _ h I (hl.sub [0, 1, 2] rfl)
        · have h := h.2 c8
          refine lv_goto (tgt := 138) C.1 C.2.1 dX11_mend_52 (by decide) ?_
          exact b_X11_mend_138 C hk26 l1 l2 M6 _ _ _ _ _ h I (hl.sub [0, 1, 2] rfl)
def w_X11_mend (Q : Int32 → MS → Prop) (M : MS) : Prop := ∀ M1 : MS, M1 = sF M 0 ((0 : Int32)) → ((mF M1 50 ≤ (12 : Int32)) → (w_X11_asks (fun M2 => ∃ n, w_X11_mend_26 Q n ((-1 : Int32)) ((0 : Int32)) M2) ((-1 : Int32)) ((0 : Int32)) M1)) ∧ ((¬ mF M1 50 ≤ (12 : Int32)) → (Q ((-1 : Int32)) M1))
theorem pd_X11_mend : (parseMethodDescriptor yX11_mend.desc).map (fun d => d.parameters.length) = some 0 := by decide +kernel
set_option maxHeartbeats 4000000 in
theorem ct_X11_mend {l : Launch} {D : va_G} {T : Nat → ClassId} {Z : Heap} {b0 z0 : Nat} {M0 : MS} {Q : Int32 → MS → Prop} (hw : w_X11_mend Q M0) : CT (twd D T Z) (Evd D T Z) l yX11_mend (Cond.code yX11_mend cX11_mend 5 (some .int)) 6 151 [va_rf (some b0)] (mG b0 z0 M0) (mq b0 z0 (qI Q)) (fun _ _ => False) := by
  refine CT.ofW (cc := cX11_mend) (nL := 5) (ret := (some .int)) Ext.rf (by decide) (Or.inl rfl) ?_
  intro p e s m below meth c hx hb hml hown hr hlk hnm hcb hm hc hn hE I
  have C : Cx p s m meth c D T Z "EndingTownModel" cX11_mend 5 (some .int) := ⟨hx, hb, hml, hown, hE, hr, hlk⟩
  refine w_entry [.inr (.inl (some b0))] (Nat.le_of_ble_eq_true rfl) (fun ls hl => ?_)
  have hl : LH ls 5 [(0, .inr (.inl (some b0)))] := hl
  have h := hw
  refine l_ald_n (x := some b0) C dX11_mend_0 hl 0 rfl rfl ?_
  refine lv_iconst (v := 0) C.1 C.2.1 dX11_mend_1 (by decide) ?_
  refine f_PI C I (fp_X11_122) (by decide) dX11_mend_2 (fit_i _) (fun H locs M1 eM1 I => ?_)
  have h := h M1 eM1
  refine l_ald_n (x := some b0) C dX11_mend_5 hl 0 rfl rfl ?_
  refine f_I C I (fl_X11_279) (by decide) dX11_mend_6 ?_
  refine lv_bipush (v := 12) C.1 C.2.1 dX11_mend_9 (by decide) ?_
  refine lv_icmp_le (tgt := 16) C.1 C.2.1 dX11_mend_11 (by decide) (fun c4 => ?_) (fun c4 => ?_)
  · have h := h.1 c4
    refine l_ald_n (x := some b0) C dX11_mend_16 hl 0 rfl rfl ?_
    refine lv_iconst (v := (-1)) C.1 C.2.1 dX11_mend_17 (by decide) ?_
    refine lv_iconst (v := 0) C.1 C.2.1 dX11_mend_18 (by decide) ?_
    refine k_call Ext.tr C I (k_V (r := some b0) (As := [.int ((-1 : Int32)), .int ((0 : Int32))]) (rest := []) (y := yX11_asks) C (f_recv C I) q1793 q1795 qs79 (Or.inl rfl) q1796 (by decide) rfl pd_X11_asks rfl dX11_mend_19) (ct_X11_asks h) hl.1 dX11_mend_19 [] rfl (Nat.le_of_ble_eq_true rfl) (Or.inl rfl) q1796 q113 ⟨Nat.le_of_ble_eq_true rfl, Nat.le_of_ble_eq_true rfl⟩ (fun v x1 H locs cells slots ex hq I => ?_) (fun a x1 H locs cells slots ex hq I => hq.elim)
    obtain ⟨M2, rfl, rfl, h⟩ := hq
    refine lv_iconst (v := (-1)) C.1 C.2.1 dX11_mend_22 (by decide) ?_
    refine l_ist_n C dX11_mend_23 rfl hl (by decide) rfl (fun ls hl => ?_)
    have hl : LH ls 5 [(1, .inl ((-1 : Int32))), (0, .inr (.inl (some b0)))] := hl
    refine lv_iconst (v := 0) C.1 C.2.1 dX11_mend_24 (by decide) ?_
    refine l_ist_n C dX11_mend_25 rfl hl (by decide) rfl (fun ls hl => ?_)
    have hl : LH ls 5 [(2, .inl ((0 : Int32))), (1, .inl ((-1 : Int32))), (0, .inr (.inl (some b0)))] := hl
    obtain ⟨n, h⟩ := h
    exact b_X11_mend_26 C n ((-1 : Int32)) ((0 : Int32)) M2 _ _ _ _ _ h I (hl.sub [2, 1, 0] rfl)
  · have h := h.2 c4
    refine lv_iconst (v := (-1)) C.1 C.2.1 dX11_mend_14 (by decide) ?_
    exact r_int C.1 C.2.1 C.2.2.2.2.2.1 rfl C.2.2.2.2.2.2 ⟨rfl, rfl⟩ I dX11_mend_15 ⟨_, rfl, _, rfl, h⟩
def w_X11_mended_40 (Q : Int32 → MS → Prop) (t0 : Int32) (M : MS) : Prop := Q t0 M
set_option maxHeartbeats 4000000 in
theorem b_X11_mended_40 {b0 z0 : Nat} {M0 : MS} {Q : Int32 → MS → Prop} (C : Cx p s m meth c D T Z "EndingTownModel" cX11_mended 2 (some .int)) : ∀ (t0 : Int32) (M : MS) (H : Heap) (locs : List Loc) (cells slots : Nat) (ls : Array Slot), w_X11_mended_40 Q t0 M → HI (twd D T Z) (mG b0 z0 M0) s (rmX (twd D T Z) 1 22 (mG b0 z0 M0)) H locs cells slots (mG b0 z0 M) → LH ls 2 [] → W p l e (rmX (twd D T Z) 1 22 (mG b0 z0 M0)) s m args below meth c H locs cells slots (MQX (twd D T Z) (mG b0 z0 M0) (mq b0 z0 (qI Q)) (fun _ _ => False) below s) (F0 m 40 ls [.int t0]) := by
  intro t0 M H locs cells slots ls h I hl
  exact r_int C.1 C.2.1 C.2.2.2.2.2.1 rfl C.2.2.2.2.2.2 ⟨rfl, rfl⟩ I dX11_mended_40 ⟨_, rfl, _, rfl, h⟩
def w_X11_mended_23 (Q : Int32 → MS → Prop) (l1 : Int32) (t0 : Int32) (M : MS) : Prop := w_X11_right (fun r2 M1 => ((r2 = 0) → (w_X11_mended_40 Q ((0 : Int32)) M1)) ∧ ((¬ r2 = 0) → (vp_in l1 (mlen 66) ∧ w_X11_mended_40 Q (mA M1 66 l1.toNatClampNeg) M1))) t0 ((1 : Int32)) M
set_option maxHeartbeats 4000000 in
theorem b_X11_mended_23 {b0 z0 : Nat} {M0 : MS} {Q : Int32 → MS → Prop} (C : Cx p s m meth c D T Z "EndingTownModel" cX11_mended 2 (some .int)) : ∀ (l1 : Int32) (t0 : Int32) (M : MS) (H : Heap) (locs : List Loc) (cells slots : Nat) (ls : Array Slot), w_X11_mended_23 Q l1 t0 M → HI (twd D T Z) (mG b0 z0 M0) s (rmX (twd D T Z) 1 22 (mG b0 z0 M0)) H locs cells slots (mG b0 z0 M) → LH ls 2 [(0, .inr (.inl (some b0))), (1, .inl l1)] → W p l e (rmX (twd D T Z) 1 22 (mG b0 z0 M0)) s m args below meth c H locs cells slots (MQX (twd D T Z) (mG b0 z0 M0) (mq b0 z0 (qI Q)) (fun _ _ => False) below s) (F0 m 23 ls [.int t0, va_rf (some b0)]) := by
  intro l1 t0 M H locs cells slots ls h I hl
  refine lv_iconst (v := 1) C.1 C.2.1 dX11_mended_23 (by decide) ?_
  refine k_call Ext.tr C I (k_V (r := some b0) (As := [.int t0, .int ((1 : Int32))]) (rest := []) (y := yX11_right) C (f_recv C I) q1603 q1605 qs47 (Or.inl rfl) q1606 (by decide) rfl pd_X11_right rfl dX11_mended_24) (ct_X11_right h) hl.1 dX11_mended_24 [] rfl (Nat.le_of_ble_eq_true rfl) (Or.inl rfl) q1606 q113 ⟨Nat.le_of_ble_eq_true rfl, Nat.le_of_ble_eq_true rfl⟩ (fun v x1 H locs cells slots ex hq I => ?_) (fun a x1 H locs cells slots ex hq I => hq.elim)
  obtain ⟨M1, rfl, r2, rfl, h⟩ := hq
  refine lv_if_eq (tgt := 39) C.1 C.2.1 dX11_mended_27 (by decide) (fun c3 => ?_) (fun c3 => ?_)
  · have h := h.1 c3
    refine lv_iconst (v := 0) C.1 C.2.1 dX11_mended_39 (by decide) ?_
    exact b_X11_mended_40 C ((0 : Int32)) M1 _ _ _ _ _ h I (hl.sub [] rfl)
  · have h := h.2 c3
    refine l_ald_n (x := some b0) C dX11_mended_30 hl 0 rfl rfl ?_
    refine f_A C I (fl_X11_116) (by decide) (by decide) dX11_mended_31 ?_
    refine l_ild_n C dX11_mended_34 hl 1 rfl rfl ?_
    obtain ⟨hi, h⟩ := h
    refine f_ld (k := 66) C I (by decide) hi dX11_mended_35 ?_
    refine lv_goto (tgt := 40) C.1 C.2.1 dX11_mended_36 (by decide) ?_
    exact b_X11_mended_40 C (mA M1 66 l1.toNatClampNeg) M1 _ _ _ _ _ h I (hl.sub [] rfl)
def w_X11_mended_22 (Q : Int32 → MS → Prop) (l1 : Int32) (M : MS) : Prop := w_X11_mended_23 Q l1 ((0 : Int32)) M
set_option maxHeartbeats 4000000 in
theorem b_X11_mended_22 {b0 z0 : Nat} {M0 : MS} {Q : Int32 → MS → Prop} (C : Cx p s m meth c D T Z "EndingTownModel" cX11_mended 2 (some .int)) : ∀ (l1 : Int32) (M : MS) (H : Heap) (locs : List Loc) (cells slots : Nat) (ls : Array Slot), w_X11_mended_22 Q l1 M → HI (twd D T Z) (mG b0 z0 M0) s (rmX (twd D T Z) 1 22 (mG b0 z0 M0)) H locs cells slots (mG b0 z0 M) → LH ls 2 [(0, .inr (.inl (some b0))), (1, .inl l1)] → W p l e (rmX (twd D T Z) 1 22 (mG b0 z0 M0)) s m args below meth c H locs cells slots (MQX (twd D T Z) (mG b0 z0 M0) (mq b0 z0 (qI Q)) (fun _ _ => False) below s) (F0 m 22 ls [va_rf (some b0)]) := by
  intro l1 M H locs cells slots ls h I hl
  refine lv_iconst (v := 0) C.1 C.2.1 dX11_mended_22 (by decide) ?_
  exact b_X11_mended_23 C l1 ((0 : Int32)) M _ _ _ _ _ h I (hl.sub [0, 1] rfl)
def w_X11_mended (Q : Int32 → MS → Prop) (p0 : Int32) (M : MS) : Prop := ∀ M1 : MS, M1 = sF M 0 ((0 : Int32)) → ((p0 < 0) → (w_X11_mended_22 Q p0 M1)) ∧ ((¬ p0 < 0) → (((mF M1 65 ≤ p0) → (w_X11_mended_22 Q p0 M1)) ∧ ((¬ mF M1 65 ≤ p0) → (w_X11_mended_23 Q p0 ((1 : Int32)) M1))))
theorem pd_X11_mended : (parseMethodDescriptor yX11_mended.desc).map (fun d => d.parameters.length) = some 1 := by decide +kernel
set_option maxHeartbeats 4000000 in
theorem ct_X11_mended {l : Launch} {D : va_G} {T : Nat → ClassId} {Z : Heap} {b0 z0 : Nat} {M0 : MS} {Q : Int32 → MS → Prop} {p0 : Int32} (hw : w_X11_mended Q p0 M0) : CT (twd D T Z) (Evd D T Z) l yX11_mended (Cond.code yX11_mended cX11_mended 2 (some .int)) 1 22 [va_rf (some b0), .int p0] (mG b0 z0 M0) (mq b0 z0 (qI Q)) (fun _ _ => False) := by
  refine CT.ofW (cc := cX11_mended) (nL := 2) (ret := (some .int)) Ext.rf (by decide) (Or.inl rfl) ?_
  intro p e s m below meth c hx hb hml hown hr hlk hnm hcb hm hc hn hE I
  have C : Cx p s m meth c D T Z "EndingTownModel" cX11_mended 2 (some .int) := ⟨hx, hb, hml, hown, hE, hr, hlk⟩
  refine w_entry [.inr (.inl (some b0)), .inl p0] (Nat.le_of_ble_eq_true rfl) (fun ls hl => ?_)
  have hl : LH ls 2 [(0, .inr (.inl (some b0))), (1, .inl p0)] := hl
  have h := hw
  refine l_ald_n (x := some b0) C dX11_mended_0 hl 0 rfl rfl ?_
  refine lv_iconst (v := 0) C.1 C.2.1 dX11_mended_1 (by decide) ?_
  refine f_PI C I (fp_X11_122) (by decide) dX11_mended_2 (fit_i _) (fun H locs M1 eM1 I => ?_)
  have h := h M1 eM1
  refine l_ald_n (x := some b0) C dX11_mended_5 hl 0 rfl rfl ?_
  refine l_ild_n C dX11_mended_6 hl 1 rfl rfl ?_
  refine lv_if_lt (tgt := 22) C.1 C.2.1 dX11_mended_7 (by decide) (fun c3 => ?_) (fun c3 => ?_)
  · have h := h.1 c3
    exact b_X11_mended_22 C p0 M1 _ _ _ _ _ h I (hl.sub [0, 1] rfl)
  · have h := h.2 c3
    refine l_ild_n C dX11_mended_10 hl 1 rfl rfl ?_
    refine l_ald_n (x := some b0) C dX11_mended_11 hl 0 rfl rfl ?_
    refine f_I C I (fl_X11_113) (by decide) dX11_mended_12 ?_
    refine lv_icmp_ge (tgt := 22) C.1 C.2.1 dX11_mended_15 (by decide) (fun c2 => ?_) (fun c2 => ?_)
    · have h := h.1 c2
      exact b_X11_mended_22 C p0 M1 _ _ _ _ _ h I (hl.sub [0, 1] rfl)
    · have h := h.2 c2
      refine lv_iconst (v := 1) C.1 C.2.1 dX11_mended_18 (by decide) ?_
      refine lv_goto (tgt := 23) C.1 C.2.1 dX11_mended_19 (by decide) ?_
      exact b_X11_mended_23 C p0 ((1 : Int32)) M1 _ _ _ _ _ h I (hl.sub [0, 1] rfl)
def w_X11_silence_22 (Q : Int32 → MS → Prop) (M : MS) : Prop := Q ((0 : Int32)) M
set_option maxHeartbeats 4000000 in
theorem b_X11_silence_22 {b0 z0 : Nat} {M0 : MS} {Q : Int32 → MS → Prop} (C : Cx p s m meth c D T Z "EndingTownModel" cX11_silence 7 (some .int)) : ∀ (M : MS) (H : Heap) (locs : List Loc) (cells slots : Nat) (ls : Array Slot), w_X11_silence_22 Q M → HI (twd D T Z) (mG b0 z0 M0) s (rmX (twd D T Z) 6 151 (mG b0 z0 M0)) H locs cells slots (mG b0 z0 M) → LH ls 7 [] → W p l e (rmX (twd D T Z) 6 151 (mG b0 z0 M0)) s m args below meth c H locs cells slots (MQX (twd D T Z) (mG b0 z0 M0) (mq b0 z0 (qI Q)) (fun _ _ => False) below s) (F0 m 22 ls []) := by
  intro M H locs cells slots ls h I hl
  refine lv_iconst (v := 0) C.1 C.2.1 dX11_silence_22 (by decide) ?_
  exact r_int C.1 C.2.1 C.2.2.2.2.2.1 rfl C.2.2.2.2.2.2 ⟨rfl, rfl⟩ I dX11_silence_23 ⟨_, rfl, _, rfl, h⟩
def w_X11_silence_117 (Q : Int32 → MS → Prop) (k36 : Int32 → Int32 → Int32 → Int32 → MS → Prop) (k83 : Int32 → Int32 → Int32 → Int32 → Int32 → Int32 → MS → Prop) (l1 : Int32) (l2 : Int32) (l3 : Int32) (l4 : Int32) (l6 : Int32) (t0 : Int32) (t1 : Int32) (M : MS) : Prop := k83 l1 l2 l3 l4 ((t1 ||| t0)) ((l6 + 1)) M
set_option maxHeartbeats 4000000 in
theorem b_X11_silence_117 {b0 z0 : Nat} {M0 : MS} {Q : Int32 → MS → Prop} {k36 : Int32 → Int32 → Int32 → Int32 → MS → Prop} {k83 : Int32 → Int32 → Int32 → Int32 → Int32 → Int32 → MS → Prop} (C : Cx p s m meth c D T Z "EndingTownModel" cX11_silence 7 (some .int)) (hk36 : ∀ (l1 : Int32) (l2 : Int32) (l3 : Int32) (l4 : Int32) (M : MS) (H : Heap) (locs : List Loc) (cells slots : Nat) (ls : Array Slot), k36 l1 l2 l3 l4 M → HI (twd D T Z) (mG b0 z0 M0) s (rmX (twd D T Z) 6 151 (mG b0 z0 M0)) H locs cells slots (mG b0 z0 M) → LH ls 7 [(0, .inr (.inl (some b0))), (1, .inl l1), (2, .inl l2), (3, .inl l3), (4, .inl l4)] → W p l e (rmX (twd D T Z) 6 151 (mG b0 z0 M0)) s m args below meth c H locs cells slots (MQX (twd D T Z) (mG b0 z0 M0) (mq b0 z0 (qI Q)) (fun _ _ => False) below s) (F0 m 36 ls [])) (hk83 : ∀ (l1 : Int32) (l2 : Int32) (l3 : Int32) (l4 : Int32) (l5 : Int32) (l6 : Int32) (M : MS) (H : Heap) (locs : List Loc) (cells slots : Nat) (ls : Array Slot), k83 l1 l2 l3 l4 l5 l6 M → HI (twd D T Z) (mG b0 z0 M0) s (rmX (twd D T Z) 6 151 (mG b0 z0 M0)) H locs cells slots (mG b0 z0 M) → LH ls 7 [(0, .inr (.inl (some b0))), (1, .inl l1), (2, .inl l2), (3, .inl l3), (4, .inl l4), (5, .inl l5), (6, .inl l6)] → W p l e (rmX (twd D T Z) 6 151 (mG b0 z0 M0)) s m args below meth c H locs cells slots (MQX (twd D T Z) (mG b0 z0 M0) (mq b0 z0 (qI Q)) (fun _ _ => False) below s) (F0 m 83 ls [])) : ∀ (l1 : Int32) (l2 : Int32) (l3 : Int32) (l4 : Int32) (l6 : Int32) (t0 : Int32) (t1 : Int32) (M : MS) (H : Heap) (locs : List Loc) (cells slots : Nat) (ls : Array Slot), w_X11_silence_117 Q k36 k83 l1 l2 l3 l4 l6 t0 t1 M → HI (twd D T Z) (mG b0 z0 M0) s (rmX (twd D T Z) 6 151 (mG b0 z0 M0)) H locs cells slots (mG b0 z0 M) → LH ls 7 [(0, .inr (.inl (some b0))), (1, .inl l1), (2, .inl l2), (3, .inl l3), (4, .inl l4), (6, .inl l6)] → W p l e (rmX (twd D T Z) 6 151 (mG b0 z0 M0)) s m args below meth c H locs cells slots (MQX (twd D T Z) (mG b0 z0 M0) (mq b0 z0 (qI Q)) (fun _ _ => False) below s) (F0 m 117 ls [.int t0, .int t1]) := by
  intro l1 l2 l3 l4 l6 t0 t1 M H locs cells slots ls h I hl
  refine lv_ior C.1 C.2.1 dX11_silence_117 ?_
  refine l_ist C dX11_silence_118 hl (by decide) rfl (fun ls hl => ?_)
  have hl : LH ls 7 [(5, .inl ((t1 ||| t0))), (0, .inr (.inl (some b0))), (1, .inl l1), (2, .inl l2), (3, .inl l3), (4, .inl l4), (6, .inl l6)] := hl
  refine l_inc (q := 6) (v := 1) C dX11_silence_120 hl rfl (by decide) (by decide) rfl (fun ls hl => ?_)
  have hl : LH ls 7 [(6, .inl ((l6 + 1))), (5, .inl ((t1 ||| t0))), (0, .inr (.inl (some b0))), (1, .inl l1), (2, .inl l2), (3, .inl l3), (4, .inl l4)] := hl
  refine lv_goto (tgt := 83) C.1 C.2.1 dX11_silence_123 (by decide) ?_
  exact hk83 l1 l2 l3 l4 ((t1 ||| t0)) ((l6 + 1)) M _ _ _ _ _ h I (hl.sub [2, 3, 4, 5, 6, 1, 0] rfl)
def w_X11_silence_151 (Q : Int32 → MS → Prop) (k36 : Int32 → Int32 → Int32 → Int32 → MS → Prop) (l1 : Int32) (l2 : Int32) (l3 : Int32) (l4 : Int32) (M : MS) : Prop := k36 l1 l2 l3 ((l4 + 1)) M
set_option maxHeartbeats 4000000 in
theorem b_X11_silence_151 {b0 z0 : Nat} {M0 : MS} {Q : Int32 → MS → Prop} {k36 : Int32 → Int32 → Int32 → Int32 → MS → Prop} (C : Cx p s m meth c D T Z "EndingTownModel" cX11_silence 7 (some .int)) (hk36 : ∀ (l1 : Int32) (l2 : Int32) (l3 : Int32) (l4 : Int32) (M : MS) (H : Heap) (locs : List Loc) (cells slots : Nat) (ls : Array Slot), k36 l1 l2 l3 l4 M → HI (twd D T Z) (mG b0 z0 M0) s (rmX (twd D T Z) 6 151 (mG b0 z0 M0)) H locs cells slots (mG b0 z0 M) → LH ls 7 [(0, .inr (.inl (some b0))), (1, .inl l1), (2, .inl l2), (3, .inl l3), (4, .inl l4)] → W p l e (rmX (twd D T Z) 6 151 (mG b0 z0 M0)) s m args below meth c H locs cells slots (MQX (twd D T Z) (mG b0 z0 M0) (mq b0 z0 (qI Q)) (fun _ _ => False) below s) (F0 m 36 ls [])) : ∀ (l1 : Int32) (l2 : Int32) (l3 : Int32) (l4 : Int32) (M : MS) (H : Heap) (locs : List Loc) (cells slots : Nat) (ls : Array Slot), w_X11_silence_151 Q k36 l1 l2 l3 l4 M → HI (twd D T Z) (mG b0 z0 M0) s (rmX (twd D T Z) 6 151 (mG b0 z0 M0)) H locs cells slots (mG b0 z0 M) → LH ls 7 [(0, .inr (.inl (some b0))), (1, .inl l1), (2, .inl l2), (3, .inl l3), (4, .inl l4)] → W p l e (rmX (twd D T Z) 6 151 (mG b0 z0 M0)) s m args below meth c H locs cells slots (MQX (twd D T Z) (mG b0 z0 M0) (mq b0 z0 (qI Q)) (fun _ _ => False) below s) (F0 m 151 ls []) := by
  intro l1 l2 l3 l4 M H locs cells slots ls h I hl
  refine l_inc (q := 4) (v := 1) C dX11_silence_151 hl rfl (by decide) (by decide) rfl (fun ls hl => ?_)
  have hl : LH ls 7 [(4, .inl ((l4 + 1))), (0, .inr (.inl (some b0))), (1, .inl l1), (2, .inl l2), (3, .inl l3)] := hl
  refine lv_goto (tgt := 36) C.1 C.2.1 dX11_silence_154 (by decide) ?_
  exact hk36 l1 l2 l3 ((l4 + 1)) M _ _ _ _ _ h I (hl.sub [1, 2, 3, 4, 0] rfl)
def w_X11_silence_83 (Q : Int32 → MS → Prop) (k36 : Int32 → Int32 → Int32 → Int32 → MS → Prop) : Nat → Int32 → Int32 → Int32 → Int32 → Int32 → Int32 → MS → Prop
  | 0 => fun _ _ _ _ _ _ _ => False
  | f83 + 1 => fun l1 l2 l3 l4 l5 l6 M => ((mF M 50 ≤ l6) → (w_X11_reckons (fun M1 => w_X11_byTold (fun r4 M3 => ((r4 < (1000 : Int32)) → (w_X11_silence_151 Q k36 l1 l2 l3 l4 M3)) ∧ ((¬ r4 < (1000 : Int32)) → (w_X11_silence_151 Q k36 l1 l2 l4 l4 M3))) l1 ((23 : Int32)) l2 ((0 : Int32)) M1) l5 ((0 : Int32)) M)) ∧ ((¬ mF M 50 ≤ l6) → (w_X11_of (fun r7 M6 => ((¬ ((l4 >>> (r7 &&& 31)) &&& (1 : Int32)) = 0) → (w_X11_silence_117 Q k36 (w_X11_silence_83 Q k36 f83) l1 l2 l3 l4 l6 ((0 : Int32)) l5 M6)) ∧ ((((l4 >>> (r7 &&& 31)) &&& (1 : Int32)) = 0) → (w_X11_silence_117 Q k36 (w_X11_silence_83 Q k36 f83) l1 l2 l3 l4 l6 (((1 : Int32) <<< (l6 &&& 31))) l5 M6))) l6 ((0 : Int32)) M))
set_option maxHeartbeats 4000000 in
theorem b_X11_silence_83 {b0 z0 : Nat} {M0 : MS} {Q : Int32 → MS → Prop} {k36 : Int32 → Int32 → Int32 → Int32 → MS → Prop} (C : Cx p s m meth c D T Z "EndingTownModel" cX11_silence 7 (some .int)) (hk36 : ∀ (l1 : Int32) (l2 : Int32) (l3 : Int32) (l4 : Int32) (M : MS) (H : Heap) (locs : List Loc) (cells slots : Nat) (ls : Array Slot), k36 l1 l2 l3 l4 M → HI (twd D T Z) (mG b0 z0 M0) s (rmX (twd D T Z) 6 151 (mG b0 z0 M0)) H locs cells slots (mG b0 z0 M) → LH ls 7 [(0, .inr (.inl (some b0))), (1, .inl l1), (2, .inl l2), (3, .inl l3), (4, .inl l4)] → W p l e (rmX (twd D T Z) 6 151 (mG b0 z0 M0)) s m args below meth c H locs cells slots (MQX (twd D T Z) (mG b0 z0 M0) (mq b0 z0 (qI Q)) (fun _ _ => False) below s) (F0 m 36 ls [])) : ∀ (n : Nat) (l1 : Int32) (l2 : Int32) (l3 : Int32) (l4 : Int32) (l5 : Int32) (l6 : Int32) (M : MS) (H : Heap) (locs : List Loc) (cells slots : Nat) (ls : Array Slot), w_X11_silence_83 Q k36 n l1 l2 l3 l4 l5 l6 M → HI (twd D T Z) (mG b0 z0 M0) s (rmX (twd D T Z) 6 151 (mG b0 z0 M0)) H locs cells slots (mG b0 z0 M) → LH ls 7 [(0, .inr (.inl (some b0))), (1, .inl l1), (2, .inl l2), (3, .inl l3), (4, .inl l4), (5, .inl l5), (6, .inl l6)] → W p l e (rmX (twd D T Z) 6 151 (mG b0 z0 M0)) s m args below meth c H locs cells slots (MQX (twd D T Z) (mG b0 z0 M0) (mq b0 z0 (qI Q)) (fun _ _ => False) below s) (F0 m 83 ls []) := by
  intro n
  induction n with
  | zero => intro l1 l2 l3 l4 l5 l6 M H locs cells slots ls h; exact (show False from h).elim
  | succ n ih =>
    intro l1 l2 l3 l4 l5 l6 M H locs cells slots ls h I hl
    have hk83 := ih
    refine l_ild C dX11_silence_83 hl 6 rfl ?_
    refine l_ald_n (x := some b0) C dX11_silence_85 hl 0 rfl rfl ?_
    refine f_I C I (fl_X11_279) (by decide) dX11_silence_86 ?_
    refine lv_icmp_ge (tgt := 126) C.1 C.2.1 dX11_silence_89 (by decide) (fun c9 => ?_) (fun c9 => ?_)
    · have h := h.1 c9
      refine l_ald_n (x := some b0) C dX11_silence_126 hl 0 rfl rfl ?_
      refine l_ild C dX11_silence_127 hl 5 rfl ?_
      refine lv_iconst (v := 0) C.1 C.2.1 dX11_silence_129 (by decide) ?_
      refine k_call Ext.tr C I (k_V (r := some b0) (As := [.int l5, .int ((0 : Int32))]) (rest := []) (y := yX11_reckons) C (f_recv C I) q1805 q1807 qs82 (Or.inl rfl) q1808 (by decide) rfl pd_X11_reckons rfl dX11_silence_130) (ct_X11_reckons h) hl.1 dX11_silence_130 [] rfl (Nat.le_of_ble_eq_true rfl) (Or.inl rfl) q1808 q113 ⟨Nat.le_of_ble_eq_true rfl, Nat.le_of_ble_eq_true rfl⟩ (fun v x1 H locs cells slots ex hq I => ?_) (fun a x1 H locs cells slots ex hq I => hq.elim)
      obtain ⟨M1, rfl, rfl, h⟩ := hq
      refine l_ald_n (x := some b0) C dX11_silence_133 hl 0 rfl rfl ?_
      refine l_ild_n C dX11_silence_134 hl 1 rfl rfl ?_
      refine lv_bipush (v := 23) C.1 C.2.1 dX11_silence_135 (by decide) ?_
      refine l_ild_n C dX11_silence_137 hl 2 rfl rfl ?_
      refine lv_iconst (v := 0) C.1 C.2.1 dX11_silence_138 (by decide) ?_
      refine k_call Ext.tr C I (k_V (r := some b0) (As := [.int l1, .int ((23 : Int32)), .int l2, .int ((0 : Int32))]) (rest := []) (y := yX11_byTold) C (f_recv C I) q1817 q1819 qs85 (Or.inl rfl) q1820 (by decide) rfl pd_X11_byTold rfl dX11_silence_139) (ct_X11_byTold h) hl.1 dX11_silence_139 [] rfl (Nat.le_of_ble_eq_true rfl) (Or.inl rfl) q1820 q113 ⟨Nat.le_of_ble_eq_true rfl, Nat.le_of_ble_eq_true rfl⟩ (fun v x1 H locs cells slots ex hq I => ?_) (fun a x1 H locs cells slots ex hq I => hq.elim)
      obtain ⟨M3, rfl, r4, rfl, h⟩ := hq
      refine lv_sipush (v := 1000) C.1 C.2.1 dX11_silence_142 (by decide) ?_
      refine lv_icmp_lt (tgt := 151) C.1 C.2.1 dX11_silence_145 (by decide) (fun c5 => ?_) (fun c5 => ?_)
      · have h := h.1 c5
        exact b_X11_silence_151 C hk36 l1 l2 l3 l4 M3 _ _ _ _ _ h I (hl.sub [0, 1, 2, 3, 4] rfl)
      · have h := h.2 c5
        refine l_ild C dX11_silence_148 hl 4 rfl ?_
        refine l_ist_n C dX11_silence_150 rfl hl (by decide) rfl (fun ls hl => ?_)
        have hl : LH ls 7 [(3, .inl l4), (0, .inr (.inl (some b0))), (1, .inl l1), (2, .inl l2), (4, .inl l4), (5, .inl l5), (6, .inl l6)] := hl
        exact b_X11_silence_151 C hk36 l1 l2 l4 l4 M3 _ _ _ _ _ h I (hl.sub [1, 2, 3, 0, 4] rfl)
    · have h := h.2 c9
      refine l_ild C dX11_silence_92 hl 5 rfl ?_
      refine l_ild C dX11_silence_94 hl 4 rfl ?_
      refine l_ald_n (x := some b0) C dX11_silence_96 hl 0 rfl rfl ?_
      refine l_ild C dX11_silence_97 hl 6 rfl ?_
      refine lv_iconst (v := 0) C.1 C.2.1 dX11_silence_99 (by decide) ?_
      refine k_call Ext.tr C I (k_V (r := some b0) (As := [.int l6, .int ((0 : Int32))]) (rest := [.int l4, .int l5]) (y := yX11_of) C (f_recv C I) q1789 q1791 qs78 (Or.inl rfl) q1792 (by decide) rfl pd_X11_of rfl dX11_silence_100) (ct_X11_of h) hl.1 dX11_silence_100 [.inl l4, .inl l5] rfl (Nat.le_of_ble_eq_true rfl) (Or.inl rfl) q1792 q113 ⟨Nat.le_of_ble_eq_true rfl, Nat.le_of_ble_eq_true rfl⟩ (fun v x1 H locs cells slots ex hq I => ?_) (fun a x1 H locs cells slots ex hq I => hq.elim)
      obtain ⟨M6, rfl, r7, rfl, h⟩ := hq
      refine lv_ishr C.1 C.2.1 dX11_silence_103 ?_
      refine lv_iconst (v := 1) C.1 C.2.1 dX11_silence_104 (by decide) ?_
      refine lv_iand C.1 C.2.1 dX11_silence_105 ?_
      refine lv_if_ne (tgt := 116) C.1 C.2.1 dX11_silence_106 (by decide) (fun c8 => ?_) (fun c8 => ?_)
      · have h := h.1 c8
        refine lv_iconst (v := 0) C.1 C.2.1 dX11_silence_116 (by decide) ?_
        exact b_X11_silence_117 C hk36 hk83 l1 l2 l3 l4 l6 ((0 : Int32)) l5 M6 _ _ _ _ _ h I (hl.sub [0, 1, 2, 3, 4, 6] rfl)
      · have h := h.2 c8
        refine lv_iconst (v := 1) C.1 C.2.1 dX11_silence_109 (by decide) ?_
        refine l_ild C dX11_silence_110 hl 6 rfl ?_
        refine lv_ishl C.1 C.2.1 dX11_silence_112 ?_
        refine lv_goto (tgt := 117) C.1 C.2.1 dX11_silence_113 (by decide) ?_
        exact b_X11_silence_117 C hk36 hk83 l1 l2 l3 l4 l6 (((1 : Int32) <<< (l6 &&& 31))) l5 M6 _ _ _ _ _ h I (hl.sub [0, 1, 2, 3, 4, 6] rfl)
def w_X11_silence_77 (Q : Int32 → MS → Prop) (k36 : Int32 → Int32 → Int32 → Int32 → MS → Prop) (l1 : Int32) (l2 : Int32) (l3 : Int32) (l4 : Int32) (M : MS) : Prop := ∃ n, w_X11_silence_83 Q k36 n l1 l2 l3 l4 ((0 : Int32)) ((0 : Int32)) M
set_option maxHeartbeats 4000000 in
theorem b_X11_silence_77 {b0 z0 : Nat} {M0 : MS} {Q : Int32 → MS → Prop} {k36 : Int32 → Int32 → Int32 → Int32 → MS → Prop} (C : Cx p s m meth c D T Z "EndingTownModel" cX11_silence 7 (some .int)) (hk36 : ∀ (l1 : Int32) (l2 : Int32) (l3 : Int32) (l4 : Int32) (M : MS) (H : Heap) (locs : List Loc) (cells slots : Nat) (ls : Array Slot), k36 l1 l2 l3 l4 M → HI (twd D T Z) (mG b0 z0 M0) s (rmX (twd D T Z) 6 151 (mG b0 z0 M0)) H locs cells slots (mG b0 z0 M) → LH ls 7 [(0, .inr (.inl (some b0))), (1, .inl l1), (2, .inl l2), (3, .inl l3), (4, .inl l4)] → W p l e (rmX (twd D T Z) 6 151 (mG b0 z0 M0)) s m args below meth c H locs cells slots (MQX (twd D T Z) (mG b0 z0 M0) (mq b0 z0 (qI Q)) (fun _ _ => False) below s) (F0 m 36 ls [])) : ∀ (l1 : Int32) (l2 : Int32) (l3 : Int32) (l4 : Int32) (M : MS) (H : Heap) (locs : List Loc) (cells slots : Nat) (ls : Array Slot), w_X11_silence_77 Q k36 l1 l2 l3 l4 M → HI (twd D T Z) (mG b0 z0 M0) s (rmX (twd D T Z) 6 151 (mG b0 z0 M0)) H locs cells slots (mG b0 z0 M) → LH ls 7 [(0, .inr (.inl (some b0))), (1, .inl l1), (2, .inl l2), (3, .inl l3), (4, .inl l4)] → W p l e (rmX (twd D T Z) 6 151 (mG b0 z0 M0)) s m args below meth c H locs cells slots (MQX (twd D T Z) (mG b0 z0 M0) (mq b0 z0 (qI Q)) (fun _ _ => False) below s) (F0 m 77 ls []) := by
  intro l1 l2 l3 l4 M H locs cells slots ls h I hl
  refine lv_iconst (v := 0) C.1 C.2.1 dX11_silence_77 (by decide) ?_
  refine l_ist C dX11_silence_78 hl (by decide) rfl (fun ls hl => ?_)
  have hl : LH ls 7 [(5, .inl ((0 : Int32))), (0, .inr (.inl (some b0))), (1, .inl l1), (2, .inl l2), (3, .inl l3), (4, .inl l4)] := hl
  refine lv_iconst (v := 0) C.1 C.2.1 dX11_silence_80 (by decide) ?_
  refine l_ist C dX11_silence_81 hl (by decide) rfl (fun ls hl => ?_)
  have hl : LH ls 7 [(6, .inl ((0 : Int32))), (5, .inl ((0 : Int32))), (0, .inr (.inl (some b0))), (1, .inl l1), (2, .inl l2), (3, .inl l3), (4, .inl l4)] := hl
  obtain ⟨n, h⟩ := h
  exact b_X11_silence_83 C hk36 n l1 l2 l3 l4 ((0 : Int32)) ((0 : Int32)) M _ _ _ _ _ h I (hl.sub [2, 3, 4, 5, 6, 1, 0] rfl)
def w_X11_silence_36 (Q : Int32 → MS → Prop) : Nat → Int32 → Int32 → Int32 → Int32 → MS → Prop
  | 0 => fun _ _ _ _ _ => False
  | f36 + 1 => fun l1 l2 l3 l4 M => ((((1 : Int32) <<< (mF M 4 &&& 31)) ≤ l4) → (Q l3 M)) ∧ ((¬ ((1 : Int32) <<< (mF M 4 &&& 31)) ≤ l4) → (((((l4 >>> (l1 &&& 31)) &&& (1 : Int32)) = (1 : Int32)) → (w_X11_silence_151 Q (w_X11_silence_36 Q f36) l1 l2 l3 l4 M)) ∧ ((¬ ((l4 >>> (l1 &&& 31)) &&& (1 : Int32)) = (1 : Int32)) → (((l3 = (-1 : Int32)) → (w_X11_silence_77 Q (w_X11_silence_36 Q f36) l1 l2 l3 l4 M)) ∧ ((¬ l3 = (-1 : Int32)) → (w_X11_bits (fun r2 M1 => w_X11_bits (fun r4 M3 => ((r2 < r4) → (w_X11_silence_77 Q (w_X11_silence_36 Q f36) l1 l2 l3 l4 M3)) ∧ ((¬ r2 < r4) → (w_X11_silence_151 Q (w_X11_silence_36 Q f36) l1 l2 l3 l4 M3))) l3 M1) l4 M))))))
set_option maxHeartbeats 4000000 in
theorem b_X11_silence_36 {b0 z0 : Nat} {M0 : MS} {Q : Int32 → MS → Prop} (C : Cx p s m meth c D T Z "EndingTownModel" cX11_silence 7 (some .int)) : ∀ (n : Nat) (l1 : Int32) (l2 : Int32) (l3 : Int32) (l4 : Int32) (M : MS) (H : Heap) (locs : List Loc) (cells slots : Nat) (ls : Array Slot), w_X11_silence_36 Q n l1 l2 l3 l4 M → HI (twd D T Z) (mG b0 z0 M0) s (rmX (twd D T Z) 6 151 (mG b0 z0 M0)) H locs cells slots (mG b0 z0 M) → LH ls 7 [(0, .inr (.inl (some b0))), (1, .inl l1), (2, .inl l2), (3, .inl l3), (4, .inl l4)] → W p l e (rmX (twd D T Z) 6 151 (mG b0 z0 M0)) s m args below meth c H locs cells slots (MQX (twd D T Z) (mG b0 z0 M0) (mq b0 z0 (qI Q)) (fun _ _ => False) below s) (F0 m 36 ls []) := by
  intro n
  induction n with
  | zero => intro l1 l2 l3 l4 M H locs cells slots ls h; exact (show False from h).elim
  | succ n ih =>
    intro l1 l2 l3 l4 M H locs cells slots ls h I hl
    have hk36 := ih
    refine l_ild C dX11_silence_36 hl 4 rfl ?_
    refine lv_iconst (v := 1) C.1 C.2.1 dX11_silence_38 (by decide) ?_
    refine l_ald_n (x := some b0) C dX11_silence_39 hl 0 rfl rfl ?_
    refine f_I C I (fl_X11_266) (by decide) dX11_silence_40 ?_
    refine lv_ishl C.1 C.2.1 dX11_silence_43 ?_
    refine lv_icmp_ge (tgt := 157) C.1 C.2.1 dX11_silence_44 (by decide) (fun c8 => ?_) (fun c8 => ?_)
    · have h := h.1 c8
      refine l_ild_n C dX11_silence_157 hl 3 rfl rfl ?_
      exact r_int C.1 C.2.1 C.2.2.2.2.2.1 rfl C.2.2.2.2.2.2 ⟨rfl, rfl⟩ I dX11_silence_158 ⟨_, rfl, _, rfl, h⟩
    · have h := h.2 c8
      refine l_ild C dX11_silence_47 hl 4 rfl ?_
      refine l_ild_n C dX11_silence_49 hl 1 rfl rfl ?_
      refine lv_ishr C.1 C.2.1 dX11_silence_50 ?_
      refine lv_iconst (v := 1) C.1 C.2.1 dX11_silence_51 (by decide) ?_
      refine lv_iand C.1 C.2.1 dX11_silence_52 ?_
      refine lv_iconst (v := 1) C.1 C.2.1 dX11_silence_53 (by decide) ?_
      refine lv_icmp_eq (tgt := 151) C.1 C.2.1 dX11_silence_54 (by decide) (fun c7 => ?_) (fun c7 => ?_)
      · have h := h.1 c7
        exact b_X11_silence_151 C hk36 l1 l2 l3 l4 M _ _ _ _ _ h I (hl.sub [0, 1, 2, 3, 4] rfl)
      · have h := h.2 c7
        refine l_ild_n C dX11_silence_57 hl 3 rfl rfl ?_
        refine lv_iconst (v := (-1)) C.1 C.2.1 dX11_silence_58 (by decide) ?_
        refine lv_icmp_eq (tgt := 77) C.1 C.2.1 dX11_silence_59 (by decide) (fun c6 => ?_) (fun c6 => ?_)
        · have h := h.1 c6
          exact b_X11_silence_77 C hk36 l1 l2 l3 l4 M _ _ _ _ _ h I (hl.sub [0, 1, 2, 3, 4] rfl)
        · have h := h.2 c6
          refine l_ild C dX11_silence_62 hl 4 rfl ?_
          refine k_call Ext.tr C I (k_S (As := [.int l4]) (rest := []) (y := yX11_bits) C q1702 q1703 q113 (Or.inl rfl) q1704 (by decide) rfl pd_X11_bits rfl dX11_silence_64) (ct_X11_bits h) hl.1 dX11_silence_64 [] rfl (Nat.le_of_ble_eq_true rfl) (Or.inl rfl) q1704 q113 ⟨Nat.le_of_ble_eq_true rfl, Nat.le_of_ble_eq_true rfl⟩ (fun v x1 H locs cells slots ex hq I => ?_) (fun a x1 H locs cells slots ex hq I => hq.elim)
          obtain ⟨M1, rfl, r2, rfl, h⟩ := hq
          refine l_ild_n C dX11_silence_67 hl 3 rfl rfl ?_
          refine k_call Ext.tr C I (k_S (As := [.int l3]) (rest := [.int r2]) (y := yX11_bits) C q1702 q1703 q113 (Or.inl rfl) q1704 (by decide) rfl pd_X11_bits rfl dX11_silence_68) (ct_X11_bits h) hl.1 dX11_silence_68 [.inl r2] rfl (Nat.le_of_ble_eq_true rfl) (Or.inl rfl) q1704 q113 ⟨Nat.le_of_ble_eq_true rfl, Nat.le_of_ble_eq_true rfl⟩ (fun v x1 H locs cells slots ex hq I => ?_) (fun a x1 H locs cells slots ex hq I => hq.elim)
          obtain ⟨M3, rfl, r4, rfl, h⟩ := hq
          refine lv_icmp_lt (tgt := 77) C.1 C.2.1 dX11_silence_71 (by decide) (fun c5 => ?_) (fun c5 => ?_)
          · have h := h.1 c5
            exact b_X11_silence_77 C hk36 l1 l2 l3 l4 M3 _ _ _ _ _ h I (hl.sub [0, 1, 2, 3, 4] rfl)
          · have h := h.2 c5
            refine lv_goto (tgt := 151) C.1 C.2.1 dX11_silence_74 (by decide) ?_
            exact b_X11_silence_151 C hk36 l1 l2 l3 l4 M3 _ _ _ _ _ h I (hl.sub [0, 1, 2, 3, 4] rfl)
def w_X11_silence (Q : Int32 → MS → Prop) (p0 : Int32) (p1 : Int32) (M : MS) : Prop := ∀ M1 : MS, M1 = sF M 0 ((0 : Int32)) → w_X11_isWho (fun r3 M2 => ((r3 = 0) → (w_X11_silence_22 Q M2)) ∧ ((¬ r3 = 0) → (w_X11_isThing (fun r5 M4 => ((¬ r5 = 0) → (w_X11_asks (fun M6 => ∃ n, w_X11_silence_36 Q n p0 p1 ((-1 : Int32)) ((0 : Int32)) M6) p0 ((23 : Int32)) M4)) ∧ ((r5 = 0) → (w_X11_silence_22 Q M4))) p1 M2))) p0 ((0 : Int32)) M1
theorem pd_X11_silence : (parseMethodDescriptor yX11_silence.desc).map (fun d => d.parameters.length) = some 2 := by decide +kernel
set_option maxHeartbeats 4000000 in
theorem ct_X11_silence {l : Launch} {D : va_G} {T : Nat → ClassId} {Z : Heap} {b0 z0 : Nat} {M0 : MS} {Q : Int32 → MS → Prop} {p0 : Int32} {p1 : Int32} (hw : w_X11_silence Q p0 p1 M0) : CT (twd D T Z) (Evd D T Z) l yX11_silence (Cond.code yX11_silence cX11_silence 7 (some .int)) 6 151 [va_rf (some b0), .int p0, .int p1] (mG b0 z0 M0) (mq b0 z0 (qI Q)) (fun _ _ => False) := by
  refine CT.ofW (cc := cX11_silence) (nL := 7) (ret := (some .int)) Ext.rf (by decide) (Or.inl rfl) ?_
  intro p e s m below meth c hx hb hml hown hr hlk hnm hcb hm hc hn hE I
  have C : Cx p s m meth c D T Z "EndingTownModel" cX11_silence 7 (some .int) := ⟨hx, hb, hml, hown, hE, hr, hlk⟩
  refine w_entry [.inr (.inl (some b0)), .inl p0, .inl p1] (Nat.le_of_ble_eq_true rfl) (fun ls hl => ?_)
  have hl : LH ls 7 [(0, .inr (.inl (some b0))), (1, .inl p0), (2, .inl p1)] := hl
  have h := hw
  refine l_ald_n (x := some b0) C dX11_silence_0 hl 0 rfl rfl ?_
  refine lv_iconst (v := 0) C.1 C.2.1 dX11_silence_1 (by decide) ?_
  refine f_PI C I (fp_X11_122) (by decide) dX11_silence_2 (fit_i _) (fun H locs M1 eM1 I => ?_)
  have h := h M1 eM1
  refine l_ald_n (x := some b0) C dX11_silence_5 hl 0 rfl rfl ?_
  refine l_ild_n C dX11_silence_6 hl 1 rfl rfl ?_
  refine lv_iconst (v := 0) C.1 C.2.1 dX11_silence_7 (by decide) ?_
  refine k_call Ext.tr C I (k_V (r := some b0) (As := [.int p0, .int ((0 : Int32))]) (rest := []) (y := yX11_isWho) C (f_recv C I) q1709 q1711 qs66 (Or.inl rfl) q1712 (by decide) rfl pd_X11_isWho rfl dX11_silence_8) (ct_X11_isWho h) hl.1 dX11_silence_8 [] rfl (Nat.le_of_ble_eq_true rfl) (Or.inl rfl) q1712 q113 ⟨Nat.le_of_ble_eq_true rfl, Nat.le_of_ble_eq_true rfl⟩ (fun v x1 H locs cells slots ex hq I => ?_) (fun a x1 H locs cells slots ex hq I => hq.elim)
  obtain ⟨M2, rfl, r3, rfl, h⟩ := hq
  refine lv_if_eq (tgt := 22) C.1 C.2.1 dX11_silence_11 (by decide) (fun c9 => ?_) (fun c9 => ?_)
  · have h := h.1 c9
    exact b_X11_silence_22 C M2 _ _ _ _ _ h I (hl.sub [] rfl)
  · have h := h.2 c9
    refine l_ald_n (x := some b0) C dX11_silence_14 hl 0 rfl rfl ?_
    refine l_ild_n C dX11_silence_15 hl 2 rfl rfl ?_
    refine k_call Ext.tr C I (k_V (r := some b0) (As := [.int p1]) (rest := []) (y := yX11_isThing) C (f_recv C I) q1717 q1719 qs67 (Or.inl rfl) q1720 (by decide) rfl pd_X11_isThing rfl dX11_silence_16) (ct_X11_isThing h) hl.1 dX11_silence_16 [] rfl (Nat.le_of_ble_eq_true rfl) (Or.inl rfl) q1720 q113 ⟨Nat.le_of_ble_eq_true rfl, Nat.le_of_ble_eq_true rfl⟩ (fun v x1 H locs cells slots ex hq I => ?_) (fun a x1 H locs cells slots ex hq I => hq.elim)
    obtain ⟨M4, rfl, r5, rfl, h⟩ := hq
    refine lv_if_ne (tgt := 24) C.1 C.2.1 dX11_silence_19 (by decide) (fun c8 => ?_) (fun c8 => ?_)
    · have h := h.1 c8
      refine l_ald_n (x := some b0) C dX11_silence_24 hl 0 rfl rfl ?_
      refine l_ild_n C dX11_silence_25 hl 1 rfl rfl ?_
      refine lv_bipush (v := 23) C.1 C.2.1 dX11_silence_26 (by decide) ?_
      refine k_call Ext.tr C I (k_V (r := some b0) (As := [.int p0, .int ((23 : Int32))]) (rest := []) (y := yX11_asks) C (f_recv C I) q1793 q1795 qs79 (Or.inl rfl) q1796 (by decide) rfl pd_X11_asks rfl dX11_silence_28) (ct_X11_asks h) hl.1 dX11_silence_28 [] rfl (Nat.le_of_ble_eq_true rfl) (Or.inl rfl) q1796 q113 ⟨Nat.le_of_ble_eq_true rfl, Nat.le_of_ble_eq_true rfl⟩ (fun v x1 H locs cells slots ex hq I => ?_) (fun a x1 H locs cells slots ex hq I => hq.elim)
      obtain ⟨M6, rfl, rfl, h⟩ := hq
      refine lv_iconst (v := (-1)) C.1 C.2.1 dX11_silence_31 (by decide) ?_
      refine l_ist_n C dX11_silence_32 rfl hl (by decide) rfl (fun ls hl => ?_)
      have hl : LH ls 7 [(3, .inl ((-1 : Int32))), (0, .inr (.inl (some b0))), (1, .inl p0), (2, .inl p1)] := hl
      refine lv_iconst (v := 0) C.1 C.2.1 dX11_silence_33 (by decide) ?_
      refine l_ist C dX11_silence_34 hl (by decide) rfl (fun ls hl => ?_)
      have hl : LH ls 7 [(4, .inl ((0 : Int32))), (3, .inl ((-1 : Int32))), (0, .inr (.inl (some b0))), (1, .inl p0), (2, .inl p1)] := hl
      obtain ⟨n, h⟩ := h
      exact b_X11_silence_36 C n p0 p1 ((-1 : Int32)) ((0 : Int32)) M6 _ _ _ _ _ h I (hl.sub [2, 3, 4, 1, 0] rfl)
    · have h := h.2 c8
      exact b_X11_silence_22 C M4 _ _ _ _ _ h I (hl.sub [] rfl)
def w_X11_likely_22 (Q : Int32 → MS → Prop) (M : MS) : Prop := Q ((0 : Int32)) M
set_option maxHeartbeats 4000000 in
theorem b_X11_likely_22 {b0 z0 : Nat} {M0 : MS} {Q : Int32 → MS → Prop} (C : Cx p s m meth c D T Z "EndingTownModel" cX11_likely 13 (some .int)) : ∀ (M : MS) (H : Heap) (locs : List Loc) (cells slots : Nat) (ls : Array Slot), w_X11_likely_22 Q M → HI (twd D T Z) (mG b0 z0 M0) s (rmX (twd D T Z) 2 44 (mG b0 z0 M0)) H locs cells slots (mG b0 z0 M) → LH ls 13 [] → W p l e (rmX (twd D T Z) 2 44 (mG b0 z0 M0)) s m args below meth c H locs cells slots (MQX (twd D T Z) (mG b0 z0 M0) (mq b0 z0 (qI Q)) (fun _ _ => False) below s) (F0 m 22 ls []) := by
  intro M H locs cells slots ls h I hl
  refine lv_iconst (v := 0) C.1 C.2.1 dX11_likely_22 (by decide) ?_
  exact r_int C.1 C.2.1 C.2.2.2.2.2.1 rfl C.2.2.2.2.2.2 ⟨rfl, rfl⟩ I dX11_likely_23 ⟨_, rfl, _, rfl, h⟩
def w_X11_likely_222 (Q : Int32 → MS → Prop) (k31 : Int32 → Int32 → Int64 → Int32 → MS → Prop) (l1 : Int32) (l2 : Int32) (l3 : Int64) (l5 : Int32) (M : MS) : Prop := k31 l1 l2 l3 ((l5 + 1)) M
set_option maxHeartbeats 4000000 in
theorem b_X11_likely_222 {b0 z0 : Nat} {M0 : MS} {Q : Int32 → MS → Prop} {k31 : Int32 → Int32 → Int64 → Int32 → MS → Prop} (C : Cx p s m meth c D T Z "EndingTownModel" cX11_likely 13 (some .int)) (hk31 : ∀ (l1 : Int32) (l2 : Int32) (l3 : Int64) (l5 : Int32) (M : MS) (H : Heap) (locs : List Loc) (cells slots : Nat) (ls : Array Slot), k31 l1 l2 l3 l5 M → HI (twd D T Z) (mG b0 z0 M0) s (rmX (twd D T Z) 2 44 (mG b0 z0 M0)) H locs cells slots (mG b0 z0 M) → LH ls 13 [(0, .inr (.inl (some b0))), (1, .inl l1), (2, .inl l2), (3, .inr (.inr l3)), (5, .inl l5)] → W p l e (rmX (twd D T Z) 2 44 (mG b0 z0 M0)) s m args below meth c H locs cells slots (MQX (twd D T Z) (mG b0 z0 M0) (mq b0 z0 (qI Q)) (fun _ _ => False) below s) (F0 m 31 ls [])) : ∀ (l1 : Int32) (l2 : Int32) (l3 : Int64) (l5 : Int32) (M : MS) (H : Heap) (locs : List Loc) (cells slots : Nat) (ls : Array Slot), w_X11_likely_222 Q k31 l1 l2 l3 l5 M → HI (twd D T Z) (mG b0 z0 M0) s (rmX (twd D T Z) 2 44 (mG b0 z0 M0)) H locs cells slots (mG b0 z0 M) → LH ls 13 [(0, .inr (.inl (some b0))), (1, .inl l1), (2, .inl l2), (3, .inr (.inr l3)), (5, .inl l5)] → W p l e (rmX (twd D T Z) 2 44 (mG b0 z0 M0)) s m args below meth c H locs cells slots (MQX (twd D T Z) (mG b0 z0 M0) (mq b0 z0 (qI Q)) (fun _ _ => False) below s) (F0 m 222 ls []) := by
  intro l1 l2 l3 l5 M H locs cells slots ls h I hl
  refine l_inc (q := 4) (v := 1) C dX11_likely_222 hl rfl (by decide) (by decide) rfl (fun ls hl => ?_)
  have hl : LH ls 13 [(5, .inl ((l5 + 1))), (0, .inr (.inl (some b0))), (1, .inl l1), (2, .inl l2), (3, .inr (.inr l3))] := hl
  refine lv_goto (tgt := 31) C.1 C.2.1 dX11_likely_225 (by decide) ?_
  exact hk31 l1 l2 l3 ((l5 + 1)) M _ _ _ _ _ h I (hl.sub [1, 2, 3, 4, 0] rfl)
def w_X11_likely_221 (Q : Int32 → MS → Prop) (k31 : Int32 → Int32 → Int64 → Int32 → MS → Prop) (l1 : Int32) (l2 : Int32) (l5 : Int32) (t0 : Int64) (M : MS) : Prop := w_X11_likely_222 Q k31 l1 l2 t0 l5 M
set_option maxHeartbeats 4000000 in
theorem b_X11_likely_221 {b0 z0 : Nat} {M0 : MS} {Q : Int32 → MS → Prop} {k31 : Int32 → Int32 → Int64 → Int32 → MS → Prop} (C : Cx p s m meth c D T Z "EndingTownModel" cX11_likely 13 (some .int)) (hk31 : ∀ (l1 : Int32) (l2 : Int32) (l3 : Int64) (l5 : Int32) (M : MS) (H : Heap) (locs : List Loc) (cells slots : Nat) (ls : Array Slot), k31 l1 l2 l3 l5 M → HI (twd D T Z) (mG b0 z0 M0) s (rmX (twd D T Z) 2 44 (mG b0 z0 M0)) H locs cells slots (mG b0 z0 M) → LH ls 13 [(0, .inr (.inl (some b0))), (1, .inl l1), (2, .inl l2), (3, .inr (.inr l3)), (5, .inl l5)] → W p l e (rmX (twd D T Z) 2 44 (mG b0 z0 M0)) s m args below meth c H locs cells slots (MQX (twd D T Z) (mG b0 z0 M0) (mq b0 z0 (qI Q)) (fun _ _ => False) below s) (F0 m 31 ls [])) : ∀ (l1 : Int32) (l2 : Int32) (l5 : Int32) (t0 : Int64) (M : MS) (H : Heap) (locs : List Loc) (cells slots : Nat) (ls : Array Slot), w_X11_likely_221 Q k31 l1 l2 l5 t0 M → HI (twd D T Z) (mG b0 z0 M0) s (rmX (twd D T Z) 2 44 (mG b0 z0 M0)) H locs cells slots (mG b0 z0 M) → LH ls 13 [(0, .inr (.inl (some b0))), (1, .inl l1), (2, .inl l2), (5, .inl l5)] → W p l e (rmX (twd D T Z) 2 44 (mG b0 z0 M0)) s m args below meth c H locs cells slots (MQX (twd D T Z) (mG b0 z0 M0) (mq b0 z0 (qI Q)) (fun _ _ => False) below s) (F0 m 221 ls [.long t0]) := by
  intro l1 l2 l5 t0 M H locs cells slots ls h I hl
  refine l_lst_n C dX11_likely_221 rfl hl (by decide) rfl (fun ls hl => ?_)
  have hl : LH ls 13 [(3, .inr (.inr t0)), (0, .inr (.inl (some b0))), (1, .inl l1), (2, .inl l2), (5, .inl l5)] := hl
  exact b_X11_likely_222 C hk31 l1 l2 t0 l5 M _ _ _ _ _ h I (hl.sub [1, 2, 3, 0, 4] rfl)
def w_X11_likely_127 (Q : Int32 → MS → Prop) (k31 : Int32 → Int32 → Int64 → Int32 → MS → Prop) (l1 : Int32) (l2 : Int32) (l3 : Int64) (l5 : Int32) (t0 : Int64) (M : MS) : Prop := w_X11_of (fun r2 M1 => vp_in (((2 : Int32) * r2)) (mlen 15) ∧ w_X11_of (fun r4 M3 => vp_in ((((2 : Int32) * r4) + (1 : Int32))) (mlen 15) ∧ ((¬ (lg_cmp (((t0 * (mA M1 15 (((2 : Int32) * r2)).toNatClampNeg).toInt64) + (((1000000 : Int64) - t0) * (mA M3 15 ((((2 : Int32) * r4) + (1 : Int32))).toNatClampNeg).toInt64))) ((0 : Int64))) = 0) → (¬ ((t0 * (mA M1 15 (((2 : Int32) * r2)).toNatClampNeg).toInt64) + (((1000000 : Int64) - t0) * (mA M3 15 ((((2 : Int32) * r4) + (1 : Int32))).toNatClampNeg).toInt64)) = 0 ∧ w_X11_of (fun r6 M5 => ((¬ r6 = (1 : Int32)) → (w_X11_likely_221 Q k31 l1 l2 l5 ((((t0 * (mA M1 15 (((2 : Int32) * r2)).toNatClampNeg).toInt64) * (1000000 : Int64)) / ((t0 * (mA M1 15 (((2 : Int32) * r2)).toNatClampNeg).toInt64) + (((1000000 : Int64) - t0) * (mA M3 15 ((((2 : Int32) * r4) + (1 : Int32))).toNatClampNeg).toInt64)))) M5)) ∧ ((r6 = (1 : Int32)) → (w_X11_likely_221 Q k31 l1 l2 l5 (((1000000 : Int64) - (((t0 * (mA M1 15 (((2 : Int32) * r2)).toNatClampNeg).toInt64) * (1000000 : Int64)) / ((t0 * (mA M1 15 (((2 : Int32) * r2)).toNatClampNeg).toInt64) + (((1000000 : Int64) - t0) * (mA M3 15 ((((2 : Int32) * r4) + (1 : Int32))).toNatClampNeg).toInt64))))) M5))) l5 ((4 : Int32)) M3)) ∧ (((lg_cmp (((t0 * (mA M1 15 (((2 : Int32) * r2)).toNatClampNeg).toInt64) + (((1000000 : Int64) - t0) * (mA M3 15 ((((2 : Int32) * r4) + (1 : Int32))).toNatClampNeg).toInt64))) ((0 : Int64))) = 0) → (w_X11_likely_222 Q k31 l1 l2 l3 l5 M3))) l5 ((3 : Int32)) M1) l5 ((3 : Int32)) M
set_option maxHeartbeats 4000000 in
theorem b_X11_likely_127 {b0 z0 : Nat} {M0 : MS} {Q : Int32 → MS → Prop} {k31 : Int32 → Int32 → Int64 → Int32 → MS → Prop} (C : Cx p s m meth c D T Z "EndingTownModel" cX11_likely 13 (some .int)) (hk31 : ∀ (l1 : Int32) (l2 : Int32) (l3 : Int64) (l5 : Int32) (M : MS) (H : Heap) (locs : List Loc) (cells slots : Nat) (ls : Array Slot), k31 l1 l2 l3 l5 M → HI (twd D T Z) (mG b0 z0 M0) s (rmX (twd D T Z) 2 44 (mG b0 z0 M0)) H locs cells slots (mG b0 z0 M) → LH ls 13 [(0, .inr (.inl (some b0))), (1, .inl l1), (2, .inl l2), (3, .inr (.inr l3)), (5, .inl l5)] → W p l e (rmX (twd D T Z) 2 44 (mG b0 z0 M0)) s m args below meth c H locs cells slots (MQX (twd D T Z) (mG b0 z0 M0) (mq b0 z0 (qI Q)) (fun _ _ => False) below s) (F0 m 31 ls [])) : ∀ (l1 : Int32) (l2 : Int32) (l3 : Int64) (l5 : Int32) (t0 : Int64) (M : MS) (H : Heap) (locs : List Loc) (cells slots : Nat) (ls : Array Slot), w_X11_likely_127 Q k31 l1 l2 l3 l5 t0 M → HI (twd D T Z) (mG b0 z0 M0) s (rmX (twd D T Z) 2 44 (mG b0 z0 M0)) H locs cells slots (mG b0 z0 M) → LH ls 13 [(0, .inr (.inl (some b0))), (1, .inl l1), (2, .inl l2), (3, .inr (.inr l3)), (5, .inl l5)] → W p l e (rmX (twd D T Z) 2 44 (mG b0 z0 M0)) s m args below meth c H locs cells slots (MQX (twd D T Z) (mG b0 z0 M0) (mq b0 z0 (qI Q)) (fun _ _ => False) below s) (F0 m 127 ls [.long t0]) := by
  intro l1 l2 l3 l5 t0 M H locs cells slots ls h I hl
  refine l_lst C dX11_likely_127 hl (by decide) rfl (fun ls hl => ?_)
  have hl : LH ls 13 [(7, .inr (.inr t0)), (0, .inr (.inl (some b0))), (1, .inl l1), (2, .inl l2), (3, .inr (.inr l3)), (5, .inl l5)] := hl
  refine l_lld C dX11_likely_129 hl 0 rfl ?_
  refine l_ald_n (x := some b0) C dX11_likely_131 hl 1 rfl rfl ?_
  refine f_A C I (fl_X11_38) (by decide) (by decide) dX11_likely_132 ?_
  refine lv_iconst (v := 2) C.1 C.2.1 dX11_likely_135 (by decide) ?_
  refine l_ald_n (x := some b0) C dX11_likely_136 hl 1 rfl rfl ?_
  refine l_ild C dX11_likely_137 hl 5 rfl ?_
  refine lv_iconst (v := 3) C.1 C.2.1 dX11_likely_139 (by decide) ?_
  refine k_call Ext.tr C I (k_V (r := some b0) (As := [.int l5, .int ((3 : Int32))]) (rest := [.int ((2 : Int32)), va_rf (some (b0 + moff 15)), .long t0]) (y := yX11_of) C (f_recv C I) q1789 q1791 qs78 (Or.inl rfl) q1792 (by decide) rfl pd_X11_of rfl dX11_likely_140) (ct_X11_of h) hl.1 dX11_likely_140 [.inl ((2 : Int32)), .inr (.inl (some (b0 + moff 15))), .inr (.inr t0)] rfl (Nat.le_of_ble_eq_true rfl) (Or.inl rfl) q1792 q113 ⟨Nat.le_of_ble_eq_true rfl, Nat.le_of_ble_eq_true rfl⟩ (fun v x1 H locs cells slots ex hq I => ?_) (fun a x1 H locs cells slots ex hq I => hq.elim)
  obtain ⟨M1, rfl, r2, rfl, h⟩ := hq
  refine lv_imul C.1 C.2.1 dX11_likely_143 ?_
  obtain ⟨hi, h⟩ := h
  refine f_ld (k := 15) C I (by decide) hi dX11_likely_144 ?_
  refine lv_i2l C.1 C.2.1 dX11_likely_145 rfl ?_
  refine lv_lmul C.1 C.2.1 dX11_likely_146 ?_
  refine l_lst C dX11_likely_147 hl (by decide) rfl (fun ls hl => ?_)
  have hl : LH ls 13 [(9, .inr (.inr ((t0 * (mA M1 15 (((2 : Int32) * r2)).toNatClampNeg).toInt64)))), (7, .inr (.inr t0)), (0, .inr (.inl (some b0))), (1, .inl l1), (2, .inl l2), (3, .inr (.inr l3)), (5, .inl l5)] := hl
  refine l_lld C dX11_likely_149 hl 0 rfl ?_
  refine lv_ldc2 C.1 C.2.1 C.2.2.2.1 (C.2.2.2.2.1.1.good q1878 _) dX11_likely_151 ?_
  refine l_lld C dX11_likely_154 hl 1 rfl ?_
  refine lv_lsub C.1 C.2.1 dX11_likely_156 ?_
  refine l_ald_n (x := some b0) C dX11_likely_157 hl 2 rfl rfl ?_
  refine f_A C I (fl_X11_38) (by decide) (by decide) dX11_likely_158 ?_
  refine lv_iconst (v := 2) C.1 C.2.1 dX11_likely_161 (by decide) ?_
  refine l_ald_n (x := some b0) C dX11_likely_162 hl 2 rfl rfl ?_
  refine l_ild C dX11_likely_163 hl 6 rfl ?_
  refine lv_iconst (v := 3) C.1 C.2.1 dX11_likely_165 (by decide) ?_
  refine k_call Ext.tr C I (k_V (r := some b0) (As := [.int l5, .int ((3 : Int32))]) (rest := [.int ((2 : Int32)), va_rf (some (b0 + moff 15)), .long (((1000000 : Int64) - t0)), .long ((t0 * (mA M1 15 (((2 : Int32) * r2)).toNatClampNeg).toInt64))]) (y := yX11_of) C (f_recv C I) q1789 q1791 qs78 (Or.inl rfl) q1792 (by decide) rfl pd_X11_of rfl dX11_likely_166) (ct_X11_of h) hl.1 dX11_likely_166 [.inl ((2 : Int32)), .inr (.inl (some (b0 + moff 15))), .inr (.inr (((1000000 : Int64) - t0))), .inr (.inr ((t0 * (mA M1 15 (((2 : Int32) * r2)).toNatClampNeg).toInt64)))] rfl (Nat.le_of_ble_eq_true rfl) (Or.inl rfl) q1792 q113 ⟨Nat.le_of_ble_eq_true rfl, Nat.le_of_ble_eq_true rfl⟩ (fun v x1 H locs cells slots ex hq I => ?_) (fun a x1 H locs cells slots ex hq I => hq.elim)
  obtain ⟨M3, rfl, r4, rfl, h⟩ := hq
  refine lv_imul C.1 C.2.1 dX11_likely_169 ?_
  refine lv_iconst (v := 1) C.1 C.2.1 dX11_likely_170 (by decide) ?_
  refine lv_iadd C.1 C.2.1 dX11_likely_171 ?_
  obtain ⟨hi, h⟩ := h
  refine f_ld (k := 15) C I (by decide) hi dX11_likely_172 ?_
  refine lv_i2l C.1 C.2.1 dX11_likely_173 rfl ?_
  refine lv_lmul C.1 C.2.1 dX11_likely_174 ?_
  refine lv_ladd C.1 C.2.1 dX11_likely_175 ?_
  refine l_lst C dX11_likely_176 hl (by decide) rfl (fun ls hl => ?_)
  have hl : LH ls 13 [(11, .inr (.inr (((t0 * (mA M1 15 (((2 : Int32) * r2)).toNatClampNeg).toInt64) + (((1000000 : Int64) - t0) * (mA M3 15 ((((2 : Int32) * r4) + (1 : Int32))).toNatClampNeg).toInt64))))), (9, .inr (.inr ((t0 * (mA M1 15 (((2 : Int32) * r2)).toNatClampNeg).toInt64)))), (7, .inr (.inr t0)), (0, .inr (.inl (some b0))), (1, .inl l1), (2, .inl l2), (3, .inr (.inr l3)), (5, .inl l5)] := hl
  refine l_lld C dX11_likely_178 hl 0 rfl ?_
  refine lv_lconst (v := 0) C.1 C.2.1 dX11_likely_180 (by decide) ?_
  refine W.lcmp C.1 C.2.1 dX11_likely_181 ?_
  refine lv_if_ne (tgt := 188) C.1 C.2.1 dX11_likely_182 (by decide) (fun c8 => ?_) (fun c8 => ?_)
  · have h := h.1 c8
    refine l_lld C dX11_likely_188 hl 1 rfl ?_
    refine lv_ldc2 C.1 C.2.1 C.2.2.2.1 (C.2.2.2.2.1.1.good q1878 _) dX11_likely_190 ?_
    refine lv_lmul C.1 C.2.1 dX11_likely_193 ?_
    refine l_lld C dX11_likely_194 hl 0 rfl ?_
    obtain ⟨hne, h⟩ := h
    refine lv_ldiv C.1 C.2.1 dX11_likely_196 hne ?_
    refine l_lst C dX11_likely_197 hl (by decide) rfl (fun ls hl => ?_)
    have hl : LH ls 13 [(7, .inr (.inr ((((t0 * (mA M1 15 (((2 : Int32) * r2)).toNatClampNeg).toInt64) * (1000000 : Int64)) / ((t0 * (mA M1 15 (((2 : Int32) * r2)).toNatClampNeg).toInt64) + (((1000000 : Int64) - t0) * (mA M3 15 ((((2 : Int32) * r4) + (1 : Int32))).toNatClampNeg).toInt64)))))), (11, .inr (.inr (((t0 * (mA M1 15 (((2 : Int32) * r2)).toNatClampNeg).toInt64) + (((1000000 : Int64) - t0) * (mA M3 15 ((((2 : Int32) * r4) + (1 : Int32))).toNatClampNeg).toInt64))))), (9, .inr (.inr ((t0 * (mA M1 15 (((2 : Int32) * r2)).toNatClampNeg).toInt64)))), (0, .inr (.inl (some b0))), (1, .inl l1), (2, .inl l2), (3, .inr (.inr l3)), (5, .inl l5)] := hl
    refine l_ald_n (x := some b0) C dX11_likely_199 hl 3 rfl rfl ?_
    refine l_ild C dX11_likely_200 hl 7 rfl ?_
    refine lv_iconst (v := 4) C.1 C.2.1 dX11_likely_202 (by decide) ?_
    refine k_call Ext.tr C I (k_V (r := some b0) (As := [.int l5, .int ((4 : Int32))]) (rest := []) (y := yX11_of) C (f_recv C I) q1789 q1791 qs78 (Or.inl rfl) q1792 (by decide) rfl pd_X11_of rfl dX11_likely_203) (ct_X11_of h) hl.1 dX11_likely_203 [] rfl (Nat.le_of_ble_eq_true rfl) (Or.inl rfl) q1792 q113 ⟨Nat.le_of_ble_eq_true rfl, Nat.le_of_ble_eq_true rfl⟩ (fun v x1 H locs cells slots ex hq I => ?_) (fun a x1 H locs cells slots ex hq I => hq.elim)
    obtain ⟨M5, rfl, r6, rfl, h⟩ := hq
    refine lv_iconst (v := 1) C.1 C.2.1 dX11_likely_206 (by decide) ?_
    refine lv_icmp_ne (tgt := 219) C.1 C.2.1 dX11_likely_207 (by decide) (fun c7 => ?_) (fun c7 => ?_)
    · have h := h.1 c7
      refine l_lld C dX11_likely_219 hl 0 rfl ?_
      exact b_X11_likely_221 C hk31 l1 l2 l5 ((((t0 * (mA M1 15 (((2 : Int32) * r2)).toNatClampNeg).toInt64) * (1000000 : Int64)) / ((t0 * (mA M1 15 (((2 : Int32) * r2)).toNatClampNeg).toInt64) + (((1000000 : Int64) - t0) * (mA M3 15 ((((2 : Int32) * r4) + (1 : Int32))).toNatClampNeg).toInt64)))) M5 _ _ _ _ _ h I (hl.sub [3, 4, 5, 7] rfl)
    · have h := h.2 c7
      refine lv_ldc2 C.1 C.2.1 C.2.2.2.1 (C.2.2.2.2.1.1.good q1878 _) dX11_likely_210 ?_
      refine l_lld C dX11_likely_213 hl 0 rfl ?_
      refine lv_lsub C.1 C.2.1 dX11_likely_215 ?_
      refine lv_goto (tgt := 221) C.1 C.2.1 dX11_likely_216 (by decide) ?_
      exact b_X11_likely_221 C hk31 l1 l2 l5 (((1000000 : Int64) - (((t0 * (mA M1 15 (((2 : Int32) * r2)).toNatClampNeg).toInt64) * (1000000 : Int64)) / ((t0 * (mA M1 15 (((2 : Int32) * r2)).toNatClampNeg).toInt64) + (((1000000 : Int64) - t0) * (mA M3 15 ((((2 : Int32) * r4) + (1 : Int32))).toNatClampNeg).toInt64))))) M5 _ _ _ _ _ h I (hl.sub [3, 4, 5, 7] rfl)
  · have h := h.2 c8
    refine lv_goto (tgt := 222) C.1 C.2.1 dX11_likely_185 (by decide) ?_
    exact b_X11_likely_222 C hk31 l1 l2 l3 l5 M3 _ _ _ _ _ h I (hl.sub [3, 4, 5, 6, 7] rfl)
def w_X11_likely_31 (Q : Int32 → MS → Prop) : Nat → Int32 → Int32 → Int64 → Int32 → MS → Prop
  | 0 => fun _ _ _ _ _ => False
  | f31 + 1 => fun l1 l2 l3 l5 M => ((mF M 50 ≤ l5) → (Q l3.toInt32 M)) ∧ ((¬ mF M 50 ≤ l5) → (w_X11_of (fun r2 M1 => w_X11_of (fun r4 M3 => ((¬ r4 = l2) → (w_X11_likely_222 Q (w_X11_likely_31 Q f31) l1 l2 l3 l5 M3)) ∧ ((r4 = l2) → (w_X11_of (fun r6 M5 => ((r6 = l1) → (w_X11_likely_222 Q (w_X11_likely_31 Q f31) l1 l2 l3 l5 M5)) ∧ ((¬ r6 = l1) → (vp_in ((((24 : Int32) * l1) + r2)) (mlen 14) ∧ w_X11_of (fun r8 M7 => vp_in ((((24 : Int32) * r8) + r2)) (mlen 14) ∧ ((mA M5 14 ((((24 : Int32) * l1) + r2)).toNatClampNeg = mA M7 14 ((((24 : Int32) * r8) + r2)).toNatClampNeg) → (w_X11_of (fun r10 M9 => ((¬ r10 = (1 : Int32)) → (w_X11_likely_127 Q (w_X11_likely_31 Q f31) l1 l2 l3 l5 l3 M9)) ∧ ((r10 = (1 : Int32)) → (w_X11_likely_127 Q (w_X11_likely_31 Q f31) l1 l2 l3 l5 (((1000000 : Int64) - l3)) M9))) l5 ((4 : Int32)) M7)) ∧ ((¬ mA M5 14 ((((24 : Int32) * l1) + r2)).toNatClampNeg = mA M7 14 ((((24 : Int32) * r8) + r2)).toNatClampNeg) → (w_X11_likely_222 Q (w_X11_likely_31 Q f31) l1 l2 l3 l5 M7))) l5 ((0 : Int32)) M5))) l5 ((0 : Int32)) M3))) l5 ((2 : Int32)) M1) l5 ((1 : Int32)) M))
set_option maxHeartbeats 4000000 in
theorem b_X11_likely_31 {b0 z0 : Nat} {M0 : MS} {Q : Int32 → MS → Prop} (C : Cx p s m meth c D T Z "EndingTownModel" cX11_likely 13 (some .int)) : ∀ (n : Nat) (l1 : Int32) (l2 : Int32) (l3 : Int64) (l5 : Int32) (M : MS) (H : Heap) (locs : List Loc) (cells slots : Nat) (ls : Array Slot), w_X11_likely_31 Q n l1 l2 l3 l5 M → HI (twd D T Z) (mG b0 z0 M0) s (rmX (twd D T Z) 2 44 (mG b0 z0 M0)) H locs cells slots (mG b0 z0 M) → LH ls 13 [(0, .inr (.inl (some b0))), (1, .inl l1), (2, .inl l2), (3, .inr (.inr l3)), (5, .inl l5)] → W p l e (rmX (twd D T Z) 2 44 (mG b0 z0 M0)) s m args below meth c H locs cells slots (MQX (twd D T Z) (mG b0 z0 M0) (mq b0 z0 (qI Q)) (fun _ _ => False) below s) (F0 m 31 ls []) := by
  intro n
  induction n with
  | zero => intro l1 l2 l3 l5 M H locs cells slots ls h; exact (show False from h).elim
  | succ n ih =>
    intro l1 l2 l3 l5 M H locs cells slots ls h I hl
    have hk31 := ih
    refine l_ild C dX11_likely_31 hl 4 rfl ?_
    refine l_ald_n (x := some b0) C dX11_likely_33 hl 0 rfl rfl ?_
    refine f_I C I (fl_X11_279) (by decide) dX11_likely_34 ?_
    refine lv_icmp_ge (tgt := 228) C.1 C.2.1 dX11_likely_37 (by decide) (fun c15 => ?_) (fun c15 => ?_)
    · have h := h.1 c15
      refine l_lld_n C dX11_likely_228 hl 3 rfl rfl ?_
      refine lv_l2i C.1 C.2.1 dX11_likely_229 rfl ?_
      exact r_int C.1 C.2.1 C.2.2.2.2.2.1 rfl C.2.2.2.2.2.2 ⟨rfl, rfl⟩ I dX11_likely_230 ⟨_, rfl, _, rfl, h⟩
    · have h := h.2 c15
      refine l_ald_n (x := some b0) C dX11_likely_40 hl 0 rfl rfl ?_
      refine l_ild C dX11_likely_41 hl 4 rfl ?_
      refine lv_iconst (v := 1) C.1 C.2.1 dX11_likely_43 (by decide) ?_
      refine k_call Ext.tr C I (k_V (r := some b0) (As := [.int l5, .int ((1 : Int32))]) (rest := []) (y := yX11_of) C (f_recv C I) q1789 q1791 qs78 (Or.inl rfl) q1792 (by decide) rfl pd_X11_of rfl dX11_likely_44) (ct_X11_of h) hl.1 dX11_likely_44 [] rfl (Nat.le_of_ble_eq_true rfl) (Or.inl rfl) q1792 q113 ⟨Nat.le_of_ble_eq_true rfl, Nat.le_of_ble_eq_true rfl⟩ (fun v x1 H locs cells slots ex hq I => ?_) (fun a x1 H locs cells slots ex hq I => hq.elim)
      obtain ⟨M1, rfl, r2, rfl, h⟩ := hq
      refine l_ist C dX11_likely_47 hl (by decide) rfl (fun ls hl => ?_)
      have hl : LH ls 13 [(6, .inl r2), (0, .inr (.inl (some b0))), (1, .inl l1), (2, .inl l2), (3, .inr (.inr l3)), (5, .inl l5)] := hl
      refine l_ald_n (x := some b0) C dX11_likely_49 hl 1 rfl rfl ?_
      refine l_ild C dX11_likely_50 hl 5 rfl ?_
      refine lv_iconst (v := 2) C.1 C.2.1 dX11_likely_52 (by decide) ?_
      refine k_call Ext.tr C I (k_V (r := some b0) (As := [.int l5, .int ((2 : Int32))]) (rest := []) (y := yX11_of) C (f_recv C I) q1789 q1791 qs78 (Or.inl rfl) q1792 (by decide) rfl pd_X11_of rfl dX11_likely_53) (ct_X11_of h) hl.1 dX11_likely_53 [] rfl (Nat.le_of_ble_eq_true rfl) (Or.inl rfl) q1792 q113 ⟨Nat.le_of_ble_eq_true rfl, Nat.le_of_ble_eq_true rfl⟩ (fun v x1 H locs cells slots ex hq I => ?_) (fun a x1 H locs cells slots ex hq I => hq.elim)
      obtain ⟨M3, rfl, r4, rfl, h⟩ := hq
      refine l_ild_n C dX11_likely_56 hl 3 rfl rfl ?_
      refine lv_icmp_ne (tgt := 222) C.1 C.2.1 dX11_likely_57 (by decide) (fun c14 => ?_) (fun c14 => ?_)
      · have h := h.1 c14
        exact b_X11_likely_222 C hk31 l1 l2 l3 l5 M3 _ _ _ _ _ h I (hl.sub [1, 2, 3, 4, 5] rfl)
      · have h := h.2 c14
        refine l_ald_n (x := some b0) C dX11_likely_60 hl 1 rfl rfl ?_
        refine l_ild C dX11_likely_61 hl 5 rfl ?_
        refine lv_iconst (v := 0) C.1 C.2.1 dX11_likely_63 (by decide) ?_
        refine k_call Ext.tr C I (k_V (r := some b0) (As := [.int l5, .int ((0 : Int32))]) (rest := []) (y := yX11_of) C (f_recv C I) q1789 q1791 qs78 (Or.inl rfl) q1792 (by decide) rfl pd_X11_of rfl dX11_likely_64) (ct_X11_of h) hl.1 dX11_likely_64 [] rfl (Nat.le_of_ble_eq_true rfl) (Or.inl rfl) q1792 q113 ⟨Nat.le_of_ble_eq_true rfl, Nat.le_of_ble_eq_true rfl⟩ (fun v x1 H locs cells slots ex hq I => ?_) (fun a x1 H locs cells slots ex hq I => hq.elim)
        obtain ⟨M5, rfl, r6, rfl, h⟩ := hq
        refine l_ild_n C dX11_likely_67 hl 2 rfl rfl ?_
        refine lv_icmp_eq (tgt := 222) C.1 C.2.1 dX11_likely_68 (by decide) (fun c13 => ?_) (fun c13 => ?_)
        · have h := h.1 c13
          exact b_X11_likely_222 C hk31 l1 l2 l3 l5 M5 _ _ _ _ _ h I (hl.sub [1, 2, 3, 4, 5] rfl)
        · have h := h.2 c13
          refine l_ald_n (x := some b0) C dX11_likely_71 hl 1 rfl rfl ?_
          refine f_A C I (fl_X11_35) (by decide) (by decide) dX11_likely_72 ?_
          refine lv_bipush (v := 24) C.1 C.2.1 dX11_likely_75 (by decide) ?_
          refine l_ild_n C dX11_likely_77 hl 2 rfl rfl ?_
          refine lv_imul C.1 C.2.1 dX11_likely_78 ?_
          refine l_ild C dX11_likely_79 hl 0 rfl ?_
          refine lv_iadd C.1 C.2.1 dX11_likely_81 ?_
          obtain ⟨hi, h⟩ := h
          refine f_ld (k := 14) C I (by decide) hi dX11_likely_82 ?_
          refine l_ald_n (x := some b0) C dX11_likely_83 hl 1 rfl rfl ?_
          refine f_A C I (fl_X11_35) (by decide) (by decide) dX11_likely_84 ?_
          refine lv_bipush (v := 24) C.1 C.2.1 dX11_likely_87 (by decide) ?_
          refine l_ald_n (x := some b0) C dX11_likely_89 hl 1 rfl rfl ?_
          refine l_ild C dX11_likely_90 hl 5 rfl ?_
          refine lv_iconst (v := 0) C.1 C.2.1 dX11_likely_92 (by decide) ?_
          refine k_call Ext.tr C I (k_V (r := some b0) (As := [.int l5, .int ((0 : Int32))]) (rest := [.int ((24 : Int32)), va_rf (some (b0 + moff 14)), .int (mA M5 14 ((((24 : Int32) * l1) + r2)).toNatClampNeg)]) (y := yX11_of) C (f_recv C I) q1789 q1791 qs78 (Or.inl rfl) q1792 (by decide) rfl pd_X11_of rfl dX11_likely_93) (ct_X11_of h) hl.1 dX11_likely_93 [.inl ((24 : Int32)), .inr (.inl (some (b0 + moff 14))), .inl (mA M5 14 ((((24 : Int32) * l1) + r2)).toNatClampNeg)] rfl (Nat.le_of_ble_eq_true rfl) (Or.inl rfl) q1792 q113 ⟨Nat.le_of_ble_eq_true rfl, Nat.le_of_ble_eq_true rfl⟩ (fun v x1 H locs cells slots ex hq I => ?_) (fun a x1 H locs cells slots ex hq I => hq.elim)
          obtain ⟨M7, rfl, r8, rfl, h⟩ := hq
          refine lv_imul C.1 C.2.1 dX11_likely_96 ?_
          refine l_ild C dX11_likely_97 hl 0 rfl ?_
          refine lv_iadd C.1 C.2.1 dX11_likely_99 ?_
          obtain ⟨hi, h⟩ := h
          refine f_ld (k := 14) C I (by decide) hi dX11_likely_100 ?_
          refine lv_icmp_eq (tgt := 107) C.1 C.2.1 dX11_likely_101 (by decide) (fun c12 => ?_) (fun c12 => ?_)
          · have h := h.1 c12
            refine l_ald_n (x := some b0) C dX11_likely_107 hl 1 rfl rfl ?_
            refine l_ild C dX11_likely_108 hl 5 rfl ?_
            refine lv_iconst (v := 4) C.1 C.2.1 dX11_likely_110 (by decide) ?_
            refine k_call Ext.tr C I (k_V (r := some b0) (As := [.int l5, .int ((4 : Int32))]) (rest := []) (y := yX11_of) C (f_recv C I) q1789 q1791 qs78 (Or.inl rfl) q1792 (by decide) rfl pd_X11_of rfl dX11_likely_111) (ct_X11_of h) hl.1 dX11_likely_111 [] rfl (Nat.le_of_ble_eq_true rfl) (Or.inl rfl) q1792 q113 ⟨Nat.le_of_ble_eq_true rfl, Nat.le_of_ble_eq_true rfl⟩ (fun v x1 H locs cells slots ex hq I => ?_) (fun a x1 H locs cells slots ex hq I => hq.elim)
            obtain ⟨M9, rfl, r10, rfl, h⟩ := hq
            refine lv_iconst (v := 1) C.1 C.2.1 dX11_likely_114 (by decide) ?_
            refine lv_icmp_ne (tgt := 126) C.1 C.2.1 dX11_likely_115 (by decide) (fun c11 => ?_) (fun c11 => ?_)
            · have h := h.1 c11
              refine l_lld_n C dX11_likely_126 hl 4 rfl rfl ?_
              exact b_X11_likely_127 C hk31 l1 l2 l3 l5 l3 M9 _ _ _ _ _ h I (hl.sub [1, 2, 3, 4, 5] rfl)
            · have h := h.2 c11
              refine lv_ldc2 C.1 C.2.1 C.2.2.2.1 (C.2.2.2.2.1.1.good q1878 _) dX11_likely_118 ?_
              refine l_lld_n C dX11_likely_121 hl 4 rfl rfl ?_
              refine lv_lsub C.1 C.2.1 dX11_likely_122 ?_
              refine lv_goto (tgt := 127) C.1 C.2.1 dX11_likely_123 (by decide) ?_
              exact b_X11_likely_127 C hk31 l1 l2 l3 l5 (((1000000 : Int64) - l3)) M9 _ _ _ _ _ h I (hl.sub [1, 2, 3, 4, 5] rfl)
          · have h := h.2 c12
            refine lv_goto (tgt := 222) C.1 C.2.1 dX11_likely_104 (by decide) ?_
            exact b_X11_likely_222 C hk31 l1 l2 l3 l5 M7 _ _ _ _ _ h I (hl.sub [1, 2, 3, 4, 5] rfl)
def w_X11_likely (Q : Int32 → MS → Prop) (p0 : Int32) (p1 : Int32) (M : MS) : Prop := ∀ M1 : MS, M1 = sF M 0 ((0 : Int32)) → w_X11_isWho (fun r3 M2 => ((r3 = 0) → (w_X11_likely_22 Q M2)) ∧ ((¬ r3 = 0) → (w_X11_isThing (fun r5 M4 => ((¬ r5 = 0) → (∃ n, w_X11_likely_31 Q n p0 p1 ((500000 : Int64)) ((0 : Int32)) M4)) ∧ ((r5 = 0) → (w_X11_likely_22 Q M4))) p1 M2))) p0 ((0 : Int32)) M1
theorem pd_X11_likely : (parseMethodDescriptor yX11_likely.desc).map (fun d => d.parameters.length) = some 2 := by decide +kernel
set_option maxHeartbeats 4000000 in
theorem ct_X11_likely {l : Launch} {D : va_G} {T : Nat → ClassId} {Z : Heap} {b0 z0 : Nat} {M0 : MS} {Q : Int32 → MS → Prop} {p0 : Int32} {p1 : Int32} (hw : w_X11_likely Q p0 p1 M0) : CT (twd D T Z) (Evd D T Z) l yX11_likely (Cond.code yX11_likely cX11_likely 13 (some .int)) 2 44 [va_rf (some b0), .int p0, .int p1] (mG b0 z0 M0) (mq b0 z0 (qI Q)) (fun _ _ => False) := by
  refine CT.ofW (cc := cX11_likely) (nL := 13) (ret := (some .int)) Ext.rf (by decide) (Or.inl rfl) ?_
  intro p e s m below meth c hx hb hml hown hr hlk hnm hcb hm hc hn hE I
  have C : Cx p s m meth c D T Z "EndingTownModel" cX11_likely 13 (some .int) := ⟨hx, hb, hml, hown, hE, hr, hlk⟩
  refine w_entry [.inr (.inl (some b0)), .inl p0, .inl p1] (Nat.le_of_ble_eq_true rfl) (fun ls hl => ?_)
  have hl : LH ls 13 [(0, .inr (.inl (some b0))), (1, .inl p0), (2, .inl p1)] := hl
  have h := hw
  refine l_ald_n (x := some b0) C dX11_likely_0 hl 0 rfl rfl ?_
  refine lv_iconst (v := 0) C.1 C.2.1 dX11_likely_1 (by decide) ?_
  refine f_PI C I (fp_X11_122) (by decide) dX11_likely_2 (fit_i _) (fun H locs M1 eM1 I => ?_)
  have h := h M1 eM1
  refine l_ald_n (x := some b0) C dX11_likely_5 hl 0 rfl rfl ?_
  refine l_ild_n C dX11_likely_6 hl 1 rfl rfl ?_
  refine lv_iconst (v := 0) C.1 C.2.1 dX11_likely_7 (by decide) ?_
  refine k_call Ext.tr C I (k_V (r := some b0) (As := [.int p0, .int ((0 : Int32))]) (rest := []) (y := yX11_isWho) C (f_recv C I) q1709 q1711 qs66 (Or.inl rfl) q1712 (by decide) rfl pd_X11_isWho rfl dX11_likely_8) (ct_X11_isWho h) hl.1 dX11_likely_8 [] rfl (Nat.le_of_ble_eq_true rfl) (Or.inl rfl) q1712 q113 ⟨Nat.le_of_ble_eq_true rfl, Nat.le_of_ble_eq_true rfl⟩ (fun v x1 H locs cells slots ex hq I => ?_) (fun a x1 H locs cells slots ex hq I => hq.elim)
  obtain ⟨M2, rfl, r3, rfl, h⟩ := hq
  refine lv_if_eq (tgt := 22) C.1 C.2.1 dX11_likely_11 (by decide) (fun c7 => ?_) (fun c7 => ?_)
  · have h := h.1 c7
    exact b_X11_likely_22 C M2 _ _ _ _ _ h I (hl.sub [] rfl)
  · have h := h.2 c7
    refine l_ald_n (x := some b0) C dX11_likely_14 hl 0 rfl rfl ?_
    refine l_ild_n C dX11_likely_15 hl 2 rfl rfl ?_
    refine k_call Ext.tr C I (k_V (r := some b0) (As := [.int p1]) (rest := []) (y := yX11_isThing) C (f_recv C I) q1717 q1719 qs67 (Or.inl rfl) q1720 (by decide) rfl pd_X11_isThing rfl dX11_likely_16) (ct_X11_isThing h) hl.1 dX11_likely_16 [] rfl (Nat.le_of_ble_eq_true rfl) (Or.inl rfl) q1720 q113 ⟨Nat.le_of_ble_eq_true rfl, Nat.le_of_ble_eq_true rfl⟩ (fun v x1 H locs cells slots ex hq I => ?_) (fun a x1 H locs cells slots ex hq I => hq.elim)
    obtain ⟨M4, rfl, r5, rfl, h⟩ := hq
    refine lv_if_ne (tgt := 24) C.1 C.2.1 dX11_likely_19 (by decide) (fun c6 => ?_) (fun c6 => ?_)
    · have h := h.1 c6
      refine lv_ldc2 C.1 C.2.1 C.2.2.2.1 (C.2.2.2.2.1.1.good q1877 _) dX11_likely_24 ?_
      refine l_lst_n C dX11_likely_27 rfl hl (by decide) rfl (fun ls hl => ?_)
      have hl : LH ls 13 [(3, .inr (.inr ((500000 : Int64)))), (0, .inr (.inl (some b0))), (1, .inl p0), (2, .inl p1)] := hl
      refine lv_iconst (v := 0) C.1 C.2.1 dX11_likely_28 (by decide) ?_
      refine l_ist C dX11_likely_29 hl (by decide) rfl (fun ls hl => ?_)
      have hl : LH ls 13 [(5, .inl ((0 : Int32))), (3, .inr (.inr ((500000 : Int64)))), (0, .inr (.inl (some b0))), (1, .inl p0), (2, .inl p1)] := hl
      obtain ⟨n, h⟩ := h
      exact b_X11_likely_31 C n p0 p1 ((500000 : Int64)) ((0 : Int32)) M4 _ _ _ _ _ h I (hl.sub [2, 3, 4, 1, 0] rfl)
    · have h := h.2 c6
      exact b_X11_likely_22 C M4 _ _ _ _ _ h I (hl.sub [] rfl)
def w_X11_worlds_33 (Q : Int32 → MS → Prop) (l1 : Int32) (t0 : Int32) (M : MS) : Prop := w_X11_right (fun r2 M1 => ((¬ r2 = 0) → (∀ M3 : MS, M3 = sF M1 67 l1 → w_X11_bits (fun r5 M4 => ∀ M6 : MS, M6 = sF M4 68 ((((1 : Int32) <<< (((1 : Int32) <<< (r5 &&& 31)) &&& 31)) - (1 : Int32))) → w_X11_bits (fun r8 M7 => Q r8 M7) (mF M6 68) M6) l1 M3)) ∧ ((r2 = 0) → (Q ((0 : Int32)) M1))) t0 ((1 : Int32)) M
set_option maxHeartbeats 4000000 in
theorem b_X11_worlds_33 {b0 z0 : Nat} {M0 : MS} {Q : Int32 → MS → Prop} (C : Cx p s m meth c D T Z "EndingTownModel" cX11_worlds 2 (some .int)) : ∀ (l1 : Int32) (t0 : Int32) (M : MS) (H : Heap) (locs : List Loc) (cells slots : Nat) (ls : Array Slot), w_X11_worlds_33 Q l1 t0 M → HI (twd D T Z) (mG b0 z0 M0) s (rmX (twd D T Z) 1 22 (mG b0 z0 M0)) H locs cells slots (mG b0 z0 M) → LH ls 2 [(0, .inr (.inl (some b0))), (1, .inl l1)] → W p l e (rmX (twd D T Z) 1 22 (mG b0 z0 M0)) s m args below meth c H locs cells slots (MQX (twd D T Z) (mG b0 z0 M0) (mq b0 z0 (qI Q)) (fun _ _ => False) below s) (F0 m 33 ls [.int t0, va_rf (some b0)]) := by
  intro l1 t0 M H locs cells slots ls h I hl
  refine lv_iconst (v := 1) C.1 C.2.1 dX11_worlds_33 (by decide) ?_
  refine k_call Ext.tr C I (k_V (r := some b0) (As := [.int t0, .int ((1 : Int32))]) (rest := []) (y := yX11_right) C (f_recv C I) q1603 q1605 qs47 (Or.inl rfl) q1606 (by decide) rfl pd_X11_right rfl dX11_worlds_34) (ct_X11_right h) hl.1 dX11_worlds_34 [] rfl (Nat.le_of_ble_eq_true rfl) (Or.inl rfl) q1606 q113 ⟨Nat.le_of_ble_eq_true rfl, Nat.le_of_ble_eq_true rfl⟩ (fun v x1 H locs cells slots ex hq I => ?_) (fun a x1 H locs cells slots ex hq I => hq.elim)
  obtain ⟨M1, rfl, r2, rfl, h⟩ := hq
  refine lv_if_ne (tgt := 42) C.1 C.2.1 dX11_worlds_37 (by decide) (fun c9 => ?_) (fun c9 => ?_)
  · have h := h.1 c9
    refine l_ald_n (x := some b0) C dX11_worlds_42 hl 0 rfl rfl ?_
    refine l_ild_n C dX11_worlds_43 hl 1 rfl rfl ?_
    refine f_PI C I (fp_X11_282) (by decide) dX11_worlds_44 (fit_i _) (fun H locs M3 eM3 I => ?_)
    have h := h M3 eM3
    refine l_ald_n (x := some b0) C dX11_worlds_47 hl 0 rfl rfl ?_
    refine lv_iconst (v := 1) C.1 C.2.1 dX11_worlds_48 (by decide) ?_
    refine lv_iconst (v := 1) C.1 C.2.1 dX11_worlds_49 (by decide) ?_
    refine l_ild_n C dX11_worlds_50 hl 1 rfl rfl ?_
    refine k_call Ext.tr C I (k_S (As := [.int l1]) (rest := [.int ((1 : Int32)), .int ((1 : Int32)), va_rf (some b0)]) (y := yX11_bits) C q1702 q1703 q113 (Or.inl rfl) q1704 (by decide) rfl pd_X11_bits rfl dX11_worlds_51) (ct_X11_bits h) hl.1 dX11_worlds_51 [.inl ((1 : Int32)), .inl ((1 : Int32)), .inr (.inl (some b0))] rfl (Nat.le_of_ble_eq_true rfl) (Or.inl rfl) q1704 q113 ⟨Nat.le_of_ble_eq_true rfl, Nat.le_of_ble_eq_true rfl⟩ (fun v x1 H locs cells slots ex hq I => ?_) (fun a x1 H locs cells slots ex hq I => hq.elim)
    obtain ⟨M4, rfl, r5, rfl, h⟩ := hq
    refine lv_ishl C.1 C.2.1 dX11_worlds_54 ?_
    refine lv_ishl C.1 C.2.1 dX11_worlds_55 ?_
    refine lv_iconst (v := 1) C.1 C.2.1 dX11_worlds_56 (by decide) ?_
    refine lv_isub C.1 C.2.1 dX11_worlds_57 ?_
    refine f_PI C I (fp_X11_285) (by decide) dX11_worlds_58 (fit_i _) (fun H locs M6 eM6 I => ?_)
    have h := h M6 eM6
    refine l_ald_n (x := some b0) C dX11_worlds_61 hl 0 rfl rfl ?_
    refine f_I C I (fl_X11_285) (by decide) dX11_worlds_62 ?_
    refine k_call Ext.tr C I (k_S (As := [.int (mF M6 68)]) (rest := []) (y := yX11_bits) C q1702 q1703 q113 (Or.inl rfl) q1704 (by decide) rfl pd_X11_bits rfl dX11_worlds_65) (ct_X11_bits h) hl.1 dX11_worlds_65 [] rfl (Nat.le_of_ble_eq_true rfl) (Or.inl rfl) q1704 q113 ⟨Nat.le_of_ble_eq_true rfl, Nat.le_of_ble_eq_true rfl⟩ (fun v x1 H locs cells slots ex hq I => ?_) (fun a x1 H locs cells slots ex hq I => hq.elim)
    obtain ⟨M7, rfl, r8, rfl, h⟩ := hq
    exact r_int C.1 C.2.1 C.2.2.2.2.2.1 rfl C.2.2.2.2.2.2 ⟨rfl, rfl⟩ I dX11_worlds_68 ⟨_, rfl, _, rfl, h⟩
  · have h := h.2 c9
    refine lv_iconst (v := 0) C.1 C.2.1 dX11_worlds_40 (by decide) ?_
    exact r_int C.1 C.2.1 C.2.2.2.2.2.1 rfl C.2.2.2.2.2.2 ⟨rfl, rfl⟩ I dX11_worlds_41 ⟨_, rfl, _, rfl, h⟩
def w_X11_worlds_32 (Q : Int32 → MS → Prop) (l1 : Int32) (M : MS) : Prop := w_X11_worlds_33 Q l1 ((0 : Int32)) M
set_option maxHeartbeats 4000000 in
theorem b_X11_worlds_32 {b0 z0 : Nat} {M0 : MS} {Q : Int32 → MS → Prop} (C : Cx p s m meth c D T Z "EndingTownModel" cX11_worlds 2 (some .int)) : ∀ (l1 : Int32) (M : MS) (H : Heap) (locs : List Loc) (cells slots : Nat) (ls : Array Slot), w_X11_worlds_32 Q l1 M → HI (twd D T Z) (mG b0 z0 M0) s (rmX (twd D T Z) 1 22 (mG b0 z0 M0)) H locs cells slots (mG b0 z0 M) → LH ls 2 [(0, .inr (.inl (some b0))), (1, .inl l1)] → W p l e (rmX (twd D T Z) 1 22 (mG b0 z0 M0)) s m args below meth c H locs cells slots (MQX (twd D T Z) (mG b0 z0 M0) (mq b0 z0 (qI Q)) (fun _ _ => False) below s) (F0 m 32 ls [va_rf (some b0)]) := by
  intro l1 M H locs cells slots ls h I hl
  refine lv_iconst (v := 0) C.1 C.2.1 dX11_worlds_32 (by decide) ?_
  exact b_X11_worlds_33 C l1 ((0 : Int32)) M _ _ _ _ _ h I (hl.sub [0, 1] rfl)
def w_X11_worlds (Q : Int32 → MS → Prop) (p0 : Int32) (M : MS) : Prop := ∀ M1 : MS, M1 = sF M 0 ((0 : Int32)) → ((p0 ≤ 0) → (w_X11_worlds_32 Q p0 M1)) ∧ ((¬ p0 ≤ 0) → (((((1 : Int32) <<< (mF M1 5 &&& 31)) ≤ p0) → (w_X11_worlds_32 Q p0 M1)) ∧ ((¬ ((1 : Int32) <<< (mF M1 5 &&& 31)) ≤ p0) → (w_X11_bits (fun r3 M2 => (((4 : Int32) < r3) → (w_X11_worlds_32 Q p0 M2)) ∧ ((¬ (4 : Int32) < r3) → (w_X11_worlds_33 Q p0 ((1 : Int32)) M2))) p0 M1))))
theorem pd_X11_worlds : (parseMethodDescriptor yX11_worlds.desc).map (fun d => d.parameters.length) = some 1 := by decide +kernel
set_option maxHeartbeats 4000000 in
theorem ct_X11_worlds {l : Launch} {D : va_G} {T : Nat → ClassId} {Z : Heap} {b0 z0 : Nat} {M0 : MS} {Q : Int32 → MS → Prop} {p0 : Int32} (hw : w_X11_worlds Q p0 M0) : CT (twd D T Z) (Evd D T Z) l yX11_worlds (Cond.code yX11_worlds cX11_worlds 2 (some .int)) 1 22 [va_rf (some b0), .int p0] (mG b0 z0 M0) (mq b0 z0 (qI Q)) (fun _ _ => False) := by
  refine CT.ofW (cc := cX11_worlds) (nL := 2) (ret := (some .int)) Ext.rf (by decide) (Or.inl rfl) ?_
  intro p e s m below meth c hx hb hml hown hr hlk hnm hcb hm hc hn hE I
  have C : Cx p s m meth c D T Z "EndingTownModel" cX11_worlds 2 (some .int) := ⟨hx, hb, hml, hown, hE, hr, hlk⟩
  refine w_entry [.inr (.inl (some b0)), .inl p0] (Nat.le_of_ble_eq_true rfl) (fun ls hl => ?_)
  have hl : LH ls 2 [(0, .inr (.inl (some b0))), (1, .inl p0)] := hl
  have h := hw
  refine l_ald_n (x := some b0) C dX11_worlds_0 hl 0 rfl rfl ?_
  refine lv_iconst (v := 0) C.1 C.2.1 dX11_worlds_1 (by decide) ?_
  refine f_PI C I (fp_X11_122) (by decide) dX11_worlds_2 (fit_i _) (fun H locs M1 eM1 I => ?_)
  have h := h M1 eM1
  refine l_ald_n (x := some b0) C dX11_worlds_5 hl 0 rfl rfl ?_
  refine l_ild_n C dX11_worlds_6 hl 1 rfl rfl ?_
  refine lv_if_le (tgt := 32) C.1 C.2.1 dX11_worlds_7 (by decide) (fun c6 => ?_) (fun c6 => ?_)
  · have h := h.1 c6
    exact b_X11_worlds_32 C p0 M1 _ _ _ _ _ h I (hl.sub [0, 1] rfl)
  · have h := h.2 c6
    refine l_ild_n C dX11_worlds_10 hl 1 rfl rfl ?_
    refine lv_iconst (v := 1) C.1 C.2.1 dX11_worlds_11 (by decide) ?_
    refine l_ald_n (x := some b0) C dX11_worlds_12 hl 0 rfl rfl ?_
    refine f_I C I (fl_X11_269) (by decide) dX11_worlds_13 ?_
    refine lv_ishl C.1 C.2.1 dX11_worlds_16 ?_
    refine lv_icmp_ge (tgt := 32) C.1 C.2.1 dX11_worlds_17 (by decide) (fun c5 => ?_) (fun c5 => ?_)
    · have h := h.1 c5
      exact b_X11_worlds_32 C p0 M1 _ _ _ _ _ h I (hl.sub [0, 1] rfl)
    · have h := h.2 c5
      refine l_ild_n C dX11_worlds_20 hl 1 rfl rfl ?_
      refine k_call Ext.tr C I (k_S (As := [.int p0]) (rest := [va_rf (some b0)]) (y := yX11_bits) C q1702 q1703 q113 (Or.inl rfl) q1704 (by decide) rfl pd_X11_bits rfl dX11_worlds_21) (ct_X11_bits h) hl.1 dX11_worlds_21 [.inr (.inl (some b0))] rfl (Nat.le_of_ble_eq_true rfl) (Or.inl rfl) q1704 q113 ⟨Nat.le_of_ble_eq_true rfl, Nat.le_of_ble_eq_true rfl⟩ (fun v x1 H locs cells slots ex hq I => ?_) (fun a x1 H locs cells slots ex hq I => hq.elim)
      obtain ⟨M2, rfl, r3, rfl, h⟩ := hq
      refine lv_iconst (v := 4) C.1 C.2.1 dX11_worlds_24 (by decide) ?_
      refine lv_icmp_gt (tgt := 32) C.1 C.2.1 dX11_worlds_25 (by decide) (fun c4 => ?_) (fun c4 => ?_)
      · have h := h.1 c4
        exact b_X11_worlds_32 C p0 M2 _ _ _ _ _ h I (hl.sub [0, 1] rfl)
      · have h := h.2 c4
        refine lv_iconst (v := 1) C.1 C.2.1 dX11_worlds_28 (by decide) ?_
        refine lv_goto (tgt := 33) C.1 C.2.1 dX11_worlds_29 (by decide) ?_
        exact b_X11_worlds_33 C p0 ((1 : Int32)) M2 _ _ _ _ _ h I (hl.sub [0, 1] rfl)
def w_X11_low_23 (Q : Int32 → MS → Prop) : Nat → Int32 → Int32 → MS → Prop
  | 0 => fun _ _ _ => False
  | f23 + 1 => fun l2 l3 M => ((¬ ((l2 >>> (l3 &&& 31)) &&& (1 : Int32)) = 0) → (Q l3 M)) ∧ ((((l2 >>> (l3 &&& 31)) &&& (1 : Int32)) = 0) → ((w_X11_low_23 Q f23) l2 ((l3 + 1)) M))
set_option maxHeartbeats 4000000 in
theorem b_X11_low_23 {b0 z0 : Nat} {M0 : MS} {Q : Int32 → MS → Prop} (C : Cx p s m meth c D T Z "EndingTownModel" cX11_low 4 (some .int)) : ∀ (n : Nat) (l2 : Int32) (l3 : Int32) (M : MS) (H : Heap) (locs : List Loc) (cells slots : Nat) (ls : Array Slot), w_X11_low_23 Q n l2 l3 M → HI (twd D T Z) (mG b0 z0 M0) s (rmX (twd D T Z) 0 0 (mG b0 z0 M0)) H locs cells slots (mG b0 z0 M) → LH ls 4 [(2, .inl l2), (3, .inl l3)] → W p l e (rmX (twd D T Z) 0 0 (mG b0 z0 M0)) s m args below meth c H locs cells slots (MQX (twd D T Z) (mG b0 z0 M0) (mq b0 z0 (qI Q)) (fun _ _ => False) below s) (F0 m 23 ls []) := by
  intro n
  induction n with
  | zero => intro l2 l3 M H locs cells slots ls h; exact (show False from h).elim
  | succ n ih =>
    intro l2 l3 M H locs cells slots ls h I hl
    have hk23 := ih
    refine l_ild_n C dX11_low_23 hl 0 rfl rfl ?_
    refine l_ild_n C dX11_low_24 hl 1 rfl rfl ?_
    refine lv_ishr C.1 C.2.1 dX11_low_25 ?_
    refine lv_iconst (v := 1) C.1 C.2.1 dX11_low_26 (by decide) ?_
    refine lv_iand C.1 C.2.1 dX11_low_27 ?_
    refine lv_if_ne (tgt := 37) C.1 C.2.1 dX11_low_28 (by decide) (fun c1 => ?_) (fun c1 => ?_)
    · have h := h.1 c1
      refine l_ild_n C dX11_low_37 hl 1 rfl rfl ?_
      exact r_int C.1 C.2.1 C.2.2.2.2.2.1 rfl C.2.2.2.2.2.2 ⟨rfl, rfl⟩ I dX11_low_38 ⟨_, rfl, _, rfl, h⟩
    · have h := h.2 c1
      refine l_inc (q := 1) (v := 1) C dX11_low_31 hl rfl (by decide) (by decide) rfl (fun ls hl => ?_)
      have hl : LH ls 4 [(3, .inl ((l3 + 1))), (2, .inl l2)] := hl
      refine lv_goto (tgt := 23) C.1 C.2.1 dX11_low_34 (by decide) ?_
      exact hk23 l2 ((l3 + 1)) M _ _ _ _ _ h I (hl.sub [1, 0] rfl)
def w_X11_low_4 (Q : Int32 → MS → Prop) : Nat → Int32 → Int32 → Int32 → MS → Prop
  | 0 => fun _ _ _ _ => False
  | f4 + 1 => fun l1 l2 l3 M => ((l1 ≤ l3) → (∃ n, w_X11_low_23 Q n l2 ((0 : Int32)) M)) ∧ ((¬ l1 ≤ l3) → ((w_X11_low_4 Q f4) l1 ((l2 &&& (l2 - (1 : Int32)))) ((l3 + 1)) M))
set_option maxHeartbeats 4000000 in
theorem b_X11_low_4 {b0 z0 : Nat} {M0 : MS} {Q : Int32 → MS → Prop} (C : Cx p s m meth c D T Z "EndingTownModel" cX11_low 4 (some .int)) : ∀ (n : Nat) (l1 : Int32) (l2 : Int32) (l3 : Int32) (M : MS) (H : Heap) (locs : List Loc) (cells slots : Nat) (ls : Array Slot), w_X11_low_4 Q n l1 l2 l3 M → HI (twd D T Z) (mG b0 z0 M0) s (rmX (twd D T Z) 0 0 (mG b0 z0 M0)) H locs cells slots (mG b0 z0 M) → LH ls 4 [(1, .inl l1), (2, .inl l2), (3, .inl l3)] → W p l e (rmX (twd D T Z) 0 0 (mG b0 z0 M0)) s m args below meth c H locs cells slots (MQX (twd D T Z) (mG b0 z0 M0) (mq b0 z0 (qI Q)) (fun _ _ => False) below s) (F0 m 4 ls []) := by
  intro n
  induction n with
  | zero => intro l1 l2 l3 M H locs cells slots ls h; exact (show False from h).elim
  | succ n ih =>
    intro l1 l2 l3 M H locs cells slots ls h I hl
    have hk4 := ih
    refine l_ild_n C dX11_low_4 hl 2 rfl rfl ?_
    refine l_ild_n C dX11_low_5 hl 0 rfl rfl ?_
    refine lv_icmp_ge (tgt := 21) C.1 C.2.1 dX11_low_6 (by decide) (fun c1 => ?_) (fun c1 => ?_)
    · have h := h.1 c1
      refine lv_iconst (v := 0) C.1 C.2.1 dX11_low_21 (by decide) ?_
      refine l_ist_n C dX11_low_22 rfl hl (by decide) rfl (fun ls hl => ?_)
      have hl : LH ls 4 [(3, .inl ((0 : Int32))), (1, .inl l1), (2, .inl l2)] := hl
      obtain ⟨n, h⟩ := h
      exact b_X11_low_23 C n l2 ((0 : Int32)) M _ _ _ _ _ h I (hl.sub [2, 0] rfl)
    · have h := h.2 c1
      refine l_ild_n C dX11_low_9 hl 1 rfl rfl ?_
      refine l_ild_n C dX11_low_10 hl 1 rfl rfl ?_
      refine lv_iconst (v := 1) C.1 C.2.1 dX11_low_11 (by decide) ?_
      refine lv_isub C.1 C.2.1 dX11_low_12 ?_
      refine lv_iand C.1 C.2.1 dX11_low_13 ?_
      refine l_ist_n C dX11_low_14 rfl hl (by decide) rfl (fun ls hl => ?_)
      have hl : LH ls 4 [(2, .inl ((l2 &&& (l2 - (1 : Int32))))), (1, .inl l1), (3, .inl l3)] := hl
      refine l_inc (q := 2) (v := 1) C dX11_low_15 hl rfl (by decide) (by decide) rfl (fun ls hl => ?_)
      have hl : LH ls 4 [(3, .inl ((l3 + 1))), (2, .inl ((l2 &&& (l2 - (1 : Int32))))), (1, .inl l1)] := hl
      refine lv_goto (tgt := 4) C.1 C.2.1 dX11_low_18 (by decide) ?_
      exact hk4 l1 ((l2 &&& (l2 - (1 : Int32)))) ((l3 + 1)) M _ _ _ _ _ h I (hl.sub [2, 1, 0] rfl)
def w_X11_low (Q : Int32 → MS → Prop) (p0 : Int32) (p1 : Int32) (M : MS) : Prop := ∃ n, w_X11_low_4 Q n p1 p0 ((0 : Int32)) M
theorem pd_X11_low : (parseMethodDescriptor yX11_low.desc).map (fun d => d.parameters.length) = some 2 := by decide +kernel
set_option maxHeartbeats 4000000 in
theorem ct_X11_low {l : Launch} {D : va_G} {T : Nat → ClassId} {Z : Heap} {b0 z0 : Nat} {M0 : MS} {Q : Int32 → MS → Prop} {p0 : Int32} {p1 : Int32} (hw : w_X11_low Q p0 p1 M0) : CT (twd D T Z) (Evd D T Z) l yX11_low (Cond.code yX11_low cX11_low 4 (some .int)) 0 0 [.int p0, .int p1] (mG b0 z0 M0) (mq b0 z0 (qI Q)) (fun _ _ => False) := by
  refine CT.ofW (cc := cX11_low) (nL := 4) (ret := (some .int)) Ext.rf (by decide) (Or.inl rfl) ?_
  intro p e s m below meth c hx hb hml hown hr hlk hnm hcb hm hc hn hE I
  have C : Cx p s m meth c D T Z "EndingTownModel" cX11_low 4 (some .int) := ⟨hx, hb, hml, hown, hE, hr, hlk⟩
  refine w_entry [.inl p0, .inl p1] (Nat.le_of_ble_eq_true rfl) (fun ls hl => ?_)
  have hl : LH ls 4 [(0, .inl p0), (1, .inl p1)] := hl
  have h := hw
  refine l_ild_n C dX11_low_0 hl 0 rfl rfl ?_
  refine l_ist_n C dX11_low_1 rfl hl (by decide) rfl (fun ls hl => ?_)
  have hl : LH ls 4 [(2, .inl p0), (0, .inl p0), (1, .inl p1)] := hl
  refine lv_iconst (v := 0) C.1 C.2.1 dX11_low_2 (by decide) ?_
  refine l_ist_n C dX11_low_3 rfl hl (by decide) rfl (fun ls hl => ?_)
  have hl : LH ls 4 [(3, .inl ((0 : Int32))), (2, .inl p0), (0, .inl p0), (1, .inl p1)] := hl
  obtain ⟨n, h⟩ := h
  exact b_X11_low_4 C n p1 p0 ((0 : Int32)) M0 _ _ _ _ _ h I (hl.sub [3, 1, 0] rfl)
def w_X11_seenBy_68 (Q : Int32 → MS → Prop) (k4 : Int32 → Int32 → Int32 → MS → Prop) (l1 : Int32) (l3 : Int32) (t0 : Int32) (t1 : Int32) (M : MS) : Prop := k4 l1 ((t1 ||| t0)) ((l3 + 1)) M
set_option maxHeartbeats 4000000 in
theorem b_X11_seenBy_68 {b0 z0 : Nat} {M0 : MS} {Q : Int32 → MS → Prop} {k4 : Int32 → Int32 → Int32 → MS → Prop} (C : Cx p s m meth c D T Z "EndingTownModel" cX11_seenBy 5 (some .int)) (hk4 : ∀ (l1 : Int32) (l2 : Int32) (l3 : Int32) (M : MS) (H : Heap) (locs : List Loc) (cells slots : Nat) (ls : Array Slot), k4 l1 l2 l3 M → HI (twd D T Z) (mG b0 z0 M0) s (rmX (twd D T Z) 1 23 (mG b0 z0 M0)) H locs cells slots (mG b0 z0 M) → LH ls 5 [(0, .inr (.inl (some b0))), (1, .inl l1), (2, .inl l2), (3, .inl l3)] → W p l e (rmX (twd D T Z) 1 23 (mG b0 z0 M0)) s m args below meth c H locs cells slots (MQX (twd D T Z) (mG b0 z0 M0) (mq b0 z0 (qI Q)) (fun _ _ => False) below s) (F0 m 4 ls [])) : ∀ (l1 : Int32) (l3 : Int32) (t0 : Int32) (t1 : Int32) (M : MS) (H : Heap) (locs : List Loc) (cells slots : Nat) (ls : Array Slot), w_X11_seenBy_68 Q k4 l1 l3 t0 t1 M → HI (twd D T Z) (mG b0 z0 M0) s (rmX (twd D T Z) 1 23 (mG b0 z0 M0)) H locs cells slots (mG b0 z0 M) → LH ls 5 [(0, .inr (.inl (some b0))), (1, .inl l1), (3, .inl l3)] → W p l e (rmX (twd D T Z) 1 23 (mG b0 z0 M0)) s m args below meth c H locs cells slots (MQX (twd D T Z) (mG b0 z0 M0) (mq b0 z0 (qI Q)) (fun _ _ => False) below s) (F0 m 68 ls [.int t0, .int t1]) := by
  intro l1 l3 t0 t1 M H locs cells slots ls h I hl
  refine lv_ior C.1 C.2.1 dX11_seenBy_68 ?_
  refine l_ist_n C dX11_seenBy_69 rfl hl (by decide) rfl (fun ls hl => ?_)
  have hl : LH ls 5 [(2, .inl ((t1 ||| t0))), (0, .inr (.inl (some b0))), (1, .inl l1), (3, .inl l3)] := hl
  refine l_inc (q := 3) (v := 1) C dX11_seenBy_70 hl rfl (by decide) (by decide) rfl (fun ls hl => ?_)
  have hl : LH ls 5 [(3, .inl ((l3 + 1))), (2, .inl ((t1 ||| t0))), (0, .inr (.inl (some b0))), (1, .inl l1)] := hl
  refine lv_goto (tgt := 4) C.1 C.2.1 dX11_seenBy_73 (by decide) ?_
  exact hk4 l1 ((t1 ||| t0)) ((l3 + 1)) M _ _ _ _ _ h I (hl.sub [2, 3, 1, 0] rfl)
def w_X11_seenBy_4 (Q : Int32 → MS → Prop) : Nat → Int32 → Int32 → Int32 → MS → Prop
  | 0 => fun _ _ _ _ => False
  | f4 + 1 => fun l1 l2 l3 M => w_X11_bits (fun r2 M1 => ((r2 ≤ l3) → (Q l2 M1)) ∧ ((¬ r2 ≤ l3) → (w_X11_low (fun r4 M3 => vp_in ((((5 : Int32) * r4) + (2 : Int32))) (mlen 11) ∧ vp_in ((((24 : Int32) * l1) + mA M3 11 ((((5 : Int32) * r4) + (2 : Int32))).toNatClampNeg)) (mlen 14) ∧ vp_in ((((5 : Int32) * r4) + (1 : Int32))) (mlen 11) ∧ ((¬ mA M3 14 ((((24 : Int32) * l1) + mA M3 11 ((((5 : Int32) * r4) + (2 : Int32))).toNatClampNeg)).toNatClampNeg = mA M3 11 ((((5 : Int32) * r4) + (1 : Int32))).toNatClampNeg) → (w_X11_seenBy_68 Q (w_X11_seenBy_4 Q f4) l1 l3 ((0 : Int32)) l2 M3)) ∧ ((mA M3 14 ((((24 : Int32) * l1) + mA M3 11 ((((5 : Int32) * r4) + (2 : Int32))).toNatClampNeg)).toNatClampNeg = mA M3 11 ((((5 : Int32) * r4) + (1 : Int32))).toNatClampNeg) → (w_X11_seenBy_68 Q (w_X11_seenBy_4 Q f4) l1 l3 (((1 : Int32) <<< (l3 &&& 31))) l2 M3))) (mF M1 67) l3 M1))) (mF M 67) M
set_option maxHeartbeats 4000000 in
theorem b_X11_seenBy_4 {b0 z0 : Nat} {M0 : MS} {Q : Int32 → MS → Prop} (C : Cx p s m meth c D T Z "EndingTownModel" cX11_seenBy 5 (some .int)) : ∀ (n : Nat) (l1 : Int32) (l2 : Int32) (l3 : Int32) (M : MS) (H : Heap) (locs : List Loc) (cells slots : Nat) (ls : Array Slot), w_X11_seenBy_4 Q n l1 l2 l3 M → HI (twd D T Z) (mG b0 z0 M0) s (rmX (twd D T Z) 1 23 (mG b0 z0 M0)) H locs cells slots (mG b0 z0 M) → LH ls 5 [(0, .inr (.inl (some b0))), (1, .inl l1), (2, .inl l2), (3, .inl l3)] → W p l e (rmX (twd D T Z) 1 23 (mG b0 z0 M0)) s m args below meth c H locs cells slots (MQX (twd D T Z) (mG b0 z0 M0) (mq b0 z0 (qI Q)) (fun _ _ => False) below s) (F0 m 4 ls []) := by
  intro n
  induction n with
  | zero => intro l1 l2 l3 M H locs cells slots ls h; exact (show False from h).elim
  | succ n ih =>
    intro l1 l2 l3 M H locs cells slots ls h I hl
    have hk4 := ih
    refine l_ild_n C dX11_seenBy_4 hl 3 rfl rfl ?_
    refine l_ald_n (x := some b0) C dX11_seenBy_5 hl 0 rfl rfl ?_
    refine f_I C I (fl_X11_282) (by decide) dX11_seenBy_6 ?_
    refine k_call Ext.tr C I (k_S (As := [.int (mF M 67)]) (rest := [.int l3]) (y := yX11_bits) C q1702 q1703 q113 (Or.inl rfl) q1704 (by decide) rfl pd_X11_bits rfl dX11_seenBy_9) (ct_X11_bits h) hl.1 dX11_seenBy_9 [.inl l3] rfl (Nat.le_of_ble_eq_true rfl) (Or.inl rfl) q1704 q113 ⟨Nat.le_of_ble_eq_true rfl, Nat.le_of_ble_eq_true rfl⟩ (fun v x1 H locs cells slots ex hq I => ?_) (fun a x1 H locs cells slots ex hq I => hq.elim)
    obtain ⟨M1, rfl, r2, rfl, h⟩ := hq
    refine lv_icmp_ge (tgt := 76) C.1 C.2.1 dX11_seenBy_12 (by decide) (fun c6 => ?_) (fun c6 => ?_)
    · have h := h.1 c6
      refine l_ild_n C dX11_seenBy_76 hl 2 rfl rfl ?_
      exact r_int C.1 C.2.1 C.2.2.2.2.2.1 rfl C.2.2.2.2.2.2 ⟨rfl, rfl⟩ I dX11_seenBy_77 ⟨_, rfl, _, rfl, h⟩
    · have h := h.2 c6
      refine l_ald_n (x := some b0) C dX11_seenBy_15 hl 0 rfl rfl ?_
      refine f_I C I (fl_X11_282) (by decide) dX11_seenBy_16 ?_
      refine l_ild_n C dX11_seenBy_19 hl 3 rfl rfl ?_
      refine k_call Ext.tr C I (k_S (As := [.int (mF M1 67), .int l3]) (rest := []) (y := yX11_low) C q1903 q1904 q113 (Or.inl rfl) q1905 (by decide) rfl pd_X11_low rfl dX11_seenBy_20) (ct_X11_low h) hl.1 dX11_seenBy_20 [] rfl (Nat.le_of_ble_eq_true rfl) (Or.inl rfl) q1905 q113 ⟨Nat.le_of_ble_eq_true rfl, Nat.le_of_ble_eq_true rfl⟩ (fun v x1 H locs cells slots ex hq I => ?_) (fun a x1 H locs cells slots ex hq I => hq.elim)
      obtain ⟨M3, rfl, r4, rfl, h⟩ := hq
      refine l_ist C dX11_seenBy_23 hl (by decide) rfl (fun ls hl => ?_)
      have hl : LH ls 5 [(4, .inl r4), (0, .inr (.inl (some b0))), (1, .inl l1), (2, .inl l2), (3, .inl l3)] := hl
      refine l_ild_n C dX11_seenBy_25 hl 3 rfl rfl ?_
      refine l_ald_n (x := some b0) C dX11_seenBy_26 hl 1 rfl rfl ?_
      refine f_A C I (fl_X11_35) (by decide) (by decide) dX11_seenBy_27 ?_
      refine lv_bipush (v := 24) C.1 C.2.1 dX11_seenBy_30 (by decide) ?_
      refine l_ild_n C dX11_seenBy_32 hl 2 rfl rfl ?_
      refine lv_imul C.1 C.2.1 dX11_seenBy_33 ?_
      refine l_ald_n (x := some b0) C dX11_seenBy_34 hl 1 rfl rfl ?_
      refine f_A C I (fl_X11_26) (by decide) (by decide) dX11_seenBy_35 ?_
      refine lv_iconst (v := 5) C.1 C.2.1 dX11_seenBy_38 (by decide) ?_
      refine l_ild C dX11_seenBy_39 hl 0 rfl ?_
      refine lv_imul C.1 C.2.1 dX11_seenBy_41 ?_
      refine lv_iconst (v := 2) C.1 C.2.1 dX11_seenBy_42 (by decide) ?_
      refine lv_iadd C.1 C.2.1 dX11_seenBy_43 ?_
      obtain ⟨hi, h⟩ := h
      refine f_ld (k := 11) C I (by decide) hi dX11_seenBy_44 ?_
      refine lv_iadd C.1 C.2.1 dX11_seenBy_45 ?_
      obtain ⟨hi, h⟩ := h
      refine f_ld (k := 14) C I (by decide) hi dX11_seenBy_46 ?_
      refine l_ald_n (x := some b0) C dX11_seenBy_47 hl 1 rfl rfl ?_
      refine f_A C I (fl_X11_26) (by decide) (by decide) dX11_seenBy_48 ?_
      refine lv_iconst (v := 5) C.1 C.2.1 dX11_seenBy_51 (by decide) ?_
      refine l_ild C dX11_seenBy_52 hl 0 rfl ?_
      refine lv_imul C.1 C.2.1 dX11_seenBy_54 ?_
      refine lv_iconst (v := 1) C.1 C.2.1 dX11_seenBy_55 (by decide) ?_
      refine lv_iadd C.1 C.2.1 dX11_seenBy_56 ?_
      obtain ⟨hi, h⟩ := h
      refine f_ld (k := 11) C I (by decide) hi dX11_seenBy_57 ?_
      refine lv_icmp_ne (tgt := 67) C.1 C.2.1 dX11_seenBy_58 (by decide) (fun c5 => ?_) (fun c5 => ?_)
      · have h := h.1 c5
        refine lv_iconst (v := 0) C.1 C.2.1 dX11_seenBy_67 (by decide) ?_
        exact b_X11_seenBy_68 C hk4 l1 l3 ((0 : Int32)) l2 M3 _ _ _ _ _ h I (hl.sub [1, 2, 4] rfl)
      · have h := h.2 c5
        refine lv_iconst (v := 1) C.1 C.2.1 dX11_seenBy_61 (by decide) ?_
        refine l_ild_n C dX11_seenBy_62 hl 4 rfl rfl ?_
        refine lv_ishl C.1 C.2.1 dX11_seenBy_63 ?_
        refine lv_goto (tgt := 68) C.1 C.2.1 dX11_seenBy_64 (by decide) ?_
        exact b_X11_seenBy_68 C hk4 l1 l3 (((1 : Int32) <<< (l3 &&& 31))) l2 M3 _ _ _ _ _ h I (hl.sub [1, 2, 4] rfl)
def w_X11_seenBy (Q : Int32 → MS → Prop) (p0 : Int32) (M : MS) : Prop := ∃ n, w_X11_seenBy_4 Q n p0 ((0 : Int32)) ((0 : Int32)) M
theorem pd_X11_seenBy : (parseMethodDescriptor yX11_seenBy.desc).map (fun d => d.parameters.length) = some 1 := by decide +kernel
set_option maxHeartbeats 4000000 in
theorem ct_X11_seenBy {l : Launch} {D : va_G} {T : Nat → ClassId} {Z : Heap} {b0 z0 : Nat} {M0 : MS} {Q : Int32 → MS → Prop} {p0 : Int32} (hw : w_X11_seenBy Q p0 M0) : CT (twd D T Z) (Evd D T Z) l yX11_seenBy (Cond.code yX11_seenBy cX11_seenBy 5 (some .int)) 1 23 [va_rf (some b0), .int p0] (mG b0 z0 M0) (mq b0 z0 (qI Q)) (fun _ _ => False) := by
  refine CT.ofW (cc := cX11_seenBy) (nL := 5) (ret := (some .int)) Ext.rf (by decide) (Or.inl rfl) ?_
  intro p e s m below meth c hx hb hml hown hr hlk hnm hcb hm hc hn hE I
  have C : Cx p s m meth c D T Z "EndingTownModel" cX11_seenBy 5 (some .int) := ⟨hx, hb, hml, hown, hE, hr, hlk⟩
  refine w_entry [.inr (.inl (some b0)), .inl p0] (Nat.le_of_ble_eq_true rfl) (fun ls hl => ?_)
  have hl : LH ls 5 [(0, .inr (.inl (some b0))), (1, .inl p0)] := hl
  have h := hw
  refine lv_iconst (v := 0) C.1 C.2.1 dX11_seenBy_0 (by decide) ?_
  refine l_ist_n C dX11_seenBy_1 rfl hl (by decide) rfl (fun ls hl => ?_)
  have hl : LH ls 5 [(2, .inl ((0 : Int32))), (0, .inr (.inl (some b0))), (1, .inl p0)] := hl
  refine lv_iconst (v := 0) C.1 C.2.1 dX11_seenBy_2 (by decide) ?_
  refine l_ist_n C dX11_seenBy_3 rfl hl (by decide) rfl (fun ls hl => ?_)
  have hl : LH ls 5 [(3, .inl ((0 : Int32))), (2, .inl ((0 : Int32))), (0, .inr (.inl (some b0))), (1, .inl p0)] := hl
  obtain ⟨n, h⟩ := h
  exact b_X11_seenBy_4 C n p0 ((0 : Int32)) ((0 : Int32)) M0 _ _ _ _ _ h I (hl.sub [2, 3, 1, 0] rfl)
def w_X11_knows_90 (Q : Int32 → MS → Prop) (k12 : Int32 → Int32 → Int32 → Int32 → MS → Prop) (k40 : Int32 → Int32 → Int32 → Int32 → Int32 → Int32 → MS → Prop) (l2 : Int32) (l3 : Int32) (l4 : Int32) (l5 : Int32) (l7 : Int32) (t0 : Int32) (M : MS) : Prop := k40 l2 l3 l4 l5 t0 ((l7 + 1)) M
set_option maxHeartbeats 4000000 in
theorem b_X11_knows_90 {b0 z0 : Nat} {M0 : MS} {Q : Int32 → MS → Prop} {k12 : Int32 → Int32 → Int32 → Int32 → MS → Prop} {k40 : Int32 → Int32 → Int32 → Int32 → Int32 → Int32 → MS → Prop} (C : Cx p s m meth c D T Z "EndingTownModel" cX11_knows 8 (some .int)) (hk12 : ∀ (l2 : Int32) (l3 : Int32) (l4 : Int32) (l5 : Int32) (M : MS) (H : Heap) (locs : List Loc) (cells slots : Nat) (ls : Array Slot), k12 l2 l3 l4 l5 M → HI (twd D T Z) (mG b0 z0 M0) s (rmX (twd D T Z) 2 47 (mG b0 z0 M0)) H locs cells slots (mG b0 z0 M) → LH ls 8 [(0, .inr (.inl (some b0))), (2, .inl l2), (3, .inl l3), (4, .inl l4), (5, .inl l5)] → W p l e (rmX (twd D T Z) 2 47 (mG b0 z0 M0)) s m args below meth c H locs cells slots (MQX (twd D T Z) (mG b0 z0 M0) (mq b0 z0 (qI Q)) (fun _ _ => False) below s) (F0 m 12 ls [])) (hk40 : ∀ (l2 : Int32) (l3 : Int32) (l4 : Int32) (l5 : Int32) (l6 : Int32) (l7 : Int32) (M : MS) (H : Heap) (locs : List Loc) (cells slots : Nat) (ls : Array Slot), k40 l2 l3 l4 l5 l6 l7 M → HI (twd D T Z) (mG b0 z0 M0) s (rmX (twd D T Z) 2 47 (mG b0 z0 M0)) H locs cells slots (mG b0 z0 M) → LH ls 8 [(0, .inr (.inl (some b0))), (2, .inl l2), (3, .inl l3), (4, .inl l4), (5, .inl l5), (6, .inl l6), (7, .inl l7)] → W p l e (rmX (twd D T Z) 2 47 (mG b0 z0 M0)) s m args below meth c H locs cells slots (MQX (twd D T Z) (mG b0 z0 M0) (mq b0 z0 (qI Q)) (fun _ _ => False) below s) (F0 m 40 ls [])) : ∀ (l2 : Int32) (l3 : Int32) (l4 : Int32) (l5 : Int32) (l7 : Int32) (t0 : Int32) (M : MS) (H : Heap) (locs : List Loc) (cells slots : Nat) (ls : Array Slot), w_X11_knows_90 Q k12 k40 l2 l3 l4 l5 l7 t0 M → HI (twd D T Z) (mG b0 z0 M0) s (rmX (twd D T Z) 2 47 (mG b0 z0 M0)) H locs cells slots (mG b0 z0 M) → LH ls 8 [(0, .inr (.inl (some b0))), (2, .inl l2), (3, .inl l3), (4, .inl l4), (5, .inl l5), (7, .inl l7)] → W p l e (rmX (twd D T Z) 2 47 (mG b0 z0 M0)) s m args below meth c H locs cells slots (MQX (twd D T Z) (mG b0 z0 M0) (mq b0 z0 (qI Q)) (fun _ _ => False) below s) (F0 m 90 ls [.int t0]) := by
  intro l2 l3 l4 l5 l7 t0 M H locs cells slots ls h I hl
  refine l_ist C dX11_knows_90 hl (by decide) rfl (fun ls hl => ?_)
  have hl : LH ls 8 [(6, .inl t0), (0, .inr (.inl (some b0))), (2, .inl l2), (3, .inl l3), (4, .inl l4), (5, .inl l5), (7, .inl l7)] := hl
  refine l_inc (q := 6) (v := 1) C dX11_knows_92 hl rfl (by decide) (by decide) rfl (fun ls hl => ?_)
  have hl : LH ls 8 [(7, .inl ((l7 + 1))), (6, .inl t0), (0, .inr (.inl (some b0))), (2, .inl l2), (3, .inl l3), (4, .inl l4), (5, .inl l5)] := hl
  refine lv_goto (tgt := 40) C.1 C.2.1 dX11_knows_95 (by decide) ?_
  exact hk40 l2 l3 l4 l5 t0 ((l7 + 1)) M _ _ _ _ _ h I (hl.sub [2, 3, 4, 5, 6, 1, 0] rfl)
def w_X11_knows_85 (Q : Int32 → MS → Prop) (k12 : Int32 → Int32 → Int32 → Int32 → MS → Prop) (k40 : Int32 → Int32 → Int32 → Int32 → Int32 → Int32 → MS → Prop) (l2 : Int32) (l3 : Int32) (l4 : Int32) (l5 : Int32) (l7 : Int32) (M : MS) : Prop := w_X11_knows_90 Q k12 k40 l2 l3 l4 l5 l7 ((1 : Int32)) M
set_option maxHeartbeats 4000000 in
theorem b_X11_knows_85 {b0 z0 : Nat} {M0 : MS} {Q : Int32 → MS → Prop} {k12 : Int32 → Int32 → Int32 → Int32 → MS → Prop} {k40 : Int32 → Int32 → Int32 → Int32 → Int32 → Int32 → MS → Prop} (C : Cx p s m meth c D T Z "EndingTownModel" cX11_knows 8 (some .int)) (hk12 : ∀ (l2 : Int32) (l3 : Int32) (l4 : Int32) (l5 : Int32) (M : MS) (H : Heap) (locs : List Loc) (cells slots : Nat) (ls : Array Slot), k12 l2 l3 l4 l5 M → HI (twd D T Z) (mG b0 z0 M0) s (rmX (twd D T Z) 2 47 (mG b0 z0 M0)) H locs cells slots (mG b0 z0 M) → LH ls 8 [(0, .inr (.inl (some b0))), (2, .inl l2), (3, .inl l3), (4, .inl l4), (5, .inl l5)] → W p l e (rmX (twd D T Z) 2 47 (mG b0 z0 M0)) s m args below meth c H locs cells slots (MQX (twd D T Z) (mG b0 z0 M0) (mq b0 z0 (qI Q)) (fun _ _ => False) below s) (F0 m 12 ls [])) (hk40 : ∀ (l2 : Int32) (l3 : Int32) (l4 : Int32) (l5 : Int32) (l6 : Int32) (l7 : Int32) (M : MS) (H : Heap) (locs : List Loc) (cells slots : Nat) (ls : Array Slot), k40 l2 l3 l4 l5 l6 l7 M → HI (twd D T Z) (mG b0 z0 M0) s (rmX (twd D T Z) 2 47 (mG b0 z0 M0)) H locs cells slots (mG b0 z0 M) → LH ls 8 [(0, .inr (.inl (some b0))), (2, .inl l2), (3, .inl l3), (4, .inl l4), (5, .inl l5), (6, .inl l6), (7, .inl l7)] → W p l e (rmX (twd D T Z) 2 47 (mG b0 z0 M0)) s m args below meth c H locs cells slots (MQX (twd D T Z) (mG b0 z0 M0) (mq b0 z0 (qI Q)) (fun _ _ => False) below s) (F0 m 40 ls [])) : ∀ (l2 : Int32) (l3 : Int32) (l4 : Int32) (l5 : Int32) (l7 : Int32) (M : MS) (H : Heap) (locs : List Loc) (cells slots : Nat) (ls : Array Slot), w_X11_knows_85 Q k12 k40 l2 l3 l4 l5 l7 M → HI (twd D T Z) (mG b0 z0 M0) s (rmX (twd D T Z) 2 47 (mG b0 z0 M0)) H locs cells slots (mG b0 z0 M) → LH ls 8 [(0, .inr (.inl (some b0))), (2, .inl l2), (3, .inl l3), (4, .inl l4), (5, .inl l5), (7, .inl l7)] → W p l e (rmX (twd D T Z) 2 47 (mG b0 z0 M0)) s m args below meth c H locs cells slots (MQX (twd D T Z) (mG b0 z0 M0) (mq b0 z0 (qI Q)) (fun _ _ => False) below s) (F0 m 85 ls []) := by
  intro l2 l3 l4 l5 l7 M H locs cells slots ls h I hl
  refine lv_iconst (v := 1) C.1 C.2.1 dX11_knows_85 (by decide) ?_
  refine lv_goto (tgt := 90) C.1 C.2.1 dX11_knows_86 (by decide) ?_
  exact b_X11_knows_90 C hk12 hk40 l2 l3 l4 l5 l7 ((1 : Int32)) M _ _ _ _ _ h I (hl.sub [0, 1, 2, 3, 4, 5] rfl)
def w_X11_knows_89 (Q : Int32 → MS → Prop) (k12 : Int32 → Int32 → Int32 → Int32 → MS → Prop) (k40 : Int32 → Int32 → Int32 → Int32 → Int32 → Int32 → MS → Prop) (l2 : Int32) (l3 : Int32) (l4 : Int32) (l5 : Int32) (l7 : Int32) (M : MS) : Prop := w_X11_knows_90 Q k12 k40 l2 l3 l4 l5 l7 ((0 : Int32)) M
set_option maxHeartbeats 4000000 in
theorem b_X11_knows_89 {b0 z0 : Nat} {M0 : MS} {Q : Int32 → MS → Prop} {k12 : Int32 → Int32 → Int32 → Int32 → MS → Prop} {k40 : Int32 → Int32 → Int32 → Int32 → Int32 → Int32 → MS → Prop} (C : Cx p s m meth c D T Z "EndingTownModel" cX11_knows 8 (some .int)) (hk12 : ∀ (l2 : Int32) (l3 : Int32) (l4 : Int32) (l5 : Int32) (M : MS) (H : Heap) (locs : List Loc) (cells slots : Nat) (ls : Array Slot), k12 l2 l3 l4 l5 M → HI (twd D T Z) (mG b0 z0 M0) s (rmX (twd D T Z) 2 47 (mG b0 z0 M0)) H locs cells slots (mG b0 z0 M) → LH ls 8 [(0, .inr (.inl (some b0))), (2, .inl l2), (3, .inl l3), (4, .inl l4), (5, .inl l5)] → W p l e (rmX (twd D T Z) 2 47 (mG b0 z0 M0)) s m args below meth c H locs cells slots (MQX (twd D T Z) (mG b0 z0 M0) (mq b0 z0 (qI Q)) (fun _ _ => False) below s) (F0 m 12 ls [])) (hk40 : ∀ (l2 : Int32) (l3 : Int32) (l4 : Int32) (l5 : Int32) (l6 : Int32) (l7 : Int32) (M : MS) (H : Heap) (locs : List Loc) (cells slots : Nat) (ls : Array Slot), k40 l2 l3 l4 l5 l6 l7 M → HI (twd D T Z) (mG b0 z0 M0) s (rmX (twd D T Z) 2 47 (mG b0 z0 M0)) H locs cells slots (mG b0 z0 M) → LH ls 8 [(0, .inr (.inl (some b0))), (2, .inl l2), (3, .inl l3), (4, .inl l4), (5, .inl l5), (6, .inl l6), (7, .inl l7)] → W p l e (rmX (twd D T Z) 2 47 (mG b0 z0 M0)) s m args below meth c H locs cells slots (MQX (twd D T Z) (mG b0 z0 M0) (mq b0 z0 (qI Q)) (fun _ _ => False) below s) (F0 m 40 ls [])) : ∀ (l2 : Int32) (l3 : Int32) (l4 : Int32) (l5 : Int32) (l7 : Int32) (M : MS) (H : Heap) (locs : List Loc) (cells slots : Nat) (ls : Array Slot), w_X11_knows_89 Q k12 k40 l2 l3 l4 l5 l7 M → HI (twd D T Z) (mG b0 z0 M0) s (rmX (twd D T Z) 2 47 (mG b0 z0 M0)) H locs cells slots (mG b0 z0 M) → LH ls 8 [(0, .inr (.inl (some b0))), (2, .inl l2), (3, .inl l3), (4, .inl l4), (5, .inl l5), (7, .inl l7)] → W p l e (rmX (twd D T Z) 2 47 (mG b0 z0 M0)) s m args below meth c H locs cells slots (MQX (twd D T Z) (mG b0 z0 M0) (mq b0 z0 (qI Q)) (fun _ _ => False) below s) (F0 m 89 ls []) := by
  intro l2 l3 l4 l5 l7 M H locs cells slots ls h I hl
  refine lv_iconst (v := 0) C.1 C.2.1 dX11_knows_89 (by decide) ?_
  exact b_X11_knows_90 C hk12 hk40 l2 l3 l4 l5 l7 ((0 : Int32)) M _ _ _ _ _ h I (hl.sub [0, 1, 2, 3, 4, 5] rfl)
def w_X11_knows_116 (Q : Int32 → MS → Prop) (k12 : Int32 → Int32 → Int32 → Int32 → MS → Prop) (l2 : Int32) (l3 : Int32) (l4 : Int32) (l5 : Int32) (M : MS) : Prop := k12 l2 l3 l4 ((l5 + 1)) M
set_option maxHeartbeats 4000000 in
theorem b_X11_knows_116 {b0 z0 : Nat} {M0 : MS} {Q : Int32 → MS → Prop} {k12 : Int32 → Int32 → Int32 → Int32 → MS → Prop} (C : Cx p s m meth c D T Z "EndingTownModel" cX11_knows 8 (some .int)) (hk12 : ∀ (l2 : Int32) (l3 : Int32) (l4 : Int32) (l5 : Int32) (M : MS) (H : Heap) (locs : List Loc) (cells slots : Nat) (ls : Array Slot), k12 l2 l3 l4 l5 M → HI (twd D T Z) (mG b0 z0 M0) s (rmX (twd D T Z) 2 47 (mG b0 z0 M0)) H locs cells slots (mG b0 z0 M) → LH ls 8 [(0, .inr (.inl (some b0))), (2, .inl l2), (3, .inl l3), (4, .inl l4), (5, .inl l5)] → W p l e (rmX (twd D T Z) 2 47 (mG b0 z0 M0)) s m args below meth c H locs cells slots (MQX (twd D T Z) (mG b0 z0 M0) (mq b0 z0 (qI Q)) (fun _ _ => False) below s) (F0 m 12 ls [])) : ∀ (l2 : Int32) (l3 : Int32) (l4 : Int32) (l5 : Int32) (M : MS) (H : Heap) (locs : List Loc) (cells slots : Nat) (ls : Array Slot), w_X11_knows_116 Q k12 l2 l3 l4 l5 M → HI (twd D T Z) (mG b0 z0 M0) s (rmX (twd D T Z) 2 47 (mG b0 z0 M0)) H locs cells slots (mG b0 z0 M) → LH ls 8 [(0, .inr (.inl (some b0))), (2, .inl l2), (3, .inl l3), (4, .inl l4), (5, .inl l5)] → W p l e (rmX (twd D T Z) 2 47 (mG b0 z0 M0)) s m args below meth c H locs cells slots (MQX (twd D T Z) (mG b0 z0 M0) (mq b0 z0 (qI Q)) (fun _ _ => False) below s) (F0 m 116 ls []) := by
  intro l2 l3 l4 l5 M H locs cells slots ls h I hl
  refine l_inc (q := 4) (v := 1) C dX11_knows_116 hl rfl (by decide) (by decide) rfl (fun ls hl => ?_)
  have hl : LH ls 8 [(5, .inl ((l5 + 1))), (0, .inr (.inl (some b0))), (2, .inl l2), (3, .inl l3), (4, .inl l4)] := hl
  refine lv_goto (tgt := 12) C.1 C.2.1 dX11_knows_119 (by decide) ?_
  exact hk12 l2 l3 l4 ((l5 + 1)) M _ _ _ _ _ h I (hl.sub [1, 2, 3, 4, 0] rfl)
def w_X11_knows_113 (Q : Int32 → MS → Prop) (k12 : Int32 → Int32 → Int32 → Int32 → MS → Prop) (l2 : Int32) (l3 : Int32) (l5 : Int32) (t0 : Int32) (t1 : Int32) (M : MS) : Prop := w_X11_knows_116 Q k12 l2 l3 ((t1 ||| t0)) l5 M
set_option maxHeartbeats 4000000 in
theorem b_X11_knows_113 {b0 z0 : Nat} {M0 : MS} {Q : Int32 → MS → Prop} {k12 : Int32 → Int32 → Int32 → Int32 → MS → Prop} (C : Cx p s m meth c D T Z "EndingTownModel" cX11_knows 8 (some .int)) (hk12 : ∀ (l2 : Int32) (l3 : Int32) (l4 : Int32) (l5 : Int32) (M : MS) (H : Heap) (locs : List Loc) (cells slots : Nat) (ls : Array Slot), k12 l2 l3 l4 l5 M → HI (twd D T Z) (mG b0 z0 M0) s (rmX (twd D T Z) 2 47 (mG b0 z0 M0)) H locs cells slots (mG b0 z0 M) → LH ls 8 [(0, .inr (.inl (some b0))), (2, .inl l2), (3, .inl l3), (4, .inl l4), (5, .inl l5)] → W p l e (rmX (twd D T Z) 2 47 (mG b0 z0 M0)) s m args below meth c H locs cells slots (MQX (twd D T Z) (mG b0 z0 M0) (mq b0 z0 (qI Q)) (fun _ _ => False) below s) (F0 m 12 ls [])) : ∀ (l2 : Int32) (l3 : Int32) (l5 : Int32) (t0 : Int32) (t1 : Int32) (M : MS) (H : Heap) (locs : List Loc) (cells slots : Nat) (ls : Array Slot), w_X11_knows_113 Q k12 l2 l3 l5 t0 t1 M → HI (twd D T Z) (mG b0 z0 M0) s (rmX (twd D T Z) 2 47 (mG b0 z0 M0)) H locs cells slots (mG b0 z0 M) → LH ls 8 [(0, .inr (.inl (some b0))), (2, .inl l2), (3, .inl l3), (5, .inl l5)] → W p l e (rmX (twd D T Z) 2 47 (mG b0 z0 M0)) s m args below meth c H locs cells slots (MQX (twd D T Z) (mG b0 z0 M0) (mq b0 z0 (qI Q)) (fun _ _ => False) below s) (F0 m 113 ls [.int t0, .int t1]) := by
  intro l2 l3 l5 t0 t1 M H locs cells slots ls h I hl
  refine lv_ior C.1 C.2.1 dX11_knows_113 ?_
  refine l_ist C dX11_knows_114 hl (by decide) rfl (fun ls hl => ?_)
  have hl : LH ls 8 [(4, .inl ((t1 ||| t0))), (0, .inr (.inl (some b0))), (2, .inl l2), (3, .inl l3), (5, .inl l5)] := hl
  exact b_X11_knows_116 C hk12 l2 l3 ((t1 ||| t0)) l5 M _ _ _ _ _ h I (hl.sub [1, 2, 3, 0, 4] rfl)
def w_X11_knows_40 (Q : Int32 → MS → Prop) (k12 : Int32 → Int32 → Int32 → Int32 → MS → Prop) : Nat → Int32 → Int32 → Int32 → Int32 → Int32 → Int32 → MS → Prop
  | 0 => fun _ _ _ _ _ _ _ => False
  | f40 + 1 => fun l2 l3 l4 l5 l6 l7 M => (((16 : Int32) ≤ l7) → (((l6 = 0) → (w_X11_knows_113 Q k12 l2 l3 l5 ((0 : Int32)) l4 M)) ∧ ((¬ l6 = 0) → (w_X11_knows_113 Q k12 l2 l3 l5 (((1 : Int32) <<< (l5 &&& 31))) l4 M)))) ∧ ((¬ (16 : Int32) ≤ l7) → (((l6 = 0) → (w_X11_knows_89 Q k12 (w_X11_knows_40 Q k12 f40) l2 l3 l4 l5 l7 M)) ∧ ((¬ l6 = 0) → (((((mF M 68 >>> (l7 &&& 31)) &&& (1 : Int32)) = 0) → (w_X11_knows_85 Q k12 (w_X11_knows_40 Q k12 f40) l2 l3 l4 l5 l7 M)) ∧ ((¬ ((mF M 68 >>> (l7 &&& 31)) &&& (1 : Int32)) = 0) → (((¬ (l7 &&& l3) = (l5 &&& l3)) → (w_X11_knows_85 Q k12 (w_X11_knows_40 Q k12 f40) l2 l3 l4 l5 l7 M)) ∧ (((l7 &&& l3) = (l5 &&& l3)) → (((¬ ((l2 >>> (l7 &&& 31)) &&& (1 : Int32)) = (1 : Int32)) → (w_X11_knows_89 Q k12 (w_X11_knows_40 Q k12 f40) l2 l3 l4 l5 l7 M)) ∧ ((((l2 >>> (l7 &&& 31)) &&& (1 : Int32)) = (1 : Int32)) → (w_X11_knows_85 Q k12 (w_X11_knows_40 Q k12 f40) l2 l3 l4 l5 l7 M))))))))))
set_option maxHeartbeats 4000000 in
theorem b_X11_knows_40 {b0 z0 : Nat} {M0 : MS} {Q : Int32 → MS → Prop} {k12 : Int32 → Int32 → Int32 → Int32 → MS → Prop} (C : Cx p s m meth c D T Z "EndingTownModel" cX11_knows 8 (some .int)) (hk12 : ∀ (l2 : Int32) (l3 : Int32) (l4 : Int32) (l5 : Int32) (M : MS) (H : Heap) (locs : List Loc) (cells slots : Nat) (ls : Array Slot), k12 l2 l3 l4 l5 M → HI (twd D T Z) (mG b0 z0 M0) s (rmX (twd D T Z) 2 47 (mG b0 z0 M0)) H locs cells slots (mG b0 z0 M) → LH ls 8 [(0, .inr (.inl (some b0))), (2, .inl l2), (3, .inl l3), (4, .inl l4), (5, .inl l5)] → W p l e (rmX (twd D T Z) 2 47 (mG b0 z0 M0)) s m args below meth c H locs cells slots (MQX (twd D T Z) (mG b0 z0 M0) (mq b0 z0 (qI Q)) (fun _ _ => False) below s) (F0 m 12 ls [])) : ∀ (n : Nat) (l2 : Int32) (l3 : Int32) (l4 : Int32) (l5 : Int32) (l6 : Int32) (l7 : Int32) (M : MS) (H : Heap) (locs : List Loc) (cells slots : Nat) (ls : Array Slot), w_X11_knows_40 Q k12 n l2 l3 l4 l5 l6 l7 M → HI (twd D T Z) (mG b0 z0 M0) s (rmX (twd D T Z) 2 47 (mG b0 z0 M0)) H locs cells slots (mG b0 z0 M) → LH ls 8 [(0, .inr (.inl (some b0))), (2, .inl l2), (3, .inl l3), (4, .inl l4), (5, .inl l5), (6, .inl l6), (7, .inl l7)] → W p l e (rmX (twd D T Z) 2 47 (mG b0 z0 M0)) s m args below meth c H locs cells slots (MQX (twd D T Z) (mG b0 z0 M0) (mq b0 z0 (qI Q)) (fun _ _ => False) below s) (F0 m 40 ls []) := by
  intro n
  induction n with
  | zero => intro l2 l3 l4 l5 l6 l7 M H locs cells slots ls h; exact (show False from h).elim
  | succ n ih =>
    intro l2 l3 l4 l5 l6 l7 M H locs cells slots ls h I hl
    have hk40 := ih
    refine l_ild C dX11_knows_40 hl 6 rfl ?_
    refine lv_bipush (v := 16) C.1 C.2.1 dX11_knows_42 (by decide) ?_
    refine lv_icmp_ge (tgt := 98) C.1 C.2.1 dX11_knows_44 (by decide) (fun c6 => ?_) (fun c6 => ?_)
    · have h := h.1 c6
      refine l_ild C dX11_knows_98 hl 3 rfl ?_
      refine l_ild C dX11_knows_100 hl 5 rfl ?_
      refine lv_if_eq (tgt := 112) C.1 C.2.1 dX11_knows_102 (by decide) (fun c1 => ?_) (fun c1 => ?_)
      · have h := h.1 c1
        refine lv_iconst (v := 0) C.1 C.2.1 dX11_knows_112 (by decide) ?_
        exact b_X11_knows_113 C hk12 l2 l3 l5 ((0 : Int32)) l4 M _ _ _ _ _ h I (hl.sub [0, 1, 2, 4] rfl)
      · have h := h.2 c1
        refine lv_iconst (v := 1) C.1 C.2.1 dX11_knows_105 (by decide) ?_
        refine l_ild C dX11_knows_106 hl 4 rfl ?_
        refine lv_ishl C.1 C.2.1 dX11_knows_108 ?_
        refine lv_goto (tgt := 113) C.1 C.2.1 dX11_knows_109 (by decide) ?_
        exact b_X11_knows_113 C hk12 l2 l3 l5 (((1 : Int32) <<< (l5 &&& 31))) l4 M _ _ _ _ _ h I (hl.sub [0, 1, 2, 4] rfl)
    · have h := h.2 c6
      refine l_ild C dX11_knows_47 hl 5 rfl ?_
      refine lv_if_eq (tgt := 89) C.1 C.2.1 dX11_knows_49 (by decide) (fun c5 => ?_) (fun c5 => ?_)
      · have h := h.1 c5
        exact b_X11_knows_89 C hk12 hk40 l2 l3 l4 l5 l7 M _ _ _ _ _ h I (hl.sub [0, 1, 2, 3, 4, 6] rfl)
      · have h := h.2 c5
        refine l_ald_n (x := some b0) C dX11_knows_52 hl 0 rfl rfl ?_
        refine f_I C I (fl_X11_285) (by decide) dX11_knows_53 ?_
        refine l_ild C dX11_knows_56 hl 6 rfl ?_
        refine lv_ishr C.1 C.2.1 dX11_knows_58 ?_
        refine lv_iconst (v := 1) C.1 C.2.1 dX11_knows_59 (by decide) ?_
        refine lv_iand C.1 C.2.1 dX11_knows_60 ?_
        refine lv_if_eq (tgt := 85) C.1 C.2.1 dX11_knows_61 (by decide) (fun c4 => ?_) (fun c4 => ?_)
        · have h := h.1 c4
          exact b_X11_knows_85 C hk12 hk40 l2 l3 l4 l5 l7 M _ _ _ _ _ h I (hl.sub [0, 1, 2, 3, 4, 6] rfl)
        · have h := h.2 c4
          refine l_ild C dX11_knows_64 hl 6 rfl ?_
          refine l_ild_n C dX11_knows_66 hl 2 rfl rfl ?_
          refine lv_iand C.1 C.2.1 dX11_knows_67 ?_
          refine l_ild C dX11_knows_68 hl 4 rfl ?_
          refine l_ild_n C dX11_knows_70 hl 2 rfl rfl ?_
          refine lv_iand C.1 C.2.1 dX11_knows_71 ?_
          refine lv_icmp_ne (tgt := 85) C.1 C.2.1 dX11_knows_72 (by decide) (fun c3 => ?_) (fun c3 => ?_)
          · have h := h.1 c3
            exact b_X11_knows_85 C hk12 hk40 l2 l3 l4 l5 l7 M _ _ _ _ _ h I (hl.sub [0, 1, 2, 3, 4, 6] rfl)
          · have h := h.2 c3
            refine l_ild_n C dX11_knows_75 hl 1 rfl rfl ?_
            refine l_ild C dX11_knows_76 hl 6 rfl ?_
            refine lv_ishr C.1 C.2.1 dX11_knows_78 ?_
            refine lv_iconst (v := 1) C.1 C.2.1 dX11_knows_79 (by decide) ?_
            refine lv_iand C.1 C.2.1 dX11_knows_80 ?_
            refine lv_iconst (v := 1) C.1 C.2.1 dX11_knows_81 (by decide) ?_
            refine lv_icmp_ne (tgt := 89) C.1 C.2.1 dX11_knows_82 (by decide) (fun c2 => ?_) (fun c2 => ?_)
            · have h := h.1 c2
              exact b_X11_knows_89 C hk12 hk40 l2 l3 l4 l5 l7 M _ _ _ _ _ h I (hl.sub [0, 1, 2, 3, 4, 6] rfl)
            · have h := h.2 c2
              exact b_X11_knows_85 C hk12 hk40 l2 l3 l4 l5 l7 M _ _ _ _ _ h I (hl.sub [0, 1, 2, 3, 4, 6] rfl)
def w_X11_knows_12 (Q : Int32 → MS → Prop) : Nat → Int32 → Int32 → Int32 → Int32 → MS → Prop
  | 0 => fun _ _ _ _ _ => False
  | f12 + 1 => fun l2 l3 l4 l5 M => (((16 : Int32) ≤ l5) → (Q l4 M)) ∧ ((¬ (16 : Int32) ≤ l5) → (((¬ ((mF M 68 >>> (l5 &&& 31)) &&& (1 : Int32)) = 0) → (∃ n, w_X11_knows_40 Q (w_X11_knows_12 Q f12) n l2 l3 l4 l5 ((1 : Int32)) ((0 : Int32)) M)) ∧ ((((mF M 68 >>> (l5 &&& 31)) &&& (1 : Int32)) = 0) → (w_X11_knows_116 Q (w_X11_knows_12 Q f12) l2 l3 l4 l5 M))))
set_option maxHeartbeats 4000000 in
theorem b_X11_knows_12 {b0 z0 : Nat} {M0 : MS} {Q : Int32 → MS → Prop} (C : Cx p s m meth c D T Z "EndingTownModel" cX11_knows 8 (some .int)) : ∀ (n : Nat) (l2 : Int32) (l3 : Int32) (l4 : Int32) (l5 : Int32) (M : MS) (H : Heap) (locs : List Loc) (cells slots : Nat) (ls : Array Slot), w_X11_knows_12 Q n l2 l3 l4 l5 M → HI (twd D T Z) (mG b0 z0 M0) s (rmX (twd D T Z) 2 47 (mG b0 z0 M0)) H locs cells slots (mG b0 z0 M) → LH ls 8 [(0, .inr (.inl (some b0))), (2, .inl l2), (3, .inl l3), (4, .inl l4), (5, .inl l5)] → W p l e (rmX (twd D T Z) 2 47 (mG b0 z0 M0)) s m args below meth c H locs cells slots (MQX (twd D T Z) (mG b0 z0 M0) (mq b0 z0 (qI Q)) (fun _ _ => False) below s) (F0 m 12 ls []) := by
  intro n
  induction n with
  | zero => intro l2 l3 l4 l5 M H locs cells slots ls h; exact (show False from h).elim
  | succ n ih =>
    intro l2 l3 l4 l5 M H locs cells slots ls h I hl
    have hk12 := ih
    refine l_ild C dX11_knows_12 hl 4 rfl ?_
    refine lv_bipush (v := 16) C.1 C.2.1 dX11_knows_14 (by decide) ?_
    refine lv_icmp_ge (tgt := 122) C.1 C.2.1 dX11_knows_16 (by decide) (fun c2 => ?_) (fun c2 => ?_)
    · have h := h.1 c2
      refine l_ild C dX11_knows_122 hl 3 rfl ?_
      exact r_int C.1 C.2.1 C.2.2.2.2.2.1 rfl C.2.2.2.2.2.2 ⟨rfl, rfl⟩ I dX11_knows_124 ⟨_, rfl, _, rfl, h⟩
    · have h := h.2 c2
      refine l_ald_n (x := some b0) C dX11_knows_19 hl 0 rfl rfl ?_
      refine f_I C I (fl_X11_285) (by decide) dX11_knows_20 ?_
      refine l_ild C dX11_knows_23 hl 4 rfl ?_
      refine lv_ishr C.1 C.2.1 dX11_knows_25 ?_
      refine lv_iconst (v := 1) C.1 C.2.1 dX11_knows_26 (by decide) ?_
      refine lv_iand C.1 C.2.1 dX11_knows_27 ?_
      refine lv_if_ne (tgt := 34) C.1 C.2.1 dX11_knows_28 (by decide) (fun c1 => ?_) (fun c1 => ?_)
      · have h := h.1 c1
        refine lv_iconst (v := 1) C.1 C.2.1 dX11_knows_34 (by decide) ?_
        refine l_ist C dX11_knows_35 hl (by decide) rfl (fun ls hl => ?_)
        have hl : LH ls 8 [(6, .inl ((1 : Int32))), (0, .inr (.inl (some b0))), (2, .inl l2), (3, .inl l3), (4, .inl l4), (5, .inl l5)] := hl
        refine lv_iconst (v := 0) C.1 C.2.1 dX11_knows_37 (by decide) ?_
        refine l_ist C dX11_knows_38 hl (by decide) rfl (fun ls hl => ?_)
        have hl : LH ls 8 [(7, .inl ((0 : Int32))), (6, .inl ((1 : Int32))), (0, .inr (.inl (some b0))), (2, .inl l2), (3, .inl l3), (4, .inl l4), (5, .inl l5)] := hl
        obtain ⟨n, h⟩ := h
        exact b_X11_knows_40 C hk12 n l2 l3 l4 l5 ((1 : Int32)) ((0 : Int32)) M _ _ _ _ _ h I (hl.sub [2, 3, 4, 5, 6, 1, 0] rfl)
      · have h := h.2 c1
        refine lv_goto (tgt := 116) C.1 C.2.1 dX11_knows_31 (by decide) ?_
        exact b_X11_knows_116 C hk12 l2 l3 l4 l5 M _ _ _ _ _ h I (hl.sub [0, 1, 2, 3, 4] rfl)
def w_X11_knows (Q : Int32 → MS → Prop) (p0 : Int32) (p1 : Int32) (M : MS) : Prop := w_X11_seenBy (fun r2 M1 => ∃ n, w_X11_knows_12 Q n p1 r2 ((0 : Int32)) ((0 : Int32)) M1) p0 M
theorem pd_X11_knows : (parseMethodDescriptor yX11_knows.desc).map (fun d => d.parameters.length) = some 2 := by decide +kernel
set_option maxHeartbeats 4000000 in
theorem ct_X11_knows {l : Launch} {D : va_G} {T : Nat → ClassId} {Z : Heap} {b0 z0 : Nat} {M0 : MS} {Q : Int32 → MS → Prop} {p0 : Int32} {p1 : Int32} (hw : w_X11_knows Q p0 p1 M0) : CT (twd D T Z) (Evd D T Z) l yX11_knows (Cond.code yX11_knows cX11_knows 8 (some .int)) 2 47 [va_rf (some b0), .int p0, .int p1] (mG b0 z0 M0) (mq b0 z0 (qI Q)) (fun _ _ => False) := by
  refine CT.ofW (cc := cX11_knows) (nL := 8) (ret := (some .int)) Ext.rf (by decide) (Or.inl rfl) ?_
  intro p e s m below meth c hx hb hml hown hr hlk hnm hcb hm hc hn hE I
  have C : Cx p s m meth c D T Z "EndingTownModel" cX11_knows 8 (some .int) := ⟨hx, hb, hml, hown, hE, hr, hlk⟩
  refine w_entry [.inr (.inl (some b0)), .inl p0, .inl p1] (Nat.le_of_ble_eq_true rfl) (fun ls hl => ?_)
  have hl : LH ls 8 [(0, .inr (.inl (some b0))), (1, .inl p0), (2, .inl p1)] := hl
  have h := hw
  refine l_ald_n (x := some b0) C dX11_knows_0 hl 0 rfl rfl ?_
  refine l_ild_n C dX11_knows_1 hl 1 rfl rfl ?_
  refine k_call Ext.tr C I (k_V (r := some b0) (As := [.int p0]) (rest := []) (y := yX11_seenBy) C (f_recv C I) q1899 q1901 qs97 (Or.inl rfl) q1902 (by decide) rfl pd_X11_seenBy rfl dX11_knows_2) (ct_X11_seenBy h) hl.1 dX11_knows_2 [] rfl (Nat.le_of_ble_eq_true rfl) (Or.inl rfl) q1902 q113 ⟨Nat.le_of_ble_eq_true rfl, Nat.le_of_ble_eq_true rfl⟩ (fun v x1 H locs cells slots ex hq I => ?_) (fun a x1 H locs cells slots ex hq I => hq.elim)
  obtain ⟨M1, rfl, r2, rfl, h⟩ := hq
  refine l_ist_n C dX11_knows_5 rfl hl (by decide) rfl (fun ls hl => ?_)
  have hl : LH ls 8 [(3, .inl r2), (0, .inr (.inl (some b0))), (1, .inl p0), (2, .inl p1)] := hl
  refine lv_iconst (v := 0) C.1 C.2.1 dX11_knows_6 (by decide) ?_
  refine l_ist C dX11_knows_7 hl (by decide) rfl (fun ls hl => ?_)
  have hl : LH ls 8 [(4, .inl ((0 : Int32))), (3, .inl r2), (0, .inr (.inl (some b0))), (1, .inl p0), (2, .inl p1)] := hl
  refine lv_iconst (v := 0) C.1 C.2.1 dX11_knows_9 (by decide) ?_
  refine l_ist C dX11_knows_10 hl (by decide) rfl (fun ls hl => ?_)
  have hl : LH ls 8 [(5, .inl ((0 : Int32))), (4, .inl ((0 : Int32))), (3, .inl r2), (0, .inr (.inl (some b0))), (1, .inl p0), (2, .inl p1)] := hl
  obtain ⟨n, h⟩ := h
  exact b_X11_knows_12 C n p1 r2 ((0 : Int32)) ((0 : Int32)) M1 _ _ _ _ _ h I (hl.sub [3, 5, 2, 1, 0] rfl)
def w_X11_placeOf_35 (Q : Int32 → MS → Prop) (t0 : Int32) (M : MS) : Prop := Q t0 M
set_option maxHeartbeats 4000000 in
theorem b_X11_placeOf_35 {b0 z0 : Nat} {M0 : MS} {Q : Int32 → MS → Prop} (C : Cx p s m meth c D T Z "EndingTownModel" cX11_placeOf 2 (some .int)) : ∀ (t0 : Int32) (M : MS) (H : Heap) (locs : List Loc) (cells slots : Nat) (ls : Array Slot), w_X11_placeOf_35 Q t0 M → HI (twd D T Z) (mG b0 z0 M0) s (rmX (twd D T Z) 1 22 (mG b0 z0 M0)) H locs cells slots (mG b0 z0 M) → LH ls 2 [] → W p l e (rmX (twd D T Z) 1 22 (mG b0 z0 M0)) s m args below meth c H locs cells slots (MQX (twd D T Z) (mG b0 z0 M0) (mq b0 z0 (qI Q)) (fun _ _ => False) below s) (F0 m 35 ls [.int t0]) := by
  intro t0 M H locs cells slots ls h I hl
  exact r_int C.1 C.2.1 C.2.2.2.2.2.1 rfl C.2.2.2.2.2.2 ⟨rfl, rfl⟩ I dX11_placeOf_35 ⟨_, rfl, _, rfl, h⟩
def w_X11_placeOf_18 (Q : Int32 → MS → Prop) (M : MS) : Prop := w_X11_placeOf_35 Q ((-1 : Int32)) M
set_option maxHeartbeats 4000000 in
theorem b_X11_placeOf_18 {b0 z0 : Nat} {M0 : MS} {Q : Int32 → MS → Prop} (C : Cx p s m meth c D T Z "EndingTownModel" cX11_placeOf 2 (some .int)) : ∀ (M : MS) (H : Heap) (locs : List Loc) (cells slots : Nat) (ls : Array Slot), w_X11_placeOf_18 Q M → HI (twd D T Z) (mG b0 z0 M0) s (rmX (twd D T Z) 1 22 (mG b0 z0 M0)) H locs cells slots (mG b0 z0 M) → LH ls 2 [] → W p l e (rmX (twd D T Z) 1 22 (mG b0 z0 M0)) s m args below meth c H locs cells slots (MQX (twd D T Z) (mG b0 z0 M0) (mq b0 z0 (qI Q)) (fun _ _ => False) below s) (F0 m 18 ls []) := by
  intro M H locs cells slots ls h I hl
  refine lv_iconst (v := (-1)) C.1 C.2.1 dX11_placeOf_18 (by decide) ?_
  refine lv_goto (tgt := 35) C.1 C.2.1 dX11_placeOf_19 (by decide) ?_
  exact b_X11_placeOf_35 C ((-1 : Int32)) M _ _ _ _ _ h I (hl.sub [] rfl)
def w_X11_placeOf (Q : Int32 → MS → Prop) (p0 : Int32) (M : MS) : Prop := ((mF M 68 = 0) → (w_X11_placeOf_18 Q M)) ∧ ((¬ mF M 68 = 0) → (((¬ ((mF M 67 >>> (p0 &&& 31)) &&& (1 : Int32)) = 0) → (w_X11_bits (fun r2 M1 => w_X11_placeOf_35 Q r2 M1) ((mF M 67 &&& (((1 : Int32) <<< (p0 &&& 31)) - (1 : Int32)))) M)) ∧ ((((mF M 67 >>> (p0 &&& 31)) &&& (1 : Int32)) = 0) → (w_X11_placeOf_18 Q M))))
theorem pd_X11_placeOf : (parseMethodDescriptor yX11_placeOf.desc).map (fun d => d.parameters.length) = some 1 := by decide +kernel
set_option maxHeartbeats 4000000 in
theorem ct_X11_placeOf {l : Launch} {D : va_G} {T : Nat → ClassId} {Z : Heap} {b0 z0 : Nat} {M0 : MS} {Q : Int32 → MS → Prop} {p0 : Int32} (hw : w_X11_placeOf Q p0 M0) : CT (twd D T Z) (Evd D T Z) l yX11_placeOf (Cond.code yX11_placeOf cX11_placeOf 2 (some .int)) 1 22 [va_rf (some b0), .int p0] (mG b0 z0 M0) (mq b0 z0 (qI Q)) (fun _ _ => False) := by
  refine CT.ofW (cc := cX11_placeOf) (nL := 2) (ret := (some .int)) Ext.rf (by decide) (Or.inl rfl) ?_
  intro p e s m below meth c hx hb hml hown hr hlk hnm hcb hm hc hn hE I
  have C : Cx p s m meth c D T Z "EndingTownModel" cX11_placeOf 2 (some .int) := ⟨hx, hb, hml, hown, hE, hr, hlk⟩
  refine w_entry [.inr (.inl (some b0)), .inl p0] (Nat.le_of_ble_eq_true rfl) (fun ls hl => ?_)
  have hl : LH ls 2 [(0, .inr (.inl (some b0))), (1, .inl p0)] := hl
  have h := hw
  refine l_ald_n (x := some b0) C dX11_placeOf_0 hl 0 rfl rfl ?_
  refine f_I C I (fl_X11_285) (by decide) dX11_placeOf_1 ?_
  refine lv_if_eq (tgt := 18) C.1 C.2.1 dX11_placeOf_4 (by decide) (fun c4 => ?_) (fun c4 => ?_)
  · have h := h.1 c4
    exact b_X11_placeOf_18 C M0 _ _ _ _ _ h I (hl.sub [] rfl)
  · have h := h.2 c4
    refine l_ald_n (x := some b0) C dX11_placeOf_7 hl 0 rfl rfl ?_
    refine f_I C I (fl_X11_282) (by decide) dX11_placeOf_8 ?_
    refine l_ild_n C dX11_placeOf_11 hl 1 rfl rfl ?_
    refine lv_ishr C.1 C.2.1 dX11_placeOf_12 ?_
    refine lv_iconst (v := 1) C.1 C.2.1 dX11_placeOf_13 (by decide) ?_
    refine lv_iand C.1 C.2.1 dX11_placeOf_14 ?_
    refine lv_if_ne (tgt := 22) C.1 C.2.1 dX11_placeOf_15 (by decide) (fun c3 => ?_) (fun c3 => ?_)
    · have h := h.1 c3
      refine l_ald_n (x := some b0) C dX11_placeOf_22 hl 0 rfl rfl ?_
      refine f_I C I (fl_X11_282) (by decide) dX11_placeOf_23 ?_
      refine lv_iconst (v := 1) C.1 C.2.1 dX11_placeOf_26 (by decide) ?_
      refine l_ild_n C dX11_placeOf_27 hl 1 rfl rfl ?_
      refine lv_ishl C.1 C.2.1 dX11_placeOf_28 ?_
      refine lv_iconst (v := 1) C.1 C.2.1 dX11_placeOf_29 (by decide) ?_
      refine lv_isub C.1 C.2.1 dX11_placeOf_30 ?_
      refine lv_iand C.1 C.2.1 dX11_placeOf_31 ?_
      refine k_call Ext.tr C I (k_S (As := [.int ((mF M0 67 &&& (((1 : Int32) <<< (p0 &&& 31)) - (1 : Int32))))]) (rest := []) (y := yX11_bits) C q1702 q1703 q113 (Or.inl rfl) q1704 (by decide) rfl pd_X11_bits rfl dX11_placeOf_32) (ct_X11_bits h) hl.1 dX11_placeOf_32 [] rfl (Nat.le_of_ble_eq_true rfl) (Or.inl rfl) q1704 q113 ⟨Nat.le_of_ble_eq_true rfl, Nat.le_of_ble_eq_true rfl⟩ (fun v x1 H locs cells slots ex hq I => ?_) (fun a x1 H locs cells slots ex hq I => hq.elim)
      obtain ⟨M1, rfl, r2, rfl, h⟩ := hq
      exact b_X11_placeOf_35 C r2 M1 _ _ _ _ _ h I (hl.sub [] rfl)
    · have h := h.2 c3
      exact b_X11_placeOf_18 C M0 _ _ _ _ _ h I (hl.sub [] rfl)
def w_X11_real_43 (Q : Int32 → MS → Prop) (k4 : Int32 → Int32 → MS → Prop) (l2 : Int32) (t0 : Int32) (t1 : Int32) (M : MS) : Prop := k4 ((t1 ||| t0)) ((l2 + 1)) M
set_option maxHeartbeats 4000000 in
theorem b_X11_real_43 {b0 z0 : Nat} {M0 : MS} {Q : Int32 → MS → Prop} {k4 : Int32 → Int32 → MS → Prop} (C : Cx p s m meth c D T Z "EndingTownModel" cX11_real 3 (some .int)) (hk4 : ∀ (l1 : Int32) (l2 : Int32) (M : MS) (H : Heap) (locs : List Loc) (cells slots : Nat) (ls : Array Slot), k4 l1 l2 M → HI (twd D T Z) (mG b0 z0 M0) s (rmX (twd D T Z) 1 23 (mG b0 z0 M0)) H locs cells slots (mG b0 z0 M) → LH ls 3 [(0, .inr (.inl (some b0))), (1, .inl l1), (2, .inl l2)] → W p l e (rmX (twd D T Z) 1 23 (mG b0 z0 M0)) s m args below meth c H locs cells slots (MQX (twd D T Z) (mG b0 z0 M0) (mq b0 z0 (qI Q)) (fun _ _ => False) below s) (F0 m 4 ls [])) : ∀ (l2 : Int32) (t0 : Int32) (t1 : Int32) (M : MS) (H : Heap) (locs : List Loc) (cells slots : Nat) (ls : Array Slot), w_X11_real_43 Q k4 l2 t0 t1 M → HI (twd D T Z) (mG b0 z0 M0) s (rmX (twd D T Z) 1 23 (mG b0 z0 M0)) H locs cells slots (mG b0 z0 M) → LH ls 3 [(0, .inr (.inl (some b0))), (2, .inl l2)] → W p l e (rmX (twd D T Z) 1 23 (mG b0 z0 M0)) s m args below meth c H locs cells slots (MQX (twd D T Z) (mG b0 z0 M0) (mq b0 z0 (qI Q)) (fun _ _ => False) below s) (F0 m 43 ls [.int t0, .int t1]) := by
  intro l2 t0 t1 M H locs cells slots ls h I hl
  refine lv_ior C.1 C.2.1 dX11_real_43 ?_
  refine l_ist_n C dX11_real_44 rfl hl (by decide) rfl (fun ls hl => ?_)
  have hl : LH ls 3 [(1, .inl ((t1 ||| t0))), (0, .inr (.inl (some b0))), (2, .inl l2)] := hl
  refine l_inc (q := 2) (v := 1) C dX11_real_45 hl rfl (by decide) (by decide) rfl (fun ls hl => ?_)
  have hl : LH ls 3 [(2, .inl ((l2 + 1))), (1, .inl ((t1 ||| t0))), (0, .inr (.inl (some b0)))] := hl
  refine lv_goto (tgt := 4) C.1 C.2.1 dX11_real_48 (by decide) ?_
  exact hk4 ((t1 ||| t0)) ((l2 + 1)) M _ _ _ _ _ h I (hl.sub [2, 1, 0] rfl)
def w_X11_real_4 (Q : Int32 → MS → Prop) : Nat → Int32 → Int32 → MS → Prop
  | 0 => fun _ _ _ => False
  | f4 + 1 => fun l1 l2 M => w_X11_bits (fun r2 M1 => ((r2 ≤ l2) → (Q l1 M1)) ∧ ((¬ r2 ≤ l2) → (w_X11_low (fun r4 M3 => vp_in ((((5 : Int32) * r4) + (4 : Int32))) (mlen 11) ∧ ((¬ mA M3 11 ((((5 : Int32) * r4) + (4 : Int32))).toNatClampNeg = 0) → (w_X11_real_43 Q (w_X11_real_4 Q f4) l2 ((0 : Int32)) l1 M3)) ∧ ((mA M3 11 ((((5 : Int32) * r4) + (4 : Int32))).toNatClampNeg = 0) → (w_X11_real_43 Q (w_X11_real_4 Q f4) l2 (((1 : Int32) <<< (l2 &&& 31))) l1 M3))) (mF M1 67) l2 M1))) (mF M 67) M
set_option maxHeartbeats 4000000 in
theorem b_X11_real_4 {b0 z0 : Nat} {M0 : MS} {Q : Int32 → MS → Prop} (C : Cx p s m meth c D T Z "EndingTownModel" cX11_real 3 (some .int)) : ∀ (n : Nat) (l1 : Int32) (l2 : Int32) (M : MS) (H : Heap) (locs : List Loc) (cells slots : Nat) (ls : Array Slot), w_X11_real_4 Q n l1 l2 M → HI (twd D T Z) (mG b0 z0 M0) s (rmX (twd D T Z) 1 23 (mG b0 z0 M0)) H locs cells slots (mG b0 z0 M) → LH ls 3 [(0, .inr (.inl (some b0))), (1, .inl l1), (2, .inl l2)] → W p l e (rmX (twd D T Z) 1 23 (mG b0 z0 M0)) s m args below meth c H locs cells slots (MQX (twd D T Z) (mG b0 z0 M0) (mq b0 z0 (qI Q)) (fun _ _ => False) below s) (F0 m 4 ls []) := by
  intro n
  induction n with
  | zero => intro l1 l2 M H locs cells slots ls h; exact (show False from h).elim
  | succ n ih =>
    intro l1 l2 M H locs cells slots ls h I hl
    have hk4 := ih
    refine l_ild_n C dX11_real_4 hl 2 rfl rfl ?_
    refine l_ald_n (x := some b0) C dX11_real_5 hl 0 rfl rfl ?_
    refine f_I C I (fl_X11_282) (by decide) dX11_real_6 ?_
    refine k_call Ext.tr C I (k_S (As := [.int (mF M 67)]) (rest := [.int l2]) (y := yX11_bits) C q1702 q1703 q113 (Or.inl rfl) q1704 (by decide) rfl pd_X11_bits rfl dX11_real_9) (ct_X11_bits h) hl.1 dX11_real_9 [.inl l2] rfl (Nat.le_of_ble_eq_true rfl) (Or.inl rfl) q1704 q113 ⟨Nat.le_of_ble_eq_true rfl, Nat.le_of_ble_eq_true rfl⟩ (fun v x1 H locs cells slots ex hq I => ?_) (fun a x1 H locs cells slots ex hq I => hq.elim)
    obtain ⟨M1, rfl, r2, rfl, h⟩ := hq
    refine lv_icmp_ge (tgt := 51) C.1 C.2.1 dX11_real_12 (by decide) (fun c6 => ?_) (fun c6 => ?_)
    · have h := h.1 c6
      refine l_ild_n C dX11_real_51 hl 1 rfl rfl ?_
      exact r_int C.1 C.2.1 C.2.2.2.2.2.1 rfl C.2.2.2.2.2.2 ⟨rfl, rfl⟩ I dX11_real_52 ⟨_, rfl, _, rfl, h⟩
    · have h := h.2 c6
      refine l_ild_n C dX11_real_15 hl 1 rfl rfl ?_
      refine l_ald_n (x := some b0) C dX11_real_16 hl 0 rfl rfl ?_
      refine f_A C I (fl_X11_26) (by decide) (by decide) dX11_real_17 ?_
      refine lv_iconst (v := 5) C.1 C.2.1 dX11_real_20 (by decide) ?_
      refine l_ald_n (x := some b0) C dX11_real_21 hl 0 rfl rfl ?_
      refine f_I C I (fl_X11_282) (by decide) dX11_real_22 ?_
      refine l_ild_n C dX11_real_25 hl 2 rfl rfl ?_
      refine k_call Ext.tr C I (k_S (As := [.int (mF M1 67), .int l2]) (rest := [.int ((5 : Int32)), va_rf (some (b0 + moff 11)), .int l1]) (y := yX11_low) C q1903 q1904 q113 (Or.inl rfl) q1905 (by decide) rfl pd_X11_low rfl dX11_real_26) (ct_X11_low h) hl.1 dX11_real_26 [.inl ((5 : Int32)), .inr (.inl (some (b0 + moff 11))), .inl l1] rfl (Nat.le_of_ble_eq_true rfl) (Or.inl rfl) q1905 q113 ⟨Nat.le_of_ble_eq_true rfl, Nat.le_of_ble_eq_true rfl⟩ (fun v x1 H locs cells slots ex hq I => ?_) (fun a x1 H locs cells slots ex hq I => hq.elim)
      obtain ⟨M3, rfl, r4, rfl, h⟩ := hq
      refine lv_imul C.1 C.2.1 dX11_real_29 ?_
      refine lv_iconst (v := 4) C.1 C.2.1 dX11_real_30 (by decide) ?_
      refine lv_iadd C.1 C.2.1 dX11_real_31 ?_
      obtain ⟨hi, h⟩ := h
      refine f_ld (k := 11) C I (by decide) hi dX11_real_32 ?_
      refine lv_if_ne (tgt := 42) C.1 C.2.1 dX11_real_33 (by decide) (fun c5 => ?_) (fun c5 => ?_)
      · have h := h.1 c5
        refine lv_iconst (v := 0) C.1 C.2.1 dX11_real_42 (by decide) ?_
        exact b_X11_real_43 C hk4 l2 ((0 : Int32)) l1 M3 _ _ _ _ _ h I (hl.sub [0, 2] rfl)
      · have h := h.2 c5
        refine lv_iconst (v := 1) C.1 C.2.1 dX11_real_36 (by decide) ?_
        refine l_ild_n C dX11_real_37 hl 2 rfl rfl ?_
        refine lv_ishl C.1 C.2.1 dX11_real_38 ?_
        refine lv_goto (tgt := 43) C.1 C.2.1 dX11_real_39 (by decide) ?_
        exact b_X11_real_43 C hk4 l2 (((1 : Int32) <<< (l2 &&& 31))) l1 M3 _ _ _ _ _ h I (hl.sub [0, 2] rfl)
def w_X11_real (Q : Int32 → MS → Prop) (M : MS) : Prop := ∃ n, w_X11_real_4 Q n ((0 : Int32)) ((0 : Int32)) M
theorem pd_X11_real : (parseMethodDescriptor yX11_real.desc).map (fun d => d.parameters.length) = some 0 := by decide +kernel
set_option maxHeartbeats 4000000 in
theorem ct_X11_real {l : Launch} {D : va_G} {T : Nat → ClassId} {Z : Heap} {b0 z0 : Nat} {M0 : MS} {Q : Int32 → MS → Prop} (hw : w_X11_real Q M0) : CT (twd D T Z) (Evd D T Z) l yX11_real (Cond.code yX11_real cX11_real 3 (some .int)) 1 23 [va_rf (some b0)] (mG b0 z0 M0) (mq b0 z0 (qI Q)) (fun _ _ => False) := by
  refine CT.ofW (cc := cX11_real) (nL := 3) (ret := (some .int)) Ext.rf (by decide) (Or.inl rfl) ?_
  intro p e s m below meth c hx hb hml hown hr hlk hnm hcb hm hc hn hE I
  have C : Cx p s m meth c D T Z "EndingTownModel" cX11_real 3 (some .int) := ⟨hx, hb, hml, hown, hE, hr, hlk⟩
  refine w_entry [.inr (.inl (some b0))] (Nat.le_of_ble_eq_true rfl) (fun ls hl => ?_)
  have hl : LH ls 3 [(0, .inr (.inl (some b0)))] := hl
  have h := hw
  refine lv_iconst (v := 0) C.1 C.2.1 dX11_real_0 (by decide) ?_
  refine l_ist_n C dX11_real_1 rfl hl (by decide) rfl (fun ls hl => ?_)
  have hl : LH ls 3 [(1, .inl ((0 : Int32))), (0, .inr (.inl (some b0)))] := hl
  refine lv_iconst (v := 0) C.1 C.2.1 dX11_real_2 (by decide) ?_
  refine l_ist_n C dX11_real_3 rfl hl (by decide) rfl (fun ls hl => ?_)
  have hl : LH ls 3 [(2, .inl ((0 : Int32))), (1, .inl ((0 : Int32))), (0, .inr (.inl (some b0)))] := hl
  obtain ⟨n, h⟩ := h
  exact b_X11_real_4 C n ((0 : Int32)) ((0 : Int32)) M0 _ _ _ _ _ h I (hl.sub [2, 1, 0] rfl)
def w_X11_worldsOf_47 (Q : Int32 → MS → Prop) (k12 : Int32 → Int32 → Int32 → Int32 → MS → Prop) (l2 : Int32) (l3 : Int32) (l5 : Int32) (t0 : Int32) (t1 : Int32) (M : MS) : Prop := k12 l2 l3 ((t1 ||| t0)) ((l5 + 1)) M
set_option maxHeartbeats 4000000 in
theorem b_X11_worldsOf_47 {b0 z0 : Nat} {M0 : MS} {Q : Int32 → MS → Prop} {k12 : Int32 → Int32 → Int32 → Int32 → MS → Prop} (C : Cx p s m meth c D T Z "EndingTownModel" cX11_worldsOf 6 (some .int)) (hk12 : ∀ (l2 : Int32) (l3 : Int32) (l4 : Int32) (l5 : Int32) (M : MS) (H : Heap) (locs : List Loc) (cells slots : Nat) (ls : Array Slot), k12 l2 l3 l4 l5 M → HI (twd D T Z) (mG b0 z0 M0) s (rmX (twd D T Z) 2 43 (mG b0 z0 M0)) H locs cells slots (mG b0 z0 M) → LH ls 6 [(2, .inl l2), (3, .inl l3), (4, .inl l4), (5, .inl l5)] → W p l e (rmX (twd D T Z) 2 43 (mG b0 z0 M0)) s m args below meth c H locs cells slots (MQX (twd D T Z) (mG b0 z0 M0) (mq b0 z0 (qI Q)) (fun _ _ => False) below s) (F0 m 12 ls [])) : ∀ (l2 : Int32) (l3 : Int32) (l5 : Int32) (t0 : Int32) (t1 : Int32) (M : MS) (H : Heap) (locs : List Loc) (cells slots : Nat) (ls : Array Slot), w_X11_worldsOf_47 Q k12 l2 l3 l5 t0 t1 M → HI (twd D T Z) (mG b0 z0 M0) s (rmX (twd D T Z) 2 43 (mG b0 z0 M0)) H locs cells slots (mG b0 z0 M) → LH ls 6 [(2, .inl l2), (3, .inl l3), (5, .inl l5)] → W p l e (rmX (twd D T Z) 2 43 (mG b0 z0 M0)) s m args below meth c H locs cells slots (MQX (twd D T Z) (mG b0 z0 M0) (mq b0 z0 (qI Q)) (fun _ _ => False) below s) (F0 m 47 ls [.int t0, .int t1]) := by
  intro l2 l3 l5 t0 t1 M H locs cells slots ls h I hl
  refine lv_ior C.1 C.2.1 dX11_worldsOf_47 ?_
  refine l_ist C dX11_worldsOf_48 hl (by decide) rfl (fun ls hl => ?_)
  have hl : LH ls 6 [(4, .inl ((t1 ||| t0))), (2, .inl l2), (3, .inl l3), (5, .inl l5)] := hl
  refine l_inc (q := 3) (v := 1) C dX11_worldsOf_50 hl rfl (by decide) (by decide) rfl (fun ls hl => ?_)
  have hl : LH ls 6 [(5, .inl ((l5 + 1))), (4, .inl ((t1 ||| t0))), (2, .inl l2), (3, .inl l3)] := hl
  refine lv_goto (tgt := 12) C.1 C.2.1 dX11_worldsOf_53 (by decide) ?_
  exact hk12 l2 l3 ((t1 ||| t0)) ((l5 + 1)) M _ _ _ _ _ h I (hl.sub [2, 3, 1, 0] rfl)
def w_X11_worldsOf_36 (Q : Int32 → MS → Prop) (k12 : Int32 → Int32 → Int32 → Int32 → MS → Prop) (l2 : Int32) (l3 : Int32) (l5 : Int32) (t0 : Int32) (t1 : Int32) (t2 : Int32) (M : MS) : Prop := ((¬ t1 = t0) → (w_X11_worldsOf_47 Q k12 l2 l3 l5 ((0 : Int32)) t2 M)) ∧ ((t1 = t0) → (w_X11_worldsOf_47 Q k12 l2 l3 l5 (((1 : Int32) <<< (l5 &&& 31))) t2 M))
set_option maxHeartbeats 4000000 in
theorem b_X11_worldsOf_36 {b0 z0 : Nat} {M0 : MS} {Q : Int32 → MS → Prop} {k12 : Int32 → Int32 → Int32 → Int32 → MS → Prop} (C : Cx p s m meth c D T Z "EndingTownModel" cX11_worldsOf 6 (some .int)) (hk12 : ∀ (l2 : Int32) (l3 : Int32) (l4 : Int32) (l5 : Int32) (M : MS) (H : Heap) (locs : List Loc) (cells slots : Nat) (ls : Array Slot), k12 l2 l3 l4 l5 M → HI (twd D T Z) (mG b0 z0 M0) s (rmX (twd D T Z) 2 43 (mG b0 z0 M0)) H locs cells slots (mG b0 z0 M) → LH ls 6 [(2, .inl l2), (3, .inl l3), (4, .inl l4), (5, .inl l5)] → W p l e (rmX (twd D T Z) 2 43 (mG b0 z0 M0)) s m args below meth c H locs cells slots (MQX (twd D T Z) (mG b0 z0 M0) (mq b0 z0 (qI Q)) (fun _ _ => False) below s) (F0 m 12 ls [])) : ∀ (l2 : Int32) (l3 : Int32) (l5 : Int32) (t0 : Int32) (t1 : Int32) (t2 : Int32) (M : MS) (H : Heap) (locs : List Loc) (cells slots : Nat) (ls : Array Slot), w_X11_worldsOf_36 Q k12 l2 l3 l5 t0 t1 t2 M → HI (twd D T Z) (mG b0 z0 M0) s (rmX (twd D T Z) 2 43 (mG b0 z0 M0)) H locs cells slots (mG b0 z0 M) → LH ls 6 [(2, .inl l2), (3, .inl l3), (5, .inl l5)] → W p l e (rmX (twd D T Z) 2 43 (mG b0 z0 M0)) s m args below meth c H locs cells slots (MQX (twd D T Z) (mG b0 z0 M0) (mq b0 z0 (qI Q)) (fun _ _ => False) below s) (F0 m 36 ls [.int t0, .int t1, .int t2]) := by
  intro l2 l3 l5 t0 t1 t2 M H locs cells slots ls h I hl
  refine lv_icmp_ne (tgt := 46) C.1 C.2.1 dX11_worldsOf_36 (by decide) (fun c1 => ?_) (fun c1 => ?_)
  · have h := h.1 c1
    refine lv_iconst (v := 0) C.1 C.2.1 dX11_worldsOf_46 (by decide) ?_
    exact b_X11_worldsOf_47 C hk12 l2 l3 l5 ((0 : Int32)) t2 M _ _ _ _ _ h I (hl.sub [0, 1, 2] rfl)
  · have h := h.2 c1
    refine lv_iconst (v := 1) C.1 C.2.1 dX11_worldsOf_39 (by decide) ?_
    refine l_ild C dX11_worldsOf_40 hl 2 rfl ?_
    refine lv_ishl C.1 C.2.1 dX11_worldsOf_42 ?_
    refine lv_goto (tgt := 47) C.1 C.2.1 dX11_worldsOf_43 (by decide) ?_
    exact b_X11_worldsOf_47 C hk12 l2 l3 l5 (((1 : Int32) <<< (l5 &&& 31))) t2 M _ _ _ _ _ h I (hl.sub [0, 1, 2] rfl)
def w_X11_worldsOf_12 (Q : Int32 → MS → Prop) : Nat → Int32 → Int32 → Int32 → Int32 → MS → Prop
  | 0 => fun _ _ _ _ _ => False
  | f12 + 1 => fun l2 l3 l4 l5 M => (((16 : Int32) ≤ l5) → (Q l4 M)) ∧ ((¬ (16 : Int32) ≤ l5) → (((l2 = 0) → (w_X11_worldsOf_36 Q (w_X11_worldsOf_12 Q f12) l2 l3 l5 ((1 : Int32)) (((l5 >>> (l3 &&& 31)) &&& (1 : Int32))) l4 M)) ∧ ((¬ l2 = 0) → (w_X11_worldsOf_36 Q (w_X11_worldsOf_12 Q f12) l2 l3 l5 ((0 : Int32)) (((l5 >>> (l3 &&& 31)) &&& (1 : Int32))) l4 M))))
set_option maxHeartbeats 4000000 in
theorem b_X11_worldsOf_12 {b0 z0 : Nat} {M0 : MS} {Q : Int32 → MS → Prop} (C : Cx p s m meth c D T Z "EndingTownModel" cX11_worldsOf 6 (some .int)) : ∀ (n : Nat) (l2 : Int32) (l3 : Int32) (l4 : Int32) (l5 : Int32) (M : MS) (H : Heap) (locs : List Loc) (cells slots : Nat) (ls : Array Slot), w_X11_worldsOf_12 Q n l2 l3 l4 l5 M → HI (twd D T Z) (mG b0 z0 M0) s (rmX (twd D T Z) 2 43 (mG b0 z0 M0)) H locs cells slots (mG b0 z0 M) → LH ls 6 [(2, .inl l2), (3, .inl l3), (4, .inl l4), (5, .inl l5)] → W p l e (rmX (twd D T Z) 2 43 (mG b0 z0 M0)) s m args below meth c H locs cells slots (MQX (twd D T Z) (mG b0 z0 M0) (mq b0 z0 (qI Q)) (fun _ _ => False) below s) (F0 m 12 ls []) := by
  intro n
  induction n with
  | zero => intro l2 l3 l4 l5 M H locs cells slots ls h; exact (show False from h).elim
  | succ n ih =>
    intro l2 l3 l4 l5 M H locs cells slots ls h I hl
    have hk12 := ih
    refine l_ild C dX11_worldsOf_12 hl 3 rfl ?_
    refine lv_bipush (v := 16) C.1 C.2.1 dX11_worldsOf_14 (by decide) ?_
    refine lv_icmp_ge (tgt := 56) C.1 C.2.1 dX11_worldsOf_16 (by decide) (fun c2 => ?_) (fun c2 => ?_)
    · have h := h.1 c2
      refine l_ild C dX11_worldsOf_56 hl 2 rfl ?_
      exact r_int C.1 C.2.1 C.2.2.2.2.2.1 rfl C.2.2.2.2.2.2 ⟨rfl, rfl⟩ I dX11_worldsOf_58 ⟨_, rfl, _, rfl, h⟩
    · have h := h.2 c2
      refine l_ild C dX11_worldsOf_19 hl 2 rfl ?_
      refine l_ild C dX11_worldsOf_21 hl 3 rfl ?_
      refine l_ild_n C dX11_worldsOf_23 hl 1 rfl rfl ?_
      refine lv_ishr C.1 C.2.1 dX11_worldsOf_24 ?_
      refine lv_iconst (v := 1) C.1 C.2.1 dX11_worldsOf_25 (by decide) ?_
      refine lv_iand C.1 C.2.1 dX11_worldsOf_26 ?_
      refine l_ild_n C dX11_worldsOf_27 hl 0 rfl rfl ?_
      refine lv_if_eq (tgt := 35) C.1 C.2.1 dX11_worldsOf_28 (by decide) (fun c1 => ?_) (fun c1 => ?_)
      · have h := h.1 c1
        refine lv_iconst (v := 1) C.1 C.2.1 dX11_worldsOf_35 (by decide) ?_
        exact b_X11_worldsOf_36 C hk12 l2 l3 l5 ((1 : Int32)) (((l5 >>> (l3 &&& 31)) &&& (1 : Int32))) l4 M _ _ _ _ _ h I (hl.sub [0, 1, 3] rfl)
      · have h := h.2 c1
        refine lv_iconst (v := 0) C.1 C.2.1 dX11_worldsOf_31 (by decide) ?_
        refine lv_goto (tgt := 36) C.1 C.2.1 dX11_worldsOf_32 (by decide) ?_
        exact b_X11_worldsOf_36 C hk12 l2 l3 l5 ((0 : Int32)) (((l5 >>> (l3 &&& 31)) &&& (1 : Int32))) l4 M _ _ _ _ _ h I (hl.sub [0, 1, 3] rfl)
def w_X11_worldsOf (Q : Int32 → MS → Prop) (p0 : Int32) (p1 : Int32) (M : MS) : Prop := w_X11_placeOf (fun r2 M1 => ∃ n, w_X11_worldsOf_12 Q n p1 r2 ((0 : Int32)) ((0 : Int32)) M1) p0 M
theorem pd_X11_worldsOf : (parseMethodDescriptor yX11_worldsOf.desc).map (fun d => d.parameters.length) = some 2 := by decide +kernel
set_option maxHeartbeats 4000000 in
theorem ct_X11_worldsOf {l : Launch} {D : va_G} {T : Nat → ClassId} {Z : Heap} {b0 z0 : Nat} {M0 : MS} {Q : Int32 → MS → Prop} {p0 : Int32} {p1 : Int32} (hw : w_X11_worldsOf Q p0 p1 M0) : CT (twd D T Z) (Evd D T Z) l yX11_worldsOf (Cond.code yX11_worldsOf cX11_worldsOf 6 (some .int)) 2 43 [va_rf (some b0), .int p0, .int p1] (mG b0 z0 M0) (mq b0 z0 (qI Q)) (fun _ _ => False) := by
  refine CT.ofW (cc := cX11_worldsOf) (nL := 6) (ret := (some .int)) Ext.rf (by decide) (Or.inl rfl) ?_
  intro p e s m below meth c hx hb hml hown hr hlk hnm hcb hm hc hn hE I
  have C : Cx p s m meth c D T Z "EndingTownModel" cX11_worldsOf 6 (some .int) := ⟨hx, hb, hml, hown, hE, hr, hlk⟩
  refine w_entry [.inr (.inl (some b0)), .inl p0, .inl p1] (Nat.le_of_ble_eq_true rfl) (fun ls hl => ?_)
  have hl : LH ls 6 [(0, .inr (.inl (some b0))), (1, .inl p0), (2, .inl p1)] := hl
  have h := hw
  refine l_ald_n (x := some b0) C dX11_worldsOf_0 hl 0 rfl rfl ?_
  refine l_ild_n C dX11_worldsOf_1 hl 1 rfl rfl ?_
  refine k_call Ext.tr C I (k_V (r := some b0) (As := [.int p0]) (rest := []) (y := yX11_placeOf) C (f_recv C I) q1887 q1889 qs94 (Or.inl rfl) q1890 (by decide) rfl pd_X11_placeOf rfl dX11_worldsOf_2) (ct_X11_placeOf h) hl.1 dX11_worldsOf_2 [] rfl (Nat.le_of_ble_eq_true rfl) (Or.inl rfl) q1890 q113 ⟨Nat.le_of_ble_eq_true rfl, Nat.le_of_ble_eq_true rfl⟩ (fun v x1 H locs cells slots ex hq I => ?_) (fun a x1 H locs cells slots ex hq I => hq.elim)
  obtain ⟨M1, rfl, r2, rfl, h⟩ := hq
  refine l_ist_n C dX11_worldsOf_5 rfl hl (by decide) rfl (fun ls hl => ?_)
  have hl : LH ls 6 [(3, .inl r2), (0, .inr (.inl (some b0))), (1, .inl p0), (2, .inl p1)] := hl
  refine lv_iconst (v := 0) C.1 C.2.1 dX11_worldsOf_6 (by decide) ?_
  refine l_ist C dX11_worldsOf_7 hl (by decide) rfl (fun ls hl => ?_)
  have hl : LH ls 6 [(4, .inl ((0 : Int32))), (3, .inl r2), (0, .inr (.inl (some b0))), (1, .inl p0), (2, .inl p1)] := hl
  refine lv_iconst (v := 0) C.1 C.2.1 dX11_worldsOf_9 (by decide) ?_
  refine l_ist C dX11_worldsOf_10 hl (by decide) rfl (fun ls hl => ?_)
  have hl : LH ls 6 [(5, .inl ((0 : Int32))), (4, .inl ((0 : Int32))), (3, .inl r2), (0, .inr (.inl (some b0))), (1, .inl p0), (2, .inl p1)] := hl
  obtain ⟨n, h⟩ := h
  exact b_X11_worldsOf_12 C n p1 r2 ((0 : Int32)) ((0 : Int32)) M1 _ _ _ _ _ h I (hl.sub [5, 2, 1, 0] rfl)
def w_X11_tell_22 (Q : Int32 → MS → Prop) (M : MS) : Prop := Q ((0 : Int32)) M
set_option maxHeartbeats 4000000 in
theorem b_X11_tell_22 {b0 z0 : Nat} {M0 : MS} {Q : Int32 → MS → Prop} (C : Cx p s m meth c D T Z "EndingTownModel" cX11_tell 5 (some .int)) : ∀ (M : MS) (H : Heap) (locs : List Loc) (cells slots : Nat) (ls : Array Slot), w_X11_tell_22 Q M → HI (twd D T Z) (mG b0 z0 M0) s (rmX (twd D T Z) 3 74 (mG b0 z0 M0)) H locs cells slots (mG b0 z0 M) → LH ls 5 [] → W p l e (rmX (twd D T Z) 3 74 (mG b0 z0 M0)) s m args below meth c H locs cells slots (MQX (twd D T Z) (mG b0 z0 M0) (mq b0 z0 (qI Q)) (fun _ _ => False) below s) (F0 m 22 ls []) := by
  intro M H locs cells slots ls h I hl
  refine lv_iconst (v := 0) C.1 C.2.1 dX11_tell_22 (by decide) ?_
  exact r_int C.1 C.2.1 C.2.2.2.2.2.1 rfl C.2.2.2.2.2.2 ⟨rfl, rfl⟩ I dX11_tell_23 ⟨_, rfl, _, rfl, h⟩
def w_X11_tell (Q : Int32 → MS → Prop) (p0 : Int32) (p1 : Int32) (p2 : Int32) (M : MS) : Prop := ∀ M1 : MS, M1 = sF M 0 ((0 : Int32)) → w_X11_isWho (fun r3 M2 => ((r3 = 0) → (w_X11_tell_22 Q M2)) ∧ ((¬ r3 = 0) → (w_X11_isThing (fun r5 M4 => ((¬ r5 = 0) → (w_X11_placeOf (fun r7 M6 => ((¬ r7 = (-1 : Int32)) → (w_X11_worldsOf (fun r9 M8 => w_X11_knows (fun r11 M10 => w_X11_real (fun r13 M12 => ((¬ ((r11 >>> (r13 &&& 31)) &&& (1 : Int32)) = 0) → (∀ M14 : MS, M14 = sF M12 68 ((mF M12 68 &&& r11)) → w_X11_bits (fun r16 M15 => Q r16 M15) (mF M14 68) M14)) ∧ ((((r11 >>> (r13 &&& 31)) &&& (1 : Int32)) = 0) → (w_X11_refuses (fun r18 M17 => Q r18 M17) ((2 : Int32)) M12))) M10) p0 r9 M8) p1 p2 M6)) ∧ ((r7 = (-1 : Int32)) → (w_X11_refuses (fun r21 M20 => Q r21 M20) ((2 : Int32)) M6))) p1 M4)) ∧ ((r5 = 0) → (w_X11_tell_22 Q M4))) p1 M2))) p0 ((0 : Int32)) M1
theorem pd_X11_tell : (parseMethodDescriptor yX11_tell.desc).map (fun d => d.parameters.length) = some 3 := by decide +kernel
set_option maxHeartbeats 4000000 in
theorem ct_X11_tell {l : Launch} {D : va_G} {T : Nat → ClassId} {Z : Heap} {b0 z0 : Nat} {M0 : MS} {Q : Int32 → MS → Prop} {p0 : Int32} {p1 : Int32} {p2 : Int32} (hw : w_X11_tell Q p0 p1 p2 M0) : CT (twd D T Z) (Evd D T Z) l yX11_tell (Cond.code yX11_tell cX11_tell 5 (some .int)) 3 74 [va_rf (some b0), .int p0, .int p1, .int p2] (mG b0 z0 M0) (mq b0 z0 (qI Q)) (fun _ _ => False) := by
  refine CT.ofW (cc := cX11_tell) (nL := 5) (ret := (some .int)) Ext.rf (by decide) (Or.inl rfl) ?_
  intro p e s m below meth c hx hb hml hown hr hlk hnm hcb hm hc hn hE I
  have C : Cx p s m meth c D T Z "EndingTownModel" cX11_tell 5 (some .int) := ⟨hx, hb, hml, hown, hE, hr, hlk⟩
  refine w_entry [.inr (.inl (some b0)), .inl p0, .inl p1, .inl p2] (Nat.le_of_ble_eq_true rfl) (fun ls hl => ?_)
  have hl : LH ls 5 [(0, .inr (.inl (some b0))), (1, .inl p0), (2, .inl p1), (3, .inl p2)] := hl
  have h := hw
  refine l_ald_n (x := some b0) C dX11_tell_0 hl 0 rfl rfl ?_
  refine lv_iconst (v := 0) C.1 C.2.1 dX11_tell_1 (by decide) ?_
  refine f_PI C I (fp_X11_122) (by decide) dX11_tell_2 (fit_i _) (fun H locs M1 eM1 I => ?_)
  have h := h M1 eM1
  refine l_ald_n (x := some b0) C dX11_tell_5 hl 0 rfl rfl ?_
  refine l_ild_n C dX11_tell_6 hl 1 rfl rfl ?_
  refine lv_iconst (v := 0) C.1 C.2.1 dX11_tell_7 (by decide) ?_
  refine k_call Ext.tr C I (k_V (r := some b0) (As := [.int p0, .int ((0 : Int32))]) (rest := []) (y := yX11_isWho) C (f_recv C I) q1709 q1711 qs66 (Or.inl rfl) q1712 (by decide) rfl pd_X11_isWho rfl dX11_tell_8) (ct_X11_isWho h) hl.1 dX11_tell_8 [] rfl (Nat.le_of_ble_eq_true rfl) (Or.inl rfl) q1712 q113 ⟨Nat.le_of_ble_eq_true rfl, Nat.le_of_ble_eq_true rfl⟩ (fun v x1 H locs cells slots ex hq I => ?_) (fun a x1 H locs cells slots ex hq I => hq.elim)
  obtain ⟨M2, rfl, r3, rfl, h⟩ := hq
  refine lv_if_eq (tgt := 22) C.1 C.2.1 dX11_tell_11 (by decide) (fun c24 => ?_) (fun c24 => ?_)
  · have h := h.1 c24
    exact b_X11_tell_22 C M2 _ _ _ _ _ h I (hl.sub [] rfl)
  · have h := h.2 c24
    refine l_ald_n (x := some b0) C dX11_tell_14 hl 0 rfl rfl ?_
    refine l_ild_n C dX11_tell_15 hl 2 rfl rfl ?_
    refine k_call Ext.tr C I (k_V (r := some b0) (As := [.int p1]) (rest := []) (y := yX11_isThing) C (f_recv C I) q1717 q1719 qs67 (Or.inl rfl) q1720 (by decide) rfl pd_X11_isThing rfl dX11_tell_16) (ct_X11_isThing h) hl.1 dX11_tell_16 [] rfl (Nat.le_of_ble_eq_true rfl) (Or.inl rfl) q1720 q113 ⟨Nat.le_of_ble_eq_true rfl, Nat.le_of_ble_eq_true rfl⟩ (fun v x1 H locs cells slots ex hq I => ?_) (fun a x1 H locs cells slots ex hq I => hq.elim)
    obtain ⟨M4, rfl, r5, rfl, h⟩ := hq
    refine lv_if_ne (tgt := 24) C.1 C.2.1 dX11_tell_19 (by decide) (fun c23 => ?_) (fun c23 => ?_)
    · have h := h.1 c23
      refine l_ald_n (x := some b0) C dX11_tell_24 hl 0 rfl rfl ?_
      refine l_ild_n C dX11_tell_25 hl 2 rfl rfl ?_
      refine k_call Ext.tr C I (k_V (r := some b0) (As := [.int p1]) (rest := []) (y := yX11_placeOf) C (f_recv C I) q1887 q1889 qs94 (Or.inl rfl) q1890 (by decide) rfl pd_X11_placeOf rfl dX11_tell_26) (ct_X11_placeOf h) hl.1 dX11_tell_26 [] rfl (Nat.le_of_ble_eq_true rfl) (Or.inl rfl) q1890 q113 ⟨Nat.le_of_ble_eq_true rfl, Nat.le_of_ble_eq_true rfl⟩ (fun v x1 H locs cells slots ex hq I => ?_) (fun a x1 H locs cells slots ex hq I => hq.elim)
      obtain ⟨M6, rfl, r7, rfl, h⟩ := hq
      refine lv_iconst (v := (-1)) C.1 C.2.1 dX11_tell_29 (by decide) ?_
      refine lv_icmp_ne (tgt := 39) C.1 C.2.1 dX11_tell_30 (by decide) (fun c22 => ?_) (fun c22 => ?_)
      · have h := h.1 c22
        refine l_ald_n (x := some b0) C dX11_tell_39 hl 0 rfl rfl ?_
        refine l_ild_n C dX11_tell_40 hl 1 rfl rfl ?_
        refine l_ald_n (x := some b0) C dX11_tell_41 hl 0 rfl rfl ?_
        refine l_ild_n C dX11_tell_42 hl 2 rfl rfl ?_
        refine l_ild_n C dX11_tell_43 hl 3 rfl rfl ?_
        refine k_call Ext.tr C I (k_V (r := some b0) (As := [.int p1, .int p2]) (rest := [.int p0, va_rf (some b0)]) (y := yX11_worldsOf) C (f_recv C I) q1891 q1893 qs95 (Or.inl rfl) q1894 (by decide) rfl pd_X11_worldsOf rfl dX11_tell_44) (ct_X11_worldsOf h) hl.1 dX11_tell_44 [.inl p0, .inr (.inl (some b0))] rfl (Nat.le_of_ble_eq_true rfl) (Or.inl rfl) q1894 q113 ⟨Nat.le_of_ble_eq_true rfl, Nat.le_of_ble_eq_true rfl⟩ (fun v x1 H locs cells slots ex hq I => ?_) (fun a x1 H locs cells slots ex hq I => hq.elim)
        obtain ⟨M8, rfl, r9, rfl, h⟩ := hq
        refine k_call Ext.tr C I (k_V (r := some b0) (As := [.int p0, .int r9]) (rest := []) (y := yX11_knows) C (f_recv C I) q1895 q1897 qs96 (Or.inl rfl) q1898 (by decide) rfl pd_X11_knows rfl dX11_tell_47) (ct_X11_knows h) hl.1 dX11_tell_47 [] rfl (Nat.le_of_ble_eq_true rfl) (Or.inl rfl) q1898 q113 ⟨Nat.le_of_ble_eq_true rfl, Nat.le_of_ble_eq_true rfl⟩ (fun v x1 H locs cells slots ex hq I => ?_) (fun a x1 H locs cells slots ex hq I => hq.elim)
        obtain ⟨M10, rfl, r11, rfl, h⟩ := hq
        refine l_ist C dX11_tell_50 hl (by decide) rfl (fun ls hl => ?_)
        have hl : LH ls 5 [(4, .inl r11), (0, .inr (.inl (some b0))), (1, .inl p0), (2, .inl p1), (3, .inl p2)] := hl
        refine l_ild C dX11_tell_52 hl 0 rfl ?_
        refine l_ald_n (x := some b0) C dX11_tell_54 hl 1 rfl rfl ?_
        refine k_call Ext.tr C I (k_V (r := some b0) (As := []) (rest := [.int r11]) (y := yX11_real) C (f_recv C I) q1906 q1908 qs98 (Or.inl rfl) q1909 (by decide) rfl pd_X11_real rfl dX11_tell_55) (ct_X11_real h) hl.1 dX11_tell_55 [.inl r11] rfl (Nat.le_of_ble_eq_true rfl) (Or.inl rfl) q1909 q113 ⟨Nat.le_of_ble_eq_true rfl, Nat.le_of_ble_eq_true rfl⟩ (fun v x1 H locs cells slots ex hq I => ?_) (fun a x1 H locs cells slots ex hq I => hq.elim)
        obtain ⟨M12, rfl, r13, rfl, h⟩ := hq
        refine lv_ishr C.1 C.2.1 dX11_tell_58 ?_
        refine lv_iconst (v := 1) C.1 C.2.1 dX11_tell_59 (by decide) ?_
        refine lv_iand C.1 C.2.1 dX11_tell_60 ?_
        refine lv_if_ne (tgt := 70) C.1 C.2.1 dX11_tell_61 (by decide) (fun c19 => ?_) (fun c19 => ?_)
        · have h := h.1 c19
          refine l_ald_n (x := some b0) C dX11_tell_70 hl 1 rfl rfl ?_
          refine lv_dup C.1 C.2.1 dX11_tell_71 (cat_rf _) ?_
          refine f_I C I (fl_X11_285) (by decide) dX11_tell_72 ?_
          refine l_ild C dX11_tell_75 hl 0 rfl ?_
          refine lv_iand C.1 C.2.1 dX11_tell_77 ?_
          refine f_PI C I (fp_X11_285) (by decide) dX11_tell_78 (fit_i _) (fun H locs M14 eM14 I => ?_)
          have h := h M14 eM14
          refine l_ald_n (x := some b0) C dX11_tell_81 hl 1 rfl rfl ?_
          refine f_I C I (fl_X11_285) (by decide) dX11_tell_82 ?_
          refine k_call Ext.tr C I (k_S (As := [.int (mF M14 68)]) (rest := []) (y := yX11_bits) C q1702 q1703 q113 (Or.inl rfl) q1704 (by decide) rfl pd_X11_bits rfl dX11_tell_85) (ct_X11_bits h) hl.1 dX11_tell_85 [] rfl (Nat.le_of_ble_eq_true rfl) (Or.inl rfl) q1704 q113 ⟨Nat.le_of_ble_eq_true rfl, Nat.le_of_ble_eq_true rfl⟩ (fun v x1 H locs cells slots ex hq I => ?_) (fun a x1 H locs cells slots ex hq I => hq.elim)
          obtain ⟨M15, rfl, r16, rfl, h⟩ := hq
          exact r_int C.1 C.2.1 C.2.2.2.2.2.1 rfl C.2.2.2.2.2.2 ⟨rfl, rfl⟩ I dX11_tell_88 ⟨_, rfl, _, rfl, h⟩
        · have h := h.2 c19
          refine l_ald_n (x := some b0) C dX11_tell_64 hl 1 rfl rfl ?_
          refine lv_iconst (v := 2) C.1 C.2.1 dX11_tell_65 (by decide) ?_
          refine k_call Ext.tr C I (k_V (r := some b0) (As := [.int ((2 : Int32))]) (rest := []) (y := yX11_refuses) C (f_recv C I) q1757 q1759 qs73 (Or.inl rfl) q1760 (by decide) rfl pd_X11_refuses rfl dX11_tell_66) (ct_X11_refuses h) hl.1 dX11_tell_66 [] rfl (Nat.le_of_ble_eq_true rfl) (Or.inl rfl) q1760 q113 ⟨Nat.le_of_ble_eq_true rfl, Nat.le_of_ble_eq_true rfl⟩ (fun v x1 H locs cells slots ex hq I => ?_) (fun a x1 H locs cells slots ex hq I => hq.elim)
          obtain ⟨M17, rfl, r18, rfl, h⟩ := hq
          exact r_int C.1 C.2.1 C.2.2.2.2.2.1 rfl C.2.2.2.2.2.2 ⟨rfl, rfl⟩ I dX11_tell_69 ⟨_, rfl, _, rfl, h⟩
      · have h := h.2 c22
        refine l_ald_n (x := some b0) C dX11_tell_33 hl 0 rfl rfl ?_
        refine lv_iconst (v := 2) C.1 C.2.1 dX11_tell_34 (by decide) ?_
        refine k_call Ext.tr C I (k_V (r := some b0) (As := [.int ((2 : Int32))]) (rest := []) (y := yX11_refuses) C (f_recv C I) q1757 q1759 qs73 (Or.inl rfl) q1760 (by decide) rfl pd_X11_refuses rfl dX11_tell_35) (ct_X11_refuses h) hl.1 dX11_tell_35 [] rfl (Nat.le_of_ble_eq_true rfl) (Or.inl rfl) q1760 q113 ⟨Nat.le_of_ble_eq_true rfl, Nat.le_of_ble_eq_true rfl⟩ (fun v x1 H locs cells slots ex hq I => ?_) (fun a x1 H locs cells slots ex hq I => hq.elim)
        obtain ⟨M20, rfl, r21, rfl, h⟩ := hq
        exact r_int C.1 C.2.1 C.2.2.2.2.2.1 rfl C.2.2.2.2.2.2 ⟨rfl, rfl⟩ I dX11_tell_38 ⟨_, rfl, _, rfl, h⟩
    · have h := h.2 c23
      exact b_X11_tell_22 C M4 _ _ _ _ _ h I (hl.sub [] rfl)
def w_X11_known_27 (Q : Int32 → MS → Prop) (M : MS) : Prop := Q (0 : Int32) M
set_option maxHeartbeats 4000000 in
theorem b_X11_known_27 {b0 z0 : Nat} {M0 : MS} {Q : Int32 → MS → Prop} (C : Cx p s m meth c D T Z "EndingTownModel" cX11_known 7 (some .boolean)) : ∀ (M : MS) (H : Heap) (locs : List Loc) (cells slots : Nat) (ls : Array Slot), w_X11_known_27 Q M → HI (twd D T Z) (mG b0 z0 M0) s (rmX (twd D T Z) 3 74 (mG b0 z0 M0)) H locs cells slots (mG b0 z0 M) → LH ls 7 [] → W p l e (rmX (twd D T Z) 3 74 (mG b0 z0 M0)) s m args below meth c H locs cells slots (MQX (twd D T Z) (mG b0 z0 M0) (mq b0 z0 (qI Q)) (fun _ _ => False) below s) (F0 m 27 ls []) := by
  intro M H locs cells slots ls h I hl
  refine lv_iconst (v := 0) C.1 C.2.1 dX11_known_27 (by decide) ?_
  exact r_int C.1 C.2.1 C.2.2.2.2.2.1 rfl C.2.2.2.2.2.2 ⟨rfl, rfl⟩ I dX11_known_28 ⟨_, rfl, _, rfl, h⟩
def w_X11_known_60 (Q : Int32 → MS → Prop) (k32 : Int32 → Int32 → Int32 → Int32 → Int32 → MS → Prop) (l1 : Int32) (l2 : Int32) (l3 : Int32) (l4 : Int32) (l5 : Int32) (t0 : Int32) (M : MS) : Prop := w_X11_right (fun r2 M1 => ((¬ r2 = 0) → (k32 l1 l2 l3 l4 ((l5 + 1)) M1)) ∧ ((r2 = 0) → (Q (0 : Int32) M1))) t0 ((2 : Int32)) M
set_option maxHeartbeats 4000000 in
theorem b_X11_known_60 {b0 z0 : Nat} {M0 : MS} {Q : Int32 → MS → Prop} {k32 : Int32 → Int32 → Int32 → Int32 → Int32 → MS → Prop} (C : Cx p s m meth c D T Z "EndingTownModel" cX11_known 7 (some .boolean)) (hk32 : ∀ (l1 : Int32) (l2 : Int32) (l3 : Int32) (l4 : Int32) (l5 : Int32) (M : MS) (H : Heap) (locs : List Loc) (cells slots : Nat) (ls : Array Slot), k32 l1 l2 l3 l4 l5 M → HI (twd D T Z) (mG b0 z0 M0) s (rmX (twd D T Z) 3 74 (mG b0 z0 M0)) H locs cells slots (mG b0 z0 M) → LH ls 7 [(0, .inr (.inl (some b0))), (1, .inl l1), (2, .inl l2), (3, .inl l3), (4, .inl l4), (5, .inl l5)] → W p l e (rmX (twd D T Z) 3 74 (mG b0 z0 M0)) s m args below meth c H locs cells slots (MQX (twd D T Z) (mG b0 z0 M0) (mq b0 z0 (qI Q)) (fun _ _ => False) below s) (F0 m 32 ls [])) : ∀ (l1 : Int32) (l2 : Int32) (l3 : Int32) (l4 : Int32) (l5 : Int32) (t0 : Int32) (M : MS) (H : Heap) (locs : List Loc) (cells slots : Nat) (ls : Array Slot), w_X11_known_60 Q k32 l1 l2 l3 l4 l5 t0 M → HI (twd D T Z) (mG b0 z0 M0) s (rmX (twd D T Z) 3 74 (mG b0 z0 M0)) H locs cells slots (mG b0 z0 M) → LH ls 7 [(0, .inr (.inl (some b0))), (1, .inl l1), (2, .inl l2), (3, .inl l3), (4, .inl l4), (5, .inl l5)] → W p l e (rmX (twd D T Z) 3 74 (mG b0 z0 M0)) s m args below meth c H locs cells slots (MQX (twd D T Z) (mG b0 z0 M0) (mq b0 z0 (qI Q)) (fun _ _ => False) below s) (F0 m 60 ls [.int t0, va_rf (some b0)]) := by
  intro l1 l2 l3 l4 l5 t0 M H locs cells slots ls h I hl
  refine lv_iconst (v := 2) C.1 C.2.1 dX11_known_60 (by decide) ?_
  refine k_call Ext.tr C I (k_V (r := some b0) (As := [.int t0, .int ((2 : Int32))]) (rest := []) (y := yX11_right) C (f_recv C I) q1603 q1605 qs47 (Or.inl rfl) q1606 (by decide) rfl pd_X11_right rfl dX11_known_61) (ct_X11_right h) hl.1 dX11_known_61 [] rfl (Nat.le_of_ble_eq_true rfl) (Or.inl rfl) q1606 q113 ⟨Nat.le_of_ble_eq_true rfl, Nat.le_of_ble_eq_true rfl⟩ (fun v x1 H locs cells slots ex hq I => ?_) (fun a x1 H locs cells slots ex hq I => hq.elim)
  obtain ⟨M1, rfl, r2, rfl, h⟩ := hq
  refine lv_if_ne (tgt := 69) C.1 C.2.1 dX11_known_64 (by decide) (fun c3 => ?_) (fun c3 => ?_)
  · have h := h.1 c3
    refine l_inc (q := 5) (v := 1) C dX11_known_69 hl rfl (by decide) (by decide) rfl (fun ls hl => ?_)
    have hl : LH ls 7 [(5, .inl ((l5 + 1))), (0, .inr (.inl (some b0))), (1, .inl l1), (2, .inl l2), (3, .inl l3), (4, .inl l4)] := hl
    refine lv_goto (tgt := 32) C.1 C.2.1 dX11_known_72 (by decide) ?_
    exact hk32 l1 l2 l3 l4 ((l5 + 1)) M1 _ _ _ _ _ h I (hl.sub [1, 2, 3, 4, 5, 0] rfl)
  · have h := h.2 c3
    refine lv_iconst (v := 0) C.1 C.2.1 dX11_known_67 (by decide) ?_
    exact r_int C.1 C.2.1 C.2.2.2.2.2.1 rfl C.2.2.2.2.2.2 ⟨rfl, rfl⟩ I dX11_known_68 ⟨_, rfl, _, rfl, h⟩
def w_X11_known_146 (Q : Int32 → MS → Prop) (t0 : Int32) (M : MS) : Prop := bz t0 ∧ Q t0 M
set_option maxHeartbeats 4000000 in
theorem b_X11_known_146 {b0 z0 : Nat} {M0 : MS} {Q : Int32 → MS → Prop} (C : Cx p s m meth c D T Z "EndingTownModel" cX11_known 7 (some .boolean)) : ∀ (t0 : Int32) (M : MS) (H : Heap) (locs : List Loc) (cells slots : Nat) (ls : Array Slot), w_X11_known_146 Q t0 M → HI (twd D T Z) (mG b0 z0 M0) s (rmX (twd D T Z) 3 74 (mG b0 z0 M0)) H locs cells slots (mG b0 z0 M) → LH ls 7 [] → W p l e (rmX (twd D T Z) 3 74 (mG b0 z0 M0)) s m args below meth c H locs cells slots (MQX (twd D T Z) (mG b0 z0 M0) (mq b0 z0 (qI Q)) (fun _ _ => False) below s) (F0 m 146 ls [.int t0]) := by
  intro t0 M H locs cells slots ls h I hl
  exact r_int C.1 C.2.1 C.2.2.2.2.2.1 h.1.n C.2.2.2.2.2.2 ⟨rfl, rfl⟩ I dX11_known_146 ⟨_, rfl, _, rfl, h.2⟩
def w_X11_known_100 (Q : Int32 → MS → Prop) : Nat → Int32 → Int32 → Int32 → MS → Prop
  | 0 => fun _ _ _ _ => False
  | f100 + 1 => fun l1 l5 l6 M => ((l6 < 0) → (w_X11_real (fun r2 M1 => ((¬ ((l5 >>> (r2 &&& 31)) &&& (1 : Int32)) = (1 : Int32)) → (w_X11_known_146 Q ((0 : Int32)) M1)) ∧ ((((l5 >>> (r2 &&& 31)) &&& (1 : Int32)) = (1 : Int32)) → (w_X11_known_146 Q ((1 : Int32)) M1))) M)) ∧ ((¬ l6 < 0) → (w_X11_knows (fun r5 M4 => (w_X11_known_100 Q f100) l1 r5 ((l6 + (-1))) M4) (((l1 >>> (((3 : Int32) * l6) &&& 31)) &&& (7 : Int32))) l5 M))
set_option maxHeartbeats 4000000 in
theorem b_X11_known_100 {b0 z0 : Nat} {M0 : MS} {Q : Int32 → MS → Prop} (C : Cx p s m meth c D T Z "EndingTownModel" cX11_known 7 (some .boolean)) : ∀ (n : Nat) (l1 : Int32) (l5 : Int32) (l6 : Int32) (M : MS) (H : Heap) (locs : List Loc) (cells slots : Nat) (ls : Array Slot), w_X11_known_100 Q n l1 l5 l6 M → HI (twd D T Z) (mG b0 z0 M0) s (rmX (twd D T Z) 3 74 (mG b0 z0 M0)) H locs cells slots (mG b0 z0 M) → LH ls 7 [(0, .inr (.inl (some b0))), (1, .inl l1), (5, .inl l5), (6, .inl l6)] → W p l e (rmX (twd D T Z) 3 74 (mG b0 z0 M0)) s m args below meth c H locs cells slots (MQX (twd D T Z) (mG b0 z0 M0) (mq b0 z0 (qI Q)) (fun _ _ => False) below s) (F0 m 100 ls []) := by
  intro n
  induction n with
  | zero => intro l1 l5 l6 M H locs cells slots ls h; exact (show False from h).elim
  | succ n ih =>
    intro l1 l5 l6 M H locs cells slots ls h I hl
    have hk100 := ih
    refine l_ild C dX11_known_100 hl 3 rfl ?_
    refine lv_if_lt (tgt := 128) C.1 C.2.1 dX11_known_102 (by decide) (fun c6 => ?_) (fun c6 => ?_)
    · have h := h.1 c6
      refine l_ild C dX11_known_128 hl 2 rfl ?_
      refine l_ald_n (x := some b0) C dX11_known_130 hl 0 rfl rfl ?_
      refine k_call Ext.tr C I (k_V (r := some b0) (As := []) (rest := [.int l5]) (y := yX11_real) C (f_recv C I) q1906 q1908 qs98 (Or.inl rfl) q1909 (by decide) rfl pd_X11_real rfl dX11_known_131) (ct_X11_real h) hl.1 dX11_known_131 [.inl l5] rfl (Nat.le_of_ble_eq_true rfl) (Or.inl rfl) q1909 q113 ⟨Nat.le_of_ble_eq_true rfl, Nat.le_of_ble_eq_true rfl⟩ (fun v x1 H locs cells slots ex hq I => ?_) (fun a x1 H locs cells slots ex hq I => hq.elim)
      obtain ⟨M1, rfl, r2, rfl, h⟩ := hq
      refine lv_ishr C.1 C.2.1 dX11_known_134 ?_
      refine lv_iconst (v := 1) C.1 C.2.1 dX11_known_135 (by decide) ?_
      refine lv_iand C.1 C.2.1 dX11_known_136 ?_
      refine lv_iconst (v := 1) C.1 C.2.1 dX11_known_137 (by decide) ?_
      refine lv_icmp_ne (tgt := 145) C.1 C.2.1 dX11_known_138 (by decide) (fun c3 => ?_) (fun c3 => ?_)
      · have h := h.1 c3
        refine lv_iconst (v := 0) C.1 C.2.1 dX11_known_145 (by decide) ?_
        exact b_X11_known_146 C ((0 : Int32)) M1 _ _ _ _ _ h I (hl.sub [] rfl)
      · have h := h.2 c3
        refine lv_iconst (v := 1) C.1 C.2.1 dX11_known_141 (by decide) ?_
        refine lv_goto (tgt := 146) C.1 C.2.1 dX11_known_142 (by decide) ?_
        exact b_X11_known_146 C ((1 : Int32)) M1 _ _ _ _ _ h I (hl.sub [] rfl)
    · have h := h.2 c6
      refine l_ald_n (x := some b0) C dX11_known_105 hl 0 rfl rfl ?_
      refine l_ild_n C dX11_known_106 hl 1 rfl rfl ?_
      refine lv_iconst (v := 3) C.1 C.2.1 dX11_known_107 (by decide) ?_
      refine l_ild C dX11_known_108 hl 3 rfl ?_
      refine lv_imul C.1 C.2.1 dX11_known_110 ?_
      refine lv_ishr C.1 C.2.1 dX11_known_111 ?_
      refine lv_bipush (v := 7) C.1 C.2.1 dX11_known_112 (by decide) ?_
      refine lv_iand C.1 C.2.1 dX11_known_114 ?_
      refine l_ild C dX11_known_115 hl 2 rfl ?_
      refine k_call Ext.tr C I (k_V (r := some b0) (As := [.int (((l1 >>> (((3 : Int32) * l6) &&& 31)) &&& (7 : Int32))), .int l5]) (rest := []) (y := yX11_knows) C (f_recv C I) q1895 q1897 qs96 (Or.inl rfl) q1898 (by decide) rfl pd_X11_knows rfl dX11_known_117) (ct_X11_knows h) hl.1 dX11_known_117 [] rfl (Nat.le_of_ble_eq_true rfl) (Or.inl rfl) q1898 q113 ⟨Nat.le_of_ble_eq_true rfl, Nat.le_of_ble_eq_true rfl⟩ (fun v x1 H locs cells slots ex hq I => ?_) (fun a x1 H locs cells slots ex hq I => hq.elim)
      obtain ⟨M4, rfl, r5, rfl, h⟩ := hq
      refine l_ist C dX11_known_120 hl (by decide) rfl (fun ls hl => ?_)
      have hl : LH ls 7 [(5, .inl r5), (0, .inr (.inl (some b0))), (1, .inl l1), (6, .inl l6)] := hl
      refine l_inc (q := 3) (v := (-1)) C dX11_known_122 hl rfl (by decide) (by decide) rfl (fun ls hl => ?_)
      have hl : LH ls 7 [(6, .inl ((l6 + (-1)))), (5, .inl r5), (0, .inr (.inl (some b0))), (1, .inl l1)] := hl
      refine lv_goto (tgt := 100) C.1 C.2.1 dX11_known_125 (by decide) ?_
      exact hk100 l1 r5 ((l6 + (-1))) M4 _ _ _ _ _ h I (hl.sub [2, 3, 1, 0] rfl)
def w_X11_known_32 (Q : Int32 → MS → Prop) : Nat → Int32 → Int32 → Int32 → Int32 → Int32 → MS → Prop
  | 0 => fun _ _ _ _ _ _ => False
  | f32 + 1 => fun l1 l2 l3 l4 l5 M => ((l2 ≤ l5) → (w_X11_placeOf (fun r2 M1 => ((¬ r2 = (-1 : Int32)) → (w_X11_worldsOf (fun r4 M3 => ∃ n, w_X11_known_100 Q n l1 r4 ((l2 - (1 : Int32))) M3) l3 l4 M1)) ∧ ((r2 = (-1 : Int32)) → (Q (0 : Int32) M1))) l3 M)) ∧ ((¬ l2 ≤ l5) → (((mF M 4 ≤ ((l1 >>> (((3 : Int32) * l5) &&& 31)) &&& (7 : Int32))) → (w_X11_known_60 Q (w_X11_known_32 Q f32) l1 l2 l3 l4 l5 ((0 : Int32)) M)) ∧ ((¬ mF M 4 ≤ ((l1 >>> (((3 : Int32) * l5) &&& 31)) &&& (7 : Int32))) → (w_X11_known_60 Q (w_X11_known_32 Q f32) l1 l2 l3 l4 l5 ((1 : Int32)) M))))
set_option maxHeartbeats 4000000 in
theorem b_X11_known_32 {b0 z0 : Nat} {M0 : MS} {Q : Int32 → MS → Prop} (C : Cx p s m meth c D T Z "EndingTownModel" cX11_known 7 (some .boolean)) : ∀ (n : Nat) (l1 : Int32) (l2 : Int32) (l3 : Int32) (l4 : Int32) (l5 : Int32) (M : MS) (H : Heap) (locs : List Loc) (cells slots : Nat) (ls : Array Slot), w_X11_known_32 Q n l1 l2 l3 l4 l5 M → HI (twd D T Z) (mG b0 z0 M0) s (rmX (twd D T Z) 3 74 (mG b0 z0 M0)) H locs cells slots (mG b0 z0 M) → LH ls 7 [(0, .inr (.inl (some b0))), (1, .inl l1), (2, .inl l2), (3, .inl l3), (4, .inl l4), (5, .inl l5)] → W p l e (rmX (twd D T Z) 3 74 (mG b0 z0 M0)) s m args below meth c H locs cells slots (MQX (twd D T Z) (mG b0 z0 M0) (mq b0 z0 (qI Q)) (fun _ _ => False) below s) (F0 m 32 ls []) := by
  intro n
  induction n with
  | zero => intro l1 l2 l3 l4 l5 M H locs cells slots ls h; exact (show False from h).elim
  | succ n ih =>
    intro l1 l2 l3 l4 l5 M H locs cells slots ls h I hl
    have hk32 := ih
    refine l_ild C dX11_known_32 hl 5 rfl ?_
    refine l_ild_n C dX11_known_34 hl 2 rfl rfl ?_
    refine lv_icmp_ge (tgt := 75) C.1 C.2.1 dX11_known_35 (by decide) (fun c7 => ?_) (fun c7 => ?_)
    · have h := h.1 c7
      refine l_ald_n (x := some b0) C dX11_known_75 hl 0 rfl rfl ?_
      refine l_ild_n C dX11_known_76 hl 3 rfl rfl ?_
      refine k_call Ext.tr C I (k_V (r := some b0) (As := [.int l3]) (rest := []) (y := yX11_placeOf) C (f_recv C I) q1887 q1889 qs94 (Or.inl rfl) q1890 (by decide) rfl pd_X11_placeOf rfl dX11_known_77) (ct_X11_placeOf h) hl.1 dX11_known_77 [] rfl (Nat.le_of_ble_eq_true rfl) (Or.inl rfl) q1890 q113 ⟨Nat.le_of_ble_eq_true rfl, Nat.le_of_ble_eq_true rfl⟩ (fun v x1 H locs cells slots ex hq I => ?_) (fun a x1 H locs cells slots ex hq I => hq.elim)
      obtain ⟨M1, rfl, r2, rfl, h⟩ := hq
      refine lv_iconst (v := (-1)) C.1 C.2.1 dX11_known_80 (by decide) ?_
      refine lv_icmp_ne (tgt := 86) C.1 C.2.1 dX11_known_81 (by decide) (fun c5 => ?_) (fun c5 => ?_)
      · have h := h.1 c5
        refine l_ald_n (x := some b0) C dX11_known_86 hl 0 rfl rfl ?_
        refine l_ild_n C dX11_known_87 hl 3 rfl rfl ?_
        refine l_ild C dX11_known_88 hl 4 rfl ?_
        refine k_call Ext.tr C I (k_V (r := some b0) (As := [.int l3, .int l4]) (rest := []) (y := yX11_worldsOf) C (f_recv C I) q1891 q1893 qs95 (Or.inl rfl) q1894 (by decide) rfl pd_X11_worldsOf rfl dX11_known_90) (ct_X11_worldsOf h) hl.1 dX11_known_90 [] rfl (Nat.le_of_ble_eq_true rfl) (Or.inl rfl) q1894 q113 ⟨Nat.le_of_ble_eq_true rfl, Nat.le_of_ble_eq_true rfl⟩ (fun v x1 H locs cells slots ex hq I => ?_) (fun a x1 H locs cells slots ex hq I => hq.elim)
        obtain ⟨M3, rfl, r4, rfl, h⟩ := hq
        refine l_ist C dX11_known_93 hl (by decide) rfl (fun ls hl => ?_)
        have hl : LH ls 7 [(5, .inl r4), (0, .inr (.inl (some b0))), (1, .inl l1), (2, .inl l2), (3, .inl l3), (4, .inl l4)] := hl
        refine l_ild_n C dX11_known_95 hl 3 rfl rfl ?_
        refine lv_iconst (v := 1) C.1 C.2.1 dX11_known_96 (by decide) ?_
        refine lv_isub C.1 C.2.1 dX11_known_97 ?_
        refine l_ist C dX11_known_98 hl (by decide) rfl (fun ls hl => ?_)
        have hl : LH ls 7 [(6, .inl ((l2 - (1 : Int32)))), (5, .inl r4), (0, .inr (.inl (some b0))), (1, .inl l1), (2, .inl l2), (3, .inl l3), (4, .inl l4)] := hl
        obtain ⟨n, h⟩ := h
        exact b_X11_known_100 C n l1 r4 ((l2 - (1 : Int32))) M3 _ _ _ _ _ h I (hl.sub [2, 3, 1, 0] rfl)
      · have h := h.2 c5
        refine lv_iconst (v := 0) C.1 C.2.1 dX11_known_84 (by decide) ?_
        exact r_int C.1 C.2.1 C.2.2.2.2.2.1 rfl C.2.2.2.2.2.2 ⟨rfl, rfl⟩ I dX11_known_85 ⟨_, rfl, _, rfl, h⟩
    · have h := h.2 c7
      refine l_ald_n (x := some b0) C dX11_known_38 hl 0 rfl rfl ?_
      refine l_ild_n C dX11_known_39 hl 1 rfl rfl ?_
      refine lv_iconst (v := 3) C.1 C.2.1 dX11_known_40 (by decide) ?_
      refine l_ild C dX11_known_41 hl 5 rfl ?_
      refine lv_imul C.1 C.2.1 dX11_known_43 ?_
      refine lv_ishr C.1 C.2.1 dX11_known_44 ?_
      refine lv_bipush (v := 7) C.1 C.2.1 dX11_known_45 (by decide) ?_
      refine lv_iand C.1 C.2.1 dX11_known_47 ?_
      refine l_ald_n (x := some b0) C dX11_known_48 hl 0 rfl rfl ?_
      refine f_I C I (fl_X11_266) (by decide) dX11_known_49 ?_
      refine lv_icmp_ge (tgt := 59) C.1 C.2.1 dX11_known_52 (by decide) (fun c6 => ?_) (fun c6 => ?_)
      · have h := h.1 c6
        refine lv_iconst (v := 0) C.1 C.2.1 dX11_known_59 (by decide) ?_
        exact b_X11_known_60 C hk32 l1 l2 l3 l4 l5 ((0 : Int32)) M _ _ _ _ _ h I (hl.sub [0, 1, 2, 3, 4, 5] rfl)
      · have h := h.2 c6
        refine lv_iconst (v := 1) C.1 C.2.1 dX11_known_55 (by decide) ?_
        refine lv_goto (tgt := 60) C.1 C.2.1 dX11_known_56 (by decide) ?_
        exact b_X11_known_60 C hk32 l1 l2 l3 l4 l5 ((1 : Int32)) M _ _ _ _ _ h I (hl.sub [0, 1, 2, 3, 4, 5] rfl)
def w_X11_known (Q : Int32 → MS → Prop) (p0 : Int32) (p1 : Int32) (p2 : Int32) (p3 : Int32) (M : MS) : Prop := ∀ M1 : MS, M1 = sF M 0 ((0 : Int32)) → w_X11_isThing (fun r3 M2 => ((r3 = 0) → (w_X11_known_27 Q M2)) ∧ ((¬ r3 = 0) → (w_X11_within (fun r5 M4 => w_X11_right (fun r7 M6 => ((¬ r7 = 0) → (∃ n, w_X11_known_32 Q n p0 p1 p2 p3 ((0 : Int32)) M6)) ∧ ((r7 = 0) → (w_X11_known_27 Q M6))) r5 ((2 : Int32)) M4) p1 ((1 : Int32)) ((4 : Int32)) M2))) p2 M1
theorem pd_X11_known : (parseMethodDescriptor yX11_known.desc).map (fun d => d.parameters.length) = some 4 := by decide +kernel
set_option maxHeartbeats 4000000 in
theorem ct_X11_known {l : Launch} {D : va_G} {T : Nat → ClassId} {Z : Heap} {b0 z0 : Nat} {M0 : MS} {Q : Int32 → MS → Prop} {p0 : Int32} {p1 : Int32} {p2 : Int32} {p3 : Int32} (hw : w_X11_known Q p0 p1 p2 p3 M0) : CT (twd D T Z) (Evd D T Z) l yX11_known (Cond.code yX11_known cX11_known 7 (some .boolean)) 3 74 [va_rf (some b0), .int p0, .int p1, .int p2, .int p3] (mG b0 z0 M0) (mq b0 z0 (qI Q)) (fun _ _ => False) := by
  refine CT.ofW (cc := cX11_known) (nL := 7) (ret := (some .boolean)) Ext.rf (by decide) (Or.inl rfl) ?_
  intro p e s m below meth c hx hb hml hown hr hlk hnm hcb hm hc hn hE I
  have C : Cx p s m meth c D T Z "EndingTownModel" cX11_known 7 (some .boolean) := ⟨hx, hb, hml, hown, hE, hr, hlk⟩
  refine w_entry [.inr (.inl (some b0)), .inl p0, .inl p1, .inl p2, .inl p3] (Nat.le_of_ble_eq_true rfl) (fun ls hl => ?_)
  have hl : LH ls 7 [(0, .inr (.inl (some b0))), (1, .inl p0), (2, .inl p1), (3, .inl p2), (4, .inl p3)] := hl
  have h := hw
  refine l_ald_n (x := some b0) C dX11_known_0 hl 0 rfl rfl ?_
  refine lv_iconst (v := 0) C.1 C.2.1 dX11_known_1 (by decide) ?_
  refine f_PI C I (fp_X11_122) (by decide) dX11_known_2 (fit_i _) (fun H locs M1 eM1 I => ?_)
  have h := h M1 eM1
  refine l_ald_n (x := some b0) C dX11_known_5 hl 0 rfl rfl ?_
  refine l_ild_n C dX11_known_6 hl 3 rfl rfl ?_
  refine k_call Ext.tr C I (k_V (r := some b0) (As := [.int p2]) (rest := []) (y := yX11_isThing) C (f_recv C I) q1717 q1719 qs67 (Or.inl rfl) q1720 (by decide) rfl pd_X11_isThing rfl dX11_known_7) (ct_X11_isThing h) hl.1 dX11_known_7 [] rfl (Nat.le_of_ble_eq_true rfl) (Or.inl rfl) q1720 q113 ⟨Nat.le_of_ble_eq_true rfl, Nat.le_of_ble_eq_true rfl⟩ (fun v x1 H locs cells slots ex hq I => ?_) (fun a x1 H locs cells slots ex hq I => hq.elim)
  obtain ⟨M2, rfl, r3, rfl, h⟩ := hq
  refine lv_if_eq (tgt := 27) C.1 C.2.1 dX11_known_10 (by decide) (fun c9 => ?_) (fun c9 => ?_)
  · have h := h.1 c9
    exact b_X11_known_27 C M2 _ _ _ _ _ h I (hl.sub [] rfl)
  · have h := h.2 c9
    refine l_ald_n (x := some b0) C dX11_known_13 hl 0 rfl rfl ?_
    refine l_ild_n C dX11_known_14 hl 2 rfl rfl ?_
    refine lv_iconst (v := 1) C.1 C.2.1 dX11_known_15 (by decide) ?_
    refine lv_iconst (v := 4) C.1 C.2.1 dX11_known_16 (by decide) ?_
    refine k_call Ext.tr C I (k_S (As := [.int p1, .int ((1 : Int32)), .int ((4 : Int32))]) (rest := [va_rf (some b0)]) (y := yX11_within) C q1699 q1700 q113 (Or.inl rfl) q1701 (by decide) rfl pd_X11_within rfl dX11_known_17) (ct_X11_within h) hl.1 dX11_known_17 [.inr (.inl (some b0))] rfl (Nat.le_of_ble_eq_true rfl) (Or.inl rfl) q1701 q113 ⟨Nat.le_of_ble_eq_true rfl, Nat.le_of_ble_eq_true rfl⟩ (fun v x1 H locs cells slots ex hq I => ?_) (fun a x1 H locs cells slots ex hq I => hq.elim)
    obtain ⟨M4, rfl, r5, rfl, h⟩ := hq
    refine lv_iconst (v := 2) C.1 C.2.1 dX11_known_20 (by decide) ?_
    refine k_call Ext.tr C I (k_V (r := some b0) (As := [.int r5, .int ((2 : Int32))]) (rest := []) (y := yX11_right) C (f_recv C I) q1603 q1605 qs47 (Or.inl rfl) q1606 (by decide) rfl pd_X11_right rfl dX11_known_21) (ct_X11_right h) hl.1 dX11_known_21 [] rfl (Nat.le_of_ble_eq_true rfl) (Or.inl rfl) q1606 q113 ⟨Nat.le_of_ble_eq_true rfl, Nat.le_of_ble_eq_true rfl⟩ (fun v x1 H locs cells slots ex hq I => ?_) (fun a x1 H locs cells slots ex hq I => hq.elim)
    obtain ⟨M6, rfl, r7, rfl, h⟩ := hq
    refine lv_if_ne (tgt := 29) C.1 C.2.1 dX11_known_24 (by decide) (fun c8 => ?_) (fun c8 => ?_)
    · have h := h.1 c8
      refine lv_iconst (v := 0) C.1 C.2.1 dX11_known_29 (by decide) ?_
      refine l_ist C dX11_known_30 hl (by decide) rfl (fun ls hl => ?_)
      have hl : LH ls 7 [(5, .inl ((0 : Int32))), (0, .inr (.inl (some b0))), (1, .inl p0), (2, .inl p1), (3, .inl p2), (4, .inl p3)] := hl
      obtain ⟨n, h⟩ := h
      exact b_X11_known_32 C n p0 p1 p2 p3 ((0 : Int32)) M6 _ _ _ _ _ h I (hl.sub [1, 2, 3, 4, 5, 0] rfl)
    · have h := h.2 c8
      exact b_X11_known_27 C M6 _ _ _ _ _ h I (hl.sub [] rfl)
def w_X11_image (Q : MS → Prop) (M : MS) : Prop := ∀ M1 : MS, M1 = sF M 0 ((0 : Int32)) → ∀ M2 : MS, M2 = sF M1 69 ((1 : Int32)) → ∀ M3 : MS, M3 = sF M2 70 (mF M2 50) → ∀ M4 : MS, M4 = sF M3 71 (mF M3 67) → ∀ M5 : MS, M5 = sF M4 72 (mF M4 68) → w_X11_copies (fun M6 => Q M6) 51 73 M5
theorem pd_X11_image : (parseMethodDescriptor yX11_image.desc).map (fun d => d.parameters.length) = some 0 := by decide +kernel
set_option maxHeartbeats 4000000 in
theorem ct_X11_image {l : Launch} {D : va_G} {T : Nat → ClassId} {Z : Heap} {b0 z0 : Nat} {M0 : MS} {Q : MS → Prop} (hw : w_X11_image Q M0) : CT (twd D T Z) (Evd D T Z) l yX11_image (Cond.code yX11_image cX11_image 1 none) 1 23 [va_rf (some b0)] (mG b0 z0 M0) (mq b0 z0 (qV Q)) (fun _ _ => False) := by
  refine CT.ofW (cc := cX11_image) (nL := 1) (ret := none) Ext.rf (by decide) (Or.inl rfl) ?_
  intro p e s m below meth c hx hb hml hown hr hlk hnm hcb hm hc hn hE I
  have C : Cx p s m meth c D T Z "EndingTownModel" cX11_image 1 none := ⟨hx, hb, hml, hown, hE, hr, hlk⟩
  refine w_entry [.inr (.inl (some b0))] (Nat.le_of_ble_eq_true rfl) (fun ls hl => ?_)
  have hl : LH ls 1 [(0, .inr (.inl (some b0)))] := hl
  have h := hw
  refine l_ald_n (x := some b0) C dX11_image_0 hl 0 rfl rfl ?_
  refine lv_iconst (v := 0) C.1 C.2.1 dX11_image_1 (by decide) ?_
  refine f_PI C I (fp_X11_122) (by decide) dX11_image_2 (fit_i _) (fun H locs M1 eM1 I => ?_)
  have h := h M1 eM1
  refine l_ald_n (x := some b0) C dX11_image_5 hl 0 rfl rfl ?_
  refine lv_iconst (v := 1) C.1 C.2.1 dX11_image_6 (by decide) ?_
  refine f_PI C I (fp_X11_288) (by decide) dX11_image_7 (fit_z bz1) (fun H locs M2 eM2 I => ?_)
  have h := h M2 eM2
  refine l_ald_n (x := some b0) C dX11_image_10 hl 0 rfl rfl ?_
  refine l_ald_n (x := some b0) C dX11_image_11 hl 0 rfl rfl ?_
  refine f_I C I (fl_X11_279) (by decide) dX11_image_12 ?_
  refine f_PI C I (fp_X11_430) (by decide) dX11_image_15 (fit_i _) (fun H locs M3 eM3 I => ?_)
  have h := h M3 eM3
  refine l_ald_n (x := some b0) C dX11_image_18 hl 0 rfl rfl ?_
  refine l_ald_n (x := some b0) C dX11_image_19 hl 0 rfl rfl ?_
  refine f_I C I (fl_X11_282) (by decide) dX11_image_20 ?_
  refine f_PI C I (fp_X11_433) (by decide) dX11_image_23 (fit_i _) (fun H locs M4 eM4 I => ?_)
  have h := h M4 eM4
  refine l_ald_n (x := some b0) C dX11_image_26 hl 0 rfl rfl ?_
  refine l_ald_n (x := some b0) C dX11_image_27 hl 0 rfl rfl ?_
  refine f_I C I (fl_X11_285) (by decide) dX11_image_28 ?_
  refine f_PI C I (fp_X11_436) (by decide) dX11_image_31 (fit_i _) (fun H locs M5 eM5 I => ?_)
  have h := h M5 eM5
  refine l_ald_n (x := some b0) C dX11_image_34 hl 0 rfl rfl ?_
  refine l_ald_n (x := some b0) C dX11_image_35 hl 0 rfl rfl ?_
  refine f_A C I (fl_X11_83) (by decide) (by decide) dX11_image_36 ?_
  refine l_ald_n (x := some b0) C dX11_image_39 hl 0 rfl rfl ?_
  refine f_A C I (fl_X11_119) (by decide) (by decide) dX11_image_40 ?_
  refine k_call Ext.tr C I (k_V (r := some b0) (As := [va_rf (some (b0 + moff 51)), va_rf (some (b0 + moff 73))]) (rest := []) (y := yX11_copies) C (f_recv C I) q1687 q1689 qs65 (Or.inl rfl) q1690 (by decide) rfl pd_X11_copies rfl dX11_image_43) (ct_X11_copies h) hl.1 dX11_image_43 [] rfl (Nat.le_of_ble_eq_true rfl) (Or.inl rfl) q1690 q113 ⟨Nat.le_of_ble_eq_true rfl, Nat.le_of_ble_eq_true rfl⟩ (fun v x1 H locs cells slots ex hq I => ?_) (fun a x1 H locs cells slots ex hq I => hq.elim)
  obtain ⟨M6, rfl, rfl, h⟩ := hq
  exact r_void C.1 C.2.1 C.2.2.2.2.2.1 C.2.2.2.2.2.2 ⟨rfl, rfl⟩ I dX11_image_46 ⟨_, rfl, rfl, h⟩
def w_X11_restore (Q : Int32 → MS → Prop) (M : MS) : Prop := ∀ M1 : MS, M1 = sF M 0 ((0 : Int32)) → ((¬ mF M1 69 = 0) → (∀ M2 : MS, M2 = sF M1 50 (mF M1 70) → ∀ M3 : MS, M3 = sF M2 67 (mF M2 71) → ∀ M4 : MS, M4 = sF M3 68 (mF M3 72) → w_X11_copies (fun M5 => Q (1 : Int32) M5) 73 51 M4)) ∧ ((mF M1 69 = 0) → (Q (0 : Int32) M1))
theorem pd_X11_restore : (parseMethodDescriptor yX11_restore.desc).map (fun d => d.parameters.length) = some 0 := by decide +kernel
set_option maxHeartbeats 4000000 in
theorem ct_X11_restore {l : Launch} {D : va_G} {T : Nat → ClassId} {Z : Heap} {b0 z0 : Nat} {M0 : MS} {Q : Int32 → MS → Prop} (hw : w_X11_restore Q M0) : CT (twd D T Z) (Evd D T Z) l yX11_restore (Cond.code yX11_restore cX11_restore 1 (some .boolean)) 1 23 [va_rf (some b0)] (mG b0 z0 M0) (mq b0 z0 (qI Q)) (fun _ _ => False) := by
  refine CT.ofW (cc := cX11_restore) (nL := 1) (ret := (some .boolean)) Ext.rf (by decide) (Or.inl rfl) ?_
  intro p e s m below meth c hx hb hml hown hr hlk hnm hcb hm hc hn hE I
  have C : Cx p s m meth c D T Z "EndingTownModel" cX11_restore 1 (some .boolean) := ⟨hx, hb, hml, hown, hE, hr, hlk⟩
  refine w_entry [.inr (.inl (some b0))] (Nat.le_of_ble_eq_true rfl) (fun ls hl => ?_)
  have hl : LH ls 1 [(0, .inr (.inl (some b0)))] := hl
  have h := hw
  refine l_ald_n (x := some b0) C dX11_restore_0 hl 0 rfl rfl ?_
  refine lv_iconst (v := 0) C.1 C.2.1 dX11_restore_1 (by decide) ?_
  refine f_PI C I (fp_X11_122) (by decide) dX11_restore_2 (fit_i _) (fun H locs M1 eM1 I => ?_)
  have h := h M1 eM1
  refine l_ald_n (x := some b0) C dX11_restore_5 hl 0 rfl rfl ?_
  refine f_I C I (fl_X11_288) (by decide) dX11_restore_6 ?_
  refine lv_if_ne (tgt := 14) C.1 C.2.1 dX11_restore_9 (by decide) (fun c7 => ?_) (fun c7 => ?_)
  · have h := h.1 c7
    refine l_ald_n (x := some b0) C dX11_restore_14 hl 0 rfl rfl ?_
    refine l_ald_n (x := some b0) C dX11_restore_15 hl 0 rfl rfl ?_
    refine f_I C I (fl_X11_430) (by decide) dX11_restore_16 ?_
    refine f_PI C I (fp_X11_279) (by decide) dX11_restore_19 (fit_i _) (fun H locs M2 eM2 I => ?_)
    have h := h M2 eM2
    refine l_ald_n (x := some b0) C dX11_restore_22 hl 0 rfl rfl ?_
    refine l_ald_n (x := some b0) C dX11_restore_23 hl 0 rfl rfl ?_
    refine f_I C I (fl_X11_433) (by decide) dX11_restore_24 ?_
    refine f_PI C I (fp_X11_282) (by decide) dX11_restore_27 (fit_i _) (fun H locs M3 eM3 I => ?_)
    have h := h M3 eM3
    refine l_ald_n (x := some b0) C dX11_restore_30 hl 0 rfl rfl ?_
    refine l_ald_n (x := some b0) C dX11_restore_31 hl 0 rfl rfl ?_
    refine f_I C I (fl_X11_436) (by decide) dX11_restore_32 ?_
    refine f_PI C I (fp_X11_285) (by decide) dX11_restore_35 (fit_i _) (fun H locs M4 eM4 I => ?_)
    have h := h M4 eM4
    refine l_ald_n (x := some b0) C dX11_restore_38 hl 0 rfl rfl ?_
    refine l_ald_n (x := some b0) C dX11_restore_39 hl 0 rfl rfl ?_
    refine f_A C I (fl_X11_119) (by decide) (by decide) dX11_restore_40 ?_
    refine l_ald_n (x := some b0) C dX11_restore_43 hl 0 rfl rfl ?_
    refine f_A C I (fl_X11_83) (by decide) (by decide) dX11_restore_44 ?_
    refine k_call Ext.tr C I (k_V (r := some b0) (As := [va_rf (some (b0 + moff 73)), va_rf (some (b0 + moff 51))]) (rest := []) (y := yX11_copies) C (f_recv C I) q1687 q1689 qs65 (Or.inl rfl) q1690 (by decide) rfl pd_X11_copies rfl dX11_restore_47) (ct_X11_copies h) hl.1 dX11_restore_47 [] rfl (Nat.le_of_ble_eq_true rfl) (Or.inl rfl) q1690 q113 ⟨Nat.le_of_ble_eq_true rfl, Nat.le_of_ble_eq_true rfl⟩ (fun v x1 H locs cells slots ex hq I => ?_) (fun a x1 H locs cells slots ex hq I => hq.elim)
    obtain ⟨M5, rfl, rfl, h⟩ := hq
    refine lv_iconst (v := 1) C.1 C.2.1 dX11_restore_50 (by decide) ?_
    exact r_int C.1 C.2.1 C.2.2.2.2.2.1 rfl C.2.2.2.2.2.2 ⟨rfl, rfl⟩ I dX11_restore_51 ⟨_, rfl, _, rfl, h⟩
  · have h := h.2 c7
    refine lv_iconst (v := 0) C.1 C.2.1 dX11_restore_12 (by decide) ?_
    exact r_int C.1 C.2.1 C.2.2.2.2.2.1 rfl C.2.2.2.2.2.2 ⟨rfl, rfl⟩ I dX11_restore_13 ⟨_, rfl, _, rfl, h⟩
end GM3
