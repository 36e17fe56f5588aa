/-! the town: wp and contracts, by program -/
set_option maxRecDepth 100000
section GT1
variable {p : Program} {l : Launch} {e : Env} {s : State} {m : MethodId} {args : Array Value} {below : List Frame} {meth : Method} {c : Code} {D : va_G} {T : Nat → ClassId} {Z : Heap}
def w_X8_round_105 (T : Nat → ClassId) (Q : Int32 → Hp → Prop) (th : Option Nat) (k20 : Int32 → Int32 → Int32 → Hp → Prop) (l4 : Int32) (l6 : Int32) (l7 : Int32) (G : Hp) : Prop := k20 l4 l6 ((l7 + 1)) G
set_option maxHeartbeats 4000000 in
theorem b_X8_round_105 {G0 : Hp} {Q : Int32 → Hp → Prop} {th : Option Nat} {k20 : Int32 → Int32 → Int32 → Hp → Prop} (C : Cx p s m meth c D T Z "EndingTown$Worked" cX8_round 10 (some .int)) (hk20 : ∀ (l4 : Int32) (l6 : Int32) (l7 : Int32) (G : Hp) (H : Heap) (locs : List Loc) (cells slots : Nat) (ls : Array Slot), k20 l4 l6 l7 G → isO G th 6 → HI (twd D T Z) G0 s (rmX (twd D T Z) 6 146 G0) H locs cells slots G → LH ls 10 [(0, .inr (.inl th)), (4, .inl l4), (6, .inl l6), (7, .inl l7)] → W p l e (rmX (twd D T Z) 6 146 G0) s m args below meth c H locs cells slots (MQX (twd D T Z) G0 (qI Q) (fun _ _ => False) below s) (F0 m 20 ls [])) : ∀ (l4 : Int32) (l6 : Int32) (l7 : Int32) (G : Hp) (H : Heap) (locs : List Loc) (cells slots : Nat) (ls : Array Slot), w_X8_round_105 T Q th k20 l4 l6 l7 G → isO G th 6 → HI (twd D T Z) G0 s (rmX (twd D T Z) 6 146 G0) H locs cells slots G → LH ls 10 [(0, .inr (.inl th)), (4, .inl l4), (6, .inl l6), (7, .inl l7)] → W p l e (rmX (twd D T Z) 6 146 G0) s m args below meth c H locs cells slots (MQX (twd D T Z) G0 (qI Q) (fun _ _ => False) below s) (F0 m 105 ls []) := by
  intro l4 l6 l7 G H locs cells slots ls h hth I hl
  refine l_inc (q := 3) (v := 1) C dX8_round_105 hl rfl (by decide) (by decide) rfl (fun ls hl => ?_)
  have hl : LH ls 10 [(7, .inl ((l7 + 1))), (0, .inr (.inl th)), (4, .inl l4), (6, .inl l6)] := hl
  refine lv_goto (tgt := 20) C.1 C.2.1 dX8_round_108 (by decide) ?_
  exact hk20 l4 l6 ((l7 + 1)) G _ _ _ _ _ h hth I (hl.sub [1, 2, 3, 0] rfl)
def w_X8_round_101 (T : Nat → ClassId) (Q : Int32 → Hp → Prop) (th : Option Nat) (k20 : Int32 → Int32 → Int32 → Hp → Prop) (l4 : Int32) (l7 : Int32) (l9 : Int32) (G : Hp) : Prop := w_X8_round_105 T Q th k20 l4 l9 l7 G
set_option maxHeartbeats 4000000 in
theorem b_X8_round_101 {G0 : Hp} {Q : Int32 → Hp → Prop} {th : Option Nat} {k20 : Int32 → Int32 → Int32 → Hp → Prop} (C : Cx p s m meth c D T Z "EndingTown$Worked" cX8_round 10 (some .int)) (hk20 : ∀ (l4 : Int32) (l6 : Int32) (l7 : Int32) (G : Hp) (H : Heap) (locs : List Loc) (cells slots : Nat) (ls : Array Slot), k20 l4 l6 l7 G → isO G th 6 → HI (twd D T Z) G0 s (rmX (twd D T Z) 6 146 G0) H locs cells slots G → LH ls 10 [(0, .inr (.inl th)), (4, .inl l4), (6, .inl l6), (7, .inl l7)] → W p l e (rmX (twd D T Z) 6 146 G0) s m args below meth c H locs cells slots (MQX (twd D T Z) G0 (qI Q) (fun _ _ => False) below s) (F0 m 20 ls [])) : ∀ (l4 : Int32) (l7 : Int32) (l9 : Int32) (G : Hp) (H : Heap) (locs : List Loc) (cells slots : Nat) (ls : Array Slot), w_X8_round_101 T Q th k20 l4 l7 l9 G → isO G th 6 → HI (twd D T Z) G0 s (rmX (twd D T Z) 6 146 G0) H locs cells slots G → LH ls 10 [(0, .inr (.inl th)), (4, .inl l4), (7, .inl l7), (9, .inl l9)] → W p l e (rmX (twd D T Z) 6 146 G0) s m args below meth c H locs cells slots (MQX (twd D T Z) G0 (qI Q) (fun _ _ => False) below s) (F0 m 101 ls []) := by
  intro l4 l7 l9 G H locs cells slots ls h hth I hl
  refine l_ild C dX8_round_101 hl 3 rfl ?_
  refine l_ist C dX8_round_103 hl (by decide) rfl (fun ls hl => ?_)
  have hl : LH ls 10 [(6, .inl l9), (0, .inr (.inl th)), (4, .inl l4), (7, .inl l7), (9, .inl l9)] := hl
  exact b_X8_round_105 C hk20 l4 l9 l7 G _ _ _ _ _ h hth I (hl.sub [1, 2, 0, 3] rfl)
def w_X8_round_82 (T : Nat → ClassId) (Q : Int32 → Hp → Prop) (th : Option Nat) (k20 : Int32 → Int32 → Int32 → Hp → Prop) (l4 : Int32) (l6 : Int32) (l7 : Int32) (t0 : Int32) (G : Hp) : Prop := ((t0 ≤ 0) → (w_X8_round_105 T Q th k20 l4 l6 l7 G)) ∧ ((¬ t0 ≤ 0) → (((l6 = 0) → (w_X8_round_101 T Q th k20 l4 l7 t0 G)) ∧ ((¬ l6 = 0) → (((l6 ≤ t0) → (w_X8_round_105 T Q th k20 l4 l6 l7 G)) ∧ ((¬ l6 ≤ t0) → (w_X8_round_101 T Q th k20 l4 l7 t0 G))))))
set_option maxHeartbeats 4000000 in
theorem b_X8_round_82 {G0 : Hp} {Q : Int32 → Hp → Prop} {th : Option Nat} {k20 : Int32 → Int32 → Int32 → Hp → Prop} (C : Cx p s m meth c D T Z "EndingTown$Worked" cX8_round 10 (some .int)) (hk20 : ∀ (l4 : Int32) (l6 : Int32) (l7 : Int32) (G : Hp) (H : Heap) (locs : List Loc) (cells slots : Nat) (ls : Array Slot), k20 l4 l6 l7 G → isO G th 6 → HI (twd D T Z) G0 s (rmX (twd D T Z) 6 146 G0) H locs cells slots G → LH ls 10 [(0, .inr (.inl th)), (4, .inl l4), (6, .inl l6), (7, .inl l7)] → W p l e (rmX (twd D T Z) 6 146 G0) s m args below meth c H locs cells slots (MQX (twd D T Z) G0 (qI Q) (fun _ _ => False) below s) (F0 m 20 ls [])) : ∀ (l4 : Int32) (l6 : Int32) (l7 : Int32) (t0 : Int32) (G : Hp) (H : Heap) (locs : List Loc) (cells slots : Nat) (ls : Array Slot), w_X8_round_82 T Q th k20 l4 l6 l7 t0 G → isO G th 6 → HI (twd D T Z) G0 s (rmX (twd D T Z) 6 146 G0) H locs cells slots G → LH ls 10 [(0, .inr (.inl th)), (4, .inl l4), (6, .inl l6), (7, .inl l7)] → W p l e (rmX (twd D T Z) 6 146 G0) s m args below meth c H locs cells slots (MQX (twd D T Z) G0 (qI Q) (fun _ _ => False) below s) (F0 m 82 ls [.int t0]) := by
  intro l4 l6 l7 t0 G H locs cells slots ls h hth I hl
  refine l_ist C dX8_round_82 hl (by decide) rfl (fun ls hl => ?_)
  have hl : LH ls 10 [(9, .inl t0), (0, .inr (.inl th)), (4, .inl l4), (6, .inl l6), (7, .inl l7)] := hl
  refine l_ild C dX8_round_84 hl 0 rfl ?_
  refine lv_if_le (tgt := 105) C.1 C.2.1 dX8_round_86 (by decide) (fun c3 => ?_) (fun c3 => ?_)
  · have h := h.1 c3
    exact b_X8_round_105 C hk20 l4 l6 l7 G _ _ _ _ _ h hth I (hl.sub [1, 2, 3, 4] rfl)
  · have h := h.2 c3
    refine l_ild C dX8_round_89 hl 3 rfl ?_
    refine lv_if_eq (tgt := 101) C.1 C.2.1 dX8_round_91 (by decide) (fun c2 => ?_) (fun c2 => ?_)
    · have h := h.1 c2
      exact b_X8_round_101 C hk20 l4 l7 t0 G _ _ _ _ _ h hth I (hl.sub [1, 2, 4, 0] rfl)
    · have h := h.2 c2
      refine l_ild C dX8_round_94 hl 0 rfl ?_
      refine l_ild C dX8_round_96 hl 3 rfl ?_
      refine lv_icmp_ge (tgt := 105) C.1 C.2.1 dX8_round_98 (by decide) (fun c1 => ?_) (fun c1 => ?_)
      · have h := h.1 c1
        exact b_X8_round_105 C hk20 l4 l6 l7 G _ _ _ _ _ h hth I (hl.sub [1, 2, 3, 4] rfl)
      · have h := h.2 c1
        exact b_X8_round_101 C hk20 l4 l7 t0 G _ _ _ _ _ h hth I (hl.sub [1, 2, 4, 0] rfl)
def w_X8_round_20 (T : Nat → ClassId) (Q : Int32 → Hp → Prop) (th : Option Nat) : Nat → Int32 → Int32 → Int32 → Hp → Prop
  | 0 => fun _ _ _ _ => False
  | f20 + 1 => fun l4 l6 l7 G => isO G (gR G (ad th) 2) 1 ∧ isO G (gR G (ad (gR G (ad th) 2)) 0) 2 ∧ isO G (gR G (ad (gR G (ad (gR G (ad th) 2)) 0)) 4) 16 ∧ w_J2_size T (fun r4 G3 => Ext G G3 → ((r4 ≤ l7) → (Q l6 G3)) ∧ ((¬ r4 ≤ l7) → (isO G3 (gR G3 (ad th) 2) 1 ∧ isO G3 (gR G3 (ad (gR G3 (ad th) 2)) 0) 2 ∧ isO G3 (gR G3 (ad (gR G3 (ad (gR G3 (ad th) 2)) 0)) 4) 16 ∧ w_J2_get T (fun r8 G7 => Ext G3 G7 → (r8 = none ∨ isO G7 r8 12) ∧ isO G7 r8 12 ∧ ((¬ gI G7 (ad r8) 1 = l4) → (w_X8_round_82 T Q th (w_X8_round_20 T Q th f20) l4 l6 l7 ((0 : Int32)) G7)) ∧ ((gI G7 (ad r8) 1 = l4) → (w_X8_ruleRound T (fun r11 G10 => Ext G7 G10 → w_X8_round_82 T Q th (w_X8_round_20 T Q th f20) l4 l6 l7 r11 G10) th r8 G7))) (gR G3 (ad (gR G3 (ad (gR G3 (ad th) 2)) 0)) 4) l7 G3))) (gR G (ad (gR G (ad (gR G (ad th) 2)) 0)) 4) G
set_option maxHeartbeats 4000000 in
theorem b_X8_round_20 {G0 : Hp} {Q : Int32 → Hp → Prop} {th : Option Nat} (C : Cx p s m meth c D T Z "EndingTown$Worked" cX8_round 10 (some .int)) : ∀ (n : Nat) (l4 : Int32) (l6 : Int32) (l7 : Int32) (G : Hp) (H : Heap) (locs : List Loc) (cells slots : Nat) (ls : Array Slot), w_X8_round_20 T Q th n l4 l6 l7 G → isO G th 6 → HI (twd D T Z) G0 s (rmX (twd D T Z) 6 146 G0) H locs cells slots G → LH ls 10 [(0, .inr (.inl th)), (4, .inl l4), (6, .inl l6), (7, .inl l7)] → W p l e (rmX (twd D T Z) 6 146 G0) s m args below meth c H locs cells slots (MQX (twd D T Z) G0 (qI Q) (fun _ _ => False) below s) (F0 m 20 ls []) := by
  intro f20
  induction f20 with
  | zero => intro l4 l6 l7 G H locs cells slots ls h; exact (show False from h).elim
  | succ f20 ih =>
    intro l4 l6 l7 G H locs cells slots ls h hth I hl
    have h : isO G (gR G (ad th) 2) 1 ∧ isO G (gR G (ad (gR G (ad th) 2)) 0) 2 ∧ isO G (gR G (ad (gR G (ad (gR G (ad th) 2)) 0)) 4) 16 ∧ w_J2_size T (fun r4 G3 => Ext G G3 → ((r4 ≤ l7) → (Q l6 G3)) ∧ ((¬ r4 ≤ l7) → (isO G3 (gR G3 (ad th) 2) 1 ∧ isO G3 (gR G3 (ad (gR G3 (ad th) 2)) 0) 2 ∧ isO G3 (gR G3 (ad (gR G3 (ad (gR G3 (ad th) 2)) 0)) 4) 16 ∧ w_J2_get T (fun r8 G7 => Ext G3 G7 → (r8 = none ∨ isO G7 r8 12) ∧ isO G7 r8 12 ∧ ((¬ gI G7 (ad r8) 1 = l4) → (w_X8_round_82 T Q th (w_X8_round_20 T Q th f20) l4 l6 l7 ((0 : Int32)) G7)) ∧ ((gI G7 (ad r8) 1 = l4) → (w_X8_ruleRound T (fun r11 G10 => Ext G7 G10 → w_X8_round_82 T Q th (w_X8_round_20 T Q th f20) l4 l6 l7 r11 G10) th r8 G7))) (gR G3 (ad (gR G3 (ad (gR G3 (ad th) 2)) 0)) 4) l7 G3))) (gR G (ad (gR G (ad (gR G (ad th) 2)) 0)) 4) G := h
    have hk20 := ih
    refine l_ild C dX8_round_20 hl 3 rfl ?_
    refine l_ald_n C dX8_round_22 hl 0 rfl rfl ?_
    refine g_R C I fl_X8_3_6 (by decide) (by decide) hth dX8_round_23 ?_
    obtain ⟨ho1, h⟩ := h
    refine g_R C I fl_X8_19_1 (by decide) (by decide) ho1 dX8_round_26 ?_
    obtain ⟨ho2, h⟩ := h
    refine g_R C I fl_X8_43_2 (by decide) (by decide) ho2 dX8_round_29 ?_
    obtain ⟨ho15, h⟩ := h
    refine k_call Ext.tr C I (k_F (kd := 16) (r := gR G (ad (gR G (ad (gR G (ad th) 2)) 0)) 4) (As := []) (rest := [.int l7]) (y := yJ2_size) (x := ⟨"java/util/List", "size", "()I"⟩) C (by decide) ⟨ho15.ad.1, I.recv C.2.2.2.2.1 ho15 (by decide)⟩ q544 (by decide) q426 q425 q430 q428 q417 q427 q429 rfl pd_J2_size rfl dX8_round_32) (ct_J2_size h) hl.1 dX8_round_32 [.inl l7] rfl (Nat.le_of_ble_eq_true rfl) (Or.inl rfl) q431 q104 ⟨Nat.le_of_ble_eq_true rfl, Nat.le_of_ble_eq_true rfl⟩ (fun v G3 H locs cells slots xG3 hq I => ?_) (fun a G9 H locs cells slots ex hq I => hq.elim)
    obtain ⟨r4, rfl, h⟩ := hq
    have h := h xG3
    refine lv_icmp_ge (tgt := 111) C.1 C.2.1 dX8_round_37 (by decide) (fun c14 => ?_) (fun c14 => ?_)
    · have h := h.1 c14
      refine l_ild C dX8_round_111 hl 2 rfl ?_
      exact r_int C.1 C.2.1 C.2.2.2.2.2.1 rfl C.2.2.2.2.2.2 ⟨rfl, rfl⟩ I dX8_round_113 ⟨_, rfl, h⟩
    · have h := h.2 c14
      refine l_ald_n C dX8_round_40 hl 0 rfl rfl ?_
      refine g_R C I fl_X8_3_6 (by decide) (by decide) (hth.ext (by decide) xG3) dX8_round_41 ?_
      obtain ⟨ho5, h⟩ := h
      refine g_R C I fl_X8_19_1 (by decide) (by decide) ho5 dX8_round_44 ?_
      obtain ⟨ho6, h⟩ := h
      refine g_R C I fl_X8_43_2 (by decide) (by decide) ho6 dX8_round_47 ?_
      refine l_ild C dX8_round_50 hl 3 rfl ?_
      obtain ⟨ho13, h⟩ := h
      refine k_call Ext.tr C I (k_F (kd := 16) (r := gR G3 (ad (gR G3 (ad (gR G3 (ad th) 2)) 0)) 4) (As := [.int l7]) (rest := []) (y := yJ2_get) (x := ⟨"java/util/List", "get", "(I)Ljava/lang/Object;"⟩) C (by decide) ⟨ho13.ad.1, I.recv C.2.2.2.2.1 ho13 (by decide)⟩ q547 (by decide) q477 q476 q481 q479 q417 q478 q480 rfl pd_J2_get rfl dX8_round_52) (ct_J2_get h) hl.1 dX8_round_52 [] rfl (Nat.le_of_ble_eq_true rfl) (Or.inl rfl) q482 q104 ⟨Nat.le_of_ble_eq_true rfl, Nat.le_of_ble_eq_true rfl⟩ (fun v G7 H locs cells slots xG7 hq I => ?_) (fun a G9 H locs cells slots ex hq I => hq.elim)
      obtain ⟨r8, rfl, h⟩ := hq
      have h := h xG7
      obtain ⟨hcc, h⟩ := h
      refine c_cast (kd := 12) C I (by decide) q548 hcc dX8_round_57 ?_
      refine l_ast C dX8_round_60 hl (by decide) rfl (fun ls hl => ?_)
      have hl : LH ls 10 [(8, .inr (.inl r8)), (0, .inr (.inl th)), (4, .inl l4), (6, .inl l6), (7, .inl l7)] := hl
      refine l_ald C dX8_round_62 hl 0 rfl ?_
      obtain ⟨ho9, h⟩ := h
      refine g_I C I fl_X8_56_12 (by decide) (by decide) ho9 dX8_round_64 ?_
      refine l_ild C dX8_round_67 hl 2 rfl ?_
      refine lv_icmp_ne (tgt := 81) C.1 C.2.1 dX8_round_69 (by decide) (fun c12 => ?_) (fun c12 => ?_)
      · have h := h.1 c12
        refine lv_iconst (v := 0) C.1 C.2.1 dX8_round_81 (by decide) ?_
        exact b_X8_round_82 C hk20 l4 l6 l7 ((0 : Int32)) G7 _ _ _ _ _ h (hth.ext (by decide) (Ext.tr _ _ _ xG3 xG7)) I (hl.sub [1, 2, 3, 4] rfl)
      · have h := h.2 c12
        refine l_ald_n C dX8_round_72 hl 1 rfl rfl ?_
        refine l_ald C dX8_round_73 hl 0 rfl ?_
        refine k_call Ext.tr C I (k_V (r := th) (As := [va_rf r8]) (rest := []) (y := yX8_ruleRound) C ⟨(hth.ext (by decide) (Ext.tr _ _ _ xG3 xG7)).ad.1, I.recv C.2.2.2.2.1 (hth.ext (by decide) (Ext.tr _ _ _ xG3 xG7)) (by decide)⟩ q549 q551 qs5 (Or.inl rfl) q552 (by decide) rfl pd_X8_ruleRound rfl dX8_round_75) (ct_X8_ruleRound h) hl.1 dX8_round_75 [] rfl (Nat.le_of_ble_eq_true rfl) (Or.inl rfl) q552 q110 ⟨Nat.le_of_ble_eq_true rfl, Nat.le_of_ble_eq_true rfl⟩ (fun v G10 H locs cells slots xG10 hq I => ?_) (fun a G9 H locs cells slots ex hq I => hq.elim)
        obtain ⟨r11, rfl, h⟩ := hq
        have h := h xG10
        refine lv_goto (tgt := 82) C.1 C.2.1 dX8_round_78 (by decide) ?_
        exact b_X8_round_82 C hk20 l4 l6 l7 r11 G10 _ _ _ _ _ h (hth.ext (by decide) (Ext.tr _ _ _ xG3 (Ext.tr _ _ _ xG7 xG10))) I (hl.sub [1, 2, 3, 4] rfl)
def w_X8_round (T : Nat → ClassId) (Q : Int32 → Hp → Prop) (th : Option Nat) (p0 : Option Nat) (p1 : Int32) (p2 : Int32) (p3 : Int32) (p4 : Int32) (G : Hp) : Prop := isO G th 6 ∧ (((p4 = 0) → (w_X8_tell T (fun G1 => Ext G G1 → ∃ n, w_X8_round_20 T Q th n p3 ((0 : Int32)) ((0 : Int32)) G1) th p0 p1 p2 G)) ∧ ((¬ p4 = 0) → (Q ((0 : Int32)) G)))
theorem pd_X8_round : (parseMethodDescriptor yX8_round.desc).map (fun d => d.parameters.length) = some 5 := by decide +kernel
set_option maxHeartbeats 4000000 in
theorem ct_X8_round {l : Launch} {D : va_G} {T : Nat → ClassId} {Z : Heap} {G0 : Hp} {Q : Int32 → Hp → Prop} {th : Option Nat} {p0 : Option Nat} {p1 : Int32} {p2 : Int32} {p3 : Int32} {p4 : Int32} (hw : w_X8_round T Q th p0 p1 p2 p3 p4 G0) : CT (twd D T Z) (Evd D T Z) l yX8_round (Cond.code yX8_round cX8_round 10 (some .int)) 6 146 [va_rf th, va_rf p0, .int p1, .int p2, .int p3, .int p4] G0 (qI Q) (fun _ _ => False) := by
  refine CT.ofW (cc := cX8_round) (nL := 10) (ret := (some .int)) Ext.rf (by decide) (Or.inl rfl) ?_
  intro p e s m below meth c hx hb hml hown hr hlk hnm hcb hm hc hn hE I
  have C : Cx p s m meth c D T Z "EndingTown$Worked" cX8_round 10 (some .int) := ⟨hx, hb, hml, hown, hE, hr, hlk⟩
  refine w_entry [.inr (.inl th), .inr (.inl p0), .inl p1, .inl p2, .inl p3, .inl p4] (Nat.le_of_ble_eq_true rfl) (fun ls hl => ?_)
  have hl : LH ls 10 [(0, .inr (.inl th)), (1, .inr (.inl p0)), (2, .inl p1), (3, .inl p2), (4, .inl p3), (5, .inl p4)] := hl
  obtain ⟨hth, h⟩ := hw
  refine l_ild C dX8_round_0 hl 5 rfl ?_
  refine lv_if_eq (tgt := 7) C.1 C.2.1 dX8_round_2 (by decide) (fun c3 => ?_) (fun c3 => ?_)
  · have h := h.1 c3
    refine l_ald_n C dX8_round_7 hl 0 rfl rfl ?_
    refine l_ald_n C dX8_round_8 hl 1 rfl rfl ?_
    refine l_ild_n C dX8_round_9 hl 2 rfl rfl ?_
    refine l_ild_n C dX8_round_10 hl 3 rfl rfl ?_
    refine k_call Ext.tr C I (k_V (r := th) (As := [va_rf p0, .int p1, .int p2]) (rest := []) (y := yX8_tell) C ⟨hth.ad.1, I.recv C.2.2.2.2.1 hth (by decide)⟩ q539 q541 qs4 (Or.inl rfl) q542 (by decide) rfl pd_X8_tell rfl dX8_round_11) (ct_X8_tell h) hl.1 dX8_round_11 [] rfl (Nat.le_of_ble_eq_true rfl) (Or.inl rfl) q542 q110 ⟨Nat.le_of_ble_eq_true rfl, Nat.le_of_ble_eq_true rfl⟩ (fun v G1 H locs cells slots xG1 hq I => ?_) (fun a G9 H locs cells slots ex hq I => hq.elim)
    obtain ⟨rfl, h⟩ := hq
    have h := h xG1
    refine lv_iconst (v := 0) C.1 C.2.1 dX8_round_14 (by decide) ?_
    refine l_ist C dX8_round_15 hl (by decide) rfl (fun ls hl => ?_)
    have hl : LH ls 10 [(6, .inl ((0 : Int32))), (0, .inr (.inl th)), (1, .inr (.inl p0)), (2, .inl p1), (3, .inl p2), (4, .inl p3), (5, .inl p4)] := hl
    refine lv_iconst (v := 0) C.1 C.2.1 dX8_round_17 (by decide) ?_
    refine l_ist C dX8_round_18 hl (by decide) rfl (fun ls hl => ?_)
    have hl : LH ls 10 [(7, .inl ((0 : Int32))), (6, .inl ((0 : Int32))), (0, .inr (.inl th)), (1, .inr (.inl p0)), (2, .inl p1), (3, .inl p2), (4, .inl p3), (5, .inl p4)] := hl
    obtain ⟨n, h⟩ := h
    exact b_X8_round_20 C n p3 ((0 : Int32)) ((0 : Int32)) G1 _ _ _ _ _ h (hth.ext (by decide) xG1) I (hl.sub [2, 6, 1, 0] rfl)
  · have h := h.2 c3
    refine lv_iconst (v := 0) C.1 C.2.1 dX8_round_5 (by decide) ?_
    exact r_int C.1 C.2.1 C.2.2.2.2.2.1 rfl C.2.2.2.2.2.2 ⟨rfl, rfl⟩ I dX8_round_6 ⟨_, rfl, h⟩
def w_X9_round (T : Nat → ClassId) (Q : Int32 → Hp → Prop) (th : Option Nat) (p0 : Option Nat) (p1 : Int32) (p2 : Int32) (p3 : Int32) (p4 : Int32) (G : Hp) : Prop := isO G th 7 ∧ (Q ((1 : Int32)) G)
theorem pd_X9_round : (parseMethodDescriptor yX9_round.desc).map (fun d => d.parameters.length) = some 5 := by decide +kernel
set_option maxHeartbeats 4000000 in
theorem ct_X9_round {l : Launch} {D : va_G} {T : Nat → ClassId} {Z : Heap} {G0 : Hp} {Q : Int32 → Hp → Prop} {th : Option Nat} {p0 : Option Nat} {p1 : Int32} {p2 : Int32} {p3 : Int32} {p4 : Int32} (hw : w_X9_round T Q th p0 p1 p2 p3 p4 G0) : CT (twd D T Z) (Evd D T Z) l yX9_round (Cond.code yX9_round cX9_round 6 (some .int)) 0 0 [va_rf th, va_rf p0, .int p1, .int p2, .int p3, .int p4] G0 (qI Q) (fun _ _ => False) := by
  refine CT.ofW (cc := cX9_round) (nL := 6) (ret := (some .int)) Ext.rf (by decide) (Or.inl rfl) ?_
  intro p e s m below meth c hx hb hml hown hr hlk hnm hcb hm hc hn hE I
  have C : Cx p s m meth c D T Z "EndingTown$Dreamt" cX9_round 6 (some .int) := ⟨hx, hb, hml, hown, hE, hr, hlk⟩
  refine w_entry [.inr (.inl th), .inr (.inl p0), .inl p1, .inl p2, .inl p3, .inl p4] (Nat.le_of_ble_eq_true rfl) (fun ls hl => ?_)
  have hl : LH ls 6 [(0, .inr (.inl th)), (1, .inr (.inl p0)), (2, .inl p1), (3, .inl p2), (4, .inl p3), (5, .inl p4)] := hl
  obtain ⟨hth, h⟩ := hw
  refine lv_iconst (v := 1) C.1 C.2.1 dX9_round_0 (by decide) ?_
  exact r_int C.1 C.2.1 C.2.2.2.2.2.1 rfl C.2.2.2.2.2.2 ⟨rfl, rfl⟩ I dX9_round_1 ⟨_, rfl, h⟩
def w_X10_attempt_100 (T : Nat → ClassId) (Q : Int32 → Hp → Prop) (th : Option Nat) (k37 : Option Nat → Int32 → Int32 → Int32 → Int32 → Int32 → Hp → Prop) (l1 : Option Nat) (l2 : Int32) (l3 : Int32) (l5 : Int32) (l6 : Int32) (l7 : Int32) (t0 : Int32) (t1 : Int32) (G : Hp) : Prop := ((l7 = l3) → (isO G (gR G (ad th) 0) 50 ∧ vp_in l2 (gN G (ad (gR G (ad th) 0))) ∧ ∀ G2 : Hp, G2 = wI G (ad (gR G (ad th) 0)) l2.toNatClampNeg l3 → isO G2 (gR G2 (ad th) 1) 50 ∧ vp_in l2 (gN G2 (ad (gR G2 (ad th) 1))) ∧ ∀ G4 : Hp, G4 = wI G2 (ad (gR G2 (ad th) 1)) l2.toNatClampNeg l6 → Q (1 : Int32) G4)) ∧ ((¬ l7 = l3) → (k37 l1 l2 l3 ((t1 ||| t0)) l5 ((l6 + 1)) G))
set_option maxHeartbeats 4000000 in
theorem b_X10_attempt_100 {G0 : Hp} {Q : Int32 → Hp → Prop} {th : Option Nat} {k37 : Option Nat → Int32 → Int32 → Int32 → Int32 → Int32 → Hp → Prop} (C : Cx p s m meth c D T Z "EndingTown$Day" cX10_attempt 8 (some .boolean)) (hk37 : ∀ (l1 : Option Nat) (l2 : Int32) (l3 : Int32) (l4 : Int32) (l5 : Int32) (l6 : Int32) (G : Hp) (H : Heap) (locs : List Loc) (cells slots : Nat) (ls : Array Slot), k37 l1 l2 l3 l4 l5 l6 G → isO G th 8 → HI (twd D T Z) G0 s (rmX (twd D T Z) 7 175 G0) H locs cells slots G → LH ls 8 [(0, .inr (.inl th)), (1, .inr (.inl l1)), (2, .inl l2), (3, .inl l3), (4, .inl l4), (5, .inl l5), (6, .inl l6)] → W p l e (rmX (twd D T Z) 7 175 G0) s m args below meth c H locs cells slots (MQX (twd D T Z) G0 (qI Q) (fun _ _ => False) below s) (F0 m 37 ls [])) : ∀ (l1 : Option Nat) (l2 : Int32) (l3 : Int32) (l5 : Int32) (l6 : Int32) (l7 : Int32) (t0 : Int32) (t1 : Int32) (G : Hp) (H : Heap) (locs : List Loc) (cells slots : Nat) (ls : Array Slot), w_X10_attempt_100 T Q th k37 l1 l2 l3 l5 l6 l7 t0 t1 G → isO G th 8 → HI (twd D T Z) G0 s (rmX (twd D T Z) 7 175 G0) H locs cells slots G → LH ls 8 [(0, .inr (.inl th)), (1, .inr (.inl l1)), (2, .inl l2), (3, .inl l3), (5, .inl l5), (6, .inl l6), (7, .inl l7)] → W p l e (rmX (twd D T Z) 7 175 G0) s m args below meth c H locs cells slots (MQX (twd D T Z) G0 (qI Q) (fun _ _ => False) below s) (F0 m 100 ls [.int t0, .int t1]) := by
  intro l1 l2 l3 l5 l6 l7 t0 t1 G H locs cells slots ls h hth I hl
  refine lv_ior C.1 C.2.1 dX10_attempt_100 ?_
  refine l_ist C dX10_attempt_101 hl (by decide) rfl (fun ls hl => ?_)
  have hl : LH ls 8 [(4, .inl ((t1 ||| t0))), (0, .inr (.inl th)), (1, .inr (.inl l1)), (2, .inl l2), (3, .inl l3), (5, .inl l5), (6, .inl l6), (7, .inl l7)] := hl
  refine l_ild C dX10_attempt_103 hl 7 rfl ?_
  refine l_ild_n C dX10_attempt_105 hl 4 rfl rfl ?_
  refine lv_icmp_eq (tgt := 112) C.1 C.2.1 dX10_attempt_106 (by decide) (fun c5 => ?_) (fun c5 => ?_)
  · have h := h.1 c5
    refine l_ald_n C dX10_attempt_112 hl 1 rfl rfl ?_
    refine g_R C I fl_X10_15_8 (by decide) (by decide) hth dX10_attempt_113 ?_
    refine l_ild_n C dX10_attempt_116 hl 3 rfl rfl ?_
    refine l_ild_n C dX10_attempt_117 hl 4 rfl rfl ?_
    obtain ⟨ho1, h⟩ := h
    obtain ⟨hi, h⟩ := h
    refine A_iast C I ho1 hi dX10_attempt_118 (fun H locs G2 eG2 xG2 I => ?_)
    have h := h G2 eG2
    refine l_ald_n C dX10_attempt_119 hl 1 rfl rfl ?_
    refine g_R C I fl_X10_19_8 (by decide) (by decide) (hth.ext (by decide) xG2) dX10_attempt_120 ?_
    refine l_ild_n C dX10_attempt_123 hl 3 rfl rfl ?_
    refine l_ild C dX10_attempt_124 hl 6 rfl ?_
    obtain ⟨ho3, h⟩ := h
    obtain ⟨hi, h⟩ := h
    refine A_iast C I ho3 hi dX10_attempt_126 (fun H locs G4 eG4 xG4 I => ?_)
    have h := h G4 eG4
    refine lv_iconst (v := 1) C.1 C.2.1 dX10_attempt_127 (by decide) ?_
    exact r_int C.1 C.2.1 C.2.2.2.2.2.1 rfl C.2.2.2.2.2.2 ⟨rfl, rfl⟩ I dX10_attempt_128 ⟨_, rfl, h⟩
  · have h := h.2 c5
    refine lv_goto (tgt := 129) C.1 C.2.1 dX10_attempt_109 (by decide) ?_
    refine l_inc (q := 6) (v := 1) C dX10_attempt_129 hl rfl (by decide) (by decide) rfl (fun ls hl => ?_)
    have hl : LH ls 8 [(6, .inl ((l6 + 1))), (4, .inl ((t1 ||| t0))), (0, .inr (.inl th)), (1, .inr (.inl l1)), (2, .inl l2), (3, .inl l3), (5, .inl l5), (7, .inl l7)] := hl
    refine lv_goto (tgt := 37) C.1 C.2.1 dX10_attempt_132 (by decide) ?_
    exact hk37 l1 l2 l3 ((t1 ||| t0)) l5 ((l6 + 1)) G _ _ _ _ _ h hth I (hl.sub [2, 3, 4, 5, 1, 6, 0] rfl)
def w_X10_attempt_52 (T : Nat → ClassId) (Q : Int32 → Hp → Prop) (th : Option Nat) (k37 : Option Nat → Int32 → Int32 → Int32 → Int32 → Int32 → Hp → Prop) (l1 : Option Nat) (l2 : Int32) (l3 : Int32) (l4 : Int32) (l5 : Int32) (l6 : Int32) (t0 : Int32) (t1 : Int32) (G : Hp) : Prop := ((t0 < t1) → (bz l4 ∧ Q l4 G)) ∧ ((¬ t0 < t1) → (isO G (gR G (ad th) 5) 1 ∧ isO G (gR G (ad (gR G (ad th) 5)) 2) 56 ∧ vp_in l6 (gN G (ad (gR G (ad (gR G (ad th) 5)) 2))) ∧ isO G l1 15 ∧ (isO G (gR G (ad (gR G (ad (gR G (ad th) 5)) 2)) l6.toNatClampNeg) 3 ∨ isO G (gR G (ad (gR G (ad (gR G (ad th) 5)) 2)) l6.toNatClampNeg) 4 ∨ isO G (gR G (ad (gR G (ad (gR G (ad th) 5)) 2)) l6.toNatClampNeg) 5 ∨ isO G (gR G (ad (gR G (ad (gR G (ad th) 5)) 2)) l6.toNatClampNeg) 6 ∨ isO G (gR G (ad (gR G (ad (gR G (ad th) 5)) 2)) l6.toNatClampNeg) 7) ∧ (isO G (gR G (ad (gR G (ad (gR G (ad th) 5)) 2)) l6.toNatClampNeg) 3 → w_X5_round T (fun r5 G4 => Ext G G4 → ((r5 ≤ l3) → (w_X10_attempt_100 T Q th k37 l1 l2 l3 l5 l6 r5 ((0 : Int32)) l4 G4)) ∧ ((¬ r5 ≤ l3) → (w_X10_attempt_100 T Q th k37 l1 l2 l3 l5 l6 r5 ((1 : Int32)) l4 G4))) (gR G (ad (gR G (ad (gR G (ad th) 5)) 2)) l6.toNatClampNeg) th (gI G (ad l1) 0) (gI G (ad l1) 1) (gI G (ad l1) 2) (gI G (ad l1) 4) G) ∧ (isO G (gR G (ad (gR G (ad (gR G (ad th) 5)) 2)) l6.toNatClampNeg) 4 → w_X6_round T (fun r5 G4 => Ext G G4 → ((r5 ≤ l3) → (w_X10_attempt_100 T Q th k37 l1 l2 l3 l5 l6 r5 ((0 : Int32)) l4 G4)) ∧ ((¬ r5 ≤ l3) → (w_X10_attempt_100 T Q th k37 l1 l2 l3 l5 l6 r5 ((1 : Int32)) l4 G4))) (gR G (ad (gR G (ad (gR G (ad th) 5)) 2)) l6.toNatClampNeg) th (gI G (ad l1) 0) (gI G (ad l1) 1) (gI G (ad l1) 2) (gI G (ad l1) 4) G) ∧ (isO G (gR G (ad (gR G (ad (gR G (ad th) 5)) 2)) l6.toNatClampNeg) 5 → w_X7_round T (fun r5 G4 => Ext G G4 → ((r5 ≤ l3) → (w_X10_attempt_100 T Q th k37 l1 l2 l3 l5 l6 r5 ((0 : Int32)) l4 G4)) ∧ ((¬ r5 ≤ l3) → (w_X10_attempt_100 T Q th k37 l1 l2 l3 l5 l6 r5 ((1 : Int32)) l4 G4))) (gR G (ad (gR G (ad (gR G (ad th) 5)) 2)) l6.toNatClampNeg) th (gI G (ad l1) 0) (gI G (ad l1) 1) (gI G (ad l1) 2) (gI G (ad l1) 4) G) ∧ (isO G (gR G (ad (gR G (ad (gR G (ad th) 5)) 2)) l6.toNatClampNeg) 6 → w_X8_round T (fun r5 G4 => Ext G G4 → ((r5 ≤ l3) → (w_X10_attempt_100 T Q th k37 l1 l2 l3 l5 l6 r5 ((0 : Int32)) l4 G4)) ∧ ((¬ r5 ≤ l3) → (w_X10_attempt_100 T Q th k37 l1 l2 l3 l5 l6 r5 ((1 : Int32)) l4 G4))) (gR G (ad (gR G (ad (gR G (ad th) 5)) 2)) l6.toNatClampNeg) th (gI G (ad l1) 0) (gI G (ad l1) 1) (gI G (ad l1) 2) (gI G (ad l1) 4) G) ∧ (isO G (gR G (ad (gR G (ad (gR G (ad th) 5)) 2)) l6.toNatClampNeg) 7 → w_X9_round T (fun r5 G4 => Ext G G4 → ((r5 ≤ l3) → (w_X10_attempt_100 T Q th k37 l1 l2 l3 l5 l6 r5 ((0 : Int32)) l4 G4)) ∧ ((¬ r5 ≤ l3) → (w_X10_attempt_100 T Q th k37 l1 l2 l3 l5 l6 r5 ((1 : Int32)) l4 G4))) (gR G (ad (gR G (ad (gR G (ad th) 5)) 2)) l6.toNatClampNeg) th (gI G (ad l1) 0) (gI G (ad l1) 1) (gI G (ad l1) 2) (gI G (ad l1) 4) G)))
set_option maxHeartbeats 4000000 in
theorem b_X10_attempt_52 {G0 : Hp} {Q : Int32 → Hp → Prop} {th : Option Nat} {k37 : Option Nat → Int32 → Int32 → Int32 → Int32 → Int32 → Hp → Prop} (C : Cx p s m meth c D T Z "EndingTown$Day" cX10_attempt 8 (some .boolean)) (hk37 : ∀ (l1 : Option Nat) (l2 : Int32) (l3 : Int32) (l4 : Int32) (l5 : Int32) (l6 : Int32) (G : Hp) (H : Heap) (locs : List Loc) (cells slots : Nat) (ls : Array Slot), k37 l1 l2 l3 l4 l5 l6 G → isO G th 8 → HI (twd D T Z) G0 s (rmX (twd D T Z) 7 175 G0) H locs cells slots G → LH ls 8 [(0, .inr (.inl th)), (1, .inr (.inl l1)), (2, .inl l2), (3, .inl l3), (4, .inl l4), (5, .inl l5), (6, .inl l6)] → W p l e (rmX (twd D T Z) 7 175 G0) s m args below meth c H locs cells slots (MQX (twd D T Z) G0 (qI Q) (fun _ _ => False) below s) (F0 m 37 ls [])) : ∀ (l1 : Option Nat) (l2 : Int32) (l3 : Int32) (l4 : Int32) (l5 : Int32) (l6 : Int32) (t0 : Int32) (t1 : Int32) (G : Hp) (H : Heap) (locs : List Loc) (cells slots : Nat) (ls : Array Slot), w_X10_attempt_52 T Q th k37 l1 l2 l3 l4 l5 l6 t0 t1 G → isO G th 8 → HI (twd D T Z) G0 s (rmX (twd D T Z) 7 175 G0) H locs cells slots G → LH ls 8 [(0, .inr (.inl th)), (1, .inr (.inl l1)), (2, .inl l2), (3, .inl l3), (4, .inl l4), (5, .inl l5), (6, .inl l6)] → W p l e (rmX (twd D T Z) 7 175 G0) s m args below meth c H locs cells slots (MQX (twd D T Z) G0 (qI Q) (fun _ _ => False) below s) (F0 m 52 ls [.int t0, .int t1]) := by
  intro l1 l2 l3 l4 l5 l6 t0 t1 G H locs cells slots ls h hth I hl
  refine lv_icmp_gt (tgt := 135) C.1 C.2.1 dX10_attempt_52 (by decide) (fun c7 => ?_) (fun c7 => ?_)
  · have h := h.1 c7
    refine l_ild C dX10_attempt_135 hl 4 rfl ?_
    exact r_int C.1 C.2.1 C.2.2.2.2.2.1 h.1.n C.2.2.2.2.2.2 ⟨rfl, rfl⟩ I dX10_attempt_137 ⟨_, rfl, h.2⟩
  · have h := h.2 c7
    refine l_ald_n C dX10_attempt_55 hl 0 rfl rfl ?_
    refine g_R C I fl_X10_3_8 (by decide) (by decide) hth dX10_attempt_56 ?_
    obtain ⟨ho1, h⟩ := h
    refine g_R C I fl_X10_59_1 (by decide) (by decide) ho1 dX10_attempt_59 ?_
    refine l_ild C dX10_attempt_62 hl 6 rfl ?_
    obtain ⟨ho2, h⟩ := h
    obtain ⟨hi, h⟩ := h
    refine a_aald C I ho2 (by decide) hi dX10_attempt_64 ?_
    refine l_ald_n C dX10_attempt_65 hl 0 rfl rfl ?_
    refine l_ald_n C dX10_attempt_66 hl 1 rfl rfl ?_
    obtain ⟨ho3, h⟩ := h
    refine g_I C I fl_X10_45_15 (by decide) (by decide) ho3 dX10_attempt_67 ?_
    refine l_ald_n C dX10_attempt_70 hl 1 rfl rfl ?_
    refine g_I C I fl_X10_63_15 (by decide) (by decide) ho3 dX10_attempt_71 ?_
    refine l_ald_n C dX10_attempt_74 hl 1 rfl rfl ?_
    refine g_I C I fl_X10_66_15 (by decide) (by decide) ho3 dX10_attempt_75 ?_
    refine l_ald_n C dX10_attempt_78 hl 1 rfl rfl ?_
    refine g_I C I fl_X10_69_15 (by decide) (by decide) ho3 dX10_attempt_79 ?_
    have kk : ∀ (v : Option Value) (G4 : Hp) (H : Heap) (locs : List Loc) (cells slots : Nat), Ext G G4 → (qI (fun r5 G4 => Ext G G4 → ((r5 ≤ l3) → (w_X10_attempt_100 T Q th k37 l1 l2 l3 l5 l6 r5 ((0 : Int32)) l4 G4)) ∧ ((¬ r5 ≤ l3) → (w_X10_attempt_100 T Q th k37 l1 l2 l3 l5 l6 r5 ((1 : Int32)) l4 G4)))) v G4 → HI (twd D T Z) G0 s (rmX (twd D T Z) 7 175 G0) H locs cells slots G4 → W p l e (rmX (twd D T Z) 7 175 G0) s m args below meth c H locs cells slots (MQX (twd D T Z) G0 (qI Q) (fun _ _ => False) below s) (F0 m 85 ls (v.toList ++ [])) := by
      intro v G4 H locs cells slots xG4 hq I
      obtain ⟨r5, rfl, h⟩ := hq
      have h := h xG4
      refine l_ist C dX10_attempt_85 hl (by decide) rfl (fun ls hl => ?_)
      have hl : LH ls 8 [(7, .inl r5), (0, .inr (.inl th)), (1, .inr (.inl l1)), (2, .inl l2), (3, .inl l3), (4, .inl l4), (5, .inl l5), (6, .inl l6)] := hl
      refine l_ild C dX10_attempt_87 hl 5 rfl ?_
      refine l_ild C dX10_attempt_89 hl 0 rfl ?_
      refine l_ild_n C dX10_attempt_91 hl 4 rfl rfl ?_
      refine lv_icmp_le (tgt := 99) C.1 C.2.1 dX10_attempt_92 (by decide) (fun c6 => ?_) (fun c6 => ?_)
      · have h := h.1 c6
        refine lv_iconst (v := 0) C.1 C.2.1 dX10_attempt_99 (by decide) ?_
        exact b_X10_attempt_100 C hk37 l1 l2 l3 l5 l6 r5 ((0 : Int32)) l4 G4 _ _ _ _ _ h (hth.ext (by decide) xG4) I (hl.sub [1, 2, 3, 4, 6, 7, 0] rfl)
      · have h := h.2 c6
        refine lv_iconst (v := 1) C.1 C.2.1 dX10_attempt_95 (by decide) ?_
        refine lv_goto (tgt := 100) C.1 C.2.1 dX10_attempt_96 (by decide) ?_
        exact b_X10_attempt_100 C hk37 l1 l2 l3 l5 l6 r5 ((1 : Int32)) l4 G4 _ _ _ _ _ h (hth.ext (by decide) xG4) I (hl.sub [1, 2, 3, 4, 6, 7, 0] rfl)
    obtain ⟨hd, h⟩ := h
    rcases hd with ho3 | ho4 | ho5 | ho6 | ho7
    · have h := h.1 ho3
      refine k_call Ext.tr C I (k_U (r := gR G (ad (gR G (ad (gR G (ad th) 5)) 2)) l6.toNatClampNeg) (As := [va_rf th, .int (gI G (ad l1) 0), .int (gI G (ad l1) 1), .int (gI G (ad l1) 2), .int (gI G (ad l1) 4)]) (rest := []) (y := yX5_round) (x := ⟨"EndingTown$How", "round", "(LEndingTown$Day;IIIZ)I"⟩) (owner := "EndingTown$How") C ⟨ho3.ad.1, I.recv C.2.2.2.2.1 ho3 (by decide)⟩ q496 q498 q497 (by decide) q512 q513 rfl pd_X5_round rfl dX10_attempt_82) (ct_X5_round h) hl.1 dX10_attempt_82 [] rfl (Nat.le_of_ble_eq_true rfl) (Or.inl rfl) q514 q107 ⟨Nat.le_of_ble_eq_true rfl, Nat.le_of_ble_eq_true rfl⟩ (fun v G4 H locs cells slots xG4 hq I => kk v G4 H locs cells slots xG4 hq I) (fun a G9 H locs cells slots ex hq I => hq.elim)
    · have h := h.2.1 ho4
      refine k_call Ext.tr C I (k_U (r := gR G (ad (gR G (ad (gR G (ad th) 5)) 2)) l6.toNatClampNeg) (As := [va_rf th, .int (gI G (ad l1) 0), .int (gI G (ad l1) 1), .int (gI G (ad l1) 2), .int (gI G (ad l1) 4)]) (rest := []) (y := yX6_round) (x := ⟨"EndingTown$How", "round", "(LEndingTown$Day;IIIZ)I"⟩) (owner := "EndingTown$How") C ⟨ho4.ad.1, I.recv C.2.2.2.2.1 ho4 (by decide)⟩ q496 q498 q497 (by decide) q502 q503 rfl pd_X6_round rfl dX10_attempt_82) (ct_X6_round h) hl.1 dX10_attempt_82 [] rfl (Nat.le_of_ble_eq_true rfl) (Or.inl rfl) q504 q108 ⟨Nat.le_of_ble_eq_true rfl, Nat.le_of_ble_eq_true rfl⟩ (fun v G4 H locs cells slots xG4 hq I => kk v G4 H locs cells slots xG4 hq I) (fun a G9 H locs cells slots ex hq I => hq.elim)
    · have h := h.2.2.1 ho5
      refine k_call Ext.tr C I (k_U (r := gR G (ad (gR G (ad (gR G (ad th) 5)) 2)) l6.toNatClampNeg) (As := [va_rf th, .int (gI G (ad l1) 0), .int (gI G (ad l1) 1), .int (gI G (ad l1) 2), .int (gI G (ad l1) 4)]) (rest := []) (y := yX7_round) (x := ⟨"EndingTown$How", "round", "(LEndingTown$Day;IIIZ)I"⟩) (owner := "EndingTown$How") C ⟨ho5.ad.1, I.recv C.2.2.2.2.1 ho5 (by decide)⟩ q496 q498 q497 (by decide) q519 q520 rfl pd_X7_round rfl dX10_attempt_82) (ct_X7_round h) hl.1 dX10_attempt_82 [] rfl (Nat.le_of_ble_eq_true rfl) (Or.inl rfl) q521 q109 ⟨Nat.le_of_ble_eq_true rfl, Nat.le_of_ble_eq_true rfl⟩ (fun v G4 H locs cells slots xG4 hq I => kk v G4 H locs cells slots xG4 hq I) (fun a G9 H locs cells slots ex hq I => hq.elim)
    · have h := h.2.2.2.1 ho6
      refine k_call Ext.tr C I (k_U (r := gR G (ad (gR G (ad (gR G (ad th) 5)) 2)) l6.toNatClampNeg) (As := [va_rf th, .int (gI G (ad l1) 0), .int (gI G (ad l1) 1), .int (gI G (ad l1) 2), .int (gI G (ad l1) 4)]) (rest := []) (y := yX8_round) (x := ⟨"EndingTown$How", "round", "(LEndingTown$Day;IIIZ)I"⟩) (owner := "EndingTown$How") C ⟨ho6.ad.1, I.recv C.2.2.2.2.1 ho6 (by decide)⟩ q496 q498 q497 (by decide) q536 q537 rfl pd_X8_round rfl dX10_attempt_82) (ct_X8_round h) hl.1 dX10_attempt_82 [] rfl (Nat.le_of_ble_eq_true rfl) (Or.inl rfl) q538 q110 ⟨Nat.le_of_ble_eq_true rfl, Nat.le_of_ble_eq_true rfl⟩ (fun v G4 H locs cells slots xG4 hq I => kk v G4 H locs cells slots xG4 hq I) (fun a G9 H locs cells slots ex hq I => hq.elim)
    · have h := h.2.2.2.2 ho7
      refine k_call Ext.tr C I (k_U (r := gR G (ad (gR G (ad (gR G (ad th) 5)) 2)) l6.toNatClampNeg) (As := [va_rf th, .int (gI G (ad l1) 0), .int (gI G (ad l1) 1), .int (gI G (ad l1) 2), .int (gI G (ad l1) 4)]) (rest := []) (y := yX9_round) (x := ⟨"EndingTown$How", "round", "(LEndingTown$Day;IIIZ)I"⟩) (owner := "EndingTown$How") C ⟨ho7.ad.1, I.recv C.2.2.2.2.1 ho7 (by decide)⟩ q496 q498 q497 (by decide) q499 q500 rfl pd_X9_round rfl dX10_attempt_82) (ct_X9_round h) hl.1 dX10_attempt_82 [] rfl (Nat.le_of_ble_eq_true rfl) (Or.inl rfl) q501 q111 ⟨Nat.le_of_ble_eq_true rfl, Nat.le_of_ble_eq_true rfl⟩ (fun v G4 H locs cells slots xG4 hq I => kk v G4 H locs cells slots xG4 hq I) (fun a G9 H locs cells slots ex hq I => hq.elim)
def w_X10_attempt_37 (T : Nat → ClassId) (Q : Int32 → Hp → Prop) (th : Option Nat) : Nat → Option Nat → Int32 → Int32 → Int32 → Int32 → Int32 → Hp → Prop
  | 0 => fun _ _ _ _ _ _ _ => False
  | f37 + 1 => fun l1 l2 l3 l4 l5 l6 G => ((l5 = 0) → (isO G l1 15 ∧ w_X10_attempt_52 T Q th (w_X10_attempt_37 T Q th f37) l1 l2 l3 l4 l5 l6 (gI G (ad l1) 3) l6 G)) ∧ ((¬ l5 = 0) → (w_X10_attempt_52 T Q th (w_X10_attempt_37 T Q th f37) l1 l2 l3 l4 l5 l6 ((3 : Int32)) l6 G))
set_option maxHeartbeats 4000000 in
theorem b_X10_attempt_37 {G0 : Hp} {Q : Int32 → Hp → Prop} {th : Option Nat} (C : Cx p s m meth c D T Z "EndingTown$Day" cX10_attempt 8 (some .boolean)) : ∀ (n : Nat) (l1 : Option Nat) (l2 : Int32) (l3 : Int32) (l4 : Int32) (l5 : Int32) (l6 : Int32) (G : Hp) (H : Heap) (locs : List Loc) (cells slots : Nat) (ls : Array Slot), w_X10_attempt_37 T Q th n l1 l2 l3 l4 l5 l6 G → isO G th 8 → HI (twd D T Z) G0 s (rmX (twd D T Z) 7 175 G0) H locs cells slots G → LH ls 8 [(0, .inr (.inl th)), (1, .inr (.inl l1)), (2, .inl l2), (3, .inl l3), (4, .inl l4), (5, .inl l5), (6, .inl l6)] → W p l e (rmX (twd D T Z) 7 175 G0) s m args below meth c H locs cells slots (MQX (twd D T Z) G0 (qI Q) (fun _ _ => False) below s) (F0 m 37 ls []) := by
  intro f37
  induction f37 with
  | zero => intro l1 l2 l3 l4 l5 l6 G H locs cells slots ls h; exact (show False from h).elim
  | succ f37 ih =>
    intro l1 l2 l3 l4 l5 l6 G H locs cells slots ls h hth I hl
    have h : ((l5 = 0) → (isO G l1 15 ∧ w_X10_attempt_52 T Q th (w_X10_attempt_37 T Q th f37) l1 l2 l3 l4 l5 l6 (gI G (ad l1) 3) l6 G)) ∧ ((¬ l5 = 0) → (w_X10_attempt_52 T Q th (w_X10_attempt_37 T Q th f37) l1 l2 l3 l4 l5 l6 ((3 : Int32)) l6 G)) := h
    have hk37 := ih
    refine l_ild C dX10_attempt_37 hl 6 rfl ?_
    refine l_ild C dX10_attempt_39 hl 5 rfl ?_
    refine lv_if_eq (tgt := 48) C.1 C.2.1 dX10_attempt_41 (by decide) (fun c2 => ?_) (fun c2 => ?_)
    · have h := h.1 c2
      refine l_ald_n C dX10_attempt_48 hl 1 rfl rfl ?_
      obtain ⟨ho1, h⟩ := h
      refine g_I C I fl_X10_56_15 (by decide) (by decide) ho1 dX10_attempt_49 ?_
      exact b_X10_attempt_52 C hk37 l1 l2 l3 l4 l5 l6 (gI G (ad l1) 3) l6 G _ _ _ _ _ h hth I (hl.sub [0, 1, 2, 3, 4, 5, 6] rfl)
    · have h := h.2 c2
      refine lv_iconst (v := 3) C.1 C.2.1 dX10_attempt_44 (by decide) ?_
      refine lv_goto (tgt := 52) C.1 C.2.1 dX10_attempt_45 (by decide) ?_
      exact b_X10_attempt_52 C hk37 l1 l2 l3 l4 l5 l6 ((3 : Int32)) l6 G _ _ _ _ _ h hth I (hl.sub [0, 1, 2, 3, 4, 5, 6] rfl)
def w_X10_attempt_35 (T : Nat → ClassId) (Q : Int32 → Hp → Prop) (th : Option Nat) (l1 : Option Nat) (l2 : Int32) (l3 : Int32) (l4 : Int32) (l5 : Int32) (t0 : Int32) (G : Hp) : Prop := ∃ n, w_X10_attempt_37 T Q th n l1 l2 l3 l4 l5 t0 G
set_option maxHeartbeats 4000000 in
theorem b_X10_attempt_35 {G0 : Hp} {Q : Int32 → Hp → Prop} {th : Option Nat} (C : Cx p s m meth c D T Z "EndingTown$Day" cX10_attempt 8 (some .boolean)) : ∀ (l1 : Option Nat) (l2 : Int32) (l3 : Int32) (l4 : Int32) (l5 : Int32) (t0 : Int32) (G : Hp) (H : Heap) (locs : List Loc) (cells slots : Nat) (ls : Array Slot), w_X10_attempt_35 T Q th l1 l2 l3 l4 l5 t0 G → isO G th 8 → HI (twd D T Z) G0 s (rmX (twd D T Z) 7 175 G0) H locs cells slots G → LH ls 8 [(0, .inr (.inl th)), (1, .inr (.inl l1)), (2, .inl l2), (3, .inl l3), (4, .inl l4), (5, .inl l5)] → W p l e (rmX (twd D T Z) 7 175 G0) s m args below meth c H locs cells slots (MQX (twd D T Z) G0 (qI Q) (fun _ _ => False) below s) (F0 m 35 ls [.int t0]) := by
  intro l1 l2 l3 l4 l5 t0 G H locs cells slots ls h hth I hl
  refine l_ist C dX10_attempt_35 hl (by decide) rfl (fun ls hl => ?_)
  have hl : LH ls 8 [(6, .inl t0), (0, .inr (.inl th)), (1, .inr (.inl l1)), (2, .inl l2), (3, .inl l3), (4, .inl l4), (5, .inl l5)] := hl
  obtain ⟨n, h⟩ := h
  exact b_X10_attempt_37 C n l1 l2 l3 l4 l5 t0 G _ _ _ _ _ h hth I (hl.sub [1, 2, 3, 4, 5, 6, 0] rfl)
def w_X10_attempt_20 (T : Nat → ClassId) (Q : Int32 → Hp → Prop) (th : Option Nat) (l1 : Option Nat) (l2 : Int32) (l3 : Int32) (l4 : Int32) (t0 : Int32) (G : Hp) : Prop := ((t0 = 0) → (isO G l1 15 ∧ w_X10_attempt_35 T Q th l1 l2 l3 l4 t0 (gI G (ad l1) 3) G)) ∧ ((¬ t0 = 0) → (w_X10_attempt_35 T Q th l1 l2 l3 l4 t0 ((0 : Int32)) G))
set_option maxHeartbeats 4000000 in
theorem b_X10_attempt_20 {G0 : Hp} {Q : Int32 → Hp → Prop} {th : Option Nat} (C : Cx p s m meth c D T Z "EndingTown$Day" cX10_attempt 8 (some .boolean)) : ∀ (l1 : Option Nat) (l2 : Int32) (l3 : Int32) (l4 : Int32) (t0 : Int32) (G : Hp) (H : Heap) (locs : List Loc) (cells slots : Nat) (ls : Array Slot), w_X10_attempt_20 T Q th l1 l2 l3 l4 t0 G → isO G th 8 → HI (twd D T Z) G0 s (rmX (twd D T Z) 7 175 G0) H locs cells slots G → LH ls 8 [(0, .inr (.inl th)), (1, .inr (.inl l1)), (2, .inl l2), (3, .inl l3), (4, .inl l4)] → W p l e (rmX (twd D T Z) 7 175 G0) s m args below meth c H locs cells slots (MQX (twd D T Z) G0 (qI Q) (fun _ _ => False) below s) (F0 m 20 ls [.int t0]) := by
  intro l1 l2 l3 l4 t0 G H locs cells slots ls h hth I hl
  refine l_ist C dX10_attempt_20 hl (by decide) rfl (fun ls hl => ?_)
  have hl : LH ls 8 [(5, .inl t0), (0, .inr (.inl th)), (1, .inr (.inl l1)), (2, .inl l2), (3, .inl l3), (4, .inl l4)] := hl
  refine l_ild C dX10_attempt_22 hl 0 rfl ?_
  refine lv_if_eq (tgt := 31) C.1 C.2.1 dX10_attempt_24 (by decide) (fun c2 => ?_) (fun c2 => ?_)
  · have h := h.1 c2
    refine l_ald_n C dX10_attempt_31 hl 2 rfl rfl ?_
    obtain ⟨ho1, h⟩ := h
    refine g_I C I fl_X10_56_15 (by decide) (by decide) ho1 dX10_attempt_32 ?_
    exact b_X10_attempt_35 C l1 l2 l3 l4 t0 (gI G (ad l1) 3) G _ _ _ _ _ h hth I (hl.sub [1, 2, 3, 4, 5, 0] rfl)
  · have h := h.2 c2
    refine lv_iconst (v := 0) C.1 C.2.1 dX10_attempt_27 (by decide) ?_
    refine lv_goto (tgt := 35) C.1 C.2.1 dX10_attempt_28 (by decide) ?_
    exact b_X10_attempt_35 C l1 l2 l3 l4 t0 ((0 : Int32)) G _ _ _ _ _ h hth I (hl.sub [1, 2, 3, 4, 5, 0] rfl)
def w_X10_attempt (T : Nat → ClassId) (Q : Int32 → Hp → Prop) (th : Option Nat) (p0 : Option Nat) (p1 : Int32) (p2 : Int32) (G : Hp) : Prop := isO G th 8 ∧ (((¬ ((gI G (ad th) 4 >>> (p1 &&& 31)) &&& (1 : Int32)) = (1 : Int32)) → (w_X10_attempt_20 T Q th p0 p1 p2 ((0 : Int32)) ((0 : Int32)) G)) ∧ ((((gI G (ad th) 4 >>> (p1 &&& 31)) &&& (1 : Int32)) = (1 : Int32)) → (w_X10_attempt_20 T Q th p0 p1 p2 ((0 : Int32)) ((1 : Int32)) G)))
theorem pd_X10_attempt : (parseMethodDescriptor yX10_attempt.desc).map (fun d => d.parameters.length) = some 3 := by decide +kernel
set_option maxHeartbeats 4000000 in
theorem ct_X10_attempt {l : Launch} {D : va_G} {T : Nat → ClassId} {Z : Heap} {G0 : Hp} {Q : Int32 → Hp → Prop} {th : Option Nat} {p0 : Option Nat} {p1 : Int32} {p2 : Int32} (hw : w_X10_attempt T Q th p0 p1 p2 G0) : CT (twd D T Z) (Evd D T Z) l yX10_attempt (Cond.code yX10_attempt cX10_attempt 8 (some .boolean)) 7 175 [va_rf th, va_rf p0, .int p1, .int p2] G0 (qI Q) (fun _ _ => False) := by
  refine CT.ofW (cc := cX10_attempt) (nL := 8) (ret := (some .boolean)) Ext.rf (by decide) (Or.inl rfl) ?_
  intro p e s m below meth c hx hb hml hown hr hlk hnm hcb hm hc hn hE I
  have C : Cx p s m meth c D T Z "EndingTown$Day" cX10_attempt 8 (some .boolean) := ⟨hx, hb, hml, hown, hE, hr, hlk⟩
  refine w_entry [.inr (.inl th), .inr (.inl p0), .inl p1, .inl p2] (Nat.le_of_ble_eq_true rfl) (fun ls hl => ?_)
  have hl : LH ls 8 [(0, .inr (.inl th)), (1, .inr (.inl p0)), (2, .inl p1), (3, .inl p2)] := hl
  obtain ⟨hth, h⟩ := hw
  refine lv_iconst (v := 0) C.1 C.2.1 dX10_attempt_0 (by decide) ?_
  refine l_ist C dX10_attempt_1 hl (by decide) rfl (fun ls hl => ?_)
  have hl : LH ls 8 [(4, .inl ((0 : Int32))), (0, .inr (.inl th)), (1, .inr (.inl p0)), (2, .inl p1), (3, .inl p2)] := hl
  refine l_ald_n C dX10_attempt_3 hl 1 rfl rfl ?_
  refine g_I C I fl_X10_49_8 (by decide) (by decide) hth dX10_attempt_4 ?_
  refine l_ild_n C dX10_attempt_7 hl 3 rfl rfl ?_
  refine lv_ishr C.1 C.2.1 dX10_attempt_8 ?_
  refine lv_iconst (v := 1) C.1 C.2.1 dX10_attempt_9 (by decide) ?_
  refine lv_iand C.1 C.2.1 dX10_attempt_10 ?_
  refine lv_iconst (v := 1) C.1 C.2.1 dX10_attempt_11 (by decide) ?_
  refine lv_icmp_ne (tgt := 19) C.1 C.2.1 dX10_attempt_12 (by decide) (fun c1 => ?_) (fun c1 => ?_)
  · have h := h.1 c1
    refine lv_iconst (v := 0) C.1 C.2.1 dX10_attempt_19 (by decide) ?_
    exact b_X10_attempt_20 C p0 p1 p2 ((0 : Int32)) ((0 : Int32)) G0 _ _ _ _ _ h hth I (hl.sub [1, 2, 3, 4, 0] rfl)
  · have h := h.2 c1
    refine lv_iconst (v := 1) C.1 C.2.1 dX10_attempt_15 (by decide) ?_
    refine lv_goto (tgt := 20) C.1 C.2.1 dX10_attempt_16 (by decide) ?_
    exact b_X10_attempt_20 C p0 p1 p2 ((0 : Int32)) ((1 : Int32)) G0 _ _ _ _ _ h hth I (hl.sub [1, 2, 3, 4, 0] rfl)
def w_X10_tell_102 (T : Nat → ClassId) (Q : Option Nat → Hp → Prop) (th : Option Nat) (k35 : Int32 → Int32 → Hp → Prop) (k43 : Int32 → Int32 → Int32 → Hp → Prop) (l1 : Int32) (l2 : Int32) (l3 : Int32) (G : Hp) : Prop := k43 l1 l2 ((l3 + 1)) G
set_option maxHeartbeats 4000000 in
theorem b_X10_tell_102 {G0 : Hp} {Q : Option Nat → Hp → Prop} {th : Option Nat} {k35 : Int32 → Int32 → Hp → Prop} {k43 : Int32 → Int32 → Int32 → Hp → Prop} (C : Cx p s m meth c D T Z "EndingTown$Day" cX10_tell 4 (some (.object "EndingTown$Day"))) (hk35 : ∀ (l1 : Int32) (l2 : Int32) (G : Hp) (H : Heap) (locs : List Loc) (cells slots : Nat) (ls : Array Slot), k35 l1 l2 G → isO G th 8 → HI (twd D T Z) G0 s (rmX (twd D T Z) 8 202 G0) H locs cells slots G → LH ls 4 [(0, .inr (.inl th)), (1, .inl l1), (2, .inl l2)] → W p l e (rmX (twd D T Z) 8 202 G0) s m args below meth c H locs cells slots (MQX (twd D T Z) G0 (qR Q) (fun _ _ => False) below s) (F0 m 35 ls [])) (hk43 : ∀ (l1 : Int32) (l2 : Int32) (l3 : Int32) (G : Hp) (H : Heap) (locs : List Loc) (cells slots : Nat) (ls : Array Slot), k43 l1 l2 l3 G → isO G th 8 → HI (twd D T Z) G0 s (rmX (twd D T Z) 8 202 G0) H locs cells slots G → LH ls 4 [(0, .inr (.inl th)), (1, .inl l1), (2, .inl l2), (3, .inl l3)] → W p l e (rmX (twd D T Z) 8 202 G0) s m args below meth c H locs cells slots (MQX (twd D T Z) G0 (qR Q) (fun _ _ => False) below s) (F0 m 43 ls [])) : ∀ (l1 : Int32) (l2 : Int32) (l3 : Int32) (G : Hp) (H : Heap) (locs : List Loc) (cells slots : Nat) (ls : Array Slot), w_X10_tell_102 T Q th k35 k43 l1 l2 l3 G → isO G th 8 → HI (twd D T Z) G0 s (rmX (twd D T Z) 8 202 G0) H locs cells slots G → LH ls 4 [(0, .inr (.inl th)), (1, .inl l1), (2, .inl l2), (3, .inl l3)] → W p l e (rmX (twd D T Z) 8 202 G0) s m args below meth c H locs cells slots (MQX (twd D T Z) G0 (qR Q) (fun _ _ => False) below s) (F0 m 102 ls []) := by
  intro l1 l2 l3 G H locs cells slots ls h hth I hl
  refine l_inc (q := 3) (v := 1) C dX10_tell_102 hl rfl (by decide) (by decide) rfl (fun ls hl => ?_)
  have hl : LH ls 4 [(3, .inl ((l3 + 1))), (0, .inr (.inl th)), (1, .inl l1), (2, .inl l2)] := hl
  refine lv_goto (tgt := 43) C.1 C.2.1 dX10_tell_105 (by decide) ?_
  exact hk43 l1 l2 ((l3 + 1)) G _ _ _ _ _ h hth I (hl.sub [1, 2, 3, 0] rfl)
def w_X10_tell_43 (T : Nat → ClassId) (Q : Option Nat → Hp → Prop) (th : Option Nat) (k35 : Int32 → Int32 → Hp → Prop) : Nat → Int32 → Int32 → Int32 → Hp → Prop
  | 0 => fun _ _ _ _ => False
  | f43 + 1 => fun l1 l2 l3 G => isO G (gR G (ad th) 5) 1 ∧ isO G (gR G (ad (gR G (ad th) 5)) 1) 16 ∧ w_J2_size T (fun r3 G2 => Ext G G2 → ((r3 ≤ l3) → (k35 l1 ((l2 + 1)) G2)) ∧ ((¬ r3 ≤ l3) → (isO G2 (gR G2 (ad th) 3) 52 ∧ vp_in l3 (gN G2 (ad (gR G2 (ad th) 3))) ∧ ((gI G2 (ad (gR G2 (ad th) 3)) l3.toNatClampNeg = 0) → (w_X10_tell_102 T Q th k35 (w_X10_tell_43 T Q th k35 f43) l1 l2 l3 G2)) ∧ ((¬ gI G2 (ad (gR G2 (ad th) 3)) l3.toNatClampNeg = 0) → (isO G2 (gR G2 (ad th) 0) 50 ∧ vp_in l3 (gN G2 (ad (gR G2 (ad th) 0))) ∧ ((¬ gI G2 (ad (gR G2 (ad th) 0)) l3.toNatClampNeg = 0) → (w_X10_tell_102 T Q th k35 (w_X10_tell_43 T Q th k35 f43) l1 l2 l3 G2)) ∧ ((gI G2 (ad (gR G2 (ad th) 0)) l3.toNatClampNeg = 0) → (isO G2 (gR G2 (ad th) 5) 1 ∧ isO G2 (gR G2 (ad (gR G2 (ad th) 5)) 1) 16 ∧ w_J2_get T (fun r8 G7 => Ext G2 G7 → (r8 = none ∨ isO G7 r8 15) ∧ w_X10_attempt T (fun r10 G9 => Ext G7 G9 → w_X10_tell_102 T Q th k35 (w_X10_tell_43 T Q th k35 f43) ((l1 ||| r10)) l2 l3 G9) th r8 l3 l2 G7) (gR G2 (ad (gR G2 (ad th) 5)) 1) l3 G2))))))) (gR G (ad (gR G (ad th) 5)) 1) G
set_option maxHeartbeats 4000000 in
theorem b_X10_tell_43 {G0 : Hp} {Q : Option Nat → Hp → Prop} {th : Option Nat} {k35 : Int32 → Int32 → Hp → Prop} (C : Cx p s m meth c D T Z "EndingTown$Day" cX10_tell 4 (some (.object "EndingTown$Day"))) (hk35 : ∀ (l1 : Int32) (l2 : Int32) (G : Hp) (H : Heap) (locs : List Loc) (cells slots : Nat) (ls : Array Slot), k35 l1 l2 G → isO G th 8 → HI (twd D T Z) G0 s (rmX (twd D T Z) 8 202 G0) H locs cells slots G → LH ls 4 [(0, .inr (.inl th)), (1, .inl l1), (2, .inl l2)] → W p l e (rmX (twd D T Z) 8 202 G0) s m args below meth c H locs cells slots (MQX (twd D T Z) G0 (qR Q) (fun _ _ => False) below s) (F0 m 35 ls [])) : ∀ (n : Nat) (l1 : Int32) (l2 : Int32) (l3 : Int32) (G : Hp) (H : Heap) (locs : List Loc) (cells slots : Nat) (ls : Array Slot), w_X10_tell_43 T Q th k35 n l1 l2 l3 G → isO G th 8 → HI (twd D T Z) G0 s (rmX (twd D T Z) 8 202 G0) H locs cells slots G → LH ls 4 [(0, .inr (.inl th)), (1, .inl l1), (2, .inl l2), (3, .inl l3)] → W p l e (rmX (twd D T Z) 8 202 G0) s m args below meth c H locs cells slots (MQX (twd D T Z) G0 (qR Q) (fun _ _ => False) below s) (F0 m 43 ls []) := by
  intro f43
  induction f43 with
  | zero => intro l1 l2 l3 G H locs cells slots ls h; exact (show False from h).elim
  | succ f43 ih =>
    intro l1 l2 l3 G H locs cells slots ls h hth I hl
    have h : isO G (gR G (ad th) 5) 1 ∧ isO G (gR G (ad (gR G (ad th) 5)) 1) 16 ∧ w_J2_size T (fun r3 G2 => Ext G G2 → ((r3 ≤ l3) → (k35 l1 ((l2 + 1)) G2)) ∧ ((¬ r3 ≤ l3) → (isO G2 (gR G2 (ad th) 3) 52 ∧ vp_in l3 (gN G2 (ad (gR G2 (ad th) 3))) ∧ ((gI G2 (ad (gR G2 (ad th) 3)) l3.toNatClampNeg = 0) → (w_X10_tell_102 T Q th k35 (w_X10_tell_43 T Q th k35 f43) l1 l2 l3 G2)) ∧ ((¬ gI G2 (ad (gR G2 (ad th) 3)) l3.toNatClampNeg = 0) → (isO G2 (gR G2 (ad th) 0) 50 ∧ vp_in l3 (gN G2 (ad (gR G2 (ad th) 0))) ∧ ((¬ gI G2 (ad (gR G2 (ad th) 0)) l3.toNatClampNeg = 0) → (w_X10_tell_102 T Q th k35 (w_X10_tell_43 T Q th k35 f43) l1 l2 l3 G2)) ∧ ((gI G2 (ad (gR G2 (ad th) 0)) l3.toNatClampNeg = 0) → (isO G2 (gR G2 (ad th) 5) 1 ∧ isO G2 (gR G2 (ad (gR G2 (ad th) 5)) 1) 16 ∧ w_J2_get T (fun r8 G7 => Ext G2 G7 → (r8 = none ∨ isO G7 r8 15) ∧ w_X10_attempt T (fun r10 G9 => Ext G7 G9 → w_X10_tell_102 T Q th k35 (w_X10_tell_43 T Q th k35 f43) ((l1 ||| r10)) l2 l3 G9) th r8 l3 l2 G7) (gR G2 (ad (gR G2 (ad th) 5)) 1) l3 G2))))))) (gR G (ad (gR G (ad th) 5)) 1) G := h
    have hk43 := ih
    refine l_ild_n C dX10_tell_43 hl 3 rfl rfl ?_
    refine l_ald_n C dX10_tell_44 hl 0 rfl rfl ?_
    refine g_R C I fl_X10_3_8 (by decide) (by decide) hth dX10_tell_45 ?_
    obtain ⟨ho1, h⟩ := h
    refine g_R C I fl_X10_29_1 (by decide) (by decide) ho1 dX10_tell_48 ?_
    obtain ⟨ho15, h⟩ := h
    refine k_call Ext.tr C I (k_F (kd := 16) (r := gR G (ad (gR G (ad th) 5)) 1) (As := []) (rest := [.int l3]) (y := yJ2_size) (x := ⟨"java/util/List", "size", "()I"⟩) C (by decide) ⟨ho15.ad.1, I.recv C.2.2.2.2.1 ho15 (by decide)⟩ q473 (by decide) q426 q425 q430 q428 q417 q427 q429 rfl pd_J2_size rfl dX10_tell_51) (ct_J2_size h) hl.1 dX10_tell_51 [.inl l3] rfl (Nat.le_of_ble_eq_true rfl) (Or.inl rfl) q431 q104 ⟨Nat.le_of_ble_eq_true rfl, Nat.le_of_ble_eq_true rfl⟩ (fun v G2 H locs cells slots xG2 hq I => ?_) (fun a G9 H locs cells slots ex hq I => hq.elim)
    obtain ⟨r3, rfl, h⟩ := hq
    have h := h xG2
    refine lv_icmp_ge (tgt := 108) C.1 C.2.1 dX10_tell_56 (by decide) (fun c14 => ?_) (fun c14 => ?_)
    · have h := h.1 c14
      refine l_inc (q := 2) (v := 1) C dX10_tell_108 hl rfl (by decide) (by decide) rfl (fun ls hl => ?_)
      have hl : LH ls 4 [(2, .inl ((l2 + 1))), (0, .inr (.inl th)), (1, .inl l1), (3, .inl l3)] := hl
      refine lv_goto (tgt := 35) C.1 C.2.1 dX10_tell_111 (by decide) ?_
      exact hk35 l1 ((l2 + 1)) G2 _ _ _ _ _ h (hth.ext (by decide) xG2) I (hl.sub [1, 2, 0] rfl)
    · have h := h.2 c14
      refine l_ald_n C dX10_tell_59 hl 0 rfl rfl ?_
      refine g_R C I fl_X10_25_8 (by decide) (by decide) (hth.ext (by decide) xG2) dX10_tell_60 ?_
      refine l_ild_n C dX10_tell_63 hl 3 rfl rfl ?_
      obtain ⟨ho4, h⟩ := h
      obtain ⟨hi, h⟩ := h
      refine a_zald C I ho4 hi dX10_tell_64 ?_
      refine lv_if_eq (tgt := 102) C.1 C.2.1 dX10_tell_65 (by decide) (fun c13 => ?_) (fun c13 => ?_)
      · have h := h.1 c13
        exact b_X10_tell_102 C hk35 hk43 l1 l2 l3 G2 _ _ _ _ _ h (hth.ext (by decide) xG2) I (hl.sub [0, 1, 2, 3] rfl)
      · have h := h.2 c13
        refine l_ald_n C dX10_tell_68 hl 0 rfl rfl ?_
        refine g_R C I fl_X10_15_8 (by decide) (by decide) (hth.ext (by decide) xG2) dX10_tell_69 ?_
        refine l_ild_n C dX10_tell_72 hl 3 rfl rfl ?_
        obtain ⟨ho5, h⟩ := h
        obtain ⟨hi, h⟩ := h
        refine a_iald C I ho5 hi dX10_tell_73 ?_
        refine lv_if_ne (tgt := 102) C.1 C.2.1 dX10_tell_74 (by decide) (fun c12 => ?_) (fun c12 => ?_)
        · have h := h.1 c12
          exact b_X10_tell_102 C hk35 hk43 l1 l2 l3 G2 _ _ _ _ _ h (hth.ext (by decide) xG2) I (hl.sub [0, 1, 2, 3] rfl)
        · have h := h.2 c12
          refine l_ild_n C dX10_tell_77 hl 1 rfl rfl ?_
          refine l_ald_n C dX10_tell_78 hl 0 rfl rfl ?_
          refine l_ald_n C dX10_tell_79 hl 0 rfl rfl ?_
          refine g_R C I fl_X10_3_8 (by decide) (by decide) (hth.ext (by decide) xG2) dX10_tell_80 ?_
          obtain ⟨ho6, h⟩ := h
          refine g_R C I fl_X10_29_1 (by decide) (by decide) ho6 dX10_tell_83 ?_
          refine l_ild_n C dX10_tell_86 hl 3 rfl rfl ?_
          obtain ⟨ho11, h⟩ := h
          refine k_call Ext.tr C I (k_F (kd := 16) (r := gR G2 (ad (gR G2 (ad th) 5)) 1) (As := [.int l3]) (rest := [va_rf th, .int l1]) (y := yJ2_get) (x := ⟨"java/util/List", "get", "(I)Ljava/lang/Object;"⟩) C (by decide) ⟨ho11.ad.1, I.recv C.2.2.2.2.1 ho11 (by decide)⟩ q475 (by decide) q477 q476 q481 q479 q417 q478 q480 rfl pd_J2_get rfl dX10_tell_87) (ct_J2_get h) hl.1 dX10_tell_87 [.inr (.inl th), .inl l1] rfl (Nat.le_of_ble_eq_true rfl) (Or.inl rfl) q482 q104 ⟨Nat.le_of_ble_eq_true rfl, Nat.le_of_ble_eq_true rfl⟩ (fun v G7 H locs cells slots xG7 hq I => ?_) (fun a G9 H locs cells slots ex hq I => hq.elim)
          obtain ⟨r8, rfl, h⟩ := hq
          have h := h xG7
          obtain ⟨hcc, h⟩ := h
          refine c_cast (kd := 15) C I (by decide) q487 hcc dX10_tell_92 ?_
          refine l_ild_n C dX10_tell_95 hl 3 rfl rfl ?_
          refine l_ild_n C dX10_tell_96 hl 2 rfl rfl ?_
          refine k_call Ext.tr C I (k_V (r := th) (As := [va_rf r8, .int l3, .int l2]) (rest := [.int l1]) (y := yX10_attempt) C ⟨(hth.ext (by decide) (Ext.tr _ _ _ xG2 xG7)).ad.1, I.recv C.2.2.2.2.1 (hth.ext (by decide) (Ext.tr _ _ _ xG2 xG7)) (by decide)⟩ q492 q494 qs2 (Or.inl rfl) q495 (by decide) rfl pd_X10_attempt rfl dX10_tell_97) (ct_X10_attempt h) hl.1 dX10_tell_97 [.inl l1] rfl (Nat.le_of_ble_eq_true rfl) (Or.inl rfl) q495 q112 ⟨Nat.le_of_ble_eq_true rfl, Nat.le_of_ble_eq_true rfl⟩ (fun v G9 H locs cells slots xG9 hq I => ?_) (fun a G9 H locs cells slots ex hq I => hq.elim)
          obtain ⟨r10, rfl, h⟩ := hq
          have h := h xG9
          refine lv_ior C.1 C.2.1 dX10_tell_100 ?_
          refine l_ist_n C dX10_tell_101 rfl hl (by decide) rfl (fun ls hl => ?_)
          have hl : LH ls 4 [(1, .inl ((l1 ||| r10))), (0, .inr (.inl th)), (2, .inl l2), (3, .inl l3)] := hl
          exact b_X10_tell_102 C hk35 hk43 ((l1 ||| r10)) l2 l3 G9 _ _ _ _ _ h (hth.ext (by decide) (Ext.tr _ _ _ xG2 (Ext.tr _ _ _ xG7 xG9))) I (hl.sub [1, 0, 2, 3] rfl)
def w_X10_tell_35 (T : Nat → ClassId) (Q : Option Nat → Hp → Prop) (th : Option Nat) : Nat → Int32 → Int32 → Hp → Prop
  | 0 => fun _ _ _ => False
  | f35 + 1 => fun l1 l2 G => ((l1 = 0) → (Q th G)) ∧ ((¬ l1 = 0) → (∃ n, w_X10_tell_43 T Q th (w_X10_tell_35 T Q th f35) n ((0 : Int32)) l2 ((0 : Int32)) G))
set_option maxHeartbeats 4000000 in
theorem b_X10_tell_35 {G0 : Hp} {Q : Option Nat → Hp → Prop} {th : Option Nat} (C : Cx p s m meth c D T Z "EndingTown$Day" cX10_tell 4 (some (.object "EndingTown$Day"))) : ∀ (n : Nat) (l1 : Int32) (l2 : Int32) (G : Hp) (H : Heap) (locs : List Loc) (cells slots : Nat) (ls : Array Slot), w_X10_tell_35 T Q th n l1 l2 G → isO G th 8 → HI (twd D T Z) G0 s (rmX (twd D T Z) 8 202 G0) H locs cells slots G → LH ls 4 [(0, .inr (.inl th)), (1, .inl l1), (2, .inl l2)] → W p l e (rmX (twd D T Z) 8 202 G0) s m args below meth c H locs cells slots (MQX (twd D T Z) G0 (qR Q) (fun _ _ => False) below s) (F0 m 35 ls []) := by
  intro f35
  induction f35 with
  | zero => intro l1 l2 G H locs cells slots ls h; exact (show False from h).elim
  | succ f35 ih =>
    intro l1 l2 G H locs cells slots ls h hth I hl
    have h : ((l1 = 0) → (Q th G)) ∧ ((¬ l1 = 0) → (∃ n, w_X10_tell_43 T Q th (w_X10_tell_35 T Q th f35) n ((0 : Int32)) l2 ((0 : Int32)) G)) := h
    have hk35 := ih
    refine l_ild_n C dX10_tell_35 hl 1 rfl rfl ?_
    refine lv_if_eq (tgt := 114) C.1 C.2.1 dX10_tell_36 (by decide) (fun c1 => ?_) (fun c1 => ?_)
    · have h := h.1 c1
      refine l_ald_n C dX10_tell_114 hl 0 rfl rfl ?_
      exact r_ref C.1 C.2.1 C.2.2.2.2.2.1 (Or.inl ⟨_, rfl⟩) C.2.2.2.2.2.2 ⟨rfl, rfl⟩ I dX10_tell_115 ⟨_, rfl, h⟩
    · have h := h.2 c1
      refine lv_iconst (v := 0) C.1 C.2.1 dX10_tell_39 (by decide) ?_
      refine l_ist_n C dX10_tell_40 rfl hl (by decide) rfl (fun ls hl => ?_)
      have hl : LH ls 4 [(1, .inl ((0 : Int32))), (0, .inr (.inl th)), (2, .inl l2)] := hl
      refine lv_iconst (v := 0) C.1 C.2.1 dX10_tell_41 (by decide) ?_
      refine l_ist_n C dX10_tell_42 rfl hl (by decide) rfl (fun ls hl => ?_)
      have hl : LH ls 4 [(3, .inl ((0 : Int32))), (1, .inl ((0 : Int32))), (0, .inr (.inl th)), (2, .inl l2)] := hl
      obtain ⟨n, h⟩ := h
      exact b_X10_tell_43 C hk35 n ((0 : Int32)) l2 ((0 : Int32)) G _ _ _ _ _ h hth I (hl.sub [2, 1, 3, 0] rfl)
def w_X10_tell_2 (T : Nat → ClassId) (Q : Option Nat → Hp → Prop) (th : Option Nat) : Nat → Int32 → Hp → Prop
  | 0 => fun _ _ => False
  | f2 + 1 => fun l1 G => isO G (gR G (ad th) 5) 1 ∧ isO G (gR G (ad (gR G (ad th) 5)) 1) 16 ∧ w_J2_size T (fun r3 G2 => Ext G G2 → ((r3 ≤ l1) → (∃ n, w_X10_tell_35 T Q th n ((1 : Int32)) ((1 : Int32)) G2)) ∧ ((¬ r3 ≤ l1) → (isO G2 (gR G2 (ad th) 0) 50 ∧ vp_in l1 (gN G2 (ad (gR G2 (ad th) 0))) ∧ ∀ G5 : Hp, G5 = wI G2 (ad (gR G2 (ad th) 0)) l1.toNatClampNeg ((0 : Int32)) → (w_X10_tell_2 T Q th f2) ((l1 + 1)) G5))) (gR G (ad (gR G (ad th) 5)) 1) G
set_option maxHeartbeats 4000000 in
theorem b_X10_tell_2 {G0 : Hp} {Q : Option Nat → Hp → Prop} {th : Option Nat} (C : Cx p s m meth c D T Z "EndingTown$Day" cX10_tell 4 (some (.object "EndingTown$Day"))) : ∀ (n : Nat) (l1 : Int32) (G : Hp) (H : Heap) (locs : List Loc) (cells slots : Nat) (ls : Array Slot), w_X10_tell_2 T Q th n l1 G → isO G th 8 → HI (twd D T Z) G0 s (rmX (twd D T Z) 8 202 G0) H locs cells slots G → LH ls 4 [(0, .inr (.inl th)), (1, .inl l1)] → W p l e (rmX (twd D T Z) 8 202 G0) s m args below meth c H locs cells slots (MQX (twd D T Z) G0 (qR Q) (fun _ _ => False) below s) (F0 m 2 ls []) := by
  intro f2
  induction f2 with
  | zero => intro l1 G H locs cells slots ls h; exact (show False from h).elim
  | succ f2 ih =>
    intro l1 G H locs cells slots ls h hth I hl
    have h : isO G (gR G (ad th) 5) 1 ∧ isO G (gR G (ad (gR G (ad th) 5)) 1) 16 ∧ w_J2_size T (fun r3 G2 => Ext G G2 → ((r3 ≤ l1) → (∃ n, w_X10_tell_35 T Q th n ((1 : Int32)) ((1 : Int32)) G2)) ∧ ((¬ r3 ≤ l1) → (isO G2 (gR G2 (ad th) 0) 50 ∧ vp_in l1 (gN G2 (ad (gR G2 (ad th) 0))) ∧ ∀ G5 : Hp, G5 = wI G2 (ad (gR G2 (ad th) 0)) l1.toNatClampNeg ((0 : Int32)) → (w_X10_tell_2 T Q th f2) ((l1 + 1)) G5))) (gR G (ad (gR G (ad th) 5)) 1) G := h
    have hk2 := ih
    refine l_ild_n C dX10_tell_2 hl 1 rfl rfl ?_
    refine l_ald_n C dX10_tell_3 hl 0 rfl rfl ?_
    refine g_R C I fl_X10_3_8 (by decide) (by decide) hth dX10_tell_4 ?_
    obtain ⟨ho1, h⟩ := h
    refine g_R C I fl_X10_29_1 (by decide) (by decide) ho1 dX10_tell_7 ?_
    obtain ⟨ho7, h⟩ := h
    refine k_call Ext.tr C I (k_F (kd := 16) (r := gR G (ad (gR G (ad th) 5)) 1) (As := []) (rest := [.int l1]) (y := yJ2_size) (x := ⟨"java/util/List", "size", "()I"⟩) C (by decide) ⟨ho7.ad.1, I.recv C.2.2.2.2.1 ho7 (by decide)⟩ q473 (by decide) q426 q425 q430 q428 q417 q427 q429 rfl pd_J2_size rfl dX10_tell_10) (ct_J2_size h) hl.1 dX10_tell_10 [.inl l1] rfl (Nat.le_of_ble_eq_true rfl) (Or.inl rfl) q431 q104 ⟨Nat.le_of_ble_eq_true rfl, Nat.le_of_ble_eq_true rfl⟩ (fun v G2 H locs cells slots xG2 hq I => ?_) (fun a G9 H locs cells slots ex hq I => hq.elim)
    obtain ⟨r3, rfl, h⟩ := hq
    have h := h xG2
    refine lv_icmp_ge (tgt := 31) C.1 C.2.1 dX10_tell_15 (by decide) (fun c6 => ?_) (fun c6 => ?_)
    · have h := h.1 c6
      refine lv_iconst (v := 1) C.1 C.2.1 dX10_tell_31 (by decide) ?_
      refine l_ist_n C dX10_tell_32 rfl hl (by decide) rfl (fun ls hl => ?_)
      have hl : LH ls 4 [(1, .inl ((1 : Int32))), (0, .inr (.inl th))] := hl
      refine lv_iconst (v := 1) C.1 C.2.1 dX10_tell_33 (by decide) ?_
      refine l_ist_n C dX10_tell_34 rfl hl (by decide) rfl (fun ls hl => ?_)
      have hl : LH ls 4 [(2, .inl ((1 : Int32))), (1, .inl ((1 : Int32))), (0, .inr (.inl th))] := hl
      obtain ⟨n, h⟩ := h
      exact b_X10_tell_35 C n ((1 : Int32)) ((1 : Int32)) G2 _ _ _ _ _ h (hth.ext (by decide) xG2) I (hl.sub [2, 1, 0] rfl)
    · have h := h.2 c6
      refine l_ald_n C dX10_tell_18 hl 0 rfl rfl ?_
      refine g_R C I fl_X10_15_8 (by decide) (by decide) (hth.ext (by decide) xG2) dX10_tell_19 ?_
      refine l_ild_n C dX10_tell_22 hl 1 rfl rfl ?_
      refine lv_iconst (v := 0) C.1 C.2.1 dX10_tell_23 (by decide) ?_
      obtain ⟨ho4, h⟩ := h
      obtain ⟨hi, h⟩ := h
      refine A_iast C I ho4 hi dX10_tell_24 (fun H locs G5 eG5 xG5 I => ?_)
      have h := h G5 eG5
      refine l_inc (q := 1) (v := 1) C dX10_tell_25 hl rfl (by decide) (by decide) rfl (fun ls hl => ?_)
      have hl : LH ls 4 [(1, .inl ((l1 + 1))), (0, .inr (.inl th))] := hl
      refine lv_goto (tgt := 2) C.1 C.2.1 dX10_tell_28 (by decide) ?_
      exact hk2 ((l1 + 1)) G5 _ _ _ _ _ h (hth.ext (by decide) (Ext.tr _ _ _ xG2 xG5)) I (hl.sub [1, 0] rfl)
def w_X10_tell (T : Nat → ClassId) (Q : Option Nat → Hp → Prop) (th : Option Nat) (G : Hp) : Prop := isO G th 8 ∧ (∃ n, w_X10_tell_2 T Q th n ((0 : Int32)) G)
theorem pd_X10_tell : (parseMethodDescriptor yX10_tell.desc).map (fun d => d.parameters.length) = some 0 := by decide +kernel
set_option maxHeartbeats 4000000 in
theorem ct_X10_tell {l : Launch} {D : va_G} {T : Nat → ClassId} {Z : Heap} {G0 : Hp} {Q : Option Nat → Hp → Prop} {th : Option Nat} (hw : w_X10_tell T Q th G0) : CT (twd D T Z) (Evd D T Z) l yX10_tell (Cond.code yX10_tell cX10_tell 4 (some (.object "EndingTown$Day"))) 8 202 [va_rf th] G0 (qR Q) (fun _ _ => False) := by
  refine CT.ofW (cc := cX10_tell) (nL := 4) (ret := (some (.object "EndingTown$Day"))) Ext.rf (by decide) (Or.inl rfl) ?_
  intro p e s m below meth c hx hb hml hown hr hlk hnm hcb hm hc hn hE I
  have C : Cx p s m meth c D T Z "EndingTown$Day" cX10_tell 4 (some (.object "EndingTown$Day")) := ⟨hx, hb, hml, hown, hE, hr, hlk⟩
  refine w_entry [.inr (.inl th)] (Nat.le_of_ble_eq_true rfl) (fun ls hl => ?_)
  have hl : LH ls 4 [(0, .inr (.inl th))] := hl
  obtain ⟨hth, h⟩ := hw
  refine lv_iconst (v := 0) C.1 C.2.1 dX10_tell_0 (by decide) ?_
  refine l_ist_n C dX10_tell_1 rfl hl (by decide) rfl (fun ls hl => ?_)
  have hl : LH ls 4 [(1, .inl ((0 : Int32))), (0, .inr (.inl th))] := hl
  obtain ⟨n, h⟩ := h
  exact b_X10_tell_2 C n ((0 : Int32)) G0 _ _ _ _ _ h hth I (hl.sub [1, 0] rfl)
def w_X1_held_32 (T : Nat → ClassId) (Q : Int32 → Hp → Prop) (th : Option Nat) (k4 : Option Nat → Int32 → Int32 → Hp → Prop) (l1 : Option Nat) (l2 : Int32) (l3 : Int32) (G : Hp) : Prop := k4 l1 l2 ((l3 + 1)) G
set_option maxHeartbeats 4000000 in
theorem b_X1_held_32 {G0 : Hp} {Q : Int32 → Hp → Prop} {th : Option Nat} {k4 : Option Nat → Int32 → Int32 → Hp → Prop} (C : Cx p s m meth c D T Z "EndingTown" cX1_held 4 (some .int)) (hk4 : ∀ (l1 : Option Nat) (l2 : Int32) (l3 : Int32) (G : Hp) (H : Heap) (locs : List Loc) (cells slots : Nat) (ls : Array Slot), k4 l1 l2 l3 G → isO G th 1 → HI (twd D T Z) G0 s (rmX (twd D T Z) 1 20 G0) H locs cells slots G → LH ls 4 [(0, .inr (.inl th)), (1, .inr (.inl l1)), (2, .inl l2), (3, .inl l3)] → W p l e (rmX (twd D T Z) 1 20 G0) s m args below meth c H locs cells slots (MQX (twd D T Z) G0 (qI Q) (fun _ _ => False) below s) (F0 m 4 ls [])) : ∀ (l1 : Option Nat) (l2 : Int32) (l3 : Int32) (G : Hp) (H : Heap) (locs : List Loc) (cells slots : Nat) (ls : Array Slot), w_X1_held_32 T Q th k4 l1 l2 l3 G → isO G th 1 → HI (twd D T Z) G0 s (rmX (twd D T Z) 1 20 G0) H locs cells slots G → LH ls 4 [(0, .inr (.inl th)), (1, .inr (.inl l1)), (2, .inl l2), (3, .inl l3)] → W p l e (rmX (twd D T Z) 1 20 G0) s m args below meth c H locs cells slots (MQX (twd D T Z) G0 (qI Q) (fun _ _ => False) below s) (F0 m 32 ls []) := by
  intro l1 l2 l3 G H locs cells slots ls h hth I hl
  refine l_inc (q := 3) (v := 1) C dX1_held_32 hl rfl (by decide) (by decide) rfl (fun ls hl => ?_)
  have hl : LH ls 4 [(3, .inl ((l3 + 1))), (0, .inr (.inl th)), (1, .inr (.inl l1)), (2, .inl l2)] := hl
  refine lv_goto (tgt := 4) C.1 C.2.1 dX1_held_35 (by decide) ?_
  exact hk4 l1 l2 ((l3 + 1)) G _ _ _ _ _ h hth I (hl.sub [1, 2, 3, 0] rfl)
def w_X1_held_4 (T : Nat → ClassId) (Q : Int32 → Hp → Prop) (th : Option Nat) : Nat → Option Nat → Int32 → Int32 → Hp → Prop
  | 0 => fun _ _ _ _ => False
  | f4 + 1 => fun l1 l2 l3 G => isO G (gR G (ad th) 1) 16 ∧ w_J2_size T (fun r2 G1 => Ext G G1 → ((r2 ≤ l3) → (Q l2 G1)) ∧ ((¬ r2 ≤ l3) → (isO G1 l1 8 ∧ isO G1 (gR G1 (ad l1) 0) 50 ∧ vp_in l3 (gN G1 (ad (gR G1 (ad l1) 0))) ∧ ((gI G1 (ad (gR G1 (ad l1) 0)) l3.toNatClampNeg ≤ 0) → (w_X1_held_32 T Q th (w_X1_held_4 T Q th f4) l1 l2 l3 G1)) ∧ ((¬ gI G1 (ad (gR G1 (ad l1) 0)) l3.toNatClampNeg ≤ 0) → (w_X1_held_32 T Q th (w_X1_held_4 T Q th f4) l1 ((l2 ||| ((1 : Int32) <<< (l3 &&& 31)))) l3 G1))))) (gR G (ad th) 1) G
set_option maxHeartbeats 4000000 in
theorem b_X1_held_4 {G0 : Hp} {Q : Int32 → Hp → Prop} {th : Option Nat} (C : Cx p s m meth c D T Z "EndingTown" cX1_held 4 (some .int)) : ∀ (n : Nat) (l1 : Option Nat) (l2 : Int32) (l3 : Int32) (G : Hp) (H : Heap) (locs : List Loc) (cells slots : Nat) (ls : Array Slot), w_X1_held_4 T Q th n l1 l2 l3 G → isO G th 1 → HI (twd D T Z) G0 s (rmX (twd D T Z) 1 20 G0) H locs cells slots G → LH ls 4 [(0, .inr (.inl th)), (1, .inr (.inl l1)), (2, .inl l2), (3, .inl l3)] → W p l e (rmX (twd D T Z) 1 20 G0) s m args below meth c H locs cells slots (MQX (twd D T Z) G0 (qI Q) (fun _ _ => False) below s) (F0 m 4 ls []) := by
  intro f4
  induction f4 with
  | zero => intro l1 l2 l3 G H locs cells slots ls h; exact (show False from h).elim
  | succ f4 ih =>
    intro l1 l2 l3 G H locs cells slots ls h hth I hl
    have h : isO G (gR G (ad th) 1) 16 ∧ w_J2_size T (fun r2 G1 => Ext G G1 → ((r2 ≤ l3) → (Q l2 G1)) ∧ ((¬ r2 ≤ l3) → (isO G1 l1 8 ∧ isO G1 (gR G1 (ad l1) 0) 50 ∧ vp_in l3 (gN G1 (ad (gR G1 (ad l1) 0))) ∧ ((gI G1 (ad (gR G1 (ad l1) 0)) l3.toNatClampNeg ≤ 0) → (w_X1_held_32 T Q th (w_X1_held_4 T Q th f4) l1 l2 l3 G1)) ∧ ((¬ gI G1 (ad (gR G1 (ad l1) 0)) l3.toNatClampNeg ≤ 0) → (w_X1_held_32 T Q th (w_X1_held_4 T Q th f4) l1 ((l2 ||| ((1 : Int32) <<< (l3 &&& 31)))) l3 G1))))) (gR G (ad th) 1) G := h
    have hk4 := ih
    refine l_ild_n C dX1_held_4 hl 3 rfl rfl ?_
    refine l_ald_n C dX1_held_5 hl 0 rfl rfl ?_
    refine g_R C I fl_X1_25_1 (by decide) (by decide) hth dX1_held_6 ?_
    obtain ⟨ho7, h⟩ := h
    refine k_call Ext.tr C I (k_F (kd := 16) (r := gR G (ad th) 1) (As := []) (rest := [.int l3]) (y := yJ2_size) (x := ⟨"java/util/List", "size", "()I"⟩) C (by decide) ⟨ho7.ad.1, I.recv C.2.2.2.2.1 ho7 (by decide)⟩ q424 (by decide) q426 q425 q430 q428 q417 q427 q429 rfl pd_J2_size rfl dX1_held_9) (ct_J2_size h) hl.1 dX1_held_9 [.inl l3] rfl (Nat.le_of_ble_eq_true rfl) (Or.inl rfl) q431 q104 ⟨Nat.le_of_ble_eq_true rfl, Nat.le_of_ble_eq_true rfl⟩ (fun v G1 H locs cells slots xG1 hq I => ?_) (fun a G9 H locs cells slots ex hq I => hq.elim)
    obtain ⟨r2, rfl, h⟩ := hq
    have h := h xG1
    refine lv_icmp_ge (tgt := 38) C.1 C.2.1 dX1_held_14 (by decide) (fun c6 => ?_) (fun c6 => ?_)
    · have h := h.1 c6
      refine l_ild_n C dX1_held_38 hl 2 rfl rfl ?_
      exact r_int C.1 C.2.1 C.2.2.2.2.2.1 rfl C.2.2.2.2.2.2 ⟨rfl, rfl⟩ I dX1_held_39 ⟨_, rfl, h⟩
    · have h := h.2 c6
      refine l_ald_n C dX1_held_17 hl 1 rfl rfl ?_
      obtain ⟨ho3, h⟩ := h
      refine g_R C I fl_X1_262_8 (by decide) (by decide) ho3 dX1_held_18 ?_
      refine l_ild_n C dX1_held_21 hl 3 rfl rfl ?_
      obtain ⟨ho4, h⟩ := h
      obtain ⟨hi, h⟩ := h
      refine a_iald C I ho4 hi dX1_held_22 ?_
      refine lv_if_le (tgt := 32) C.1 C.2.1 dX1_held_23 (by decide) (fun c5 => ?_) (fun c5 => ?_)
      · have h := h.1 c5
        exact b_X1_held_32 C hk4 l1 l2 l3 G1 _ _ _ _ _ h (hth.ext (by decide) xG1) I (hl.sub [0, 1, 2, 3] rfl)
      · have h := h.2 c5
        refine l_ild_n C dX1_held_26 hl 2 rfl rfl ?_
        refine lv_iconst (v := 1) C.1 C.2.1 dX1_held_27 (by decide) ?_
        refine l_ild_n C dX1_held_28 hl 3 rfl rfl ?_
        refine lv_ishl C.1 C.2.1 dX1_held_29 ?_
        refine lv_ior C.1 C.2.1 dX1_held_30 ?_
        refine l_ist_n C dX1_held_31 rfl hl (by decide) rfl (fun ls hl => ?_)
        have hl : LH ls 4 [(2, .inl ((l2 ||| ((1 : Int32) <<< (l3 &&& 31))))), (0, .inr (.inl th)), (1, .inr (.inl l1)), (3, .inl l3)] := hl
        exact b_X1_held_32 C hk4 l1 ((l2 ||| ((1 : Int32) <<< (l3 &&& 31)))) l3 G1 _ _ _ _ _ h (hth.ext (by decide) xG1) I (hl.sub [1, 2, 0, 3] rfl)
def w_X1_held (T : Nat → ClassId) (Q : Int32 → Hp → Prop) (th : Option Nat) (p0 : Option Nat) (G : Hp) : Prop := isO G th 1 ∧ (∃ n, w_X1_held_4 T Q th n p0 ((0 : Int32)) ((0 : Int32)) G)
theorem pd_X1_held : (parseMethodDescriptor yX1_held.desc).map (fun d => d.parameters.length) = some 1 := by decide +kernel
set_option maxHeartbeats 4000000 in
theorem ct_X1_held {l : Launch} {D : va_G} {T : Nat → ClassId} {Z : Heap} {G0 : Hp} {Q : Int32 → Hp → Prop} {th : Option Nat} {p0 : Option Nat} (hw : w_X1_held T Q th p0 G0) : CT (twd D T Z) (Evd D T Z) l yX1_held (Cond.code yX1_held cX1_held 4 (some .int)) 1 20 [va_rf th, va_rf p0] G0 (qI Q) (fun _ _ => False) := by
  refine CT.ofW (cc := cX1_held) (nL := 4) (ret := (some .int)) Ext.rf (by decide) (Or.inl rfl) ?_
  intro p e s m below meth c hx hb hml hown hr hlk hnm hcb hm hc hn hE I
  have C : Cx p s m meth c D T Z "EndingTown" cX1_held 4 (some .int) := ⟨hx, hb, hml, hown, hE, hr, hlk⟩
  refine w_entry [.inr (.inl th), .inr (.inl p0)] (Nat.le_of_ble_eq_true rfl) (fun ls hl => ?_)
  have hl : LH ls 4 [(0, .inr (.inl th)), (1, .inr (.inl p0))] := hl
  obtain ⟨hth, h⟩ := hw
  refine lv_iconst (v := 0) C.1 C.2.1 dX1_held_0 (by decide) ?_
  refine l_ist_n C dX1_held_1 rfl hl (by decide) rfl (fun ls hl => ?_)
  have hl : LH ls 4 [(2, .inl ((0 : Int32))), (0, .inr (.inl th)), (1, .inr (.inl p0))] := hl
  refine lv_iconst (v := 0) C.1 C.2.1 dX1_held_2 (by decide) ?_
  refine l_ist_n C dX1_held_3 rfl hl (by decide) rfl (fun ls hl => ?_)
  have hl : LH ls 4 [(3, .inl ((0 : Int32))), (2, .inl ((0 : Int32))), (0, .inr (.inl th)), (1, .inr (.inl p0))] := hl
  obtain ⟨n, h⟩ := h
  exact b_X1_held_4 C n p0 ((0 : Int32)) ((0 : Int32)) G0 _ _ _ _ _ h hth I (hl.sub [2, 3, 1, 0] rfl)
def w_X1_mends_64 (T : Nat → ClassId) (Q : Int32 → Hp → Prop) (th : Option Nat) (t0 : Int32) (G : Hp) : Prop := bz t0 ∧ Q t0 G
set_option maxHeartbeats 4000000 in
theorem b_X1_mends_64 {G0 : Hp} {Q : Int32 → Hp → Prop} {th : Option Nat} (C : Cx p s m meth c D T Z "EndingTown" cX1_mends 2 (some .boolean)) : ∀ (t0 : Int32) (G : Hp) (H : Heap) (locs : List Loc) (cells slots : Nat) (ls : Array Slot), w_X1_mends_64 T Q th t0 G → isO G th 1 → HI (twd D T Z) G0 s (rmX (twd D T Z) 9 225 G0) H locs cells slots G → LH ls 2 [] → W p l e (rmX (twd D T Z) 9 225 G0) s m args below meth c H locs cells slots (MQX (twd D T Z) G0 (qI Q) (fun _ _ => False) below s) (F0 m 64 ls [.int t0]) := by
  intro t0 G H locs cells slots ls h hth I hl
  exact r_int C.1 C.2.1 C.2.2.2.2.2.1 h.1.n C.2.2.2.2.2.2 ⟨rfl, rfl⟩ I dX1_mends_64 ⟨_, rfl, h.2⟩
def w_X1_mends (T : Nat → ClassId) (Q : Int32 → Hp → Prop) (th : Option Nat) (p0 : Int32) (G : Hp) : Prop := isO G th 1 ∧ (isO G (gR G (ad th) 3) 8 ∧ w_X10_begin T (fun r2 G1 => Ext G G1 → isO G1 (gR G1 (ad th) 3) 8 ∧ ∀ G4 : Hp, G4 = wI G1 (ad (gR G1 (ad th) 3)) 4 p0 → isO G4 (gR G4 (ad th) 3) 8 ∧ w_X10_tell T (fun r6 G5 => Ext G4 G5 → isO G5 (gR G5 (ad th) 3) 8 ∧ ∀ G8 : Hp, G8 = wI G5 (ad (gR G5 (ad th) 3)) 4 ((0 : Int32)) → w_X1_held T (fun r10 G9 => Ext G8 G9 → isO G9 (gR G9 (ad th) 1) 16 ∧ w_J2_size T (fun r12 G11 => Ext G9 G11 → ((¬ (r10 ||| p0) = (((1 : Int32) <<< (r12 &&& 31)) - (1 : Int32))) → (w_X1_mends_64 T Q th ((0 : Int32)) G11)) ∧ (((r10 ||| p0) = (((1 : Int32) <<< (r12 &&& 31)) - (1 : Int32))) → (w_X1_mends_64 T Q th ((1 : Int32)) G11))) (gR G9 (ad th) 1) G9) th (gR G8 (ad th) 3) G8) (gR G4 (ad th) 3) G4) (gR G (ad th) 3) ((0 : Int32)) G)
theorem pd_X1_mends : (parseMethodDescriptor yX1_mends.desc).map (fun d => d.parameters.length) = some 1 := by decide +kernel
set_option maxHeartbeats 4000000 in
theorem ct_X1_mends {l : Launch} {D : va_G} {T : Nat → ClassId} {Z : Heap} {G0 : Hp} {Q : Int32 → Hp → Prop} {th : Option Nat} {p0 : Int32} (hw : w_X1_mends T Q th p0 G0) : CT (twd D T Z) (Evd D T Z) l yX1_mends (Cond.code yX1_mends cX1_mends 2 (some .boolean)) 9 225 [va_rf th, .int p0] G0 (qI Q) (fun _ _ => False) := by
  refine CT.ofW (cc := cX1_mends) (nL := 2) (ret := (some .boolean)) Ext.rf (by decide) (Or.inl rfl) ?_
  intro p e s m below meth c hx hb hml hown hr hlk hnm hcb hm hc hn hE I
  have C : Cx p s m meth c D T Z "EndingTown" cX1_mends 2 (some .boolean) := ⟨hx, hb, hml, hown, hE, hr, hlk⟩
  refine w_entry [.inr (.inl th), .inl p0] (Nat.le_of_ble_eq_true rfl) (fun ls hl => ?_)
  have hl : LH ls 2 [(0, .inr (.inl th)), (1, .inl p0)] := hl
  obtain ⟨hth, h⟩ := hw
  refine l_ald_n C dX1_mends_0 hl 0 rfl rfl ?_
  refine g_R C I fl_X1_55_1 (by decide) (by decide) hth dX1_mends_1 ?_
  refine lv_iconst (v := 0) C.1 C.2.1 dX1_mends_4 (by decide) ?_
  obtain ⟨ho16, h⟩ := h
  refine k_call Ext.tr C I (k_V (r := gR G0 (ad th) 3) (As := [.int ((0 : Int32))]) (rest := []) (y := yX10_begin) C ⟨ho16.ad.1, I.recv C.2.2.2.2.1 ho16 (by decide)⟩ q468 q469 q470 (Or.inl rfl) q471 (by decide) rfl pd_X10_begin rfl dX1_mends_5) (ct_X10_begin h) hl.1 dX1_mends_5 [] rfl (Nat.le_of_ble_eq_true rfl) (Or.inl rfl) q471 q112 ⟨Nat.le_of_ble_eq_true rfl, Nat.le_of_ble_eq_true rfl⟩ (fun v G1 H locs cells slots xG1 hq I => ?_) (fun a G9 H locs cells slots ex hq I => hq.elim)
  obtain ⟨r2, rfl, h⟩ := hq
  have h := h xG1
  refine lv_pop C.1 C.2.1 dX1_mends_8 (cat_rf _) ?_
  refine l_ald_n C dX1_mends_9 hl 0 rfl rfl ?_
  refine g_R C I fl_X1_55_1 (by decide) (by decide) (hth.ext (by decide) xG1) dX1_mends_10 ?_
  refine l_ild_n C dX1_mends_13 hl 1 rfl rfl ?_
  obtain ⟨ho3, h⟩ := h
  refine P_I C I fp_X1_288_8 (fun z => by cases z) (by decide) (by decide) ho3 dX1_mends_14 (fit_i _) (fun H locs G4 eG4 xG4 I => ?_)
  have h := h G4 eG4
  refine l_ald_n C dX1_mends_17 hl 0 rfl rfl ?_
  refine g_R C I fl_X1_55_1 (by decide) (by decide) (hth.ext (by decide) (Ext.tr _ _ _ xG1 xG4)) dX1_mends_18 ?_
  obtain ⟨ho15, h⟩ := h
  refine k_call Ext.tr C I (k_V (r := gR G4 (ad th) 3) (As := []) (rest := []) (y := yX10_tell) C ⟨ho15.ad.1, I.recv C.2.2.2.2.1 ho15 (by decide)⟩ q488 q489 q490 (Or.inl rfl) q491 (by decide) rfl pd_X10_tell rfl dX1_mends_21) (ct_X10_tell h) hl.1 dX1_mends_21 [] rfl (Nat.le_of_ble_eq_true rfl) (Or.inl rfl) q491 q112 ⟨Nat.le_of_ble_eq_true rfl, Nat.le_of_ble_eq_true rfl⟩ (fun v G5 H locs cells slots xG5 hq I => ?_) (fun a G9 H locs cells slots ex hq I => hq.elim)
  obtain ⟨r6, rfl, h⟩ := hq
  have h := h xG5
  refine lv_pop C.1 C.2.1 dX1_mends_24 (cat_rf _) ?_
  refine l_ald_n C dX1_mends_25 hl 0 rfl rfl ?_
  refine g_R C I fl_X1_55_1 (by decide) (by decide) (hth.ext (by decide) (Ext.tr _ _ _ xG1 (Ext.tr _ _ _ xG4 xG5))) dX1_mends_26 ?_
  refine lv_iconst (v := 0) C.1 C.2.1 dX1_mends_29 (by decide) ?_
  obtain ⟨ho7, h⟩ := h
  refine P_I C I fp_X1_288_8 (fun z => by cases z) (by decide) (by decide) ho7 dX1_mends_30 (fit_i _) (fun H locs G8 eG8 xG8 I => ?_)
  have h := h G8 eG8
  refine l_ald_n C dX1_mends_33 hl 0 rfl rfl ?_
  refine l_ald_n C dX1_mends_34 hl 0 rfl rfl ?_
  refine g_R C I fl_X1_55_1 (by decide) (by decide) (hth.ext (by decide) (Ext.tr _ _ _ xG1 (Ext.tr _ _ _ xG4 (Ext.tr _ _ _ xG5 xG8)))) dX1_mends_35 ?_
  refine k_call Ext.tr C I (k_V (r := th) (As := [va_rf (gR G8 (ad th) 3)]) (rest := []) (y := yX1_held) C ⟨(hth.ext (by decide) (Ext.tr _ _ _ xG1 (Ext.tr _ _ _ xG4 (Ext.tr _ _ _ xG5 xG8)))).ad.1, I.recv C.2.2.2.2.1 (hth.ext (by decide) (Ext.tr _ _ _ xG1 (Ext.tr _ _ _ xG4 (Ext.tr _ _ _ xG5 xG8)))) (by decide)⟩ q556 q558 qs6 (Or.inl rfl) q559 (by decide) rfl pd_X1_held rfl dX1_mends_38) (ct_X1_held h) hl.1 dX1_mends_38 [] rfl (Nat.le_of_ble_eq_true rfl) (Or.inl rfl) q559 q100 ⟨Nat.le_of_ble_eq_true rfl, Nat.le_of_ble_eq_true rfl⟩ (fun v G9 H locs cells slots xG9 hq I => ?_) (fun a G9 H locs cells slots ex hq I => hq.elim)
  obtain ⟨r10, rfl, h⟩ := hq
  have h := h xG9
  refine l_ild_n C dX1_mends_41 hl 1 rfl rfl ?_
  refine lv_ior C.1 C.2.1 dX1_mends_42 ?_
  refine lv_iconst (v := 1) C.1 C.2.1 dX1_mends_43 (by decide) ?_
  refine l_ald_n C dX1_mends_44 hl 0 rfl rfl ?_
  refine g_R C I fl_X1_25_1 (by decide) (by decide) (hth.ext (by decide) (Ext.tr _ _ _ xG1 (Ext.tr _ _ _ xG4 (Ext.tr _ _ _ xG5 (Ext.tr _ _ _ xG8 xG9))))) dX1_mends_45 ?_
  obtain ⟨ho14, h⟩ := h
  refine k_call Ext.tr C I (k_F (kd := 16) (r := gR G9 (ad th) 1) (As := []) (rest := [.int ((1 : Int32)), .int ((r10 ||| p0))]) (y := yJ2_size) (x := ⟨"java/util/List", "size", "()I"⟩) C (by decide) ⟨ho14.ad.1, I.recv C.2.2.2.2.1 ho14 (by decide)⟩ q424 (by decide) q426 q425 q430 q428 q417 q427 q429 rfl pd_J2_size rfl dX1_mends_48) (ct_J2_size h) hl.1 dX1_mends_48 [.inl ((1 : Int32)), .inl ((r10 ||| p0))] rfl (Nat.le_of_ble_eq_true rfl) (Or.inl rfl) q431 q104 ⟨Nat.le_of_ble_eq_true rfl, Nat.le_of_ble_eq_true rfl⟩ (fun v G11 H locs cells slots xG11 hq I => ?_) (fun a G9 H locs cells slots ex hq I => hq.elim)
  obtain ⟨r12, rfl, h⟩ := hq
  have h := h xG11
  refine lv_ishl C.1 C.2.1 dX1_mends_53 ?_
  refine lv_iconst (v := 1) C.1 C.2.1 dX1_mends_54 (by decide) ?_
  refine lv_isub C.1 C.2.1 dX1_mends_55 ?_
  refine lv_icmp_ne (tgt := 63) C.1 C.2.1 dX1_mends_56 (by decide) (fun c13 => ?_) (fun c13 => ?_)
  · have h := h.1 c13
    refine lv_iconst (v := 0) C.1 C.2.1 dX1_mends_63 (by decide) ?_
    exact b_X1_mends_64 C ((0 : Int32)) G11 _ _ _ _ _ h (hth.ext (by decide) (Ext.tr _ _ _ xG1 (Ext.tr _ _ _ xG4 (Ext.tr _ _ _ xG5 (Ext.tr _ _ _ xG8 (Ext.tr _ _ _ xG9 xG11)))))) I (hl.sub [] rfl)
  · have h := h.2 c13
    refine lv_iconst (v := 1) C.1 C.2.1 dX1_mends_59 (by decide) ?_
    refine lv_goto (tgt := 64) C.1 C.2.1 dX1_mends_60 (by decide) ?_
    exact b_X1_mends_64 C ((1 : Int32)) G11 _ _ _ _ _ h (hth.ext (by decide) (Ext.tr _ _ _ xG1 (Ext.tr _ _ _ xG4 (Ext.tr _ _ _ xG5 (Ext.tr _ _ _ xG8 (Ext.tr _ _ _ xG9 xG11)))))) I (hl.sub [] rfl)
def w_X1_mend_55 (T : Nat → ClassId) (Q : Int32 → Hp → Prop) (th : Option Nat) (k22 : Int32 → Int32 → Int32 → Hp → Prop) (l1 : Int32) (l2 : Int32) (l3 : Int32) (G : Hp) : Prop := k22 l1 l2 ((l3 + 1)) G
set_option maxHeartbeats 4000000 in
theorem b_X1_mend_55 {G0 : Hp} {Q : Int32 → Hp → Prop} {th : Option Nat} {k22 : Int32 → Int32 → Int32 → Hp → Prop} (C : Cx p s m meth c D T Z "EndingTown" cX1_mend 4 (some .int)) (hk22 : ∀ (l1 : Int32) (l2 : Int32) (l3 : Int32) (G : Hp) (H : Heap) (locs : List Loc) (cells slots : Nat) (ls : Array Slot), k22 l1 l2 l3 G → isO G th 1 → HI (twd D T Z) G0 s (rmX (twd D T Z) 10 246 G0) H locs cells slots G → LH ls 4 [(0, .inr (.inl th)), (1, .inl l1), (2, .inl l2), (3, .inl l3)] → W p l e (rmX (twd D T Z) 10 246 G0) s m args below meth c H locs cells slots (MQX (twd D T Z) G0 (qI Q) (fun _ _ => False) below s) (F0 m 22 ls [])) : ∀ (l1 : Int32) (l2 : Int32) (l3 : Int32) (G : Hp) (H : Heap) (locs : List Loc) (cells slots : Nat) (ls : Array Slot), w_X1_mend_55 T Q th k22 l1 l2 l3 G → isO G th 1 → HI (twd D T Z) G0 s (rmX (twd D T Z) 10 246 G0) H locs cells slots G → LH ls 4 [(0, .inr (.inl th)), (1, .inl l1), (2, .inl l2), (3, .inl l3)] → W p l e (rmX (twd D T Z) 10 246 G0) s m args below meth c H locs cells slots (MQX (twd D T Z) G0 (qI Q) (fun _ _ => False) below s) (F0 m 55 ls []) := by
  intro l1 l2 l3 G H locs cells slots ls h hth I hl
  refine l_inc (q := 3) (v := 1) C dX1_mend_55 hl rfl (by decide) (by decide) rfl (fun ls hl => ?_)
  have hl : LH ls 4 [(3, .inl ((l3 + 1))), (0, .inr (.inl th)), (1, .inl l1), (2, .inl l2)] := hl
  refine lv_goto (tgt := 22) C.1 C.2.1 dX1_mend_58 (by decide) ?_
  exact hk22 l1 l2 ((l3 + 1)) G _ _ _ _ _ h hth I (hl.sub [1, 2, 3, 0] rfl)
def w_X1_mend_45 (T : Nat → ClassId) (Q : Int32 → Hp → Prop) (th : Option Nat) (k22 : Int32 → Int32 → Int32 → Hp → Prop) (l1 : Int32) (l2 : Int32) (l3 : Int32) (G : Hp) : Prop := w_X1_mends T (fun r2 G1 => Ext G G1 → ((r2 = 0) → (w_X1_mend_55 T Q th k22 l1 l2 l3 G1)) ∧ ((¬ r2 = 0) → (w_X1_mend_55 T Q th k22 l1 l3 l3 G1))) th l3 G
set_option maxHeartbeats 4000000 in
theorem b_X1_mend_45 {G0 : Hp} {Q : Int32 → Hp → Prop} {th : Option Nat} {k22 : Int32 → Int32 → Int32 → Hp → Prop} (C : Cx p s m meth c D T Z "EndingTown" cX1_mend 4 (some .int)) (hk22 : ∀ (l1 : Int32) (l2 : Int32) (l3 : Int32) (G : Hp) (H : Heap) (locs : List Loc) (cells slots : Nat) (ls : Array Slot), k22 l1 l2 l3 G → isO G th 1 → HI (twd D T Z) G0 s (rmX (twd D T Z) 10 246 G0) H locs cells slots G → LH ls 4 [(0, .inr (.inl th)), (1, .inl l1), (2, .inl l2), (3, .inl l3)] → W p l e (rmX (twd D T Z) 10 246 G0) s m args below meth c H locs cells slots (MQX (twd D T Z) G0 (qI Q) (fun _ _ => False) below s) (F0 m 22 ls [])) : ∀ (l1 : Int32) (l2 : Int32) (l3 : Int32) (G : Hp) (H : Heap) (locs : List Loc) (cells slots : Nat) (ls : Array Slot), w_X1_mend_45 T Q th k22 l1 l2 l3 G → isO G th 1 → HI (twd D T Z) G0 s (rmX (twd D T Z) 10 246 G0) H locs cells slots G → LH ls 4 [(0, .inr (.inl th)), (1, .inl l1), (2, .inl l2), (3, .inl l3)] → W p l e (rmX (twd D T Z) 10 246 G0) s m args below meth c H locs cells slots (MQX (twd D T Z) G0 (qI Q) (fun _ _ => False) below s) (F0 m 45 ls []) := by
  intro l1 l2 l3 G H locs cells slots ls h hth I hl
  refine l_ald_n C dX1_mend_45 hl 0 rfl rfl ?_
  refine l_ild_n C dX1_mend_46 hl 3 rfl rfl ?_
  refine k_call Ext.tr C I (k_V (r := th) (As := [.int l3]) (rest := []) (y := yX1_mends) C ⟨hth.ad.1, I.recv C.2.2.2.2.1 hth (by decide)⟩ q464 q466 qs1 (Or.inl rfl) q467 (by decide) rfl pd_X1_mends rfl dX1_mend_47) (ct_X1_mends h) hl.1 dX1_mend_47 [] rfl (Nat.le_of_ble_eq_true rfl) (Or.inl rfl) q467 q100 ⟨Nat.le_of_ble_eq_true rfl, Nat.le_of_ble_eq_true rfl⟩ (fun v G1 H locs cells slots xG1 hq I => ?_) (fun a G9 H locs cells slots ex hq I => hq.elim)
  obtain ⟨r2, rfl, h⟩ := hq
  have h := h xG1
  refine lv_if_eq (tgt := 55) C.1 C.2.1 dX1_mend_50 (by decide) (fun c3 => ?_) (fun c3 => ?_)
  · have h := h.1 c3
    exact b_X1_mend_55 C hk22 l1 l2 l3 G1 _ _ _ _ _ h (hth.ext (by decide) xG1) I (hl.sub [0, 1, 2, 3] rfl)
  · have h := h.2 c3
    refine l_ild_n C dX1_mend_53 hl 3 rfl rfl ?_
    refine l_ist_n C dX1_mend_54 rfl hl (by decide) rfl (fun ls hl => ?_)
    have hl : LH ls 4 [(2, .inl l3), (0, .inr (.inl th)), (1, .inl l1), (3, .inl l3)] := hl
    exact b_X1_mend_55 C hk22 l1 l3 l3 G1 _ _ _ _ _ h (hth.ext (by decide) xG1) I (hl.sub [1, 2, 0, 3] rfl)
def w_X1_mend_138 (T : Nat → ClassId) (Q : Int32 → Hp → Prop) (th : Option Nat) (k76 : Int32 → Int32 → Int32 → Hp → Prop) (l1 : Int32) (l2 : Int32) (l3 : Int32) (t0 : Int32) (t1 : Int32) (t2 : Option Nat) (G : Hp) : Prop := isO G t2 50 ∧ vp_in t1 (gN G (ad t2)) ∧ ∀ G2 : Hp, G2 = wI G (ad t2) t1.toNatClampNeg t0 → k76 l1 l2 ((l3 + 1)) G2
set_option maxHeartbeats 4000000 in
theorem b_X1_mend_138 {G0 : Hp} {Q : Int32 → Hp → Prop} {th : Option Nat} {k76 : Int32 → Int32 → Int32 → Hp → Prop} (C : Cx p s m meth c D T Z "EndingTown" cX1_mend 4 (some .int)) (hk76 : ∀ (l1 : Int32) (l2 : Int32) (l3 : Int32) (G : Hp) (H : Heap) (locs : List Loc) (cells slots : Nat) (ls : Array Slot), k76 l1 l2 l3 G → isO G th 1 → HI (twd D T Z) G0 s (rmX (twd D T Z) 10 246 G0) H locs cells slots G → LH ls 4 [(0, .inr (.inl th)), (1, .inl l1), (2, .inl l2), (3, .inl l3)] → W p l e (rmX (twd D T Z) 10 246 G0) s m args below meth c H locs cells slots (MQX (twd D T Z) G0 (qI Q) (fun _ _ => False) below s) (F0 m 76 ls [])) : ∀ (l1 : Int32) (l2 : Int32) (l3 : Int32) (t0 : Int32) (t1 : Int32) (t2 : Option Nat) (G : Hp) (H : Heap) (locs : List Loc) (cells slots : Nat) (ls : Array Slot), w_X1_mend_138 T Q th k76 l1 l2 l3 t0 t1 t2 G → isO G th 1 → HI (twd D T Z) G0 s (rmX (twd D T Z) 10 246 G0) H locs cells slots G → LH ls 4 [(0, .inr (.inl th)), (1, .inl l1), (2, .inl l2), (3, .inl l3)] → W p l e (rmX (twd D T Z) 10 246 G0) s m args below meth c H locs cells slots (MQX (twd D T Z) G0 (qI Q) (fun _ _ => False) below s) (F0 m 138 ls [.int t0, .int t1, va_rf t2]) := by
  intro l1 l2 l3 t0 t1 t2 G H locs cells slots ls h hth I hl
  obtain ⟨ho1, h⟩ := h
  obtain ⟨hi, h⟩ := h
  refine A_iast C I ho1 hi dX1_mend_138 (fun H locs G2 eG2 xG2 I => ?_)
  have h := h G2 eG2
  refine l_inc (q := 3) (v := 1) C dX1_mend_139 hl rfl (by decide) (by decide) rfl (fun ls hl => ?_)
  have hl : LH ls 4 [(3, .inl ((l3 + 1))), (0, .inr (.inl th)), (1, .inl l1), (2, .inl l2)] := hl
  refine lv_goto (tgt := 76) C.1 C.2.1 dX1_mend_142 (by decide) ?_
  exact hk76 l1 l2 ((l3 + 1)) G2 _ _ _ _ _ h (hth.ext (by decide) xG2) I (hl.sub [1, 2, 3, 0] rfl)
def w_X1_mend_76 (T : Nat → ClassId) (Q : Int32 → Hp → Prop) (th : Option Nat) : Nat → Int32 → Int32 → Int32 → Hp → Prop
  | 0 => fun _ _ _ _ => False
  | f76 + 1 => fun l1 l2 l3 G => ((l1 ≤ l3) → (w_J15_bitCount T (fun r2 G1 => Ext G G1 → Q r2 G1) l2 G)) ∧ ((¬ l1 ≤ l3) → (((¬ ((l2 >>> (l3 &&& 31)) &&& (1 : Int32)) = 0) → (isO G (gR G (ad th) 3) 8 ∧ isO G (gR G (ad (gR G (ad th) 3)) 0) 50 ∧ vp_in l3 (gN G (ad (gR G (ad (gR G (ad th) 3)) 0))) ∧ ((gI G (ad (gR G (ad (gR G (ad th) 3)) 0)) l3.toNatClampNeg ≤ 0) → (w_X1_mend_138 T Q th (w_X1_mend_76 T Q th f76) l1 l2 l3 ((4 : Int32)) l3 (gR G (ad th) 10) G)) ∧ ((¬ gI G (ad (gR G (ad (gR G (ad th) 3)) 0)) l3.toNatClampNeg ≤ 0) → (isO G (gR G (ad (gR G (ad th) 3)) 1) 50 ∧ vp_in l3 (gN G (ad (gR G (ad (gR G (ad th) 3)) 1))) ∧ w_X1_mend_138 T Q th (w_X1_mend_76 T Q th f76) l1 l2 l3 (gI G (ad (gR G (ad (gR G (ad th) 3)) 1)) l3.toNatClampNeg) l3 (gR G (ad th) 10) G)))) ∧ ((((l2 >>> (l3 &&& 31)) &&& (1 : Int32)) = 0) → (isO G (gR G (ad th) 1) 16 ∧ w_J2_get T (fun r8 G7 => Ext G G7 → (r8 = none ∨ isO G7 r8 15) ∧ isO G7 r8 15 ∧ w_X1_mend_138 T Q th (w_X1_mend_76 T Q th f76) l1 l2 l3 (gI G7 (ad r8) 3) l3 (gR G (ad th) 10) G7) (gR G (ad th) 1) l3 G))))
set_option maxHeartbeats 4000000 in
theorem b_X1_mend_76 {G0 : Hp} {Q : Int32 → Hp → Prop} {th : Option Nat} (C : Cx p s m meth c D T Z "EndingTown" cX1_mend 4 (some .int)) : ∀ (n : Nat) (l1 : Int32) (l2 : Int32) (l3 : Int32) (G : Hp) (H : Heap) (locs : List Loc) (cells slots : Nat) (ls : Array Slot), w_X1_mend_76 T Q th n l1 l2 l3 G → isO G th 1 → HI (twd D T Z) G0 s (rmX (twd D T Z) 10 246 G0) H locs cells slots G → LH ls 4 [(0, .inr (.inl th)), (1, .inl l1), (2, .inl l2), (3, .inl l3)] → W p l e (rmX (twd D T Z) 10 246 G0) s m args below meth c H locs cells slots (MQX (twd D T Z) G0 (qI Q) (fun _ _ => False) below s) (F0 m 76 ls []) := by
  intro f76
  induction f76 with
  | zero => intro l1 l2 l3 G H locs cells slots ls h; exact (show False from h).elim
  | succ f76 ih =>
    intro l1 l2 l3 G H locs cells slots ls h hth I hl
    have h : ((l1 ≤ l3) → (w_J15_bitCount T (fun r2 G1 => Ext G G1 → Q r2 G1) l2 G)) ∧ ((¬ l1 ≤ l3) → (((¬ ((l2 >>> (l3 &&& 31)) &&& (1 : Int32)) = 0) → (isO G (gR G (ad th) 3) 8 ∧ isO G (gR G (ad (gR G (ad th) 3)) 0) 50 ∧ vp_in l3 (gN G (ad (gR G (ad (gR G (ad th) 3)) 0))) ∧ ((gI G (ad (gR G (ad (gR G (ad th) 3)) 0)) l3.toNatClampNeg ≤ 0) → (w_X1_mend_138 T Q th (w_X1_mend_76 T Q th f76) l1 l2 l3 ((4 : Int32)) l3 (gR G (ad th) 10) G)) ∧ ((¬ gI G (ad (gR G (ad (gR G (ad th) 3)) 0)) l3.toNatClampNeg ≤ 0) → (isO G (gR G (ad (gR G (ad th) 3)) 1) 50 ∧ vp_in l3 (gN G (ad (gR G (ad (gR G (ad th) 3)) 1))) ∧ w_X1_mend_138 T Q th (w_X1_mend_76 T Q th f76) l1 l2 l3 (gI G (ad (gR G (ad (gR G (ad th) 3)) 1)) l3.toNatClampNeg) l3 (gR G (ad th) 10) G)))) ∧ ((((l2 >>> (l3 &&& 31)) &&& (1 : Int32)) = 0) → (isO G (gR G (ad th) 1) 16 ∧ w_J2_get T (fun r8 G7 => Ext G G7 → (r8 = none ∨ isO G7 r8 15) ∧ isO G7 r8 15 ∧ w_X1_mend_138 T Q th (w_X1_mend_76 T Q th f76) l1 l2 l3 (gI G7 (ad r8) 3) l3 (gR G (ad th) 10) G7) (gR G (ad th) 1) l3 G)))) := h
    have hk76 := ih
    refine l_ild_n C dX1_mend_76 hl 3 rfl rfl ?_
    refine l_ild_n C dX1_mend_77 hl 1 rfl rfl ?_
    refine lv_icmp_ge (tgt := 145) C.1 C.2.1 dX1_mend_78 (by decide) (fun c12 => ?_) (fun c12 => ?_)
    · have h := h.1 c12
      refine l_ild_n C dX1_mend_145 hl 2 rfl rfl ?_
      refine k_call Ext.tr C I (k_S (As := [.int l2]) (rest := []) (y := yJ15_bitCount) C q458 q459 q133 (Or.inl rfl) q460 (by decide) rfl pd_J15_bitCount rfl dX1_mend_146) (ct_J15_bitCount h) hl.1 dX1_mend_146 [] rfl (Nat.le_of_ble_eq_true rfl) (Or.inl rfl) q460 q133 ⟨Nat.le_of_ble_eq_true rfl, Nat.le_of_ble_eq_true rfl⟩ (fun v G1 H locs cells slots xG1 hq I => ?_) (fun a G9 H locs cells slots ex hq I => hq.elim)
      obtain ⟨r2, rfl, h⟩ := hq
      have h := h xG1
      exact r_int C.1 C.2.1 C.2.2.2.2.2.1 rfl C.2.2.2.2.2.2 ⟨rfl, rfl⟩ I dX1_mend_149 ⟨_, rfl, h⟩
    · have h := h.2 c12
      refine l_ald_n C dX1_mend_81 hl 0 rfl rfl ?_
      refine g_R C I fl_X1_104_1 (by decide) (by decide) hth dX1_mend_82 ?_
      refine l_ild_n C dX1_mend_85 hl 3 rfl rfl ?_
      refine l_ild_n C dX1_mend_86 hl 2 rfl rfl ?_
      refine l_ild_n C dX1_mend_87 hl 3 rfl rfl ?_
      refine lv_ishr C.1 C.2.1 dX1_mend_88 ?_
      refine lv_iconst (v := 1) C.1 C.2.1 dX1_mend_89 (by decide) ?_
      refine lv_iand C.1 C.2.1 dX1_mend_90 ?_
      refine lv_if_ne (tgt := 113) C.1 C.2.1 dX1_mend_91 (by decide) (fun c11 => ?_) (fun c11 => ?_)
      · have h := h.1 c11
        refine l_ald_n C dX1_mend_113 hl 0 rfl rfl ?_
        refine g_R C I fl_X1_55_1 (by decide) (by decide) hth dX1_mend_114 ?_
        obtain ⟨ho3, h⟩ := h
        refine g_R C I fl_X1_262_8 (by decide) (by decide) ho3 dX1_mend_117 ?_
        refine l_ild_n C dX1_mend_120 hl 3 rfl rfl ?_
        obtain ⟨ho4, h⟩ := h
        obtain ⟨hi, h⟩ := h
        refine a_iald C I ho4 hi dX1_mend_121 ?_
        refine lv_if_le (tgt := 137) C.1 C.2.1 dX1_mend_122 (by decide) (fun c6 => ?_) (fun c6 => ?_)
        · have h := h.1 c6
          refine lv_iconst (v := 4) C.1 C.2.1 dX1_mend_137 (by decide) ?_
          exact b_X1_mend_138 C hk76 l1 l2 l3 ((4 : Int32)) l3 (gR G (ad th) 10) G _ _ _ _ _ h hth I (hl.sub [0, 1, 2, 3] rfl)
        · have h := h.2 c6
          refine l_ald_n C dX1_mend_125 hl 0 rfl rfl ?_
          refine g_R C I fl_X1_55_1 (by decide) (by decide) hth dX1_mend_126 ?_
          refine g_R C I fl_X1_274_8 (by decide) (by decide) ho3 dX1_mend_129 ?_
          refine l_ild_n C dX1_mend_132 hl 3 rfl rfl ?_
          obtain ⟨ho5, h⟩ := h
          obtain ⟨hi, h⟩ := h
          refine a_iald C I ho5 hi dX1_mend_133 ?_
          refine lv_goto (tgt := 138) C.1 C.2.1 dX1_mend_134 (by decide) ?_
          exact b_X1_mend_138 C hk76 l1 l2 l3 (gI G (ad (gR G (ad (gR G (ad th) 3)) 1)) l3.toNatClampNeg) l3 (gR G (ad th) 10) G _ _ _ _ _ h hth I (hl.sub [0, 1, 2, 3] rfl)
      · have h := h.2 c11
        refine l_ald_n C dX1_mend_94 hl 0 rfl rfl ?_
        refine g_R C I fl_X1_25_1 (by decide) (by decide) hth dX1_mend_95 ?_
        refine l_ild_n C dX1_mend_98 hl 3 rfl rfl ?_
        obtain ⟨ho10, h⟩ := h
        refine k_call Ext.tr C I (k_F (kd := 16) (r := gR G (ad th) 1) (As := [.int l3]) (rest := [.int l3, va_rf (gR G (ad th) 10)]) (y := yJ2_get) (x := ⟨"java/util/List", "get", "(I)Ljava/lang/Object;"⟩) C (by decide) ⟨ho10.ad.1, I.recv C.2.2.2.2.1 ho10 (by decide)⟩ q561 (by decide) q477 q476 q481 q479 q417 q478 q480 rfl pd_J2_get rfl dX1_mend_99) (ct_J2_get h) hl.1 dX1_mend_99 [.inl l3, .inr (.inl (gR G (ad th) 10))] rfl (Nat.le_of_ble_eq_true rfl) (Or.inl rfl) q482 q104 ⟨Nat.le_of_ble_eq_true rfl, Nat.le_of_ble_eq_true rfl⟩ (fun v G7 H locs cells slots xG7 hq I => ?_) (fun a G9 H locs cells slots ex hq I => hq.elim)
        obtain ⟨r8, rfl, h⟩ := hq
        have h := h xG7
        obtain ⟨hcc, h⟩ := h
        refine c_cast (kd := 15) C I (by decide) q562 hcc dX1_mend_104 ?_
        obtain ⟨ho9, h⟩ := h
        refine g_I C I fl_X1_254_15 (by decide) (by decide) ho9 dX1_mend_107 ?_
        refine lv_goto (tgt := 138) C.1 C.2.1 dX1_mend_110 (by decide) ?_
        exact b_X1_mend_138 C hk76 l1 l2 l3 (gI G7 (ad r8) 3) l3 (gR G (ad th) 10) G7 _ _ _ _ _ h (hth.ext (by decide) xG7) I (hl.sub [0, 1, 2, 3] rfl)
def w_X1_mend_22 (T : Nat → ClassId) (Q : Int32 → Hp → Prop) (th : Option Nat) : Nat → Int32 → Int32 → Int32 → Hp → Prop
  | 0 => fun _ _ _ _ => False
  | f22 + 1 => fun l1 l2 l3 G => ((((1 : Int32) <<< (l1 &&& 31)) ≤ l3) → (w_X1_mends T (fun r2 G1 => Ext G G1 → (¬ l1 < 0 ∧ l1.toNatClampNeg ≤ 100000 ∧ 1 ≤ gC G1 ∧ l1.toNatClampNeg ≤ gS G1) ∧ ∀ G3 : Hp, G3 = nw G1 50 l1.toNatClampNeg l1.toNatClampNeg → ∀ G4 : Hp, G4 = wR G3 (ad th) 10 ((some (gZ G1))) → ∃ n, w_X1_mend_76 T Q th n l1 l2 ((0 : Int32)) G4) th l2 G)) ∧ ((¬ ((1 : Int32) <<< (l1 &&& 31)) ≤ l3) → (((l2 = (-1 : Int32)) → (w_X1_mend_45 T Q th (w_X1_mend_22 T Q th f22) l1 l2 l3 G)) ∧ ((¬ l2 = (-1 : Int32)) → (w_J15_bitCount T (fun r6 G5 => Ext G G5 → w_J15_bitCount T (fun r8 G7 => Ext G5 G7 → ((r8 ≤ r6) → (w_X1_mend_55 T Q th (w_X1_mend_22 T Q th f22) l1 l2 l3 G7)) ∧ ((¬ r8 ≤ r6) → (w_X1_mend_45 T Q th (w_X1_mend_22 T Q th f22) l1 l2 l3 G7))) l2 G5) l3 G))))
set_option maxHeartbeats 4000000 in
theorem b_X1_mend_22 {G0 : Hp} {Q : Int32 → Hp → Prop} {th : Option Nat} (C : Cx p s m meth c D T Z "EndingTown" cX1_mend 4 (some .int)) : ∀ (n : Nat) (l1 : Int32) (l2 : Int32) (l3 : Int32) (G : Hp) (H : Heap) (locs : List Loc) (cells slots : Nat) (ls : Array Slot), w_X1_mend_22 T Q th n l1 l2 l3 G → isO G th 1 → HI (twd D T Z) G0 s (rmX (twd D T Z) 10 246 G0) H locs cells slots G → LH ls 4 [(0, .inr (.inl th)), (1, .inl l1), (2, .inl l2), (3, .inl l3)] → W p l e (rmX (twd D T Z) 10 246 G0) s m args below meth c H locs cells slots (MQX (twd D T Z) G0 (qI Q) (fun _ _ => False) below s) (F0 m 22 ls []) := by
  intro f22
  induction f22 with
  | zero => intro l1 l2 l3 G H locs cells slots ls h; exact (show False from h).elim
  | succ f22 ih =>
    intro l1 l2 l3 G H locs cells slots ls h hth I hl
    have h : ((((1 : Int32) <<< (l1 &&& 31)) ≤ l3) → (w_X1_mends T (fun r2 G1 => Ext G G1 → (¬ l1 < 0 ∧ l1.toNatClampNeg ≤ 100000 ∧ 1 ≤ gC G1 ∧ l1.toNatClampNeg ≤ gS G1) ∧ ∀ G3 : Hp, G3 = nw G1 50 l1.toNatClampNeg l1.toNatClampNeg → ∀ G4 : Hp, G4 = wR G3 (ad th) 10 ((some (gZ G1))) → ∃ n, w_X1_mend_76 T Q th n l1 l2 ((0 : Int32)) G4) th l2 G)) ∧ ((¬ ((1 : Int32) <<< (l1 &&& 31)) ≤ l3) → (((l2 = (-1 : Int32)) → (w_X1_mend_45 T Q th (w_X1_mend_22 T Q th f22) l1 l2 l3 G)) ∧ ((¬ l2 = (-1 : Int32)) → (w_J15_bitCount T (fun r6 G5 => Ext G G5 → w_J15_bitCount T (fun r8 G7 => Ext G5 G7 → ((r8 ≤ r6) → (w_X1_mend_55 T Q th (w_X1_mend_22 T Q th f22) l1 l2 l3 G7)) ∧ ((¬ r8 ≤ r6) → (w_X1_mend_45 T Q th (w_X1_mend_22 T Q th f22) l1 l2 l3 G7))) l2 G5) l3 G)))) := h
    have hk22 := ih
    refine l_ild_n C dX1_mend_22 hl 3 rfl rfl ?_
    refine lv_iconst (v := 1) C.1 C.2.1 dX1_mend_23 (by decide) ?_
    refine l_ild_n C dX1_mend_24 hl 1 rfl rfl ?_
    refine lv_ishl C.1 C.2.1 dX1_mend_25 ?_
    refine lv_icmp_ge (tgt := 61) C.1 C.2.1 dX1_mend_26 (by decide) (fun c11 => ?_) (fun c11 => ?_)
    · have h := h.1 c11
      refine l_ald_n C dX1_mend_61 hl 0 rfl rfl ?_
      refine l_ild_n C dX1_mend_62 hl 2 rfl rfl ?_
      refine k_call Ext.tr C I (k_V (r := th) (As := [.int l2]) (rest := []) (y := yX1_mends) C ⟨hth.ad.1, I.recv C.2.2.2.2.1 hth (by decide)⟩ q464 q466 qs1 (Or.inl rfl) q467 (by decide) rfl pd_X1_mends rfl dX1_mend_63) (ct_X1_mends h) hl.1 dX1_mend_63 [] rfl (Nat.le_of_ble_eq_true rfl) (Or.inl rfl) q467 q100 ⟨Nat.le_of_ble_eq_true rfl, Nat.le_of_ble_eq_true rfl⟩ (fun v G1 H locs cells slots xG1 hq I => ?_) (fun a G9 H locs cells slots ex hq I => hq.elim)
      obtain ⟨r2, rfl, h⟩ := hq
      have h := h xG1
      refine lv_pop C.1 C.2.1 dX1_mend_66 rfl ?_
      refine l_ald_n C dX1_mend_67 hl 0 rfl rfl ?_
      refine l_ild_n C dX1_mend_68 hl 1 rfl rfl ?_
      obtain ⟨hb, h⟩ := h
      refine N_arr (kd := 50) C I (by decide) rfl q234 hb dX1_mend_69 (fun H cells slots G3 eG3 xG3 I => ?_)
      have h := h G3 eG3
      have hnG3 : isO G3 (some (gZ G1)) 50 := ⟨_, rfl, by rw [eG3]; exact gK_nw⟩
      refine P_R C I fp_X1_104_1 (fun z => by cases z) (by decide) (by decide) (hth.ext (by decide) (Ext.tr _ _ _ xG1 xG3)) dX1_mend_71 (fun x => fit_a x) (fun H locs G4 eG4 xG4 I => ?_)
      have h := h G4 eG4
      refine lv_iconst (v := 0) C.1 C.2.1 dX1_mend_74 (by decide) ?_
      refine l_ist_n C dX1_mend_75 rfl hl (by decide) rfl (fun ls hl => ?_)
      have hl : LH ls 4 [(3, .inl ((0 : Int32))), (0, .inr (.inl th)), (1, .inl l1), (2, .inl l2)] := hl
      obtain ⟨n, h⟩ := h
      exact b_X1_mend_76 C n l1 l2 ((0 : Int32)) G4 _ _ _ _ _ h (hth.ext (by decide) (Ext.tr _ _ _ xG1 (Ext.tr _ _ _ xG3 xG4))) I (hl.sub [1, 2, 3, 0] rfl)
    · have h := h.2 c11
      refine l_ild_n C dX1_mend_29 hl 2 rfl rfl ?_
      refine lv_iconst (v := (-1)) C.1 C.2.1 dX1_mend_30 (by decide) ?_
      refine lv_icmp_eq (tgt := 45) C.1 C.2.1 dX1_mend_31 (by decide) (fun c10 => ?_) (fun c10 => ?_)
      · have h := h.1 c10
        exact b_X1_mend_45 C hk22 l1 l2 l3 G _ _ _ _ _ h hth I (hl.sub [0, 1, 2, 3] rfl)
      · have h := h.2 c10
        refine l_ild_n C dX1_mend_34 hl 3 rfl rfl ?_
        refine k_call Ext.tr C I (k_S (As := [.int l3]) (rest := []) (y := yJ15_bitCount) C q458 q459 q133 (Or.inl rfl) q460 (by decide) rfl pd_J15_bitCount rfl dX1_mend_35) (ct_J15_bitCount h) hl.1 dX1_mend_35 [] rfl (Nat.le_of_ble_eq_true rfl) (Or.inl rfl) q460 q133 ⟨Nat.le_of_ble_eq_true rfl, Nat.le_of_ble_eq_true rfl⟩ (fun v G5 H locs cells slots xG5 hq I => ?_) (fun a G9 H locs cells slots ex hq I => hq.elim)
        obtain ⟨r6, rfl, h⟩ := hq
        have h := h xG5
        refine l_ild_n C dX1_mend_38 hl 2 rfl rfl ?_
        refine k_call Ext.tr C I (k_S (As := [.int l2]) (rest := [.int r6]) (y := yJ15_bitCount) C q458 q459 q133 (Or.inl rfl) q460 (by decide) rfl pd_J15_bitCount rfl dX1_mend_39) (ct_J15_bitCount h) hl.1 dX1_mend_39 [.inl r6] rfl (Nat.le_of_ble_eq_true rfl) (Or.inl rfl) q460 q133 ⟨Nat.le_of_ble_eq_true rfl, Nat.le_of_ble_eq_true rfl⟩ (fun v G7 H locs cells slots xG7 hq I => ?_) (fun a G9 H locs cells slots ex hq I => hq.elim)
        obtain ⟨r8, rfl, h⟩ := hq
        have h := h xG7
        refine lv_icmp_ge (tgt := 55) C.1 C.2.1 dX1_mend_42 (by decide) (fun c9 => ?_) (fun c9 => ?_)
        · have h := h.1 c9
          exact b_X1_mend_55 C hk22 l1 l2 l3 G7 _ _ _ _ _ h (hth.ext (by decide) (Ext.tr _ _ _ xG5 xG7)) I (hl.sub [0, 1, 2, 3] rfl)
        · have h := h.2 c9
          exact b_X1_mend_45 C hk22 l1 l2 l3 G7 _ _ _ _ _ h (hth.ext (by decide) (Ext.tr _ _ _ xG5 xG7)) I (hl.sub [0, 1, 2, 3] rfl)
def w_X1_mend (T : Nat → ClassId) (Q : Int32 → Hp → Prop) (th : Option Nat) (G : Hp) : Prop := isO G th 1 ∧ (isO G (gR G (ad th) 1) 16 ∧ w_J2_size T (fun r2 G1 => Ext G G1 → ((r2 ≤ (12 : Int32)) → (∃ n, w_X1_mend_22 T Q th n r2 ((-1 : Int32)) ((0 : Int32)) G1)) ∧ ((¬ r2 ≤ (12 : Int32)) → (Q ((-1 : Int32)) G1))) (gR G (ad th) 1) G)
theorem pd_X1_mend : (parseMethodDescriptor yX1_mend.desc).map (fun d => d.parameters.length) = some 0 := by decide +kernel
set_option maxHeartbeats 4000000 in
theorem ct_X1_mend {l : Launch} {D : va_G} {T : Nat → ClassId} {Z : Heap} {G0 : Hp} {Q : Int32 → Hp → Prop} {th : Option Nat} (hw : w_X1_mend T Q th G0) : CT (twd D T Z) (Evd D T Z) l yX1_mend (Cond.code yX1_mend cX1_mend 4 (some .int)) 10 246 [va_rf th] G0 (qI Q) (fun _ _ => False) := by
  refine CT.ofW (cc := cX1_mend) (nL := 4) (ret := (some .int)) Ext.rf (by decide) (Or.inl rfl) ?_
  intro p e s m below meth c hx hb hml hown hr hlk hnm hcb hm hc hn hE I
  have C : Cx p s m meth c D T Z "EndingTown" cX1_mend 4 (some .int) := ⟨hx, hb, hml, hown, hE, hr, hlk⟩
  refine w_entry [.inr (.inl th)] (Nat.le_of_ble_eq_true rfl) (fun ls hl => ?_)
  have hl : LH ls 4 [(0, .inr (.inl th))] := hl
  obtain ⟨hth, h⟩ := hw
  refine l_ald_n C dX1_mend_0 hl 0 rfl rfl ?_
  refine g_R C I fl_X1_25_1 (by decide) (by decide) hth dX1_mend_1 ?_
  obtain ⟨ho4, h⟩ := h
  refine k_call Ext.tr C I (k_F (kd := 16) (r := gR G0 (ad th) 1) (As := []) (rest := []) (y := yJ2_size) (x := ⟨"java/util/List", "size", "()I"⟩) C (by decide) ⟨ho4.ad.1, I.recv C.2.2.2.2.1 ho4 (by decide)⟩ q424 (by decide) q426 q425 q430 q428 q417 q427 q429 rfl pd_J2_size rfl dX1_mend_4) (ct_J2_size h) hl.1 dX1_mend_4 [] rfl (Nat.le_of_ble_eq_true rfl) (Or.inl rfl) q431 q104 ⟨Nat.le_of_ble_eq_true rfl, Nat.le_of_ble_eq_true rfl⟩ (fun v G1 H locs cells slots xG1 hq I => ?_) (fun a G9 H locs cells slots ex hq I => hq.elim)
  obtain ⟨r2, rfl, h⟩ := hq
  have h := h xG1
  refine l_ist_n C dX1_mend_9 rfl hl (by decide) rfl (fun ls hl => ?_)
  have hl : LH ls 4 [(1, .inl r2), (0, .inr (.inl th))] := hl
  refine l_ild_n C dX1_mend_10 hl 0 rfl rfl ?_
  refine lv_bipush (v := 12) C.1 C.2.1 dX1_mend_11 (by decide) ?_
  refine lv_icmp_le (tgt := 18) C.1 C.2.1 dX1_mend_13 (by decide) (fun c3 => ?_) (fun c3 => ?_)
  · have h := h.1 c3
    refine lv_iconst (v := (-1)) C.1 C.2.1 dX1_mend_18 (by decide) ?_
    refine l_ist_n C dX1_mend_19 rfl hl (by decide) rfl (fun ls hl => ?_)
    have hl : LH ls 4 [(2, .inl ((-1 : Int32))), (1, .inl r2), (0, .inr (.inl th))] := hl
    refine lv_iconst (v := 0) C.1 C.2.1 dX1_mend_20 (by decide) ?_
    refine l_ist_n C dX1_mend_21 rfl hl (by decide) rfl (fun ls hl => ?_)
    have hl : LH ls 4 [(3, .inl ((0 : Int32))), (2, .inl ((-1 : Int32))), (1, .inl r2), (0, .inr (.inl th))] := hl
    obtain ⟨n, h⟩ := h
    exact b_X1_mend_22 C n r2 ((-1 : Int32)) ((0 : Int32)) G1 _ _ _ _ _ h (hth.ext (by decide) xG1) I (hl.sub [3, 2, 1, 0] rfl)
  · have h := h.2 c3
    refine lv_iconst (v := (-1)) C.1 C.2.1 dX1_mend_16 (by decide) ?_
    exact r_int C.1 C.2.1 C.2.2.2.2.2.1 rfl C.2.2.2.2.2.2 ⟨rfl, rfl⟩ I dX1_mend_17 ⟨_, rfl, h⟩
def w_J2_toArray (T : Nat → ClassId) (Q : Option Nat → Hp → Prop) (th : Option Nat) (G : Hp) : Prop := isO G th 16 ∧ (w_J14_copyOf T (fun r2 G1 => Ext G G1 → Q r2 G1) (gR G (ad th) 1) (gI G (ad th) 2) G)
theorem pd_J2_toArray : (parseMethodDescriptor yJ2_toArray.desc).map (fun d => d.parameters.length) = some 0 := by decide +kernel
set_option maxHeartbeats 4000000 in
theorem ct_J2_toArray {l : Launch} {D : va_G} {T : Nat → ClassId} {Z : Heap} {G0 : Hp} {Q : Option Nat → Hp → Prop} {th : Option Nat} (hw : w_J2_toArray T Q th G0) : CT (twd D T Z) (Evd D T Z) l yJ2_toArray (Cond.code yJ2_toArray cJ2_toArray 1 (some (.array (.object "java/lang/Object")))) 3 141 [va_rf th] G0 (qR Q) (fun _ _ => False) := by
  refine CT.ofW (cc := cJ2_toArray) (nL := 1) (ret := (some (.array (.object "java/lang/Object")))) Ext.rf (by decide +kernel) (Or.inl rfl) ?_
  intro p e s m below meth c hx hb hml hown hr hlk hnm hcb hm hc hn hE I
  have C : Cx p s m meth c D T Z "java/util/ArrayList" cJ2_toArray 1 (some (.array (.object "java/lang/Object"))) := ⟨hx, hb, hml, hown, hE, hr, hlk⟩
  refine w_entry [.inr (.inl th)] (Nat.le_of_ble_eq_true rfl) (fun ls hl => ?_)
  have hl : LH ls 1 [(0, .inr (.inl th))] := hl
  obtain ⟨hth, h⟩ := hw
  refine l_ald_n C dJ2_toArray_0 hl 0 rfl rfl ?_
  refine g_R C I fl_J2_9_16 (by decide) (by decide) hth dJ2_toArray_1 ?_
  refine l_ald_n C dJ2_toArray_4 hl 0 rfl rfl ?_
  refine g_I C I fl_J2_48_16 (by decide) (by decide) hth dJ2_toArray_5 ?_
  refine k_call Ext.tr C I (k_S (As := [va_rf (gR G0 (ad th) 1), .int (gI G0 (ad th) 2)]) (rest := []) (y := yJ14_copyOf) C q580 q581 q128 (Or.inl rfl) q582 (by decide) rfl pd_J14_copyOf rfl dJ2_toArray_8) (ct_J14_copyOf h) hl.1 dJ2_toArray_8 [] rfl (Nat.le_of_ble_eq_true rfl) (Or.inl rfl) q582 q128 ⟨Nat.le_of_ble_eq_true rfl, Nat.le_of_ble_eq_true rfl⟩ (fun v G1 H locs cells slots xG1 hq I => ?_) (fun a G9 H locs cells slots ex hq I => hq.elim)
  obtain ⟨r2, rfl, h⟩ := hq
  have h := h xG1
  exact r_ref C.1 C.2.1 C.2.2.2.2.2.1 (Or.inr ⟨_, rfl⟩) C.2.2.2.2.2.2 ⟨rfl, rfl⟩ I dJ2_toArray_11 ⟨_, rfl, h⟩
def w_J2_init_2_64 (T : Nat → ClassId) (Q : Hp → Prop) (th : Option Nat) (G : Hp) : Prop := Q G
set_option maxHeartbeats 4000000 in
theorem b_J2_init_2_64 {G0 : Hp} {Q : Hp → Prop} {th : Option Nat} (C : Cx p s m meth c D T Z "java/util/ArrayList" cJ2_init_2 3 none) (hnm : meth.name = "<init>") : ∀ (G : Hp) (H : Heap) (locs : List Loc) (cells slots : Nat) (ls : Array Slot), w_J2_init_2_64 T Q th G → isO G th 16 → HI (twd D T Z) G0 s (rmX (twd D T Z) 4 161 G0) H locs cells slots G → LH ls 3 [] → W p l e (rmX (twd D T Z) 4 161 G0) s m args below meth c H locs cells slots (MQX (twd D T Z) G0 (qV Q) (fun _ _ => False) below s) (F0 m 64 ls []) := by
  intro G H locs cells slots ls h hth I hl
  exact r_void C.1 C.2.1 C.2.2.2.2.2.1 C.2.2.2.2.2.2 ⟨rfl, rfl⟩ I dJ2_init_2_64 ⟨rfl, h⟩
def w_J2_init_2 (T : Nat → ClassId) (Q : Hp → Prop) (th : Option Nat) (p0 : Option Nat) (G : Hp) : Prop := isO G th 16 ∧ (w_J1_init_k16 T (fun G1 => Ext G G1 → isO G1 p0 16 ∧ w_J2_toArray T (fun r4 G3 => Ext G1 G3 → (isO G3 r4 54 ∨ isO G3 r4 57) ∧ ∀ G5 : Hp, G5 = wI G3 (ad th) 2 (nI (gN G3 (ad r4))) → ((nI (gN G3 (ad r4)) = 0) → (∀ G6 : Hp, G6 = wR G5 (ad th) 1 ((some (T 101))) → w_J2_init_2_64 T Q th G6)) ∧ ((¬ nI (gN G3 (ad r4)) = 0) → (isO G5 p0 16 ∧ ((¬ (some (T 102)) = (some (T 102))) → (False)) ∧ (((some (T 102)) = (some (T 102))) → (∀ G8 : Hp, G8 = wR G5 (ad th) 1 r4 → w_J2_init_2_64 T Q th G8))))) p0 G1) th G)
theorem pd_J2_init_2 : (parseMethodDescriptor yJ2_init_2.desc).map (fun d => d.parameters.length) = some 1 := by decide +kernel
set_option maxHeartbeats 4000000 in
theorem ct_J2_init_2 {l : Launch} {D : va_G} {T : Nat → ClassId} {Z : Heap} {G0 : Hp} {Q : Hp → Prop} {th : Option Nat} {p0 : Option Nat} (hw : w_J2_init_2 T Q th p0 G0) : CT (twd D T Z) (Evd D T Z) l yJ2_init_2 (Cond.code yJ2_init_2 cJ2_init_2 3 none) 4 161 [va_rf th, va_rf p0] G0 (qV Q) (fun _ _ => False) := by
  refine CT.ofW (cc := cJ2_init_2) (nL := 3) (ret := none) Ext.rf (by decide +kernel) (Or.inl rfl) ?_
  intro p e s m below meth c hx hb hml hown hr hlk hnm hcb hm hc hn hE I
  have C : Cx p s m meth c D T Z "java/util/ArrayList" cJ2_init_2 3 none := ⟨hx, hb, hml, hown, hE, hr, hlk⟩
  refine w_entry [.inr (.inl th), .inr (.inl p0)] (Nat.le_of_ble_eq_true rfl) (fun ls hl => ?_)
  have hl : LH ls 3 [(0, .inr (.inl th)), (1, .inr (.inl p0))] := hl
  obtain ⟨hth, h⟩ := hw
  refine l_ald_n C dJ2_init_2_0 hl 0 rfl rfl ?_
  refine k_call Ext.tr C I (k_I (r := th) (As := []) (rest := []) (y := yJ1_init) C hth.ad.1 rfl q155 q156 q157 (by decide) rfl pd_J1_init rfl dJ2_init_2_1) (ct_J1_init_k16 h) hl.1 dJ2_init_2_1 [] rfl (Nat.le_of_ble_eq_true rfl) (Or.inl rfl) q157 q103 ⟨Nat.le_of_ble_eq_true rfl, Nat.le_of_ble_eq_true rfl⟩ (fun v G1 H locs cells slots xG1 hq I => ?_) (fun a G9 H locs cells slots ex hq I => hq.elim)
  obtain ⟨rfl, h⟩ := hq
  have h := h xG1
  refine l_ald_n C dJ2_init_2_4 hl 1 rfl rfl ?_
  obtain ⟨ho11, h⟩ := h
  refine k_call Ext.tr C I (k_F (kd := 16) (r := p0) (As := []) (rest := []) (y := yJ2_toArray) (x := ⟨"java/util/Collection", "toArray", "()[Ljava/lang/Object;"⟩) C (by decide) ⟨ho11.ad.1, I.recv C.2.2.2.2.1 ho11 (by decide)⟩ q571 (by decide) q573 q572 q578 q576 q574 q575 q577 rfl pd_J2_toArray rfl dJ2_init_2_5) (ct_J2_toArray h) hl.1 dJ2_init_2_5 [] rfl (Nat.le_of_ble_eq_true rfl) (Or.inl rfl) q579 q104 ⟨Nat.le_of_ble_eq_true rfl, Nat.le_of_ble_eq_true rfl⟩ (fun v G3 H locs cells slots xG3 hq I => ?_) (fun a G9 H locs cells slots ex hq I => hq.elim)
  obtain ⟨r4, rfl, h⟩ := hq
  have h := h xG3
  refine l_ast_n C dJ2_init_2_10 rfl hl (by decide) rfl (fun ls hl => ?_)
  have hl : LH ls 3 [(2, .inr (.inl r4)), (0, .inr (.inl th)), (1, .inr (.inl p0))] := hl
  refine l_ald_n C dJ2_init_2_11 hl 1 rfl rfl ?_
  refine l_ald_n C dJ2_init_2_12 hl 0 rfl rfl ?_
  obtain ⟨ho54, h⟩ := h
  refine a_len54 C I ho54 dJ2_init_2_13 ?_
  refine lv_dup_x1 C.1 C.2.1 dJ2_init_2_14 rfl (cat_rf _) ?_
  refine P_I C I fp_J2_48_16 (fun z => by cases z) (by decide) (by decide) (hth.ext (by decide) (Ext.tr _ _ _ xG1 xG3)) dJ2_init_2_15 (fit_i _) (fun H locs G5 eG5 xG5 I => ?_)
  have h := h G5 eG5
  refine lv_if_eq (tgt := 57) C.1 C.2.1 dJ2_init_2_18 (by decide) (fun c10 => ?_) (fun c10 => ?_)
  · have h := h.1 c10
    refine l_ald_n C dJ2_init_2_57 hl 1 rfl rfl ?_
    refine z_st1 C I q625 dJ2_init_2_58 ?_
    refine P_R C I fp_J2_9_16 (fun z => by cases z) (by decide) (by decide) (hth.ext (by decide) (Ext.tr _ _ _ xG1 (Ext.tr _ _ _ xG3 xG5))) dJ2_init_2_61 (fun x => fit_a x) (fun H locs G6 eG6 xG6 I => ?_)
    have h := h G6 eG6
    exact b_J2_init_2_64 C hnm G6 _ _ _ _ _ h (hth.ext (by decide) (Ext.tr _ _ _ xG1 (Ext.tr _ _ _ xG3 (Ext.tr _ _ _ xG5 xG6)))) I (hl.sub [] rfl)
  · have h := h.2 c10
    refine l_ald_n C dJ2_init_2_21 hl 2 rfl rfl ?_
    obtain ⟨ho7, h⟩ := h
    refine z_gc C I ho7 hl.1 dJ2_init_2_22 ⟨Nat.le_of_ble_eq_true rfl, Nat.le_of_ble_eq_true rfl⟩ (Nat.le_of_ble_eq_true rfl) ?_
    refine z_lc C I q622 dJ2_init_2_27 ?_
    refine lv_acmp_ne (tgt := 40) C.1 C.2.1 dJ2_init_2_29 (by decide) (fun c9 => ?_) (fun c9 => ?_)
    · have h := h.1 c9
      refine l_ald_n C dJ2_init_2_40 hl 1 rfl rfl ?_
      refine l_ald_n C dJ2_init_2_41 hl 0 rfl rfl ?_
      refine l_ald_n C dJ2_init_2_42 hl 1 rfl rfl ?_
      refine g_I C I fl_J2_48_16 (by decide) (by decide) (hth.ext (by decide) (Ext.tr _ _ _ xG1 (Ext.tr _ _ _ xG3 xG5))) dJ2_init_2_43 ?_
      exact h.elim
    · have h := h.2 c9
      refine l_ald_n C dJ2_init_2_32 hl 1 rfl rfl ?_
      refine l_ald_n C dJ2_init_2_33 hl 0 rfl rfl ?_
      refine P_R C I fp_J2_9_16 (fun z => by cases z) (by decide) (by decide) (hth.ext (by decide) (Ext.tr _ _ _ xG1 (Ext.tr _ _ _ xG3 xG5))) dJ2_init_2_34 (fun x => fit_a x) (fun H locs G8 eG8 xG8 I => ?_)
      have h := h G8 eG8
      refine lv_goto (tgt := 64) C.1 C.2.1 dJ2_init_2_37 (by decide) ?_
      exact b_J2_init_2_64 C hnm G8 _ _ _ _ _ h (hth.ext (by decide) (Ext.tr _ _ _ xG1 (Ext.tr _ _ _ xG3 (Ext.tr _ _ _ xG5 xG8)))) I (hl.sub [] rfl)
def w_X1_image (T : Nat → ClassId) (Q : Hp → Prop) (th : Option Nat) (G : Hp) : Prop := isO G th 1 ∧ (1 ≤ gC G ∧ 3 ≤ gS G ∧ ∀ G1 : Hp, G1 = nw G 16 0 3 → w_J2_init_2 T (fun G2 => Ext G1 G2 → ∀ G4 : Hp, G4 = wR G2 (ad th) 13 ((some (gZ G))) → ∀ G5 : Hp, G5 = wI G4 (ad th) 14 (gI G4 (ad th) 11) → ∀ G6 : Hp, G6 = wI G5 (ad th) 15 (gI G5 (ad th) 12) → Q G6) ((some (gZ G))) (gR G1 (ad th) 1) G1)
theorem pd_X1_image : (parseMethodDescriptor yX1_image.desc).map (fun d => d.parameters.length) = some 0 := by decide +kernel
set_option maxHeartbeats 4000000 in
theorem ct_X1_image {l : Launch} {D : va_G} {T : Nat → ClassId} {Z : Heap} {G0 : Hp} {Q : Hp → Prop} {th : Option Nat} (hw : w_X1_image T Q th G0) : CT (twd D T Z) (Evd D T Z) l yX1_image (Cond.code yX1_image cX1_image 1 none) 5 183 [va_rf th] G0 (qV Q) (fun _ _ => False) := by
  refine CT.ofW (cc := cX1_image) (nL := 1) (ret := none) Ext.rf (by decide) (Or.inl rfl) ?_
  intro p e s m below meth c hx hb hml hown hr hlk hnm hcb hm hc hn hE I
  have C : Cx p s m meth c D T Z "EndingTown" cX1_image 1 none := ⟨hx, hb, hml, hown, hE, hr, hlk⟩
  refine w_entry [.inr (.inl th)] (Nat.le_of_ble_eq_true rfl) (fun ls hl => ?_)
  have hl : LH ls 1 [(0, .inr (.inl th))] := hl
  obtain ⟨hth, h⟩ := hw
  refine l_ald_n C dX1_image_0 hl 0 rfl rfl ?_
  obtain ⟨hb1, hb2, h⟩ := h
  refine N_obj (kd := 16) C I (by decide) q235 ⟨hb1, hb2⟩ dX1_image_1 (fun H cells slots G1 eG1 xG1 I => ?_)
  have h := h G1 eG1
  have hnG1 : isO G1 (some (gZ G0)) 16 := ⟨_, rfl, by rw [eG1]; exact gK_nw⟩
  refine lv_dup C.1 C.2.1 dX1_image_4 (cat_rf _) ?_
  refine l_ald_n C dX1_image_5 hl 0 rfl rfl ?_
  refine g_R C I fl_X1_25_1 (by decide) (by decide) (hth.ext (by decide) xG1) dX1_image_6 ?_
  refine k_call Ext.tr C I (k_I (r := (some (gZ G0))) (As := [va_rf (gR G1 (ad th) 1)]) (rest := [va_rf ((some (gZ G0))), va_rf th]) (y := yJ2_init_2) C hnG1.ad.1 rfl q567 q568 q569 (by decide) rfl pd_J2_init_2 rfl dX1_image_9) (ct_J2_init_2 h) hl.1 dX1_image_9 [.inr (.inl ((some (gZ G0)))), .inr (.inl th)] rfl (Nat.le_of_ble_eq_true rfl) (Or.inl rfl) q569 q104 ⟨Nat.le_of_ble_eq_true rfl, Nat.le_of_ble_eq_true rfl⟩ (fun v G2 H locs cells slots xG2 hq I => ?_) (fun a G9 H locs cells slots ex hq I => hq.elim)
  obtain ⟨rfl, h⟩ := hq
  have h := h xG2
  refine P_R C I fp_X1_107_1 (fun z => by cases z) (by decide) (by decide) (hth.ext (by decide) (Ext.tr _ _ _ xG1 xG2)) dX1_image_12 (fun x => fit_o x) (fun H locs G4 eG4 xG4 I => ?_)
  have h := h G4 eG4
  refine l_ald_n C dX1_image_15 hl 0 rfl rfl ?_
  refine l_ald_n C dX1_image_16 hl 0 rfl rfl ?_
  refine g_I C I fl_X1_98_1 (by decide) (by decide) (hth.ext (by decide) (Ext.tr _ _ _ xG1 (Ext.tr _ _ _ xG2 xG4))) dX1_image_17 ?_
  refine P_I C I fp_X1_328_1 (fun z => by cases z) (by decide) (by decide) (hth.ext (by decide) (Ext.tr _ _ _ xG1 (Ext.tr _ _ _ xG2 xG4))) dX1_image_20 (fit_i _) (fun H locs G5 eG5 xG5 I => ?_)
  have h := h G5 eG5
  refine l_ald_n C dX1_image_23 hl 0 rfl rfl ?_
  refine l_ald_n C dX1_image_24 hl 0 rfl rfl ?_
  refine g_I C I fl_X1_101_1 (by decide) (by decide) (hth.ext (by decide) (Ext.tr _ _ _ xG1 (Ext.tr _ _ _ xG2 (Ext.tr _ _ _ xG4 xG5)))) dX1_image_25 ?_
  refine P_I C I fp_X1_331_1 (fun z => by cases z) (by decide) (by decide) (hth.ext (by decide) (Ext.tr _ _ _ xG1 (Ext.tr _ _ _ xG2 (Ext.tr _ _ _ xG4 xG5)))) dX1_image_28 (fit_i _) (fun H locs G6 eG6 xG6 I => ?_)
  have h := h G6 eG6
  exact r_void C.1 C.2.1 C.2.2.2.2.2.1 C.2.2.2.2.2.2 ⟨rfl, rfl⟩ I dX1_image_31 ⟨rfl, h⟩
def w_X1_restore (T : Nat → ClassId) (Q : Int32 → Hp → Prop) (th : Option Nat) (G : Hp) : Prop := isO G th 1 ∧ (((¬ gR G (ad th) 13 = none) → (1 ≤ gC G ∧ 3 ≤ gS G ∧ ∀ G1 : Hp, G1 = nw G 16 0 3 → w_J2_init_2 T (fun G2 => Ext G1 G2 → ∀ G4 : Hp, G4 = wR G2 (ad th) 1 ((some (gZ G))) → ∀ G5 : Hp, G5 = wI G4 (ad th) 11 (gI G4 (ad th) 14) → ∀ G6 : Hp, G6 = wI G5 (ad th) 12 (gI G5 (ad th) 15) → Q (1 : Int32) G6) ((some (gZ G))) (gR G1 (ad th) 13) G1)) ∧ ((gR G (ad th) 13 = none) → (Q (0 : Int32) G)))
theorem pd_X1_restore : (parseMethodDescriptor yX1_restore.desc).map (fun d => d.parameters.length) = some 0 := by decide +kernel
set_option maxHeartbeats 4000000 in
theorem ct_X1_restore {l : Launch} {D : va_G} {T : Nat → ClassId} {Z : Heap} {G0 : Hp} {Q : Int32 → Hp → Prop} {th : Option Nat} (hw : w_X1_restore T Q th G0) : CT (twd D T Z) (Evd D T Z) l yX1_restore (Cond.code yX1_restore cX1_restore 1 (some .boolean)) 5 183 [va_rf th] G0 (qI Q) (fun _ _ => False) := by
  refine CT.ofW (cc := cX1_restore) (nL := 1) (ret := (some .boolean)) Ext.rf (by decide) (Or.inl rfl) ?_
  intro p e s m below meth c hx hb hml hown hr hlk hnm hcb hm hc hn hE I
  have C : Cx p s m meth c D T Z "EndingTown" cX1_restore 1 (some .boolean) := ⟨hx, hb, hml, hown, hE, hr, hlk⟩
  refine w_entry [.inr (.inl th)] (Nat.le_of_ble_eq_true rfl) (fun ls hl => ?_)
  have hl : LH ls 1 [(0, .inr (.inl th))] := hl
  obtain ⟨hth, h⟩ := hw
  refine l_ald_n C dX1_restore_0 hl 0 rfl rfl ?_
  refine g_R C I fl_X1_107_1 (by decide) (by decide) hth dX1_restore_1 ?_
  refine l_ifnonnull (tgt := 9) C dX1_restore_4 (by decide) (fun c7 => ?_) (fun c7 => ?_)
  · have h := h.1 c7
    refine l_ald_n C dX1_restore_9 hl 0 rfl rfl ?_
    obtain ⟨hb1, hb2, h⟩ := h
    refine N_obj (kd := 16) C I (by decide) q235 ⟨hb1, hb2⟩ dX1_restore_10 (fun H cells slots G1 eG1 xG1 I => ?_)
    have h := h G1 eG1
    have hnG1 : isO G1 (some (gZ G0)) 16 := ⟨_, rfl, by rw [eG1]; exact gK_nw⟩
    refine lv_dup C.1 C.2.1 dX1_restore_13 (cat_rf _) ?_
    refine l_ald_n C dX1_restore_14 hl 0 rfl rfl ?_
    refine g_R C I fl_X1_107_1 (by decide) (by decide) (hth.ext (by decide) xG1) dX1_restore_15 ?_
    refine k_call Ext.tr C I (k_I (r := (some (gZ G0))) (As := [va_rf (gR G1 (ad th) 13)]) (rest := [va_rf ((some (gZ G0))), va_rf th]) (y := yJ2_init_2) C hnG1.ad.1 rfl q567 q568 q569 (by decide) rfl pd_J2_init_2 rfl dX1_restore_18) (ct_J2_init_2 h) hl.1 dX1_restore_18 [.inr (.inl ((some (gZ G0)))), .inr (.inl th)] rfl (Nat.le_of_ble_eq_true rfl) (Or.inl rfl) q569 q104 ⟨Nat.le_of_ble_eq_true rfl, Nat.le_of_ble_eq_true rfl⟩ (fun v G2 H locs cells slots xG2 hq I => ?_) (fun a G9 H locs cells slots ex hq I => hq.elim)
    obtain ⟨rfl, h⟩ := hq
    have h := h xG2
    refine P_R C I fp_X1_25_1 (fun z => by cases z) (by decide) (by decide) (hth.ext (by decide) (Ext.tr _ _ _ xG1 xG2)) dX1_restore_21 (fun x => fit_o x) (fun H locs G4 eG4 xG4 I => ?_)
    have h := h G4 eG4
    refine l_ald_n C dX1_restore_24 hl 0 rfl rfl ?_
    refine l_ald_n C dX1_restore_25 hl 0 rfl rfl ?_
    refine g_I C I fl_X1_328_1 (by decide) (by decide) (hth.ext (by decide) (Ext.tr _ _ _ xG1 (Ext.tr _ _ _ xG2 xG4))) dX1_restore_26 ?_
    refine P_I C I fp_X1_98_1 (fun z => by cases z) (by decide) (by decide) (hth.ext (by decide) (Ext.tr _ _ _ xG1 (Ext.tr _ _ _ xG2 xG4))) dX1_restore_29 (fit_i _) (fun H locs G5 eG5 xG5 I => ?_)
    have h := h G5 eG5
    refine l_ald_n C dX1_restore_32 hl 0 rfl rfl ?_
    refine l_ald_n C dX1_restore_33 hl 0 rfl rfl ?_
    refine g_I C I fl_X1_331_1 (by decide) (by decide) (hth.ext (by decide) (Ext.tr _ _ _ xG1 (Ext.tr _ _ _ xG2 (Ext.tr _ _ _ xG4 xG5)))) dX1_restore_34 ?_
    refine P_I C I fp_X1_101_1 (fun z => by cases z) (by decide) (by decide) (hth.ext (by decide) (Ext.tr _ _ _ xG1 (Ext.tr _ _ _ xG2 (Ext.tr _ _ _ xG4 xG5)))) dX1_restore_37 (fit_i _) (fun H locs G6 eG6 xG6 I => ?_)
    have h := h G6 eG6
    refine lv_iconst (v := 1) C.1 C.2.1 dX1_restore_40 (by decide) ?_
    exact r_int C.1 C.2.1 C.2.2.2.2.2.1 rfl C.2.2.2.2.2.2 ⟨rfl, rfl⟩ I dX1_restore_41 ⟨_, rfl, h⟩
  · have h := h.2 c7
    refine lv_iconst (v := 0) C.1 C.2.1 dX1_restore_7 (by decide) ?_
    exact r_int C.1 C.2.1 C.2.2.2.2.2.1 rfl C.2.2.2.2.2.2 ⟨rfl, rfl⟩ I dX1_restore_8 ⟨_, rfl, h⟩
def w_X12_init (T : Nat → ClassId) (Q : Hp → Prop) (th : Option Nat) (p0 : Option Nat) (p1 : Int32) (G : Hp) : Prop := isO G th 9 ∧ (∀ G1 : Hp, G1 = wR G (ad th) 9 p0 → 1 ≤ gC G1 ∧ 11 ≤ gS G1 ∧ ∀ G2 : Hp, G2 = nw G1 2 0 11 → w_X2_init T (fun G3 => Ext G2 G3 → ∀ G5 : Hp, G5 = wR G3 (ad th) 1 ((some (gZ G1))) → ∀ G6 : Hp, G6 = wI G5 (ad th) 0 p1 → Q G6) ((some (gZ G1))) G2)
theorem pd_X12_init : (parseMethodDescriptor yX12_init.desc).map (fun d => d.parameters.length) = some 2 := by decide +kernel
set_option maxHeartbeats 4000000 in
theorem ct_X12_init {l : Launch} {D : va_G} {T : Nat → ClassId} {Z : Heap} {G0 : Hp} {Q : Hp → Prop} {th : Option Nat} {p0 : Option Nat} {p1 : Int32} (hw : w_X12_init T Q th p0 p1 G0) : CT (twd D T Z) (Evd D T Z) l yX12_init (Cond.code yX12_init cX12_init 3 none) 5 101 [va_rf th, va_rf p0, .int p1] G0 (qV Q) (fun _ _ => False) := by
  refine CT.ofW (cc := cX12_init) (nL := 3) (ret := none) Ext.rf (by decide) (Or.inl rfl) ?_
  intro p e s m below meth c hx hb hml hown hr hlk hnm hcb hm hc hn hE I
  have C : Cx p s m meth c D T Z "EndingTown$Reader" cX12_init 3 none := ⟨hx, hb, hml, hown, hE, hr, hlk⟩
  refine w_entry [.inr (.inl th), .inr (.inl p0), .inl p1] (Nat.le_of_ble_eq_true rfl) (fun ls hl => ?_)
  have hl : LH ls 3 [(0, .inr (.inl th)), (1, .inr (.inl p0)), (2, .inl p1)] := hl
  obtain ⟨hth, h⟩ := hw
  refine l_ald_n C dX12_init_0 hl 0 rfl rfl ?_
  refine l_ald_n C dX12_init_1 hl 1 rfl rfl ?_
  refine P_R C I fp_X12_3_9 (fun _ => hnm) (by decide) (by decide) hth dX12_init_2 (fun x => fit_o x) (fun H locs G1 eG1 xG1 I => ?_)
  have h := h G1 eG1
  refine l_ald_n C dX12_init_5 hl 0 rfl rfl ?_
  refine k_objInit C (hth.ext (by decide) xG1).ad.1 q712 q142 q143 hl.1 dX12_init_6 (Nat.le_of_ble_eq_true rfl) ⟨Nat.le_of_ble_eq_true rfl, Nat.le_of_ble_eq_true rfl⟩ ?_
  refine l_ald_n C dX12_init_9 hl 0 rfl rfl ?_
  obtain ⟨hb1, hb2, h⟩ := h
  refine N_obj (kd := 2) C I (by decide) q713 ⟨hb1, hb2⟩ dX12_init_10 (fun H cells slots G2 eG2 xG2 I => ?_)
  have h := h G2 eG2
  have hnG2 : isO G2 (some (gZ G1)) 2 := ⟨_, rfl, by rw [eG2]; exact gK_nw⟩
  refine lv_dup C.1 C.2.1 dX12_init_13 (cat_rf _) ?_
  refine k_call Ext.tr C I (k_I (r := (some (gZ G1))) (As := []) (rest := [va_rf ((some (gZ G1))), va_rf th]) (y := yX2_init) C hnG2.ad.1 rfl q714 q147 q148 (by decide) rfl pd_X2_init rfl dX12_init_14) (ct_X2_init h) hl.1 dX12_init_14 [.inr (.inl ((some (gZ G1)))), .inr (.inl th)] rfl (Nat.le_of_ble_eq_true rfl) (Or.inl rfl) q148 q101 ⟨Nat.le_of_ble_eq_true rfl, Nat.le_of_ble_eq_true rfl⟩ (fun v G3 H locs cells slots xG3 hq I => ?_) (fun a G9 H locs cells slots ex hq I => hq.elim)
  obtain ⟨rfl, h⟩ := hq
  have h := h xG3
  refine P_R C I fp_X12_18_9 (fun _ => hnm) (by decide) (by decide) (hth.ext (by decide) (Ext.tr _ _ _ xG1 (Ext.tr _ _ _ xG2 xG3))) dX12_init_17 (fun x => fit_o x) (fun H locs G5 eG5 xG5 I => ?_)
  have h := h G5 eG5
  refine l_ald_n C dX12_init_20 hl 0 rfl rfl ?_
  refine l_ild_n C dX12_init_21 hl 2 rfl rfl ?_
  refine P_I C I fp_X12_22_9 (fun _ => hnm) (by decide) (by decide) (hth.ext (by decide) (Ext.tr _ _ _ xG1 (Ext.tr _ _ _ xG2 (Ext.tr _ _ _ xG3 xG5)))) dX12_init_22 (fit_i _) (fun H locs G6 eG6 xG6 I => ?_)
  have h := h G6 eG6
  exact r_void C.1 C.2.1 C.2.2.2.2.2.1 C.2.2.2.2.2.2 ⟨rfl, rfl⟩ I dX12_init_25 ⟨rfl, h⟩
def w_J7_min_10 (T : Nat → ClassId) (Q : Int32 → Hp → Prop) (t0 : Int32) (G : Hp) : Prop := Q t0 G
set_option maxHeartbeats 4000000 in
theorem b_J7_min_10 {G0 : Hp} {Q : Int32 → Hp → Prop} (C : Cx p s m meth c D T Z "java/lang/Math" cJ7_min 2 (some .int)) : ∀ (t0 : Int32) (G : Hp) (H : Heap) (locs : List Loc) (cells slots : Nat) (ls : Array Slot), w_J7_min_10 T Q t0 G → HI (twd D T Z) G0 s (rmX (twd D T Z) 0 0 G0) H locs cells slots G → LH ls 2 [] → W p l e (rmX (twd D T Z) 0 0 G0) s m args below meth c H locs cells slots (MQX (twd D T Z) G0 (qI Q) (fun _ _ => False) below s) (F0 m 10 ls [.int t0]) := by
  intro t0 G H locs cells slots ls h I hl
  exact r_int C.1 C.2.1 C.2.2.2.2.2.1 rfl C.2.2.2.2.2.2 ⟨rfl, rfl⟩ I dJ7_min_10 ⟨_, rfl, h⟩
def w_J7_min (T : Nat → ClassId) (Q : Int32 → Hp → Prop) (p0 : Int32) (p1 : Int32) (G : Hp) : Prop := (((p1 < p0) → (w_J7_min_10 T Q p1 G)) ∧ ((¬ p1 < p0) → (w_J7_min_10 T Q p0 G)))
theorem pd_J7_min : (parseMethodDescriptor yJ7_min.desc).map (fun d => d.parameters.length) = some 2 := by decide +kernel
set_option maxHeartbeats 4000000 in
theorem ct_J7_min {l : Launch} {D : va_G} {T : Nat → ClassId} {Z : Heap} {G0 : Hp} {Q : Int32 → Hp → Prop} {p0 : Int32} {p1 : Int32} (hw : w_J7_min T Q p0 p1 G0) : CT (twd D T Z) (Evd D T Z) l yJ7_min (Cond.code yJ7_min cJ7_min 2 (some .int)) 0 0 [.int p0, .int p1] G0 (qI Q) (fun _ _ => False) := by
  refine CT.ofW (cc := cJ7_min) (nL := 2) (ret := (some .int)) Ext.rf (by decide +kernel) (Or.inl rfl) ?_
  intro p e s m below meth c hx hb hml hown hr hlk hnm hcb hm hc hn hE I
  have C : Cx p s m meth c D T Z "java/lang/Math" cJ7_min 2 (some .int) := ⟨hx, hb, hml, hown, hE, hr, hlk⟩
  refine w_entry [.inl p0, .inl p1] (Nat.le_of_ble_eq_true rfl) (fun ls hl => ?_)
  have hl : LH ls 2 [(0, .inl p0), (1, .inl p1)] := hl
  have h := hw
  refine l_ild_n C dJ7_min_0 hl 0 rfl rfl ?_
  refine l_ild_n C dJ7_min_1 hl 1 rfl rfl ?_
  refine lv_icmp_gt (tgt := 9) C.1 C.2.1 dJ7_min_2 (by decide) (fun c1 => ?_) (fun c1 => ?_)
  · have h := h.1 c1
    refine l_ild_n C dJ7_min_9 hl 1 rfl rfl ?_
    exact b_J7_min_10 C p1 G0 _ _ _ _ _ h I (hl.sub [] rfl)
  · have h := h.2 c1
    refine l_ild_n C dJ7_min_5 hl 0 rfl rfl ?_
    refine lv_goto (tgt := 10) C.1 C.2.1 dJ7_min_6 (by decide) ?_
    exact b_J7_min_10 C p0 G0 _ _ _ _ _ h I (hl.sub [] rfl)
def w_X12_here_31 (T : Nat → ClassId) (Q : Int32 → Hp → Prop) (th : Option Nat) (t0 : Int32) (G : Hp) : Prop := Q t0 G
set_option maxHeartbeats 4000000 in
theorem b_X12_here_31 {G0 : Hp} {Q : Int32 → Hp → Prop} {th : Option Nat} (C : Cx p s m meth c D T Z "EndingTown$Reader" cX12_here 1 (some .int)) : ∀ (t0 : Int32) (G : Hp) (H : Heap) (locs : List Loc) (cells slots : Nat) (ls : Array Slot), w_X12_here_31 T Q th t0 G → isO G th 9 → HI (twd D T Z) G0 s (rmX (twd D T Z) 0 0 G0) H locs cells slots G → LH ls 1 [] → W p l e (rmX (twd D T Z) 0 0 G0) s m args below meth c H locs cells slots (MQX (twd D T Z) G0 (qI Q) (fun _ _ => False) below s) (F0 m 31 ls [.int t0]) := by
  intro t0 G H locs cells slots ls h hth I hl
  exact r_int C.1 C.2.1 C.2.2.2.2.2.1 rfl C.2.2.2.2.2.2 ⟨rfl, rfl⟩ I dX12_here_31 ⟨_, rfl, h⟩
def w_X12_here (T : Nat → ClassId) (Q : Int32 → Hp → Prop) (th : Option Nat) (G : Hp) : Prop := isO G th 9 ∧ (((gI G (ad th) 0 ≤ gI G (ad th) 2) → (w_X12_here_31 T Q th ((-1 : Int32)) G)) ∧ ((¬ gI G (ad th) 0 ≤ gI G (ad th) 2) → (isO G (gR G (ad th) 9) 1 ∧ isO G (gR G (ad (gR G (ad th) 9)) 4) 51 ∧ vp_in (gI G (ad th) 2) (gN G (ad (gR G (ad (gR G (ad th) 9)) 4))) ∧ w_X12_here_31 T Q th ((gI G (ad (gR G (ad (gR G (ad th) 9)) 4)) (gI G (ad th) 2).toNatClampNeg &&& (255 : Int32))) G)))
theorem pd_X12_here : (parseMethodDescriptor yX12_here.desc).map (fun d => d.parameters.length) = some 0 := by decide +kernel
set_option maxHeartbeats 4000000 in
theorem ct_X12_here {l : Launch} {D : va_G} {T : Nat → ClassId} {Z : Heap} {G0 : Hp} {Q : Int32 → Hp → Prop} {th : Option Nat} (hw : w_X12_here T Q th G0) : CT (twd D T Z) (Evd D T Z) l yX12_here (Cond.code yX12_here cX12_here 1 (some .int)) 0 0 [va_rf th] G0 (qI Q) (fun _ _ => False) := by
  refine CT.ofW (cc := cX12_here) (nL := 1) (ret := (some .int)) Ext.rf (by decide) (Or.inl rfl) ?_
  intro p e s m below meth c hx hb hml hown hr hlk hnm hcb hm hc hn hE I
  have C : Cx p s m meth c D T Z "EndingTown$Reader" cX12_here 1 (some .int) := ⟨hx, hb, hml, hown, hE, hr, hlk⟩
  refine w_entry [.inr (.inl th)] (Nat.le_of_ble_eq_true rfl) (fun ls hl => ?_)
  have hl : LH ls 1 [(0, .inr (.inl th))] := hl
  obtain ⟨hth, h⟩ := hw
  refine l_ald_n C dX12_here_0 hl 0 rfl rfl ?_
  refine g_I C I fl_X12_26_9 (by decide) (by decide) hth dX12_here_1 ?_
  refine l_ald_n C dX12_here_4 hl 0 rfl rfl ?_
  refine g_I C I fl_X12_22_9 (by decide) (by decide) hth dX12_here_5 ?_
  refine lv_icmp_ge (tgt := 30) C.1 C.2.1 dX12_here_8 (by decide) (fun c3 => ?_) (fun c3 => ?_)
  · have h := h.1 c3
    refine lv_iconst (v := (-1)) C.1 C.2.1 dX12_here_30 (by decide) ?_
    exact b_X12_here_31 C ((-1 : Int32)) G0 _ _ _ _ _ h hth I (hl.sub [] rfl)
  · have h := h.2 c3
    refine l_ald_n C dX12_here_11 hl 0 rfl rfl ?_
    refine g_R C I fl_X12_3_9 (by decide) (by decide) hth dX12_here_12 ?_
    obtain ⟨ho1, h⟩ := h
    refine g_R C I fl_X12_29_1 (by decide) (by decide) ho1 dX12_here_15 ?_
    refine l_ald_n C dX12_here_18 hl 0 rfl rfl ?_
    refine g_I C I fl_X12_26_9 (by decide) (by decide) hth dX12_here_19 ?_
    obtain ⟨ho2, h⟩ := h
    obtain ⟨hi, h⟩ := h
    refine a_bald C I ho2 hi dX12_here_22 ?_
    refine lv_sipush (v := 255) C.1 C.2.1 dX12_here_23 (by decide) ?_
    refine lv_iand C.1 C.2.1 dX12_here_26 ?_
    refine lv_goto (tgt := 31) C.1 C.2.1 dX12_here_27 (by decide) ?_
    exact b_X12_here_31 C ((gI G0 (ad (gR G0 (ad (gR G0 (ad th) 9)) 4)) (gI G0 (ad th) 2).toNatClampNeg &&& (255 : Int32))) G0 _ _ _ _ _ h hth I (hl.sub [] rfl)
def w_X1_in_15 (T : Nat → ClassId) (Q : Int32 → Hp → Prop) (t0 : Int32) (G : Hp) : Prop := bz t0 ∧ Q t0 G
set_option maxHeartbeats 4000000 in
theorem b_X1_in_15 {G0 : Hp} {Q : Int32 → Hp → Prop} (C : Cx p s m meth c D T Z "EndingTown" cX1_in 3 (some .boolean)) : ∀ (t0 : Int32) (G : Hp) (H : Heap) (locs : List Loc) (cells slots : Nat) (ls : Array Slot), w_X1_in_15 T Q t0 G → HI (twd D T Z) G0 s (rmX (twd D T Z) 0 0 G0) H locs cells slots G → LH ls 3 [] → W p l e (rmX (twd D T Z) 0 0 G0) s m args below meth c H locs cells slots (MQX (twd D T Z) G0 (qI Q) (fun _ _ => False) below s) (F0 m 15 ls [.int t0]) := by
  intro t0 G H locs cells slots ls h I hl
  exact r_int C.1 C.2.1 C.2.2.2.2.2.1 h.1.n C.2.2.2.2.2.2 ⟨rfl, rfl⟩ I dX1_in_15 ⟨_, rfl, h.2⟩
def w_X1_in_14 (T : Nat → ClassId) (Q : Int32 → Hp → Prop) (G : Hp) : Prop := w_X1_in_15 T Q ((0 : Int32)) G
set_option maxHeartbeats 4000000 in
theorem b_X1_in_14 {G0 : Hp} {Q : Int32 → Hp → Prop} (C : Cx p s m meth c D T Z "EndingTown" cX1_in 3 (some .boolean)) : ∀ (G : Hp) (H : Heap) (locs : List Loc) (cells slots : Nat) (ls : Array Slot), w_X1_in_14 T Q G → HI (twd D T Z) G0 s (rmX (twd D T Z) 0 0 G0) H locs cells slots G → LH ls 3 [] → W p l e (rmX (twd D T Z) 0 0 G0) s m args below meth c H locs cells slots (MQX (twd D T Z) G0 (qI Q) (fun _ _ => False) below s) (F0 m 14 ls []) := by
  intro G H locs cells slots ls h I hl
  refine lv_iconst (v := 0) C.1 C.2.1 dX1_in_14 (by decide) ?_
  exact b_X1_in_15 C ((0 : Int32)) G _ _ _ _ _ h I (hl.sub [] rfl)
def w_X1_in (T : Nat → ClassId) (Q : Int32 → Hp → Prop) (p0 : Int32) (p1 : Int32) (p2 : Int32) (G : Hp) : Prop := (((p0 < p1) → (w_X1_in_14 T Q G)) ∧ ((¬ p0 < p1) → (((p2 < p0) → (w_X1_in_14 T Q G)) ∧ ((¬ p2 < p0) → (w_X1_in_15 T Q ((1 : Int32)) G)))))
theorem pd_X1_in : (parseMethodDescriptor yX1_in.desc).map (fun d => d.parameters.length) = some 3 := by decide +kernel
set_option maxHeartbeats 4000000 in
theorem ct_X1_in {l : Launch} {D : va_G} {T : Nat → ClassId} {Z : Heap} {G0 : Hp} {Q : Int32 → Hp → Prop} {p0 : Int32} {p1 : Int32} {p2 : Int32} (hw : w_X1_in T Q p0 p1 p2 G0) : CT (twd D T Z) (Evd D T Z) l yX1_in (Cond.code yX1_in cX1_in 3 (some .boolean)) 0 0 [.int p0, .int p1, .int p2] G0 (qI Q) (fun _ _ => False) := by
  refine CT.ofW (cc := cX1_in) (nL := 3) (ret := (some .boolean)) Ext.rf (by decide) (Or.inl rfl) ?_
  intro p e s m below meth c hx hb hml hown hr hlk hnm hcb hm hc hn hE I
  have C : Cx p s m meth c D T Z "EndingTown" cX1_in 3 (some .boolean) := ⟨hx, hb, hml, hown, hE, hr, hlk⟩
  refine w_entry [.inl p0, .inl p1, .inl p2] (Nat.le_of_ble_eq_true rfl) (fun ls hl => ?_)
  have hl : LH ls 3 [(0, .inl p0), (1, .inl p1), (2, .inl p2)] := hl
  have h := hw
  refine l_ild_n C dX1_in_0 hl 0 rfl rfl ?_
  refine l_ild_n C dX1_in_1 hl 1 rfl rfl ?_
  refine lv_icmp_lt (tgt := 14) C.1 C.2.1 dX1_in_2 (by decide) (fun c2 => ?_) (fun c2 => ?_)
  · have h := h.1 c2
    exact b_X1_in_14 C G0 _ _ _ _ _ h I (hl.sub [] rfl)
  · have h := h.2 c2
    refine l_ild_n C dX1_in_5 hl 0 rfl rfl ?_
    refine l_ild_n C dX1_in_6 hl 2 rfl rfl ?_
    refine lv_icmp_gt (tgt := 14) C.1 C.2.1 dX1_in_7 (by decide) (fun c1 => ?_) (fun c1 => ?_)
    · have h := h.1 c1
      exact b_X1_in_14 C G0 _ _ _ _ _ h I (hl.sub [] rfl)
    · have h := h.2 c1
      refine lv_iconst (v := 1) C.1 C.2.1 dX1_in_10 (by decide) ?_
      refine lv_goto (tgt := 15) C.1 C.2.1 dX1_in_11 (by decide) ?_
      exact b_X1_in_15 C ((1 : Int32)) G0 _ _ _ _ _ h I (hl.sub [] rfl)
def w_X12_isDigit (T : Nat → ClassId) (Q : Int32 → Hp → Prop) (th : Option Nat) (G : Hp) : Prop := isO G th 9 ∧ (w_X12_here T (fun r2 G1 => Ext G G1 → w_X1_in T (fun r4 G3 => Ext G1 G3 → bz r4 ∧ Q r4 G3) r2 ((48 : Int32)) ((57 : Int32)) G1) th G)
theorem pd_X12_isDigit : (parseMethodDescriptor yX12_isDigit.desc).map (fun d => d.parameters.length) = some 0 := by decide +kernel
set_option maxHeartbeats 4000000 in
theorem ct_X12_isDigit {l : Launch} {D : va_G} {T : Nat → ClassId} {Z : Heap} {G0 : Hp} {Q : Int32 → Hp → Prop} {th : Option Nat} (hw : w_X12_isDigit T Q th G0) : CT (twd D T Z) (Evd D T Z) l yX12_isDigit (Cond.code yX12_isDigit cX12_isDigit 1 (some .boolean)) 1 22 [va_rf th] G0 (qI Q) (fun _ _ => False) := by
  refine CT.ofW (cc := cX12_isDigit) (nL := 1) (ret := (some .boolean)) Ext.rf (by decide) (Or.inl rfl) ?_
  intro p e s m below meth c hx hb hml hown hr hlk hnm hcb hm hc hn hE I
  have C : Cx p s m meth c D T Z "EndingTown$Reader" cX12_isDigit 1 (some .boolean) := ⟨hx, hb, hml, hown, hE, hr, hlk⟩
  refine w_entry [.inr (.inl th)] (Nat.le_of_ble_eq_true rfl) (fun ls hl => ?_)
  have hl : LH ls 1 [(0, .inr (.inl th))] := hl
  obtain ⟨hth, h⟩ := hw
  refine l_ald_n C dX12_isDigit_0 hl 0 rfl rfl ?_
  refine k_call Ext.tr C I (k_V (r := th) (As := []) (rest := []) (y := yX12_here) C ⟨hth.ad.1, I.recv C.2.2.2.2.1 hth (by decide)⟩ q755 q757 qs8 (Or.inl rfl) q758 (by decide) rfl pd_X12_here rfl dX12_isDigit_1) (ct_X12_here h) hl.1 dX12_isDigit_1 [] rfl (Nat.le_of_ble_eq_true rfl) (Or.inl rfl) q758 q118 ⟨Nat.le_of_ble_eq_true rfl, Nat.le_of_ble_eq_true rfl⟩ (fun v G1 H locs cells slots xG1 hq I => ?_) (fun a G9 H locs cells slots ex hq I => hq.elim)
  obtain ⟨r2, rfl, h⟩ := hq
  have h := h xG1
  refine lv_bipush (v := 48) C.1 C.2.1 dX12_isDigit_4 (by decide) ?_
  refine lv_bipush (v := 57) C.1 C.2.1 dX12_isDigit_6 (by decide) ?_
  refine k_call Ext.tr C I (k_SN (As := [.int r2, .int ((48 : Int32)), .int ((57 : Int32))]) (rest := []) (y := yX1_in) C q763 q764 q100 (Or.inl rfl) q765 (by decide) rfl pd_X1_in rfl dX12_isDigit_8) (ct_X1_in h) hl.1 dX12_isDigit_8 [] rfl (Nat.le_of_ble_eq_true rfl) (Or.inl rfl) q765 q100 ⟨Nat.le_of_ble_eq_true rfl, Nat.le_of_ble_eq_true rfl⟩ (fun v G3 H locs cells slots xG3 hq I => ?_) (fun a G9 H locs cells slots ex hq I => hq.elim)
  obtain ⟨r4, rfl, h⟩ := hq
  have h := h xG3
  exact r_int C.1 C.2.1 C.2.2.2.2.2.1 h.1.n C.2.2.2.2.2.2 ⟨rfl, rfl⟩ I dX12_isDigit_11 ⟨_, rfl, h.2⟩
def w_X12_isLetter (T : Nat → ClassId) (Q : Int32 → Hp → Prop) (th : Option Nat) (G : Hp) : Prop := isO G th 9 ∧ (w_X12_here T (fun r2 G1 => Ext G G1 → w_X1_in T (fun r4 G3 => Ext G1 G3 → bz r4 ∧ Q r4 G3) r2 ((97 : Int32)) ((122 : Int32)) G1) th G)
theorem pd_X12_isLetter : (parseMethodDescriptor yX12_isLetter.desc).map (fun d => d.parameters.length) = some 0 := by decide +kernel
set_option maxHeartbeats 4000000 in
theorem ct_X12_isLetter {l : Launch} {D : va_G} {T : Nat → ClassId} {Z : Heap} {G0 : Hp} {Q : Int32 → Hp → Prop} {th : Option Nat} (hw : w_X12_isLetter T Q th G0) : CT (twd D T Z) (Evd D T Z) l yX12_isLetter (Cond.code yX12_isLetter cX12_isLetter 1 (some .boolean)) 1 22 [va_rf th] G0 (qI Q) (fun _ _ => False) := by
  refine CT.ofW (cc := cX12_isLetter) (nL := 1) (ret := (some .boolean)) Ext.rf (by decide) (Or.inl rfl) ?_
  intro p e s m below meth c hx hb hml hown hr hlk hnm hcb hm hc hn hE I
  have C : Cx p s m meth c D T Z "EndingTown$Reader" cX12_isLetter 1 (some .boolean) := ⟨hx, hb, hml, hown, hE, hr, hlk⟩
  refine w_entry [.inr (.inl th)] (Nat.le_of_ble_eq_true rfl) (fun ls hl => ?_)
  have hl : LH ls 1 [(0, .inr (.inl th))] := hl
  obtain ⟨hth, h⟩ := hw
  refine l_ald_n C dX12_isLetter_0 hl 0 rfl rfl ?_
  refine k_call Ext.tr C I (k_V (r := th) (As := []) (rest := []) (y := yX12_here) C ⟨hth.ad.1, I.recv C.2.2.2.2.1 hth (by decide)⟩ q755 q757 qs8 (Or.inl rfl) q758 (by decide) rfl pd_X12_here rfl dX12_isLetter_1) (ct_X12_here h) hl.1 dX12_isLetter_1 [] rfl (Nat.le_of_ble_eq_true rfl) (Or.inl rfl) q758 q118 ⟨Nat.le_of_ble_eq_true rfl, Nat.le_of_ble_eq_true rfl⟩ (fun v G1 H locs cells slots xG1 hq I => ?_) (fun a G9 H locs cells slots ex hq I => hq.elim)
  obtain ⟨r2, rfl, h⟩ := hq
  have h := h xG1
  refine lv_bipush (v := 97) C.1 C.2.1 dX12_isLetter_4 (by decide) ?_
  refine lv_bipush (v := 122) C.1 C.2.1 dX12_isLetter_6 (by decide) ?_
  refine k_call Ext.tr C I (k_SN (As := [.int r2, .int ((97 : Int32)), .int ((122 : Int32))]) (rest := []) (y := yX1_in) C q763 q764 q100 (Or.inl rfl) q765 (by decide) rfl pd_X1_in rfl dX12_isLetter_8) (ct_X1_in h) hl.1 dX12_isLetter_8 [] rfl (Nat.le_of_ble_eq_true rfl) (Or.inl rfl) q765 q100 ⟨Nat.le_of_ble_eq_true rfl, Nat.le_of_ble_eq_true rfl⟩ (fun v G3 H locs cells slots xG3 hq I => ?_) (fun a G9 H locs cells slots ex hq I => hq.elim)
  obtain ⟨r4, rfl, h⟩ := hq
  have h := h xG3
  exact r_int C.1 C.2.1 C.2.2.2.2.2.1 h.1.n C.2.2.2.2.2.2 ⟨rfl, rfl⟩ I dX12_isLetter_11 ⟨_, rfl, h.2⟩
def w_X12_next_18 (T : Nat → ClassId) (Q : Hp → Prop) (th : Option Nat) (k0 : Hp → Prop) (G : Hp) : Prop := ∀ G1 : Hp, G1 = wI G (ad th) 2 ((gI G (ad th) 2 + (1 : Int32))) → k0 G1
set_option maxHeartbeats 4000000 in
theorem b_X12_next_18 {G0 : Hp} {Q : Hp → Prop} {th : Option Nat} {k0 : Hp → Prop} (C : Cx p s m meth c D T Z "EndingTown$Reader" cX12_next 1 none) (hk0 : ∀ (G : Hp) (H : Heap) (locs : List Loc) (cells slots : Nat) (ls : Array Slot), k0 G → isO G th 9 → HI (twd D T Z) G0 s (rmX (twd D T Z) 2 42 G0) H locs cells slots G → LH ls 1 [(0, .inr (.inl th))] → W p l e (rmX (twd D T Z) 2 42 G0) s m args below meth c H locs cells slots (MQX (twd D T Z) G0 (qV Q) (fun _ _ => False) below s) (F0 m 0 ls [])) : ∀ (G : Hp) (H : Heap) (locs : List Loc) (cells slots : Nat) (ls : Array Slot), w_X12_next_18 T Q th k0 G → isO G th 9 → HI (twd D T Z) G0 s (rmX (twd D T Z) 2 42 G0) H locs cells slots G → LH ls 1 [(0, .inr (.inl th))] → W p l e (rmX (twd D T Z) 2 42 G0) s m args below meth c H locs cells slots (MQX (twd D T Z) G0 (qV Q) (fun _ _ => False) below s) (F0 m 18 ls []) := by
  intro G H locs cells slots ls h hth I hl
  refine l_ald_n C dX12_next_18 hl 0 rfl rfl ?_
  refine lv_dup C.1 C.2.1 dX12_next_19 (cat_rf _) ?_
  refine g_I C I fl_X12_26_9 (by decide) (by decide) hth dX12_next_20 ?_
  refine lv_iconst (v := 1) C.1 C.2.1 dX12_next_23 (by decide) ?_
  refine lv_iadd C.1 C.2.1 dX12_next_24 ?_
  refine P_I C I fp_X12_26_9 (fun z => by cases z) (by decide) (by decide) hth dX12_next_25 (fit_i _) (fun H locs G1 eG1 xG1 I => ?_)
  have h := h G1 eG1
  refine lv_goto (tgt := 0) C.1 C.2.1 dX12_next_28 (by decide) ?_
  exact hk0 G1 _ _ _ _ _ h (hth.ext (by decide) xG1) I (hl.sub [0] rfl)
def w_X12_next_183 (T : Nat → ClassId) (Q : Hp → Prop) (th : Option Nat) (G : Hp) : Prop := ∀ G1 : Hp, G1 = wI G (ad th) 5 (gI G (ad th) 2) → Q G1
set_option maxHeartbeats 4000000 in
theorem b_X12_next_183 {G0 : Hp} {Q : Hp → Prop} {th : Option Nat} (C : Cx p s m meth c D T Z "EndingTown$Reader" cX12_next 1 none) : ∀ (G : Hp) (H : Heap) (locs : List Loc) (cells slots : Nat) (ls : Array Slot), w_X12_next_183 T Q th G → isO G th 9 → HI (twd D T Z) G0 s (rmX (twd D T Z) 2 42 G0) H locs cells slots G → LH ls 1 [(0, .inr (.inl th))] → W p l e (rmX (twd D T Z) 2 42 G0) s m args below meth c H locs cells slots (MQX (twd D T Z) G0 (qV Q) (fun _ _ => False) below s) (F0 m 183 ls []) := by
  intro G H locs cells slots ls h hth I hl
  refine l_ald_n C dX12_next_183 hl 0 rfl rfl ?_
  refine l_ald_n C dX12_next_184 hl 0 rfl rfl ?_
  refine g_I C I fl_X12_26_9 (by decide) (by decide) hth dX12_next_185 ?_
  refine P_I C I fp_X12_63_9 (fun z => by cases z) (by decide) (by decide) hth dX12_next_188 (fit_i _) (fun H locs G1 eG1 xG1 I => ?_)
  have h := h G1 eG1
  exact r_void C.1 C.2.1 C.2.2.2.2.2.1 C.2.2.2.2.2.2 ⟨rfl, rfl⟩ I dX12_next_191 ⟨rfl, h⟩
def w_X12_next_62 (T : Nat → ClassId) (Q : Hp → Prop) (th : Option Nat) : Nat → Hp → Prop
  | 0 => fun _ => False
  | f62 + 1 => fun G => w_X12_isLetter T (fun r2 G1 => Ext G G1 → ((r2 = 0) → (∀ G3 : Hp, G3 = wI G1 (ad th) 3 ((1 : Int32)) → w_X12_next_183 T Q th G3)) ∧ ((¬ r2 = 0) → (∀ G4 : Hp, G4 = wI G1 (ad th) 2 ((gI G1 (ad th) 2 + (1 : Int32))) → (w_X12_next_62 T Q th f62) G4))) th G
set_option maxHeartbeats 4000000 in
theorem b_X12_next_62 {G0 : Hp} {Q : Hp → Prop} {th : Option Nat} (C : Cx p s m meth c D T Z "EndingTown$Reader" cX12_next 1 none) : ∀ (n : Nat) (G : Hp) (H : Heap) (locs : List Loc) (cells slots : Nat) (ls : Array Slot), w_X12_next_62 T Q th n G → isO G th 9 → HI (twd D T Z) G0 s (rmX (twd D T Z) 2 42 G0) H locs cells slots G → LH ls 1 [(0, .inr (.inl th))] → W p l e (rmX (twd D T Z) 2 42 G0) s m args below meth c H locs cells slots (MQX (twd D T Z) G0 (qV Q) (fun _ _ => False) below s) (F0 m 62 ls []) := by
  intro f62
  induction f62 with
  | zero => intro G H locs cells slots ls h; exact (show False from h).elim
  | succ f62 ih =>
    intro G H locs cells slots ls h hth I hl
    have h : w_X12_isLetter T (fun r2 G1 => Ext G G1 → ((r2 = 0) → (∀ G3 : Hp, G3 = wI G1 (ad th) 3 ((1 : Int32)) → w_X12_next_183 T Q th G3)) ∧ ((¬ r2 = 0) → (∀ G4 : Hp, G4 = wI G1 (ad th) 2 ((gI G1 (ad th) 2 + (1 : Int32))) → (w_X12_next_62 T Q th f62) G4))) th G := h
    have hk62 := ih
    refine l_ald_n C dX12_next_62 hl 0 rfl rfl ?_
    refine k_call Ext.tr C I (k_V (r := th) (As := []) (rest := []) (y := yX12_isLetter) C ⟨hth.ad.1, I.recv C.2.2.2.2.1 hth (by decide)⟩ q759 q761 qs9 (Or.inl rfl) q762 (by decide) rfl pd_X12_isLetter rfl dX12_next_63) (ct_X12_isLetter h) hl.1 dX12_next_63 [] rfl (Nat.le_of_ble_eq_true rfl) (Or.inl rfl) q762 q118 ⟨Nat.le_of_ble_eq_true rfl, Nat.le_of_ble_eq_true rfl⟩ (fun v G1 H locs cells slots xG1 hq I => ?_) (fun a G9 H locs cells slots ex hq I => hq.elim)
    obtain ⟨r2, rfl, h⟩ := hq
    have h := h xG1
    refine lv_if_eq (tgt := 82) C.1 C.2.1 dX12_next_66 (by decide) (fun c5 => ?_) (fun c5 => ?_)
    · have h := h.1 c5
      refine l_ald_n C dX12_next_82 hl 0 rfl rfl ?_
      refine lv_iconst (v := 1) C.1 C.2.1 dX12_next_83 (by decide) ?_
      refine P_I C I fp_X12_44_9 (fun z => by cases z) (by decide) (by decide) (hth.ext (by decide) xG1) dX12_next_84 (fit_i _) (fun H locs G3 eG3 xG3 I => ?_)
      have h := h G3 eG3
      refine lv_goto (tgt := 183) C.1 C.2.1 dX12_next_87 (by decide) ?_
      exact b_X12_next_183 C G3 _ _ _ _ _ h (hth.ext (by decide) (Ext.tr _ _ _ xG1 xG3)) I (hl.sub [0] rfl)
    · have h := h.2 c5
      refine l_ald_n C dX12_next_69 hl 0 rfl rfl ?_
      refine lv_dup C.1 C.2.1 dX12_next_70 (cat_rf _) ?_
      refine g_I C I fl_X12_26_9 (by decide) (by decide) (hth.ext (by decide) xG1) dX12_next_71 ?_
      refine lv_iconst (v := 1) C.1 C.2.1 dX12_next_74 (by decide) ?_
      refine lv_iadd C.1 C.2.1 dX12_next_75 ?_
      refine P_I C I fp_X12_26_9 (fun z => by cases z) (by decide) (by decide) (hth.ext (by decide) xG1) dX12_next_76 (fit_i _) (fun H locs G4 eG4 xG4 I => ?_)
      have h := h G4 eG4
      refine lv_goto (tgt := 62) C.1 C.2.1 dX12_next_79 (by decide) ?_
      exact hk62 G4 _ _ _ _ _ h (hth.ext (by decide) (Ext.tr _ _ _ xG1 xG4)) I (hl.sub [0] rfl)
def w_X12_next_102 (T : Nat → ClassId) (Q : Hp → Prop) (th : Option Nat) : Nat → Hp → Prop
  | 0 => fun _ => False
  | f102 + 1 => fun G => w_X12_isDigit T (fun r2 G1 => Ext G G1 → ((r2 = 0) → (∀ G3 : Hp, G3 = wI G1 (ad th) 3 ((2 : Int32)) → w_X12_next_183 T Q th G3)) ∧ ((¬ r2 = 0) → (w_X12_here T (fun r5 G4 => Ext G1 G4 → w_J7_min T (fun r7 G6 => Ext G4 G6 → ∀ G8 : Hp, G8 = wI G6 (ad th) 6 r7 → ∀ G9 : Hp, G9 = wI G8 (ad th) 2 ((gI G8 (ad th) 2 + (1 : Int32))) → (w_X12_next_102 T Q th f102) G9) ((10000 : Int32)) (((((10 : Int32) * gI G1 (ad th) 6) + r5) - (48 : Int32))) G4) th G1))) th G
set_option maxHeartbeats 4000000 in
theorem b_X12_next_102 {G0 : Hp} {Q : Hp → Prop} {th : Option Nat} (C : Cx p s m meth c D T Z "EndingTown$Reader" cX12_next 1 none) : ∀ (n : Nat) (G : Hp) (H : Heap) (locs : List Loc) (cells slots : Nat) (ls : Array Slot), w_X12_next_102 T Q th n G → isO G th 9 → HI (twd D T Z) G0 s (rmX (twd D T Z) 2 42 G0) H locs cells slots G → LH ls 1 [(0, .inr (.inl th))] → W p l e (rmX (twd D T Z) 2 42 G0) s m args below meth c H locs cells slots (MQX (twd D T Z) G0 (qV Q) (fun _ _ => False) below s) (F0 m 102 ls []) := by
  intro f102
  induction f102 with
  | zero => intro G H locs cells slots ls h; exact (show False from h).elim
  | succ f102 ih =>
    intro G H locs cells slots ls h hth I hl
    have h : w_X12_isDigit T (fun r2 G1 => Ext G G1 → ((r2 = 0) → (∀ G3 : Hp, G3 = wI G1 (ad th) 3 ((2 : Int32)) → w_X12_next_183 T Q th G3)) ∧ ((¬ r2 = 0) → (w_X12_here T (fun r5 G4 => Ext G1 G4 → w_J7_min T (fun r7 G6 => Ext G4 G6 → ∀ G8 : Hp, G8 = wI G6 (ad th) 6 r7 → ∀ G9 : Hp, G9 = wI G8 (ad th) 2 ((gI G8 (ad th) 2 + (1 : Int32))) → (w_X12_next_102 T Q th f102) G9) ((10000 : Int32)) (((((10 : Int32) * gI G1 (ad th) 6) + r5) - (48 : Int32))) G4) th G1))) th G := h
    have hk102 := ih
    refine l_ald_n C dX12_next_102 hl 0 rfl rfl ?_
    refine k_call Ext.tr C I (k_V (r := th) (As := []) (rest := []) (y := yX12_isDigit) C ⟨hth.ad.1, I.recv C.2.2.2.2.1 hth (by decide)⟩ q766 q768 qs10 (Or.inl rfl) q769 (by decide) rfl pd_X12_isDigit rfl dX12_next_103) (ct_X12_isDigit h) hl.1 dX12_next_103 [] rfl (Nat.le_of_ble_eq_true rfl) (Or.inl rfl) q769 q118 ⟨Nat.le_of_ble_eq_true rfl, Nat.le_of_ble_eq_true rfl⟩ (fun v G1 H locs cells slots xG1 hq I => ?_) (fun a G9 H locs cells slots ex hq I => hq.elim)
    obtain ⟨r2, rfl, h⟩ := hq
    have h := h xG1
    refine lv_if_eq (tgt := 147) C.1 C.2.1 dX12_next_106 (by decide) (fun c10 => ?_) (fun c10 => ?_)
    · have h := h.1 c10
      refine l_ald_n C dX12_next_147 hl 0 rfl rfl ?_
      refine lv_iconst (v := 2) C.1 C.2.1 dX12_next_148 (by decide) ?_
      refine P_I C I fp_X12_44_9 (fun z => by cases z) (by decide) (by decide) (hth.ext (by decide) xG1) dX12_next_149 (fit_i _) (fun H locs G3 eG3 xG3 I => ?_)
      have h := h G3 eG3
      refine lv_goto (tgt := 183) C.1 C.2.1 dX12_next_152 (by decide) ?_
      exact b_X12_next_183 C G3 _ _ _ _ _ h (hth.ext (by decide) (Ext.tr _ _ _ xG1 xG3)) I (hl.sub [0] rfl)
    · have h := h.2 c10
      refine l_ald_n C dX12_next_109 hl 0 rfl rfl ?_
      refine lv_sipush (v := 10000) C.1 C.2.1 dX12_next_110 (by decide) ?_
      refine lv_bipush (v := 10) C.1 C.2.1 dX12_next_113 (by decide) ?_
      refine l_ald_n C dX12_next_115 hl 0 rfl rfl ?_
      refine g_I C I fl_X12_54_9 (by decide) (by decide) (hth.ext (by decide) xG1) dX12_next_116 ?_
      refine lv_imul C.1 C.2.1 dX12_next_119 ?_
      refine l_ald_n C dX12_next_120 hl 0 rfl rfl ?_
      refine k_call Ext.tr C I (k_V (r := th) (As := []) (rest := [.int (((10 : Int32) * gI G1 (ad th) 6)), .int ((10000 : Int32)), va_rf th]) (y := yX12_here) C ⟨(hth.ext (by decide) xG1).ad.1, I.recv C.2.2.2.2.1 (hth.ext (by decide) xG1) (by decide)⟩ q755 q757 qs8 (Or.inl rfl) q758 (by decide) rfl pd_X12_here rfl dX12_next_121) (ct_X12_here h) hl.1 dX12_next_121 [.inl (((10 : Int32) * gI G1 (ad th) 6)), .inl ((10000 : Int32)), .inr (.inl th)] rfl (Nat.le_of_ble_eq_true rfl) (Or.inl rfl) q758 q118 ⟨Nat.le_of_ble_eq_true rfl, Nat.le_of_ble_eq_true rfl⟩ (fun v G4 H locs cells slots xG4 hq I => ?_) (fun a G9 H locs cells slots ex hq I => hq.elim)
      obtain ⟨r5, rfl, h⟩ := hq
      have h := h xG4
      refine lv_iadd C.1 C.2.1 dX12_next_124 ?_
      refine lv_bipush (v := 48) C.1 C.2.1 dX12_next_125 (by decide) ?_
      refine lv_isub C.1 C.2.1 dX12_next_127 ?_
      refine k_call Ext.tr C I (k_S (As := [.int ((10000 : Int32)), .int (((((10 : Int32) * gI G1 (ad th) 6) + r5) - (48 : Int32)))]) (rest := [va_rf th]) (y := yJ7_min) C q770 q613 q119 (Or.inl rfl) q614 (by decide) rfl pd_J7_min rfl dX12_next_128) (ct_J7_min h) hl.1 dX12_next_128 [.inr (.inl th)] rfl (Nat.le_of_ble_eq_true rfl) (Or.inl rfl) q614 q119 ⟨Nat.le_of_ble_eq_true rfl, Nat.le_of_ble_eq_true rfl⟩ (fun v G6 H locs cells slots xG6 hq I => ?_) (fun a G9 H locs cells slots ex hq I => hq.elim)
      obtain ⟨r7, rfl, h⟩ := hq
      have h := h xG6
      refine P_I C I fp_X12_54_9 (fun z => by cases z) (by decide) (by decide) (hth.ext (by decide) (Ext.tr _ _ _ xG1 (Ext.tr _ _ _ xG4 xG6))) dX12_next_131 (fit_i _) (fun H locs G8 eG8 xG8 I => ?_)
      have h := h G8 eG8
      refine l_ald_n C dX12_next_134 hl 0 rfl rfl ?_
      refine lv_dup C.1 C.2.1 dX12_next_135 (cat_rf _) ?_
      refine g_I C I fl_X12_26_9 (by decide) (by decide) (hth.ext (by decide) (Ext.tr _ _ _ xG1 (Ext.tr _ _ _ xG4 (Ext.tr _ _ _ xG6 xG8)))) dX12_next_136 ?_
      refine lv_iconst (v := 1) C.1 C.2.1 dX12_next_139 (by decide) ?_
      refine lv_iadd C.1 C.2.1 dX12_next_140 ?_
      refine P_I C I fp_X12_26_9 (fun z => by cases z) (by decide) (by decide) (hth.ext (by decide) (Ext.tr _ _ _ xG1 (Ext.tr _ _ _ xG4 (Ext.tr _ _ _ xG6 xG8)))) dX12_next_141 (fit_i _) (fun H locs G9 eG9 xG9 I => ?_)
      have h := h G9 eG9
      refine lv_goto (tgt := 102) C.1 C.2.1 dX12_next_144 (by decide) ?_
      exact hk102 G9 _ _ _ _ _ h (hth.ext (by decide) (Ext.tr _ _ _ xG1 (Ext.tr _ _ _ xG4 (Ext.tr _ _ _ xG6 (Ext.tr _ _ _ xG8 xG9))))) I (hl.sub [0] rfl)
def w_X12_next_170 (T : Nat → ClassId) (Q : Hp → Prop) (th : Option Nat) (t0 : Int32) (G : Hp) : Prop := ∀ G1 : Hp, G1 = wI G (ad th) 3 t0 → ∀ G2 : Hp, G2 = wI G1 (ad th) 2 ((gI G1 (ad th) 2 + (1 : Int32))) → w_X12_next_183 T Q th G2
set_option maxHeartbeats 4000000 in
theorem b_X12_next_170 {G0 : Hp} {Q : Hp → Prop} {th : Option Nat} (C : Cx p s m meth c D T Z "EndingTown$Reader" cX12_next 1 none) : ∀ (t0 : Int32) (G : Hp) (H : Heap) (locs : List Loc) (cells slots : Nat) (ls : Array Slot), w_X12_next_170 T Q th t0 G → isO G th 9 → HI (twd D T Z) G0 s (rmX (twd D T Z) 2 42 G0) H locs cells slots G → LH ls 1 [(0, .inr (.inl th))] → W p l e (rmX (twd D T Z) 2 42 G0) s m args below meth c H locs cells slots (MQX (twd D T Z) G0 (qV Q) (fun _ _ => False) below s) (F0 m 170 ls [.int t0, va_rf th]) := by
  intro t0 G H locs cells slots ls h hth I hl
  refine P_I C I fp_X12_44_9 (fun z => by cases z) (by decide) (by decide) hth dX12_next_170 (fit_i _) (fun H locs G1 eG1 xG1 I => ?_)
  have h := h G1 eG1
  refine l_ald_n C dX12_next_173 hl 0 rfl rfl ?_
  refine lv_dup C.1 C.2.1 dX12_next_174 (cat_rf _) ?_
  refine g_I C I fl_X12_26_9 (by decide) (by decide) (hth.ext (by decide) xG1) dX12_next_175 ?_
  refine lv_iconst (v := 1) C.1 C.2.1 dX12_next_178 (by decide) ?_
  refine lv_iadd C.1 C.2.1 dX12_next_179 ?_
  refine P_I C I fp_X12_26_9 (fun z => by cases z) (by decide) (by decide) (hth.ext (by decide) xG1) dX12_next_180 (fit_i _) (fun H locs G2 eG2 xG2 I => ?_)
  have h := h G2 eG2
  exact b_X12_next_183 C G2 _ _ _ _ _ h (hth.ext (by decide) (Ext.tr _ _ _ xG1 xG2)) I (hl.sub [0] rfl)
def w_X12_next_0 (T : Nat → ClassId) (Q : Hp → Prop) (th : Option Nat) : Nat → Hp → Prop
  | 0 => fun _ => False
  | f0 + 1 => fun G => w_X12_here T (fun r2 G1 => Ext G G1 → ((r2 = (32 : Int32)) → (w_X12_next_18 T Q th (w_X12_next_0 T Q th f0) G1)) ∧ ((¬ r2 = (32 : Int32)) → (w_X12_here T (fun r4 G3 => Ext G1 G3 → ((¬ r4 = (10 : Int32)) → (∀ G5 : Hp, G5 = wI G3 (ad th) 4 (gI G3 (ad th) 2) → w_X12_here T (fun r7 G6 => Ext G5 G6 → ((¬ r7 = (-1 : Int32)) → (w_X12_isLetter T (fun r9 G8 => Ext G6 G8 → ((r9 = 0) → (w_X12_isDigit T (fun r11 G10 => Ext G8 G10 → ((r11 = 0) → (w_X12_here T (fun r13 G12 => Ext G10 G12 → ((¬ r13 = (59 : Int32)) → (w_X12_next_170 T Q th ((4 : Int32)) G12)) ∧ ((r13 = (59 : Int32)) → (w_X12_next_170 T Q th ((3 : Int32)) G12))) th G10)) ∧ ((¬ r11 = 0) → (∀ G15 : Hp, G15 = wI G10 (ad th) 6 ((0 : Int32)) → ∃ n, w_X12_next_102 T Q th n G15))) th G8)) ∧ ((¬ r9 = 0) → (∃ n, w_X12_next_62 T Q th n G8))) th G6)) ∧ ((r7 = (-1 : Int32)) → (∀ G18 : Hp, G18 = wI G6 (ad th) 3 ((0 : Int32)) → w_X12_next_183 T Q th G18))) th G5)) ∧ ((r4 = (10 : Int32)) → (w_X12_next_18 T Q th (w_X12_next_0 T Q th f0) G3))) th G1))) th G
set_option maxHeartbeats 4000000 in
theorem b_X12_next_0 {G0 : Hp} {Q : Hp → Prop} {th : Option Nat} (C : Cx p s m meth c D T Z "EndingTown$Reader" cX12_next 1 none) : ∀ (n : Nat) (G : Hp) (H : Heap) (locs : List Loc) (cells slots : Nat) (ls : Array Slot), w_X12_next_0 T Q th n G → isO G th 9 → HI (twd D T Z) G0 s (rmX (twd D T Z) 2 42 G0) H locs cells slots G → LH ls 1 [(0, .inr (.inl th))] → W p l e (rmX (twd D T Z) 2 42 G0) s m args below meth c H locs cells slots (MQX (twd D T Z) G0 (qV Q) (fun _ _ => False) below s) (F0 m 0 ls []) := by
  intro f0
  induction f0 with
  | zero => intro G H locs cells slots ls h; exact (show False from h).elim
  | succ f0 ih =>
    intro G H locs cells slots ls h hth I hl
    have h : w_X12_here T (fun r2 G1 => Ext G G1 → ((r2 = (32 : Int32)) → (w_X12_next_18 T Q th (w_X12_next_0 T Q th f0) G1)) ∧ ((¬ r2 = (32 : Int32)) → (w_X12_here T (fun r4 G3 => Ext G1 G3 → ((¬ r4 = (10 : Int32)) → (∀ G5 : Hp, G5 = wI G3 (ad th) 4 (gI G3 (ad th) 2) → w_X12_here T (fun r7 G6 => Ext G5 G6 → ((¬ r7 = (-1 : Int32)) → (w_X12_isLetter T (fun r9 G8 => Ext G6 G8 → ((r9 = 0) → (w_X12_isDigit T (fun r11 G10 => Ext G8 G10 → ((r11 = 0) → (w_X12_here T (fun r13 G12 => Ext G10 G12 → ((¬ r13 = (59 : Int32)) → (w_X12_next_170 T Q th ((4 : Int32)) G12)) ∧ ((r13 = (59 : Int32)) → (w_X12_next_170 T Q th ((3 : Int32)) G12))) th G10)) ∧ ((¬ r11 = 0) → (∀ G15 : Hp, G15 = wI G10 (ad th) 6 ((0 : Int32)) → ∃ n, w_X12_next_102 T Q th n G15))) th G8)) ∧ ((¬ r9 = 0) → (∃ n, w_X12_next_62 T Q th n G8))) th G6)) ∧ ((r7 = (-1 : Int32)) → (∀ G18 : Hp, G18 = wI G6 (ad th) 3 ((0 : Int32)) → w_X12_next_183 T Q th G18))) th G5)) ∧ ((r4 = (10 : Int32)) → (w_X12_next_18 T Q th (w_X12_next_0 T Q th f0) G3))) th G1))) th G := h
    have hk0 := ih
    refine l_ald_n C dX12_next_0 hl 0 rfl rfl ?_
    refine k_call Ext.tr C I (k_V (r := th) (As := []) (rest := []) (y := yX12_here) C ⟨hth.ad.1, I.recv C.2.2.2.2.1 hth (by decide)⟩ q755 q757 qs8 (Or.inl rfl) q758 (by decide) rfl pd_X12_here rfl dX12_next_1) (ct_X12_here h) hl.1 dX12_next_1 [] rfl (Nat.le_of_ble_eq_true rfl) (Or.inl rfl) q758 q118 ⟨Nat.le_of_ble_eq_true rfl, Nat.le_of_ble_eq_true rfl⟩ (fun v G1 H locs cells slots xG1 hq I => ?_) (fun a G9 H locs cells slots ex hq I => hq.elim)
    obtain ⟨r2, rfl, h⟩ := hq
    have h := h xG1
    refine lv_bipush (v := 32) C.1 C.2.1 dX12_next_4 (by decide) ?_
    refine lv_icmp_eq (tgt := 18) C.1 C.2.1 dX12_next_6 (by decide) (fun c21 => ?_) (fun c21 => ?_)
    · have h := h.1 c21
      exact b_X12_next_18 C hk0 G1 _ _ _ _ _ h (hth.ext (by decide) xG1) I (hl.sub [0] rfl)
    · have h := h.2 c21
      refine l_ald_n C dX12_next_9 hl 0 rfl rfl ?_
      refine k_call Ext.tr C I (k_V (r := th) (As := []) (rest := []) (y := yX12_here) C ⟨(hth.ext (by decide) xG1).ad.1, I.recv C.2.2.2.2.1 (hth.ext (by decide) xG1) (by decide)⟩ q755 q757 qs8 (Or.inl rfl) q758 (by decide) rfl pd_X12_here rfl dX12_next_10) (ct_X12_here h) hl.1 dX12_next_10 [] rfl (Nat.le_of_ble_eq_true rfl) (Or.inl rfl) q758 q118 ⟨Nat.le_of_ble_eq_true rfl, Nat.le_of_ble_eq_true rfl⟩ (fun v G3 H locs cells slots xG3 hq I => ?_) (fun a G9 H locs cells slots ex hq I => hq.elim)
      obtain ⟨r4, rfl, h⟩ := hq
      have h := h xG3
      refine lv_bipush (v := 10) C.1 C.2.1 dX12_next_13 (by decide) ?_
      refine lv_icmp_ne (tgt := 31) C.1 C.2.1 dX12_next_15 (by decide) (fun c20 => ?_) (fun c20 => ?_)
      · have h := h.1 c20
        refine l_ald_n C dX12_next_31 hl 0 rfl rfl ?_
        refine l_ald_n C dX12_next_32 hl 0 rfl rfl ?_
        refine g_I C I fl_X12_26_9 (by decide) (by decide) (hth.ext (by decide) (Ext.tr _ _ _ xG1 xG3)) dX12_next_33 ?_
        refine P_I C I fp_X12_41_9 (fun z => by cases z) (by decide) (by decide) (hth.ext (by decide) (Ext.tr _ _ _ xG1 xG3)) dX12_next_36 (fit_i _) (fun H locs G5 eG5 xG5 I => ?_)
        have h := h G5 eG5
        refine l_ald_n C dX12_next_39 hl 0 rfl rfl ?_
        refine k_call Ext.tr C I (k_V (r := th) (As := []) (rest := []) (y := yX12_here) C ⟨(hth.ext (by decide) (Ext.tr _ _ _ xG1 (Ext.tr _ _ _ xG3 xG5))).ad.1, I.recv C.2.2.2.2.1 (hth.ext (by decide) (Ext.tr _ _ _ xG1 (Ext.tr _ _ _ xG3 xG5))) (by decide)⟩ q755 q757 qs8 (Or.inl rfl) q758 (by decide) rfl pd_X12_here rfl dX12_next_40) (ct_X12_here h) hl.1 dX12_next_40 [] rfl (Nat.le_of_ble_eq_true rfl) (Or.inl rfl) q758 q118 ⟨Nat.le_of_ble_eq_true rfl, Nat.le_of_ble_eq_true rfl⟩ (fun v G6 H locs cells slots xG6 hq I => ?_) (fun a G9 H locs cells slots ex hq I => hq.elim)
        obtain ⟨r7, rfl, h⟩ := hq
        have h := h xG6
        refine lv_iconst (v := (-1)) C.1 C.2.1 dX12_next_43 (by decide) ?_
        refine lv_icmp_ne (tgt := 55) C.1 C.2.1 dX12_next_44 (by decide) (fun c19 => ?_) (fun c19 => ?_)
        · have h := h.1 c19
          refine l_ald_n C dX12_next_55 hl 0 rfl rfl ?_
          refine k_call Ext.tr C I (k_V (r := th) (As := []) (rest := []) (y := yX12_isLetter) C ⟨(hth.ext (by decide) (Ext.tr _ _ _ xG1 (Ext.tr _ _ _ xG3 (Ext.tr _ _ _ xG5 xG6)))).ad.1, I.recv C.2.2.2.2.1 (hth.ext (by decide) (Ext.tr _ _ _ xG1 (Ext.tr _ _ _ xG3 (Ext.tr _ _ _ xG5 xG6)))) (by decide)⟩ q759 q761 qs9 (Or.inl rfl) q762 (by decide) rfl pd_X12_isLetter rfl dX12_next_56) (ct_X12_isLetter h) hl.1 dX12_next_56 [] rfl (Nat.le_of_ble_eq_true rfl) (Or.inl rfl) q762 q118 ⟨Nat.le_of_ble_eq_true rfl, Nat.le_of_ble_eq_true rfl⟩ (fun v G8 H locs cells slots xG8 hq I => ?_) (fun a G9 H locs cells slots ex hq I => hq.elim)
          obtain ⟨r9, rfl, h⟩ := hq
          have h := h xG8
          refine lv_if_eq (tgt := 90) C.1 C.2.1 dX12_next_59 (by decide) (fun c17 => ?_) (fun c17 => ?_)
          · have h := h.1 c17
            refine l_ald_n C dX12_next_90 hl 0 rfl rfl ?_
            refine k_call Ext.tr C I (k_V (r := th) (As := []) (rest := []) (y := yX12_isDigit) C ⟨(hth.ext (by decide) (Ext.tr _ _ _ xG1 (Ext.tr _ _ _ xG3 (Ext.tr _ _ _ xG5 (Ext.tr _ _ _ xG6 xG8))))).ad.1, I.recv C.2.2.2.2.1 (hth.ext (by decide) (Ext.tr _ _ _ xG1 (Ext.tr _ _ _ xG3 (Ext.tr _ _ _ xG5 (Ext.tr _ _ _ xG6 xG8))))) (by decide)⟩ q766 q768 qs10 (Or.inl rfl) q769 (by decide) rfl pd_X12_isDigit rfl dX12_next_91) (ct_X12_isDigit h) hl.1 dX12_next_91 [] rfl (Nat.le_of_ble_eq_true rfl) (Or.inl rfl) q769 q118 ⟨Nat.le_of_ble_eq_true rfl, Nat.le_of_ble_eq_true rfl⟩ (fun v G10 H locs cells slots xG10 hq I => ?_) (fun a G9 H locs cells slots ex hq I => hq.elim)
            obtain ⟨r11, rfl, h⟩ := hq
            have h := h xG10
            refine lv_if_eq (tgt := 155) C.1 C.2.1 dX12_next_94 (by decide) (fun c16 => ?_) (fun c16 => ?_)
            · have h := h.1 c16
              refine l_ald_n C dX12_next_155 hl 0 rfl rfl ?_
              refine l_ald_n C dX12_next_156 hl 0 rfl rfl ?_
              refine k_call Ext.tr C I (k_V (r := th) (As := []) (rest := [va_rf th]) (y := yX12_here) C ⟨(hth.ext (by decide) (Ext.tr _ _ _ xG1 (Ext.tr _ _ _ xG3 (Ext.tr _ _ _ xG5 (Ext.tr _ _ _ xG6 (Ext.tr _ _ _ xG8 xG10)))))).ad.1, I.recv C.2.2.2.2.1 (hth.ext (by decide) (Ext.tr _ _ _ xG1 (Ext.tr _ _ _ xG3 (Ext.tr _ _ _ xG5 (Ext.tr _ _ _ xG6 (Ext.tr _ _ _ xG8 xG10)))))) (by decide)⟩ q755 q757 qs8 (Or.inl rfl) q758 (by decide) rfl pd_X12_here rfl dX12_next_157) (ct_X12_here h) hl.1 dX12_next_157 [.inr (.inl th)] rfl (Nat.le_of_ble_eq_true rfl) (Or.inl rfl) q758 q118 ⟨Nat.le_of_ble_eq_true rfl, Nat.le_of_ble_eq_true rfl⟩ (fun v G12 H locs cells slots xG12 hq I => ?_) (fun a G9 H locs cells slots ex hq I => hq.elim)
              obtain ⟨r13, rfl, h⟩ := hq
              have h := h xG12
              refine lv_bipush (v := 59) C.1 C.2.1 dX12_next_160 (by decide) ?_
              refine lv_icmp_ne (tgt := 169) C.1 C.2.1 dX12_next_162 (by decide) (fun c14 => ?_) (fun c14 => ?_)
              · have h := h.1 c14
                refine lv_iconst (v := 4) C.1 C.2.1 dX12_next_169 (by decide) ?_
                exact b_X12_next_170 C ((4 : Int32)) G12 _ _ _ _ _ h (hth.ext (by decide) (Ext.tr _ _ _ xG1 (Ext.tr _ _ _ xG3 (Ext.tr _ _ _ xG5 (Ext.tr _ _ _ xG6 (Ext.tr _ _ _ xG8 (Ext.tr _ _ _ xG10 xG12))))))) I (hl.sub [0] rfl)
              · have h := h.2 c14
                refine lv_iconst (v := 3) C.1 C.2.1 dX12_next_165 (by decide) ?_
                refine lv_goto (tgt := 170) C.1 C.2.1 dX12_next_166 (by decide) ?_
                exact b_X12_next_170 C ((3 : Int32)) G12 _ _ _ _ _ h (hth.ext (by decide) (Ext.tr _ _ _ xG1 (Ext.tr _ _ _ xG3 (Ext.tr _ _ _ xG5 (Ext.tr _ _ _ xG6 (Ext.tr _ _ _ xG8 (Ext.tr _ _ _ xG10 xG12))))))) I (hl.sub [0] rfl)
            · have h := h.2 c16
              refine l_ald_n C dX12_next_97 hl 0 rfl rfl ?_
              refine lv_iconst (v := 0) C.1 C.2.1 dX12_next_98 (by decide) ?_
              refine P_I C I fp_X12_54_9 (fun z => by cases z) (by decide) (by decide) (hth.ext (by decide) (Ext.tr _ _ _ xG1 (Ext.tr _ _ _ xG3 (Ext.tr _ _ _ xG5 (Ext.tr _ _ _ xG6 (Ext.tr _ _ _ xG8 xG10)))))) dX12_next_99 (fit_i _) (fun H locs G15 eG15 xG15 I => ?_)
              have h := h G15 eG15
              obtain ⟨n, h⟩ := h
              exact b_X12_next_102 C n G15 _ _ _ _ _ h (hth.ext (by decide) (Ext.tr _ _ _ xG1 (Ext.tr _ _ _ xG3 (Ext.tr _ _ _ xG5 (Ext.tr _ _ _ xG6 (Ext.tr _ _ _ xG8 (Ext.tr _ _ _ xG10 xG15))))))) I (hl.sub [0] rfl)
          · have h := h.2 c17
            obtain ⟨n, h⟩ := h
            exact b_X12_next_62 C n G8 _ _ _ _ _ h (hth.ext (by decide) (Ext.tr _ _ _ xG1 (Ext.tr _ _ _ xG3 (Ext.tr _ _ _ xG5 (Ext.tr _ _ _ xG6 xG8))))) I (hl.sub [0] rfl)
        · have h := h.2 c19
          refine l_ald_n C dX12_next_47 hl 0 rfl rfl ?_
          refine lv_iconst (v := 0) C.1 C.2.1 dX12_next_48 (by decide) ?_
          refine P_I C I fp_X12_44_9 (fun z => by cases z) (by decide) (by decide) (hth.ext (by decide) (Ext.tr _ _ _ xG1 (Ext.tr _ _ _ xG3 (Ext.tr _ _ _ xG5 xG6)))) dX12_next_49 (fit_i _) (fun H locs G18 eG18 xG18 I => ?_)
          have h := h G18 eG18
          refine lv_goto (tgt := 183) C.1 C.2.1 dX12_next_52 (by decide) ?_
          exact b_X12_next_183 C G18 _ _ _ _ _ h (hth.ext (by decide) (Ext.tr _ _ _ xG1 (Ext.tr _ _ _ xG3 (Ext.tr _ _ _ xG5 (Ext.tr _ _ _ xG6 xG18))))) I (hl.sub [0] rfl)
      · have h := h.2 c20
        exact b_X12_next_18 C hk0 G3 _ _ _ _ _ h (hth.ext (by decide) (Ext.tr _ _ _ xG1 xG3)) I (hl.sub [0] rfl)
def w_X12_next (T : Nat → ClassId) (Q : Hp → Prop) (th : Option Nat) (G : Hp) : Prop := isO G th 9 ∧ (∃ n, w_X12_next_0 T Q th n G)
theorem pd_X12_next : (parseMethodDescriptor yX12_next.desc).map (fun d => d.parameters.length) = some 0 := by decide +kernel
set_option maxHeartbeats 4000000 in
theorem ct_X12_next {l : Launch} {D : va_G} {T : Nat → ClassId} {Z : Heap} {G0 : Hp} {Q : Hp → Prop} {th : Option Nat} (hw : w_X12_next T Q th G0) : CT (twd D T Z) (Evd D T Z) l yX12_next (Cond.code yX12_next cX12_next 1 none) 2 42 [va_rf th] G0 (qV Q) (fun _ _ => False) := by
  refine CT.ofW (cc := cX12_next) (nL := 1) (ret := none) Ext.rf (by decide) (Or.inl rfl) ?_
  intro p e s m below meth c hx hb hml hown hr hlk hnm hcb hm hc hn hE I
  have C : Cx p s m meth c D T Z "EndingTown$Reader" cX12_next 1 none := ⟨hx, hb, hml, hown, hE, hr, hlk⟩
  refine w_entry [.inr (.inl th)] (Nat.le_of_ble_eq_true rfl) (fun ls hl => ?_)
  have hl : LH ls 1 [(0, .inr (.inl th))] := hl
  obtain ⟨hth, h⟩ := hw
  obtain ⟨n, h⟩ := h
  exact b_X12_next_0 C n G0 _ _ _ _ _ h hth I (hl.sub [0] rfl)
def w_J3_init_2_k10_60 (T : Nat → ClassId) (Q : Hp → Prop) (th : Option Nat) (G : Hp) : Prop := Q G
set_option maxHeartbeats 4000000 in
theorem b_J3_init_2_k10_60 {G0 : Hp} {Q : Hp → Prop} {th : Option Nat} (C : Cx p s m meth c D T Z "java/lang/Throwable" cJ3_init_2 5 none) (hnm : meth.name = "<init>") : ∀ (G : Hp) (H : Heap) (locs : List Loc) (cells slots : Nat) (ls : Array Slot), w_J3_init_2_k10_60 T Q th G → isO G th 10 → HI (twd D T Z) G0 s (rmX (twd D T Z) 1 20 G0) H locs cells slots G → LH ls 5 [] → W p l e (rmX (twd D T Z) 1 20 G0) s m args below meth c H locs cells slots (MQX (twd D T Z) G0 (qV Q) (fun _ _ => False) below s) (F0 m 60 ls []) := by
  intro G H locs cells slots ls h hth I hl
  exact r_void C.1 C.2.1 C.2.2.2.2.2.1 C.2.2.2.2.2.2 ⟨rfl, rfl⟩ I dJ3_init_2_60 ⟨rfl, h⟩
def w_J3_init_2_k10_41 (T : Nat → ClassId) (Q : Hp → Prop) (th : Option Nat) (l1 : Option Nat) (l2 : Option Nat) (l3 : Int32) (G : Hp) : Prop := ∀ G1 : Hp, G1 = wR G (ad th) 3 l1 → ∀ G2 : Hp, G2 = wR G1 (ad th) 0 l2 → ((¬ l3 = 0) → (w_J3_init_2_k10_60 T Q th G2)) ∧ ((l3 = 0) → (∀ G3 : Hp, G3 = wR G2 (ad th) 2 none → w_J3_init_2_k10_60 T Q th G3))
set_option maxHeartbeats 4000000 in
theorem b_J3_init_2_k10_41 {G0 : Hp} {Q : Hp → Prop} {th : Option Nat} (C : Cx p s m meth c D T Z "java/lang/Throwable" cJ3_init_2 5 none) (hnm : meth.name = "<init>") : ∀ (l1 : Option Nat) (l2 : Option Nat) (l3 : Int32) (G : Hp) (H : Heap) (locs : List Loc) (cells slots : Nat) (ls : Array Slot), w_J3_init_2_k10_41 T Q th l1 l2 l3 G → isO G th 10 → HI (twd D T Z) G0 s (rmX (twd D T Z) 1 20 G0) H locs cells slots G → LH ls 5 [(0, .inr (.inl th)), (1, .inr (.inl l1)), (2, .inr (.inl l2)), (3, .inl l3)] → W p l e (rmX (twd D T Z) 1 20 G0) s m args below meth c H locs cells slots (MQX (twd D T Z) G0 (qV Q) (fun _ _ => False) below s) (F0 m 41 ls []) := by
  intro l1 l2 l3 G H locs cells slots ls h hth I hl
  refine l_ald_n C dJ3_init_2_41 hl 0 rfl rfl ?_
  refine l_ald_n C dJ3_init_2_42 hl 1 rfl rfl ?_
  refine P_R C I fp_J3_31_10 (fun z => by cases z) (by decide) (by decide) hth dJ3_init_2_43 (fun x => fit_o x) (fun H locs G1 eG1 xG1 I => ?_)
  have h := h G1 eG1
  refine l_ald_n C dJ3_init_2_46 hl 0 rfl rfl ?_
  refine l_ald_n C dJ3_init_2_47 hl 2 rfl rfl ?_
  refine P_R C I fp_J3_7_10 (fun z => by cases z) (by decide) (by decide) (hth.ext (by decide) xG1) dJ3_init_2_48 (fun x => fit_o x) (fun H locs G2 eG2 xG2 I => ?_)
  have h := h G2 eG2
  refine l_ild_n C dJ3_init_2_51 hl 3 rfl rfl ?_
  refine lv_if_ne (tgt := 60) C.1 C.2.1 dJ3_init_2_52 (by decide) (fun c4 => ?_) (fun c4 => ?_)
  · have h := h.1 c4
    exact b_J3_init_2_k10_60 C hnm G2 _ _ _ _ _ h (hth.ext (by decide) (Ext.tr _ _ _ xG1 xG2)) I (hl.sub [] rfl)
  · have h := h.2 c4
    refine l_ald_n C dJ3_init_2_55 hl 0 rfl rfl ?_
    refine l_null C dJ3_init_2_56 ?_
    refine P_R C I fp_J3_24_10 (fun z => by cases z) (by decide) (by decide) (hth.ext (by decide) (Ext.tr _ _ _ xG1 xG2)) dJ3_init_2_57 (fun x => fit_o x) (fun H locs G3 eG3 xG3 I => ?_)
    have h := h G3 eG3
    exact b_J3_init_2_k10_60 C hnm G3 _ _ _ _ _ h (hth.ext (by decide) (Ext.tr _ _ _ xG1 (Ext.tr _ _ _ xG2 xG3))) I (hl.sub [] rfl)
def w_J3_init_2_k10 (T : Nat → ClassId) (Q : Hp → Prop) (th : Option Nat) (p0 : Option Nat) (p1 : Option Nat) (p2 : Int32) (p3 : Int32) (G : Hp) : Prop := isO G th 10 ∧ (∀ G1 : Hp, G1 = wR G (ad th) 0 th → ∀ G2 : Hp, G2 = wR G1 (ad th) 1 ((kq T 0)) → ∀ G3 : Hp, G3 = wR G2 (ad th) 2 ((kq T 1)) → ((p3 = 0) → (∀ G4 : Hp, G4 = wR G3 (ad th) 1 none → w_J3_init_2_k10_41 T Q th p0 p1 p2 G4)) ∧ ((¬ p3 = 0) → (False)))
theorem pd_J3_init_2 : (parseMethodDescriptor yJ3_init_2.desc).map (fun d => d.parameters.length) = some 4 := by decide +kernel
set_option maxHeartbeats 4000000 in
theorem ct_J3_init_2_k10 {l : Launch} {D : va_G} {T : Nat → ClassId} {Z : Heap} {G0 : Hp} {Q : Hp → Prop} {th : Option Nat} {p0 : Option Nat} {p1 : Option Nat} {p2 : Int32} {p3 : Int32} (hw : w_J3_init_2_k10 T Q th p0 p1 p2 p3 G0) : CT (twd D T Z) (Evd D T Z) l yJ3_init_2 (Cond.code yJ3_init_2 cJ3_init_2 5 none) 1 20 [va_rf th, va_rf p0, va_rf p1, .int p2, .int p3] G0 (qV Q) (fun _ _ => False) := by
  refine CT.ofW (cc := cJ3_init_2) (nL := 5) (ret := none) Ext.rf (by decide +kernel) (Or.inl rfl) ?_
  intro p e s m below meth c hx hb hml hown hr hlk hnm hcb hm hc hn hE I
  have C : Cx p s m meth c D T Z "java/lang/Throwable" cJ3_init_2 5 none := ⟨hx, hb, hml, hown, hE, hr, hlk⟩
  refine w_entry [.inr (.inl th), .inr (.inl p0), .inr (.inl p1), .inl p2, .inl p3] (Nat.le_of_ble_eq_true rfl) (fun ls hl => ?_)
  have hl : LH ls 5 [(0, .inr (.inl th)), (1, .inr (.inl p0)), (2, .inr (.inl p1)), (3, .inl p2), (4, .inl p3)] := hl
  obtain ⟨hth, h⟩ := hw
  refine l_ald_n C dJ3_init_2_0 hl 0 rfl rfl ?_
  refine k_objInit C hth.ad.1 q668 q142 q143 hl.1 dJ3_init_2_1 (Nat.le_of_ble_eq_true rfl) ⟨Nat.le_of_ble_eq_true rfl, Nat.le_of_ble_eq_true rfl⟩ ?_
  refine l_ald_n C dJ3_init_2_4 hl 0 rfl rfl ?_
  refine l_ald_n C dJ3_init_2_5 hl 0 rfl rfl ?_
  refine P_R C I fp_J3_7_10 (fun z => by cases z) (by decide) (by decide) hth dJ3_init_2_6 (fun x => fit_o x) (fun H locs G1 eG1 xG1 I => ?_)
  have h := h G1 eG1
  refine l_ald_n C dJ3_init_2_9 hl 0 rfl rfl ?_
  refine z_sq0 C I q669 dJ3_init_2_10 ?_
  refine P_R C I fp_J3_17_10 (fun z => by cases z) (by decide) (by decide) (hth.ext (by decide) xG1) dJ3_init_2_13 (fun x => fit_a x) (fun H locs G2 eG2 xG2 I => ?_)
  have h := h G2 eG2
  refine l_ald_n C dJ3_init_2_16 hl 0 rfl rfl ?_
  refine z_sq1 C I q671 dJ3_init_2_17 ?_
  refine P_R C I fp_J3_24_10 (fun z => by cases z) (by decide) (by decide) (hth.ext (by decide) (Ext.tr _ _ _ xG1 xG2)) dJ3_init_2_20 (fun x => fit_o x) (fun H locs G3 eG3 xG3 I => ?_)
  have h := h G3 eG3
  refine l_ild C dJ3_init_2_23 hl 4 rfl ?_
  refine lv_if_eq (tgt := 36) C.1 C.2.1 dJ3_init_2_25 (by decide) (fun c5 => ?_) (fun c5 => ?_)
  · have h := h.1 c5
    refine l_ald_n C dJ3_init_2_36 hl 0 rfl rfl ?_
    refine l_null C dJ3_init_2_37 ?_
    refine P_R C I fp_J3_17_10 (fun z => by cases z) (by decide) (by decide) (hth.ext (by decide) (Ext.tr _ _ _ xG1 (Ext.tr _ _ _ xG2 xG3))) dJ3_init_2_38 (fun x => fit_a x) (fun H locs G4 eG4 xG4 I => ?_)
    have h := h G4 eG4
    exact b_J3_init_2_k10_41 C hnm p0 p1 p2 G4 _ _ _ _ _ h (hth.ext (by decide) (Ext.tr _ _ _ xG1 (Ext.tr _ _ _ xG2 (Ext.tr _ _ _ xG3 xG4)))) I (hl.sub [0, 1, 2, 3] rfl)
  · have h := h.2 c5
    refine l_ald_n C dJ3_init_2_28 hl 0 rfl rfl ?_
    exact h.elim
def w_J4_init_2_k10 (T : Nat → ClassId) (Q : Hp → Prop) (th : Option Nat) (p0 : Option Nat) (p1 : Option Nat) (p2 : Int32) (p3 : Int32) (G : Hp) : Prop := isO G th 10 ∧ (w_J3_init_2_k10 T (fun G1 => Ext G G1 → Q G1) th p0 p1 p2 p3 G)
theorem pd_J4_init_2 : (parseMethodDescriptor yJ4_init_2.desc).map (fun d => d.parameters.length) = some 4 := by decide +kernel
set_option maxHeartbeats 4000000 in
theorem ct_J4_init_2_k10 {l : Launch} {D : va_G} {T : Nat → ClassId} {Z : Heap} {G0 : Hp} {Q : Hp → Prop} {th : Option Nat} {p0 : Option Nat} {p1 : Option Nat} {p2 : Int32} {p3 : Int32} (hw : w_J4_init_2_k10 T Q th p0 p1 p2 p3 G0) : CT (twd D T Z) (Evd D T Z) l yJ4_init_2 (Cond.code yJ4_init_2 cJ4_init_2 5 none) 2 44 [va_rf th, va_rf p0, va_rf p1, .int p2, .int p3] G0 (qV Q) (fun _ _ => False) := by
  refine CT.ofW (cc := cJ4_init_2) (nL := 5) (ret := none) Ext.rf (by decide +kernel) (Or.inl rfl) ?_
  intro p e s m below meth c hx hb hml hown hr hlk hnm hcb hm hc hn hE I
  have C : Cx p s m meth c D T Z "java/lang/Exception" cJ4_init_2 5 none := ⟨hx, hb, hml, hown, hE, hr, hlk⟩
  refine w_entry [.inr (.inl th), .inr (.inl p0), .inr (.inl p1), .inl p2, .inl p3] (Nat.le_of_ble_eq_true rfl) (fun ls hl => ?_)
  have hl : LH ls 5 [(0, .inr (.inl th)), (1, .inr (.inl p0)), (2, .inr (.inl p1)), (3, .inl p2), (4, .inl p3)] := hl
  obtain ⟨hth, h⟩ := hw
  refine l_ald_n C dJ4_init_2_0 hl 0 rfl rfl ?_
  refine l_ald_n C dJ4_init_2_1 hl 1 rfl rfl ?_
  refine l_ald_n C dJ4_init_2_2 hl 2 rfl rfl ?_
  refine l_ild_n C dJ4_init_2_3 hl 3 rfl rfl ?_
  refine l_ild C dJ4_init_2_4 hl 4 rfl ?_
  refine k_call Ext.tr C I (k_I (r := th) (As := [va_rf p0, va_rf p1, .int p2, .int p3]) (rest := []) (y := yJ3_init_2) C hth.ad.1 rfl q849 q850 q851 (by decide) rfl pd_J3_init_2 rfl dJ4_init_2_6) (ct_J3_init_2_k10 h) hl.1 dJ4_init_2_6 [] rfl (Nat.le_of_ble_eq_true rfl) (Or.inl rfl) q851 q114 ⟨Nat.le_of_ble_eq_true rfl, Nat.le_of_ble_eq_true rfl⟩ (fun v G1 H locs cells slots xG1 hq I => ?_) (fun a G9 H locs cells slots ex hq I => hq.elim)
  obtain ⟨rfl, h⟩ := hq
  have h := h xG1
  exact r_void C.1 C.2.1 C.2.2.2.2.2.1 C.2.2.2.2.2.2 ⟨rfl, rfl⟩ I dJ4_init_2_9 ⟨rfl, h⟩
def w_X13_init (T : Nat → ClassId) (Q : Hp → Prop) (th : Option Nat) (p0 : Int32) (G : Hp) : Prop := isO G th 10 ∧ (w_J4_init_2_k10 T (fun G1 => Ext G G1 → ∀ G3 : Hp, G3 = wI G1 (ad th) 6 p0 → Q G3) th none none ((0 : Int32)) ((0 : Int32)) G)
theorem pd_X13_init : (parseMethodDescriptor yX13_init.desc).map (fun d => d.parameters.length) = some 1 := by decide +kernel
set_option maxHeartbeats 4000000 in
theorem ct_X13_init {l : Launch} {D : va_G} {T : Nat → ClassId} {Z : Heap} {G0 : Hp} {Q : Hp → Prop} {th : Option Nat} {p0 : Int32} (hw : w_X13_init T Q th p0 G0) : CT (twd D T Z) (Evd D T Z) l yX13_init (Cond.code yX13_init cX13_init 2 none) 3 68 [va_rf th, .int p0] G0 (qV Q) (fun _ _ => False) := by
  refine CT.ofW (cc := cX13_init) (nL := 2) (ret := none) Ext.rf (by decide) (Or.inl rfl) ?_
  intro p e s m below meth c hx hb hml hown hr hlk hnm hcb hm hc hn hE I
  have C : Cx p s m meth c D T Z "EndingTown$Wrong" cX13_init 2 none := ⟨hx, hb, hml, hown, hE, hr, hlk⟩
  refine w_entry [.inr (.inl th), .inl p0] (Nat.le_of_ble_eq_true rfl) (fun ls hl => ?_)
  have hl : LH ls 2 [(0, .inr (.inl th)), (1, .inl p0)] := hl
  obtain ⟨hth, h⟩ := hw
  refine l_ald_n C dX13_init_0 hl 0 rfl rfl ?_
  refine l_null C dX13_init_1 ?_
  refine l_null C dX13_init_2 ?_
  refine lv_iconst (v := 0) C.1 C.2.1 dX13_init_3 (by decide) ?_
  refine lv_iconst (v := 0) C.1 C.2.1 dX13_init_4 (by decide) ?_
  refine k_call Ext.tr C I (k_I (r := th) (As := [va_rf none, va_rf none, .int ((0 : Int32)), .int ((0 : Int32))]) (rest := []) (y := yJ4_init_2) C hth.ad.1 rfl q846 q847 q848 (by decide) rfl pd_J4_init_2 rfl dX13_init_5) (ct_J4_init_2_k10 h) hl.1 dX13_init_5 [] rfl (Nat.le_of_ble_eq_true rfl) (Or.inl rfl) q848 q115 ⟨Nat.le_of_ble_eq_true rfl, Nat.le_of_ble_eq_true rfl⟩ (fun v G1 H locs cells slots xG1 hq I => ?_) (fun a G9 H locs cells slots ex hq I => hq.elim)
  obtain ⟨rfl, h⟩ := hq
  have h := h xG1
  refine l_ald_n C dX13_init_8 hl 0 rfl rfl ?_
  refine l_ild_n C dX13_init_9 hl 1 rfl rfl ?_
  refine P_I C I fp_X13_7_10 (fun _ => hnm) (by decide) (by decide) (hth.ext (by decide) xG1) dX13_init_10 (fit_i _) (fun H locs G3 eG3 xG3 I => ?_)
  have h := h G3 eG3
  exact r_void C.1 C.2.1 C.2.2.2.2.2.1 C.2.2.2.2.2.2 ⟨rfl, rfl⟩ I dX13_init_13 ⟨rfl, h⟩
def w_X12_want (T : Nat → ClassId) (Q : Hp → Prop) (E : Nat → Hp → Prop) (th : Option Nat) (p0 : Int32) (p1 : Int32) (G : Hp) : Prop := isO G th 9 ∧ (((¬ p0 = 0) → (Q G)) ∧ ((p0 = 0) → (1 ≤ gC G ∧ 7 ≤ gS G ∧ ∀ G1 : Hp, G1 = nw G 10 0 7 → w_X13_init T (fun G2 => Ext G1 G2 → E  (gZ G) G2) ((some (gZ G))) p1 G1)))
theorem pd_X12_want : (parseMethodDescriptor yX12_want.desc).map (fun d => d.parameters.length) = some 2 := by decide +kernel
set_option maxHeartbeats 4000000 in
theorem ct_X12_want {l : Launch} {D : va_G} {T : Nat → ClassId} {Z : Heap} {G0 : Hp} {Q : Hp → Prop} {E : Nat → Hp → Prop} {th : Option Nat} {p0 : Int32} {p1 : Int32} (hLf : l.flags = flags0) (hw : w_X12_want T Q E th p0 p1 G0) : CT (twd D T Z) (Evd D T Z) l yX12_want (Cond.code yX12_want cX12_want 3 none) 4 89 [va_rf th, .int p0, .int p1] G0 (qV Q) E := by
  refine CT.ofW (cc := cX12_want) (nL := 3) (ret := none) Ext.rf (by decide) (Or.inl rfl) ?_
  intro p e s m below meth c hx hb hml hown hr hlk hnm hcb hm hc hn hE I
  have C : Cx p s m meth c D T Z "EndingTown$Reader" cX12_want 3 none := ⟨hx, hb, hml, hown, hE, hr, hlk⟩
  have hex := noEx hn hm hc hcb
  refine w_entry [.inr (.inl th), .inl p0, .inl p1] (Nat.le_of_ble_eq_true rfl) (fun ls hl => ?_)
  have hl : LH ls 3 [(0, .inr (.inl th)), (1, .inl p0), (2, .inl p1)] := hl
  obtain ⟨hth, h⟩ := hw
  refine l_ild_n C dX12_want_0 hl 1 rfl rfl ?_
  refine lv_if_ne (tgt := 13) C.1 C.2.1 dX12_want_1 (by decide) (fun c4 => ?_) (fun c4 => ?_)
  · have h := h.1 c4
    exact r_void C.1 C.2.1 C.2.2.2.2.2.1 C.2.2.2.2.2.2 ⟨rfl, rfl⟩ I dX12_want_13 ⟨rfl, h⟩
  · have h := h.2 c4
    obtain ⟨hb1, hb2, h⟩ := h
    refine N_obj (kd := 10) C I (by decide) q834 ⟨hb1, hb2⟩ dX12_want_4 (fun H cells slots G1 eG1 xG1 I => ?_)
    have h := h G1 eG1
    have hnG1 : isO G1 (some (gZ G0)) 10 := ⟨_, rfl, by rw [eG1]; exact gK_nw⟩
    refine lv_dup C.1 C.2.1 dX12_want_7 (cat_rf _) ?_
    refine l_ild_n C dX12_want_8 hl 2 rfl rfl ?_
    refine k_call Ext.tr C I (k_I (r := (some (gZ G0))) (As := [.int p1]) (rest := [va_rf ((some (gZ G0)))]) (y := yX13_init) C hnG1.ad.1 rfl q843 q844 q845 (by decide) rfl pd_X13_init rfl dX12_want_9) (ct_X13_init h) hl.1 dX12_want_9 [.inr (.inl ((some (gZ G0))))] rfl (Nat.le_of_ble_eq_true rfl) (Or.inl rfl) q845 q124 ⟨Nat.le_of_ble_eq_true rfl, Nat.le_of_ble_eq_true rfl⟩ (fun v G2 H locs cells slots xG2 hq I => ?_) (fun a G9 H locs cells slots ex hq I => hq.elim)
    obtain ⟨rfl, h⟩ := hq
    have h := h xG2
    exact t_athrow C.1 C.2.1 dX12_want_12 (t_out C.2.2.2.2.2.2 ⟨rfl, rfl⟩ (fun z hz => hex z hz _) I h)
def w_X12_numberNow_53 (T : Nat → ClassId) (Q : Int32 → Hp → Prop) (E : Nat → Hp → Prop) (th : Option Nat) (t0 : Int32) (G : Hp) : Prop := w_X12_want T (fun G1 => Ext G G1 → Q (gI G1 (ad th) 6) G1) E th t0 ((2 : Int32)) G
set_option maxHeartbeats 4000000 in
theorem b_X12_numberNow_53 {G0 : Hp} {Q : Int32 → Hp → Prop} {E : Nat → Hp → Prop} {th : Option Nat} (C : Cx p s m meth c D T Z "EndingTown$Reader" cX12_numberNow 3 (some .int)) (hex : ∀ z ∈ c.exceptionTable.toList, ∀ pc, covers z pc = false) (hLf : l.flags = flags0) : ∀ (t0 : Int32) (G : Hp) (H : Heap) (locs : List Loc) (cells slots : Nat) (ls : Array Slot), w_X12_numberNow_53 T Q E th t0 G → isO G th 9 → HI (twd D T Z) G0 s (rmX (twd D T Z) 5 111 G0) H locs cells slots G → LH ls 3 [(0, .inr (.inl th))] → W p l e (rmX (twd D T Z) 5 111 G0) s m args below meth c H locs cells slots (MQX (twd D T Z) G0 (qI Q) E below s) (F0 m 53 ls [.int t0, va_rf th]) := by
  intro t0 G H locs cells slots ls h hth I hl
  refine lv_iconst (v := 2) C.1 C.2.1 dX12_numberNow_53 (by decide) ?_
  refine k_call Ext.tr C I (k_V (r := th) (As := [.int t0, .int ((2 : Int32))]) (rest := []) (y := yX12_want) C ⟨hth.ad.1, I.recv C.2.2.2.2.1 hth (by decide)⟩ q830 q832 qs14 (Or.inl rfl) q833 (by decide) rfl pd_X12_want rfl dX12_numberNow_54) (ct_X12_want hLf h) hl.1 dX12_numberNow_54 [] rfl (Nat.le_of_ble_eq_true rfl) (Or.inl rfl) q833 q118 ⟨Nat.le_of_ble_eq_true rfl, Nat.le_of_ble_eq_true rfl⟩ (fun v G1 H locs cells slots xG1 hq I => ?_) (fun a G9 H locs cells slots ex hq I => t_out C.2.2.2.2.2.2 ⟨rfl, rfl⟩ (fun z hz => hex z hz _) I hq)
  obtain ⟨rfl, h⟩ := hq
  have h := h xG1
  refine l_ald_n C dX12_numberNow_57 hl 0 rfl rfl ?_
  refine g_I C I fl_X12_54_9 (by decide) (by decide) (hth.ext (by decide) xG1) dX12_numberNow_58 ?_
  exact r_int C.1 C.2.1 C.2.2.2.2.2.1 rfl C.2.2.2.2.2.2 ⟨rfl, rfl⟩ I dX12_numberNow_61 ⟨_, rfl, h⟩
def w_X12_numberNow_52 (T : Nat → ClassId) (Q : Int32 → Hp → Prop) (E : Nat → Hp → Prop) (th : Option Nat) (G : Hp) : Prop := w_X12_numberNow_53 T Q E th ((0 : Int32)) G
set_option maxHeartbeats 4000000 in
theorem b_X12_numberNow_52 {G0 : Hp} {Q : Int32 → Hp → Prop} {E : Nat → Hp → Prop} {th : Option Nat} (C : Cx p s m meth c D T Z "EndingTown$Reader" cX12_numberNow 3 (some .int)) (hex : ∀ z ∈ c.exceptionTable.toList, ∀ pc, covers z pc = false) (hLf : l.flags = flags0) : ∀ (G : Hp) (H : Heap) (locs : List Loc) (cells slots : Nat) (ls : Array Slot), w_X12_numberNow_52 T Q E th G → isO G th 9 → HI (twd D T Z) G0 s (rmX (twd D T Z) 5 111 G0) H locs cells slots G → LH ls 3 [(0, .inr (.inl th))] → W p l e (rmX (twd D T Z) 5 111 G0) s m args below meth c H locs cells slots (MQX (twd D T Z) G0 (qI Q) E below s) (F0 m 52 ls [va_rf th]) := by
  intro G H locs cells slots ls h hth I hl
  refine lv_iconst (v := 0) C.1 C.2.1 dX12_numberNow_52 (by decide) ?_
  exact b_X12_numberNow_53 C hex hLf ((0 : Int32)) G _ _ _ _ _ h hth I (hl.sub [0] rfl)
def w_X12_numberNow_14 (T : Nat → ClassId) (Q : Int32 → Hp → Prop) (E : Nat → Hp → Prop) (th : Option Nat) (l1 : Int32) (l2 : Int32) (t0 : Int32) (G : Hp) : Prop := w_X12_want T (fun G1 => Ext G G1 → (((3 : Int32) < (gI G1 (ad th) 5 - gI G1 (ad th) 4)) → (w_X12_numberNow_52 T Q E th G1)) ∧ ((¬ (3 : Int32) < (gI G1 (ad th) 5 - gI G1 (ad th) 4)) → (((gI G1 (ad th) 6 < l1) → (w_X12_numberNow_52 T Q E th G1)) ∧ ((¬ gI G1 (ad th) 6 < l1) → (((l2 < gI G1 (ad th) 6) → (w_X12_numberNow_52 T Q E th G1)) ∧ ((¬ l2 < gI G1 (ad th) 6) → (w_X12_numberNow_53 T Q E th ((1 : Int32)) G1))))))) E th t0 ((1 : Int32)) G
set_option maxHeartbeats 4000000 in
theorem b_X12_numberNow_14 {G0 : Hp} {Q : Int32 → Hp → Prop} {E : Nat → Hp → Prop} {th : Option Nat} (C : Cx p s m meth c D T Z "EndingTown$Reader" cX12_numberNow 3 (some .int)) (hex : ∀ z ∈ c.exceptionTable.toList, ∀ pc, covers z pc = false) (hLf : l.flags = flags0) : ∀ (l1 : Int32) (l2 : Int32) (t0 : Int32) (G : Hp) (H : Heap) (locs : List Loc) (cells slots : Nat) (ls : Array Slot), w_X12_numberNow_14 T Q E th l1 l2 t0 G → isO G th 9 → HI (twd D T Z) G0 s (rmX (twd D T Z) 5 111 G0) H locs cells slots G → LH ls 3 [(0, .inr (.inl th)), (1, .inl l1), (2, .inl l2)] → W p l e (rmX (twd D T Z) 5 111 G0) s m args below meth c H locs cells slots (MQX (twd D T Z) G0 (qI Q) E below s) (F0 m 14 ls [.int t0, va_rf th]) := by
  intro l1 l2 t0 G H locs cells slots ls h hth I hl
  refine lv_iconst (v := 1) C.1 C.2.1 dX12_numberNow_14 (by decide) ?_
  refine k_call Ext.tr C I (k_V (r := th) (As := [.int t0, .int ((1 : Int32))]) (rest := []) (y := yX12_want) C ⟨hth.ad.1, I.recv C.2.2.2.2.1 hth (by decide)⟩ q830 q832 qs14 (Or.inl rfl) q833 (by decide) rfl pd_X12_want rfl dX12_numberNow_15) (ct_X12_want hLf h) hl.1 dX12_numberNow_15 [] rfl (Nat.le_of_ble_eq_true rfl) (Or.inl rfl) q833 q118 ⟨Nat.le_of_ble_eq_true rfl, Nat.le_of_ble_eq_true rfl⟩ (fun v G1 H locs cells slots xG1 hq I => ?_) (fun a G9 H locs cells slots ex hq I => t_out C.2.2.2.2.2.2 ⟨rfl, rfl⟩ (fun z hz => hex z hz _) I hq)
  obtain ⟨rfl, h⟩ := hq
  have h := h xG1
  refine l_ald_n C dX12_numberNow_18 hl 0 rfl rfl ?_
  refine l_ald_n C dX12_numberNow_19 hl 0 rfl rfl ?_
  refine g_I C I fl_X12_63_9 (by decide) (by decide) (hth.ext (by decide) xG1) dX12_numberNow_20 ?_
  refine l_ald_n C dX12_numberNow_23 hl 0 rfl rfl ?_
  refine g_I C I fl_X12_41_9 (by decide) (by decide) (hth.ext (by decide) xG1) dX12_numberNow_24 ?_
  refine lv_isub C.1 C.2.1 dX12_numberNow_27 ?_
  refine lv_iconst (v := 3) C.1 C.2.1 dX12_numberNow_28 (by decide) ?_
  refine lv_icmp_gt (tgt := 52) C.1 C.2.1 dX12_numberNow_29 (by decide) (fun c5 => ?_) (fun c5 => ?_)
  · have h := h.1 c5
    exact b_X12_numberNow_52 C hex hLf G1 _ _ _ _ _ h (hth.ext (by decide) xG1) I (hl.sub [0] rfl)
  · have h := h.2 c5
    refine l_ald_n C dX12_numberNow_32 hl 0 rfl rfl ?_
    refine g_I C I fl_X12_54_9 (by decide) (by decide) (hth.ext (by decide) xG1) dX12_numberNow_33 ?_
    refine l_ild_n C dX12_numberNow_36 hl 1 rfl rfl ?_
    refine lv_icmp_lt (tgt := 52) C.1 C.2.1 dX12_numberNow_37 (by decide) (fun c4 => ?_) (fun c4 => ?_)
    · have h := h.1 c4
      exact b_X12_numberNow_52 C hex hLf G1 _ _ _ _ _ h (hth.ext (by decide) xG1) I (hl.sub [0] rfl)
    · have h := h.2 c4
      refine l_ald_n C dX12_numberNow_40 hl 0 rfl rfl ?_
      refine g_I C I fl_X12_54_9 (by decide) (by decide) (hth.ext (by decide) xG1) dX12_numberNow_41 ?_
      refine l_ild_n C dX12_numberNow_44 hl 2 rfl rfl ?_
      refine lv_icmp_gt (tgt := 52) C.1 C.2.1 dX12_numberNow_45 (by decide) (fun c3 => ?_) (fun c3 => ?_)
      · have h := h.1 c3
        exact b_X12_numberNow_52 C hex hLf G1 _ _ _ _ _ h (hth.ext (by decide) xG1) I (hl.sub [0] rfl)
      · have h := h.2 c3
        refine lv_iconst (v := 1) C.1 C.2.1 dX12_numberNow_48 (by decide) ?_
        refine lv_goto (tgt := 53) C.1 C.2.1 dX12_numberNow_49 (by decide) ?_
        exact b_X12_numberNow_53 C hex hLf ((1 : Int32)) G1 _ _ _ _ _ h (hth.ext (by decide) xG1) I (hl.sub [0] rfl)
def w_X12_numberNow (T : Nat → ClassId) (Q : Int32 → Hp → Prop) (E : Nat → Hp → Prop) (th : Option Nat) (p0 : Int32) (p1 : Int32) (G : Hp) : Prop := isO G th 9 ∧ (((¬ gI G (ad th) 3 = (2 : Int32)) → (w_X12_numberNow_14 T Q E th p0 p1 ((0 : Int32)) G)) ∧ ((gI G (ad th) 3 = (2 : Int32)) → (w_X12_numberNow_14 T Q E th p0 p1 ((1 : Int32)) G)))
theorem pd_X12_numberNow : (parseMethodDescriptor yX12_numberNow.desc).map (fun d => d.parameters.length) = some 2 := by decide +kernel
set_option maxHeartbeats 4000000 in
theorem ct_X12_numberNow {l : Launch} {D : va_G} {T : Nat → ClassId} {Z : Heap} {G0 : Hp} {Q : Int32 → Hp → Prop} {E : Nat → Hp → Prop} {th : Option Nat} {p0 : Int32} {p1 : Int32} (hLf : l.flags = flags0) (hw : w_X12_numberNow T Q E th p0 p1 G0) : CT (twd D T Z) (Evd D T Z) l yX12_numberNow (Cond.code yX12_numberNow cX12_numberNow 3 (some .int)) 5 111 [va_rf th, .int p0, .int p1] G0 (qI Q) E := by
  refine CT.ofW (cc := cX12_numberNow) (nL := 3) (ret := (some .int)) Ext.rf (by decide) (Or.inl rfl) ?_
  intro p e s m below meth c hx hb hml hown hr hlk hnm hcb hm hc hn hE I
  have C : Cx p s m meth c D T Z "EndingTown$Reader" cX12_numberNow 3 (some .int) := ⟨hx, hb, hml, hown, hE, hr, hlk⟩
  have hex := noEx hn hm hc hcb
  refine w_entry [.inr (.inl th), .inl p0, .inl p1] (Nat.le_of_ble_eq_true rfl) (fun ls hl => ?_)
  have hl : LH ls 3 [(0, .inr (.inl th)), (1, .inl p0), (2, .inl p1)] := hl
  obtain ⟨hth, h⟩ := hw
  refine l_ald_n C dX12_numberNow_0 hl 0 rfl rfl ?_
  refine l_ald_n C dX12_numberNow_1 hl 0 rfl rfl ?_
  refine g_I C I fl_X12_44_9 (by decide) (by decide) hth dX12_numberNow_2 ?_
  refine lv_iconst (v := 2) C.1 C.2.1 dX12_numberNow_5 (by decide) ?_
  refine lv_icmp_ne (tgt := 13) C.1 C.2.1 dX12_numberNow_6 (by decide) (fun c1 => ?_) (fun c1 => ?_)
  · have h := h.1 c1
    refine lv_iconst (v := 0) C.1 C.2.1 dX12_numberNow_13 (by decide) ?_
    exact b_X12_numberNow_14 C hex hLf p0 p1 ((0 : Int32)) G0 _ _ _ _ _ h hth I (hl.sub [0, 1, 2] rfl)
  · have h := h.2 c1
    refine lv_iconst (v := 1) C.1 C.2.1 dX12_numberNow_9 (by decide) ?_
    refine lv_goto (tgt := 14) C.1 C.2.1 dX12_numberNow_10 (by decide) ?_
    exact b_X12_numberNow_14 C hex hLf p0 p1 ((1 : Int32)) G0 _ _ _ _ _ h hth I (hl.sub [0, 1, 2] rfl)
def w_X12_number (T : Nat → ClassId) (Q : Int32 → Hp → Prop) (E : Nat → Hp → Prop) (th : Option Nat) (p0 : Int32) (p1 : Int32) (G : Hp) : Prop := isO G th 9 ∧ (w_X12_numberNow T (fun r2 G1 => Ext G G1 → w_X12_next T (fun G3 => Ext G1 G3 → Q r2 G3) th G1) E th p0 p1 G)
theorem pd_X12_number : (parseMethodDescriptor yX12_number.desc).map (fun d => d.parameters.length) = some 2 := by decide +kernel
set_option maxHeartbeats 4000000 in
theorem ct_X12_number {l : Launch} {D : va_G} {T : Nat → ClassId} {Z : Heap} {G0 : Hp} {Q : Int32 → Hp → Prop} {E : Nat → Hp → Prop} {th : Option Nat} {p0 : Int32} {p1 : Int32} (hLf : l.flags = flags0) (hw : w_X12_number T Q E th p0 p1 G0) : CT (twd D T Z) (Evd D T Z) l yX12_number (Cond.code yX12_number cX12_number 4 (some .int)) 6 133 [va_rf th, .int p0, .int p1] G0 (qI Q) E := by
  refine CT.ofW (cc := cX12_number) (nL := 4) (ret := (some .int)) Ext.rf (by decide) (Or.inl rfl) ?_
  intro p e s m below meth c hx hb hml hown hr hlk hnm hcb hm hc hn hE I
  have C : Cx p s m meth c D T Z "EndingTown$Reader" cX12_number 4 (some .int) := ⟨hx, hb, hml, hown, hE, hr, hlk⟩
  have hex := noEx hn hm hc hcb
  refine w_entry [.inr (.inl th), .inl p0, .inl p1] (Nat.le_of_ble_eq_true rfl) (fun ls hl => ?_)
  have hl : LH ls 4 [(0, .inr (.inl th)), (1, .inl p0), (2, .inl p1)] := hl
  obtain ⟨hth, h⟩ := hw
  refine l_ald_n C dX12_number_0 hl 0 rfl rfl ?_
  refine l_ild_n C dX12_number_1 hl 1 rfl rfl ?_
  refine l_ild_n C dX12_number_2 hl 2 rfl rfl ?_
  refine k_call Ext.tr C I (k_V (r := th) (As := [.int p0, .int p1]) (rest := []) (y := yX12_numberNow) C ⟨hth.ad.1, I.recv C.2.2.2.2.1 hth (by decide)⟩ q862 q864 qs16 (Or.inl rfl) q865 (by decide) rfl pd_X12_numberNow rfl dX12_number_3) (ct_X12_numberNow hLf h) hl.1 dX12_number_3 [] rfl (Nat.le_of_ble_eq_true rfl) (Or.inl rfl) q865 q118 ⟨Nat.le_of_ble_eq_true rfl, Nat.le_of_ble_eq_true rfl⟩ (fun v G1 H locs cells slots xG1 hq I => ?_) (fun a G9 H locs cells slots ex hq I => t_out C.2.2.2.2.2.2 ⟨rfl, rfl⟩ (fun z hz => hex z hz _) I hq)
  obtain ⟨r2, rfl, h⟩ := hq
  have h := h xG1
  refine l_ist_n C dX12_number_6 rfl hl (by decide) rfl (fun ls hl => ?_)
  have hl : LH ls 4 [(3, .inl r2), (0, .inr (.inl th)), (1, .inl p0), (2, .inl p1)] := hl
  refine l_ald_n C dX12_number_7 hl 1 rfl rfl ?_
  refine k_call Ext.tr C I (k_V (r := th) (As := []) (rest := []) (y := yX12_next) C ⟨(hth.ext (by decide) xG1).ad.1, I.recv C.2.2.2.2.1 (hth.ext (by decide) xG1) (by decide)⟩ q751 q752 q753 (Or.inl rfl) q754 (by decide) rfl pd_X12_next rfl dX12_number_8) (ct_X12_next h) hl.1 dX12_number_8 [] rfl (Nat.le_of_ble_eq_true rfl) (Or.inl rfl) q754 q118 ⟨Nat.le_of_ble_eq_true rfl, Nat.le_of_ble_eq_true rfl⟩ (fun v G3 H locs cells slots xG3 hq I => ?_) (fun a G9 H locs cells slots ex hq I => hq.elim)
  obtain ⟨rfl, h⟩ := hq
  have h := h xG3
  refine l_ild_n C dX12_number_11 hl 0 rfl rfl ?_
  exact r_int C.1 C.2.1 C.2.2.2.2.2.1 rfl C.2.2.2.2.2.2 ⟨rfl, rfl⟩ I dX12_number_12 ⟨_, rfl, h⟩
def w_X12_oneNow_23 (T : Nat → ClassId) (Q : Int32 → Hp → Prop) (E : Nat → Hp → Prop) (th : Option Nat) (t0 : Int32) (G : Hp) : Prop := w_X12_want T (fun G1 => Ext G G1 → Q (gI G1 (ad th) 6) G1) E th t0 ((3 : Int32)) G
set_option maxHeartbeats 4000000 in
theorem b_X12_oneNow_23 {G0 : Hp} {Q : Int32 → Hp → Prop} {E : Nat → Hp → Prop} {th : Option Nat} (C : Cx p s m meth c D T Z "EndingTown$Reader" cX12_oneNow 2 (some .int)) (hex : ∀ z ∈ c.exceptionTable.toList, ∀ pc, covers z pc = false) (hLf : l.flags = flags0) : ∀ (t0 : Int32) (G : Hp) (H : Heap) (locs : List Loc) (cells slots : Nat) (ls : Array Slot), w_X12_oneNow_23 T Q E th t0 G → isO G th 9 → HI (twd D T Z) G0 s (rmX (twd D T Z) 6 133 G0) H locs cells slots G → LH ls 2 [(0, .inr (.inl th))] → W p l e (rmX (twd D T Z) 6 133 G0) s m args below meth c H locs cells slots (MQX (twd D T Z) G0 (qI Q) E below s) (F0 m 23 ls [.int t0, va_rf th]) := by
  intro t0 G H locs cells slots ls h hth I hl
  refine lv_iconst (v := 3) C.1 C.2.1 dX12_oneNow_23 (by decide) ?_
  refine k_call Ext.tr C I (k_V (r := th) (As := [.int t0, .int ((3 : Int32))]) (rest := []) (y := yX12_want) C ⟨hth.ad.1, I.recv C.2.2.2.2.1 hth (by decide)⟩ q830 q832 qs14 (Or.inl rfl) q833 (by decide) rfl pd_X12_want rfl dX12_oneNow_24) (ct_X12_want hLf h) hl.1 dX12_oneNow_24 [] rfl (Nat.le_of_ble_eq_true rfl) (Or.inl rfl) q833 q118 ⟨Nat.le_of_ble_eq_true rfl, Nat.le_of_ble_eq_true rfl⟩ (fun v G1 H locs cells slots xG1 hq I => ?_) (fun a G9 H locs cells slots ex hq I => t_out C.2.2.2.2.2.2 ⟨rfl, rfl⟩ (fun z hz => hex z hz _) I hq)
  obtain ⟨rfl, h⟩ := hq
  have h := h xG1
  refine l_ald_n C dX12_oneNow_27 hl 0 rfl rfl ?_
  refine g_I C I fl_X12_54_9 (by decide) (by decide) (hth.ext (by decide) xG1) dX12_oneNow_28 ?_
  exact r_int C.1 C.2.1 C.2.2.2.2.2.1 rfl C.2.2.2.2.2.2 ⟨rfl, rfl⟩ I dX12_oneNow_31 ⟨_, rfl, h⟩
def w_X12_oneNow (T : Nat → ClassId) (Q : Int32 → Hp → Prop) (E : Nat → Hp → Prop) (th : Option Nat) (p0 : Int32) (G : Hp) : Prop := isO G th 9 ∧ (w_X12_numberNow T (fun r2 G1 => Ext G G1 → ((p0 ≤ gI G1 (ad th) 6) → (w_X12_oneNow_23 T Q E th ((0 : Int32)) G1)) ∧ ((¬ p0 ≤ gI G1 (ad th) 6) → (w_X12_oneNow_23 T Q E th ((1 : Int32)) G1))) E th ((0 : Int32)) ((999 : Int32)) G)
theorem pd_X12_oneNow : (parseMethodDescriptor yX12_oneNow.desc).map (fun d => d.parameters.length) = some 1 := by decide +kernel
set_option maxHeartbeats 4000000 in
theorem ct_X12_oneNow {l : Launch} {D : va_G} {T : Nat → ClassId} {Z : Heap} {G0 : Hp} {Q : Int32 → Hp → Prop} {E : Nat → Hp → Prop} {th : Option Nat} {p0 : Int32} (hLf : l.flags = flags0) (hw : w_X12_oneNow T Q E th p0 G0) : CT (twd D T Z) (Evd D T Z) l yX12_oneNow (Cond.code yX12_oneNow cX12_oneNow 2 (some .int)) 6 133 [va_rf th, .int p0] G0 (qI Q) E := by
  refine CT.ofW (cc := cX12_oneNow) (nL := 2) (ret := (some .int)) Ext.rf (by decide) (Or.inl rfl) ?_
  intro p e s m below meth c hx hb hml hown hr hlk hnm hcb hm hc hn hE I
  have C : Cx p s m meth c D T Z "EndingTown$Reader" cX12_oneNow 2 (some .int) := ⟨hx, hb, hml, hown, hE, hr, hlk⟩
  have hex := noEx hn hm hc hcb
  refine w_entry [.inr (.inl th), .inl p0] (Nat.le_of_ble_eq_true rfl) (fun ls hl => ?_)
  have hl : LH ls 2 [(0, .inr (.inl th)), (1, .inl p0)] := hl
  obtain ⟨hth, h⟩ := hw
  refine l_ald_n C dX12_oneNow_0 hl 0 rfl rfl ?_
  refine lv_iconst (v := 0) C.1 C.2.1 dX12_oneNow_1 (by decide) ?_
  refine lv_sipush (v := 999) C.1 C.2.1 dX12_oneNow_2 (by decide) ?_
  refine k_call Ext.tr C I (k_V (r := th) (As := [.int ((0 : Int32)), .int ((999 : Int32))]) (rest := []) (y := yX12_numberNow) C ⟨hth.ad.1, I.recv C.2.2.2.2.1 hth (by decide)⟩ q862 q864 qs16 (Or.inl rfl) q865 (by decide) rfl pd_X12_numberNow rfl dX12_oneNow_5) (ct_X12_numberNow hLf h) hl.1 dX12_oneNow_5 [] rfl (Nat.le_of_ble_eq_true rfl) (Or.inl rfl) q865 q118 ⟨Nat.le_of_ble_eq_true rfl, Nat.le_of_ble_eq_true rfl⟩ (fun v G1 H locs cells slots xG1 hq I => ?_) (fun a G9 H locs cells slots ex hq I => t_out C.2.2.2.2.2.2 ⟨rfl, rfl⟩ (fun z hz => hex z hz _) I hq)
  obtain ⟨r2, rfl, h⟩ := hq
  have h := h xG1
  refine lv_pop C.1 C.2.1 dX12_oneNow_8 rfl ?_
  refine l_ald_n C dX12_oneNow_9 hl 0 rfl rfl ?_
  refine l_ald_n C dX12_oneNow_10 hl 0 rfl rfl ?_
  refine g_I C I fl_X12_54_9 (by decide) (by decide) (hth.ext (by decide) xG1) dX12_oneNow_11 ?_
  refine l_ild_n C dX12_oneNow_14 hl 1 rfl rfl ?_
  refine lv_icmp_ge (tgt := 22) C.1 C.2.1 dX12_oneNow_15 (by decide) (fun c3 => ?_) (fun c3 => ?_)
  · have h := h.1 c3
    refine lv_iconst (v := 0) C.1 C.2.1 dX12_oneNow_22 (by decide) ?_
    exact b_X12_oneNow_23 C hex hLf ((0 : Int32)) G1 _ _ _ _ _ h (hth.ext (by decide) xG1) I (hl.sub [0] rfl)
  · have h := h.2 c3
    refine lv_iconst (v := 1) C.1 C.2.1 dX12_oneNow_18 (by decide) ?_
    refine lv_goto (tgt := 23) C.1 C.2.1 dX12_oneNow_19 (by decide) ?_
    exact b_X12_oneNow_23 C hex hLf ((1 : Int32)) G1 _ _ _ _ _ h (hth.ext (by decide) xG1) I (hl.sub [0] rfl)
def w_X12_one (T : Nat → ClassId) (Q : Int32 → Hp → Prop) (E : Nat → Hp → Prop) (th : Option Nat) (p0 : Int32) (G : Hp) : Prop := isO G th 9 ∧ (w_X12_oneNow T (fun r2 G1 => Ext G G1 → w_X12_next T (fun G3 => Ext G1 G3 → Q r2 G3) th G1) E th p0 G)
theorem pd_X12_one : (parseMethodDescriptor yX12_one.desc).map (fun d => d.parameters.length) = some 1 := by decide +kernel
set_option maxHeartbeats 4000000 in
theorem ct_X12_one {l : Launch} {D : va_G} {T : Nat → ClassId} {Z : Heap} {G0 : Hp} {Q : Int32 → Hp → Prop} {E : Nat → Hp → Prop} {th : Option Nat} {p0 : Int32} (hLf : l.flags = flags0) (hw : w_X12_one T Q E th p0 G0) : CT (twd D T Z) (Evd D T Z) l yX12_one (Cond.code yX12_one cX12_one 3 (some .int)) 7 154 [va_rf th, .int p0] G0 (qI Q) E := by
  refine CT.ofW (cc := cX12_one) (nL := 3) (ret := (some .int)) Ext.rf (by decide) (Or.inl rfl) ?_
  intro p e s m below meth c hx hb hml hown hr hlk hnm hcb hm hc hn hE I
  have C : Cx p s m meth c D T Z "EndingTown$Reader" cX12_one 3 (some .int) := ⟨hx, hb, hml, hown, hE, hr, hlk⟩
  have hex := noEx hn hm hc hcb
  refine w_entry [.inr (.inl th), .inl p0] (Nat.le_of_ble_eq_true rfl) (fun ls hl => ?_)
  have hl : LH ls 3 [(0, .inr (.inl th)), (1, .inl p0)] := hl
  obtain ⟨hth, h⟩ := hw
  refine l_ald_n C dX12_one_0 hl 0 rfl rfl ?_
  refine l_ild_n C dX12_one_1 hl 1 rfl rfl ?_
  refine k_call Ext.tr C I (k_V (r := th) (As := [.int p0]) (rest := []) (y := yX12_oneNow) C ⟨hth.ad.1, I.recv C.2.2.2.2.1 hth (by decide)⟩ q879 q881 qs20 (Or.inl rfl) q882 (by decide) rfl pd_X12_oneNow rfl dX12_one_2) (ct_X12_oneNow hLf h) hl.1 dX12_one_2 [] rfl (Nat.le_of_ble_eq_true rfl) (Or.inl rfl) q882 q118 ⟨Nat.le_of_ble_eq_true rfl, Nat.le_of_ble_eq_true rfl⟩ (fun v G1 H locs cells slots xG1 hq I => ?_) (fun a G9 H locs cells slots ex hq I => t_out C.2.2.2.2.2.2 ⟨rfl, rfl⟩ (fun z hz => hex z hz _) I hq)
  obtain ⟨r2, rfl, h⟩ := hq
  have h := h xG1
  refine l_ist_n C dX12_one_5 rfl hl (by decide) rfl (fun ls hl => ?_)
  have hl : LH ls 3 [(2, .inl r2), (0, .inr (.inl th)), (1, .inl p0)] := hl
  refine l_ald_n C dX12_one_6 hl 1 rfl rfl ?_
  refine k_call Ext.tr C I (k_V (r := th) (As := []) (rest := []) (y := yX12_next) C ⟨(hth.ext (by decide) xG1).ad.1, I.recv C.2.2.2.2.1 (hth.ext (by decide) xG1) (by decide)⟩ q751 q752 q753 (Or.inl rfl) q754 (by decide) rfl pd_X12_next rfl dX12_one_7) (ct_X12_next h) hl.1 dX12_one_7 [] rfl (Nat.le_of_ble_eq_true rfl) (Or.inl rfl) q754 q118 ⟨Nat.le_of_ble_eq_true rfl, Nat.le_of_ble_eq_true rfl⟩ (fun v G3 H locs cells slots xG3 hq I => ?_) (fun a G9 H locs cells slots ex hq I => hq.elim)
  obtain ⟨rfl, h⟩ := hq
  have h := h xG3
  refine l_ild_n C dX12_one_10 hl 0 rfl rfl ?_
  exact r_int C.1 C.2.1 C.2.2.2.2.2.1 rfl C.2.2.2.2.2.2 ⟨rfl, rfl⟩ I dX12_one_11 ⟨_, rfl, h⟩
def w_X12_at (T : Nat → ClassId) (Q : Hp → Prop) (E : Nat → Hp → Prop) (th : Option Nat) (G : Hp) : Prop := isO G th 9 ∧ (∀ G1 : Hp, G1 = wI G (ad th) 8 ((1 : Int32)) → isO G1 (gR G1 (ad th) 1) 2 ∧ w_X12_one T (fun r4 G3 => Ext G1 G3 → w_X12_number T (fun r6 G5 => Ext G3 G5 → isO G5 (gR G5 (ad th) 1) 2 ∧ w_X12_one T (fun r9 G8 => Ext G5 G8 → isO G8 (gR G5 (ad (gR G5 (ad th) 1)) 6) 50 ∧ vp_in ((((24 : Int32) * r4) + r6)) (gN G8 (ad (gR G5 (ad (gR G5 (ad th) 1)) 6))) ∧ ∀ G11 : Hp, G11 = wI G8 (ad (gR G5 (ad (gR G5 (ad th) 1)) 6)) ((((24 : Int32) * r4) + r6)).toNatClampNeg r9 → Q G11) E th (gI G5 (ad (gR G5 (ad th) 1)) 9) G5) E th ((0 : Int32)) ((23 : Int32)) G3) E th (gI G1 (ad (gR G1 (ad th) 1)) 10) G1)
theorem pd_X12_at : (parseMethodDescriptor yX12_at.desc).map (fun d => d.parameters.length) = some 0 := by decide +kernel
set_option maxHeartbeats 4000000 in
theorem ct_X12_at {l : Launch} {D : va_G} {T : Nat → ClassId} {Z : Heap} {G0 : Hp} {Q : Hp → Prop} {E : Nat → Hp → Prop} {th : Option Nat} (hLf : l.flags = flags0) (hw : w_X12_at T Q E th G0) : CT (twd D T Z) (Evd D T Z) l yX12_at (Cond.code yX12_at cX12_at 3 none) 8 176 [va_rf th] G0 (qV Q) E := by
  refine CT.ofW (cc := cX12_at) (nL := 3) (ret := none) Ext.rf (by decide) (Or.inl rfl) ?_
  intro p e s m below meth c hx hb hml hown hr hlk hnm hcb hm hc hn hE I
  have C : Cx p s m meth c D T Z "EndingTown$Reader" cX12_at 3 none := ⟨hx, hb, hml, hown, hE, hr, hlk⟩
  have hex := noEx hn hm hc hcb
  refine w_entry [.inr (.inl th)] (Nat.le_of_ble_eq_true rfl) (fun ls hl => ?_)
  have hl : LH ls 3 [(0, .inr (.inl th))] := hl
  obtain ⟨hth, h⟩ := hw
  refine l_ald_n C dX12_at_0 hl 0 rfl rfl ?_
  refine lv_iconst (v := 1) C.1 C.2.1 dX12_at_1 (by decide) ?_
  refine P_I C I fp_X12_134_9 (fun z => by cases z) (by decide) (by decide) hth dX12_at_2 (fit_z bz1) (fun H locs G1 eG1 xG1 I => ?_)
  have h := h G1 eG1
  refine l_ald_n C dX12_at_5 hl 0 rfl rfl ?_
  refine l_ald_n C dX12_at_6 hl 0 rfl rfl ?_
  refine g_R C I fl_X12_18_9 (by decide) (by decide) (hth.ext (by decide) xG1) dX12_at_7 ?_
  obtain ⟨ho2, h⟩ := h
  refine g_I C I fl_X12_198_2 (by decide) (by decide) ho2 dX12_at_10 ?_
  refine k_call Ext.tr C I (k_V (r := th) (As := [.int (gI G1 (ad (gR G1 (ad th) 1)) 10)]) (rest := []) (y := yX12_one) C ⟨(hth.ext (by decide) xG1).ad.1, I.recv C.2.2.2.2.1 (hth.ext (by decide) xG1) (by decide)⟩ q875 q877 qs19 (Or.inl rfl) q878 (by decide) rfl pd_X12_one rfl dX12_at_13) (ct_X12_one hLf h) hl.1 dX12_at_13 [] rfl (Nat.le_of_ble_eq_true rfl) (Or.inl rfl) q878 q118 ⟨Nat.le_of_ble_eq_true rfl, Nat.le_of_ble_eq_true rfl⟩ (fun v G3 H locs cells slots xG3 hq I => ?_) (fun a G9 H locs cells slots ex hq I => t_out C.2.2.2.2.2.2 ⟨rfl, rfl⟩ (fun z hz => hex z hz _) I hq)
  obtain ⟨r4, rfl, h⟩ := hq
  have h := h xG3
  refine l_ist_n C dX12_at_16 rfl hl (by decide) rfl (fun ls hl => ?_)
  have hl : LH ls 3 [(1, .inl r4), (0, .inr (.inl th))] := hl
  refine l_ald_n C dX12_at_17 hl 1 rfl rfl ?_
  refine lv_iconst (v := 0) C.1 C.2.1 dX12_at_18 (by decide) ?_
  refine lv_bipush (v := 23) C.1 C.2.1 dX12_at_19 (by decide) ?_
  refine k_call Ext.tr C I (k_V (r := th) (As := [.int ((0 : Int32)), .int ((23 : Int32))]) (rest := []) (y := yX12_number) C ⟨(hth.ext (by decide) (Ext.tr _ _ _ xG1 xG3)).ad.1, I.recv C.2.2.2.2.1 (hth.ext (by decide) (Ext.tr _ _ _ xG1 xG3)) (by decide)⟩ q858 q860 qs15 (Or.inl rfl) q861 (by decide) rfl pd_X12_number rfl dX12_at_21) (ct_X12_number hLf h) hl.1 dX12_at_21 [] rfl (Nat.le_of_ble_eq_true rfl) (Or.inl rfl) q861 q118 ⟨Nat.le_of_ble_eq_true rfl, Nat.le_of_ble_eq_true rfl⟩ (fun v G5 H locs cells slots xG5 hq I => ?_) (fun a G9 H locs cells slots ex hq I => t_out C.2.2.2.2.2.2 ⟨rfl, rfl⟩ (fun z hz => hex z hz _) I hq)
  obtain ⟨r6, rfl, h⟩ := hq
  have h := h xG5
  refine l_ist_n C dX12_at_24 rfl hl (by decide) rfl (fun ls hl => ?_)
  have hl : LH ls 3 [(2, .inl r6), (1, .inl r4), (0, .inr (.inl th))] := hl
  refine l_ald_n C dX12_at_25 hl 2 rfl rfl ?_
  refine g_R C I fl_X12_18_9 (by decide) (by decide) (hth.ext (by decide) (Ext.tr _ _ _ xG1 (Ext.tr _ _ _ xG3 xG5))) dX12_at_26 ?_
  obtain ⟨ho7, h⟩ := h
  refine g_R C I fl_X12_201_2 (by decide) (by decide) ho7 dX12_at_29 ?_
  refine lv_bipush (v := 24) C.1 C.2.1 dX12_at_32 (by decide) ?_
  refine l_ild_n C dX12_at_34 hl 1 rfl rfl ?_
  refine lv_imul C.1 C.2.1 dX12_at_35 ?_
  refine l_ild_n C dX12_at_36 hl 0 rfl rfl ?_
  refine lv_iadd C.1 C.2.1 dX12_at_37 ?_
  refine l_ald_n C dX12_at_38 hl 2 rfl rfl ?_
  refine l_ald_n C dX12_at_39 hl 2 rfl rfl ?_
  refine g_R C I fl_X12_18_9 (by decide) (by decide) (hth.ext (by decide) (Ext.tr _ _ _ xG1 (Ext.tr _ _ _ xG3 xG5))) dX12_at_40 ?_
  refine g_I C I fl_X12_137_2 (by decide) (by decide) ho7 dX12_at_43 ?_
  refine k_call Ext.tr C I (k_V (r := th) (As := [.int (gI G5 (ad (gR G5 (ad th) 1)) 9)]) (rest := [.int ((((24 : Int32) * r4) + r6)), va_rf (gR G5 (ad (gR G5 (ad th) 1)) 6)]) (y := yX12_one) C ⟨(hth.ext (by decide) (Ext.tr _ _ _ xG1 (Ext.tr _ _ _ xG3 xG5))).ad.1, I.recv C.2.2.2.2.1 (hth.ext (by decide) (Ext.tr _ _ _ xG1 (Ext.tr _ _ _ xG3 xG5))) (by decide)⟩ q875 q877 qs19 (Or.inl rfl) q878 (by decide) rfl pd_X12_one rfl dX12_at_46) (ct_X12_one hLf h) hl.1 dX12_at_46 [.inl ((((24 : Int32) * r4) + r6)), .inr (.inl (gR G5 (ad (gR G5 (ad th) 1)) 6))] rfl (Nat.le_of_ble_eq_true rfl) (Or.inl rfl) q878 q118 ⟨Nat.le_of_ble_eq_true rfl, Nat.le_of_ble_eq_true rfl⟩ (fun v G8 H locs cells slots xG8 hq I => ?_) (fun a G9 H locs cells slots ex hq I => t_out C.2.2.2.2.2.2 ⟨rfl, rfl⟩ (fun z hz => hex z hz _) I hq)
  obtain ⟨r9, rfl, h⟩ := hq
  have h := h xG8
  obtain ⟨ho10, h⟩ := h
  obtain ⟨hi, h⟩ := h
  refine A_iast C I ho10 hi dX12_at_49 (fun H locs G11 eG11 xG11 I => ?_)
  have h := h G11 eG11
  exact r_void C.1 C.2.1 C.2.2.2.2.2.1 C.2.2.2.2.2.2 ⟨rfl, rfl⟩ I dX12_at_50 ⟨rfl, h⟩
def w_X12_is_24 (T : Nat → ClassId) (Q : Int32 → Hp → Prop) (th : Option Nat) (G : Hp) : Prop := Q (0 : Int32) G
set_option maxHeartbeats 4000000 in
theorem b_X12_is_24 {G0 : Hp} {Q : Int32 → Hp → Prop} {th : Option Nat} (C : Cx p s m meth c D T Z "EndingTown$Reader" cX12_is 3 (some .boolean)) : ∀ (G : Hp) (H : Heap) (locs : List Loc) (cells slots : Nat) (ls : Array Slot), w_X12_is_24 T Q th G → isO G th 9 → HI (twd D T Z) G0 s (rmX (twd D T Z) 5 141 G0) H locs cells slots G → LH ls 3 [] → W p l e (rmX (twd D T Z) 5 141 G0) s m args below meth c H locs cells slots (MQX (twd D T Z) G0 (qI Q) (fun _ _ => False) below s) (F0 m 24 ls []) := by
  intro G H locs cells slots ls h hth I hl
  refine lv_iconst (v := 0) C.1 C.2.1 dX12_is_24 (by decide) ?_
  exact r_int C.1 C.2.1 C.2.2.2.2.2.1 rfl C.2.2.2.2.2.2 ⟨rfl, rfl⟩ I dX12_is_25 ⟨_, rfl, h⟩
def w_X12_is_28 (T : Nat → ClassId) (Q : Int32 → Hp → Prop) (th : Option Nat) : Nat → Option Nat → Int32 → Hp → Prop
  | 0 => fun _ _ _ => False
  | f28 + 1 => fun l1 l2 G => w_J8_length T (fun r2 G1 => Ext G G1 → ((r2 ≤ l2) → (Q (1 : Int32) G1)) ∧ ((¬ r2 ≤ l2) → (w_J8_charAt T (fun r4 G3 => Ext G1 G3 → isO G3 (gR G3 (ad th) 9) 1 ∧ isO G3 (gR G3 (ad (gR G3 (ad th) 9)) 4) 51 ∧ vp_in ((gI G3 (ad th) 4 + l2)) (gN G3 (ad (gR G3 (ad (gR G3 (ad th) 9)) 4))) ∧ ((r4 = gI G3 (ad (gR G3 (ad (gR G3 (ad th) 9)) 4)) ((gI G3 (ad th) 4 + l2)).toNatClampNeg) → ((w_X12_is_28 T Q th f28) l1 ((l2 + 1)) G3)) ∧ ((¬ r4 = gI G3 (ad (gR G3 (ad (gR G3 (ad th) 9)) 4)) ((gI G3 (ad th) 4 + l2)).toNatClampNeg) → (Q (0 : Int32) G3))) l1 l2 G1))) l1 G
set_option maxHeartbeats 4000000 in
theorem b_X12_is_28 {G0 : Hp} {Q : Int32 → Hp → Prop} {th : Option Nat} (C : Cx p s m meth c D T Z "EndingTown$Reader" cX12_is 3 (some .boolean)) : ∀ (n : Nat) (l1 : Option Nat) (l2 : Int32) (G : Hp) (H : Heap) (locs : List Loc) (cells slots : Nat) (ls : Array Slot), w_X12_is_28 T Q th n l1 l2 G → isO G th 9 → HI (twd D T Z) G0 s (rmX (twd D T Z) 5 141 G0) H locs cells slots G → LH ls 3 [(0, .inr (.inl th)), (1, .inr (.inl l1)), (2, .inl l2)] → W p l e (rmX (twd D T Z) 5 141 G0) s m args below meth c H locs cells slots (MQX (twd D T Z) G0 (qI Q) (fun _ _ => False) below s) (F0 m 28 ls []) := by
  intro f28
  induction f28 with
  | zero => intro l1 l2 G H locs cells slots ls h; exact (show False from h).elim
  | succ f28 ih =>
    intro l1 l2 G H locs cells slots ls h hth I hl
    have h : w_J8_length T (fun r2 G1 => Ext G G1 → ((r2 ≤ l2) → (Q (1 : Int32) G1)) ∧ ((¬ r2 ≤ l2) → (w_J8_charAt T (fun r4 G3 => Ext G1 G3 → isO G3 (gR G3 (ad th) 9) 1 ∧ isO G3 (gR G3 (ad (gR G3 (ad th) 9)) 4) 51 ∧ vp_in ((gI G3 (ad th) 4 + l2)) (gN G3 (ad (gR G3 (ad (gR G3 (ad th) 9)) 4))) ∧ ((r4 = gI G3 (ad (gR G3 (ad (gR G3 (ad th) 9)) 4)) ((gI G3 (ad th) 4 + l2)).toNatClampNeg) → ((w_X12_is_28 T Q th f28) l1 ((l2 + 1)) G3)) ∧ ((¬ r4 = gI G3 (ad (gR G3 (ad (gR G3 (ad th) 9)) 4)) ((gI G3 (ad th) 4 + l2)).toNatClampNeg) → (Q (0 : Int32) G3))) l1 l2 G1))) l1 G := h
    have hk28 := ih
    refine l_ild_n C dX12_is_28 hl 2 rfl rfl ?_
    refine l_ald_n C dX12_is_29 hl 1 rfl rfl ?_
    refine k_call Ext.tr C I (k_V (r := l1) (As := []) (rest := [.int l2]) (y := yJ8_length) C (z_str C I h) q780 q781 q782 (Or.inl rfl) q783 (by decide) rfl pd_J8_length rfl dX12_is_30) (ct_J8_length h) hl.1 dX12_is_30 [.inl l2] rfl (Nat.le_of_ble_eq_true rfl) (Or.inl rfl) q783 q120 ⟨Nat.le_of_ble_eq_true rfl, Nat.le_of_ble_eq_true rfl⟩ (fun v G1 H locs cells slots xG1 hq I => ?_) (fun a G9 H locs cells slots ex hq I => hq.elim)
    obtain ⟨r2, rfl, h⟩ := hq
    have h := h xG1
    refine lv_icmp_ge (tgt := 66) C.1 C.2.1 dX12_is_33 (by decide) (fun c8 => ?_) (fun c8 => ?_)
    · have h := h.1 c8
      refine lv_iconst (v := 1) C.1 C.2.1 dX12_is_66 (by decide) ?_
      exact r_int C.1 C.2.1 C.2.2.2.2.2.1 rfl C.2.2.2.2.2.2 ⟨rfl, rfl⟩ I dX12_is_67 ⟨_, rfl, h⟩
    · have h := h.2 c8
      refine l_ald_n C dX12_is_36 hl 1 rfl rfl ?_
      refine l_ild_n C dX12_is_37 hl 2 rfl rfl ?_
      refine k_call Ext.tr C I (k_V (r := l1) (As := [.int l2]) (rest := []) (y := yJ8_charAt) C (z_str C I h) q790 q791 q792 (Or.inl rfl) q793 (by decide) rfl pd_J8_charAt rfl dX12_is_38) (ct_J8_charAt h) hl.1 dX12_is_38 [] rfl (Nat.le_of_ble_eq_true rfl) (Or.inl rfl) q793 q120 ⟨Nat.le_of_ble_eq_true rfl, Nat.le_of_ble_eq_true rfl⟩ (fun v G3 H locs cells slots xG3 hq I => ?_) (fun a G9 H locs cells slots ex hq I => hq.elim)
      obtain ⟨r4, rfl, h⟩ := hq
      have h := h xG3
      refine l_ald_n C dX12_is_41 hl 0 rfl rfl ?_
      refine g_R C I fl_X12_3_9 (by decide) (by decide) (hth.ext (by decide) (Ext.tr _ _ _ xG1 xG3)) dX12_is_42 ?_
      obtain ⟨ho5, h⟩ := h
      refine g_R C I fl_X12_29_1 (by decide) (by decide) ho5 dX12_is_45 ?_
      refine l_ald_n C dX12_is_48 hl 0 rfl rfl ?_
      refine g_I C I fl_X12_41_9 (by decide) (by decide) (hth.ext (by decide) (Ext.tr _ _ _ xG1 xG3)) dX12_is_49 ?_
      refine l_ild_n C dX12_is_52 hl 2 rfl rfl ?_
      refine lv_iadd C.1 C.2.1 dX12_is_53 ?_
      obtain ⟨ho6, h⟩ := h
      obtain ⟨hi, h⟩ := h
      refine a_bald C I ho6 hi dX12_is_54 ?_
      refine lv_icmp_eq (tgt := 60) C.1 C.2.1 dX12_is_55 (by decide) (fun c7 => ?_) (fun c7 => ?_)
      · have h := h.1 c7
        refine l_inc (q := 2) (v := 1) C dX12_is_60 hl rfl (by decide) (by decide) rfl (fun ls hl => ?_)
        have hl : LH ls 3 [(2, .inl ((l2 + 1))), (0, .inr (.inl th)), (1, .inr (.inl l1))] := hl
        refine lv_goto (tgt := 28) C.1 C.2.1 dX12_is_63 (by decide) ?_
        exact hk28 l1 ((l2 + 1)) G3 _ _ _ _ _ h (hth.ext (by decide) (Ext.tr _ _ _ xG1 xG3)) I (hl.sub [1, 2, 0] rfl)
      · have h := h.2 c7
        refine lv_iconst (v := 0) C.1 C.2.1 dX12_is_58 (by decide) ?_
        exact r_int C.1 C.2.1 C.2.2.2.2.2.1 rfl C.2.2.2.2.2.2 ⟨rfl, rfl⟩ I dX12_is_59 ⟨_, rfl, h⟩
def w_X12_is (T : Nat → ClassId) (Q : Int32 → Hp → Prop) (th : Option Nat) (p0 : Option Nat) (G : Hp) : Prop := isO G th 9 ∧ (((¬ gI G (ad th) 3 = (1 : Int32)) → (w_X12_is_24 T Q th G)) ∧ ((gI G (ad th) 3 = (1 : Int32)) → (w_J8_length T (fun r2 G1 => Ext G G1 → ((r2 = (gI G1 (ad th) 5 - gI G1 (ad th) 4)) → (∃ n, w_X12_is_28 T Q th n p0 ((0 : Int32)) G1)) ∧ ((¬ r2 = (gI G1 (ad th) 5 - gI G1 (ad th) 4)) → (w_X12_is_24 T Q th G1))) p0 G)))
theorem pd_X12_is : (parseMethodDescriptor yX12_is.desc).map (fun d => d.parameters.length) = some 1 := by decide +kernel
set_option maxHeartbeats 4000000 in
theorem ct_X12_is {l : Launch} {D : va_G} {T : Nat → ClassId} {Z : Heap} {G0 : Hp} {Q : Int32 → Hp → Prop} {th : Option Nat} {p0 : Option Nat} (hw : w_X12_is T Q th p0 G0) : CT (twd D T Z) (Evd D T Z) l yX12_is (Cond.code yX12_is cX12_is 3 (some .boolean)) 5 141 [va_rf th, va_rf p0] G0 (qI Q) (fun _ _ => False) := by
  refine CT.ofW (cc := cX12_is) (nL := 3) (ret := (some .boolean)) Ext.rf (by decide) (Or.inl rfl) ?_
  intro p e s m below meth c hx hb hml hown hr hlk hnm hcb hm hc hn hE I
  have C : Cx p s m meth c D T Z "EndingTown$Reader" cX12_is 3 (some .boolean) := ⟨hx, hb, hml, hown, hE, hr, hlk⟩
  refine w_entry [.inr (.inl th), .inr (.inl p0)] (Nat.le_of_ble_eq_true rfl) (fun ls hl => ?_)
  have hl : LH ls 3 [(0, .inr (.inl th)), (1, .inr (.inl p0))] := hl
  obtain ⟨hth, h⟩ := hw
  refine l_ald_n C dX12_is_0 hl 0 rfl rfl ?_
  refine g_I C I fl_X12_44_9 (by decide) (by decide) hth dX12_is_1 ?_
  refine lv_iconst (v := 1) C.1 C.2.1 dX12_is_4 (by decide) ?_
  refine lv_icmp_ne (tgt := 24) C.1 C.2.1 dX12_is_5 (by decide) (fun c4 => ?_) (fun c4 => ?_)
  · have h := h.1 c4
    exact b_X12_is_24 C G0 _ _ _ _ _ h hth I (hl.sub [] rfl)
  · have h := h.2 c4
    refine l_ald_n C dX12_is_8 hl 1 rfl rfl ?_
    refine k_call Ext.tr C I (k_V (r := p0) (As := []) (rest := []) (y := yJ8_length) C (z_str C I h) q780 q781 q782 (Or.inl rfl) q783 (by decide) rfl pd_J8_length rfl dX12_is_9) (ct_J8_length h) hl.1 dX12_is_9 [] rfl (Nat.le_of_ble_eq_true rfl) (Or.inl rfl) q783 q120 ⟨Nat.le_of_ble_eq_true rfl, Nat.le_of_ble_eq_true rfl⟩ (fun v G1 H locs cells slots xG1 hq I => ?_) (fun a G9 H locs cells slots ex hq I => hq.elim)
    obtain ⟨r2, rfl, h⟩ := hq
    have h := h xG1
    refine l_ald_n C dX12_is_12 hl 0 rfl rfl ?_
    refine g_I C I fl_X12_63_9 (by decide) (by decide) (hth.ext (by decide) xG1) dX12_is_13 ?_
    refine l_ald_n C dX12_is_16 hl 0 rfl rfl ?_
    refine g_I C I fl_X12_41_9 (by decide) (by decide) (hth.ext (by decide) xG1) dX12_is_17 ?_
    refine lv_isub C.1 C.2.1 dX12_is_20 ?_
    refine lv_icmp_eq (tgt := 26) C.1 C.2.1 dX12_is_21 (by decide) (fun c3 => ?_) (fun c3 => ?_)
    · have h := h.1 c3
      refine lv_iconst (v := 0) C.1 C.2.1 dX12_is_26 (by decide) ?_
      refine l_ist_n C dX12_is_27 rfl hl (by decide) rfl (fun ls hl => ?_)
      have hl : LH ls 3 [(2, .inl ((0 : Int32))), (0, .inr (.inl th)), (1, .inr (.inl p0))] := hl
      obtain ⟨n, h⟩ := h
      exact b_X12_is_28 C n p0 ((0 : Int32)) G1 _ _ _ _ _ h (hth.ext (by decide) xG1) I (hl.sub [1, 2, 0] rfl)
    · have h := h.2 c3
      exact b_X12_is_24 C G1 _ _ _ _ _ h (hth.ext (by decide) xG1) I (hl.sub [] rfl)
def w_X12_near_40 (T : Nat → ClassId) (Q : Hp → Prop) (E : Nat → Hp → Prop) (th : Option Nat) (l1 : Int32) (l2 : Int32) (t0 : Int32) (G : Hp) : Prop := w_X12_want T (fun G1 => Ext G G1 → w_X12_next T (fun G3 => Ext G1 G3 → isO G3 (gR G3 (ad th) 1) 2 ∧ isO G3 (gR G3 (ad (gR G3 (ad th) 1)) 5) 50 ∧ vp_in l1 (gN G3 (ad (gR G3 (ad (gR G3 (ad th) 1)) 5))) ∧ vp_in l1 (gN G3 (ad (gR G3 (ad (gR G3 (ad th) 1)) 5))) ∧ ∀ G7 : Hp, G7 = wI G3 (ad (gR G3 (ad (gR G3 (ad th) 1)) 5)) l1.toNatClampNeg ((gI G3 (ad (gR G3 (ad (gR G3 (ad th) 1)) 5)) l1.toNatClampNeg ||| ((1 : Int32) <<< (l2 &&& 31)))) → isO G7 (gR G7 (ad th) 1) 2 ∧ isO G7 (gR G7 (ad (gR G7 (ad th) 1)) 5) 50 ∧ vp_in l2 (gN G7 (ad (gR G7 (ad (gR G7 (ad th) 1)) 5))) ∧ vp_in l2 (gN G7 (ad (gR G7 (ad (gR G7 (ad th) 1)) 5))) ∧ ∀ G10 : Hp, G10 = wI G7 (ad (gR G7 (ad (gR G7 (ad th) 1)) 5)) l2.toNatClampNeg ((gI G7 (ad (gR G7 (ad (gR G7 (ad th) 1)) 5)) l2.toNatClampNeg ||| ((1 : Int32) <<< (l1 &&& 31)))) → Q G10) th G1) E th t0 ((4 : Int32)) G
set_option maxHeartbeats 4000000 in
theorem b_X12_near_40 {G0 : Hp} {Q : Hp → Prop} {E : Nat → Hp → Prop} {th : Option Nat} (C : Cx p s m meth c D T Z "EndingTown$Reader" cX12_near 3 none) (hex : ∀ z ∈ c.exceptionTable.toList, ∀ pc, covers z pc = false) (hLf : l.flags = flags0) : ∀ (l1 : Int32) (l2 : Int32) (t0 : Int32) (G : Hp) (H : Heap) (locs : List Loc) (cells slots : Nat) (ls : Array Slot), w_X12_near_40 T Q E th l1 l2 t0 G → isO G th 9 → HI (twd D T Z) G0 s (rmX (twd D T Z) 8 176 G0) H locs cells slots G → LH ls 3 [(0, .inr (.inl th)), (1, .inl l1), (2, .inl l2)] → W p l e (rmX (twd D T Z) 8 176 G0) s m args below meth c H locs cells slots (MQX (twd D T Z) G0 (qV Q) E below s) (F0 m 40 ls [.int t0, va_rf th]) := by
  intro l1 l2 t0 G H locs cells slots ls h hth I hl
  refine lv_iconst (v := 4) C.1 C.2.1 dX12_near_40 (by decide) ?_
  refine k_call Ext.tr C I (k_V (r := th) (As := [.int t0, .int ((4 : Int32))]) (rest := []) (y := yX12_want) C ⟨hth.ad.1, I.recv C.2.2.2.2.1 hth (by decide)⟩ q830 q832 qs14 (Or.inl rfl) q833 (by decide) rfl pd_X12_want rfl dX12_near_41) (ct_X12_want hLf h) hl.1 dX12_near_41 [] rfl (Nat.le_of_ble_eq_true rfl) (Or.inl rfl) q833 q118 ⟨Nat.le_of_ble_eq_true rfl, Nat.le_of_ble_eq_true rfl⟩ (fun v G1 H locs cells slots xG1 hq I => ?_) (fun a G9 H locs cells slots ex hq I => t_out C.2.2.2.2.2.2 ⟨rfl, rfl⟩ (fun z hz => hex z hz _) I hq)
  obtain ⟨rfl, h⟩ := hq
  have h := h xG1
  refine l_ald_n C dX12_near_44 hl 0 rfl rfl ?_
  refine k_call Ext.tr C I (k_V (r := th) (As := []) (rest := []) (y := yX12_next) C ⟨(hth.ext (by decide) xG1).ad.1, I.recv C.2.2.2.2.1 (hth.ext (by decide) xG1) (by decide)⟩ q751 q752 q753 (Or.inl rfl) q754 (by decide) rfl pd_X12_next rfl dX12_near_45) (ct_X12_next h) hl.1 dX12_near_45 [] rfl (Nat.le_of_ble_eq_true rfl) (Or.inl rfl) q754 q118 ⟨Nat.le_of_ble_eq_true rfl, Nat.le_of_ble_eq_true rfl⟩ (fun v G3 H locs cells slots xG3 hq I => ?_) (fun a G9 H locs cells slots ex hq I => hq.elim)
  obtain ⟨rfl, h⟩ := hq
  have h := h xG3
  refine l_ald_n C dX12_near_48 hl 0 rfl rfl ?_
  refine g_R C I fl_X12_18_9 (by decide) (by decide) (hth.ext (by decide) (Ext.tr _ _ _ xG1 xG3)) dX12_near_49 ?_
  obtain ⟨ho5, h⟩ := h
  refine g_R C I fl_X12_143_2 (by decide) (by decide) ho5 dX12_near_52 ?_
  refine l_ild_n C dX12_near_55 hl 1 rfl rfl ?_
  refine lv_dup2_11 C.1 C.2.1 dX12_near_56 rfl (cat_rf _) ?_
  obtain ⟨ho6, h⟩ := h
  obtain ⟨hi, h⟩ := h
  refine a_iald C I ho6 hi dX12_near_57 ?_
  refine lv_iconst (v := 1) C.1 C.2.1 dX12_near_58 (by decide) ?_
  refine l_ild_n C dX12_near_59 hl 2 rfl rfl ?_
  refine lv_ishl C.1 C.2.1 dX12_near_60 ?_
  refine lv_ior C.1 C.2.1 dX12_near_61 ?_
  obtain ⟨hi, h⟩ := h
  refine A_iast C I ho6 hi dX12_near_62 (fun H locs G7 eG7 xG7 I => ?_)
  have h := h G7 eG7
  refine l_ald_n C dX12_near_63 hl 0 rfl rfl ?_
  refine g_R C I fl_X12_18_9 (by decide) (by decide) (hth.ext (by decide) (Ext.tr _ _ _ xG1 (Ext.tr _ _ _ xG3 xG7))) dX12_near_64 ?_
  obtain ⟨ho8, h⟩ := h
  refine g_R C I fl_X12_143_2 (by decide) (by decide) ho8 dX12_near_67 ?_
  refine l_ild_n C dX12_near_70 hl 2 rfl rfl ?_
  refine lv_dup2_11 C.1 C.2.1 dX12_near_71 rfl (cat_rf _) ?_
  obtain ⟨ho9, h⟩ := h
  obtain ⟨hi, h⟩ := h
  refine a_iald C I ho9 hi dX12_near_72 ?_
  refine lv_iconst (v := 1) C.1 C.2.1 dX12_near_73 (by decide) ?_
  refine l_ild_n C dX12_near_74 hl 1 rfl rfl ?_
  refine lv_ishl C.1 C.2.1 dX12_near_75 ?_
  refine lv_ior C.1 C.2.1 dX12_near_76 ?_
  obtain ⟨hi, h⟩ := h
  refine A_iast C I ho9 hi dX12_near_77 (fun H locs G10 eG10 xG10 I => ?_)
  have h := h G10 eG10
  exact r_void C.1 C.2.1 C.2.2.2.2.2.1 C.2.2.2.2.2.2 ⟨rfl, rfl⟩ I dX12_near_78 ⟨rfl, h⟩
def w_X12_near (T : Nat → ClassId) (Q : Hp → Prop) (E : Nat → Hp → Prop) (th : Option Nat) (G : Hp) : Prop := isO G th 9 ∧ (∀ G1 : Hp, G1 = wI G (ad th) 8 ((1 : Int32)) → isO G1 (gR G1 (ad th) 1) 2 ∧ w_X12_one T (fun r4 G3 => Ext G1 G3 → isO G3 (gR G3 (ad th) 1) 2 ∧ w_X12_oneNow T (fun r7 G6 => Ext G3 G6 → ((r4 = r7) → (w_X12_near_40 T Q E th r4 r7 ((0 : Int32)) G6)) ∧ ((¬ r4 = r7) → (w_X12_near_40 T Q E th r4 r7 ((1 : Int32)) G6))) E th (gI G3 (ad (gR G3 (ad th) 1)) 9) G3) E th (gI G1 (ad (gR G1 (ad th) 1)) 9) G1)
theorem pd_X12_near : (parseMethodDescriptor yX12_near.desc).map (fun d => d.parameters.length) = some 0 := by decide +kernel
set_option maxHeartbeats 4000000 in
theorem ct_X12_near {l : Launch} {D : va_G} {T : Nat → ClassId} {Z : Heap} {G0 : Hp} {Q : Hp → Prop} {E : Nat → Hp → Prop} {th : Option Nat} (hLf : l.flags = flags0) (hw : w_X12_near T Q E th G0) : CT (twd D T Z) (Evd D T Z) l yX12_near (Cond.code yX12_near cX12_near 3 none) 8 176 [va_rf th] G0 (qV Q) E := by
  refine CT.ofW (cc := cX12_near) (nL := 3) (ret := none) Ext.rf (by decide) (Or.inl rfl) ?_
  intro p e s m below meth c hx hb hml hown hr hlk hnm hcb hm hc hn hE I
  have C : Cx p s m meth c D T Z "EndingTown$Reader" cX12_near 3 none := ⟨hx, hb, hml, hown, hE, hr, hlk⟩
  have hex := noEx hn hm hc hcb
  refine w_entry [.inr (.inl th)] (Nat.le_of_ble_eq_true rfl) (fun ls hl => ?_)
  have hl : LH ls 3 [(0, .inr (.inl th))] := hl
  obtain ⟨hth, h⟩ := hw
  refine l_ald_n C dX12_near_0 hl 0 rfl rfl ?_
  refine lv_iconst (v := 1) C.1 C.2.1 dX12_near_1 (by decide) ?_
  refine P_I C I fp_X12_134_9 (fun z => by cases z) (by decide) (by decide) hth dX12_near_2 (fit_z bz1) (fun H locs G1 eG1 xG1 I => ?_)
  have h := h G1 eG1
  refine l_ald_n C dX12_near_5 hl 0 rfl rfl ?_
  refine l_ald_n C dX12_near_6 hl 0 rfl rfl ?_
  refine g_R C I fl_X12_18_9 (by decide) (by decide) (hth.ext (by decide) xG1) dX12_near_7 ?_
  obtain ⟨ho2, h⟩ := h
  refine g_I C I fl_X12_137_2 (by decide) (by decide) ho2 dX12_near_10 ?_
  refine k_call Ext.tr C I (k_V (r := th) (As := [.int (gI G1 (ad (gR G1 (ad th) 1)) 9)]) (rest := []) (y := yX12_one) C ⟨(hth.ext (by decide) xG1).ad.1, I.recv C.2.2.2.2.1 (hth.ext (by decide) xG1) (by decide)⟩ q875 q877 qs19 (Or.inl rfl) q878 (by decide) rfl pd_X12_one rfl dX12_near_13) (ct_X12_one hLf h) hl.1 dX12_near_13 [] rfl (Nat.le_of_ble_eq_true rfl) (Or.inl rfl) q878 q118 ⟨Nat.le_of_ble_eq_true rfl, Nat.le_of_ble_eq_true rfl⟩ (fun v G3 H locs cells slots xG3 hq I => ?_) (fun a G9 H locs cells slots ex hq I => t_out C.2.2.2.2.2.2 ⟨rfl, rfl⟩ (fun z hz => hex z hz _) I hq)
  obtain ⟨r4, rfl, h⟩ := hq
  have h := h xG3
  refine l_ist_n C dX12_near_16 rfl hl (by decide) rfl (fun ls hl => ?_)
  have hl : LH ls 3 [(1, .inl r4), (0, .inr (.inl th))] := hl
  refine l_ald_n C dX12_near_17 hl 1 rfl rfl ?_
  refine l_ald_n C dX12_near_18 hl 1 rfl rfl ?_
  refine g_R C I fl_X12_18_9 (by decide) (by decide) (hth.ext (by decide) (Ext.tr _ _ _ xG1 xG3)) dX12_near_19 ?_
  obtain ⟨ho5, h⟩ := h
  refine g_I C I fl_X12_137_2 (by decide) (by decide) ho5 dX12_near_22 ?_
  refine k_call Ext.tr C I (k_V (r := th) (As := [.int (gI G3 (ad (gR G3 (ad th) 1)) 9)]) (rest := []) (y := yX12_oneNow) C ⟨(hth.ext (by decide) (Ext.tr _ _ _ xG1 xG3)).ad.1, I.recv C.2.2.2.2.1 (hth.ext (by decide) (Ext.tr _ _ _ xG1 xG3)) (by decide)⟩ q879 q881 qs20 (Or.inl rfl) q882 (by decide) rfl pd_X12_oneNow rfl dX12_near_25) (ct_X12_oneNow hLf h) hl.1 dX12_near_25 [] rfl (Nat.le_of_ble_eq_true rfl) (Or.inl rfl) q882 q118 ⟨Nat.le_of_ble_eq_true rfl, Nat.le_of_ble_eq_true rfl⟩ (fun v G6 H locs cells slots xG6 hq I => ?_) (fun a G9 H locs cells slots ex hq I => t_out C.2.2.2.2.2.2 ⟨rfl, rfl⟩ (fun z hz => hex z hz _) I hq)
  obtain ⟨r7, rfl, h⟩ := hq
  have h := h xG6
  refine l_ist_n C dX12_near_28 rfl hl (by decide) rfl (fun ls hl => ?_)
  have hl : LH ls 3 [(2, .inl r7), (1, .inl r4), (0, .inr (.inl th))] := hl
  refine l_ald_n C dX12_near_29 hl 2 rfl rfl ?_
  refine l_ild_n C dX12_near_30 hl 1 rfl rfl ?_
  refine l_ild_n C dX12_near_31 hl 0 rfl rfl ?_
  refine lv_icmp_eq (tgt := 39) C.1 C.2.1 dX12_near_32 (by decide) (fun c8 => ?_) (fun c8 => ?_)
  · have h := h.1 c8
    refine lv_iconst (v := 0) C.1 C.2.1 dX12_near_39 (by decide) ?_
    exact b_X12_near_40 C hex hLf r4 r7 ((0 : Int32)) G6 _ _ _ _ _ h (hth.ext (by decide) (Ext.tr _ _ _ xG1 (Ext.tr _ _ _ xG3 xG6))) I (hl.sub [2, 1, 0] rfl)
  · have h := h.2 c8
    refine lv_iconst (v := 1) C.1 C.2.1 dX12_near_35 (by decide) ?_
    refine lv_goto (tgt := 40) C.1 C.2.1 dX12_near_36 (by decide) ?_
    exact b_X12_near_40 C hex hLf r4 r7 ((1 : Int32)) G6 _ _ _ _ _ h (hth.ext (by decide) (Ext.tr _ _ _ xG1 (Ext.tr _ _ _ xG3 xG6))) I (hl.sub [2, 1, 0] rfl)
def w_X12_passes_14 (T : Nat → ClassId) (Q : Int32 → Hp → Prop) (th : Option Nat) (l2 : Int32) (G : Hp) : Prop := bz l2 ∧ Q l2 G
set_option maxHeartbeats 4000000 in
theorem b_X12_passes_14 {G0 : Hp} {Q : Int32 → Hp → Prop} {th : Option Nat} (C : Cx p s m meth c D T Z "EndingTown$Reader" cX12_passes 3 (some .boolean)) : ∀ (l2 : Int32) (G : Hp) (H : Heap) (locs : List Loc) (cells slots : Nat) (ls : Array Slot), w_X12_passes_14 T Q th l2 G → isO G th 9 → HI (twd D T Z) G0 s (rmX (twd D T Z) 6 163 G0) H locs cells slots G → LH ls 3 [(2, .inl l2)] → W p l e (rmX (twd D T Z) 6 163 G0) s m args below meth c H locs cells slots (MQX (twd D T Z) G0 (qI Q) (fun _ _ => False) below s) (F0 m 14 ls []) := by
  intro l2 G H locs cells slots ls h hth I hl
  refine l_ild_n C dX12_passes_14 hl 0 rfl rfl ?_
  exact r_int C.1 C.2.1 C.2.2.2.2.2.1 h.1.n C.2.2.2.2.2.2 ⟨rfl, rfl⟩ I dX12_passes_15 ⟨_, rfl, h.2⟩
def w_X12_passes (T : Nat → ClassId) (Q : Int32 → Hp → Prop) (th : Option Nat) (p0 : Option Nat) (G : Hp) : Prop := isO G th 9 ∧ (w_X12_is T (fun r2 G1 => Ext G G1 → ((r2 = 0) → (w_X12_passes_14 T Q th r2 G1)) ∧ ((¬ r2 = 0) → (w_X12_next T (fun G3 => Ext G1 G3 → w_X12_passes_14 T Q th r2 G3) th G1))) th p0 G)
theorem pd_X12_passes : (parseMethodDescriptor yX12_passes.desc).map (fun d => d.parameters.length) = some 1 := by decide +kernel
set_option maxHeartbeats 4000000 in
theorem ct_X12_passes {l : Launch} {D : va_G} {T : Nat → ClassId} {Z : Heap} {G0 : Hp} {Q : Int32 → Hp → Prop} {th : Option Nat} {p0 : Option Nat} (hw : w_X12_passes T Q th p0 G0) : CT (twd D T Z) (Evd D T Z) l yX12_passes (Cond.code yX12_passes cX12_passes 3 (some .boolean)) 6 163 [va_rf th, va_rf p0] G0 (qI Q) (fun _ _ => False) := by
  refine CT.ofW (cc := cX12_passes) (nL := 3) (ret := (some .boolean)) Ext.rf (by decide) (Or.inl rfl) ?_
  intro p e s m below meth c hx hb hml hown hr hlk hnm hcb hm hc hn hE I
  have C : Cx p s m meth c D T Z "EndingTown$Reader" cX12_passes 3 (some .boolean) := ⟨hx, hb, hml, hown, hE, hr, hlk⟩
  refine w_entry [.inr (.inl th), .inr (.inl p0)] (Nat.le_of_ble_eq_true rfl) (fun ls hl => ?_)
  have hl : LH ls 3 [(0, .inr (.inl th)), (1, .inr (.inl p0))] := hl
  obtain ⟨hth, h⟩ := hw
  refine l_ald_n C dX12_passes_0 hl 0 rfl rfl ?_
  refine l_ald_n C dX12_passes_1 hl 1 rfl rfl ?_
  refine k_call Ext.tr C I (k_V (r := th) (As := [va_rf p0]) (rest := []) (y := yX12_is) C ⟨hth.ad.1, I.recv C.2.2.2.2.1 hth (by decide)⟩ q776 q778 qs12 (Or.inl rfl) q779 (by decide) rfl pd_X12_is rfl dX12_passes_2) (ct_X12_is h) hl.1 dX12_passes_2 [] rfl (Nat.le_of_ble_eq_true rfl) (Or.inl rfl) q779 q118 ⟨Nat.le_of_ble_eq_true rfl, Nat.le_of_ble_eq_true rfl⟩ (fun v G1 H locs cells slots xG1 hq I => ?_) (fun a G9 H locs cells slots ex hq I => hq.elim)
  obtain ⟨r2, rfl, h⟩ := hq
  have h := h xG1
  refine l_ist_n C dX12_passes_5 rfl hl (by decide) rfl (fun ls hl => ?_)
  have hl : LH ls 3 [(2, .inl r2), (0, .inr (.inl th)), (1, .inr (.inl p0))] := hl
  refine l_ild_n C dX12_passes_6 hl 0 rfl rfl ?_
  refine lv_if_eq (tgt := 14) C.1 C.2.1 dX12_passes_7 (by decide) (fun c5 => ?_) (fun c5 => ?_)
  · have h := h.1 c5
    exact b_X12_passes_14 C r2 G1 _ _ _ _ _ h (hth.ext (by decide) xG1) I (hl.sub [0] rfl)
  · have h := h.2 c5
    refine l_ald_n C dX12_passes_10 hl 1 rfl rfl ?_
    refine k_call Ext.tr C I (k_V (r := th) (As := []) (rest := []) (y := yX12_next) C ⟨(hth.ext (by decide) xG1).ad.1, I.recv C.2.2.2.2.1 (hth.ext (by decide) xG1) (by decide)⟩ q751 q752 q753 (Or.inl rfl) q754 (by decide) rfl pd_X12_next rfl dX12_passes_11) (ct_X12_next h) hl.1 dX12_passes_11 [] rfl (Nat.le_of_ble_eq_true rfl) (Or.inl rfl) q754 q118 ⟨Nat.le_of_ble_eq_true rfl, Nat.le_of_ble_eq_true rfl⟩ (fun v G3 H locs cells slots xG3 hq I => ?_) (fun a G9 H locs cells slots ex hq I => hq.elim)
    obtain ⟨rfl, h⟩ := hq
    have h := h xG3
    exact b_X12_passes_14 C r2 G3 _ _ _ _ _ h (hth.ext (by decide) (Ext.tr _ _ _ xG1 xG3)) I (hl.sub [0] rfl)
def w_X12_places_30 (T : Nat → ClassId) (Q : Hp → Prop) (E : Nat → Hp → Prop) (th : Option Nat) (t0 : Int32) (G : Hp) : Prop := w_X12_want T (fun G1 => Ext G G1 → ∀ G3 : Hp, G3 = wI G1 (ad th) 7 ((1 : Int32)) → w_X12_next T (fun G4 => Ext G3 G4 → w_X12_number T (fun r7 G6 => Ext G4 G6 → isO G6 (gR G4 (ad th) 1) 2 ∧ ∀ G9 : Hp, G9 = wI G6 (ad (gR G4 (ad th) 1)) 9 r7 → Q G9) E th ((1 : Int32)) ((6 : Int32)) G4) th G3) E th t0 ((5 : Int32)) G
set_option maxHeartbeats 4000000 in
theorem b_X12_places_30 {G0 : Hp} {Q : Hp → Prop} {E : Nat → Hp → Prop} {th : Option Nat} (C : Cx p s m meth c D T Z "EndingTown$Reader" cX12_places 1 none) (hex : ∀ z ∈ c.exceptionTable.toList, ∀ pc, covers z pc = false) (hLf : l.flags = flags0) : ∀ (t0 : Int32) (G : Hp) (H : Heap) (locs : List Loc) (cells slots : Nat) (ls : Array Slot), w_X12_places_30 T Q E th t0 G → isO G th 9 → HI (twd D T Z) G0 s (rmX (twd D T Z) 7 156 G0) H locs cells slots G → LH ls 1 [(0, .inr (.inl th))] → W p l e (rmX (twd D T Z) 7 156 G0) s m args below meth c H locs cells slots (MQX (twd D T Z) G0 (qV Q) E below s) (F0 m 30 ls [.int t0, va_rf th]) := by
  intro t0 G H locs cells slots ls h hth I hl
  refine lv_iconst (v := 5) C.1 C.2.1 dX12_places_30 (by decide) ?_
  refine k_call Ext.tr C I (k_V (r := th) (As := [.int t0, .int ((5 : Int32))]) (rest := []) (y := yX12_want) C ⟨hth.ad.1, I.recv C.2.2.2.2.1 hth (by decide)⟩ q830 q832 qs14 (Or.inl rfl) q833 (by decide) rfl pd_X12_want rfl dX12_places_31) (ct_X12_want hLf h) hl.1 dX12_places_31 [] rfl (Nat.le_of_ble_eq_true rfl) (Or.inl rfl) q833 q118 ⟨Nat.le_of_ble_eq_true rfl, Nat.le_of_ble_eq_true rfl⟩ (fun v G1 H locs cells slots xG1 hq I => ?_) (fun a G9 H locs cells slots ex hq I => t_out C.2.2.2.2.2.2 ⟨rfl, rfl⟩ (fun z hz => hex z hz _) I hq)
  obtain ⟨rfl, h⟩ := hq
  have h := h xG1
  refine l_ald_n C dX12_places_34 hl 0 rfl rfl ?_
  refine lv_iconst (v := 1) C.1 C.2.1 dX12_places_35 (by decide) ?_
  refine P_I C I fp_X12_130_9 (fun z => by cases z) (by decide) (by decide) (hth.ext (by decide) xG1) dX12_places_36 (fit_z bz1) (fun H locs G3 eG3 xG3 I => ?_)
  have h := h G3 eG3
  refine l_ald_n C dX12_places_39 hl 0 rfl rfl ?_
  refine k_call Ext.tr C I (k_V (r := th) (As := []) (rest := []) (y := yX12_next) C ⟨(hth.ext (by decide) (Ext.tr _ _ _ xG1 xG3)).ad.1, I.recv C.2.2.2.2.1 (hth.ext (by decide) (Ext.tr _ _ _ xG1 xG3)) (by decide)⟩ q751 q752 q753 (Or.inl rfl) q754 (by decide) rfl pd_X12_next rfl dX12_places_40) (ct_X12_next h) hl.1 dX12_places_40 [] rfl (Nat.le_of_ble_eq_true rfl) (Or.inl rfl) q754 q118 ⟨Nat.le_of_ble_eq_true rfl, Nat.le_of_ble_eq_true rfl⟩ (fun v G4 H locs cells slots xG4 hq I => ?_) (fun a G9 H locs cells slots ex hq I => hq.elim)
  obtain ⟨rfl, h⟩ := hq
  have h := h xG4
  refine l_ald_n C dX12_places_43 hl 0 rfl rfl ?_
  refine g_R C I fl_X12_18_9 (by decide) (by decide) (hth.ext (by decide) (Ext.tr _ _ _ xG1 (Ext.tr _ _ _ xG3 xG4))) dX12_places_44 ?_
  refine l_ald_n C dX12_places_47 hl 0 rfl rfl ?_
  refine lv_iconst (v := 1) C.1 C.2.1 dX12_places_48 (by decide) ?_
  refine lv_bipush (v := 6) C.1 C.2.1 dX12_places_49 (by decide) ?_
  refine k_call Ext.tr C I (k_V (r := th) (As := [.int ((1 : Int32)), .int ((6 : Int32))]) (rest := [va_rf (gR G4 (ad th) 1)]) (y := yX12_number) C ⟨(hth.ext (by decide) (Ext.tr _ _ _ xG1 (Ext.tr _ _ _ xG3 xG4))).ad.1, I.recv C.2.2.2.2.1 (hth.ext (by decide) (Ext.tr _ _ _ xG1 (Ext.tr _ _ _ xG3 xG4))) (by decide)⟩ q858 q860 qs15 (Or.inl rfl) q861 (by decide) rfl pd_X12_number rfl dX12_places_51) (ct_X12_number hLf h) hl.1 dX12_places_51 [.inr (.inl (gR G4 (ad th) 1))] rfl (Nat.le_of_ble_eq_true rfl) (Or.inl rfl) q861 q118 ⟨Nat.le_of_ble_eq_true rfl, Nat.le_of_ble_eq_true rfl⟩ (fun v G6 H locs cells slots xG6 hq I => ?_) (fun a G9 H locs cells slots ex hq I => t_out C.2.2.2.2.2.2 ⟨rfl, rfl⟩ (fun z hz => hex z hz _) I hq)
  obtain ⟨r7, rfl, h⟩ := hq
  have h := h xG6
  obtain ⟨ho8, h⟩ := h
  refine P_I C I fp_X12_137_2 (fun z => by cases z) (by decide) (by decide) ho8 dX12_places_54 (fit_i _) (fun H locs G9 eG9 xG9 I => ?_)
  have h := h G9 eG9
  exact r_void C.1 C.2.1 C.2.2.2.2.2.1 C.2.2.2.2.2.2 ⟨rfl, rfl⟩ I dX12_places_57 ⟨rfl, h⟩
def w_X12_places_13 (T : Nat → ClassId) (Q : Hp → Prop) (E : Nat → Hp → Prop) (th : Option Nat) (t0 : Int32) (G : Hp) : Prop := w_X12_want T (fun G1 => Ext G G1 → ((¬ gI G1 (ad th) 8 = 0) → (w_X12_places_30 T Q E th ((0 : Int32)) G1)) ∧ ((gI G1 (ad th) 8 = 0) → (w_X12_places_30 T Q E th ((1 : Int32)) G1))) E th t0 ((4 : Int32)) G
set_option maxHeartbeats 4000000 in
theorem b_X12_places_13 {G0 : Hp} {Q : Hp → Prop} {E : Nat → Hp → Prop} {th : Option Nat} (C : Cx p s m meth c D T Z "EndingTown$Reader" cX12_places 1 none) (hex : ∀ z ∈ c.exceptionTable.toList, ∀ pc, covers z pc = false) (hLf : l.flags = flags0) : ∀ (t0 : Int32) (G : Hp) (H : Heap) (locs : List Loc) (cells slots : Nat) (ls : Array Slot), w_X12_places_13 T Q E th t0 G → isO G th 9 → HI (twd D T Z) G0 s (rmX (twd D T Z) 7 156 G0) H locs cells slots G → LH ls 1 [(0, .inr (.inl th))] → W p l e (rmX (twd D T Z) 7 156 G0) s m args below meth c H locs cells slots (MQX (twd D T Z) G0 (qV Q) E below s) (F0 m 13 ls [.int t0, va_rf th]) := by
  intro t0 G H locs cells slots ls h hth I hl
  refine lv_iconst (v := 4) C.1 C.2.1 dX12_places_13 (by decide) ?_
  refine k_call Ext.tr C I (k_V (r := th) (As := [.int t0, .int ((4 : Int32))]) (rest := []) (y := yX12_want) C ⟨hth.ad.1, I.recv C.2.2.2.2.1 hth (by decide)⟩ q830 q832 qs14 (Or.inl rfl) q833 (by decide) rfl pd_X12_want rfl dX12_places_14) (ct_X12_want hLf h) hl.1 dX12_places_14 [] rfl (Nat.le_of_ble_eq_true rfl) (Or.inl rfl) q833 q118 ⟨Nat.le_of_ble_eq_true rfl, Nat.le_of_ble_eq_true rfl⟩ (fun v G1 H locs cells slots xG1 hq I => ?_) (fun a G9 H locs cells slots ex hq I => t_out C.2.2.2.2.2.2 ⟨rfl, rfl⟩ (fun z hz => hex z hz _) I hq)
  obtain ⟨rfl, h⟩ := hq
  have h := h xG1
  refine l_ald_n C dX12_places_17 hl 0 rfl rfl ?_
  refine l_ald_n C dX12_places_18 hl 0 rfl rfl ?_
  refine g_I C I fl_X12_134_9 (by decide) (by decide) (hth.ext (by decide) xG1) dX12_places_19 ?_
  refine lv_if_ne (tgt := 29) C.1 C.2.1 dX12_places_22 (by decide) (fun c3 => ?_) (fun c3 => ?_)
  · have h := h.1 c3
    refine lv_iconst (v := 0) C.1 C.2.1 dX12_places_29 (by decide) ?_
    exact b_X12_places_30 C hex hLf ((0 : Int32)) G1 _ _ _ _ _ h (hth.ext (by decide) xG1) I (hl.sub [0] rfl)
  · have h := h.2 c3
    refine lv_iconst (v := 1) C.1 C.2.1 dX12_places_25 (by decide) ?_
    refine lv_goto (tgt := 30) C.1 C.2.1 dX12_places_26 (by decide) ?_
    exact b_X12_places_30 C hex hLf ((1 : Int32)) G1 _ _ _ _ _ h (hth.ext (by decide) xG1) I (hl.sub [0] rfl)
def w_X12_places (T : Nat → ClassId) (Q : Hp → Prop) (E : Nat → Hp → Prop) (th : Option Nat) (G : Hp) : Prop := isO G th 9 ∧ (((¬ gI G (ad th) 7 = 0) → (w_X12_places_13 T Q E th ((0 : Int32)) G)) ∧ ((gI G (ad th) 7 = 0) → (w_X12_places_13 T Q E th ((1 : Int32)) G)))
theorem pd_X12_places : (parseMethodDescriptor yX12_places.desc).map (fun d => d.parameters.length) = some 0 := by decide +kernel
set_option maxHeartbeats 4000000 in
theorem ct_X12_places {l : Launch} {D : va_G} {T : Nat → ClassId} {Z : Heap} {G0 : Hp} {Q : Hp → Prop} {E : Nat → Hp → Prop} {th : Option Nat} (hLf : l.flags = flags0) (hw : w_X12_places T Q E th G0) : CT (twd D T Z) (Evd D T Z) l yX12_places (Cond.code yX12_places cX12_places 1 none) 7 156 [va_rf th] G0 (qV Q) E := by
  refine CT.ofW (cc := cX12_places) (nL := 1) (ret := none) Ext.rf (by decide) (Or.inl rfl) ?_
  intro p e s m below meth c hx hb hml hown hr hlk hnm hcb hm hc hn hE I
  have C : Cx p s m meth c D T Z "EndingTown$Reader" cX12_places 1 none := ⟨hx, hb, hml, hown, hE, hr, hlk⟩
  have hex := noEx hn hm hc hcb
  refine w_entry [.inr (.inl th)] (Nat.le_of_ble_eq_true rfl) (fun ls hl => ?_)
  have hl : LH ls 1 [(0, .inr (.inl th))] := hl
  obtain ⟨hth, h⟩ := hw
  refine l_ald_n C dX12_places_0 hl 0 rfl rfl ?_
  refine l_ald_n C dX12_places_1 hl 0 rfl rfl ?_
  refine g_I C I fl_X12_130_9 (by decide) (by decide) hth dX12_places_2 ?_
  refine lv_if_ne (tgt := 12) C.1 C.2.1 dX12_places_5 (by decide) (fun c1 => ?_) (fun c1 => ?_)
  · have h := h.1 c1
    refine lv_iconst (v := 0) C.1 C.2.1 dX12_places_12 (by decide) ?_
    exact b_X12_places_13 C hex hLf ((0 : Int32)) G0 _ _ _ _ _ h hth I (hl.sub [0] rfl)
  · have h := h.2 c1
    refine lv_iconst (v := 1) C.1 C.2.1 dX12_places_8 (by decide) ?_
    refine lv_goto (tgt := 13) C.1 C.2.1 dX12_places_9 (by decide) ?_
    exact b_X12_places_13 C hex hLf ((1 : Int32)) G0 _ _ _ _ _ h hth I (hl.sub [0] rfl)
end GT1
