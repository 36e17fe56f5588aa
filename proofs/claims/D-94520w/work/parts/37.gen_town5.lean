/-! the town: wp and contracts, by program -/
set_option maxRecDepth 100000
section GT4
variable {p : Program} {l : Launch} {e : Env} {s : State} {m : MethodId} {args : Array Value} {below : List Frame} {meth : Method} {c : Code} {D : va_G} {T : Nat → ClassId} {Z : Heap}
def w_X1_wrong_14 (T : Nat → ClassId) (Q : Int32 → Hp → Prop) (E : Nat → Hp → Prop) (th : Option Nat) (l1 : Int32) (t0 : Int32) (G : Hp) : Prop := w_X1_found T (fun G1 => Ext G G1 → ((¬ l1 = 0) → (w_X1_above T (fun r4 G3 => Ext G1 G3 → w_X1_whole T (fun r6 G5 => Ext G3 G5 → w_X1_held T (fun r8 G7 => Ext G5 G7 → Q ((r4 &&& (r8 ^^^ (-1 : Int32)))) G7) th r6 G5) th G3) th G1)) ∧ ((l1 = 0) → (isO G1 (gR G1 (ad th) 1) 16 ∧ w_J2_size T (fun r10 G9 => Ext G1 G9 → w_X1_whole T (fun r12 G11 => Ext G9 G11 → w_X1_held T (fun r14 G13 => Ext G11 G13 → Q (((((1 : Int32) <<< (r10 &&& 31)) - (1 : Int32)) &&& (r14 ^^^ (-1 : Int32)))) G13) th r12 G11) th G9) (gR G1 (ad th) 1) G1))) E t0 G
set_option maxHeartbeats 4000000 in
theorem b_X1_wrong_14 {G0 : Hp} {Q : Int32 → Hp → Prop} {E : Nat → Hp → Prop} {th : Option Nat} (C : Cx p s m meth c D T Z "EndingTown" cX1_wrong 3 (some .int)) (hex : ∀ z ∈ c.exceptionTable.toList, ∀ pc, covers z pc = false) (hLf : l.flags = flags0) : ∀ (l1 : Int32) (t0 : Int32) (G : Hp) (H : Heap) (locs : List Loc) (cells slots : Nat) (ls : Array Slot), w_X1_wrong_14 T Q E th l1 t0 G → isO G th 1 → HI (twd D T Z) G0 s (rmX (twd D T Z) 10 245 G0) H locs cells slots G → LH ls 3 [(0, .inr (.inl th)), (1, .inl l1)] → W p l e (rmX (twd D T Z) 10 245 G0) s m args below meth c H locs cells slots (MQX (twd D T Z) G0 (qI Q) E below s) (F0 m 14 ls [.int t0]) := by
  intro l1 t0 G H locs cells slots ls h hth I hl
  refine k_call Ext.tr C I (k_S (As := [.int t0]) (rest := []) (y := yX1_found) C q1094 q1095 q100 (Or.inl rfl) q1096 (by decide) rfl pd_X1_found rfl dX1_wrong_14) (ct_X1_found hLf h) hl.1 dX1_wrong_14 [] rfl (Nat.le_of_ble_eq_true rfl) (Or.inl rfl) q1096 q100 ⟨Nat.le_of_ble_eq_true rfl, Nat.le_of_ble_eq_true rfl⟩ (fun v G1 H locs cells slots xG1 hq I => ?_) (fun a G9 H locs cells slots ex hq I => t_out C.2.2.2.2.2.2 ⟨rfl, rfl⟩ (fun z hz => hex z hz _) I hq)
  obtain ⟨rfl, h⟩ := hq
  have h := h xG1
  refine l_ild_n C dX1_wrong_17 hl 1 rfl rfl ?_
  refine lv_if_ne (tgt := 46) C.1 C.2.1 dX1_wrong_18 (by decide) (fun c16 => ?_) (fun c16 => ?_)
  · have h := h.1 c16
    refine l_ald_n C dX1_wrong_46 hl 0 rfl rfl ?_
    refine k_call Ext.tr C I (k_V (r := th) (As := []) (rest := []) (y := yX1_above) C ⟨(hth.ext (by decide) xG1).ad.1, I.recv C.2.2.2.2.1 (hth.ext (by decide) xG1) (by decide)⟩ q1282 q1284 qs39 (Or.inl rfl) q1285 (by decide) rfl pd_X1_above rfl dX1_wrong_47) (ct_X1_above h) hl.1 dX1_wrong_47 [] rfl (Nat.le_of_ble_eq_true rfl) (Or.inl rfl) q1285 q100 ⟨Nat.le_of_ble_eq_true rfl, Nat.le_of_ble_eq_true rfl⟩ (fun v G3 H locs cells slots xG3 hq I => ?_) (fun a G9 H locs cells slots ex hq I => hq.elim)
    obtain ⟨r4, rfl, h⟩ := hq
    have h := h xG3
    refine l_ist_n C dX1_wrong_50 rfl hl (by decide) rfl (fun ls hl => ?_)
    have hl : LH ls 3 [(2, .inl r4), (0, .inr (.inl th)), (1, .inl l1)] := hl
    refine l_ild_n C dX1_wrong_51 hl 0 rfl rfl ?_
    refine l_ald_n C dX1_wrong_52 hl 1 rfl rfl ?_
    refine l_ald_n C dX1_wrong_53 hl 1 rfl rfl ?_
    refine k_call Ext.tr C I (k_V (r := th) (As := []) (rest := [va_rf th, .int r4]) (y := yX1_whole) C ⟨(hth.ext (by decide) (Ext.tr _ _ _ xG1 xG3)).ad.1, I.recv C.2.2.2.2.1 (hth.ext (by decide) (Ext.tr _ _ _ xG1 xG3)) (by decide)⟩ q1239 q1241 qs38 (Or.inl rfl) q1242 (by decide) rfl pd_X1_whole rfl dX1_wrong_54) (ct_X1_whole h) hl.1 dX1_wrong_54 [.inr (.inl th), .inl r4] rfl (Nat.le_of_ble_eq_true rfl) (Or.inl rfl) q1242 q100 ⟨Nat.le_of_ble_eq_true rfl, Nat.le_of_ble_eq_true rfl⟩ (fun v G5 H locs cells slots xG5 hq I => ?_) (fun a G9 H locs cells slots ex hq I => hq.elim)
    obtain ⟨r6, rfl, h⟩ := hq
    have h := h xG5
    refine k_call Ext.tr C I (k_V (r := th) (As := [va_rf r6]) (rest := [.int r4]) (y := yX1_held) C ⟨(hth.ext (by decide) (Ext.tr _ _ _ xG1 (Ext.tr _ _ _ xG3 xG5))).ad.1, I.recv C.2.2.2.2.1 (hth.ext (by decide) (Ext.tr _ _ _ xG1 (Ext.tr _ _ _ xG3 xG5))) (by decide)⟩ q556 q558 qs6 (Or.inl rfl) q559 (by decide) rfl pd_X1_held rfl dX1_wrong_57) (ct_X1_held h) hl.1 dX1_wrong_57 [.inl r4] rfl (Nat.le_of_ble_eq_true rfl) (Or.inl rfl) q559 q100 ⟨Nat.le_of_ble_eq_true rfl, Nat.le_of_ble_eq_true rfl⟩ (fun v G7 H locs cells slots xG7 hq I => ?_) (fun a G9 H locs cells slots ex hq I => hq.elim)
    obtain ⟨r8, rfl, h⟩ := hq
    have h := h xG7
    refine lv_iconst (v := (-1)) C.1 C.2.1 dX1_wrong_60 (by decide) ?_
    refine lv_ixor C.1 C.2.1 dX1_wrong_61 ?_
    refine lv_iand C.1 C.2.1 dX1_wrong_62 ?_
    exact r_int C.1 C.2.1 C.2.2.2.2.2.1 rfl C.2.2.2.2.2.2 ⟨rfl, rfl⟩ I dX1_wrong_63 ⟨_, rfl, h⟩
  · have h := h.2 c16
    refine lv_iconst (v := 1) C.1 C.2.1 dX1_wrong_21 (by decide) ?_
    refine l_ald_n C dX1_wrong_22 hl 0 rfl rfl ?_
    refine g_R C I fl_X1_25_1 (by decide) (by decide) (hth.ext (by decide) xG1) dX1_wrong_23 ?_
    obtain ⟨ho15, h⟩ := h
    refine k_call Ext.tr C I (k_F (kd := 16) (r := gR G1 (ad th) 1) (As := []) (rest := [.int ((1 : Int32))]) (y := yJ2_size) (x := ⟨"java/util/List", "size", "()I"⟩) C (by decide) ⟨ho15.ad.1, I.recv C.2.2.2.2.1 ho15 (by decide)⟩ q424 (by decide) q426 q425 q430 q428 q417 q427 q429 rfl pd_J2_size rfl dX1_wrong_26) (ct_J2_size h) hl.1 dX1_wrong_26 [.inl ((1 : Int32))] rfl (Nat.le_of_ble_eq_true rfl) (Or.inl rfl) q431 q104 ⟨Nat.le_of_ble_eq_true rfl, Nat.le_of_ble_eq_true rfl⟩ (fun v G9 H locs cells slots xG9 hq I => ?_) (fun a G9 H locs cells slots ex hq I => hq.elim)
    obtain ⟨r10, rfl, h⟩ := hq
    have h := h xG9
    refine lv_ishl C.1 C.2.1 dX1_wrong_31 ?_
    refine lv_iconst (v := 1) C.1 C.2.1 dX1_wrong_32 (by decide) ?_
    refine lv_isub C.1 C.2.1 dX1_wrong_33 ?_
    refine l_ald_n C dX1_wrong_34 hl 0 rfl rfl ?_
    refine l_ald_n C dX1_wrong_35 hl 0 rfl rfl ?_
    refine k_call Ext.tr C I (k_V (r := th) (As := []) (rest := [va_rf th, .int ((((1 : Int32) <<< (r10 &&& 31)) - (1 : Int32)))]) (y := yX1_whole) C ⟨(hth.ext (by decide) (Ext.tr _ _ _ xG1 xG9)).ad.1, I.recv C.2.2.2.2.1 (hth.ext (by decide) (Ext.tr _ _ _ xG1 xG9)) (by decide)⟩ q1239 q1241 qs38 (Or.inl rfl) q1242 (by decide) rfl pd_X1_whole rfl dX1_wrong_36) (ct_X1_whole h) hl.1 dX1_wrong_36 [.inr (.inl th), .inl ((((1 : Int32) <<< (r10 &&& 31)) - (1 : Int32)))] rfl (Nat.le_of_ble_eq_true rfl) (Or.inl rfl) q1242 q100 ⟨Nat.le_of_ble_eq_true rfl, Nat.le_of_ble_eq_true rfl⟩ (fun v G11 H locs cells slots xG11 hq I => ?_) (fun a G9 H locs cells slots ex hq I => hq.elim)
    obtain ⟨r12, rfl, h⟩ := hq
    have h := h xG11
    refine k_call Ext.tr C I (k_V (r := th) (As := [va_rf r12]) (rest := [.int ((((1 : Int32) <<< (r10 &&& 31)) - (1 : Int32)))]) (y := yX1_held) C ⟨(hth.ext (by decide) (Ext.tr _ _ _ xG1 (Ext.tr _ _ _ xG9 xG11))).ad.1, I.recv C.2.2.2.2.1 (hth.ext (by decide) (Ext.tr _ _ _ xG1 (Ext.tr _ _ _ xG9 xG11))) (by decide)⟩ q556 q558 qs6 (Or.inl rfl) q559 (by decide) rfl pd_X1_held rfl dX1_wrong_39) (ct_X1_held h) hl.1 dX1_wrong_39 [.inl ((((1 : Int32) <<< (r10 &&& 31)) - (1 : Int32)))] rfl (Nat.le_of_ble_eq_true rfl) (Or.inl rfl) q559 q100 ⟨Nat.le_of_ble_eq_true rfl, Nat.le_of_ble_eq_true rfl⟩ (fun v G13 H locs cells slots xG13 hq I => ?_) (fun a G9 H locs cells slots ex hq I => hq.elim)
    obtain ⟨r14, rfl, h⟩ := hq
    have h := h xG13
    refine lv_iconst (v := (-1)) C.1 C.2.1 dX1_wrong_42 (by decide) ?_
    refine lv_ixor C.1 C.2.1 dX1_wrong_43 ?_
    refine lv_iand C.1 C.2.1 dX1_wrong_44 ?_
    exact r_int C.1 C.2.1 C.2.2.2.2.2.1 rfl C.2.2.2.2.2.2 ⟨rfl, rfl⟩ I dX1_wrong_45 ⟨_, rfl, h⟩
def w_X1_wrong_9 (T : Nat → ClassId) (Q : Int32 → Hp → Prop) (E : Nat → Hp → Prop) (th : Option Nat) (l1 : Int32) (G : Hp) : Prop := w_X1_wrong_14 T Q E th l1 ((1 : Int32)) G
set_option maxHeartbeats 4000000 in
theorem b_X1_wrong_9 {G0 : Hp} {Q : Int32 → Hp → Prop} {E : Nat → Hp → Prop} {th : Option Nat} (C : Cx p s m meth c D T Z "EndingTown" cX1_wrong 3 (some .int)) (hex : ∀ z ∈ c.exceptionTable.toList, ∀ pc, covers z pc = false) (hLf : l.flags = flags0) : ∀ (l1 : Int32) (G : Hp) (H : Heap) (locs : List Loc) (cells slots : Nat) (ls : Array Slot), w_X1_wrong_9 T Q E th l1 G → isO G th 1 → HI (twd D T Z) G0 s (rmX (twd D T Z) 10 245 G0) H locs cells slots G → LH ls 3 [(0, .inr (.inl th)), (1, .inl l1)] → W p l e (rmX (twd D T Z) 10 245 G0) s m args below meth c H locs cells slots (MQX (twd D T Z) G0 (qI Q) E below s) (F0 m 9 ls []) := by
  intro l1 G H locs cells slots ls h hth I hl
  refine lv_iconst (v := 1) C.1 C.2.1 dX1_wrong_9 (by decide) ?_
  refine lv_goto (tgt := 14) C.1 C.2.1 dX1_wrong_10 (by decide) ?_
  exact b_X1_wrong_14 C hex hLf l1 ((1 : Int32)) G _ _ _ _ _ h hth I (hl.sub [0, 1] rfl)
def w_X1_wrong (T : Nat → ClassId) (Q : Int32 → Hp → Prop) (E : Nat → Hp → Prop) (th : Option Nat) (p0 : Int32) (G : Hp) : Prop := isO G th 1 ∧ (((p0 = 0) → (w_X1_wrong_9 T Q E th p0 G)) ∧ ((¬ p0 = 0) → (((¬ p0 = (1 : Int32)) → (w_X1_wrong_14 T Q E th p0 ((0 : Int32)) G)) ∧ ((p0 = (1 : Int32)) → (w_X1_wrong_9 T Q E th p0 G)))))
theorem pd_X1_wrong : (parseMethodDescriptor yX1_wrong.desc).map (fun d => d.parameters.length) = some 1 := by decide +kernel
set_option maxHeartbeats 4000000 in
theorem ct_X1_wrong {l : Launch} {D : va_G} {T : Nat → ClassId} {Z : Heap} {G0 : Hp} {Q : Int32 → Hp → Prop} {E : Nat → Hp → Prop} {th : Option Nat} {p0 : Int32} (hLf : l.flags = flags0) (hw : w_X1_wrong T Q E th p0 G0) : CT (twd D T Z) (Evd D T Z) l yX1_wrong (Cond.code yX1_wrong cX1_wrong 3 (some .int)) 10 245 [va_rf th, .int p0] G0 (qI Q) E := by
  refine CT.ofW (cc := cX1_wrong) (nL := 3) (ret := (some .int)) Ext.rf (by decide) (Or.inl rfl) ?_
  intro p e s m below meth c hx hb hml hown hr hlk hnm hcb hm hc hn hE I
  have C : Cx p s m meth c D T Z "EndingTown" cX1_wrong 3 (some .int) := ⟨hx, hb, hml, hown, hE, hr, hlk⟩
  have hex := noEx hn hm hc hcb
  refine w_entry [.inr (.inl th), .inl p0] (Nat.le_of_ble_eq_true rfl) (fun ls hl => ?_)
  have hl : LH ls 3 [(0, .inr (.inl th)), (1, .inl p0)] := hl
  obtain ⟨hth, h⟩ := hw
  refine l_ild_n C dX1_wrong_0 hl 1 rfl rfl ?_
  refine lv_if_eq (tgt := 9) C.1 C.2.1 dX1_wrong_1 (by decide) (fun c2 => ?_) (fun c2 => ?_)
  · have h := h.1 c2
    exact b_X1_wrong_9 C hex hLf p0 G0 _ _ _ _ _ h hth I (hl.sub [0, 1] rfl)
  · have h := h.2 c2
    refine l_ild_n C dX1_wrong_4 hl 1 rfl rfl ?_
    refine lv_iconst (v := 1) C.1 C.2.1 dX1_wrong_5 (by decide) ?_
    refine lv_icmp_ne (tgt := 13) C.1 C.2.1 dX1_wrong_6 (by decide) (fun c1 => ?_) (fun c1 => ?_)
    · have h := h.1 c1
      refine lv_iconst (v := 0) C.1 C.2.1 dX1_wrong_13 (by decide) ?_
      exact b_X1_wrong_14 C hex hLf p0 ((0 : Int32)) G0 _ _ _ _ _ h hth I (hl.sub [0, 1] rfl)
    · have h := h.2 c1
      exact b_X1_wrong_9 C hex hLf p0 G0 _ _ _ _ _ h hth I (hl.sub [0, 1] rfl)
def w_X1_mended_27 (T : Nat → ClassId) (Q : Int32 → Hp → Prop) (E : Nat → Hp → Prop) (th : Option Nat) (l1 : Int32) (t0 : Int32) (G : Hp) : Prop := w_X1_found T (fun G1 => Ext G G1 → isO G1 (gR G1 (ad th) 10) 50 ∧ vp_in l1 (gN G1 (ad (gR G1 (ad th) 10))) ∧ Q (gI G1 (ad (gR G1 (ad th) 10)) l1.toNatClampNeg) G1) E t0 G
set_option maxHeartbeats 4000000 in
theorem b_X1_mended_27 {G0 : Hp} {Q : Int32 → Hp → Prop} {E : Nat → Hp → Prop} {th : Option Nat} (C : Cx p s m meth c D T Z "EndingTown" cX1_mended 2 (some .int)) (hex : ∀ z ∈ c.exceptionTable.toList, ∀ pc, covers z pc = false) (hLf : l.flags = flags0) : ∀ (l1 : Int32) (t0 : Int32) (G : Hp) (H : Heap) (locs : List Loc) (cells slots : Nat) (ls : Array Slot), w_X1_mended_27 T Q E th l1 t0 G → isO G th 1 → HI (twd D T Z) G0 s (rmX (twd D T Z) 7 120 G0) H locs cells slots G → LH ls 2 [(0, .inr (.inl th)), (1, .inl l1)] → W p l e (rmX (twd D T Z) 7 120 G0) s m args below meth c H locs cells slots (MQX (twd D T Z) G0 (qI Q) E below s) (F0 m 27 ls [.int t0]) := by
  intro l1 t0 G H locs cells slots ls h hth I hl
  refine k_call Ext.tr C I (k_S (As := [.int t0]) (rest := []) (y := yX1_found) C q1094 q1095 q100 (Or.inl rfl) q1096 (by decide) rfl pd_X1_found rfl dX1_mended_27) (ct_X1_found hLf h) hl.1 dX1_mended_27 [] rfl (Nat.le_of_ble_eq_true rfl) (Or.inl rfl) q1096 q100 ⟨Nat.le_of_ble_eq_true rfl, Nat.le_of_ble_eq_true rfl⟩ (fun v G1 H locs cells slots xG1 hq I => ?_) (fun a G9 H locs cells slots ex hq I => t_out C.2.2.2.2.2.2 ⟨rfl, rfl⟩ (fun z hz => hex z hz _) I hq)
  obtain ⟨rfl, h⟩ := hq
  have h := h xG1
  refine l_ald_n C dX1_mended_30 hl 0 rfl rfl ?_
  refine g_R C I fl_X1_104_1 (by decide) (by decide) (hth.ext (by decide) xG1) dX1_mended_31 ?_
  refine l_ild_n C dX1_mended_34 hl 1 rfl rfl ?_
  obtain ⟨ho3, h⟩ := h
  obtain ⟨hi, h⟩ := h
  refine a_iald C I ho3 hi dX1_mended_35 ?_
  exact r_int C.1 C.2.1 C.2.2.2.2.2.1 rfl C.2.2.2.2.2.2 ⟨rfl, rfl⟩ I dX1_mended_36 ⟨_, rfl, h⟩
def w_X1_mended_26 (T : Nat → ClassId) (Q : Int32 → Hp → Prop) (E : Nat → Hp → Prop) (th : Option Nat) (l1 : Int32) (G : Hp) : Prop := w_X1_mended_27 T Q E th l1 ((0 : Int32)) G
set_option maxHeartbeats 4000000 in
theorem b_X1_mended_26 {G0 : Hp} {Q : Int32 → Hp → Prop} {E : Nat → Hp → Prop} {th : Option Nat} (C : Cx p s m meth c D T Z "EndingTown" cX1_mended 2 (some .int)) (hex : ∀ z ∈ c.exceptionTable.toList, ∀ pc, covers z pc = false) (hLf : l.flags = flags0) : ∀ (l1 : Int32) (G : Hp) (H : Heap) (locs : List Loc) (cells slots : Nat) (ls : Array Slot), w_X1_mended_26 T Q E th l1 G → isO G th 1 → HI (twd D T Z) G0 s (rmX (twd D T Z) 7 120 G0) H locs cells slots G → LH ls 2 [(0, .inr (.inl th)), (1, .inl l1)] → W p l e (rmX (twd D T Z) 7 120 G0) s m args below meth c H locs cells slots (MQX (twd D T Z) G0 (qI Q) E below s) (F0 m 26 ls []) := by
  intro l1 G H locs cells slots ls h hth I hl
  refine lv_iconst (v := 0) C.1 C.2.1 dX1_mended_26 (by decide) ?_
  exact b_X1_mended_27 C hex hLf l1 ((0 : Int32)) G _ _ _ _ _ h hth I (hl.sub [0, 1] rfl)
def w_X1_mended (T : Nat → ClassId) (Q : Int32 → Hp → Prop) (E : Nat → Hp → Prop) (th : Option Nat) (p0 : Int32) (G : Hp) : Prop := isO G th 1 ∧ (((gR G (ad th) 10 = none) → (w_X1_mended_26 T Q E th p0 G)) ∧ ((¬ gR G (ad th) 10 = none) → (isO G (gR G (ad th) 10) 50 ∧ w_X1_in T (fun r3 G2 => Ext G G2 → ((r3 = 0) → (w_X1_mended_26 T Q E th p0 G2)) ∧ ((¬ r3 = 0) → (w_X1_mended_27 T Q E th p0 ((1 : Int32)) G2))) p0 ((0 : Int32)) ((nI (gN G (ad (gR G (ad th) 10))) - (1 : Int32))) G)))
theorem pd_X1_mended : (parseMethodDescriptor yX1_mended.desc).map (fun d => d.parameters.length) = some 1 := by decide +kernel
set_option maxHeartbeats 4000000 in
theorem ct_X1_mended {l : Launch} {D : va_G} {T : Nat → ClassId} {Z : Heap} {G0 : Hp} {Q : Int32 → Hp → Prop} {E : Nat → Hp → Prop} {th : Option Nat} {p0 : Int32} (hLf : l.flags = flags0) (hw : w_X1_mended T Q E th p0 G0) : CT (twd D T Z) (Evd D T Z) l yX1_mended (Cond.code yX1_mended cX1_mended 2 (some .int)) 7 120 [va_rf th, .int p0] G0 (qI Q) E := by
  refine CT.ofW (cc := cX1_mended) (nL := 2) (ret := (some .int)) Ext.rf (by decide) (Or.inl rfl) ?_
  intro p e s m below meth c hx hb hml hown hr hlk hnm hcb hm hc hn hE I
  have C : Cx p s m meth c D T Z "EndingTown" cX1_mended 2 (some .int) := ⟨hx, hb, hml, hown, hE, hr, hlk⟩
  have hex := noEx hn hm hc hcb
  refine w_entry [.inr (.inl th), .inl p0] (Nat.le_of_ble_eq_true rfl) (fun ls hl => ?_)
  have hl : LH ls 2 [(0, .inr (.inl th)), (1, .inl p0)] := hl
  obtain ⟨hth, h⟩ := hw
  refine l_ald_n C dX1_mended_0 hl 0 rfl rfl ?_
  refine g_R C I fl_X1_104_1 (by decide) (by decide) hth dX1_mended_1 ?_
  refine l_ifnull (tgt := 26) C dX1_mended_4 (by decide) (fun c5 => ?_) (fun c5 => ?_)
  · have h := h.1 c5
    exact b_X1_mended_26 C hex hLf p0 G0 _ _ _ _ _ h hth I (hl.sub [0, 1] rfl)
  · have h := h.2 c5
    refine l_ild_n C dX1_mended_7 hl 1 rfl rfl ?_
    refine lv_iconst (v := 0) C.1 C.2.1 dX1_mended_8 (by decide) ?_
    refine l_ald_n C dX1_mended_9 hl 0 rfl rfl ?_
    refine g_R C I fl_X1_104_1 (by decide) (by decide) hth dX1_mended_10 ?_
    obtain ⟨ho1, h⟩ := h
    refine a_len C I ho1 (by decide) dX1_mended_13 ?_
    refine lv_iconst (v := 1) C.1 C.2.1 dX1_mended_14 (by decide) ?_
    refine lv_isub C.1 C.2.1 dX1_mended_15 ?_
    refine k_call Ext.tr C I (k_S (As := [.int p0, .int ((0 : Int32)), .int ((nI (gN G0 (ad (gR G0 (ad th) 10))) - (1 : Int32)))]) (rest := []) (y := yX1_in) C q1093 q764 q100 (Or.inl rfl) q765 (by decide) rfl pd_X1_in rfl dX1_mended_16) (ct_X1_in h) hl.1 dX1_mended_16 [] rfl (Nat.le_of_ble_eq_true rfl) (Or.inl rfl) q765 q100 ⟨Nat.le_of_ble_eq_true rfl, Nat.le_of_ble_eq_true rfl⟩ (fun v G2 H locs cells slots xG2 hq I => ?_) (fun a G9 H locs cells slots ex hq I => hq.elim)
    obtain ⟨r3, rfl, h⟩ := hq
    have h := h xG2
    refine lv_if_eq (tgt := 26) C.1 C.2.1 dX1_mended_19 (by decide) (fun c4 => ?_) (fun c4 => ?_)
    · have h := h.1 c4
      exact b_X1_mended_26 C hex hLf p0 G2 _ _ _ _ _ h (hth.ext (by decide) xG2) I (hl.sub [0, 1] rfl)
    · have h := h.2 c4
      refine lv_iconst (v := 1) C.1 C.2.1 dX1_mended_22 (by decide) ?_
      refine lv_goto (tgt := 27) C.1 C.2.1 dX1_mended_23 (by decide) ?_
      exact b_X1_mended_27 C hex hLf p0 ((1 : Int32)) G2 _ _ _ _ _ h (hth.ext (by decide) xG2) I (hl.sub [0, 1] rfl)
def w_X1_silence_91 (T : Nat → ClassId) (Q : Int32 → Hp → Prop) (E : Nat → Hp → Prop) (th : Option Nat) (k15 : Int32 → Int32 → Int32 → Int32 → Hp → Prop) (l1 : Int32) (l2 : Int32) (l3 : Int32) (l4 : Int32) (G : Hp) : Prop := k15 l1 l2 l3 ((l4 + 1)) G
set_option maxHeartbeats 4000000 in
theorem b_X1_silence_91 {G0 : Hp} {Q : Int32 → Hp → Prop} {E : Nat → Hp → Prop} {th : Option Nat} {k15 : Int32 → Int32 → Int32 → Int32 → Hp → Prop} (C : Cx p s m meth c D T Z "EndingTown" cX1_silence 5 (some .int)) (hex : ∀ z ∈ c.exceptionTable.toList, ∀ pc, covers z pc = false) (hLf : l.flags = flags0) (hk15 : ∀ (l1 : Int32) (l2 : Int32) (l3 : Int32) (l4 : Int32) (G : Hp) (H : Heap) (locs : List Loc) (cells slots : Nat) (ls : Array Slot), k15 l1 l2 l3 l4 G → isO G th 1 → HI (twd D T Z) G0 s (rmX (twd D T Z) 9 225 G0) H locs cells slots G → LH ls 5 [(0, .inr (.inl th)), (1, .inl l1), (2, .inl l2), (3, .inl l3), (4, .inl l4)] → W p l e (rmX (twd D T Z) 9 225 G0) s m args below meth c H locs cells slots (MQX (twd D T Z) G0 (qI Q) E below s) (F0 m 15 ls [])) : ∀ (l1 : Int32) (l2 : Int32) (l3 : Int32) (l4 : Int32) (G : Hp) (H : Heap) (locs : List Loc) (cells slots : Nat) (ls : Array Slot), w_X1_silence_91 T Q E th k15 l1 l2 l3 l4 G → isO G th 1 → HI (twd D T Z) G0 s (rmX (twd D T Z) 9 225 G0) H locs cells slots G → LH ls 5 [(0, .inr (.inl th)), (1, .inl l1), (2, .inl l2), (3, .inl l3), (4, .inl l4)] → W p l e (rmX (twd D T Z) 9 225 G0) s m args below meth c H locs cells slots (MQX (twd D T Z) G0 (qI Q) E below s) (F0 m 91 ls []) := by
  intro l1 l2 l3 l4 G H locs cells slots ls h hth I hl
  refine l_inc (q := 4) (v := 1) C dX1_silence_91 hl rfl (by decide) (by decide) rfl (fun ls hl => ?_)
  have hl : LH ls 5 [(4, .inl ((l4 + 1))), (0, .inr (.inl th)), (1, .inl l1), (2, .inl l2), (3, .inl l3)] := hl
  refine lv_goto (tgt := 15) C.1 C.2.1 dX1_silence_94 (by decide) ?_
  exact hk15 l1 l2 l3 ((l4 + 1)) G _ _ _ _ _ h hth I (hl.sub [1, 2, 3, 4, 0] rfl)
def w_X1_silence_59 (T : Nat → ClassId) (Q : Int32 → Hp → Prop) (E : Nat → Hp → Prop) (th : Option Nat) (k15 : Int32 → Int32 → Int32 → Int32 → Hp → Prop) (l1 : Int32) (l2 : Int32) (l3 : Int32) (l4 : Int32) (G : Hp) : Prop := isO G (gR G (ad th) 2) 56 ∧ vp_in ((2 : Int32)) (gN G (ad (gR G (ad th) 2))) ∧ isO G (gR G (ad th) 3) 8 ∧ w_X10_begin T (fun r3 G2 => Ext G G2 → isO G2 r3 8 ∧ w_X10_tell T (fun r5 G4 => Ext G2 G4 → (isO G4 (gR G (ad (gR G (ad th) 2)) ((2 : Int32)).toNatClampNeg) 3 ∨ isO G4 (gR G (ad (gR G (ad th) 2)) ((2 : Int32)).toNatClampNeg) 4 ∨ isO G4 (gR G (ad (gR G (ad th) 2)) ((2 : Int32)).toNatClampNeg) 5 ∨ isO G4 (gR G (ad (gR G (ad th) 2)) ((2 : Int32)).toNatClampNeg) 6 ∨ isO G4 (gR G (ad (gR G (ad th) 2)) ((2 : Int32)).toNatClampNeg) 7) ∧ (isO G4 (gR G (ad (gR G (ad th) 2)) ((2 : Int32)).toNatClampNeg) 3 → w_X5_round T (fun r7 G6 => Ext G4 G6 → ((¬ r7 = 0) → (w_X1_silence_91 T Q E th k15 l1 l2 l3 l4 G6)) ∧ ((r7 = 0) → (w_X1_silence_91 T Q E th k15 l1 l2 l4 l4 G6))) (gR G (ad (gR G (ad th) 2)) ((2 : Int32)).toNatClampNeg) r5 l1 ((23 : Int32)) l2 ((0 : Int32)) G4) ∧ (isO G4 (gR G (ad (gR G (ad th) 2)) ((2 : Int32)).toNatClampNeg) 4 → w_X6_round T (fun r7 G6 => Ext G4 G6 → ((¬ r7 = 0) → (w_X1_silence_91 T Q E th k15 l1 l2 l3 l4 G6)) ∧ ((r7 = 0) → (w_X1_silence_91 T Q E th k15 l1 l2 l4 l4 G6))) (gR G (ad (gR G (ad th) 2)) ((2 : Int32)).toNatClampNeg) r5 l1 ((23 : Int32)) l2 ((0 : Int32)) G4) ∧ (isO G4 (gR G (ad (gR G (ad th) 2)) ((2 : Int32)).toNatClampNeg) 5 → w_X7_round T (fun r7 G6 => Ext G4 G6 → ((¬ r7 = 0) → (w_X1_silence_91 T Q E th k15 l1 l2 l3 l4 G6)) ∧ ((r7 = 0) → (w_X1_silence_91 T Q E th k15 l1 l2 l4 l4 G6))) (gR G (ad (gR G (ad th) 2)) ((2 : Int32)).toNatClampNeg) r5 l1 ((23 : Int32)) l2 ((0 : Int32)) G4) ∧ (isO G4 (gR G (ad (gR G (ad th) 2)) ((2 : Int32)).toNatClampNeg) 6 → w_X8_round T (fun r7 G6 => Ext G4 G6 → ((¬ r7 = 0) → (w_X1_silence_91 T Q E th k15 l1 l2 l3 l4 G6)) ∧ ((r7 = 0) → (w_X1_silence_91 T Q E th k15 l1 l2 l4 l4 G6))) (gR G (ad (gR G (ad th) 2)) ((2 : Int32)).toNatClampNeg) r5 l1 ((23 : Int32)) l2 ((0 : Int32)) G4) ∧ (isO G4 (gR G (ad (gR G (ad th) 2)) ((2 : Int32)).toNatClampNeg) 7 → w_X9_round T (fun r7 G6 => Ext G4 G6 → ((¬ r7 = 0) → (w_X1_silence_91 T Q E th k15 l1 l2 l3 l4 G6)) ∧ ((r7 = 0) → (w_X1_silence_91 T Q E th k15 l1 l2 l4 l4 G6))) (gR G (ad (gR G (ad th) 2)) ((2 : Int32)).toNatClampNeg) r5 l1 ((23 : Int32)) l2 ((0 : Int32)) G4)) r3 G2) (gR G (ad th) 3) l4 G
set_option maxHeartbeats 4000000 in
theorem b_X1_silence_59 {G0 : Hp} {Q : Int32 → Hp → Prop} {E : Nat → Hp → Prop} {th : Option Nat} {k15 : Int32 → Int32 → Int32 → Int32 → Hp → Prop} (C : Cx p s m meth c D T Z "EndingTown" cX1_silence 5 (some .int)) (hex : ∀ z ∈ c.exceptionTable.toList, ∀ pc, covers z pc = false) (hLf : l.flags = flags0) (hk15 : ∀ (l1 : Int32) (l2 : Int32) (l3 : Int32) (l4 : Int32) (G : Hp) (H : Heap) (locs : List Loc) (cells slots : Nat) (ls : Array Slot), k15 l1 l2 l3 l4 G → isO G th 1 → HI (twd D T Z) G0 s (rmX (twd D T Z) 9 225 G0) H locs cells slots G → LH ls 5 [(0, .inr (.inl th)), (1, .inl l1), (2, .inl l2), (3, .inl l3), (4, .inl l4)] → W p l e (rmX (twd D T Z) 9 225 G0) s m args below meth c H locs cells slots (MQX (twd D T Z) G0 (qI Q) E below s) (F0 m 15 ls [])) : ∀ (l1 : Int32) (l2 : Int32) (l3 : Int32) (l4 : Int32) (G : Hp) (H : Heap) (locs : List Loc) (cells slots : Nat) (ls : Array Slot), w_X1_silence_59 T Q E th k15 l1 l2 l3 l4 G → isO G th 1 → HI (twd D T Z) G0 s (rmX (twd D T Z) 9 225 G0) H locs cells slots G → LH ls 5 [(0, .inr (.inl th)), (1, .inl l1), (2, .inl l2), (3, .inl l3), (4, .inl l4)] → W p l e (rmX (twd D T Z) 9 225 G0) s m args below meth c H locs cells slots (MQX (twd D T Z) G0 (qI Q) E below s) (F0 m 59 ls []) := by
  intro l1 l2 l3 l4 G H locs cells slots ls h hth I hl
  refine l_ald_n C dX1_silence_59 hl 0 rfl rfl ?_
  refine g_R C I fl_X1_48_1 (by decide) (by decide) hth dX1_silence_60 ?_
  refine lv_iconst (v := 2) C.1 C.2.1 dX1_silence_63 (by decide) ?_
  obtain ⟨ho1, h⟩ := h
  obtain ⟨hi, h⟩ := h
  refine a_aald C I ho1 (by decide) hi dX1_silence_64 ?_
  refine l_ald_n C dX1_silence_65 hl 0 rfl rfl ?_
  refine g_R C I fl_X1_55_1 (by decide) (by decide) hth dX1_silence_66 ?_
  refine l_ild C dX1_silence_69 hl 4 rfl ?_
  obtain ⟨ho10, h⟩ := h
  refine k_call Ext.tr C I (k_V (r := gR G (ad th) 3) (As := [.int l4]) (rest := [va_rf (gR G (ad (gR G (ad th) 2)) ((2 : Int32)).toNatClampNeg)]) (y := yX10_begin) C ⟨ho10.ad.1, I.recv C.2.2.2.2.1 ho10 (by decide)⟩ q468 q469 q470 (Or.inl rfl) q471 (by decide) rfl pd_X10_begin rfl dX1_silence_71) (ct_X10_begin h) hl.1 dX1_silence_71 [.inr (.inl (gR G (ad (gR G (ad th) 2)) ((2 : Int32)).toNatClampNeg))] rfl (Nat.le_of_ble_eq_true rfl) (Or.inl rfl) q471 q112 ⟨Nat.le_of_ble_eq_true rfl, Nat.le_of_ble_eq_true rfl⟩ (fun v G2 H locs cells slots xG2 hq I => ?_) (fun a G9 H locs cells slots ex hq I => hq.elim)
  obtain ⟨r3, rfl, h⟩ := hq
  have h := h xG2
  obtain ⟨ho9, h⟩ := h
  refine k_call Ext.tr C I (k_V (r := r3) (As := []) (rest := [va_rf (gR G (ad (gR G (ad th) 2)) ((2 : Int32)).toNatClampNeg)]) (y := yX10_tell) C ⟨ho9.ad.1, I.recv C.2.2.2.2.1 ho9 (by decide)⟩ q488 q489 q490 (Or.inl rfl) q491 (by decide) rfl pd_X10_tell rfl dX1_silence_74) (ct_X10_tell h) hl.1 dX1_silence_74 [.inr (.inl (gR G (ad (gR G (ad th) 2)) ((2 : Int32)).toNatClampNeg))] rfl (Nat.le_of_ble_eq_true rfl) (Or.inl rfl) q491 q112 ⟨Nat.le_of_ble_eq_true rfl, Nat.le_of_ble_eq_true rfl⟩ (fun v G4 H locs cells slots xG4 hq I => ?_) (fun a G9 H locs cells slots ex hq I => hq.elim)
  obtain ⟨r5, rfl, h⟩ := hq
  have h := h xG4
  refine l_ild_n C dX1_silence_77 hl 1 rfl rfl ?_
  refine lv_bipush (v := 23) C.1 C.2.1 dX1_silence_78 (by decide) ?_
  refine l_ild_n C dX1_silence_80 hl 2 rfl rfl ?_
  refine lv_iconst (v := 0) C.1 C.2.1 dX1_silence_81 (by decide) ?_
  have kk : ∀ (v : Option Value) (G6 : Hp) (H : Heap) (locs : List Loc) (cells slots : Nat), Ext G4 G6 → (qI (fun r7 G6 => Ext G4 G6 → ((¬ r7 = 0) → (w_X1_silence_91 T Q E th k15 l1 l2 l3 l4 G6)) ∧ ((r7 = 0) → (w_X1_silence_91 T Q E th k15 l1 l2 l4 l4 G6)))) v G6 → HI (twd D T Z) G0 s (rmX (twd D T Z) 9 225 G0) H locs cells slots G6 → W p l e (rmX (twd D T Z) 9 225 G0) s m args below meth c H locs cells slots (MQX (twd D T Z) G0 (qI Q) E below s) (F0 m 85 ls (v.toList ++ [])) := by
    intro v G6 H locs cells slots xG6 hq I
    obtain ⟨r7, rfl, h⟩ := hq
    have h := h xG6
    refine lv_if_ne (tgt := 91) C.1 C.2.1 dX1_silence_85 (by decide) (fun c8 => ?_) (fun c8 => ?_)
    · have h := h.1 c8
      exact b_X1_silence_91 C hex hLf hk15 l1 l2 l3 l4 G6 _ _ _ _ _ h (hth.ext (by decide) (Ext.tr _ _ _ xG2 (Ext.tr _ _ _ xG4 xG6))) I (hl.sub [0, 1, 2, 3, 4] rfl)
    · have h := h.2 c8
      refine l_ild C dX1_silence_88 hl 4 rfl ?_
      refine l_ist_n C dX1_silence_90 rfl hl (by decide) rfl (fun ls hl => ?_)
      have hl : LH ls 5 [(3, .inl l4), (0, .inr (.inl th)), (1, .inl l1), (2, .inl l2), (4, .inl l4)] := hl
      exact b_X1_silence_91 C hex hLf hk15 l1 l2 l4 l4 G6 _ _ _ _ _ h (hth.ext (by decide) (Ext.tr _ _ _ xG2 (Ext.tr _ _ _ xG4 xG6))) I (hl.sub [1, 2, 3, 0, 4] rfl)
  obtain ⟨hd, h⟩ := h
  rcases hd with ho3 | ho4 | ho5 | ho6 | ho7
  · have h := h.1 ho3
    refine k_call Ext.tr C I (k_U (r := gR G (ad (gR G (ad th) 2)) ((2 : Int32)).toNatClampNeg) (As := [va_rf r5, .int l1, .int ((23 : Int32)), .int l2, .int ((0 : Int32))]) (rest := []) (y := yX5_round) (x := ⟨"EndingTown$How", "round", "(LEndingTown$Day;IIIZ)I"⟩) (owner := "EndingTown$How") C ⟨ho3.ad.1, I.recv C.2.2.2.2.1 ho3 (by decide)⟩ q1274 q498 q497 (by decide) q512 q513 rfl pd_X5_round rfl dX1_silence_82) (ct_X5_round h) hl.1 dX1_silence_82 [] rfl (Nat.le_of_ble_eq_true rfl) (Or.inl rfl) q514 q107 ⟨Nat.le_of_ble_eq_true rfl, Nat.le_of_ble_eq_true rfl⟩ (fun v G6 H locs cells slots xG6 hq I => kk v G6 H locs cells slots xG6 hq I) (fun a G9 H locs cells slots ex hq I => hq.elim)
  · have h := h.2.1 ho4
    refine k_call Ext.tr C I (k_U (r := gR G (ad (gR G (ad th) 2)) ((2 : Int32)).toNatClampNeg) (As := [va_rf r5, .int l1, .int ((23 : Int32)), .int l2, .int ((0 : Int32))]) (rest := []) (y := yX6_round) (x := ⟨"EndingTown$How", "round", "(LEndingTown$Day;IIIZ)I"⟩) (owner := "EndingTown$How") C ⟨ho4.ad.1, I.recv C.2.2.2.2.1 ho4 (by decide)⟩ q1274 q498 q497 (by decide) q502 q503 rfl pd_X6_round rfl dX1_silence_82) (ct_X6_round h) hl.1 dX1_silence_82 [] rfl (Nat.le_of_ble_eq_true rfl) (Or.inl rfl) q504 q108 ⟨Nat.le_of_ble_eq_true rfl, Nat.le_of_ble_eq_true rfl⟩ (fun v G6 H locs cells slots xG6 hq I => kk v G6 H locs cells slots xG6 hq I) (fun a G9 H locs cells slots ex hq I => hq.elim)
  · have h := h.2.2.1 ho5
    refine k_call Ext.tr C I (k_U (r := gR G (ad (gR G (ad th) 2)) ((2 : Int32)).toNatClampNeg) (As := [va_rf r5, .int l1, .int ((23 : Int32)), .int l2, .int ((0 : Int32))]) (rest := []) (y := yX7_round) (x := ⟨"EndingTown$How", "round", "(LEndingTown$Day;IIIZ)I"⟩) (owner := "EndingTown$How") C ⟨ho5.ad.1, I.recv C.2.2.2.2.1 ho5 (by decide)⟩ q1274 q498 q497 (by decide) q519 q520 rfl pd_X7_round rfl dX1_silence_82) (ct_X7_round h) hl.1 dX1_silence_82 [] rfl (Nat.le_of_ble_eq_true rfl) (Or.inl rfl) q521 q109 ⟨Nat.le_of_ble_eq_true rfl, Nat.le_of_ble_eq_true rfl⟩ (fun v G6 H locs cells slots xG6 hq I => kk v G6 H locs cells slots xG6 hq I) (fun a G9 H locs cells slots ex hq I => hq.elim)
  · have h := h.2.2.2.1 ho6
    refine k_call Ext.tr C I (k_U (r := gR G (ad (gR G (ad th) 2)) ((2 : Int32)).toNatClampNeg) (As := [va_rf r5, .int l1, .int ((23 : Int32)), .int l2, .int ((0 : Int32))]) (rest := []) (y := yX8_round) (x := ⟨"EndingTown$How", "round", "(LEndingTown$Day;IIIZ)I"⟩) (owner := "EndingTown$How") C ⟨ho6.ad.1, I.recv C.2.2.2.2.1 ho6 (by decide)⟩ q1274 q498 q497 (by decide) q536 q537 rfl pd_X8_round rfl dX1_silence_82) (ct_X8_round h) hl.1 dX1_silence_82 [] rfl (Nat.le_of_ble_eq_true rfl) (Or.inl rfl) q538 q110 ⟨Nat.le_of_ble_eq_true rfl, Nat.le_of_ble_eq_true rfl⟩ (fun v G6 H locs cells slots xG6 hq I => kk v G6 H locs cells slots xG6 hq I) (fun a G9 H locs cells slots ex hq I => hq.elim)
  · have h := h.2.2.2.2 ho7
    refine k_call Ext.tr C I (k_U (r := gR G (ad (gR G (ad th) 2)) ((2 : Int32)).toNatClampNeg) (As := [va_rf r5, .int l1, .int ((23 : Int32)), .int l2, .int ((0 : Int32))]) (rest := []) (y := yX9_round) (x := ⟨"EndingTown$How", "round", "(LEndingTown$Day;IIIZ)I"⟩) (owner := "EndingTown$How") C ⟨ho7.ad.1, I.recv C.2.2.2.2.1 ho7 (by decide)⟩ q1274 q498 q497 (by decide) q499 q500 rfl pd_X9_round rfl dX1_silence_82) (ct_X9_round h) hl.1 dX1_silence_82 [] rfl (Nat.le_of_ble_eq_true rfl) (Or.inl rfl) q501 q111 ⟨Nat.le_of_ble_eq_true rfl, Nat.le_of_ble_eq_true rfl⟩ (fun v G6 H locs cells slots xG6 hq I => kk v G6 H locs cells slots xG6 hq I) (fun a G9 H locs cells slots ex hq I => hq.elim)
def w_X1_silence_15 (T : Nat → ClassId) (Q : Int32 → Hp → Prop) (E : Nat → Hp → Prop) (th : Option Nat) : Nat → Int32 → Int32 → Int32 → Int32 → Hp → Prop
  | 0 => fun _ _ _ _ _ => False
  | f15 + 1 => fun l1 l2 l3 l4 G => isO G (gR G (ad th) 0) 2 ∧ ((((1 : Int32) <<< (gI G (ad (gR G (ad th) 0)) 10 &&& 31)) ≤ l4) → (Q l3 G)) ∧ ((¬ ((1 : Int32) <<< (gI G (ad (gR G (ad th) 0)) 10 &&& 31)) ≤ l4) → (((((l4 >>> (l1 &&& 31)) &&& (1 : Int32)) = (1 : Int32)) → (w_X1_silence_91 T Q E th (w_X1_silence_15 T Q E th f15) l1 l2 l3 l4 G)) ∧ ((¬ ((l4 >>> (l1 &&& 31)) &&& (1 : Int32)) = (1 : Int32)) → (((l3 = (-1 : Int32)) → (w_X1_silence_59 T Q E th (w_X1_silence_15 T Q E th f15) l1 l2 l3 l4 G)) ∧ ((¬ l3 = (-1 : Int32)) → (w_J15_bitCount T (fun r3 G2 => Ext G G2 → w_J15_bitCount T (fun r5 G4 => Ext G2 G4 → ((r3 < r5) → (w_X1_silence_59 T Q E th (w_X1_silence_15 T Q E th f15) l1 l2 l3 l4 G4)) ∧ ((¬ r3 < r5) → (w_X1_silence_91 T Q E th (w_X1_silence_15 T Q E th f15) l1 l2 l3 l4 G4))) l3 G2) l4 G))))))
set_option maxHeartbeats 4000000 in
theorem b_X1_silence_15 {G0 : Hp} {Q : Int32 → Hp → Prop} {E : Nat → Hp → Prop} {th : Option Nat} (C : Cx p s m meth c D T Z "EndingTown" cX1_silence 5 (some .int)) (hex : ∀ z ∈ c.exceptionTable.toList, ∀ pc, covers z pc = false) (hLf : l.flags = flags0) : ∀ (n : Nat) (l1 : Int32) (l2 : Int32) (l3 : Int32) (l4 : Int32) (G : Hp) (H : Heap) (locs : List Loc) (cells slots : Nat) (ls : Array Slot), w_X1_silence_15 T Q E th n l1 l2 l3 l4 G → isO G th 1 → HI (twd D T Z) G0 s (rmX (twd D T Z) 9 225 G0) H locs cells slots G → LH ls 5 [(0, .inr (.inl th)), (1, .inl l1), (2, .inl l2), (3, .inl l3), (4, .inl l4)] → W p l e (rmX (twd D T Z) 9 225 G0) s m args below meth c H locs cells slots (MQX (twd D T Z) G0 (qI Q) E below s) (F0 m 15 ls []) := by
  intro f15
  induction f15 with
  | zero => intro l1 l2 l3 l4 G H locs cells slots ls h; exact (show False from h).elim
  | succ f15 ih =>
    intro l1 l2 l3 l4 G H locs cells slots ls h hth I hl
    have h : isO G (gR G (ad th) 0) 2 ∧ ((((1 : Int32) <<< (gI G (ad (gR G (ad th) 0)) 10 &&& 31)) ≤ l4) → (Q l3 G)) ∧ ((¬ ((1 : Int32) <<< (gI G (ad (gR G (ad th) 0)) 10 &&& 31)) ≤ l4) → (((((l4 >>> (l1 &&& 31)) &&& (1 : Int32)) = (1 : Int32)) → (w_X1_silence_91 T Q E th (w_X1_silence_15 T Q E th f15) l1 l2 l3 l4 G)) ∧ ((¬ ((l4 >>> (l1 &&& 31)) &&& (1 : Int32)) = (1 : Int32)) → (((l3 = (-1 : Int32)) → (w_X1_silence_59 T Q E th (w_X1_silence_15 T Q E th f15) l1 l2 l3 l4 G)) ∧ ((¬ l3 = (-1 : Int32)) → (w_J15_bitCount T (fun r3 G2 => Ext G G2 → w_J15_bitCount T (fun r5 G4 => Ext G2 G4 → ((r3 < r5) → (w_X1_silence_59 T Q E th (w_X1_silence_15 T Q E th f15) l1 l2 l3 l4 G4)) ∧ ((¬ r3 < r5) → (w_X1_silence_91 T Q E th (w_X1_silence_15 T Q E th f15) l1 l2 l3 l4 G4))) l3 G2) l4 G)))))) := h
    have hk15 := ih
    refine l_ild C dX1_silence_15 hl 4 rfl ?_
    refine lv_iconst (v := 1) C.1 C.2.1 dX1_silence_17 (by decide) ?_
    refine l_ald_n C dX1_silence_18 hl 0 rfl rfl ?_
    refine g_R C I fl_X1_16_1 (by decide) (by decide) hth dX1_silence_19 ?_
    obtain ⟨ho1, h⟩ := h
    refine g_I C I fl_X1_125_2 (by decide) (by decide) ho1 dX1_silence_22 ?_
    refine lv_ishl C.1 C.2.1 dX1_silence_25 ?_
    refine lv_icmp_ge (tgt := 97) C.1 C.2.1 dX1_silence_26 (by decide) (fun c9 => ?_) (fun c9 => ?_)
    · have h := h.1 c9
      refine l_ild_n C dX1_silence_97 hl 3 rfl rfl ?_
      exact r_int C.1 C.2.1 C.2.2.2.2.2.1 rfl C.2.2.2.2.2.2 ⟨rfl, rfl⟩ I dX1_silence_98 ⟨_, rfl, h⟩
    · have h := h.2 c9
      refine l_ild C dX1_silence_29 hl 4 rfl ?_
      refine l_ild_n C dX1_silence_31 hl 1 rfl rfl ?_
      refine lv_ishr C.1 C.2.1 dX1_silence_32 ?_
      refine lv_iconst (v := 1) C.1 C.2.1 dX1_silence_33 (by decide) ?_
      refine lv_iand C.1 C.2.1 dX1_silence_34 ?_
      refine lv_iconst (v := 1) C.1 C.2.1 dX1_silence_35 (by decide) ?_
      refine lv_icmp_eq (tgt := 91) C.1 C.2.1 dX1_silence_36 (by decide) (fun c8 => ?_) (fun c8 => ?_)
      · have h := h.1 c8
        exact b_X1_silence_91 C hex hLf hk15 l1 l2 l3 l4 G _ _ _ _ _ h hth I (hl.sub [0, 1, 2, 3, 4] rfl)
      · have h := h.2 c8
        refine l_ild_n C dX1_silence_39 hl 3 rfl rfl ?_
        refine lv_iconst (v := (-1)) C.1 C.2.1 dX1_silence_40 (by decide) ?_
        refine lv_icmp_eq (tgt := 59) C.1 C.2.1 dX1_silence_41 (by decide) (fun c7 => ?_) (fun c7 => ?_)
        · have h := h.1 c7
          exact b_X1_silence_59 C hex hLf hk15 l1 l2 l3 l4 G _ _ _ _ _ h hth I (hl.sub [0, 1, 2, 3, 4] rfl)
        · have h := h.2 c7
          refine l_ild C dX1_silence_44 hl 4 rfl ?_
          refine k_call Ext.tr C I (k_S (As := [.int l4]) (rest := []) (y := yJ15_bitCount) C q458 q459 q133 (Or.inl rfl) q460 (by decide) rfl pd_J15_bitCount rfl dX1_silence_46) (ct_J15_bitCount h) hl.1 dX1_silence_46 [] rfl (Nat.le_of_ble_eq_true rfl) (Or.inl rfl) q460 q133 ⟨Nat.le_of_ble_eq_true rfl, Nat.le_of_ble_eq_true rfl⟩ (fun v G2 H locs cells slots xG2 hq I => ?_) (fun a G9 H locs cells slots ex hq I => hq.elim)
          obtain ⟨r3, rfl, h⟩ := hq
          have h := h xG2
          refine l_ild_n C dX1_silence_49 hl 3 rfl rfl ?_
          refine k_call Ext.tr C I (k_S (As := [.int l3]) (rest := [.int r3]) (y := yJ15_bitCount) C q458 q459 q133 (Or.inl rfl) q460 (by decide) rfl pd_J15_bitCount rfl dX1_silence_50) (ct_J15_bitCount h) hl.1 dX1_silence_50 [.inl r3] rfl (Nat.le_of_ble_eq_true rfl) (Or.inl rfl) q460 q133 ⟨Nat.le_of_ble_eq_true rfl, Nat.le_of_ble_eq_true rfl⟩ (fun v G4 H locs cells slots xG4 hq I => ?_) (fun a G9 H locs cells slots ex hq I => hq.elim)
          obtain ⟨r5, rfl, h⟩ := hq
          have h := h xG4
          refine lv_icmp_lt (tgt := 59) C.1 C.2.1 dX1_silence_53 (by decide) (fun c6 => ?_) (fun c6 => ?_)
          · have h := h.1 c6
            exact b_X1_silence_59 C hex hLf hk15 l1 l2 l3 l4 G4 _ _ _ _ _ h (hth.ext (by decide) (Ext.tr _ _ _ xG2 xG4)) I (hl.sub [0, 1, 2, 3, 4] rfl)
          · have h := h.2 c6
            refine lv_goto (tgt := 91) C.1 C.2.1 dX1_silence_56 (by decide) ?_
            exact b_X1_silence_91 C hex hLf hk15 l1 l2 l3 l4 G4 _ _ _ _ _ h (hth.ext (by decide) (Ext.tr _ _ _ xG2 xG4)) I (hl.sub [0, 1, 2, 3, 4] rfl)
def w_X1_silence (T : Nat → ClassId) (Q : Int32 → Hp → Prop) (E : Nat → Hp → Prop) (th : Option Nat) (p0 : Int32) (p1 : Int32) (G : Hp) : Prop := isO G th 1 ∧ (w_X1_aPerson T (fun G1 => Ext G G1 → w_X1_aThing T (fun G3 => Ext G1 G3 → ∃ n, w_X1_silence_15 T Q E th n p0 p1 ((-1 : Int32)) ((0 : Int32)) G3) E th p1 G1) E th p0 G)
theorem pd_X1_silence : (parseMethodDescriptor yX1_silence.desc).map (fun d => d.parameters.length) = some 2 := by decide +kernel
set_option maxHeartbeats 4000000 in
theorem ct_X1_silence {l : Launch} {D : va_G} {T : Nat → ClassId} {Z : Heap} {G0 : Hp} {Q : Int32 → Hp → Prop} {E : Nat → Hp → Prop} {th : Option Nat} {p0 : Int32} {p1 : Int32} (hLf : l.flags = flags0) (hw : w_X1_silence T Q E th p0 p1 G0) : CT (twd D T Z) (Evd D T Z) l yX1_silence (Cond.code yX1_silence cX1_silence 5 (some .int)) 9 225 [va_rf th, .int p0, .int p1] G0 (qI Q) E := by
  refine CT.ofW (cc := cX1_silence) (nL := 5) (ret := (some .int)) Ext.rf (by decide) (Or.inl rfl) ?_
  intro p e s m below meth c hx hb hml hown hr hlk hnm hcb hm hc hn hE I
  have C : Cx p s m meth c D T Z "EndingTown" cX1_silence 5 (some .int) := ⟨hx, hb, hml, hown, hE, hr, hlk⟩
  have hex := noEx hn hm hc hcb
  refine w_entry [.inr (.inl th), .inl p0, .inl p1] (Nat.le_of_ble_eq_true rfl) (fun ls hl => ?_)
  have hl : LH ls 5 [(0, .inr (.inl th)), (1, .inl p0), (2, .inl p1)] := hl
  obtain ⟨hth, h⟩ := hw
  refine l_ald_n C dX1_silence_0 hl 0 rfl rfl ?_
  refine l_ild_n C dX1_silence_1 hl 1 rfl rfl ?_
  refine k_call Ext.tr C I (k_V (r := th) (As := [.int p0]) (rest := []) (y := yX1_aPerson) C ⟨hth.ad.1, I.recv C.2.2.2.2.1 hth (by decide)⟩ q1089 q1091 qs32 (Or.inl rfl) q1092 (by decide) rfl pd_X1_aPerson rfl dX1_silence_2) (ct_X1_aPerson hLf h) hl.1 dX1_silence_2 [] rfl (Nat.le_of_ble_eq_true rfl) (Or.inl rfl) q1092 q100 ⟨Nat.le_of_ble_eq_true rfl, Nat.le_of_ble_eq_true rfl⟩ (fun v G1 H locs cells slots xG1 hq I => ?_) (fun a G9 H locs cells slots ex hq I => t_out C.2.2.2.2.2.2 ⟨rfl, rfl⟩ (fun z hz => hex z hz _) I hq)
  obtain ⟨rfl, h⟩ := hq
  have h := h xG1
  refine l_ald_n C dX1_silence_5 hl 0 rfl rfl ?_
  refine l_ild_n C dX1_silence_6 hl 2 rfl rfl ?_
  refine k_call Ext.tr C I (k_V (r := th) (As := [.int p1]) (rest := []) (y := yX1_aThing) C ⟨(hth.ext (by decide) xG1).ad.1, I.recv C.2.2.2.2.1 (hth.ext (by decide) xG1) (by decide)⟩ q1109 q1111 qs34 (Or.inl rfl) q1112 (by decide) rfl pd_X1_aThing rfl dX1_silence_7) (ct_X1_aThing hLf h) hl.1 dX1_silence_7 [] rfl (Nat.le_of_ble_eq_true rfl) (Or.inl rfl) q1112 q100 ⟨Nat.le_of_ble_eq_true rfl, Nat.le_of_ble_eq_true rfl⟩ (fun v G3 H locs cells slots xG3 hq I => ?_) (fun a G9 H locs cells slots ex hq I => t_out C.2.2.2.2.2.2 ⟨rfl, rfl⟩ (fun z hz => hex z hz _) I hq)
  obtain ⟨rfl, h⟩ := hq
  have h := h xG3
  refine lv_iconst (v := (-1)) C.1 C.2.1 dX1_silence_10 (by decide) ?_
  refine l_ist_n C dX1_silence_11 rfl hl (by decide) rfl (fun ls hl => ?_)
  have hl : LH ls 5 [(3, .inl ((-1 : Int32))), (0, .inr (.inl th)), (1, .inl p0), (2, .inl p1)] := hl
  refine lv_iconst (v := 0) C.1 C.2.1 dX1_silence_12 (by decide) ?_
  refine l_ist C dX1_silence_13 hl (by decide) rfl (fun ls hl => ?_)
  have hl : LH ls 5 [(4, .inl ((0 : Int32))), (3, .inl ((-1 : Int32))), (0, .inr (.inl th)), (1, .inl p0), (2, .inl p1)] := hl
  obtain ⟨n, h⟩ := h
  exact b_X1_silence_15 C hex hLf n p0 p1 ((-1 : Int32)) ((0 : Int32)) G3 _ _ _ _ _ h (hth.ext (by decide) (Ext.tr _ _ _ xG1 xG3)) I (hl.sub [2, 3, 4, 1, 0] rfl)
def w_X1_likely_212 (T : Nat → ClassId) (Q : Int32 → Hp → Prop) (E : Nat → Hp → Prop) (th : Option Nat) (k17 : Int32 → Int32 → Int64 → Int32 → Hp → Prop) (l1 : Int32) (l2 : Int32) (l3 : Int64) (l5 : Int32) (G : Hp) : Prop := k17 l1 l2 l3 ((l5 + 1)) G
set_option maxHeartbeats 4000000 in
theorem b_X1_likely_212 {G0 : Hp} {Q : Int32 → Hp → Prop} {E : Nat → Hp → Prop} {th : Option Nat} {k17 : Int32 → Int32 → Int64 → Int32 → Hp → Prop} (C : Cx p s m meth c D T Z "EndingTown" cX1_likely 13 (some .int)) (hex : ∀ z ∈ c.exceptionTable.toList, ∀ pc, covers z pc = false) (hLf : l.flags = flags0) (hk17 : ∀ (l1 : Int32) (l2 : Int32) (l3 : Int64) (l5 : Int32) (G : Hp) (H : Heap) (locs : List Loc) (cells slots : Nat) (ls : Array Slot), k17 l1 l2 l3 l5 G → isO G th 1 → HI (twd D T Z) G0 s (rmX (twd D T Z) 8 141 G0) H locs cells slots G → LH ls 13 [(0, .inr (.inl th)), (1, .inl l1), (2, .inl l2), (3, .inr (.inr l3)), (5, .inl l5)] → W p l e (rmX (twd D T Z) 8 141 G0) s m args below meth c H locs cells slots (MQX (twd D T Z) G0 (qI Q) E below s) (F0 m 17 ls [])) : ∀ (l1 : Int32) (l2 : Int32) (l3 : Int64) (l5 : Int32) (G : Hp) (H : Heap) (locs : List Loc) (cells slots : Nat) (ls : Array Slot), w_X1_likely_212 T Q E th k17 l1 l2 l3 l5 G → isO G th 1 → HI (twd D T Z) G0 s (rmX (twd D T Z) 8 141 G0) H locs cells slots G → LH ls 13 [(0, .inr (.inl th)), (1, .inl l1), (2, .inl l2), (3, .inr (.inr l3)), (5, .inl l5)] → W p l e (rmX (twd D T Z) 8 141 G0) s m args below meth c H locs cells slots (MQX (twd D T Z) G0 (qI Q) E below s) (F0 m 212 ls []) := by
  intro l1 l2 l3 l5 G H locs cells slots ls h hth I hl
  refine l_inc (q := 4) (v := 1) C dX1_likely_212 hl rfl (by decide) (by decide) rfl (fun ls hl => ?_)
  have hl : LH ls 13 [(5, .inl ((l5 + 1))), (0, .inr (.inl th)), (1, .inl l1), (2, .inl l2), (3, .inr (.inr l3))] := hl
  refine lv_goto (tgt := 17) C.1 C.2.1 dX1_likely_215 (by decide) ?_
  exact hk17 l1 l2 l3 ((l5 + 1)) G _ _ _ _ _ h hth I (hl.sub [1, 2, 3, 4, 0] rfl)
def w_X1_likely_211 (T : Nat → ClassId) (Q : Int32 → Hp → Prop) (E : Nat → Hp → Prop) (th : Option Nat) (k17 : Int32 → Int32 → Int64 → Int32 → Hp → Prop) (l1 : Int32) (l2 : Int32) (l5 : Int32) (t0 : Int64) (G : Hp) : Prop := w_X1_likely_212 T Q E th k17 l1 l2 t0 l5 G
set_option maxHeartbeats 4000000 in
theorem b_X1_likely_211 {G0 : Hp} {Q : Int32 → Hp → Prop} {E : Nat → Hp → Prop} {th : Option Nat} {k17 : Int32 → Int32 → Int64 → Int32 → Hp → Prop} (C : Cx p s m meth c D T Z "EndingTown" cX1_likely 13 (some .int)) (hex : ∀ z ∈ c.exceptionTable.toList, ∀ pc, covers z pc = false) (hLf : l.flags = flags0) (hk17 : ∀ (l1 : Int32) (l2 : Int32) (l3 : Int64) (l5 : Int32) (G : Hp) (H : Heap) (locs : List Loc) (cells slots : Nat) (ls : Array Slot), k17 l1 l2 l3 l5 G → isO G th 1 → HI (twd D T Z) G0 s (rmX (twd D T Z) 8 141 G0) H locs cells slots G → LH ls 13 [(0, .inr (.inl th)), (1, .inl l1), (2, .inl l2), (3, .inr (.inr l3)), (5, .inl l5)] → W p l e (rmX (twd D T Z) 8 141 G0) s m args below meth c H locs cells slots (MQX (twd D T Z) G0 (qI Q) E below s) (F0 m 17 ls [])) : ∀ (l1 : Int32) (l2 : Int32) (l5 : Int32) (t0 : Int64) (G : Hp) (H : Heap) (locs : List Loc) (cells slots : Nat) (ls : Array Slot), w_X1_likely_211 T Q E th k17 l1 l2 l5 t0 G → isO G th 1 → HI (twd D T Z) G0 s (rmX (twd D T Z) 8 141 G0) H locs cells slots G → LH ls 13 [(0, .inr (.inl th)), (1, .inl l1), (2, .inl l2), (5, .inl l5)] → W p l e (rmX (twd D T Z) 8 141 G0) s m args below meth c H locs cells slots (MQX (twd D T Z) G0 (qI Q) E below s) (F0 m 211 ls [.long t0]) := by
  intro l1 l2 l5 t0 G H locs cells slots ls h hth I hl
  refine l_lst_n C dX1_likely_211 rfl hl (by decide) rfl (fun ls hl => ?_)
  have hl : LH ls 13 [(3, .inr (.inr t0)), (0, .inr (.inl th)), (1, .inl l1), (2, .inl l2), (5, .inl l5)] := hl
  exact b_X1_likely_212 C hex hLf hk17 l1 l2 t0 l5 G _ _ _ _ _ h hth I (hl.sub [1, 2, 3, 0, 4] rfl)
def w_X1_likely_118 (T : Nat → ClassId) (Q : Int32 → Hp → Prop) (E : Nat → Hp → Prop) (th : Option Nat) (k17 : Int32 → Int32 → Int64 → Int32 → Hp → Prop) (l1 : Int32) (l2 : Int32) (l3 : Int64) (l5 : Int32) (l6 : Option Nat) (t0 : Int64) (G : Hp) : Prop := isO G (gR G (ad th) 0) 2 ∧ isO G l6 15 ∧ isO G (gR G (ad (gR G (ad th) 0)) 7) 50 ∧ vp_in (((2 : Int32) * gI G (ad l6) 3)) (gN G (ad (gR G (ad (gR G (ad th) 0)) 7))) ∧ vp_in ((((2 : Int32) * gI G (ad l6) 3) + (1 : Int32))) (gN G (ad (gR G (ad (gR G (ad th) 0)) 7))) ∧ ((¬ (lg_cmp (((t0 * (gI G (ad (gR G (ad (gR G (ad th) 0)) 7)) (((2 : Int32) * gI G (ad l6) 3)).toNatClampNeg).toInt64) + (((1000000 : Int64) - t0) * (gI G (ad (gR G (ad (gR G (ad th) 0)) 7)) ((((2 : Int32) * gI G (ad l6) 3) + (1 : Int32))).toNatClampNeg).toInt64))) ((0 : Int64))) = 0) → (¬ ((t0 * (gI G (ad (gR G (ad (gR G (ad th) 0)) 7)) (((2 : Int32) * gI G (ad l6) 3)).toNatClampNeg).toInt64) + (((1000000 : Int64) - t0) * (gI G (ad (gR G (ad (gR G (ad th) 0)) 7)) ((((2 : Int32) * gI G (ad l6) 3) + (1 : Int32))).toNatClampNeg).toInt64)) = 0 ∧ ((gI G (ad l6) 4 = 0) → (w_X1_likely_211 T Q E th k17 l1 l2 l5 ((((t0 * (gI G (ad (gR G (ad (gR G (ad th) 0)) 7)) (((2 : Int32) * gI G (ad l6) 3)).toNatClampNeg).toInt64) * (1000000 : Int64)) / ((t0 * (gI G (ad (gR G (ad (gR G (ad th) 0)) 7)) (((2 : Int32) * gI G (ad l6) 3)).toNatClampNeg).toInt64) + (((1000000 : Int64) - t0) * (gI G (ad (gR G (ad (gR G (ad th) 0)) 7)) ((((2 : Int32) * gI G (ad l6) 3) + (1 : Int32))).toNatClampNeg).toInt64)))) G)) ∧ ((¬ gI G (ad l6) 4 = 0) → (w_X1_likely_211 T Q E th k17 l1 l2 l5 (((1000000 : Int64) - (((t0 * (gI G (ad (gR G (ad (gR G (ad th) 0)) 7)) (((2 : Int32) * gI G (ad l6) 3)).toNatClampNeg).toInt64) * (1000000 : Int64)) / ((t0 * (gI G (ad (gR G (ad (gR G (ad th) 0)) 7)) (((2 : Int32) * gI G (ad l6) 3)).toNatClampNeg).toInt64) + (((1000000 : Int64) - t0) * (gI G (ad (gR G (ad (gR G (ad th) 0)) 7)) ((((2 : Int32) * gI G (ad l6) 3) + (1 : Int32))).toNatClampNeg).toInt64))))) G)))) ∧ (((lg_cmp (((t0 * (gI G (ad (gR G (ad (gR G (ad th) 0)) 7)) (((2 : Int32) * gI G (ad l6) 3)).toNatClampNeg).toInt64) + (((1000000 : Int64) - t0) * (gI G (ad (gR G (ad (gR G (ad th) 0)) 7)) ((((2 : Int32) * gI G (ad l6) 3) + (1 : Int32))).toNatClampNeg).toInt64))) ((0 : Int64))) = 0) → (w_X1_likely_212 T Q E th k17 l1 l2 l3 l5 G))
set_option maxHeartbeats 4000000 in
theorem b_X1_likely_118 {G0 : Hp} {Q : Int32 → Hp → Prop} {E : Nat → Hp → Prop} {th : Option Nat} {k17 : Int32 → Int32 → Int64 → Int32 → Hp → Prop} (C : Cx p s m meth c D T Z "EndingTown" cX1_likely 13 (some .int)) (hex : ∀ z ∈ c.exceptionTable.toList, ∀ pc, covers z pc = false) (hLf : l.flags = flags0) (hk17 : ∀ (l1 : Int32) (l2 : Int32) (l3 : Int64) (l5 : Int32) (G : Hp) (H : Heap) (locs : List Loc) (cells slots : Nat) (ls : Array Slot), k17 l1 l2 l3 l5 G → isO G th 1 → HI (twd D T Z) G0 s (rmX (twd D T Z) 8 141 G0) H locs cells slots G → LH ls 13 [(0, .inr (.inl th)), (1, .inl l1), (2, .inl l2), (3, .inr (.inr l3)), (5, .inl l5)] → W p l e (rmX (twd D T Z) 8 141 G0) s m args below meth c H locs cells slots (MQX (twd D T Z) G0 (qI Q) E below s) (F0 m 17 ls [])) : ∀ (l1 : Int32) (l2 : Int32) (l3 : Int64) (l5 : Int32) (l6 : Option Nat) (t0 : Int64) (G : Hp) (H : Heap) (locs : List Loc) (cells slots : Nat) (ls : Array Slot), w_X1_likely_118 T Q E th k17 l1 l2 l3 l5 l6 t0 G → isO G th 1 → HI (twd D T Z) G0 s (rmX (twd D T Z) 8 141 G0) H locs cells slots G → LH ls 13 [(0, .inr (.inl th)), (1, .inl l1), (2, .inl l2), (3, .inr (.inr l3)), (5, .inl l5), (6, .inr (.inl l6))] → W p l e (rmX (twd D T Z) 8 141 G0) s m args below meth c H locs cells slots (MQX (twd D T Z) G0 (qI Q) E below s) (F0 m 118 ls [.long t0]) := by
  intro l1 l2 l3 l5 l6 t0 G H locs cells slots ls h hth I hl
  refine l_lst C dX1_likely_118 hl (by decide) rfl (fun ls hl => ?_)
  have hl : LH ls 13 [(7, .inr (.inr t0)), (0, .inr (.inl th)), (1, .inl l1), (2, .inl l2), (3, .inr (.inr l3)), (5, .inl l5), (6, .inr (.inl l6))] := hl
  refine l_lld C dX1_likely_120 hl 0 rfl ?_
  refine l_ald_n C dX1_likely_122 hl 1 rfl rfl ?_
  refine g_R C I fl_X1_16_1 (by decide) (by decide) hth dX1_likely_123 ?_
  obtain ⟨ho1, h⟩ := h
  refine g_R C I fl_X1_299_2 (by decide) (by decide) ho1 dX1_likely_126 ?_
  refine lv_iconst (v := 2) C.1 C.2.1 dX1_likely_129 (by decide) ?_
  refine l_ald C dX1_likely_130 hl 6 rfl ?_
  obtain ⟨ho2, h⟩ := h
  refine g_I C I fl_X1_254_15 (by decide) (by decide) ho2 dX1_likely_132 ?_
  refine lv_imul C.1 C.2.1 dX1_likely_135 ?_
  obtain ⟨ho3, h⟩ := h
  obtain ⟨hi, h⟩ := h
  refine a_iald C I ho3 hi dX1_likely_136 ?_
  refine lv_i2l C.1 C.2.1 dX1_likely_137 rfl ?_
  refine lv_lmul C.1 C.2.1 dX1_likely_138 ?_
  refine l_lst C dX1_likely_139 hl (by decide) rfl (fun ls hl => ?_)
  have hl : LH ls 13 [(9, .inr (.inr ((t0 * (gI G (ad (gR G (ad (gR G (ad th) 0)) 7)) (((2 : Int32) * gI G (ad l6) 3)).toNatClampNeg).toInt64)))), (7, .inr (.inr t0)), (0, .inr (.inl th)), (1, .inl l1), (2, .inl l2), (3, .inr (.inr l3)), (5, .inl l5), (6, .inr (.inl l6))] := hl
  refine l_lld C dX1_likely_141 hl 0 rfl ?_
  refine lv_ldc2 C.1 C.2.1 C.2.2.2.1 (C.2.2.2.2.1.1.good q1308 _) dX1_likely_143 ?_
  refine l_lld C dX1_likely_146 hl 1 rfl ?_
  refine lv_lsub C.1 C.2.1 dX1_likely_148 ?_
  refine l_ald_n C dX1_likely_149 hl 2 rfl rfl ?_
  refine g_R C I fl_X1_16_1 (by decide) (by decide) hth dX1_likely_150 ?_
  refine g_R C I fl_X1_299_2 (by decide) (by decide) ho1 dX1_likely_153 ?_
  refine lv_iconst (v := 2) C.1 C.2.1 dX1_likely_156 (by decide) ?_
  refine l_ald C dX1_likely_157 hl 7 rfl ?_
  refine g_I C I fl_X1_254_15 (by decide) (by decide) ho2 dX1_likely_159 ?_
  refine lv_imul C.1 C.2.1 dX1_likely_162 ?_
  refine lv_iconst (v := 1) C.1 C.2.1 dX1_likely_163 (by decide) ?_
  refine lv_iadd C.1 C.2.1 dX1_likely_164 ?_
  obtain ⟨hi, h⟩ := h
  refine a_iald C I ho3 hi dX1_likely_165 ?_
  refine lv_i2l C.1 C.2.1 dX1_likely_166 rfl ?_
  refine lv_lmul C.1 C.2.1 dX1_likely_167 ?_
  refine lv_ladd C.1 C.2.1 dX1_likely_168 ?_
  refine l_lst C dX1_likely_169 hl (by decide) rfl (fun ls hl => ?_)
  have hl : LH ls 13 [(11, .inr (.inr (((t0 * (gI G (ad (gR G (ad (gR G (ad th) 0)) 7)) (((2 : Int32) * gI G (ad l6) 3)).toNatClampNeg).toInt64) + (((1000000 : Int64) - t0) * (gI G (ad (gR G (ad (gR G (ad th) 0)) 7)) ((((2 : Int32) * gI G (ad l6) 3) + (1 : Int32))).toNatClampNeg).toInt64))))), (9, .inr (.inr ((t0 * (gI G (ad (gR G (ad (gR G (ad th) 0)) 7)) (((2 : Int32) * gI G (ad l6) 3)).toNatClampNeg).toInt64)))), (7, .inr (.inr t0)), (0, .inr (.inl th)), (1, .inl l1), (2, .inl l2), (3, .inr (.inr l3)), (5, .inl l5), (6, .inr (.inl l6))] := hl
  refine l_lld C dX1_likely_171 hl 0 rfl ?_
  refine lv_lconst (v := 0) C.1 C.2.1 dX1_likely_173 (by decide) ?_
  refine W.lcmp C.1 C.2.1 dX1_likely_174 ?_
  refine lv_if_ne (tgt := 181) C.1 C.2.1 dX1_likely_175 (by decide) (fun c5 => ?_) (fun c5 => ?_)
  · have h := h.1 c5
    refine l_lld C dX1_likely_181 hl 1 rfl ?_
    refine lv_ldc2 C.1 C.2.1 C.2.2.2.1 (C.2.2.2.2.1.1.good q1308 _) dX1_likely_183 ?_
    refine lv_lmul C.1 C.2.1 dX1_likely_186 ?_
    refine l_lld C dX1_likely_187 hl 0 rfl ?_
    obtain ⟨hne, h⟩ := h
    refine lv_ldiv C.1 C.2.1 dX1_likely_189 hne ?_
    refine l_lst C dX1_likely_190 hl (by decide) rfl (fun ls hl => ?_)
    have hl : LH ls 13 [(7, .inr (.inr ((((t0 * (gI G (ad (gR G (ad (gR G (ad th) 0)) 7)) (((2 : Int32) * gI G (ad l6) 3)).toNatClampNeg).toInt64) * (1000000 : Int64)) / ((t0 * (gI G (ad (gR G (ad (gR G (ad th) 0)) 7)) (((2 : Int32) * gI G (ad l6) 3)).toNatClampNeg).toInt64) + (((1000000 : Int64) - t0) * (gI G (ad (gR G (ad (gR G (ad th) 0)) 7)) ((((2 : Int32) * gI G (ad l6) 3) + (1 : Int32))).toNatClampNeg).toInt64)))))), (11, .inr (.inr (((t0 * (gI G (ad (gR G (ad (gR G (ad th) 0)) 7)) (((2 : Int32) * gI G (ad l6) 3)).toNatClampNeg).toInt64) + (((1000000 : Int64) - t0) * (gI G (ad (gR G (ad (gR G (ad th) 0)) 7)) ((((2 : Int32) * gI G (ad l6) 3) + (1 : Int32))).toNatClampNeg).toInt64))))), (9, .inr (.inr ((t0 * (gI G (ad (gR G (ad (gR G (ad th) 0)) 7)) (((2 : Int32) * gI G (ad l6) 3)).toNatClampNeg).toInt64)))), (0, .inr (.inl th)), (1, .inl l1), (2, .inl l2), (3, .inr (.inr l3)), (5, .inl l5), (6, .inr (.inl l6))] := hl
    refine l_ald C dX1_likely_192 hl 8 rfl ?_
    refine g_I C I fl_X1_257_15 (by decide) (by decide) ho2 dX1_likely_194 ?_
    refine lv_if_eq (tgt := 209) C.1 C.2.1 dX1_likely_197 (by decide) (fun c4 => ?_) (fun c4 => ?_)
    · have h := h.1 c4
      refine l_lld C dX1_likely_209 hl 0 rfl ?_
      exact b_X1_likely_211 C hex hLf hk17 l1 l2 l5 ((((t0 * (gI G (ad (gR G (ad (gR G (ad th) 0)) 7)) (((2 : Int32) * gI G (ad l6) 3)).toNatClampNeg).toInt64) * (1000000 : Int64)) / ((t0 * (gI G (ad (gR G (ad (gR G (ad th) 0)) 7)) (((2 : Int32) * gI G (ad l6) 3)).toNatClampNeg).toInt64) + (((1000000 : Int64) - t0) * (gI G (ad (gR G (ad (gR G (ad th) 0)) 7)) ((((2 : Int32) * gI G (ad l6) 3) + (1 : Int32))).toNatClampNeg).toInt64)))) G _ _ _ _ _ h hth I (hl.sub [3, 4, 5, 7] rfl)
    · have h := h.2 c4
      refine lv_ldc2 C.1 C.2.1 C.2.2.2.1 (C.2.2.2.2.1.1.good q1308 _) dX1_likely_200 ?_
      refine l_lld C dX1_likely_203 hl 0 rfl ?_
      refine lv_lsub C.1 C.2.1 dX1_likely_205 ?_
      refine lv_goto (tgt := 211) C.1 C.2.1 dX1_likely_206 (by decide) ?_
      exact b_X1_likely_211 C hex hLf hk17 l1 l2 l5 (((1000000 : Int64) - (((t0 * (gI G (ad (gR G (ad (gR G (ad th) 0)) 7)) (((2 : Int32) * gI G (ad l6) 3)).toNatClampNeg).toInt64) * (1000000 : Int64)) / ((t0 * (gI G (ad (gR G (ad (gR G (ad th) 0)) 7)) (((2 : Int32) * gI G (ad l6) 3)).toNatClampNeg).toInt64) + (((1000000 : Int64) - t0) * (gI G (ad (gR G (ad (gR G (ad th) 0)) 7)) ((((2 : Int32) * gI G (ad l6) 3) + (1 : Int32))).toNatClampNeg).toInt64))))) G _ _ _ _ _ h hth I (hl.sub [3, 4, 5, 7] rfl)
  · have h := h.2 c5
    refine lv_goto (tgt := 212) C.1 C.2.1 dX1_likely_178 (by decide) ?_
    exact b_X1_likely_212 C hex hLf hk17 l1 l2 l3 l5 G _ _ _ _ _ h hth I (hl.sub [3, 4, 5, 6, 7] rfl)
def w_X1_likely_17 (T : Nat → ClassId) (Q : Int32 → Hp → Prop) (E : Nat → Hp → Prop) (th : Option Nat) : Nat → Int32 → Int32 → Int64 → Int32 → Hp → Prop
  | 0 => fun _ _ _ _ _ => False
  | f17 + 1 => fun l1 l2 l3 l5 G => isO G (gR G (ad th) 1) 16 ∧ w_J2_size T (fun r2 G1 => Ext G G1 → ((r2 ≤ l5) → (Q l3.toInt32 G1)) ∧ ((¬ r2 ≤ l5) → (isO G1 (gR G1 (ad th) 1) 16 ∧ w_J2_get T (fun r4 G3 => Ext G1 G3 → (r4 = none ∨ isO G3 r4 15) ∧ isO G3 r4 15 ∧ ((¬ gI G3 (ad r4) 2 = l2) → (w_X1_likely_212 T Q E th (w_X1_likely_17 T Q E th f17) l1 l2 l3 l5 G3)) ∧ ((gI G3 (ad r4) 2 = l2) → (((gI G3 (ad r4) 0 = l1) → (w_X1_likely_212 T Q E th (w_X1_likely_17 T Q E th f17) l1 l2 l3 l5 G3)) ∧ ((¬ gI G3 (ad r4) 0 = l1) → (isO G3 (gR G3 (ad th) 0) 2 ∧ w_X2_where T (fun r7 G6 => Ext G3 G6 → isO G6 (gR G6 (ad th) 0) 2 ∧ w_X2_where T (fun r9 G8 => Ext G6 G8 → ((r7 = r9) → (((gI G8 (ad r4) 4 = 0) → (w_X1_likely_118 T Q E th (w_X1_likely_17 T Q E th f17) l1 l2 l3 l5 r4 l3 G8)) ∧ ((¬ gI G8 (ad r4) 4 = 0) → (w_X1_likely_118 T Q E th (w_X1_likely_17 T Q E th f17) l1 l2 l3 l5 r4 (((1000000 : Int64) - l3)) G8)))) ∧ ((¬ r7 = r9) → (w_X1_likely_212 T Q E th (w_X1_likely_17 T Q E th f17) l1 l2 l3 l5 G8))) (gR G6 (ad th) 0) (gI G6 (ad r4) 0) (gI G6 (ad r4) 1) G6) (gR G3 (ad th) 0) l1 (gI G3 (ad r4) 1) G3))))) (gR G1 (ad th) 1) l5 G1))) (gR G (ad th) 1) G
set_option maxHeartbeats 4000000 in
theorem b_X1_likely_17 {G0 : Hp} {Q : Int32 → Hp → Prop} {E : Nat → Hp → Prop} {th : Option Nat} (C : Cx p s m meth c D T Z "EndingTown" cX1_likely 13 (some .int)) (hex : ∀ z ∈ c.exceptionTable.toList, ∀ pc, covers z pc = false) (hLf : l.flags = flags0) : ∀ (n : Nat) (l1 : Int32) (l2 : Int32) (l3 : Int64) (l5 : Int32) (G : Hp) (H : Heap) (locs : List Loc) (cells slots : Nat) (ls : Array Slot), w_X1_likely_17 T Q E th n l1 l2 l3 l5 G → isO G th 1 → HI (twd D T Z) G0 s (rmX (twd D T Z) 8 141 G0) H locs cells slots G → LH ls 13 [(0, .inr (.inl th)), (1, .inl l1), (2, .inl l2), (3, .inr (.inr l3)), (5, .inl l5)] → W p l e (rmX (twd D T Z) 8 141 G0) s m args below meth c H locs cells slots (MQX (twd D T Z) G0 (qI Q) E below s) (F0 m 17 ls []) := by
  intro f17
  induction f17 with
  | zero => intro l1 l2 l3 l5 G H locs cells slots ls h; exact (show False from h).elim
  | succ f17 ih =>
    intro l1 l2 l3 l5 G H locs cells slots ls h hth I hl
    have h : isO G (gR G (ad th) 1) 16 ∧ w_J2_size T (fun r2 G1 => Ext G G1 → ((r2 ≤ l5) → (Q l3.toInt32 G1)) ∧ ((¬ r2 ≤ l5) → (isO G1 (gR G1 (ad th) 1) 16 ∧ w_J2_get T (fun r4 G3 => Ext G1 G3 → (r4 = none ∨ isO G3 r4 15) ∧ isO G3 r4 15 ∧ ((¬ gI G3 (ad r4) 2 = l2) → (w_X1_likely_212 T Q E th (w_X1_likely_17 T Q E th f17) l1 l2 l3 l5 G3)) ∧ ((gI G3 (ad r4) 2 = l2) → (((gI G3 (ad r4) 0 = l1) → (w_X1_likely_212 T Q E th (w_X1_likely_17 T Q E th f17) l1 l2 l3 l5 G3)) ∧ ((¬ gI G3 (ad r4) 0 = l1) → (isO G3 (gR G3 (ad th) 0) 2 ∧ w_X2_where T (fun r7 G6 => Ext G3 G6 → isO G6 (gR G6 (ad th) 0) 2 ∧ w_X2_where T (fun r9 G8 => Ext G6 G8 → ((r7 = r9) → (((gI G8 (ad r4) 4 = 0) → (w_X1_likely_118 T Q E th (w_X1_likely_17 T Q E th f17) l1 l2 l3 l5 r4 l3 G8)) ∧ ((¬ gI G8 (ad r4) 4 = 0) → (w_X1_likely_118 T Q E th (w_X1_likely_17 T Q E th f17) l1 l2 l3 l5 r4 (((1000000 : Int64) - l3)) G8)))) ∧ ((¬ r7 = r9) → (w_X1_likely_212 T Q E th (w_X1_likely_17 T Q E th f17) l1 l2 l3 l5 G8))) (gR G6 (ad th) 0) (gI G6 (ad r4) 0) (gI G6 (ad r4) 1) G6) (gR G3 (ad th) 0) l1 (gI G3 (ad r4) 1) G3))))) (gR G1 (ad th) 1) l5 G1))) (gR G (ad th) 1) G := h
    have hk17 := ih
    refine l_ild C dX1_likely_17 hl 4 rfl ?_
    refine l_ald_n C dX1_likely_19 hl 0 rfl rfl ?_
    refine g_R C I fl_X1_25_1 (by decide) (by decide) hth dX1_likely_20 ?_
    obtain ⟨ho18, h⟩ := h
    refine k_call Ext.tr C I (k_F (kd := 16) (r := gR G (ad th) 1) (As := []) (rest := [.int l5]) (y := yJ2_size) (x := ⟨"java/util/List", "size", "()I"⟩) C (by decide) ⟨ho18.ad.1, I.recv C.2.2.2.2.1 ho18 (by decide)⟩ q424 (by decide) q426 q425 q430 q428 q417 q427 q429 rfl pd_J2_size rfl dX1_likely_23) (ct_J2_size h) hl.1 dX1_likely_23 [.inl l5] rfl (Nat.le_of_ble_eq_true rfl) (Or.inl rfl) q431 q104 ⟨Nat.le_of_ble_eq_true rfl, Nat.le_of_ble_eq_true rfl⟩ (fun v G1 H locs cells slots xG1 hq I => ?_) (fun a G9 H locs cells slots ex hq I => hq.elim)
    obtain ⟨r2, rfl, h⟩ := hq
    have h := h xG1
    refine lv_icmp_ge (tgt := 218) C.1 C.2.1 dX1_likely_28 (by decide) (fun c17 => ?_) (fun c17 => ?_)
    · have h := h.1 c17
      refine l_lld_n C dX1_likely_218 hl 3 rfl rfl ?_
      refine lv_l2i C.1 C.2.1 dX1_likely_219 rfl ?_
      exact r_int C.1 C.2.1 C.2.2.2.2.2.1 rfl C.2.2.2.2.2.2 ⟨rfl, rfl⟩ I dX1_likely_220 ⟨_, rfl, h⟩
    · have h := h.2 c17
      refine l_ald_n C dX1_likely_31 hl 0 rfl rfl ?_
      refine g_R C I fl_X1_25_1 (by decide) (by decide) (hth.ext (by decide) xG1) dX1_likely_32 ?_
      refine l_ild C dX1_likely_35 hl 4 rfl ?_
      obtain ⟨ho16, h⟩ := h
      refine k_call Ext.tr C I (k_F (kd := 16) (r := gR G1 (ad th) 1) (As := [.int l5]) (rest := []) (y := yJ2_get) (x := ⟨"java/util/List", "get", "(I)Ljava/lang/Object;"⟩) C (by decide) ⟨ho16.ad.1, I.recv C.2.2.2.2.1 ho16 (by decide)⟩ q561 (by decide) q477 q476 q481 q479 q417 q478 q480 rfl pd_J2_get rfl dX1_likely_37) (ct_J2_get h) hl.1 dX1_likely_37 [] rfl (Nat.le_of_ble_eq_true rfl) (Or.inl rfl) q482 q104 ⟨Nat.le_of_ble_eq_true rfl, Nat.le_of_ble_eq_true rfl⟩ (fun v G3 H locs cells slots xG3 hq I => ?_) (fun a G9 H locs cells slots ex hq I => hq.elim)
      obtain ⟨r4, rfl, h⟩ := hq
      have h := h xG3
      obtain ⟨hcc, h⟩ := h
      refine c_cast (kd := 15) C I (by decide) q562 hcc dX1_likely_42 ?_
      refine l_ast C dX1_likely_45 hl (by decide) rfl (fun ls hl => ?_)
      have hl : LH ls 13 [(6, .inr (.inl r4)), (0, .inr (.inl th)), (1, .inl l1), (2, .inl l2), (3, .inr (.inr l3)), (5, .inl l5)] := hl
      refine l_ald C dX1_likely_47 hl 0 rfl ?_
      obtain ⟨ho5, h⟩ := h
      refine g_I C I fl_X1_251_15 (by decide) (by decide) ho5 dX1_likely_49 ?_
      refine l_ild_n C dX1_likely_52 hl 3 rfl rfl ?_
      refine lv_icmp_ne (tgt := 212) C.1 C.2.1 dX1_likely_53 (by decide) (fun c15 => ?_) (fun c15 => ?_)
      · have h := h.1 c15
        exact b_X1_likely_212 C hex hLf hk17 l1 l2 l3 l5 G3 _ _ _ _ _ h (hth.ext (by decide) (Ext.tr _ _ _ xG1 xG3)) I (hl.sub [1, 2, 3, 4, 5] rfl)
      · have h := h.2 c15
        refine l_ald C dX1_likely_56 hl 0 rfl ?_
        refine g_I C I fl_X1_247_15 (by decide) (by decide) ho5 dX1_likely_58 ?_
        refine l_ild_n C dX1_likely_61 hl 2 rfl rfl ?_
        refine lv_icmp_eq (tgt := 212) C.1 C.2.1 dX1_likely_62 (by decide) (fun c14 => ?_) (fun c14 => ?_)
        · have h := h.1 c14
          exact b_X1_likely_212 C hex hLf hk17 l1 l2 l3 l5 G3 _ _ _ _ _ h (hth.ext (by decide) (Ext.tr _ _ _ xG1 xG3)) I (hl.sub [1, 2, 3, 4, 5] rfl)
        · have h := h.2 c14
          refine l_ald_n C dX1_likely_65 hl 1 rfl rfl ?_
          refine g_R C I fl_X1_16_1 (by decide) (by decide) (hth.ext (by decide) (Ext.tr _ _ _ xG1 xG3)) dX1_likely_66 ?_
          refine l_ild_n C dX1_likely_69 hl 2 rfl rfl ?_
          refine l_ald C dX1_likely_70 hl 0 rfl ?_
          refine g_I C I fl_X1_250_15 (by decide) (by decide) ho5 dX1_likely_72 ?_
          obtain ⟨ho13, h⟩ := h
          refine k_call Ext.tr C I (k_V (r := gR G3 (ad th) 0) (As := [.int l1, .int (gI G3 (ad r4) 1)]) (rest := []) (y := yX2_where) C ⟨ho13.ad.1, I.recv C.2.2.2.2.1 ho13 (by decide)⟩ q1101 q509 q510 (Or.inl rfl) q511 (by decide) rfl pd_X2_where rfl dX1_likely_75) (ct_X2_where h) hl.1 dX1_likely_75 [] rfl (Nat.le_of_ble_eq_true rfl) (Or.inl rfl) q511 q101 ⟨Nat.le_of_ble_eq_true rfl, Nat.le_of_ble_eq_true rfl⟩ (fun v G6 H locs cells slots xG6 hq I => ?_) (fun a G9 H locs cells slots ex hq I => hq.elim)
          obtain ⟨r7, rfl, h⟩ := hq
          have h := h xG6
          refine l_ald_n C dX1_likely_78 hl 1 rfl rfl ?_
          refine g_R C I fl_X1_16_1 (by decide) (by decide) (hth.ext (by decide) (Ext.tr _ _ _ xG1 (Ext.tr _ _ _ xG3 xG6))) dX1_likely_79 ?_
          refine l_ald C dX1_likely_82 hl 0 rfl ?_
          refine g_I C I fl_X1_247_15 (by decide) (by decide) (ho5.ext (by decide) xG6) dX1_likely_84 ?_
          refine l_ald C dX1_likely_87 hl 0 rfl ?_
          refine g_I C I fl_X1_250_15 (by decide) (by decide) (ho5.ext (by decide) xG6) dX1_likely_89 ?_
          obtain ⟨ho12, h⟩ := h
          refine k_call Ext.tr C I (k_V (r := gR G6 (ad th) 0) (As := [.int (gI G6 (ad r4) 0), .int (gI G6 (ad r4) 1)]) (rest := [.int r7]) (y := yX2_where) C ⟨ho12.ad.1, I.recv C.2.2.2.2.1 ho12 (by decide)⟩ q1101 q509 q510 (Or.inl rfl) q511 (by decide) rfl pd_X2_where rfl dX1_likely_92) (ct_X2_where h) hl.1 dX1_likely_92 [.inl r7] rfl (Nat.le_of_ble_eq_true rfl) (Or.inl rfl) q511 q101 ⟨Nat.le_of_ble_eq_true rfl, Nat.le_of_ble_eq_true rfl⟩ (fun v G8 H locs cells slots xG8 hq I => ?_) (fun a G9 H locs cells slots ex hq I => hq.elim)
          obtain ⟨r9, rfl, h⟩ := hq
          have h := h xG8
          refine lv_icmp_eq (tgt := 101) C.1 C.2.1 dX1_likely_95 (by decide) (fun c11 => ?_) (fun c11 => ?_)
          · have h := h.1 c11
            refine l_ald C dX1_likely_101 hl 0 rfl ?_
            refine g_I C I fl_X1_257_15 (by decide) (by decide) (ho5.ext (by decide) (Ext.tr _ _ _ xG6 xG8)) dX1_likely_103 ?_
            refine lv_if_eq (tgt := 117) C.1 C.2.1 dX1_likely_106 (by decide) (fun c10 => ?_) (fun c10 => ?_)
            · have h := h.1 c10
              refine l_lld_n C dX1_likely_117 hl 4 rfl rfl ?_
              exact b_X1_likely_118 C hex hLf hk17 l1 l2 l3 l5 r4 l3 G8 _ _ _ _ _ h (hth.ext (by decide) (Ext.tr _ _ _ xG1 (Ext.tr _ _ _ xG3 (Ext.tr _ _ _ xG6 xG8)))) I (hl.sub [1, 2, 3, 4, 5, 0] rfl)
            · have h := h.2 c10
              refine lv_ldc2 C.1 C.2.1 C.2.2.2.1 (C.2.2.2.2.1.1.good q1308 _) dX1_likely_109 ?_
              refine l_lld_n C dX1_likely_112 hl 4 rfl rfl ?_
              refine lv_lsub C.1 C.2.1 dX1_likely_113 ?_
              refine lv_goto (tgt := 118) C.1 C.2.1 dX1_likely_114 (by decide) ?_
              exact b_X1_likely_118 C hex hLf hk17 l1 l2 l3 l5 r4 (((1000000 : Int64) - l3)) G8 _ _ _ _ _ h (hth.ext (by decide) (Ext.tr _ _ _ xG1 (Ext.tr _ _ _ xG3 (Ext.tr _ _ _ xG6 xG8)))) I (hl.sub [1, 2, 3, 4, 5, 0] rfl)
          · have h := h.2 c11
            refine lv_goto (tgt := 212) C.1 C.2.1 dX1_likely_98 (by decide) ?_
            exact b_X1_likely_212 C hex hLf hk17 l1 l2 l3 l5 G8 _ _ _ _ _ h (hth.ext (by decide) (Ext.tr _ _ _ xG1 (Ext.tr _ _ _ xG3 (Ext.tr _ _ _ xG6 xG8)))) I (hl.sub [1, 2, 3, 4, 5] rfl)
def w_X1_likely (T : Nat → ClassId) (Q : Int32 → Hp → Prop) (E : Nat → Hp → Prop) (th : Option Nat) (p0 : Int32) (p1 : Int32) (G : Hp) : Prop := isO G th 1 ∧ (w_X1_aPerson T (fun G1 => Ext G G1 → w_X1_aThing T (fun G3 => Ext G1 G3 → ∃ n, w_X1_likely_17 T Q E th n p0 p1 ((500000 : Int64)) ((0 : Int32)) G3) E th p1 G1) E th p0 G)
theorem pd_X1_likely : (parseMethodDescriptor yX1_likely.desc).map (fun d => d.parameters.length) = some 2 := by decide +kernel
set_option maxHeartbeats 4000000 in
theorem ct_X1_likely {l : Launch} {D : va_G} {T : Nat → ClassId} {Z : Heap} {G0 : Hp} {Q : Int32 → Hp → Prop} {E : Nat → Hp → Prop} {th : Option Nat} {p0 : Int32} {p1 : Int32} (hLf : l.flags = flags0) (hw : w_X1_likely T Q E th p0 p1 G0) : CT (twd D T Z) (Evd D T Z) l yX1_likely (Cond.code yX1_likely cX1_likely 13 (some .int)) 8 141 [va_rf th, .int p0, .int p1] G0 (qI Q) E := by
  refine CT.ofW (cc := cX1_likely) (nL := 13) (ret := (some .int)) Ext.rf (by decide) (Or.inl rfl) ?_
  intro p e s m below meth c hx hb hml hown hr hlk hnm hcb hm hc hn hE I
  have C : Cx p s m meth c D T Z "EndingTown" cX1_likely 13 (some .int) := ⟨hx, hb, hml, hown, hE, hr, hlk⟩
  have hex := noEx hn hm hc hcb
  refine w_entry [.inr (.inl th), .inl p0, .inl p1] (Nat.le_of_ble_eq_true rfl) (fun ls hl => ?_)
  have hl : LH ls 13 [(0, .inr (.inl th)), (1, .inl p0), (2, .inl p1)] := hl
  obtain ⟨hth, h⟩ := hw
  refine l_ald_n C dX1_likely_0 hl 0 rfl rfl ?_
  refine l_ild_n C dX1_likely_1 hl 1 rfl rfl ?_
  refine k_call Ext.tr C I (k_V (r := th) (As := [.int p0]) (rest := []) (y := yX1_aPerson) C ⟨hth.ad.1, I.recv C.2.2.2.2.1 hth (by decide)⟩ q1089 q1091 qs32 (Or.inl rfl) q1092 (by decide) rfl pd_X1_aPerson rfl dX1_likely_2) (ct_X1_aPerson hLf h) hl.1 dX1_likely_2 [] rfl (Nat.le_of_ble_eq_true rfl) (Or.inl rfl) q1092 q100 ⟨Nat.le_of_ble_eq_true rfl, Nat.le_of_ble_eq_true rfl⟩ (fun v G1 H locs cells slots xG1 hq I => ?_) (fun a G9 H locs cells slots ex hq I => t_out C.2.2.2.2.2.2 ⟨rfl, rfl⟩ (fun z hz => hex z hz _) I hq)
  obtain ⟨rfl, h⟩ := hq
  have h := h xG1
  refine l_ald_n C dX1_likely_5 hl 0 rfl rfl ?_
  refine l_ild_n C dX1_likely_6 hl 2 rfl rfl ?_
  refine k_call Ext.tr C I (k_V (r := th) (As := [.int p1]) (rest := []) (y := yX1_aThing) C ⟨(hth.ext (by decide) xG1).ad.1, I.recv C.2.2.2.2.1 (hth.ext (by decide) xG1) (by decide)⟩ q1109 q1111 qs34 (Or.inl rfl) q1112 (by decide) rfl pd_X1_aThing rfl dX1_likely_7) (ct_X1_aThing hLf h) hl.1 dX1_likely_7 [] rfl (Nat.le_of_ble_eq_true rfl) (Or.inl rfl) q1112 q100 ⟨Nat.le_of_ble_eq_true rfl, Nat.le_of_ble_eq_true rfl⟩ (fun v G3 H locs cells slots xG3 hq I => ?_) (fun a G9 H locs cells slots ex hq I => t_out C.2.2.2.2.2.2 ⟨rfl, rfl⟩ (fun z hz => hex z hz _) I hq)
  obtain ⟨rfl, h⟩ := hq
  have h := h xG3
  refine lv_ldc2 C.1 C.2.1 C.2.2.2.1 (C.2.2.2.2.1.1.good q1307 _) dX1_likely_10 ?_
  refine l_lst_n C dX1_likely_13 rfl hl (by decide) rfl (fun ls hl => ?_)
  have hl : LH ls 13 [(3, .inr (.inr ((500000 : Int64)))), (0, .inr (.inl th)), (1, .inl p0), (2, .inl p1)] := hl
  refine lv_iconst (v := 0) C.1 C.2.1 dX1_likely_14 (by decide) ?_
  refine l_ist C dX1_likely_15 hl (by decide) rfl (fun ls hl => ?_)
  have hl : LH ls 13 [(5, .inl ((0 : Int32))), (3, .inr (.inr ((500000 : Int64)))), (0, .inr (.inl th)), (1, .inl p0), (2, .inl p1)] := hl
  obtain ⟨n, h⟩ := h
  exact b_X1_likely_17 C hex hLf n p0 p1 ((500000 : Int64)) ((0 : Int32)) G3 _ _ _ _ _ h (hth.ext (by decide) (Ext.tr _ _ _ xG1 xG3)) I (hl.sub [2, 3, 4, 1, 0] rfl)
def w_X1_worlds_35 (T : Nat → ClassId) (Q : Int32 → Hp → Prop) (E : Nat → Hp → Prop) (th : Option Nat) (l1 : Int32) (t0 : Int32) (G : Hp) : Prop := w_X1_right T (fun G1 => Ext G G1 → ∀ G3 : Hp, G3 = wI G1 (ad th) 11 l1 → w_J15_bitCount T (fun r5 G4 => Ext G3 G4 → ∀ G6 : Hp, G6 = wI G4 (ad th) 12 ((((1 : Int32) <<< (((1 : Int32) <<< (r5 &&& 31)) &&& 31)) - (1 : Int32))) → w_J15_bitCount T (fun r8 G7 => Ext G6 G7 → Q r8 G7) (gI G6 (ad th) 12) G6) l1 G3) E t0 G
set_option maxHeartbeats 4000000 in
theorem b_X1_worlds_35 {G0 : Hp} {Q : Int32 → Hp → Prop} {E : Nat → Hp → Prop} {th : Option Nat} (C : Cx p s m meth c D T Z "EndingTown" cX1_worlds 2 (some .int)) (hex : ∀ z ∈ c.exceptionTable.toList, ∀ pc, covers z pc = false) (hLf : l.flags = flags0) : ∀ (l1 : Int32) (t0 : Int32) (G : Hp) (H : Heap) (locs : List Loc) (cells slots : Nat) (ls : Array Slot), w_X1_worlds_35 T Q E th l1 t0 G → isO G th 1 → HI (twd D T Z) G0 s (rmX (twd D T Z) 7 120 G0) H locs cells slots G → LH ls 2 [(0, .inr (.inl th)), (1, .inl l1)] → W p l e (rmX (twd D T Z) 7 120 G0) s m args below meth c H locs cells slots (MQX (twd D T Z) G0 (qI Q) E below s) (F0 m 35 ls [.int t0]) := by
  intro l1 t0 G H locs cells slots ls h hth I hl
  refine k_call Ext.tr C I (k_S (As := [.int t0]) (rest := []) (y := yX1_right) C q640 q641 q100 (Or.inl rfl) q642 (by decide) rfl pd_X1_right rfl dX1_worlds_35) (ct_X1_right hLf h) hl.1 dX1_worlds_35 [] rfl (Nat.le_of_ble_eq_true rfl) (Or.inl rfl) q642 q100 ⟨Nat.le_of_ble_eq_true rfl, Nat.le_of_ble_eq_true rfl⟩ (fun v G1 H locs cells slots xG1 hq I => ?_) (fun a G9 H locs cells slots ex hq I => t_out C.2.2.2.2.2.2 ⟨rfl, rfl⟩ (fun z hz => hex z hz _) I hq)
  obtain ⟨rfl, h⟩ := hq
  have h := h xG1
  refine l_ald_n C dX1_worlds_38 hl 0 rfl rfl ?_
  refine l_ild_n C dX1_worlds_39 hl 1 rfl rfl ?_
  refine P_I C I fp_X1_98_1 (fun z => by cases z) (by decide) (by decide) (hth.ext (by decide) xG1) dX1_worlds_40 (fit_i _) (fun H locs G3 eG3 xG3 I => ?_)
  have h := h G3 eG3
  refine l_ald_n C dX1_worlds_43 hl 0 rfl rfl ?_
  refine lv_iconst (v := 1) C.1 C.2.1 dX1_worlds_44 (by decide) ?_
  refine lv_iconst (v := 1) C.1 C.2.1 dX1_worlds_45 (by decide) ?_
  refine l_ild_n C dX1_worlds_46 hl 1 rfl rfl ?_
  refine k_call Ext.tr C I (k_S (As := [.int l1]) (rest := [.int ((1 : Int32)), .int ((1 : Int32)), va_rf th]) (y := yJ15_bitCount) C q458 q459 q133 (Or.inl rfl) q460 (by decide) rfl pd_J15_bitCount rfl dX1_worlds_47) (ct_J15_bitCount h) hl.1 dX1_worlds_47 [.inl ((1 : Int32)), .inl ((1 : Int32)), .inr (.inl th)] rfl (Nat.le_of_ble_eq_true rfl) (Or.inl rfl) q460 q133 ⟨Nat.le_of_ble_eq_true rfl, Nat.le_of_ble_eq_true rfl⟩ (fun v G4 H locs cells slots xG4 hq I => ?_) (fun a G9 H locs cells slots ex hq I => hq.elim)
  obtain ⟨r5, rfl, h⟩ := hq
  have h := h xG4
  refine lv_ishl C.1 C.2.1 dX1_worlds_50 ?_
  refine lv_ishl C.1 C.2.1 dX1_worlds_51 ?_
  refine lv_iconst (v := 1) C.1 C.2.1 dX1_worlds_52 (by decide) ?_
  refine lv_isub C.1 C.2.1 dX1_worlds_53 ?_
  refine P_I C I fp_X1_101_1 (fun z => by cases z) (by decide) (by decide) (hth.ext (by decide) (Ext.tr _ _ _ xG1 (Ext.tr _ _ _ xG3 xG4))) dX1_worlds_54 (fit_i _) (fun H locs G6 eG6 xG6 I => ?_)
  have h := h G6 eG6
  refine l_ald_n C dX1_worlds_57 hl 0 rfl rfl ?_
  refine g_I C I fl_X1_101_1 (by decide) (by decide) (hth.ext (by decide) (Ext.tr _ _ _ xG1 (Ext.tr _ _ _ xG3 (Ext.tr _ _ _ xG4 xG6)))) dX1_worlds_58 ?_
  refine k_call Ext.tr C I (k_S (As := [.int (gI G6 (ad th) 12)]) (rest := []) (y := yJ15_bitCount) C q458 q459 q133 (Or.inl rfl) q460 (by decide) rfl pd_J15_bitCount rfl dX1_worlds_61) (ct_J15_bitCount h) hl.1 dX1_worlds_61 [] rfl (Nat.le_of_ble_eq_true rfl) (Or.inl rfl) q460 q133 ⟨Nat.le_of_ble_eq_true rfl, Nat.le_of_ble_eq_true rfl⟩ (fun v G7 H locs cells slots xG7 hq I => ?_) (fun a G9 H locs cells slots ex hq I => hq.elim)
  obtain ⟨r8, rfl, h⟩ := hq
  have h := h xG7
  exact r_int C.1 C.2.1 C.2.2.2.2.2.1 rfl C.2.2.2.2.2.2 ⟨rfl, rfl⟩ I dX1_worlds_64 ⟨_, rfl, h⟩
def w_X1_worlds_34 (T : Nat → ClassId) (Q : Int32 → Hp → Prop) (E : Nat → Hp → Prop) (th : Option Nat) (l1 : Int32) (G : Hp) : Prop := w_X1_worlds_35 T Q E th l1 ((0 : Int32)) G
set_option maxHeartbeats 4000000 in
theorem b_X1_worlds_34 {G0 : Hp} {Q : Int32 → Hp → Prop} {E : Nat → Hp → Prop} {th : Option Nat} (C : Cx p s m meth c D T Z "EndingTown" cX1_worlds 2 (some .int)) (hex : ∀ z ∈ c.exceptionTable.toList, ∀ pc, covers z pc = false) (hLf : l.flags = flags0) : ∀ (l1 : Int32) (G : Hp) (H : Heap) (locs : List Loc) (cells slots : Nat) (ls : Array Slot), w_X1_worlds_34 T Q E th l1 G → isO G th 1 → HI (twd D T Z) G0 s (rmX (twd D T Z) 7 120 G0) H locs cells slots G → LH ls 2 [(0, .inr (.inl th)), (1, .inl l1)] → W p l e (rmX (twd D T Z) 7 120 G0) s m args below meth c H locs cells slots (MQX (twd D T Z) G0 (qI Q) E below s) (F0 m 34 ls []) := by
  intro l1 G H locs cells slots ls h hth I hl
  refine lv_iconst (v := 0) C.1 C.2.1 dX1_worlds_34 (by decide) ?_
  exact b_X1_worlds_35 C hex hLf l1 ((0 : Int32)) G _ _ _ _ _ h hth I (hl.sub [0, 1] rfl)
def w_X1_worlds (T : Nat → ClassId) (Q : Int32 → Hp → Prop) (E : Nat → Hp → Prop) (th : Option Nat) (p0 : Int32) (G : Hp) : Prop := isO G th 1 ∧ (((p0 ≤ 0) → (w_X1_worlds_34 T Q E th p0 G)) ∧ ((¬ p0 ≤ 0) → (isO G (gR G (ad th) 0) 2 ∧ isO G (gR G (ad (gR G (ad th) 0)) 3) 16 ∧ w_J2_size T (fun r3 G2 => Ext G G2 → ((((1 : Int32) <<< (r3 &&& 31)) ≤ p0) → (w_X1_worlds_34 T Q E th p0 G2)) ∧ ((¬ ((1 : Int32) <<< (r3 &&& 31)) ≤ p0) → (w_J15_bitCount T (fun r5 G4 => Ext G2 G4 → (((4 : Int32) < r5) → (w_X1_worlds_34 T Q E th p0 G4)) ∧ ((¬ (4 : Int32) < r5) → (w_X1_worlds_35 T Q E th p0 ((1 : Int32)) G4))) p0 G2))) (gR G (ad (gR G (ad th) 0)) 3) G)))
theorem pd_X1_worlds : (parseMethodDescriptor yX1_worlds.desc).map (fun d => d.parameters.length) = some 1 := by decide +kernel
set_option maxHeartbeats 4000000 in
theorem ct_X1_worlds {l : Launch} {D : va_G} {T : Nat → ClassId} {Z : Heap} {G0 : Hp} {Q : Int32 → Hp → Prop} {E : Nat → Hp → Prop} {th : Option Nat} {p0 : Int32} (hLf : l.flags = flags0) (hw : w_X1_worlds T Q E th p0 G0) : CT (twd D T Z) (Evd D T Z) l yX1_worlds (Cond.code yX1_worlds cX1_worlds 2 (some .int)) 7 120 [va_rf th, .int p0] G0 (qI Q) E := by
  refine CT.ofW (cc := cX1_worlds) (nL := 2) (ret := (some .int)) Ext.rf (by decide) (Or.inl rfl) ?_
  intro p e s m below meth c hx hb hml hown hr hlk hnm hcb hm hc hn hE I
  have C : Cx p s m meth c D T Z "EndingTown" cX1_worlds 2 (some .int) := ⟨hx, hb, hml, hown, hE, hr, hlk⟩
  have hex := noEx hn hm hc hcb
  refine w_entry [.inr (.inl th), .inl p0] (Nat.le_of_ble_eq_true rfl) (fun ls hl => ?_)
  have hl : LH ls 2 [(0, .inr (.inl th)), (1, .inl p0)] := hl
  obtain ⟨hth, h⟩ := hw
  refine l_ild_n C dX1_worlds_0 hl 1 rfl rfl ?_
  refine lv_if_le (tgt := 34) C.1 C.2.1 dX1_worlds_1 (by decide) (fun c9 => ?_) (fun c9 => ?_)
  · have h := h.1 c9
    exact b_X1_worlds_34 C hex hLf p0 G0 _ _ _ _ _ h hth I (hl.sub [0, 1] rfl)
  · have h := h.2 c9
    refine l_ild_n C dX1_worlds_4 hl 1 rfl rfl ?_
    refine lv_iconst (v := 1) C.1 C.2.1 dX1_worlds_5 (by decide) ?_
    refine l_ald_n C dX1_worlds_6 hl 0 rfl rfl ?_
    refine g_R C I fl_X1_16_1 (by decide) (by decide) hth dX1_worlds_7 ?_
    obtain ⟨ho1, h⟩ := h
    refine g_R C I fl_X1_128_2 (by decide) (by decide) ho1 dX1_worlds_10 ?_
    obtain ⟨ho8, h⟩ := h
    refine k_call Ext.tr C I (k_F (kd := 16) (r := gR G0 (ad (gR G0 (ad th) 0)) 3) (As := []) (rest := [.int ((1 : Int32)), .int p0]) (y := yJ2_size) (x := ⟨"java/util/List", "size", "()I"⟩) C (by decide) ⟨ho8.ad.1, I.recv C.2.2.2.2.1 ho8 (by decide)⟩ q424 (by decide) q426 q425 q430 q428 q417 q427 q429 rfl pd_J2_size rfl dX1_worlds_13) (ct_J2_size h) hl.1 dX1_worlds_13 [.inl ((1 : Int32)), .inl p0] rfl (Nat.le_of_ble_eq_true rfl) (Or.inl rfl) q431 q104 ⟨Nat.le_of_ble_eq_true rfl, Nat.le_of_ble_eq_true rfl⟩ (fun v G2 H locs cells slots xG2 hq I => ?_) (fun a G9 H locs cells slots ex hq I => hq.elim)
    obtain ⟨r3, rfl, h⟩ := hq
    have h := h xG2
    refine lv_ishl C.1 C.2.1 dX1_worlds_18 ?_
    refine lv_icmp_ge (tgt := 34) C.1 C.2.1 dX1_worlds_19 (by decide) (fun c7 => ?_) (fun c7 => ?_)
    · have h := h.1 c7
      exact b_X1_worlds_34 C hex hLf p0 G2 _ _ _ _ _ h (hth.ext (by decide) xG2) I (hl.sub [0, 1] rfl)
    · have h := h.2 c7
      refine l_ild_n C dX1_worlds_22 hl 1 rfl rfl ?_
      refine k_call Ext.tr C I (k_S (As := [.int p0]) (rest := []) (y := yJ15_bitCount) C q458 q459 q133 (Or.inl rfl) q460 (by decide) rfl pd_J15_bitCount rfl dX1_worlds_23) (ct_J15_bitCount h) hl.1 dX1_worlds_23 [] rfl (Nat.le_of_ble_eq_true rfl) (Or.inl rfl) q460 q133 ⟨Nat.le_of_ble_eq_true rfl, Nat.le_of_ble_eq_true rfl⟩ (fun v G4 H locs cells slots xG4 hq I => ?_) (fun a G9 H locs cells slots ex hq I => hq.elim)
      obtain ⟨r5, rfl, h⟩ := hq
      have h := h xG4
      refine lv_iconst (v := 4) C.1 C.2.1 dX1_worlds_26 (by decide) ?_
      refine lv_icmp_gt (tgt := 34) C.1 C.2.1 dX1_worlds_27 (by decide) (fun c6 => ?_) (fun c6 => ?_)
      · have h := h.1 c6
        exact b_X1_worlds_34 C hex hLf p0 G4 _ _ _ _ _ h (hth.ext (by decide) (Ext.tr _ _ _ xG2 xG4)) I (hl.sub [0, 1] rfl)
      · have h := h.2 c6
        refine lv_iconst (v := 1) C.1 C.2.1 dX1_worlds_30 (by decide) ?_
        refine lv_goto (tgt := 35) C.1 C.2.1 dX1_worlds_31 (by decide) ?_
        exact b_X1_worlds_35 C hex hLf p0 ((1 : Int32)) G4 _ _ _ _ _ h (hth.ext (by decide) (Ext.tr _ _ _ xG2 xG4)) I (hl.sub [0, 1] rfl)
def w_J15_numberOfTrailingZeros_74 (T : Nat → ClassId) (Q : Int32 → Hp → Prop) (l0 : Int32) (l1 : Int32) (G : Hp) : Prop := Q ((l1 + (l0.toUInt32 >>> (((1 : Int32)).toUInt32 &&& Int32.toUInt32 31)).toInt32)) G
set_option maxHeartbeats 4000000 in
theorem b_J15_numberOfTrailingZeros_74 {G0 : Hp} {Q : Int32 → Hp → Prop} (C : Cx p s m meth c D T Z "java/lang/Integer" cJ15_numberOfTrailingZeros 2 (some .int)) : ∀ (l0 : Int32) (l1 : Int32) (G : Hp) (H : Heap) (locs : List Loc) (cells slots : Nat) (ls : Array Slot), w_J15_numberOfTrailingZeros_74 T Q l0 l1 G → HI (twd D T Z) G0 s (rmX (twd D T Z) 0 0 G0) H locs cells slots G → LH ls 2 [(0, .inl l0), (1, .inl l1)] → W p l e (rmX (twd D T Z) 0 0 G0) s m args below meth c H locs cells slots (MQX (twd D T Z) G0 (qI Q) (fun _ _ => False) below s) (F0 m 74 ls []) := by
  intro l0 l1 G H locs cells slots ls h I hl
  refine l_ild_n C dJ15_numberOfTrailingZeros_74 hl 1 rfl rfl ?_
  refine l_ild_n C dJ15_numberOfTrailingZeros_75 hl 0 rfl rfl ?_
  refine lv_iconst (v := 1) C.1 C.2.1 dJ15_numberOfTrailingZeros_76 (by decide) ?_
  refine lv_iushr C.1 C.2.1 dJ15_numberOfTrailingZeros_77 rfl ?_
  refine lv_iadd C.1 C.2.1 dJ15_numberOfTrailingZeros_78 ?_
  exact r_int C.1 C.2.1 C.2.2.2.2.2.1 rfl C.2.2.2.2.2.2 ⟨rfl, rfl⟩ I dJ15_numberOfTrailingZeros_79 ⟨_, rfl, h⟩
def w_J15_numberOfTrailingZeros_62 (T : Nat → ClassId) (Q : Int32 → Hp → Prop) (l0 : Int32) (l1 : Int32) (G : Hp) : Prop := ((l0 ≤ (4 : Int32)) → (w_J15_numberOfTrailingZeros_74 T Q l0 l1 G)) ∧ ((¬ l0 ≤ (4 : Int32)) → (w_J15_numberOfTrailingZeros_74 T Q ((l0.toUInt32 >>> (((2 : Int32)).toUInt32 &&& Int32.toUInt32 31)).toInt32) ((l1 + 2)) G))
set_option maxHeartbeats 4000000 in
theorem b_J15_numberOfTrailingZeros_62 {G0 : Hp} {Q : Int32 → Hp → Prop} (C : Cx p s m meth c D T Z "java/lang/Integer" cJ15_numberOfTrailingZeros 2 (some .int)) : ∀ (l0 : Int32) (l1 : Int32) (G : Hp) (H : Heap) (locs : List Loc) (cells slots : Nat) (ls : Array Slot), w_J15_numberOfTrailingZeros_62 T Q l0 l1 G → HI (twd D T Z) G0 s (rmX (twd D T Z) 0 0 G0) H locs cells slots G → LH ls 2 [(0, .inl l0), (1, .inl l1)] → W p l e (rmX (twd D T Z) 0 0 G0) s m args below meth c H locs cells slots (MQX (twd D T Z) G0 (qI Q) (fun _ _ => False) below s) (F0 m 62 ls []) := by
  intro l0 l1 G H locs cells slots ls h I hl
  refine l_ild_n C dJ15_numberOfTrailingZeros_62 hl 0 rfl rfl ?_
  refine lv_iconst (v := 4) C.1 C.2.1 dJ15_numberOfTrailingZeros_63 (by decide) ?_
  refine lv_icmp_le (tgt := 74) C.1 C.2.1 dJ15_numberOfTrailingZeros_64 (by decide) (fun c1 => ?_) (fun c1 => ?_)
  · have h := h.1 c1
    exact b_J15_numberOfTrailingZeros_74 C l0 l1 G _ _ _ _ _ h I (hl.sub [0, 1] rfl)
  · have h := h.2 c1
    refine l_inc (q := 1) (v := 2) C dJ15_numberOfTrailingZeros_67 hl rfl (by decide) (by decide) rfl (fun ls hl => ?_)
    have hl : LH ls 2 [(1, .inl ((l1 + 2))), (0, .inl l0)] := hl
    refine l_ild_n C dJ15_numberOfTrailingZeros_70 hl 1 rfl rfl ?_
    refine lv_iconst (v := 2) C.1 C.2.1 dJ15_numberOfTrailingZeros_71 (by decide) ?_
    refine lv_iushr C.1 C.2.1 dJ15_numberOfTrailingZeros_72 rfl ?_
    refine l_ist_n C dJ15_numberOfTrailingZeros_73 rfl hl (by decide) rfl (fun ls hl => ?_)
    have hl : LH ls 2 [(0, .inl ((l0.toUInt32 >>> (((2 : Int32)).toUInt32 &&& Int32.toUInt32 31)).toInt32)), (1, .inl ((l1 + 2)))] := hl
    exact b_J15_numberOfTrailingZeros_74 C ((l0.toUInt32 >>> (((2 : Int32)).toUInt32 &&& Int32.toUInt32 31)).toInt32) ((l1 + 2)) G _ _ _ _ _ h I (hl.sub [0, 1] rfl)
def w_J15_numberOfTrailingZeros_49 (T : Nat → ClassId) (Q : Int32 → Hp → Prop) (l0 : Int32) (l1 : Int32) (G : Hp) : Prop := ((l0 ≤ (16 : Int32)) → (w_J15_numberOfTrailingZeros_62 T Q l0 l1 G)) ∧ ((¬ l0 ≤ (16 : Int32)) → (w_J15_numberOfTrailingZeros_62 T Q ((l0.toUInt32 >>> (((4 : Int32)).toUInt32 &&& Int32.toUInt32 31)).toInt32) ((l1 + 4)) G))
set_option maxHeartbeats 4000000 in
theorem b_J15_numberOfTrailingZeros_49 {G0 : Hp} {Q : Int32 → Hp → Prop} (C : Cx p s m meth c D T Z "java/lang/Integer" cJ15_numberOfTrailingZeros 2 (some .int)) : ∀ (l0 : Int32) (l1 : Int32) (G : Hp) (H : Heap) (locs : List Loc) (cells slots : Nat) (ls : Array Slot), w_J15_numberOfTrailingZeros_49 T Q l0 l1 G → HI (twd D T Z) G0 s (rmX (twd D T Z) 0 0 G0) H locs cells slots G → LH ls 2 [(0, .inl l0), (1, .inl l1)] → W p l e (rmX (twd D T Z) 0 0 G0) s m args below meth c H locs cells slots (MQX (twd D T Z) G0 (qI Q) (fun _ _ => False) below s) (F0 m 49 ls []) := by
  intro l0 l1 G H locs cells slots ls h I hl
  refine l_ild_n C dJ15_numberOfTrailingZeros_49 hl 0 rfl rfl ?_
  refine lv_bipush (v := 16) C.1 C.2.1 dJ15_numberOfTrailingZeros_50 (by decide) ?_
  refine lv_icmp_le (tgt := 62) C.1 C.2.1 dJ15_numberOfTrailingZeros_52 (by decide) (fun c1 => ?_) (fun c1 => ?_)
  · have h := h.1 c1
    exact b_J15_numberOfTrailingZeros_62 C l0 l1 G _ _ _ _ _ h I (hl.sub [0, 1] rfl)
  · have h := h.2 c1
    refine l_inc (q := 1) (v := 4) C dJ15_numberOfTrailingZeros_55 hl rfl (by decide) (by decide) rfl (fun ls hl => ?_)
    have hl : LH ls 2 [(1, .inl ((l1 + 4))), (0, .inl l0)] := hl
    refine l_ild_n C dJ15_numberOfTrailingZeros_58 hl 1 rfl rfl ?_
    refine lv_iconst (v := 4) C.1 C.2.1 dJ15_numberOfTrailingZeros_59 (by decide) ?_
    refine lv_iushr C.1 C.2.1 dJ15_numberOfTrailingZeros_60 rfl ?_
    refine l_ist_n C dJ15_numberOfTrailingZeros_61 rfl hl (by decide) rfl (fun ls hl => ?_)
    have hl : LH ls 2 [(0, .inl ((l0.toUInt32 >>> (((4 : Int32)).toUInt32 &&& Int32.toUInt32 31)).toInt32)), (1, .inl ((l1 + 4)))] := hl
    exact b_J15_numberOfTrailingZeros_62 C ((l0.toUInt32 >>> (((4 : Int32)).toUInt32 &&& Int32.toUInt32 31)).toInt32) ((l1 + 4)) G _ _ _ _ _ h I (hl.sub [0, 1] rfl)
def w_J15_numberOfTrailingZeros_34 (T : Nat → ClassId) (Q : Int32 → Hp → Prop) (l0 : Int32) (l1 : Int32) (G : Hp) : Prop := ((l0 ≤ (256 : Int32)) → (w_J15_numberOfTrailingZeros_49 T Q l0 l1 G)) ∧ ((¬ l0 ≤ (256 : Int32)) → (w_J15_numberOfTrailingZeros_49 T Q ((l0.toUInt32 >>> (((8 : Int32)).toUInt32 &&& Int32.toUInt32 31)).toInt32) ((l1 + 8)) G))
set_option maxHeartbeats 4000000 in
theorem b_J15_numberOfTrailingZeros_34 {G0 : Hp} {Q : Int32 → Hp → Prop} (C : Cx p s m meth c D T Z "java/lang/Integer" cJ15_numberOfTrailingZeros 2 (some .int)) : ∀ (l0 : Int32) (l1 : Int32) (G : Hp) (H : Heap) (locs : List Loc) (cells slots : Nat) (ls : Array Slot), w_J15_numberOfTrailingZeros_34 T Q l0 l1 G → HI (twd D T Z) G0 s (rmX (twd D T Z) 0 0 G0) H locs cells slots G → LH ls 2 [(0, .inl l0), (1, .inl l1)] → W p l e (rmX (twd D T Z) 0 0 G0) s m args below meth c H locs cells slots (MQX (twd D T Z) G0 (qI Q) (fun _ _ => False) below s) (F0 m 34 ls []) := by
  intro l0 l1 G H locs cells slots ls h I hl
  refine l_ild_n C dJ15_numberOfTrailingZeros_34 hl 0 rfl rfl ?_
  refine lv_sipush (v := 256) C.1 C.2.1 dJ15_numberOfTrailingZeros_35 (by decide) ?_
  refine lv_icmp_le (tgt := 49) C.1 C.2.1 dJ15_numberOfTrailingZeros_38 (by decide) (fun c1 => ?_) (fun c1 => ?_)
  · have h := h.1 c1
    exact b_J15_numberOfTrailingZeros_49 C l0 l1 G _ _ _ _ _ h I (hl.sub [0, 1] rfl)
  · have h := h.2 c1
    refine l_inc (q := 1) (v := 8) C dJ15_numberOfTrailingZeros_41 hl rfl (by decide) (by decide) rfl (fun ls hl => ?_)
    have hl : LH ls 2 [(1, .inl ((l1 + 8))), (0, .inl l0)] := hl
    refine l_ild_n C dJ15_numberOfTrailingZeros_44 hl 1 rfl rfl ?_
    refine lv_bipush (v := 8) C.1 C.2.1 dJ15_numberOfTrailingZeros_45 (by decide) ?_
    refine lv_iushr C.1 C.2.1 dJ15_numberOfTrailingZeros_47 rfl ?_
    refine l_ist_n C dJ15_numberOfTrailingZeros_48 rfl hl (by decide) rfl (fun ls hl => ?_)
    have hl : LH ls 2 [(0, .inl ((l0.toUInt32 >>> (((8 : Int32)).toUInt32 &&& Int32.toUInt32 31)).toInt32)), (1, .inl ((l1 + 8)))] := hl
    exact b_J15_numberOfTrailingZeros_49 C ((l0.toUInt32 >>> (((8 : Int32)).toUInt32 &&& Int32.toUInt32 31)).toInt32) ((l1 + 8)) G _ _ _ _ _ h I (hl.sub [0, 1] rfl)
def w_J15_numberOfTrailingZeros (T : Nat → ClassId) (Q : Int32 → Hp → Prop) (p0 : Int32) (G : Hp) : Prop := (((0 < ((p0 ^^^ (-1 : Int32)) &&& (p0 - (1 : Int32)))) → (((((p0 ^^^ (-1 : Int32)) &&& (p0 - (1 : Int32))) ≤ (65536 : Int32)) → (w_J15_numberOfTrailingZeros_34 T Q (((p0 ^^^ (-1 : Int32)) &&& (p0 - (1 : Int32)))) ((1 : Int32)) G)) ∧ ((¬ ((p0 ^^^ (-1 : Int32)) &&& (p0 - (1 : Int32))) ≤ (65536 : Int32)) → (w_J15_numberOfTrailingZeros_34 T Q (((((p0 ^^^ (-1 : Int32)) &&& (p0 - (1 : Int32)))).toUInt32 >>> (((16 : Int32)).toUInt32 &&& Int32.toUInt32 31)).toInt32) (((1 : Int32) + 16)) G)))) ∧ ((¬ 0 < ((p0 ^^^ (-1 : Int32)) &&& (p0 - (1 : Int32)))) → (Q ((((p0 ^^^ (-1 : Int32)) &&& (p0 - (1 : Int32))) &&& (32 : Int32))) G)))
theorem pd_J15_numberOfTrailingZeros : (parseMethodDescriptor yJ15_numberOfTrailingZeros.desc).map (fun d => d.parameters.length) = some 1 := by decide +kernel
set_option maxHeartbeats 4000000 in
theorem ct_J15_numberOfTrailingZeros {l : Launch} {D : va_G} {T : Nat → ClassId} {Z : Heap} {G0 : Hp} {Q : Int32 → Hp → Prop} {p0 : Int32} (hw : w_J15_numberOfTrailingZeros T Q p0 G0) : CT (twd D T Z) (Evd D T Z) l yJ15_numberOfTrailingZeros (Cond.code yJ15_numberOfTrailingZeros cJ15_numberOfTrailingZeros 2 (some .int)) 0 0 [.int p0] G0 (qI Q) (fun _ _ => False) := by
  refine CT.ofW (cc := cJ15_numberOfTrailingZeros) (nL := 2) (ret := (some .int)) Ext.rf (by decide +kernel) (Or.inl rfl) ?_
  intro p e s m below meth c hx hb hml hown hr hlk hnm hcb hm hc hn hE I
  have C : Cx p s m meth c D T Z "java/lang/Integer" cJ15_numberOfTrailingZeros 2 (some .int) := ⟨hx, hb, hml, hown, hE, hr, hlk⟩
  refine w_entry [.inl p0] (Nat.le_of_ble_eq_true rfl) (fun ls hl => ?_)
  have hl : LH ls 2 [(0, .inl p0)] := hl
  have h := hw
  refine l_ild_n C dJ15_numberOfTrailingZeros_0 hl 0 rfl rfl ?_
  refine lv_iconst (v := (-1)) C.1 C.2.1 dJ15_numberOfTrailingZeros_1 (by decide) ?_
  refine lv_ixor C.1 C.2.1 dJ15_numberOfTrailingZeros_2 ?_
  refine l_ild_n C dJ15_numberOfTrailingZeros_3 hl 0 rfl rfl ?_
  refine lv_iconst (v := 1) C.1 C.2.1 dJ15_numberOfTrailingZeros_4 (by decide) ?_
  refine lv_isub C.1 C.2.1 dJ15_numberOfTrailingZeros_5 ?_
  refine lv_iand C.1 C.2.1 dJ15_numberOfTrailingZeros_6 ?_
  refine l_ist_n C dJ15_numberOfTrailingZeros_7 rfl hl (by decide) rfl (fun ls hl => ?_)
  have hl : LH ls 2 [(0, .inl (((p0 ^^^ (-1 : Int32)) &&& (p0 - (1 : Int32)))))] := hl
  refine l_ild_n C dJ15_numberOfTrailingZeros_8 hl 0 rfl rfl ?_
  refine lv_if_gt (tgt := 17) C.1 C.2.1 dJ15_numberOfTrailingZeros_9 (by decide) (fun c2 => ?_) (fun c2 => ?_)
  · have h := h.1 c2
    refine lv_iconst (v := 1) C.1 C.2.1 dJ15_numberOfTrailingZeros_17 (by decide) ?_
    refine l_ist_n C dJ15_numberOfTrailingZeros_18 rfl hl (by decide) rfl (fun ls hl => ?_)
    have hl : LH ls 2 [(1, .inl ((1 : Int32))), (0, .inl (((p0 ^^^ (-1 : Int32)) &&& (p0 - (1 : Int32)))))] := hl
    refine l_ild_n C dJ15_numberOfTrailingZeros_19 hl 1 rfl rfl ?_
    refine lv_ldcw C.1 C.2.1 C.2.2.2.1 (C.2.2.2.2.1.1.good q1346 _) dJ15_numberOfTrailingZeros_20 ?_
    refine lv_icmp_le (tgt := 34) C.1 C.2.1 dJ15_numberOfTrailingZeros_23 (by decide) (fun c1 => ?_) (fun c1 => ?_)
    · have h := h.1 c1
      exact b_J15_numberOfTrailingZeros_34 C (((p0 ^^^ (-1 : Int32)) &&& (p0 - (1 : Int32)))) ((1 : Int32)) G0 _ _ _ _ _ h I (hl.sub [1, 0] rfl)
    · have h := h.2 c1
      refine l_inc (q := 0) (v := 16) C dJ15_numberOfTrailingZeros_26 hl rfl (by decide) (by decide) rfl (fun ls hl => ?_)
      have hl : LH ls 2 [(1, .inl (((1 : Int32) + 16))), (0, .inl (((p0 ^^^ (-1 : Int32)) &&& (p0 - (1 : Int32)))))] := hl
      refine l_ild_n C dJ15_numberOfTrailingZeros_29 hl 1 rfl rfl ?_
      refine lv_bipush (v := 16) C.1 C.2.1 dJ15_numberOfTrailingZeros_30 (by decide) ?_
      refine lv_iushr C.1 C.2.1 dJ15_numberOfTrailingZeros_32 rfl ?_
      refine l_ist_n C dJ15_numberOfTrailingZeros_33 rfl hl (by decide) rfl (fun ls hl => ?_)
      have hl : LH ls 2 [(0, .inl (((((p0 ^^^ (-1 : Int32)) &&& (p0 - (1 : Int32)))).toUInt32 >>> (((16 : Int32)).toUInt32 &&& Int32.toUInt32 31)).toInt32)), (1, .inl (((1 : Int32) + 16)))] := hl
      exact b_J15_numberOfTrailingZeros_34 C (((((p0 ^^^ (-1 : Int32)) &&& (p0 - (1 : Int32)))).toUInt32 >>> (((16 : Int32)).toUInt32 &&& Int32.toUInt32 31)).toInt32) (((1 : Int32) + 16)) G0 _ _ _ _ _ h I (hl.sub [0, 1] rfl)
  · have h := h.2 c2
    refine l_ild_n C dJ15_numberOfTrailingZeros_12 hl 0 rfl rfl ?_
    refine lv_bipush (v := 32) C.1 C.2.1 dJ15_numberOfTrailingZeros_13 (by decide) ?_
    refine lv_iand C.1 C.2.1 dJ15_numberOfTrailingZeros_15 ?_
    exact r_int C.1 C.2.1 C.2.2.2.2.2.1 rfl C.2.2.2.2.2.2 ⟨rfl, rfl⟩ I dJ15_numberOfTrailingZeros_16 ⟨_, rfl, h⟩
def w_X1_worldThing_7 (T : Nat → ClassId) (Q : Int32 → Hp → Prop) (th : Option Nat) : Nat → Int32 → Int32 → Int32 → Hp → Prop
  | 0 => fun _ _ _ _ => False
  | f7 + 1 => fun l1 l2 l3 G => ((l1 ≤ l3) → (w_J15_numberOfTrailingZeros T (fun r2 G1 => Ext G G1 → Q r2 G1) l2 G)) ∧ ((¬ l1 ≤ l3) → ((w_X1_worldThing_7 T Q th f7) l1 ((l2 &&& (l2 - (1 : Int32)))) ((l3 + 1)) G))
set_option maxHeartbeats 4000000 in
theorem b_X1_worldThing_7 {G0 : Hp} {Q : Int32 → Hp → Prop} {th : Option Nat} (C : Cx p s m meth c D T Z "EndingTown" cX1_worldThing 4 (some .int)) : ∀ (n : Nat) (l1 : Int32) (l2 : Int32) (l3 : Int32) (G : Hp) (H : Heap) (locs : List Loc) (cells slots : Nat) (ls : Array Slot), w_X1_worldThing_7 T Q th n l1 l2 l3 G → isO G th 1 → HI (twd D T Z) G0 s (rmX (twd D T Z) 1 21 G0) H locs cells slots G → LH ls 4 [(1, .inl l1), (2, .inl l2), (3, .inl l3)] → W p l e (rmX (twd D T Z) 1 21 G0) s m args below meth c H locs cells slots (MQX (twd D T Z) G0 (qI Q) (fun _ _ => False) below s) (F0 m 7 ls []) := by
  intro f7
  induction f7 with
  | zero => intro l1 l2 l3 G H locs cells slots ls h; exact (show False from h).elim
  | succ f7 ih =>
    intro l1 l2 l3 G H locs cells slots ls h hth I hl
    have h : ((l1 ≤ l3) → (w_J15_numberOfTrailingZeros T (fun r2 G1 => Ext G G1 → Q r2 G1) l2 G)) ∧ ((¬ l1 ≤ l3) → ((w_X1_worldThing_7 T Q th f7) l1 ((l2 &&& (l2 - (1 : Int32)))) ((l3 + 1)) G)) := h
    have hk7 := ih
    refine l_ild_n C dX1_worldThing_7 hl 2 rfl rfl ?_
    refine l_ild_n C dX1_worldThing_8 hl 0 rfl rfl ?_
    refine lv_icmp_ge (tgt := 24) C.1 C.2.1 dX1_worldThing_9 (by decide) (fun c3 => ?_) (fun c3 => ?_)
    · have h := h.1 c3
      refine l_ild_n C dX1_worldThing_24 hl 1 rfl rfl ?_
      refine k_call Ext.tr C I (k_S (As := [.int l2]) (rest := []) (y := yJ15_numberOfTrailingZeros) C q1343 q1344 q133 (Or.inl rfl) q1345 (by decide) rfl pd_J15_numberOfTrailingZeros rfl dX1_worldThing_25) (ct_J15_numberOfTrailingZeros h) hl.1 dX1_worldThing_25 [] rfl (Nat.le_of_ble_eq_true rfl) (Or.inl rfl) q1345 q133 ⟨Nat.le_of_ble_eq_true rfl, Nat.le_of_ble_eq_true rfl⟩ (fun v G1 H locs cells slots xG1 hq I => ?_) (fun a G9 H locs cells slots ex hq I => hq.elim)
      obtain ⟨r2, rfl, h⟩ := hq
      have h := h xG1
      exact r_int C.1 C.2.1 C.2.2.2.2.2.1 rfl C.2.2.2.2.2.2 ⟨rfl, rfl⟩ I dX1_worldThing_28 ⟨_, rfl, h⟩
    · have h := h.2 c3
      refine l_ild_n C dX1_worldThing_12 hl 1 rfl rfl ?_
      refine l_ild_n C dX1_worldThing_13 hl 1 rfl rfl ?_
      refine lv_iconst (v := 1) C.1 C.2.1 dX1_worldThing_14 (by decide) ?_
      refine lv_isub C.1 C.2.1 dX1_worldThing_15 ?_
      refine lv_iand C.1 C.2.1 dX1_worldThing_16 ?_
      refine l_ist_n C dX1_worldThing_17 rfl hl (by decide) rfl (fun ls hl => ?_)
      have hl : LH ls 4 [(2, .inl ((l2 &&& (l2 - (1 : Int32))))), (1, .inl l1), (3, .inl l3)] := hl
      refine l_inc (q := 2) (v := 1) C dX1_worldThing_18 hl rfl (by decide) (by decide) rfl (fun ls hl => ?_)
      have hl : LH ls 4 [(3, .inl ((l3 + 1))), (2, .inl ((l2 &&& (l2 - (1 : Int32))))), (1, .inl l1)] := hl
      refine lv_goto (tgt := 7) C.1 C.2.1 dX1_worldThing_21 (by decide) ?_
      exact hk7 l1 ((l2 &&& (l2 - (1 : Int32)))) ((l3 + 1)) G _ _ _ _ _ h hth I (hl.sub [2, 1, 0] rfl)
def w_X1_worldThing (T : Nat → ClassId) (Q : Int32 → Hp → Prop) (th : Option Nat) (p0 : Int32) (G : Hp) : Prop := isO G th 1 ∧ (∃ n, w_X1_worldThing_7 T Q th n p0 (gI G (ad th) 11) ((0 : Int32)) G)
theorem pd_X1_worldThing : (parseMethodDescriptor yX1_worldThing.desc).map (fun d => d.parameters.length) = some 1 := by decide +kernel
set_option maxHeartbeats 4000000 in
theorem ct_X1_worldThing {l : Launch} {D : va_G} {T : Nat → ClassId} {Z : Heap} {G0 : Hp} {Q : Int32 → Hp → Prop} {th : Option Nat} {p0 : Int32} (hw : w_X1_worldThing T Q th p0 G0) : CT (twd D T Z) (Evd D T Z) l yX1_worldThing (Cond.code yX1_worldThing cX1_worldThing 4 (some .int)) 1 21 [va_rf th, .int p0] G0 (qI Q) (fun _ _ => False) := by
  refine CT.ofW (cc := cX1_worldThing) (nL := 4) (ret := (some .int)) Ext.rf (by decide) (Or.inl rfl) ?_
  intro p e s m below meth c hx hb hml hown hr hlk hnm hcb hm hc hn hE I
  have C : Cx p s m meth c D T Z "EndingTown" cX1_worldThing 4 (some .int) := ⟨hx, hb, hml, hown, hE, hr, hlk⟩
  refine w_entry [.inr (.inl th), .inl p0] (Nat.le_of_ble_eq_true rfl) (fun ls hl => ?_)
  have hl : LH ls 4 [(0, .inr (.inl th)), (1, .inl p0)] := hl
  obtain ⟨hth, h⟩ := hw
  refine l_ald_n C dX1_worldThing_0 hl 0 rfl rfl ?_
  refine g_I C I fl_X1_98_1 (by decide) (by decide) hth dX1_worldThing_1 ?_
  refine l_ist_n C dX1_worldThing_4 rfl hl (by decide) rfl (fun ls hl => ?_)
  have hl : LH ls 4 [(2, .inl (gI G0 (ad th) 11)), (0, .inr (.inl th)), (1, .inl p0)] := hl
  refine lv_iconst (v := 0) C.1 C.2.1 dX1_worldThing_5 (by decide) ?_
  refine l_ist_n C dX1_worldThing_6 rfl hl (by decide) rfl (fun ls hl => ?_)
  have hl : LH ls 4 [(3, .inl ((0 : Int32))), (2, .inl (gI G0 (ad th) 11)), (0, .inr (.inl th)), (1, .inl p0)] := hl
  obtain ⟨n, h⟩ := h
  exact b_X1_worldThing_7 C n p0 (gI G0 (ad th) 11) ((0 : Int32)) G0 _ _ _ _ _ h hth I (hl.sub [3, 1, 0] rfl)
def w_X1_sees_64 (T : Nat → ClassId) (Q : Int32 → Hp → Prop) (th : Option Nat) (k4 : Int32 → Int32 → Int32 → Hp → Prop) (l1 : Int32) (l2 : Int32) (l3 : Int32) (G : Hp) : Prop := k4 l1 l2 ((l3 + 1)) G
set_option maxHeartbeats 4000000 in
theorem b_X1_sees_64 {G0 : Hp} {Q : Int32 → Hp → Prop} {th : Option Nat} {k4 : Int32 → Int32 → Int32 → Hp → Prop} (C : Cx p s m meth c D T Z "EndingTown" cX1_sees 5 (some .int)) (hk4 : ∀ (l1 : Int32) (l2 : Int32) (l3 : Int32) (G : Hp) (H : Heap) (locs : List Loc) (cells slots : Nat) (ls : Array Slot), k4 l1 l2 l3 G → isO G th 1 → HI (twd D T Z) G0 s (rmX (twd D T Z) 3 64 G0) H locs cells slots G → LH ls 5 [(0, .inr (.inl th)), (1, .inl l1), (2, .inl l2), (3, .inl l3)] → W p l e (rmX (twd D T Z) 3 64 G0) s m args below meth c H locs cells slots (MQX (twd D T Z) G0 (qI Q) (fun _ _ => False) below s) (F0 m 4 ls [])) : ∀ (l1 : Int32) (l2 : Int32) (l3 : Int32) (G : Hp) (H : Heap) (locs : List Loc) (cells slots : Nat) (ls : Array Slot), w_X1_sees_64 T Q th k4 l1 l2 l3 G → isO G th 1 → HI (twd D T Z) G0 s (rmX (twd D T Z) 3 64 G0) H locs cells slots G → LH ls 5 [(0, .inr (.inl th)), (1, .inl l1), (2, .inl l2), (3, .inl l3)] → W p l e (rmX (twd D T Z) 3 64 G0) s m args below meth c H locs cells slots (MQX (twd D T Z) G0 (qI Q) (fun _ _ => False) below s) (F0 m 64 ls []) := by
  intro l1 l2 l3 G H locs cells slots ls h hth I hl
  refine l_inc (q := 3) (v := 1) C dX1_sees_64 hl rfl (by decide) (by decide) rfl (fun ls hl => ?_)
  have hl : LH ls 5 [(3, .inl ((l3 + 1))), (0, .inr (.inl th)), (1, .inl l1), (2, .inl l2)] := hl
  refine lv_goto (tgt := 4) C.1 C.2.1 dX1_sees_67 (by decide) ?_
  exact hk4 l1 l2 ((l3 + 1)) G _ _ _ _ _ h hth I (hl.sub [1, 2, 3, 0] rfl)
def w_X1_sees_4 (T : Nat → ClassId) (Q : Int32 → Hp → Prop) (th : Option Nat) : Nat → Int32 → Int32 → Int32 → Hp → Prop
  | 0 => fun _ _ _ _ => False
  | f4 + 1 => fun l1 l2 l3 G => w_J15_bitCount T (fun r2 G1 => Ext G G1 → ((r2 ≤ l3) → (Q l2 G1)) ∧ ((¬ r2 ≤ l3) → (isO G1 (gR G1 (ad th) 0) 2 ∧ w_X1_worldThing T (fun r5 G4 => Ext G1 G4 → isO G4 (gR G1 (ad (gR G1 (ad th) 0)) 3) 16 ∧ w_J2_get T (fun r7 G6 => Ext G4 G6 → (r7 = none ∨ isO G6 r7 11) ∧ isO G6 r7 11 ∧ isO G6 (gR G6 (ad th) 0) 2 ∧ w_X2_where T (fun r10 G9 => Ext G6 G9 → ((¬ r10 = gI G9 (ad r7) 1) → (w_X1_sees_64 T Q th (w_X1_sees_4 T Q th f4) l1 l2 l3 G9)) ∧ ((r10 = gI G9 (ad r7) 1) → (w_X1_sees_64 T Q th (w_X1_sees_4 T Q th f4) l1 ((l2 ||| ((1 : Int32) <<< (l3 &&& 31)))) l3 G9))) (gR G6 (ad th) 0) l1 (gI G6 (ad r7) 2) G6) (gR G1 (ad (gR G1 (ad th) 0)) 3) r5 G4) th l3 G1))) (gI G (ad th) 11) G
set_option maxHeartbeats 4000000 in
theorem b_X1_sees_4 {G0 : Hp} {Q : Int32 → Hp → Prop} {th : Option Nat} (C : Cx p s m meth c D T Z "EndingTown" cX1_sees 5 (some .int)) : ∀ (n : Nat) (l1 : Int32) (l2 : Int32) (l3 : Int32) (G : Hp) (H : Heap) (locs : List Loc) (cells slots : Nat) (ls : Array Slot), w_X1_sees_4 T Q th n l1 l2 l3 G → isO G th 1 → HI (twd D T Z) G0 s (rmX (twd D T Z) 3 64 G0) H locs cells slots G → LH ls 5 [(0, .inr (.inl th)), (1, .inl l1), (2, .inl l2), (3, .inl l3)] → W p l e (rmX (twd D T Z) 3 64 G0) s m args below meth c H locs cells slots (MQX (twd D T Z) G0 (qI Q) (fun _ _ => False) below s) (F0 m 4 ls []) := by
  intro f4
  induction f4 with
  | zero => intro l1 l2 l3 G H locs cells slots ls h; exact (show False from h).elim
  | succ f4 ih =>
    intro l1 l2 l3 G H locs cells slots ls h hth I hl
    have h : w_J15_bitCount T (fun r2 G1 => Ext G G1 → ((r2 ≤ l3) → (Q l2 G1)) ∧ ((¬ r2 ≤ l3) → (isO G1 (gR G1 (ad th) 0) 2 ∧ w_X1_worldThing T (fun r5 G4 => Ext G1 G4 → isO G4 (gR G1 (ad (gR G1 (ad th) 0)) 3) 16 ∧ w_J2_get T (fun r7 G6 => Ext G4 G6 → (r7 = none ∨ isO G6 r7 11) ∧ isO G6 r7 11 ∧ isO G6 (gR G6 (ad th) 0) 2 ∧ w_X2_where T (fun r10 G9 => Ext G6 G9 → ((¬ r10 = gI G9 (ad r7) 1) → (w_X1_sees_64 T Q th (w_X1_sees_4 T Q th f4) l1 l2 l3 G9)) ∧ ((r10 = gI G9 (ad r7) 1) → (w_X1_sees_64 T Q th (w_X1_sees_4 T Q th f4) l1 ((l2 ||| ((1 : Int32) <<< (l3 &&& 31)))) l3 G9))) (gR G6 (ad th) 0) l1 (gI G6 (ad r7) 2) G6) (gR G1 (ad (gR G1 (ad th) 0)) 3) r5 G4) th l3 G1))) (gI G (ad th) 11) G := h
    have hk4 := ih
    refine l_ild_n C dX1_sees_4 hl 3 rfl rfl ?_
    refine l_ald_n C dX1_sees_5 hl 0 rfl rfl ?_
    refine g_I C I fl_X1_98_1 (by decide) (by decide) hth dX1_sees_6 ?_
    refine k_call Ext.tr C I (k_S (As := [.int (gI G (ad th) 11)]) (rest := [.int l3]) (y := yJ15_bitCount) C q458 q459 q133 (Or.inl rfl) q460 (by decide) rfl pd_J15_bitCount rfl dX1_sees_9) (ct_J15_bitCount h) hl.1 dX1_sees_9 [.inl l3] rfl (Nat.le_of_ble_eq_true rfl) (Or.inl rfl) q460 q133 ⟨Nat.le_of_ble_eq_true rfl, Nat.le_of_ble_eq_true rfl⟩ (fun v G1 H locs cells slots xG1 hq I => ?_) (fun a G9 H locs cells slots ex hq I => hq.elim)
    obtain ⟨r2, rfl, h⟩ := hq
    have h := h xG1
    refine lv_icmp_ge (tgt := 70) C.1 C.2.1 dX1_sees_12 (by decide) (fun c14 => ?_) (fun c14 => ?_)
    · have h := h.1 c14
      refine l_ild_n C dX1_sees_70 hl 2 rfl rfl ?_
      exact r_int C.1 C.2.1 C.2.2.2.2.2.1 rfl C.2.2.2.2.2.2 ⟨rfl, rfl⟩ I dX1_sees_71 ⟨_, rfl, h⟩
    · have h := h.2 c14
      refine l_ald_n C dX1_sees_15 hl 0 rfl rfl ?_
      refine g_R C I fl_X1_16_1 (by decide) (by decide) (hth.ext (by decide) xG1) dX1_sees_16 ?_
      obtain ⟨ho3, h⟩ := h
      refine g_R C I fl_X1_128_2 (by decide) (by decide) ho3 dX1_sees_19 ?_
      refine l_ald_n C dX1_sees_22 hl 0 rfl rfl ?_
      refine l_ild_n C dX1_sees_23 hl 3 rfl rfl ?_
      refine k_call Ext.tr C I (k_V (r := th) (As := [.int l3]) (rest := [va_rf (gR G1 (ad (gR G1 (ad th) 0)) 3)]) (y := yX1_worldThing) C ⟨(hth.ext (by decide) xG1).ad.1, I.recv C.2.2.2.2.1 (hth.ext (by decide) xG1) (by decide)⟩ q1339 q1341 qs44 (Or.inl rfl) q1342 (by decide) rfl pd_X1_worldThing rfl dX1_sees_24) (ct_X1_worldThing h) hl.1 dX1_sees_24 [.inr (.inl (gR G1 (ad (gR G1 (ad th) 0)) 3))] rfl (Nat.le_of_ble_eq_true rfl) (Or.inl rfl) q1342 q100 ⟨Nat.le_of_ble_eq_true rfl, Nat.le_of_ble_eq_true rfl⟩ (fun v G4 H locs cells slots xG4 hq I => ?_) (fun a G9 H locs cells slots ex hq I => hq.elim)
      obtain ⟨r5, rfl, h⟩ := hq
      have h := h xG4
      obtain ⟨ho13, h⟩ := h
      refine k_call Ext.tr C I (k_F (kd := 16) (r := gR G1 (ad (gR G1 (ad th) 0)) 3) (As := [.int r5]) (rest := []) (y := yJ2_get) (x := ⟨"java/util/List", "get", "(I)Ljava/lang/Object;"⟩) C (by decide) ⟨ho13.ad.1, I.recv C.2.2.2.2.1 ho13 (by decide)⟩ q561 (by decide) q477 q476 q481 q479 q417 q478 q480 rfl pd_J2_get rfl dX1_sees_27) (ct_J2_get h) hl.1 dX1_sees_27 [] rfl (Nat.le_of_ble_eq_true rfl) (Or.inl rfl) q482 q104 ⟨Nat.le_of_ble_eq_true rfl, Nat.le_of_ble_eq_true rfl⟩ (fun v G6 H locs cells slots xG6 hq I => ?_) (fun a G9 H locs cells slots ex hq I => hq.elim)
      obtain ⟨r7, rfl, h⟩ := hq
      have h := h xG6
      obtain ⟨hcc, h⟩ := h
      refine c_cast (kd := 11) C I (by decide) q1113 hcc dX1_sees_32 ?_
      refine l_ast C dX1_sees_35 hl (by decide) rfl (fun ls hl => ?_)
      have hl : LH ls 5 [(4, .inr (.inl r7)), (0, .inr (.inl th)), (1, .inl l1), (2, .inl l2), (3, .inl l3)] := hl
      refine l_ald_n C dX1_sees_37 hl 1 rfl rfl ?_
      refine g_R C I fl_X1_16_1 (by decide) (by decide) (hth.ext (by decide) (Ext.tr _ _ _ xG1 (Ext.tr _ _ _ xG4 xG6))) dX1_sees_38 ?_
      refine l_ild_n C dX1_sees_41 hl 2 rfl rfl ?_
      refine l_ald C dX1_sees_42 hl 0 rfl ?_
      obtain ⟨ho8, h⟩ := h
      refine g_I C I fl_X1_173_11 (by decide) (by decide) ho8 dX1_sees_44 ?_
      obtain ⟨ho12, h⟩ := h
      refine k_call Ext.tr C I (k_V (r := gR G6 (ad th) 0) (As := [.int l1, .int (gI G6 (ad r7) 2)]) (rest := []) (y := yX2_where) C ⟨ho12.ad.1, I.recv C.2.2.2.2.1 ho12 (by decide)⟩ q1101 q509 q510 (Or.inl rfl) q511 (by decide) rfl pd_X2_where rfl dX1_sees_47) (ct_X2_where h) hl.1 dX1_sees_47 [] rfl (Nat.le_of_ble_eq_true rfl) (Or.inl rfl) q511 q101 ⟨Nat.le_of_ble_eq_true rfl, Nat.le_of_ble_eq_true rfl⟩ (fun v G9 H locs cells slots xG9 hq I => ?_) (fun a G9 H locs cells slots ex hq I => hq.elim)
      obtain ⟨r10, rfl, h⟩ := hq
      have h := h xG9
      refine l_ald C dX1_sees_50 hl 0 rfl ?_
      refine g_I C I fl_X1_170_11 (by decide) (by decide) (ho8.ext (by decide) xG9) dX1_sees_52 ?_
      refine lv_icmp_ne (tgt := 64) C.1 C.2.1 dX1_sees_55 (by decide) (fun c11 => ?_) (fun c11 => ?_)
      · have h := h.1 c11
        exact b_X1_sees_64 C hk4 l1 l2 l3 G9 _ _ _ _ _ h (hth.ext (by decide) (Ext.tr _ _ _ xG1 (Ext.tr _ _ _ xG4 (Ext.tr _ _ _ xG6 xG9)))) I (hl.sub [1, 2, 3, 4] rfl)
      · have h := h.2 c11
        refine l_ild_n C dX1_sees_58 hl 3 rfl rfl ?_
        refine lv_iconst (v := 1) C.1 C.2.1 dX1_sees_59 (by decide) ?_
        refine l_ild_n C dX1_sees_60 hl 4 rfl rfl ?_
        refine lv_ishl C.1 C.2.1 dX1_sees_61 ?_
        refine lv_ior C.1 C.2.1 dX1_sees_62 ?_
        refine l_ist_n C dX1_sees_63 rfl hl (by decide) rfl (fun ls hl => ?_)
        have hl : LH ls 5 [(2, .inl ((l2 ||| ((1 : Int32) <<< (l3 &&& 31))))), (4, .inr (.inl r7)), (0, .inr (.inl th)), (1, .inl l1), (3, .inl l3)] := hl
        exact b_X1_sees_64 C hk4 l1 ((l2 ||| ((1 : Int32) <<< (l3 &&& 31)))) l3 G9 _ _ _ _ _ h (hth.ext (by decide) (Ext.tr _ _ _ xG1 (Ext.tr _ _ _ xG4 (Ext.tr _ _ _ xG6 xG9)))) I (hl.sub [2, 3, 0, 4] rfl)
def w_X1_sees (T : Nat → ClassId) (Q : Int32 → Hp → Prop) (th : Option Nat) (p0 : Int32) (G : Hp) : Prop := isO G th 1 ∧ (∃ n, w_X1_sees_4 T Q th n p0 ((0 : Int32)) ((0 : Int32)) G)
theorem pd_X1_sees : (parseMethodDescriptor yX1_sees.desc).map (fun d => d.parameters.length) = some 1 := by decide +kernel
set_option maxHeartbeats 4000000 in
theorem ct_X1_sees {l : Launch} {D : va_G} {T : Nat → ClassId} {Z : Heap} {G0 : Hp} {Q : Int32 → Hp → Prop} {th : Option Nat} {p0 : Int32} (hw : w_X1_sees T Q th p0 G0) : CT (twd D T Z) (Evd D T Z) l yX1_sees (Cond.code yX1_sees cX1_sees 5 (some .int)) 3 64 [va_rf th, .int p0] G0 (qI Q) (fun _ _ => False) := by
  refine CT.ofW (cc := cX1_sees) (nL := 5) (ret := (some .int)) Ext.rf (by decide) (Or.inl rfl) ?_
  intro p e s m below meth c hx hb hml hown hr hlk hnm hcb hm hc hn hE I
  have C : Cx p s m meth c D T Z "EndingTown" cX1_sees 5 (some .int) := ⟨hx, hb, hml, hown, hE, hr, hlk⟩
  refine w_entry [.inr (.inl th), .inl p0] (Nat.le_of_ble_eq_true rfl) (fun ls hl => ?_)
  have hl : LH ls 5 [(0, .inr (.inl th)), (1, .inl p0)] := hl
  obtain ⟨hth, h⟩ := hw
  refine lv_iconst (v := 0) C.1 C.2.1 dX1_sees_0 (by decide) ?_
  refine l_ist_n C dX1_sees_1 rfl hl (by decide) rfl (fun ls hl => ?_)
  have hl : LH ls 5 [(2, .inl ((0 : Int32))), (0, .inr (.inl th)), (1, .inl p0)] := hl
  refine lv_iconst (v := 0) C.1 C.2.1 dX1_sees_2 (by decide) ?_
  refine l_ist_n C dX1_sees_3 rfl hl (by decide) rfl (fun ls hl => ?_)
  have hl : LH ls 5 [(3, .inl ((0 : Int32))), (2, .inl ((0 : Int32))), (0, .inr (.inl th)), (1, .inl p0)] := hl
  obtain ⟨n, h⟩ := h
  exact b_X1_sees_4 C n p0 ((0 : Int32)) ((0 : Int32)) G0 _ _ _ _ _ h hth I (hl.sub [2, 3, 1, 0] rfl)
def w_X1_knows_95 (T : Nat → ClassId) (Q : Int32 → Hp → Prop) (th : Option Nat) (k12 : Int32 → Int32 → Int32 → Int32 → Hp → Prop) (k42 : Int32 → Int32 → Int32 → Int32 → Int32 → Int32 → Hp → Prop) (l2 : Int32) (l3 : Int32) (l4 : Int32) (l5 : Int32) (l6 : Int32) (l7 : Int32) (G : Hp) : Prop := k42 l2 l3 l4 l5 l6 ((l7 + 1)) G
set_option maxHeartbeats 4000000 in
theorem b_X1_knows_95 {G0 : Hp} {Q : Int32 → Hp → Prop} {th : Option Nat} {k12 : Int32 → Int32 → Int32 → Int32 → Hp → Prop} {k42 : Int32 → Int32 → Int32 → Int32 → Int32 → Int32 → Hp → Prop} (C : Cx p s m meth c D T Z "EndingTown" cX1_knows 8 (some .int)) (hk12 : ∀ (l2 : Int32) (l3 : Int32) (l4 : Int32) (l5 : Int32) (G : Hp) (H : Heap) (locs : List Loc) (cells slots : Nat) (ls : Array Slot), k12 l2 l3 l4 l5 G → isO G th 1 → HI (twd D T Z) G0 s (rmX (twd D T Z) 4 88 G0) H locs cells slots G → LH ls 8 [(0, .inr (.inl th)), (2, .inl l2), (3, .inl l3), (4, .inl l4), (5, .inl l5)] → W p l e (rmX (twd D T Z) 4 88 G0) s m args below meth c H locs cells slots (MQX (twd D T Z) G0 (qI Q) (fun _ _ => False) below s) (F0 m 12 ls [])) (hk42 : ∀ (l2 : Int32) (l3 : Int32) (l4 : Int32) (l5 : Int32) (l6 : Int32) (l7 : Int32) (G : Hp) (H : Heap) (locs : List Loc) (cells slots : Nat) (ls : Array Slot), k42 l2 l3 l4 l5 l6 l7 G → isO G th 1 → HI (twd D T Z) G0 s (rmX (twd D T Z) 4 88 G0) H locs cells slots G → LH ls 8 [(0, .inr (.inl th)), (2, .inl l2), (3, .inl l3), (4, .inl l4), (5, .inl l5), (6, .inl l6), (7, .inl l7)] → W p l e (rmX (twd D T Z) 4 88 G0) s m args below meth c H locs cells slots (MQX (twd D T Z) G0 (qI Q) (fun _ _ => False) below s) (F0 m 42 ls [])) : ∀ (l2 : Int32) (l3 : Int32) (l4 : Int32) (l5 : Int32) (l6 : Int32) (l7 : Int32) (G : Hp) (H : Heap) (locs : List Loc) (cells slots : Nat) (ls : Array Slot), w_X1_knows_95 T Q th k12 k42 l2 l3 l4 l5 l6 l7 G → isO G th 1 → HI (twd D T Z) G0 s (rmX (twd D T Z) 4 88 G0) H locs cells slots G → LH ls 8 [(0, .inr (.inl th)), (2, .inl l2), (3, .inl l3), (4, .inl l4), (5, .inl l5), (6, .inl l6), (7, .inl l7)] → W p l e (rmX (twd D T Z) 4 88 G0) s m args below meth c H locs cells slots (MQX (twd D T Z) G0 (qI Q) (fun _ _ => False) below s) (F0 m 95 ls []) := by
  intro l2 l3 l4 l5 l6 l7 G H locs cells slots ls h hth I hl
  refine l_inc (q := 6) (v := 1) C dX1_knows_95 hl rfl (by decide) (by decide) rfl (fun ls hl => ?_)
  have hl : LH ls 8 [(7, .inl ((l7 + 1))), (0, .inr (.inl th)), (2, .inl l2), (3, .inl l3), (4, .inl l4), (5, .inl l5), (6, .inl l6)] := hl
  refine lv_goto (tgt := 42) C.1 C.2.1 dX1_knows_98 (by decide) ?_
  exact hk42 l2 l3 l4 l5 l6 ((l7 + 1)) G _ _ _ _ _ h hth I (hl.sub [1, 2, 3, 4, 5, 6, 0] rfl)
def w_X1_knows_93 (T : Nat → ClassId) (Q : Int32 → Hp → Prop) (th : Option Nat) (k12 : Int32 → Int32 → Int32 → Int32 → Hp → Prop) (k42 : Int32 → Int32 → Int32 → Int32 → Int32 → Int32 → Hp → Prop) (l2 : Int32) (l3 : Int32) (l4 : Int32) (l5 : Int32) (l7 : Int32) (t0 : Int32) (G : Hp) : Prop := w_X1_knows_95 T Q th k12 k42 l2 l3 l4 l5 t0 l7 G
set_option maxHeartbeats 4000000 in
theorem b_X1_knows_93 {G0 : Hp} {Q : Int32 → Hp → Prop} {th : Option Nat} {k12 : Int32 → Int32 → Int32 → Int32 → Hp → Prop} {k42 : Int32 → Int32 → Int32 → Int32 → Int32 → Int32 → Hp → Prop} (C : Cx p s m meth c D T Z "EndingTown" cX1_knows 8 (some .int)) (hk12 : ∀ (l2 : Int32) (l3 : Int32) (l4 : Int32) (l5 : Int32) (G : Hp) (H : Heap) (locs : List Loc) (cells slots : Nat) (ls : Array Slot), k12 l2 l3 l4 l5 G → isO G th 1 → HI (twd D T Z) G0 s (rmX (twd D T Z) 4 88 G0) H locs cells slots G → LH ls 8 [(0, .inr (.inl th)), (2, .inl l2), (3, .inl l3), (4, .inl l4), (5, .inl l5)] → W p l e (rmX (twd D T Z) 4 88 G0) s m args below meth c H locs cells slots (MQX (twd D T Z) G0 (qI Q) (fun _ _ => False) below s) (F0 m 12 ls [])) (hk42 : ∀ (l2 : Int32) (l3 : Int32) (l4 : Int32) (l5 : Int32) (l6 : Int32) (l7 : Int32) (G : Hp) (H : Heap) (locs : List Loc) (cells slots : Nat) (ls : Array Slot), k42 l2 l3 l4 l5 l6 l7 G → isO G th 1 → HI (twd D T Z) G0 s (rmX (twd D T Z) 4 88 G0) H locs cells slots G → LH ls 8 [(0, .inr (.inl th)), (2, .inl l2), (3, .inl l3), (4, .inl l4), (5, .inl l5), (6, .inl l6), (7, .inl l7)] → W p l e (rmX (twd D T Z) 4 88 G0) s m args below meth c H locs cells slots (MQX (twd D T Z) G0 (qI Q) (fun _ _ => False) below s) (F0 m 42 ls [])) : ∀ (l2 : Int32) (l3 : Int32) (l4 : Int32) (l5 : Int32) (l7 : Int32) (t0 : Int32) (G : Hp) (H : Heap) (locs : List Loc) (cells slots : Nat) (ls : Array Slot), w_X1_knows_93 T Q th k12 k42 l2 l3 l4 l5 l7 t0 G → isO G th 1 → HI (twd D T Z) G0 s (rmX (twd D T Z) 4 88 G0) H locs cells slots G → LH ls 8 [(0, .inr (.inl th)), (2, .inl l2), (3, .inl l3), (4, .inl l4), (5, .inl l5), (7, .inl l7)] → W p l e (rmX (twd D T Z) 4 88 G0) s m args below meth c H locs cells slots (MQX (twd D T Z) G0 (qI Q) (fun _ _ => False) below s) (F0 m 93 ls [.int t0]) := by
  intro l2 l3 l4 l5 l7 t0 G H locs cells slots ls h hth I hl
  refine l_ist C dX1_knows_93 hl (by decide) rfl (fun ls hl => ?_)
  have hl : LH ls 8 [(6, .inl t0), (0, .inr (.inl th)), (2, .inl l2), (3, .inl l3), (4, .inl l4), (5, .inl l5), (7, .inl l7)] := hl
  exact b_X1_knows_95 C hk12 hk42 l2 l3 l4 l5 t0 l7 G _ _ _ _ _ h hth I (hl.sub [1, 2, 3, 4, 5, 0, 6] rfl)
def w_X1_knows_113 (T : Nat → ClassId) (Q : Int32 → Hp → Prop) (th : Option Nat) (k12 : Int32 → Int32 → Int32 → Int32 → Hp → Prop) (l2 : Int32) (l3 : Int32) (l4 : Int32) (l5 : Int32) (G : Hp) : Prop := k12 l2 l3 l4 ((l5 + 1)) G
set_option maxHeartbeats 4000000 in
theorem b_X1_knows_113 {G0 : Hp} {Q : Int32 → Hp → Prop} {th : Option Nat} {k12 : Int32 → Int32 → Int32 → Int32 → Hp → Prop} (C : Cx p s m meth c D T Z "EndingTown" cX1_knows 8 (some .int)) (hk12 : ∀ (l2 : Int32) (l3 : Int32) (l4 : Int32) (l5 : Int32) (G : Hp) (H : Heap) (locs : List Loc) (cells slots : Nat) (ls : Array Slot), k12 l2 l3 l4 l5 G → isO G th 1 → HI (twd D T Z) G0 s (rmX (twd D T Z) 4 88 G0) H locs cells slots G → LH ls 8 [(0, .inr (.inl th)), (2, .inl l2), (3, .inl l3), (4, .inl l4), (5, .inl l5)] → W p l e (rmX (twd D T Z) 4 88 G0) s m args below meth c H locs cells slots (MQX (twd D T Z) G0 (qI Q) (fun _ _ => False) below s) (F0 m 12 ls [])) : ∀ (l2 : Int32) (l3 : Int32) (l4 : Int32) (l5 : Int32) (G : Hp) (H : Heap) (locs : List Loc) (cells slots : Nat) (ls : Array Slot), w_X1_knows_113 T Q th k12 l2 l3 l4 l5 G → isO G th 1 → HI (twd D T Z) G0 s (rmX (twd D T Z) 4 88 G0) H locs cells slots G → LH ls 8 [(0, .inr (.inl th)), (2, .inl l2), (3, .inl l3), (4, .inl l4), (5, .inl l5)] → W p l e (rmX (twd D T Z) 4 88 G0) s m args below meth c H locs cells slots (MQX (twd D T Z) G0 (qI Q) (fun _ _ => False) below s) (F0 m 113 ls []) := by
  intro l2 l3 l4 l5 G H locs cells slots ls h hth I hl
  refine l_inc (q := 4) (v := 1) C dX1_knows_113 hl rfl (by decide) (by decide) rfl (fun ls hl => ?_)
  have hl : LH ls 8 [(5, .inl ((l5 + 1))), (0, .inr (.inl th)), (2, .inl l2), (3, .inl l3), (4, .inl l4)] := hl
  refine lv_goto (tgt := 12) C.1 C.2.1 dX1_knows_116 (by decide) ?_
  exact hk12 l2 l3 l4 ((l5 + 1)) G _ _ _ _ _ h hth I (hl.sub [1, 2, 3, 4, 0] rfl)
def w_X1_knows_101 (T : Nat → ClassId) (Q : Int32 → Hp → Prop) (th : Option Nat) (k12 : Int32 → Int32 → Int32 → Int32 → Hp → Prop) (l2 : Int32) (l3 : Int32) (l4 : Int32) (l5 : Int32) (l6 : Int32) (G : Hp) : Prop := ((l6 = 0) → (w_X1_knows_113 T Q th k12 l2 l3 l4 l5 G)) ∧ ((¬ l6 = 0) → (w_X1_knows_113 T Q th k12 l2 ((l3 ||| ((1 : Int32) <<< (l5 &&& 31)))) l4 l5 G))
set_option maxHeartbeats 4000000 in
theorem b_X1_knows_101 {G0 : Hp} {Q : Int32 → Hp → Prop} {th : Option Nat} {k12 : Int32 → Int32 → Int32 → Int32 → Hp → Prop} (C : Cx p s m meth c D T Z "EndingTown" cX1_knows 8 (some .int)) (hk12 : ∀ (l2 : Int32) (l3 : Int32) (l4 : Int32) (l5 : Int32) (G : Hp) (H : Heap) (locs : List Loc) (cells slots : Nat) (ls : Array Slot), k12 l2 l3 l4 l5 G → isO G th 1 → HI (twd D T Z) G0 s (rmX (twd D T Z) 4 88 G0) H locs cells slots G → LH ls 8 [(0, .inr (.inl th)), (2, .inl l2), (3, .inl l3), (4, .inl l4), (5, .inl l5)] → W p l e (rmX (twd D T Z) 4 88 G0) s m args below meth c H locs cells slots (MQX (twd D T Z) G0 (qI Q) (fun _ _ => False) below s) (F0 m 12 ls [])) : ∀ (l2 : Int32) (l3 : Int32) (l4 : Int32) (l5 : Int32) (l6 : Int32) (G : Hp) (H : Heap) (locs : List Loc) (cells slots : Nat) (ls : Array Slot), w_X1_knows_101 T Q th k12 l2 l3 l4 l5 l6 G → isO G th 1 → HI (twd D T Z) G0 s (rmX (twd D T Z) 4 88 G0) H locs cells slots G → LH ls 8 [(0, .inr (.inl th)), (2, .inl l2), (3, .inl l3), (4, .inl l4), (5, .inl l5), (6, .inl l6)] → W p l e (rmX (twd D T Z) 4 88 G0) s m args below meth c H locs cells slots (MQX (twd D T Z) G0 (qI Q) (fun _ _ => False) below s) (F0 m 101 ls []) := by
  intro l2 l3 l4 l5 l6 G H locs cells slots ls h hth I hl
  refine l_ild C dX1_knows_101 hl 5 rfl ?_
  refine lv_if_eq (tgt := 113) C.1 C.2.1 dX1_knows_103 (by decide) (fun c1 => ?_) (fun c1 => ?_)
  · have h := h.1 c1
    exact b_X1_knows_113 C hk12 l2 l3 l4 l5 G _ _ _ _ _ h hth I (hl.sub [0, 1, 2, 3, 4] rfl)
  · have h := h.2 c1
    refine l_ild_n C dX1_knows_106 hl 2 rfl rfl ?_
    refine lv_iconst (v := 1) C.1 C.2.1 dX1_knows_107 (by decide) ?_
    refine l_ild C dX1_knows_108 hl 4 rfl ?_
    refine lv_ishl C.1 C.2.1 dX1_knows_110 ?_
    refine lv_ior C.1 C.2.1 dX1_knows_111 ?_
    refine l_ist_n C dX1_knows_112 rfl hl (by decide) rfl (fun ls hl => ?_)
    have hl : LH ls 8 [(3, .inl ((l3 ||| ((1 : Int32) <<< (l5 &&& 31))))), (0, .inr (.inl th)), (2, .inl l2), (4, .inl l4), (5, .inl l5), (6, .inl l6)] := hl
    exact b_X1_knows_113 C hk12 l2 ((l3 ||| ((1 : Int32) <<< (l5 &&& 31)))) l4 l5 G _ _ _ _ _ h hth I (hl.sub [1, 2, 0, 3, 4] rfl)
def w_X1_knows_42 (T : Nat → ClassId) (Q : Int32 → Hp → Prop) (th : Option Nat) (k12 : Int32 → Int32 → Int32 → Int32 → Hp → Prop) : Nat → Int32 → Int32 → Int32 → Int32 → Int32 → Int32 → Hp → Prop
  | 0 => fun _ _ _ _ _ _ _ => False
  | f42 + 1 => fun l2 l3 l4 l5 l6 l7 G => (((16 : Int32) ≤ l7) → (w_X1_knows_101 T Q th k12 l2 l3 l4 l5 l6 G)) ∧ ((¬ (16 : Int32) ≤ l7) → (((l6 = 0) → (w_X1_knows_101 T Q th k12 l2 l3 l4 l5 l6 G)) ∧ ((¬ l6 = 0) → (((¬ ((gI G (ad th) 12 >>> (l7 &&& 31)) &&& (1 : Int32)) = (1 : Int32)) → (w_X1_knows_95 T Q th k12 (w_X1_knows_42 T Q th k12 f42) l2 l3 l4 l5 l6 l7 G)) ∧ ((((gI G (ad th) 12 >>> (l7 &&& 31)) &&& (1 : Int32)) = (1 : Int32)) → (((¬ ((l7 ^^^ l5) &&& l4) = 0) → (w_X1_knows_95 T Q th k12 (w_X1_knows_42 T Q th k12 f42) l2 l3 l4 l5 l6 l7 G)) ∧ ((((l7 ^^^ l5) &&& l4) = 0) → (((¬ ((l2 >>> (l7 &&& 31)) &&& (1 : Int32)) = (1 : Int32)) → (w_X1_knows_93 T Q th k12 (w_X1_knows_42 T Q th k12 f42) l2 l3 l4 l5 l7 ((0 : Int32)) G)) ∧ ((((l2 >>> (l7 &&& 31)) &&& (1 : Int32)) = (1 : Int32)) → (w_X1_knows_93 T Q th k12 (w_X1_knows_42 T Q th k12 f42) l2 l3 l4 l5 l7 ((1 : Int32)) G))))))))))
set_option maxHeartbeats 4000000 in
theorem b_X1_knows_42 {G0 : Hp} {Q : Int32 → Hp → Prop} {th : Option Nat} {k12 : Int32 → Int32 → Int32 → Int32 → Hp → Prop} (C : Cx p s m meth c D T Z "EndingTown" cX1_knows 8 (some .int)) (hk12 : ∀ (l2 : Int32) (l3 : Int32) (l4 : Int32) (l5 : Int32) (G : Hp) (H : Heap) (locs : List Loc) (cells slots : Nat) (ls : Array Slot), k12 l2 l3 l4 l5 G → isO G th 1 → HI (twd D T Z) G0 s (rmX (twd D T Z) 4 88 G0) H locs cells slots G → LH ls 8 [(0, .inr (.inl th)), (2, .inl l2), (3, .inl l3), (4, .inl l4), (5, .inl l5)] → W p l e (rmX (twd D T Z) 4 88 G0) s m args below meth c H locs cells slots (MQX (twd D T Z) G0 (qI Q) (fun _ _ => False) below s) (F0 m 12 ls [])) : ∀ (n : Nat) (l2 : Int32) (l3 : Int32) (l4 : Int32) (l5 : Int32) (l6 : Int32) (l7 : Int32) (G : Hp) (H : Heap) (locs : List Loc) (cells slots : Nat) (ls : Array Slot), w_X1_knows_42 T Q th k12 n l2 l3 l4 l5 l6 l7 G → isO G th 1 → HI (twd D T Z) G0 s (rmX (twd D T Z) 4 88 G0) H locs cells slots G → LH ls 8 [(0, .inr (.inl th)), (2, .inl l2), (3, .inl l3), (4, .inl l4), (5, .inl l5), (6, .inl l6), (7, .inl l7)] → W p l e (rmX (twd D T Z) 4 88 G0) s m args below meth c H locs cells slots (MQX (twd D T Z) G0 (qI Q) (fun _ _ => False) below s) (F0 m 42 ls []) := by
  intro f42
  induction f42 with
  | zero => intro l2 l3 l4 l5 l6 l7 G H locs cells slots ls h; exact (show False from h).elim
  | succ f42 ih =>
    intro l2 l3 l4 l5 l6 l7 G H locs cells slots ls h hth I hl
    have h : (((16 : Int32) ≤ l7) → (w_X1_knows_101 T Q th k12 l2 l3 l4 l5 l6 G)) ∧ ((¬ (16 : Int32) ≤ l7) → (((l6 = 0) → (w_X1_knows_101 T Q th k12 l2 l3 l4 l5 l6 G)) ∧ ((¬ l6 = 0) → (((¬ ((gI G (ad th) 12 >>> (l7 &&& 31)) &&& (1 : Int32)) = (1 : Int32)) → (w_X1_knows_95 T Q th k12 (w_X1_knows_42 T Q th k12 f42) l2 l3 l4 l5 l6 l7 G)) ∧ ((((gI G (ad th) 12 >>> (l7 &&& 31)) &&& (1 : Int32)) = (1 : Int32)) → (((¬ ((l7 ^^^ l5) &&& l4) = 0) → (w_X1_knows_95 T Q th k12 (w_X1_knows_42 T Q th k12 f42) l2 l3 l4 l5 l6 l7 G)) ∧ ((((l7 ^^^ l5) &&& l4) = 0) → (((¬ ((l2 >>> (l7 &&& 31)) &&& (1 : Int32)) = (1 : Int32)) → (w_X1_knows_93 T Q th k12 (w_X1_knows_42 T Q th k12 f42) l2 l3 l4 l5 l7 ((0 : Int32)) G)) ∧ ((((l2 >>> (l7 &&& 31)) &&& (1 : Int32)) = (1 : Int32)) → (w_X1_knows_93 T Q th k12 (w_X1_knows_42 T Q th k12 f42) l2 l3 l4 l5 l7 ((1 : Int32)) G)))))))))) := h
    have hk42 := ih
    refine l_ild C dX1_knows_42 hl 6 rfl ?_
    refine lv_bipush (v := 16) C.1 C.2.1 dX1_knows_44 (by decide) ?_
    refine lv_icmp_ge (tgt := 101) C.1 C.2.1 dX1_knows_46 (by decide) (fun c5 => ?_) (fun c5 => ?_)
    · have h := h.1 c5
      exact b_X1_knows_101 C hk12 l2 l3 l4 l5 l6 G _ _ _ _ _ h hth I (hl.sub [0, 1, 2, 3, 4, 5] rfl)
    · have h := h.2 c5
      refine l_ild C dX1_knows_49 hl 5 rfl ?_
      refine lv_if_eq (tgt := 101) C.1 C.2.1 dX1_knows_51 (by decide) (fun c4 => ?_) (fun c4 => ?_)
      · have h := h.1 c4
        exact b_X1_knows_101 C hk12 l2 l3 l4 l5 l6 G _ _ _ _ _ h hth I (hl.sub [0, 1, 2, 3, 4, 5] rfl)
      · have h := h.2 c4
        refine l_ald_n C dX1_knows_54 hl 0 rfl rfl ?_
        refine g_I C I fl_X1_101_1 (by decide) (by decide) hth dX1_knows_55 ?_
        refine l_ild C dX1_knows_58 hl 6 rfl ?_
        refine lv_ishr C.1 C.2.1 dX1_knows_60 ?_
        refine lv_iconst (v := 1) C.1 C.2.1 dX1_knows_61 (by decide) ?_
        refine lv_iand C.1 C.2.1 dX1_knows_62 ?_
        refine lv_iconst (v := 1) C.1 C.2.1 dX1_knows_63 (by decide) ?_
        refine lv_icmp_ne (tgt := 95) C.1 C.2.1 dX1_knows_64 (by decide) (fun c3 => ?_) (fun c3 => ?_)
        · have h := h.1 c3
          exact b_X1_knows_95 C hk12 hk42 l2 l3 l4 l5 l6 l7 G _ _ _ _ _ h hth I (hl.sub [0, 1, 2, 3, 4, 5, 6] rfl)
        · have h := h.2 c3
          refine l_ild C dX1_knows_67 hl 6 rfl ?_
          refine l_ild C dX1_knows_69 hl 4 rfl ?_
          refine lv_ixor C.1 C.2.1 dX1_knows_71 ?_
          refine l_ild C dX1_knows_72 hl 3 rfl ?_
          refine lv_iand C.1 C.2.1 dX1_knows_74 ?_
          refine lv_if_ne (tgt := 95) C.1 C.2.1 dX1_knows_75 (by decide) (fun c2 => ?_) (fun c2 => ?_)
          · have h := h.1 c2
            exact b_X1_knows_95 C hk12 hk42 l2 l3 l4 l5 l6 l7 G _ _ _ _ _ h hth I (hl.sub [0, 1, 2, 3, 4, 5, 6] rfl)
          · have h := h.2 c2
            refine l_ild_n C dX1_knows_78 hl 1 rfl rfl ?_
            refine l_ild C dX1_knows_79 hl 6 rfl ?_
            refine lv_ishr C.1 C.2.1 dX1_knows_81 ?_
            refine lv_iconst (v := 1) C.1 C.2.1 dX1_knows_82 (by decide) ?_
            refine lv_iand C.1 C.2.1 dX1_knows_83 ?_
            refine lv_iconst (v := 1) C.1 C.2.1 dX1_knows_84 (by decide) ?_
            refine lv_icmp_ne (tgt := 92) C.1 C.2.1 dX1_knows_85 (by decide) (fun c1 => ?_) (fun c1 => ?_)
            · have h := h.1 c1
              refine lv_iconst (v := 0) C.1 C.2.1 dX1_knows_92 (by decide) ?_
              exact b_X1_knows_93 C hk12 hk42 l2 l3 l4 l5 l7 ((0 : Int32)) G _ _ _ _ _ h hth I (hl.sub [0, 1, 2, 3, 4, 6] rfl)
            · have h := h.2 c1
              refine lv_iconst (v := 1) C.1 C.2.1 dX1_knows_88 (by decide) ?_
              refine lv_goto (tgt := 93) C.1 C.2.1 dX1_knows_89 (by decide) ?_
              exact b_X1_knows_93 C hk12 hk42 l2 l3 l4 l5 l7 ((1 : Int32)) G _ _ _ _ _ h hth I (hl.sub [0, 1, 2, 3, 4, 6] rfl)
def w_X1_knows_37 (T : Nat → ClassId) (Q : Int32 → Hp → Prop) (th : Option Nat) (k12 : Int32 → Int32 → Int32 → Int32 → Hp → Prop) (l2 : Int32) (l3 : Int32) (l4 : Int32) (l5 : Int32) (t0 : Int32) (G : Hp) : Prop := ∃ n, w_X1_knows_42 T Q th k12 n l2 l3 l4 l5 t0 ((0 : Int32)) G
set_option maxHeartbeats 4000000 in
theorem b_X1_knows_37 {G0 : Hp} {Q : Int32 → Hp → Prop} {th : Option Nat} {k12 : Int32 → Int32 → Int32 → Int32 → Hp → Prop} (C : Cx p s m meth c D T Z "EndingTown" cX1_knows 8 (some .int)) (hk12 : ∀ (l2 : Int32) (l3 : Int32) (l4 : Int32) (l5 : Int32) (G : Hp) (H : Heap) (locs : List Loc) (cells slots : Nat) (ls : Array Slot), k12 l2 l3 l4 l5 G → isO G th 1 → HI (twd D T Z) G0 s (rmX (twd D T Z) 4 88 G0) H locs cells slots G → LH ls 8 [(0, .inr (.inl th)), (2, .inl l2), (3, .inl l3), (4, .inl l4), (5, .inl l5)] → W p l e (rmX (twd D T Z) 4 88 G0) s m args below meth c H locs cells slots (MQX (twd D T Z) G0 (qI Q) (fun _ _ => False) below s) (F0 m 12 ls [])) : ∀ (l2 : Int32) (l3 : Int32) (l4 : Int32) (l5 : Int32) (t0 : Int32) (G : Hp) (H : Heap) (locs : List Loc) (cells slots : Nat) (ls : Array Slot), w_X1_knows_37 T Q th k12 l2 l3 l4 l5 t0 G → isO G th 1 → HI (twd D T Z) G0 s (rmX (twd D T Z) 4 88 G0) H locs cells slots G → LH ls 8 [(0, .inr (.inl th)), (2, .inl l2), (3, .inl l3), (4, .inl l4), (5, .inl l5)] → W p l e (rmX (twd D T Z) 4 88 G0) s m args below meth c H locs cells slots (MQX (twd D T Z) G0 (qI Q) (fun _ _ => False) below s) (F0 m 37 ls [.int t0]) := by
  intro l2 l3 l4 l5 t0 G H locs cells slots ls h hth I hl
  refine l_ist C dX1_knows_37 hl (by decide) rfl (fun ls hl => ?_)
  have hl : LH ls 8 [(6, .inl t0), (0, .inr (.inl th)), (2, .inl l2), (3, .inl l3), (4, .inl l4), (5, .inl l5)] := hl
  refine lv_iconst (v := 0) C.1 C.2.1 dX1_knows_39 (by decide) ?_
  refine l_ist C dX1_knows_40 hl (by decide) rfl (fun ls hl => ?_)
  have hl : LH ls 8 [(7, .inl ((0 : Int32))), (6, .inl t0), (0, .inr (.inl th)), (2, .inl l2), (3, .inl l3), (4, .inl l4), (5, .inl l5)] := hl
  obtain ⟨n, h⟩ := h
  exact b_X1_knows_42 C hk12 n l2 l3 l4 l5 t0 ((0 : Int32)) G _ _ _ _ _ h hth I (hl.sub [2, 3, 4, 5, 6, 1, 0] rfl)
def w_X1_knows_12 (T : Nat → ClassId) (Q : Int32 → Hp → Prop) (th : Option Nat) : Nat → Int32 → Int32 → Int32 → Int32 → Hp → Prop
  | 0 => fun _ _ _ _ _ => False
  | f12 + 1 => fun l2 l3 l4 l5 G => (((16 : Int32) ≤ l5) → (Q l3 G)) ∧ ((¬ (16 : Int32) ≤ l5) → (((¬ ((gI G (ad th) 12 >>> (l5 &&& 31)) &&& (1 : Int32)) = (1 : Int32)) → (w_X1_knows_37 T Q th (w_X1_knows_12 T Q th f12) l2 l3 l4 l5 ((0 : Int32)) G)) ∧ ((((gI G (ad th) 12 >>> (l5 &&& 31)) &&& (1 : Int32)) = (1 : Int32)) → (w_X1_knows_37 T Q th (w_X1_knows_12 T Q th f12) l2 l3 l4 l5 ((1 : Int32)) G))))
set_option maxHeartbeats 4000000 in
theorem b_X1_knows_12 {G0 : Hp} {Q : Int32 → Hp → Prop} {th : Option Nat} (C : Cx p s m meth c D T Z "EndingTown" cX1_knows 8 (some .int)) : ∀ (n : Nat) (l2 : Int32) (l3 : Int32) (l4 : Int32) (l5 : Int32) (G : Hp) (H : Heap) (locs : List Loc) (cells slots : Nat) (ls : Array Slot), w_X1_knows_12 T Q th n l2 l3 l4 l5 G → isO G th 1 → HI (twd D T Z) G0 s (rmX (twd D T Z) 4 88 G0) H locs cells slots G → LH ls 8 [(0, .inr (.inl th)), (2, .inl l2), (3, .inl l3), (4, .inl l4), (5, .inl l5)] → W p l e (rmX (twd D T Z) 4 88 G0) s m args below meth c H locs cells slots (MQX (twd D T Z) G0 (qI Q) (fun _ _ => False) below s) (F0 m 12 ls []) := by
  intro f12
  induction f12 with
  | zero => intro l2 l3 l4 l5 G H locs cells slots ls h; exact (show False from h).elim
  | succ f12 ih =>
    intro l2 l3 l4 l5 G H locs cells slots ls h hth I hl
    have h : (((16 : Int32) ≤ l5) → (Q l3 G)) ∧ ((¬ (16 : Int32) ≤ l5) → (((¬ ((gI G (ad th) 12 >>> (l5 &&& 31)) &&& (1 : Int32)) = (1 : Int32)) → (w_X1_knows_37 T Q th (w_X1_knows_12 T Q th f12) l2 l3 l4 l5 ((0 : Int32)) G)) ∧ ((((gI G (ad th) 12 >>> (l5 &&& 31)) &&& (1 : Int32)) = (1 : Int32)) → (w_X1_knows_37 T Q th (w_X1_knows_12 T Q th f12) l2 l3 l4 l5 ((1 : Int32)) G)))) := h
    have hk12 := ih
    refine l_ild C dX1_knows_12 hl 4 rfl ?_
    refine lv_bipush (v := 16) C.1 C.2.1 dX1_knows_14 (by decide) ?_
    refine lv_icmp_ge (tgt := 119) C.1 C.2.1 dX1_knows_16 (by decide) (fun c2 => ?_) (fun c2 => ?_)
    · have h := h.1 c2
      refine l_ild_n C dX1_knows_119 hl 2 rfl rfl ?_
      exact r_int C.1 C.2.1 C.2.2.2.2.2.1 rfl C.2.2.2.2.2.2 ⟨rfl, rfl⟩ I dX1_knows_120 ⟨_, rfl, h⟩
    · have h := h.2 c2
      refine l_ald_n C dX1_knows_19 hl 0 rfl rfl ?_
      refine g_I C I fl_X1_101_1 (by decide) (by decide) hth dX1_knows_20 ?_
      refine l_ild C dX1_knows_23 hl 4 rfl ?_
      refine lv_ishr C.1 C.2.1 dX1_knows_25 ?_
      refine lv_iconst (v := 1) C.1 C.2.1 dX1_knows_26 (by decide) ?_
      refine lv_iand C.1 C.2.1 dX1_knows_27 ?_
      refine lv_iconst (v := 1) C.1 C.2.1 dX1_knows_28 (by decide) ?_
      refine lv_icmp_ne (tgt := 36) C.1 C.2.1 dX1_knows_29 (by decide) (fun c1 => ?_) (fun c1 => ?_)
      · have h := h.1 c1
        refine lv_iconst (v := 0) C.1 C.2.1 dX1_knows_36 (by decide) ?_
        exact b_X1_knows_37 C hk12 l2 l3 l4 l5 ((0 : Int32)) G _ _ _ _ _ h hth I (hl.sub [0, 1, 2, 3, 4] rfl)
      · have h := h.2 c1
        refine lv_iconst (v := 1) C.1 C.2.1 dX1_knows_32 (by decide) ?_
        refine lv_goto (tgt := 37) C.1 C.2.1 dX1_knows_33 (by decide) ?_
        exact b_X1_knows_37 C hk12 l2 l3 l4 l5 ((1 : Int32)) G _ _ _ _ _ h hth I (hl.sub [0, 1, 2, 3, 4] rfl)
def w_X1_knows (T : Nat → ClassId) (Q : Int32 → Hp → Prop) (th : Option Nat) (p0 : Int32) (p1 : Int32) (G : Hp) : Prop := isO G th 1 ∧ (w_X1_sees T (fun r2 G1 => Ext G G1 → ∃ n, w_X1_knows_12 T Q th n p1 ((0 : Int32)) r2 ((0 : Int32)) G1) th p0 G)
theorem pd_X1_knows : (parseMethodDescriptor yX1_knows.desc).map (fun d => d.parameters.length) = some 2 := by decide +kernel
set_option maxHeartbeats 4000000 in
theorem ct_X1_knows {l : Launch} {D : va_G} {T : Nat → ClassId} {Z : Heap} {G0 : Hp} {Q : Int32 → Hp → Prop} {th : Option Nat} {p0 : Int32} {p1 : Int32} (hw : w_X1_knows T Q th p0 p1 G0) : CT (twd D T Z) (Evd D T Z) l yX1_knows (Cond.code yX1_knows cX1_knows 8 (some .int)) 4 88 [va_rf th, .int p0, .int p1] G0 (qI Q) (fun _ _ => False) := by
  refine CT.ofW (cc := cX1_knows) (nL := 8) (ret := (some .int)) Ext.rf (by decide) (Or.inl rfl) ?_
  intro p e s m below meth c hx hb hml hown hr hlk hnm hcb hm hc hn hE I
  have C : Cx p s m meth c D T Z "EndingTown" cX1_knows 8 (some .int) := ⟨hx, hb, hml, hown, hE, hr, hlk⟩
  refine w_entry [.inr (.inl th), .inl p0, .inl p1] (Nat.le_of_ble_eq_true rfl) (fun ls hl => ?_)
  have hl : LH ls 8 [(0, .inr (.inl th)), (1, .inl p0), (2, .inl p1)] := hl
  obtain ⟨hth, h⟩ := hw
  refine lv_iconst (v := 0) C.1 C.2.1 dX1_knows_0 (by decide) ?_
  refine l_ist_n C dX1_knows_1 rfl hl (by decide) rfl (fun ls hl => ?_)
  have hl : LH ls 8 [(3, .inl ((0 : Int32))), (0, .inr (.inl th)), (1, .inl p0), (2, .inl p1)] := hl
  refine l_ald_n C dX1_knows_2 hl 1 rfl rfl ?_
  refine l_ild_n C dX1_knows_3 hl 2 rfl rfl ?_
  refine k_call Ext.tr C I (k_V (r := th) (As := [.int p0]) (rest := []) (y := yX1_sees) C ⟨hth.ad.1, I.recv C.2.2.2.2.1 hth (by decide)⟩ q1335 q1337 qs43 (Or.inl rfl) q1338 (by decide) rfl pd_X1_sees rfl dX1_knows_4) (ct_X1_sees h) hl.1 dX1_knows_4 [] rfl (Nat.le_of_ble_eq_true rfl) (Or.inl rfl) q1338 q100 ⟨Nat.le_of_ble_eq_true rfl, Nat.le_of_ble_eq_true rfl⟩ (fun v G1 H locs cells slots xG1 hq I => ?_) (fun a G9 H locs cells slots ex hq I => hq.elim)
  obtain ⟨r2, rfl, h⟩ := hq
  have h := h xG1
  refine l_ist C dX1_knows_7 hl (by decide) rfl (fun ls hl => ?_)
  have hl : LH ls 8 [(4, .inl r2), (3, .inl ((0 : Int32))), (0, .inr (.inl th)), (1, .inl p0), (2, .inl p1)] := hl
  refine lv_iconst (v := 0) C.1 C.2.1 dX1_knows_9 (by decide) ?_
  refine l_ist C dX1_knows_10 hl (by decide) rfl (fun ls hl => ?_)
  have hl : LH ls 8 [(5, .inl ((0 : Int32))), (4, .inl r2), (3, .inl ((0 : Int32))), (0, .inr (.inl th)), (1, .inl p0), (2, .inl p1)] := hl
  obtain ⟨n, h⟩ := h
  exact b_X1_knows_12 C n p1 ((0 : Int32)) r2 ((0 : Int32)) G1 _ _ _ _ _ h (hth.ext (by decide) xG1) I (hl.sub [3, 5, 2, 1, 0] rfl)
def w_X1_real_47 (T : Nat → ClassId) (Q : Int32 → Hp → Prop) (th : Option Nat) (k4 : Int32 → Int32 → Hp → Prop) (l1 : Int32) (l2 : Int32) (G : Hp) : Prop := k4 l1 ((l2 + 1)) G
set_option maxHeartbeats 4000000 in
theorem b_X1_real_47 {G0 : Hp} {Q : Int32 → Hp → Prop} {th : Option Nat} {k4 : Int32 → Int32 → Hp → Prop} (C : Cx p s m meth c D T Z "EndingTown" cX1_real 3 (some .int)) (hk4 : ∀ (l1 : Int32) (l2 : Int32) (G : Hp) (H : Heap) (locs : List Loc) (cells slots : Nat) (ls : Array Slot), k4 l1 l2 G → isO G th 1 → HI (twd D T Z) G0 s (rmX (twd D T Z) 3 64 G0) H locs cells slots G → LH ls 3 [(0, .inr (.inl th)), (1, .inl l1), (2, .inl l2)] → W p l e (rmX (twd D T Z) 3 64 G0) s m args below meth c H locs cells slots (MQX (twd D T Z) G0 (qI Q) (fun _ _ => False) below s) (F0 m 4 ls [])) : ∀ (l1 : Int32) (l2 : Int32) (G : Hp) (H : Heap) (locs : List Loc) (cells slots : Nat) (ls : Array Slot), w_X1_real_47 T Q th k4 l1 l2 G → isO G th 1 → HI (twd D T Z) G0 s (rmX (twd D T Z) 3 64 G0) H locs cells slots G → LH ls 3 [(0, .inr (.inl th)), (1, .inl l1), (2, .inl l2)] → W p l e (rmX (twd D T Z) 3 64 G0) s m args below meth c H locs cells slots (MQX (twd D T Z) G0 (qI Q) (fun _ _ => False) below s) (F0 m 47 ls []) := by
  intro l1 l2 G H locs cells slots ls h hth I hl
  refine l_inc (q := 2) (v := 1) C dX1_real_47 hl rfl (by decide) (by decide) rfl (fun ls hl => ?_)
  have hl : LH ls 3 [(2, .inl ((l2 + 1))), (0, .inr (.inl th)), (1, .inl l1)] := hl
  refine lv_goto (tgt := 4) C.1 C.2.1 dX1_real_50 (by decide) ?_
  exact hk4 l1 ((l2 + 1)) G _ _ _ _ _ h hth I (hl.sub [1, 2, 0] rfl)
def w_X1_real_4 (T : Nat → ClassId) (Q : Int32 → Hp → Prop) (th : Option Nat) : Nat → Int32 → Int32 → Hp → Prop
  | 0 => fun _ _ _ => False
  | f4 + 1 => fun l1 l2 G => w_J15_bitCount T (fun r2 G1 => Ext G G1 → ((r2 ≤ l2) → (Q l1 G1)) ∧ ((¬ r2 ≤ l2) → (isO G1 (gR G1 (ad th) 0) 2 ∧ w_X1_worldThing T (fun r5 G4 => Ext G1 G4 → isO G4 (gR G1 (ad (gR G1 (ad th) 0)) 3) 16 ∧ w_J2_get T (fun r7 G6 => Ext G4 G6 → (r7 = none ∨ isO G6 r7 11) ∧ isO G6 r7 11 ∧ ((¬ gI G6 (ad r7) 4 = 0) → (w_X1_real_47 T Q th (w_X1_real_4 T Q th f4) l1 l2 G6)) ∧ ((gI G6 (ad r7) 4 = 0) → (w_X1_real_47 T Q th (w_X1_real_4 T Q th f4) ((l1 ||| ((1 : Int32) <<< (l2 &&& 31)))) l2 G6))) (gR G1 (ad (gR G1 (ad th) 0)) 3) r5 G4) th l2 G1))) (gI G (ad th) 11) G
set_option maxHeartbeats 4000000 in
theorem b_X1_real_4 {G0 : Hp} {Q : Int32 → Hp → Prop} {th : Option Nat} (C : Cx p s m meth c D T Z "EndingTown" cX1_real 3 (some .int)) : ∀ (n : Nat) (l1 : Int32) (l2 : Int32) (G : Hp) (H : Heap) (locs : List Loc) (cells slots : Nat) (ls : Array Slot), w_X1_real_4 T Q th n l1 l2 G → isO G th 1 → HI (twd D T Z) G0 s (rmX (twd D T Z) 3 64 G0) H locs cells slots G → LH ls 3 [(0, .inr (.inl th)), (1, .inl l1), (2, .inl l2)] → W p l e (rmX (twd D T Z) 3 64 G0) s m args below meth c H locs cells slots (MQX (twd D T Z) G0 (qI Q) (fun _ _ => False) below s) (F0 m 4 ls []) := by
  intro f4
  induction f4 with
  | zero => intro l1 l2 G H locs cells slots ls h; exact (show False from h).elim
  | succ f4 ih =>
    intro l1 l2 G H locs cells slots ls h hth I hl
    have h : w_J15_bitCount T (fun r2 G1 => Ext G G1 → ((r2 ≤ l2) → (Q l1 G1)) ∧ ((¬ r2 ≤ l2) → (isO G1 (gR G1 (ad th) 0) 2 ∧ w_X1_worldThing T (fun r5 G4 => Ext G1 G4 → isO G4 (gR G1 (ad (gR G1 (ad th) 0)) 3) 16 ∧ w_J2_get T (fun r7 G6 => Ext G4 G6 → (r7 = none ∨ isO G6 r7 11) ∧ isO G6 r7 11 ∧ ((¬ gI G6 (ad r7) 4 = 0) → (w_X1_real_47 T Q th (w_X1_real_4 T Q th f4) l1 l2 G6)) ∧ ((gI G6 (ad r7) 4 = 0) → (w_X1_real_47 T Q th (w_X1_real_4 T Q th f4) ((l1 ||| ((1 : Int32) <<< (l2 &&& 31)))) l2 G6))) (gR G1 (ad (gR G1 (ad th) 0)) 3) r5 G4) th l2 G1))) (gI G (ad th) 11) G := h
    have hk4 := ih
    refine l_ild_n C dX1_real_4 hl 2 rfl rfl ?_
    refine l_ald_n C dX1_real_5 hl 0 rfl rfl ?_
    refine g_I C I fl_X1_98_1 (by decide) (by decide) hth dX1_real_6 ?_
    refine k_call Ext.tr C I (k_S (As := [.int (gI G (ad th) 11)]) (rest := [.int l2]) (y := yJ15_bitCount) C q458 q459 q133 (Or.inl rfl) q460 (by decide) rfl pd_J15_bitCount rfl dX1_real_9) (ct_J15_bitCount h) hl.1 dX1_real_9 [.inl l2] rfl (Nat.le_of_ble_eq_true rfl) (Or.inl rfl) q460 q133 ⟨Nat.le_of_ble_eq_true rfl, Nat.le_of_ble_eq_true rfl⟩ (fun v G1 H locs cells slots xG1 hq I => ?_) (fun a G9 H locs cells slots ex hq I => hq.elim)
    obtain ⟨r2, rfl, h⟩ := hq
    have h := h xG1
    refine lv_icmp_ge (tgt := 53) C.1 C.2.1 dX1_real_12 (by decide) (fun c11 => ?_) (fun c11 => ?_)
    · have h := h.1 c11
      refine l_ild_n C dX1_real_53 hl 1 rfl rfl ?_
      exact r_int C.1 C.2.1 C.2.2.2.2.2.1 rfl C.2.2.2.2.2.2 ⟨rfl, rfl⟩ I dX1_real_54 ⟨_, rfl, h⟩
    · have h := h.2 c11
      refine l_ald_n C dX1_real_15 hl 0 rfl rfl ?_
      refine g_R C I fl_X1_16_1 (by decide) (by decide) (hth.ext (by decide) xG1) dX1_real_16 ?_
      obtain ⟨ho3, h⟩ := h
      refine g_R C I fl_X1_128_2 (by decide) (by decide) ho3 dX1_real_19 ?_
      refine l_ald_n C dX1_real_22 hl 0 rfl rfl ?_
      refine l_ild_n C dX1_real_23 hl 2 rfl rfl ?_
      refine k_call Ext.tr C I (k_V (r := th) (As := [.int l2]) (rest := [va_rf (gR G1 (ad (gR G1 (ad th) 0)) 3)]) (y := yX1_worldThing) C ⟨(hth.ext (by decide) xG1).ad.1, I.recv C.2.2.2.2.1 (hth.ext (by decide) xG1) (by decide)⟩ q1339 q1341 qs44 (Or.inl rfl) q1342 (by decide) rfl pd_X1_worldThing rfl dX1_real_24) (ct_X1_worldThing h) hl.1 dX1_real_24 [.inr (.inl (gR G1 (ad (gR G1 (ad th) 0)) 3))] rfl (Nat.le_of_ble_eq_true rfl) (Or.inl rfl) q1342 q100 ⟨Nat.le_of_ble_eq_true rfl, Nat.le_of_ble_eq_true rfl⟩ (fun v G4 H locs cells slots xG4 hq I => ?_) (fun a G9 H locs cells slots ex hq I => hq.elim)
      obtain ⟨r5, rfl, h⟩ := hq
      have h := h xG4
      obtain ⟨ho10, h⟩ := h
      refine k_call Ext.tr C I (k_F (kd := 16) (r := gR G1 (ad (gR G1 (ad th) 0)) 3) (As := [.int r5]) (rest := []) (y := yJ2_get) (x := ⟨"java/util/List", "get", "(I)Ljava/lang/Object;"⟩) C (by decide) ⟨ho10.ad.1, I.recv C.2.2.2.2.1 ho10 (by decide)⟩ q561 (by decide) q477 q476 q481 q479 q417 q478 q480 rfl pd_J2_get rfl dX1_real_27) (ct_J2_get h) hl.1 dX1_real_27 [] rfl (Nat.le_of_ble_eq_true rfl) (Or.inl rfl) q482 q104 ⟨Nat.le_of_ble_eq_true rfl, Nat.le_of_ble_eq_true rfl⟩ (fun v G6 H locs cells slots xG6 hq I => ?_) (fun a G9 H locs cells slots ex hq I => hq.elim)
      obtain ⟨r7, rfl, h⟩ := hq
      have h := h xG6
      obtain ⟨hcc, h⟩ := h
      refine c_cast (kd := 11) C I (by decide) q1113 hcc dX1_real_32 ?_
      obtain ⟨ho8, h⟩ := h
      refine g_I C I fl_X1_180_11 (by decide) (by decide) ho8 dX1_real_35 ?_
      refine lv_if_ne (tgt := 47) C.1 C.2.1 dX1_real_38 (by decide) (fun c9 => ?_) (fun c9 => ?_)
      · have h := h.1 c9
        exact b_X1_real_47 C hk4 l1 l2 G6 _ _ _ _ _ h (hth.ext (by decide) (Ext.tr _ _ _ xG1 (Ext.tr _ _ _ xG4 xG6))) I (hl.sub [0, 1, 2] rfl)
      · have h := h.2 c9
        refine l_ild_n C dX1_real_41 hl 1 rfl rfl ?_
        refine lv_iconst (v := 1) C.1 C.2.1 dX1_real_42 (by decide) ?_
        refine l_ild_n C dX1_real_43 hl 2 rfl rfl ?_
        refine lv_ishl C.1 C.2.1 dX1_real_44 ?_
        refine lv_ior C.1 C.2.1 dX1_real_45 ?_
        refine l_ist_n C dX1_real_46 rfl hl (by decide) rfl (fun ls hl => ?_)
        have hl : LH ls 3 [(1, .inl ((l1 ||| ((1 : Int32) <<< (l2 &&& 31))))), (0, .inr (.inl th)), (2, .inl l2)] := hl
        exact b_X1_real_47 C hk4 ((l1 ||| ((1 : Int32) <<< (l2 &&& 31)))) l2 G6 _ _ _ _ _ h (hth.ext (by decide) (Ext.tr _ _ _ xG1 (Ext.tr _ _ _ xG4 xG6))) I (hl.sub [1, 0, 2] rfl)
def w_X1_real (T : Nat → ClassId) (Q : Int32 → Hp → Prop) (th : Option Nat) (G : Hp) : Prop := isO G th 1 ∧ (∃ n, w_X1_real_4 T Q th n ((0 : Int32)) ((0 : Int32)) G)
theorem pd_X1_real : (parseMethodDescriptor yX1_real.desc).map (fun d => d.parameters.length) = some 0 := by decide +kernel
set_option maxHeartbeats 4000000 in
theorem ct_X1_real {l : Launch} {D : va_G} {T : Nat → ClassId} {Z : Heap} {G0 : Hp} {Q : Int32 → Hp → Prop} {th : Option Nat} (hw : w_X1_real T Q th G0) : CT (twd D T Z) (Evd D T Z) l yX1_real (Cond.code yX1_real cX1_real 3 (some .int)) 3 64 [va_rf th] G0 (qI Q) (fun _ _ => False) := by
  refine CT.ofW (cc := cX1_real) (nL := 3) (ret := (some .int)) Ext.rf (by decide) (Or.inl rfl) ?_
  intro p e s m below meth c hx hb hml hown hr hlk hnm hcb hm hc hn hE I
  have C : Cx p s m meth c D T Z "EndingTown" cX1_real 3 (some .int) := ⟨hx, hb, hml, hown, hE, hr, hlk⟩
  refine w_entry [.inr (.inl th)] (Nat.le_of_ble_eq_true rfl) (fun ls hl => ?_)
  have hl : LH ls 3 [(0, .inr (.inl th))] := hl
  obtain ⟨hth, h⟩ := hw
  refine lv_iconst (v := 0) C.1 C.2.1 dX1_real_0 (by decide) ?_
  refine l_ist_n C dX1_real_1 rfl hl (by decide) rfl (fun ls hl => ?_)
  have hl : LH ls 3 [(1, .inl ((0 : Int32))), (0, .inr (.inl th))] := hl
  refine lv_iconst (v := 0) C.1 C.2.1 dX1_real_2 (by decide) ?_
  refine l_ist_n C dX1_real_3 rfl hl (by decide) rfl (fun ls hl => ?_)
  have hl : LH ls 3 [(2, .inl ((0 : Int32))), (1, .inl ((0 : Int32))), (0, .inr (.inl th))] := hl
  obtain ⟨n, h⟩ := h
  exact b_X1_real_4 C n ((0 : Int32)) ((0 : Int32)) G0 _ _ _ _ _ h hth I (hl.sub [2, 1, 0] rfl)
def w_X1_isSo_26 (T : Nat → ClassId) (Q : Int32 → Hp → Prop) (th : Option Nat) (t0 : Int32) (G : Hp) : Prop := bz t0 ∧ Q t0 G
set_option maxHeartbeats 4000000 in
theorem b_X1_isSo_26 {G0 : Hp} {Q : Int32 → Hp → Prop} {th : Option Nat} (C : Cx p s m meth c D T Z "EndingTown" cX1_isSo 3 (some .boolean)) : ∀ (t0 : Int32) (G : Hp) (H : Heap) (locs : List Loc) (cells slots : Nat) (ls : Array Slot), w_X1_isSo_26 T Q th t0 G → isO G th 1 → HI (twd D T Z) G0 s (rmX (twd D T Z) 1 20 G0) H locs cells slots G → LH ls 3 [] → W p l e (rmX (twd D T Z) 1 20 G0) s m args below meth c H locs cells slots (MQX (twd D T Z) G0 (qI Q) (fun _ _ => False) below s) (F0 m 26 ls [.int t0]) := by
  intro t0 G H locs cells slots ls h hth I hl
  exact r_int C.1 C.2.1 C.2.2.2.2.2.1 h.1.n C.2.2.2.2.2.2 ⟨rfl, rfl⟩ I dX1_isSo_26 ⟨_, rfl, h.2⟩
def w_X1_isSo (T : Nat → ClassId) (Q : Int32 → Hp → Prop) (th : Option Nat) (p0 : Int32) (p1 : Int32) (G : Hp) : Prop := isO G th 1 ∧ (w_J15_bitCount T (fun r2 G1 => Ext G G1 → ((¬ ((p0 >>> (r2 &&& 31)) &&& (1 : Int32)) = (1 : Int32)) → (w_X1_isSo_26 T Q th ((0 : Int32)) G1)) ∧ ((((p0 >>> (r2 &&& 31)) &&& (1 : Int32)) = (1 : Int32)) → (w_X1_isSo_26 T Q th ((1 : Int32)) G1))) ((gI G (ad th) 11 &&& (((1 : Int32) <<< (p1 &&& 31)) - (1 : Int32)))) G)
theorem pd_X1_isSo : (parseMethodDescriptor yX1_isSo.desc).map (fun d => d.parameters.length) = some 2 := by decide +kernel
set_option maxHeartbeats 4000000 in
theorem ct_X1_isSo {l : Launch} {D : va_G} {T : Nat → ClassId} {Z : Heap} {G0 : Hp} {Q : Int32 → Hp → Prop} {th : Option Nat} {p0 : Int32} {p1 : Int32} (hw : w_X1_isSo T Q th p0 p1 G0) : CT (twd D T Z) (Evd D T Z) l yX1_isSo (Cond.code yX1_isSo cX1_isSo 3 (some .boolean)) 1 20 [va_rf th, .int p0, .int p1] G0 (qI Q) (fun _ _ => False) := by
  refine CT.ofW (cc := cX1_isSo) (nL := 3) (ret := (some .boolean)) Ext.rf (by decide) (Or.inl rfl) ?_
  intro p e s m below meth c hx hb hml hown hr hlk hnm hcb hm hc hn hE I
  have C : Cx p s m meth c D T Z "EndingTown" cX1_isSo 3 (some .boolean) := ⟨hx, hb, hml, hown, hE, hr, hlk⟩
  refine w_entry [.inr (.inl th), .inl p0, .inl p1] (Nat.le_of_ble_eq_true rfl) (fun ls hl => ?_)
  have hl : LH ls 3 [(0, .inr (.inl th)), (1, .inl p0), (2, .inl p1)] := hl
  obtain ⟨hth, h⟩ := hw
  refine l_ild_n C dX1_isSo_0 hl 1 rfl rfl ?_
  refine l_ald_n C dX1_isSo_1 hl 0 rfl rfl ?_
  refine g_I C I fl_X1_98_1 (by decide) (by decide) hth dX1_isSo_2 ?_
  refine lv_iconst (v := 1) C.1 C.2.1 dX1_isSo_5 (by decide) ?_
  refine l_ild_n C dX1_isSo_6 hl 2 rfl rfl ?_
  refine lv_ishl C.1 C.2.1 dX1_isSo_7 ?_
  refine lv_iconst (v := 1) C.1 C.2.1 dX1_isSo_8 (by decide) ?_
  refine lv_isub C.1 C.2.1 dX1_isSo_9 ?_
  refine lv_iand C.1 C.2.1 dX1_isSo_10 ?_
  refine k_call Ext.tr C I (k_S (As := [.int ((gI G0 (ad th) 11 &&& (((1 : Int32) <<< (p1 &&& 31)) - (1 : Int32))))]) (rest := [.int p0]) (y := yJ15_bitCount) C q458 q459 q133 (Or.inl rfl) q460 (by decide) rfl pd_J15_bitCount rfl dX1_isSo_11) (ct_J15_bitCount h) hl.1 dX1_isSo_11 [.inl p0] rfl (Nat.le_of_ble_eq_true rfl) (Or.inl rfl) q460 q133 ⟨Nat.le_of_ble_eq_true rfl, Nat.le_of_ble_eq_true rfl⟩ (fun v G1 H locs cells slots xG1 hq I => ?_) (fun a G9 H locs cells slots ex hq I => hq.elim)
  obtain ⟨r2, rfl, h⟩ := hq
  have h := h xG1
  refine lv_ishr C.1 C.2.1 dX1_isSo_14 ?_
  refine lv_iconst (v := 1) C.1 C.2.1 dX1_isSo_15 (by decide) ?_
  refine lv_iand C.1 C.2.1 dX1_isSo_16 ?_
  refine lv_iconst (v := 1) C.1 C.2.1 dX1_isSo_17 (by decide) ?_
  refine lv_icmp_ne (tgt := 25) C.1 C.2.1 dX1_isSo_18 (by decide) (fun c3 => ?_) (fun c3 => ?_)
  · have h := h.1 c3
    refine lv_iconst (v := 0) C.1 C.2.1 dX1_isSo_25 (by decide) ?_
    exact b_X1_isSo_26 C ((0 : Int32)) G1 _ _ _ _ _ h (hth.ext (by decide) xG1) I (hl.sub [] rfl)
  · have h := h.2 c3
    refine lv_iconst (v := 1) C.1 C.2.1 dX1_isSo_21 (by decide) ?_
    refine lv_goto (tgt := 26) C.1 C.2.1 dX1_isSo_22 (by decide) ?_
    exact b_X1_isSo_26 C ((1 : Int32)) G1 _ _ _ _ _ h (hth.ext (by decide) xG1) I (hl.sub [] rfl)
def w_X1_worldsOf_43 (T : Nat → ClassId) (Q : Int32 → Hp → Prop) (th : Option Nat) (k5 : Int32 → Int32 → Int32 → Int32 → Hp → Prop) (l1 : Int32) (l2 : Int32) (l3 : Int32) (l4 : Int32) (G : Hp) : Prop := k5 l1 l2 l3 ((l4 + 1)) G
set_option maxHeartbeats 4000000 in
theorem b_X1_worldsOf_43 {G0 : Hp} {Q : Int32 → Hp → Prop} {th : Option Nat} {k5 : Int32 → Int32 → Int32 → Int32 → Hp → Prop} (C : Cx p s m meth c D T Z "EndingTown" cX1_worldsOf 5 (some .int)) (hk5 : ∀ (l1 : Int32) (l2 : Int32) (l3 : Int32) (l4 : Int32) (G : Hp) (H : Heap) (locs : List Loc) (cells slots : Nat) (ls : Array Slot), k5 l1 l2 l3 l4 G → isO G th 1 → HI (twd D T Z) G0 s (rmX (twd D T Z) 2 42 G0) H locs cells slots G → LH ls 5 [(0, .inr (.inl th)), (1, .inl l1), (2, .inl l2), (3, .inl l3), (4, .inl l4)] → W p l e (rmX (twd D T Z) 2 42 G0) s m args below meth c H locs cells slots (MQX (twd D T Z) G0 (qI Q) (fun _ _ => False) below s) (F0 m 5 ls [])) : ∀ (l1 : Int32) (l2 : Int32) (l3 : Int32) (l4 : Int32) (G : Hp) (H : Heap) (locs : List Loc) (cells slots : Nat) (ls : Array Slot), w_X1_worldsOf_43 T Q th k5 l1 l2 l3 l4 G → isO G th 1 → HI (twd D T Z) G0 s (rmX (twd D T Z) 2 42 G0) H locs cells slots G → LH ls 5 [(0, .inr (.inl th)), (1, .inl l1), (2, .inl l2), (3, .inl l3), (4, .inl l4)] → W p l e (rmX (twd D T Z) 2 42 G0) s m args below meth c H locs cells slots (MQX (twd D T Z) G0 (qI Q) (fun _ _ => False) below s) (F0 m 43 ls []) := by
  intro l1 l2 l3 l4 G H locs cells slots ls h hth I hl
  refine l_inc (q := 4) (v := 1) C dX1_worldsOf_43 hl rfl (by decide) (by decide) rfl (fun ls hl => ?_)
  have hl : LH ls 5 [(4, .inl ((l4 + 1))), (0, .inr (.inl th)), (1, .inl l1), (2, .inl l2), (3, .inl l3)] := hl
  refine lv_goto (tgt := 5) C.1 C.2.1 dX1_worldsOf_46 (by decide) ?_
  exact hk5 l1 l2 l3 ((l4 + 1)) G _ _ _ _ _ h hth I (hl.sub [1, 2, 3, 4, 0] rfl)
def w_X1_worldsOf_5 (T : Nat → ClassId) (Q : Int32 → Hp → Prop) (th : Option Nat) : Nat → Int32 → Int32 → Int32 → Int32 → Hp → Prop
  | 0 => fun _ _ _ _ _ => False
  | f5 + 1 => fun l1 l2 l3 l4 G => (((16 : Int32) ≤ l4) → (Q l3 G)) ∧ ((¬ (16 : Int32) ≤ l4) → (((¬ ((gI G (ad th) 12 >>> (l4 &&& 31)) &&& (1 : Int32)) = (1 : Int32)) → (w_X1_worldsOf_43 T Q th (w_X1_worldsOf_5 T Q th f5) l1 l2 l3 l4 G)) ∧ ((((gI G (ad th) 12 >>> (l4 &&& 31)) &&& (1 : Int32)) = (1 : Int32)) → (w_X1_isSo T (fun r2 G1 => Ext G G1 → ((r2 = l2) → (w_X1_worldsOf_43 T Q th (w_X1_worldsOf_5 T Q th f5) l1 l2 l3 l4 G1)) ∧ ((¬ r2 = l2) → (w_X1_worldsOf_43 T Q th (w_X1_worldsOf_5 T Q th f5) l1 l2 ((l3 ||| ((1 : Int32) <<< (l4 &&& 31)))) l4 G1))) th l4 l1 G))))
set_option maxHeartbeats 4000000 in
theorem b_X1_worldsOf_5 {G0 : Hp} {Q : Int32 → Hp → Prop} {th : Option Nat} (C : Cx p s m meth c D T Z "EndingTown" cX1_worldsOf 5 (some .int)) : ∀ (n : Nat) (l1 : Int32) (l2 : Int32) (l3 : Int32) (l4 : Int32) (G : Hp) (H : Heap) (locs : List Loc) (cells slots : Nat) (ls : Array Slot), w_X1_worldsOf_5 T Q th n l1 l2 l3 l4 G → isO G th 1 → HI (twd D T Z) G0 s (rmX (twd D T Z) 2 42 G0) H locs cells slots G → LH ls 5 [(0, .inr (.inl th)), (1, .inl l1), (2, .inl l2), (3, .inl l3), (4, .inl l4)] → W p l e (rmX (twd D T Z) 2 42 G0) s m args below meth c H locs cells slots (MQX (twd D T Z) G0 (qI Q) (fun _ _ => False) below s) (F0 m 5 ls []) := by
  intro f5
  induction f5 with
  | zero => intro l1 l2 l3 l4 G H locs cells slots ls h; exact (show False from h).elim
  | succ f5 ih =>
    intro l1 l2 l3 l4 G H locs cells slots ls h hth I hl
    have h : (((16 : Int32) ≤ l4) → (Q l3 G)) ∧ ((¬ (16 : Int32) ≤ l4) → (((¬ ((gI G (ad th) 12 >>> (l4 &&& 31)) &&& (1 : Int32)) = (1 : Int32)) → (w_X1_worldsOf_43 T Q th (w_X1_worldsOf_5 T Q th f5) l1 l2 l3 l4 G)) ∧ ((((gI G (ad th) 12 >>> (l4 &&& 31)) &&& (1 : Int32)) = (1 : Int32)) → (w_X1_isSo T (fun r2 G1 => Ext G G1 → ((r2 = l2) → (w_X1_worldsOf_43 T Q th (w_X1_worldsOf_5 T Q th f5) l1 l2 l3 l4 G1)) ∧ ((¬ r2 = l2) → (w_X1_worldsOf_43 T Q th (w_X1_worldsOf_5 T Q th f5) l1 l2 ((l3 ||| ((1 : Int32) <<< (l4 &&& 31)))) l4 G1))) th l4 l1 G)))) := h
    have hk5 := ih
    refine l_ild C dX1_worldsOf_5 hl 4 rfl ?_
    refine lv_bipush (v := 16) C.1 C.2.1 dX1_worldsOf_7 (by decide) ?_
    refine lv_icmp_ge (tgt := 49) C.1 C.2.1 dX1_worldsOf_9 (by decide) (fun c5 => ?_) (fun c5 => ?_)
    · have h := h.1 c5
      refine l_ild_n C dX1_worldsOf_49 hl 3 rfl rfl ?_
      exact r_int C.1 C.2.1 C.2.2.2.2.2.1 rfl C.2.2.2.2.2.2 ⟨rfl, rfl⟩ I dX1_worldsOf_50 ⟨_, rfl, h⟩
    · have h := h.2 c5
      refine l_ald_n C dX1_worldsOf_12 hl 0 rfl rfl ?_
      refine g_I C I fl_X1_101_1 (by decide) (by decide) hth dX1_worldsOf_13 ?_
      refine l_ild C dX1_worldsOf_16 hl 4 rfl ?_
      refine lv_ishr C.1 C.2.1 dX1_worldsOf_18 ?_
      refine lv_iconst (v := 1) C.1 C.2.1 dX1_worldsOf_19 (by decide) ?_
      refine lv_iand C.1 C.2.1 dX1_worldsOf_20 ?_
      refine lv_iconst (v := 1) C.1 C.2.1 dX1_worldsOf_21 (by decide) ?_
      refine lv_icmp_ne (tgt := 43) C.1 C.2.1 dX1_worldsOf_22 (by decide) (fun c4 => ?_) (fun c4 => ?_)
      · have h := h.1 c4
        exact b_X1_worldsOf_43 C hk5 l1 l2 l3 l4 G _ _ _ _ _ h hth I (hl.sub [0, 1, 2, 3, 4] rfl)
      · have h := h.2 c4
        refine l_ald_n C dX1_worldsOf_25 hl 0 rfl rfl ?_
        refine l_ild C dX1_worldsOf_26 hl 4 rfl ?_
        refine l_ild_n C dX1_worldsOf_28 hl 1 rfl rfl ?_
        refine k_call Ext.tr C I (k_V (r := th) (As := [.int l4, .int l1]) (rest := []) (y := yX1_isSo) C ⟨hth.ad.1, I.recv C.2.2.2.2.1 hth (by decide)⟩ q1327 q1329 qs41 (Or.inl rfl) q1330 (by decide) rfl pd_X1_isSo rfl dX1_worldsOf_29) (ct_X1_isSo h) hl.1 dX1_worldsOf_29 [] rfl (Nat.le_of_ble_eq_true rfl) (Or.inl rfl) q1330 q100 ⟨Nat.le_of_ble_eq_true rfl, Nat.le_of_ble_eq_true rfl⟩ (fun v G1 H locs cells slots xG1 hq I => ?_) (fun a G9 H locs cells slots ex hq I => hq.elim)
        obtain ⟨r2, rfl, h⟩ := hq
        have h := h xG1
        refine l_ild_n C dX1_worldsOf_32 hl 2 rfl rfl ?_
        refine lv_icmp_eq (tgt := 43) C.1 C.2.1 dX1_worldsOf_33 (by decide) (fun c3 => ?_) (fun c3 => ?_)
        · have h := h.1 c3
          exact b_X1_worldsOf_43 C hk5 l1 l2 l3 l4 G1 _ _ _ _ _ h (hth.ext (by decide) xG1) I (hl.sub [0, 1, 2, 3, 4] rfl)
        · have h := h.2 c3
          refine l_ild_n C dX1_worldsOf_36 hl 3 rfl rfl ?_
          refine lv_iconst (v := 1) C.1 C.2.1 dX1_worldsOf_37 (by decide) ?_
          refine l_ild C dX1_worldsOf_38 hl 4 rfl ?_
          refine lv_ishl C.1 C.2.1 dX1_worldsOf_40 ?_
          refine lv_ior C.1 C.2.1 dX1_worldsOf_41 ?_
          refine l_ist_n C dX1_worldsOf_42 rfl hl (by decide) rfl (fun ls hl => ?_)
          have hl : LH ls 5 [(3, .inl ((l3 ||| ((1 : Int32) <<< (l4 &&& 31))))), (0, .inr (.inl th)), (1, .inl l1), (2, .inl l2), (4, .inl l4)] := hl
          exact b_X1_worldsOf_43 C hk5 l1 l2 ((l3 ||| ((1 : Int32) <<< (l4 &&& 31)))) l4 G1 _ _ _ _ _ h (hth.ext (by decide) xG1) I (hl.sub [1, 2, 3, 0, 4] rfl)
def w_X1_worldsOf (T : Nat → ClassId) (Q : Int32 → Hp → Prop) (th : Option Nat) (p0 : Int32) (p1 : Int32) (G : Hp) : Prop := isO G th 1 ∧ (∃ n, w_X1_worldsOf_5 T Q th n p0 p1 ((0 : Int32)) ((0 : Int32)) G)
theorem pd_X1_worldsOf : (parseMethodDescriptor yX1_worldsOf.desc).map (fun d => d.parameters.length) = some 2 := by decide +kernel
set_option maxHeartbeats 4000000 in
theorem ct_X1_worldsOf {l : Launch} {D : va_G} {T : Nat → ClassId} {Z : Heap} {G0 : Hp} {Q : Int32 → Hp → Prop} {th : Option Nat} {p0 : Int32} {p1 : Int32} (hw : w_X1_worldsOf T Q th p0 p1 G0) : CT (twd D T Z) (Evd D T Z) l yX1_worldsOf (Cond.code yX1_worldsOf cX1_worldsOf 5 (some .int)) 2 42 [va_rf th, .int p0, .int p1] G0 (qI Q) (fun _ _ => False) := by
  refine CT.ofW (cc := cX1_worldsOf) (nL := 5) (ret := (some .int)) Ext.rf (by decide) (Or.inl rfl) ?_
  intro p e s m below meth c hx hb hml hown hr hlk hnm hcb hm hc hn hE I
  have C : Cx p s m meth c D T Z "EndingTown" cX1_worldsOf 5 (some .int) := ⟨hx, hb, hml, hown, hE, hr, hlk⟩
  refine w_entry [.inr (.inl th), .inl p0, .inl p1] (Nat.le_of_ble_eq_true rfl) (fun ls hl => ?_)
  have hl : LH ls 5 [(0, .inr (.inl th)), (1, .inl p0), (2, .inl p1)] := hl
  obtain ⟨hth, h⟩ := hw
  refine lv_iconst (v := 0) C.1 C.2.1 dX1_worldsOf_0 (by decide) ?_
  refine l_ist_n C dX1_worldsOf_1 rfl hl (by decide) rfl (fun ls hl => ?_)
  have hl : LH ls 5 [(3, .inl ((0 : Int32))), (0, .inr (.inl th)), (1, .inl p0), (2, .inl p1)] := hl
  refine lv_iconst (v := 0) C.1 C.2.1 dX1_worldsOf_2 (by decide) ?_
  refine l_ist C dX1_worldsOf_3 hl (by decide) rfl (fun ls hl => ?_)
  have hl : LH ls 5 [(4, .inl ((0 : Int32))), (3, .inl ((0 : Int32))), (0, .inr (.inl th)), (1, .inl p0), (2, .inl p1)] := hl
  obtain ⟨n, h⟩ := h
  exact b_X1_worldsOf_5 C n p0 p1 ((0 : Int32)) ((0 : Int32)) G0 _ _ _ _ _ h hth I (hl.sub [2, 3, 4, 1, 0] rfl)
def w_X1_tell_37 (T : Nat → ClassId) (Q : Int32 → Hp → Prop) (E : Nat → Hp → Prop) (th : Option Nat) (t0 : Int32) (G : Hp) : Prop := w_X1_real T (fun r2 G1 => Ext G G1 → ((¬ ((t0 >>> (r2 &&& 31)) &&& (1 : Int32)) = 0) → (∀ G3 : Hp, G3 = wI G1 (ad th) 12 t0 → w_J15_bitCount T (fun r5 G4 => Ext G3 G4 → Q r5 G4) (gI G3 (ad th) 12) G3)) ∧ ((((t0 >>> (r2 &&& 31)) &&& (1 : Int32)) = 0) → (isO G1 (gR G1 (ad th) 7) 50 ∧ vp_in ((2 : Int32)) (gN G1 (ad (gR G1 (ad th) 7))) ∧ vp_in ((2 : Int32)) (gN G1 (ad (gR G1 (ad th) 7))) ∧ ∀ G7 : Hp, G7 = wI G1 (ad (gR G1 (ad th) 7)) ((2 : Int32)).toNatClampNeg ((gI G1 (ad (gR G1 (ad th) 7)) ((2 : Int32)).toNatClampNeg + (1 : Int32))) → Q ((-1 : Int32)) G7))) th G
set_option maxHeartbeats 4000000 in
theorem b_X1_tell_37 {G0 : Hp} {Q : Int32 → Hp → Prop} {E : Nat → Hp → Prop} {th : Option Nat} (C : Cx p s m meth c D T Z "EndingTown" cX1_tell 5 (some .int)) (hex : ∀ z ∈ c.exceptionTable.toList, ∀ pc, covers z pc = false) (hLf : l.flags = flags0) : ∀ (t0 : Int32) (G : Hp) (H : Heap) (locs : List Loc) (cells slots : Nat) (ls : Array Slot), w_X1_tell_37 T Q E th t0 G → isO G th 1 → HI (twd D T Z) G0 s (rmX (twd D T Z) 8 141 G0) H locs cells slots G → LH ls 5 [(0, .inr (.inl th))] → W p l e (rmX (twd D T Z) 8 141 G0) s m args below meth c H locs cells slots (MQX (twd D T Z) G0 (qI Q) E below s) (F0 m 37 ls [.int t0]) := by
  intro t0 G H locs cells slots ls h hth I hl
  refine l_ist C dX1_tell_37 hl (by decide) rfl (fun ls hl => ?_)
  have hl : LH ls 5 [(4, .inl t0), (0, .inr (.inl th))] := hl
  refine l_ild C dX1_tell_39 hl 0 rfl ?_
  refine l_ald_n C dX1_tell_41 hl 1 rfl rfl ?_
  refine k_call Ext.tr C I (k_V (r := th) (As := []) (rest := [.int t0]) (y := yX1_real) C ⟨hth.ad.1, I.recv C.2.2.2.2.1 hth (by decide)⟩ q1347 q1349 qs45 (Or.inl rfl) q1350 (by decide) rfl pd_X1_real rfl dX1_tell_42) (ct_X1_real h) hl.1 dX1_tell_42 [.inl t0] rfl (Nat.le_of_ble_eq_true rfl) (Or.inl rfl) q1350 q100 ⟨Nat.le_of_ble_eq_true rfl, Nat.le_of_ble_eq_true rfl⟩ (fun v G1 H locs cells slots xG1 hq I => ?_) (fun a G9 H locs cells slots ex hq I => hq.elim)
  obtain ⟨r2, rfl, h⟩ := hq
  have h := h xG1
  refine lv_ishr C.1 C.2.1 dX1_tell_45 ?_
  refine lv_iconst (v := 1) C.1 C.2.1 dX1_tell_46 (by decide) ?_
  refine lv_iand C.1 C.2.1 dX1_tell_47 ?_
  refine lv_if_ne (tgt := 63) C.1 C.2.1 dX1_tell_48 (by decide) (fun c8 => ?_) (fun c8 => ?_)
  · have h := h.1 c8
    refine l_ald_n C dX1_tell_63 hl 1 rfl rfl ?_
    refine l_ild C dX1_tell_64 hl 0 rfl ?_
    refine P_I C I fp_X1_101_1 (fun z => by cases z) (by decide) (by decide) (hth.ext (by decide) xG1) dX1_tell_66 (fit_i _) (fun H locs G3 eG3 xG3 I => ?_)
    have h := h G3 eG3
    refine l_ald_n C dX1_tell_69 hl 1 rfl rfl ?_
    refine g_I C I fl_X1_101_1 (by decide) (by decide) (hth.ext (by decide) (Ext.tr _ _ _ xG1 xG3)) dX1_tell_70 ?_
    refine k_call Ext.tr C I (k_S (As := [.int (gI G3 (ad th) 12)]) (rest := []) (y := yJ15_bitCount) C q458 q459 q133 (Or.inl rfl) q460 (by decide) rfl pd_J15_bitCount rfl dX1_tell_73) (ct_J15_bitCount h) hl.1 dX1_tell_73 [] rfl (Nat.le_of_ble_eq_true rfl) (Or.inl rfl) q460 q133 ⟨Nat.le_of_ble_eq_true rfl, Nat.le_of_ble_eq_true rfl⟩ (fun v G4 H locs cells slots xG4 hq I => ?_) (fun a G9 H locs cells slots ex hq I => hq.elim)
    obtain ⟨r5, rfl, h⟩ := hq
    have h := h xG4
    exact r_int C.1 C.2.1 C.2.2.2.2.2.1 rfl C.2.2.2.2.2.2 ⟨rfl, rfl⟩ I dX1_tell_76 ⟨_, rfl, h⟩
  · have h := h.2 c8
    refine l_ald_n C dX1_tell_51 hl 1 rfl rfl ?_
    refine g_R C I fl_X1_67_1 (by decide) (by decide) (hth.ext (by decide) xG1) dX1_tell_52 ?_
    refine lv_iconst (v := 2) C.1 C.2.1 dX1_tell_55 (by decide) ?_
    refine lv_dup2_11 C.1 C.2.1 dX1_tell_56 rfl (cat_rf _) ?_
    obtain ⟨ho6, h⟩ := h
    obtain ⟨hi, h⟩ := h
    refine a_iald C I ho6 hi dX1_tell_57 ?_
    refine lv_iconst (v := 1) C.1 C.2.1 dX1_tell_58 (by decide) ?_
    refine lv_iadd C.1 C.2.1 dX1_tell_59 ?_
    obtain ⟨hi, h⟩ := h
    refine A_iast C I ho6 hi dX1_tell_60 (fun H locs G7 eG7 xG7 I => ?_)
    have h := h G7 eG7
    refine lv_iconst (v := (-1)) C.1 C.2.1 dX1_tell_61 (by decide) ?_
    exact r_int C.1 C.2.1 C.2.2.2.2.2.1 rfl C.2.2.2.2.2.2 ⟨rfl, rfl⟩ I dX1_tell_62 ⟨_, rfl, h⟩
def w_X1_tell (T : Nat → ClassId) (Q : Int32 → Hp → Prop) (E : Nat → Hp → Prop) (th : Option Nat) (p0 : Int32) (p1 : Int32) (p2 : Int32) (G : Hp) : Prop := isO G th 1 ∧ (w_X1_aPerson T (fun G1 => Ext G G1 → w_X1_aThing T (fun G3 => Ext G1 G3 → ((¬ ((gI G3 (ad th) 11 >>> (p1 &&& 31)) &&& (1 : Int32)) = (1 : Int32)) → (w_X1_tell_37 T Q E th ((0 : Int32)) G3)) ∧ ((((gI G3 (ad th) 11 >>> (p1 &&& 31)) &&& (1 : Int32)) = (1 : Int32)) → (w_X1_worldsOf T (fun r6 G5 => Ext G3 G5 → w_X1_knows T (fun r8 G7 => Ext G5 G7 → w_X1_tell_37 T Q E th r8 G7) th p0 r6 G5) th p1 p2 G3))) E th p1 G1) E th p0 G)
theorem pd_X1_tell : (parseMethodDescriptor yX1_tell.desc).map (fun d => d.parameters.length) = some 3 := by decide +kernel
set_option maxHeartbeats 4000000 in
theorem ct_X1_tell {l : Launch} {D : va_G} {T : Nat → ClassId} {Z : Heap} {G0 : Hp} {Q : Int32 → Hp → Prop} {E : Nat → Hp → Prop} {th : Option Nat} {p0 : Int32} {p1 : Int32} {p2 : Int32} (hLf : l.flags = flags0) (hw : w_X1_tell T Q E th p0 p1 p2 G0) : CT (twd D T Z) (Evd D T Z) l yX1_tell (Cond.code yX1_tell cX1_tell 5 (some .int)) 8 141 [va_rf th, .int p0, .int p1, .int p2] G0 (qI Q) E := by
  refine CT.ofW (cc := cX1_tell) (nL := 5) (ret := (some .int)) Ext.rf (by decide) (Or.inl rfl) ?_
  intro p e s m below meth c hx hb hml hown hr hlk hnm hcb hm hc hn hE I
  have C : Cx p s m meth c D T Z "EndingTown" cX1_tell 5 (some .int) := ⟨hx, hb, hml, hown, hE, hr, hlk⟩
  have hex := noEx hn hm hc hcb
  refine w_entry [.inr (.inl th), .inl p0, .inl p1, .inl p2] (Nat.le_of_ble_eq_true rfl) (fun ls hl => ?_)
  have hl : LH ls 5 [(0, .inr (.inl th)), (1, .inl p0), (2, .inl p1), (3, .inl p2)] := hl
  obtain ⟨hth, h⟩ := hw
  refine l_ald_n C dX1_tell_0 hl 0 rfl rfl ?_
  refine l_ild_n C dX1_tell_1 hl 1 rfl rfl ?_
  refine k_call Ext.tr C I (k_V (r := th) (As := [.int p0]) (rest := []) (y := yX1_aPerson) C ⟨hth.ad.1, I.recv C.2.2.2.2.1 hth (by decide)⟩ q1089 q1091 qs32 (Or.inl rfl) q1092 (by decide) rfl pd_X1_aPerson rfl dX1_tell_2) (ct_X1_aPerson hLf h) hl.1 dX1_tell_2 [] rfl (Nat.le_of_ble_eq_true rfl) (Or.inl rfl) q1092 q100 ⟨Nat.le_of_ble_eq_true rfl, Nat.le_of_ble_eq_true rfl⟩ (fun v G1 H locs cells slots xG1 hq I => ?_) (fun a G9 H locs cells slots ex hq I => t_out C.2.2.2.2.2.2 ⟨rfl, rfl⟩ (fun z hz => hex z hz _) I hq)
  obtain ⟨rfl, h⟩ := hq
  have h := h xG1
  refine l_ald_n C dX1_tell_5 hl 0 rfl rfl ?_
  refine l_ild_n C dX1_tell_6 hl 2 rfl rfl ?_
  refine k_call Ext.tr C I (k_V (r := th) (As := [.int p1]) (rest := []) (y := yX1_aThing) C ⟨(hth.ext (by decide) xG1).ad.1, I.recv C.2.2.2.2.1 (hth.ext (by decide) xG1) (by decide)⟩ q1109 q1111 qs34 (Or.inl rfl) q1112 (by decide) rfl pd_X1_aThing rfl dX1_tell_7) (ct_X1_aThing hLf h) hl.1 dX1_tell_7 [] rfl (Nat.le_of_ble_eq_true rfl) (Or.inl rfl) q1112 q100 ⟨Nat.le_of_ble_eq_true rfl, Nat.le_of_ble_eq_true rfl⟩ (fun v G3 H locs cells slots xG3 hq I => ?_) (fun a G9 H locs cells slots ex hq I => t_out C.2.2.2.2.2.2 ⟨rfl, rfl⟩ (fun z hz => hex z hz _) I hq)
  obtain ⟨rfl, h⟩ := hq
  have h := h xG3
  refine l_ald_n C dX1_tell_10 hl 0 rfl rfl ?_
  refine g_I C I fl_X1_98_1 (by decide) (by decide) (hth.ext (by decide) (Ext.tr _ _ _ xG1 xG3)) dX1_tell_11 ?_
  refine l_ild_n C dX1_tell_14 hl 2 rfl rfl ?_
  refine lv_ishr C.1 C.2.1 dX1_tell_15 ?_
  refine lv_iconst (v := 1) C.1 C.2.1 dX1_tell_16 (by decide) ?_
  refine lv_iand C.1 C.2.1 dX1_tell_17 ?_
  refine lv_iconst (v := 1) C.1 C.2.1 dX1_tell_18 (by decide) ?_
  refine lv_icmp_ne (tgt := 36) C.1 C.2.1 dX1_tell_19 (by decide) (fun c9 => ?_) (fun c9 => ?_)
  · have h := h.1 c9
    refine lv_iconst (v := 0) C.1 C.2.1 dX1_tell_36 (by decide) ?_
    exact b_X1_tell_37 C hex hLf ((0 : Int32)) G3 _ _ _ _ _ h (hth.ext (by decide) (Ext.tr _ _ _ xG1 xG3)) I (hl.sub [0] rfl)
  · have h := h.2 c9
    refine l_ald_n C dX1_tell_22 hl 0 rfl rfl ?_
    refine l_ild_n C dX1_tell_23 hl 1 rfl rfl ?_
    refine l_ald_n C dX1_tell_24 hl 0 rfl rfl ?_
    refine l_ild_n C dX1_tell_25 hl 2 rfl rfl ?_
    refine l_ild_n C dX1_tell_26 hl 3 rfl rfl ?_
    refine k_call Ext.tr C I (k_V (r := th) (As := [.int p1, .int p2]) (rest := [.int p0, va_rf th]) (y := yX1_worldsOf) C ⟨(hth.ext (by decide) (Ext.tr _ _ _ xG1 xG3)).ad.1, I.recv C.2.2.2.2.1 (hth.ext (by decide) (Ext.tr _ _ _ xG1 xG3)) (by decide)⟩ q1323 q1325 qs40 (Or.inl rfl) q1326 (by decide) rfl pd_X1_worldsOf rfl dX1_tell_27) (ct_X1_worldsOf h) hl.1 dX1_tell_27 [.inl p0, .inr (.inl th)] rfl (Nat.le_of_ble_eq_true rfl) (Or.inl rfl) q1326 q100 ⟨Nat.le_of_ble_eq_true rfl, Nat.le_of_ble_eq_true rfl⟩ (fun v G5 H locs cells slots xG5 hq I => ?_) (fun a G9 H locs cells slots ex hq I => hq.elim)
    obtain ⟨r6, rfl, h⟩ := hq
    have h := h xG5
    refine k_call Ext.tr C I (k_V (r := th) (As := [.int p0, .int r6]) (rest := []) (y := yX1_knows) C ⟨(hth.ext (by decide) (Ext.tr _ _ _ xG1 (Ext.tr _ _ _ xG3 xG5))).ad.1, I.recv C.2.2.2.2.1 (hth.ext (by decide) (Ext.tr _ _ _ xG1 (Ext.tr _ _ _ xG3 xG5))) (by decide)⟩ q1331 q1333 qs42 (Or.inl rfl) q1334 (by decide) rfl pd_X1_knows rfl dX1_tell_30) (ct_X1_knows h) hl.1 dX1_tell_30 [] rfl (Nat.le_of_ble_eq_true rfl) (Or.inl rfl) q1334 q100 ⟨Nat.le_of_ble_eq_true rfl, Nat.le_of_ble_eq_true rfl⟩ (fun v G7 H locs cells slots xG7 hq I => ?_) (fun a G9 H locs cells slots ex hq I => hq.elim)
    obtain ⟨r8, rfl, h⟩ := hq
    have h := h xG7
    refine lv_goto (tgt := 37) C.1 C.2.1 dX1_tell_33 (by decide) ?_
    exact b_X1_tell_37 C hex hLf r8 G7 _ _ _ _ _ h (hth.ext (by decide) (Ext.tr _ _ _ xG1 (Ext.tr _ _ _ xG3 (Ext.tr _ _ _ xG5 xG7)))) I (hl.sub [0] rfl)
def w_X1_known_47 (T : Nat → ClassId) (Q : Int32 → Hp → Prop) (E : Nat → Hp → Prop) (th : Option Nat) (k17 : Int32 → Int32 → Int32 → Int32 → Int32 → Hp → Prop) (l1 : Int32) (l2 : Int32) (l3 : Int32) (l4 : Int32) (l5 : Int32) (t0 : Int32) (G : Hp) : Prop := w_X1_right T (fun G1 => Ext G G1 → k17 l1 l2 l3 l4 ((l5 + 1)) G1) E t0 G
set_option maxHeartbeats 4000000 in
theorem b_X1_known_47 {G0 : Hp} {Q : Int32 → Hp → Prop} {E : Nat → Hp → Prop} {th : Option Nat} {k17 : Int32 → Int32 → Int32 → Int32 → Int32 → Hp → Prop} (C : Cx p s m meth c D T Z "EndingTown" cX1_known 7 (some .boolean)) (hex : ∀ z ∈ c.exceptionTable.toList, ∀ pc, covers z pc = false) (hLf : l.flags = flags0) (hk17 : ∀ (l1 : Int32) (l2 : Int32) (l3 : Int32) (l4 : Int32) (l5 : Int32) (G : Hp) (H : Heap) (locs : List Loc) (cells slots : Nat) (ls : Array Slot), k17 l1 l2 l3 l4 l5 G → isO G th 1 → HI (twd D T Z) G0 s (rmX (twd D T Z) 8 141 G0) H locs cells slots G → LH ls 7 [(0, .inr (.inl th)), (1, .inl l1), (2, .inl l2), (3, .inl l3), (4, .inl l4), (5, .inl l5)] → W p l e (rmX (twd D T Z) 8 141 G0) s m args below meth c H locs cells slots (MQX (twd D T Z) G0 (qI Q) E below s) (F0 m 17 ls [])) : ∀ (l1 : Int32) (l2 : Int32) (l3 : Int32) (l4 : Int32) (l5 : Int32) (t0 : Int32) (G : Hp) (H : Heap) (locs : List Loc) (cells slots : Nat) (ls : Array Slot), w_X1_known_47 T Q E th k17 l1 l2 l3 l4 l5 t0 G → isO G th 1 → HI (twd D T Z) G0 s (rmX (twd D T Z) 8 141 G0) H locs cells slots G → LH ls 7 [(0, .inr (.inl th)), (1, .inl l1), (2, .inl l2), (3, .inl l3), (4, .inl l4), (5, .inl l5)] → W p l e (rmX (twd D T Z) 8 141 G0) s m args below meth c H locs cells slots (MQX (twd D T Z) G0 (qI Q) E below s) (F0 m 47 ls [.int t0]) := by
  intro l1 l2 l3 l4 l5 t0 G H locs cells slots ls h hth I hl
  refine k_call Ext.tr C I (k_S (As := [.int t0]) (rest := []) (y := yX1_right) C q640 q641 q100 (Or.inl rfl) q642 (by decide) rfl pd_X1_right rfl dX1_known_47) (ct_X1_right hLf h) hl.1 dX1_known_47 [] rfl (Nat.le_of_ble_eq_true rfl) (Or.inl rfl) q642 q100 ⟨Nat.le_of_ble_eq_true rfl, Nat.le_of_ble_eq_true rfl⟩ (fun v G1 H locs cells slots xG1 hq I => ?_) (fun a G9 H locs cells slots ex hq I => t_out C.2.2.2.2.2.2 ⟨rfl, rfl⟩ (fun z hz => hex z hz _) I hq)
  obtain ⟨rfl, h⟩ := hq
  have h := h xG1
  refine l_inc (q := 5) (v := 1) C dX1_known_50 hl rfl (by decide) (by decide) rfl (fun ls hl => ?_)
  have hl : LH ls 7 [(5, .inl ((l5 + 1))), (0, .inr (.inl th)), (1, .inl l1), (2, .inl l2), (3, .inl l3), (4, .inl l4)] := hl
  refine lv_goto (tgt := 17) C.1 C.2.1 dX1_known_53 (by decide) ?_
  exact hk17 l1 l2 l3 l4 ((l5 + 1)) G1 _ _ _ _ _ h (hth.ext (by decide) xG1) I (hl.sub [1, 2, 3, 4, 5, 0] rfl)
def w_X1_known_129 (T : Nat → ClassId) (Q : Int32 → Hp → Prop) (E : Nat → Hp → Prop) (th : Option Nat) (t0 : Int32) (G : Hp) : Prop := bz t0 ∧ Q t0 G
set_option maxHeartbeats 4000000 in
theorem b_X1_known_129 {G0 : Hp} {Q : Int32 → Hp → Prop} {E : Nat → Hp → Prop} {th : Option Nat} (C : Cx p s m meth c D T Z "EndingTown" cX1_known 7 (some .boolean)) (hex : ∀ z ∈ c.exceptionTable.toList, ∀ pc, covers z pc = false) (hLf : l.flags = flags0) : ∀ (t0 : Int32) (G : Hp) (H : Heap) (locs : List Loc) (cells slots : Nat) (ls : Array Slot), w_X1_known_129 T Q E th t0 G → isO G th 1 → HI (twd D T Z) G0 s (rmX (twd D T Z) 8 141 G0) H locs cells slots G → LH ls 7 [] → W p l e (rmX (twd D T Z) 8 141 G0) s m args below meth c H locs cells slots (MQX (twd D T Z) G0 (qI Q) E below s) (F0 m 129 ls [.int t0]) := by
  intro t0 G H locs cells slots ls h hth I hl
  exact r_int C.1 C.2.1 C.2.2.2.2.2.1 h.1.n C.2.2.2.2.2.2 ⟨rfl, rfl⟩ I dX1_known_129 ⟨_, rfl, h.2⟩
def w_X1_known_83 (T : Nat → ClassId) (Q : Int32 → Hp → Prop) (E : Nat → Hp → Prop) (th : Option Nat) : Nat → Int32 → Int32 → Int32 → Hp → Prop
  | 0 => fun _ _ _ _ => False
  | f83 + 1 => fun l1 l5 l6 G => ((l6 < 0) → (w_X1_real T (fun r2 G1 => Ext G G1 → ((¬ ((l5 >>> (r2 &&& 31)) &&& (1 : Int32)) = (1 : Int32)) → (w_X1_known_129 T Q E th ((0 : Int32)) G1)) ∧ ((((l5 >>> (r2 &&& 31)) &&& (1 : Int32)) = (1 : Int32)) → (w_X1_known_129 T Q E th ((1 : Int32)) G1))) th G)) ∧ ((¬ l6 < 0) → (w_X1_knows T (fun r5 G4 => Ext G G4 → (w_X1_known_83 T Q E th f83) l1 r5 ((l6 + (-1))) G4) th (((l1.toUInt32 >>> ((((3 : Int32) * l6)).toUInt32 &&& Int32.toUInt32 31)).toInt32 &&& (7 : Int32))) l5 G))
set_option maxHeartbeats 4000000 in
theorem b_X1_known_83 {G0 : Hp} {Q : Int32 → Hp → Prop} {E : Nat → Hp → Prop} {th : Option Nat} (C : Cx p s m meth c D T Z "EndingTown" cX1_known 7 (some .boolean)) (hex : ∀ z ∈ c.exceptionTable.toList, ∀ pc, covers z pc = false) (hLf : l.flags = flags0) : ∀ (n : Nat) (l1 : Int32) (l5 : Int32) (l6 : Int32) (G : Hp) (H : Heap) (locs : List Loc) (cells slots : Nat) (ls : Array Slot), w_X1_known_83 T Q E th n l1 l5 l6 G → isO G th 1 → HI (twd D T Z) G0 s (rmX (twd D T Z) 8 141 G0) H locs cells slots G → LH ls 7 [(0, .inr (.inl th)), (1, .inl l1), (5, .inl l5), (6, .inl l6)] → W p l e (rmX (twd D T Z) 8 141 G0) s m args below meth c H locs cells slots (MQX (twd D T Z) G0 (qI Q) E below s) (F0 m 83 ls []) := by
  intro f83
  induction f83 with
  | zero => intro l1 l5 l6 G H locs cells slots ls h; exact (show False from h).elim
  | succ f83 ih =>
    intro l1 l5 l6 G H locs cells slots ls h hth I hl
    have h : ((l6 < 0) → (w_X1_real T (fun r2 G1 => Ext G G1 → ((¬ ((l5 >>> (r2 &&& 31)) &&& (1 : Int32)) = (1 : Int32)) → (w_X1_known_129 T Q E th ((0 : Int32)) G1)) ∧ ((((l5 >>> (r2 &&& 31)) &&& (1 : Int32)) = (1 : Int32)) → (w_X1_known_129 T Q E th ((1 : Int32)) G1))) th G)) ∧ ((¬ l6 < 0) → (w_X1_knows T (fun r5 G4 => Ext G G4 → (w_X1_known_83 T Q E th f83) l1 r5 ((l6 + (-1))) G4) th (((l1.toUInt32 >>> ((((3 : Int32) * l6)).toUInt32 &&& Int32.toUInt32 31)).toInt32 &&& (7 : Int32))) l5 G)) := h
    have hk83 := ih
    refine l_ild C dX1_known_83 hl 3 rfl ?_
    refine lv_if_lt (tgt := 111) C.1 C.2.1 dX1_known_85 (by decide) (fun c6 => ?_) (fun c6 => ?_)
    · have h := h.1 c6
      refine l_ild C dX1_known_111 hl 2 rfl ?_
      refine l_ald_n C dX1_known_113 hl 0 rfl rfl ?_
      refine k_call Ext.tr C I (k_V (r := th) (As := []) (rest := [.int l5]) (y := yX1_real) C ⟨hth.ad.1, I.recv C.2.2.2.2.1 hth (by decide)⟩ q1347 q1349 qs45 (Or.inl rfl) q1350 (by decide) rfl pd_X1_real rfl dX1_known_114) (ct_X1_real h) hl.1 dX1_known_114 [.inl l5] rfl (Nat.le_of_ble_eq_true rfl) (Or.inl rfl) q1350 q100 ⟨Nat.le_of_ble_eq_true rfl, Nat.le_of_ble_eq_true rfl⟩ (fun v G1 H locs cells slots xG1 hq I => ?_) (fun a G9 H locs cells slots ex hq I => hq.elim)
      obtain ⟨r2, rfl, h⟩ := hq
      have h := h xG1
      refine lv_ishr C.1 C.2.1 dX1_known_117 ?_
      refine lv_iconst (v := 1) C.1 C.2.1 dX1_known_118 (by decide) ?_
      refine lv_iand C.1 C.2.1 dX1_known_119 ?_
      refine lv_iconst (v := 1) C.1 C.2.1 dX1_known_120 (by decide) ?_
      refine lv_icmp_ne (tgt := 128) C.1 C.2.1 dX1_known_121 (by decide) (fun c3 => ?_) (fun c3 => ?_)
      · have h := h.1 c3
        refine lv_iconst (v := 0) C.1 C.2.1 dX1_known_128 (by decide) ?_
        exact b_X1_known_129 C hex hLf ((0 : Int32)) G1 _ _ _ _ _ h (hth.ext (by decide) xG1) I (hl.sub [] rfl)
      · have h := h.2 c3
        refine lv_iconst (v := 1) C.1 C.2.1 dX1_known_124 (by decide) ?_
        refine lv_goto (tgt := 129) C.1 C.2.1 dX1_known_125 (by decide) ?_
        exact b_X1_known_129 C hex hLf ((1 : Int32)) G1 _ _ _ _ _ h (hth.ext (by decide) xG1) I (hl.sub [] rfl)
    · have h := h.2 c6
      refine l_ald_n C dX1_known_88 hl 0 rfl rfl ?_
      refine l_ild_n C dX1_known_89 hl 1 rfl rfl ?_
      refine lv_iconst (v := 3) C.1 C.2.1 dX1_known_90 (by decide) ?_
      refine l_ild C dX1_known_91 hl 3 rfl ?_
      refine lv_imul C.1 C.2.1 dX1_known_93 ?_
      refine lv_iushr C.1 C.2.1 dX1_known_94 rfl ?_
      refine lv_bipush (v := 7) C.1 C.2.1 dX1_known_95 (by decide) ?_
      refine lv_iand C.1 C.2.1 dX1_known_97 ?_
      refine l_ild C dX1_known_98 hl 2 rfl ?_
      refine k_call Ext.tr C I (k_V (r := th) (As := [.int (((l1.toUInt32 >>> ((((3 : Int32) * l6)).toUInt32 &&& Int32.toUInt32 31)).toInt32 &&& (7 : Int32))), .int l5]) (rest := []) (y := yX1_knows) C ⟨hth.ad.1, I.recv C.2.2.2.2.1 hth (by decide)⟩ q1331 q1333 qs42 (Or.inl rfl) q1334 (by decide) rfl pd_X1_knows rfl dX1_known_100) (ct_X1_knows h) hl.1 dX1_known_100 [] rfl (Nat.le_of_ble_eq_true rfl) (Or.inl rfl) q1334 q100 ⟨Nat.le_of_ble_eq_true rfl, Nat.le_of_ble_eq_true rfl⟩ (fun v G4 H locs cells slots xG4 hq I => ?_) (fun a G9 H locs cells slots ex hq I => hq.elim)
      obtain ⟨r5, rfl, h⟩ := hq
      have h := h xG4
      refine l_ist C dX1_known_103 hl (by decide) rfl (fun ls hl => ?_)
      have hl : LH ls 7 [(5, .inl r5), (0, .inr (.inl th)), (1, .inl l1), (6, .inl l6)] := hl
      refine l_inc (q := 3) (v := (-1)) C dX1_known_105 hl rfl (by decide) (by decide) rfl (fun ls hl => ?_)
      have hl : LH ls 7 [(6, .inl ((l6 + (-1)))), (5, .inl r5), (0, .inr (.inl th)), (1, .inl l1)] := hl
      refine lv_goto (tgt := 83) C.1 C.2.1 dX1_known_108 (by decide) ?_
      exact hk83 l1 r5 ((l6 + (-1))) G4 _ _ _ _ _ h (hth.ext (by decide) xG4) I (hl.sub [2, 3, 1, 0] rfl)
def w_X1_known_17 (T : Nat → ClassId) (Q : Int32 → Hp → Prop) (E : Nat → Hp → Prop) (th : Option Nat) : Nat → Int32 → Int32 → Int32 → Int32 → Int32 → Hp → Prop
  | 0 => fun _ _ _ _ _ _ => False
  | f17 + 1 => fun l1 l2 l3 l4 l5 G => ((l2 ≤ l5) → (((¬ ((gI G (ad th) 11 >>> (l3 &&& 31)) &&& (1 : Int32)) = 0) → (w_X1_worldsOf T (fun r2 G1 => Ext G G1 → ∃ n, w_X1_known_83 T Q E th n l1 r2 ((l2 - (1 : Int32))) G1) th l3 l4 G)) ∧ ((((gI G (ad th) 11 >>> (l3 &&& 31)) &&& (1 : Int32)) = 0) → (Q (0 : Int32) G)))) ∧ ((¬ l2 ≤ l5) → (isO G (gR G (ad th) 0) 2 ∧ ((gI G (ad (gR G (ad th) 0)) 10 ≤ ((l1.toUInt32 >>> ((((3 : Int32) * l5)).toUInt32 &&& Int32.toUInt32 31)).toInt32 &&& (7 : Int32))) → (w_X1_known_47 T Q E th (w_X1_known_17 T Q E th f17) l1 l2 l3 l4 l5 ((0 : Int32)) G)) ∧ ((¬ gI G (ad (gR G (ad th) 0)) 10 ≤ ((l1.toUInt32 >>> ((((3 : Int32) * l5)).toUInt32 &&& Int32.toUInt32 31)).toInt32 &&& (7 : Int32))) → (w_X1_known_47 T Q E th (w_X1_known_17 T Q E th f17) l1 l2 l3 l4 l5 ((1 : Int32)) G))))
set_option maxHeartbeats 4000000 in
theorem b_X1_known_17 {G0 : Hp} {Q : Int32 → Hp → Prop} {E : Nat → Hp → Prop} {th : Option Nat} (C : Cx p s m meth c D T Z "EndingTown" cX1_known 7 (some .boolean)) (hex : ∀ z ∈ c.exceptionTable.toList, ∀ pc, covers z pc = false) (hLf : l.flags = flags0) : ∀ (n : Nat) (l1 : Int32) (l2 : Int32) (l3 : Int32) (l4 : Int32) (l5 : Int32) (G : Hp) (H : Heap) (locs : List Loc) (cells slots : Nat) (ls : Array Slot), w_X1_known_17 T Q E th n l1 l2 l3 l4 l5 G → isO G th 1 → HI (twd D T Z) G0 s (rmX (twd D T Z) 8 141 G0) H locs cells slots G → LH ls 7 [(0, .inr (.inl th)), (1, .inl l1), (2, .inl l2), (3, .inl l3), (4, .inl l4), (5, .inl l5)] → W p l e (rmX (twd D T Z) 8 141 G0) s m args below meth c H locs cells slots (MQX (twd D T Z) G0 (qI Q) E below s) (F0 m 17 ls []) := by
  intro f17
  induction f17 with
  | zero => intro l1 l2 l3 l4 l5 G H locs cells slots ls h; exact (show False from h).elim
  | succ f17 ih =>
    intro l1 l2 l3 l4 l5 G H locs cells slots ls h hth I hl
    have h : ((l2 ≤ l5) → (((¬ ((gI G (ad th) 11 >>> (l3 &&& 31)) &&& (1 : Int32)) = 0) → (w_X1_worldsOf T (fun r2 G1 => Ext G G1 → ∃ n, w_X1_known_83 T Q E th n l1 r2 ((l2 - (1 : Int32))) G1) th l3 l4 G)) ∧ ((((gI G (ad th) 11 >>> (l3 &&& 31)) &&& (1 : Int32)) = 0) → (Q (0 : Int32) G)))) ∧ ((¬ l2 ≤ l5) → (isO G (gR G (ad th) 0) 2 ∧ ((gI G (ad (gR G (ad th) 0)) 10 ≤ ((l1.toUInt32 >>> ((((3 : Int32) * l5)).toUInt32 &&& Int32.toUInt32 31)).toInt32 &&& (7 : Int32))) → (w_X1_known_47 T Q E th (w_X1_known_17 T Q E th f17) l1 l2 l3 l4 l5 ((0 : Int32)) G)) ∧ ((¬ gI G (ad (gR G (ad th) 0)) 10 ≤ ((l1.toUInt32 >>> ((((3 : Int32) * l5)).toUInt32 &&& Int32.toUInt32 31)).toInt32 &&& (7 : Int32))) → (w_X1_known_47 T Q E th (w_X1_known_17 T Q E th f17) l1 l2 l3 l4 l5 ((1 : Int32)) G)))) := h
    have hk17 := ih
    refine l_ild C dX1_known_17 hl 5 rfl ?_
    refine l_ild_n C dX1_known_19 hl 2 rfl rfl ?_
    refine lv_icmp_ge (tgt := 56) C.1 C.2.1 dX1_known_20 (by decide) (fun c6 => ?_) (fun c6 => ?_)
    · have h := h.1 c6
      refine l_ald_n C dX1_known_56 hl 0 rfl rfl ?_
      refine g_I C I fl_X1_98_1 (by decide) (by decide) hth dX1_known_57 ?_
      refine l_ild_n C dX1_known_60 hl 3 rfl rfl ?_
      refine lv_ishr C.1 C.2.1 dX1_known_61 ?_
      refine lv_iconst (v := 1) C.1 C.2.1 dX1_known_62 (by decide) ?_
      refine lv_iand C.1 C.2.1 dX1_known_63 ?_
      refine lv_if_ne (tgt := 69) C.1 C.2.1 dX1_known_64 (by decide) (fun c3 => ?_) (fun c3 => ?_)
      · have h := h.1 c3
        refine l_ald_n C dX1_known_69 hl 0 rfl rfl ?_
        refine l_ild_n C dX1_known_70 hl 3 rfl rfl ?_
        refine l_ild C dX1_known_71 hl 4 rfl ?_
        refine k_call Ext.tr C I (k_V (r := th) (As := [.int l3, .int l4]) (rest := []) (y := yX1_worldsOf) C ⟨hth.ad.1, I.recv C.2.2.2.2.1 hth (by decide)⟩ q1323 q1325 qs40 (Or.inl rfl) q1326 (by decide) rfl pd_X1_worldsOf rfl dX1_known_73) (ct_X1_worldsOf h) hl.1 dX1_known_73 [] rfl (Nat.le_of_ble_eq_true rfl) (Or.inl rfl) q1326 q100 ⟨Nat.le_of_ble_eq_true rfl, Nat.le_of_ble_eq_true rfl⟩ (fun v G1 H locs cells slots xG1 hq I => ?_) (fun a G9 H locs cells slots ex hq I => hq.elim)
        obtain ⟨r2, rfl, h⟩ := hq
        have h := h xG1
        refine l_ist C dX1_known_76 hl (by decide) rfl (fun ls hl => ?_)
        have hl : LH ls 7 [(5, .inl r2), (0, .inr (.inl th)), (1, .inl l1), (2, .inl l2), (3, .inl l3), (4, .inl l4)] := hl
        refine l_ild_n C dX1_known_78 hl 3 rfl rfl ?_
        refine lv_iconst (v := 1) C.1 C.2.1 dX1_known_79 (by decide) ?_
        refine lv_isub C.1 C.2.1 dX1_known_80 ?_
        refine l_ist C dX1_known_81 hl (by decide) rfl (fun ls hl => ?_)
        have hl : LH ls 7 [(6, .inl ((l2 - (1 : Int32)))), (5, .inl r2), (0, .inr (.inl th)), (1, .inl l1), (2, .inl l2), (3, .inl l3), (4, .inl l4)] := hl
        obtain ⟨n, h⟩ := h
        exact b_X1_known_83 C hex hLf n l1 r2 ((l2 - (1 : Int32))) G1 _ _ _ _ _ h (hth.ext (by decide) xG1) I (hl.sub [2, 3, 1, 0] rfl)
      · have h := h.2 c3
        refine lv_iconst (v := 0) C.1 C.2.1 dX1_known_67 (by decide) ?_
        exact r_int C.1 C.2.1 C.2.2.2.2.2.1 rfl C.2.2.2.2.2.2 ⟨rfl, rfl⟩ I dX1_known_68 ⟨_, rfl, h⟩
    · have h := h.2 c6
      refine l_ild_n C dX1_known_23 hl 1 rfl rfl ?_
      refine lv_iconst (v := 3) C.1 C.2.1 dX1_known_24 (by decide) ?_
      refine l_ild C dX1_known_25 hl 5 rfl ?_
      refine lv_imul C.1 C.2.1 dX1_known_27 ?_
      refine lv_iushr C.1 C.2.1 dX1_known_28 rfl ?_
      refine lv_bipush (v := 7) C.1 C.2.1 dX1_known_29 (by decide) ?_
      refine lv_iand C.1 C.2.1 dX1_known_31 ?_
      refine l_ald_n C dX1_known_32 hl 0 rfl rfl ?_
      refine g_R C I fl_X1_16_1 (by decide) (by decide) hth dX1_known_33 ?_
      obtain ⟨ho4, h⟩ := h
      refine g_I C I fl_X1_125_2 (by decide) (by decide) ho4 dX1_known_36 ?_
      refine lv_icmp_ge (tgt := 46) C.1 C.2.1 dX1_known_39 (by decide) (fun c5 => ?_) (fun c5 => ?_)
      · have h := h.1 c5
        refine lv_iconst (v := 0) C.1 C.2.1 dX1_known_46 (by decide) ?_
        exact b_X1_known_47 C hex hLf hk17 l1 l2 l3 l4 l5 ((0 : Int32)) G _ _ _ _ _ h hth I (hl.sub [0, 1, 2, 3, 4, 5] rfl)
      · have h := h.2 c5
        refine lv_iconst (v := 1) C.1 C.2.1 dX1_known_42 (by decide) ?_
        refine lv_goto (tgt := 47) C.1 C.2.1 dX1_known_43 (by decide) ?_
        exact b_X1_known_47 C hex hLf hk17 l1 l2 l3 l4 l5 ((1 : Int32)) G _ _ _ _ _ h hth I (hl.sub [0, 1, 2, 3, 4, 5] rfl)
def w_X1_known (T : Nat → ClassId) (Q : Int32 → Hp → Prop) (E : Nat → Hp → Prop) (th : Option Nat) (p0 : Int32) (p1 : Int32) (p2 : Int32) (p3 : Int32) (G : Hp) : Prop := isO G th 1 ∧ (w_X1_aThing T (fun G1 => Ext G G1 → w_X1_in T (fun r4 G3 => Ext G1 G3 → w_X1_right T (fun G5 => Ext G3 G5 → ∃ n, w_X1_known_17 T Q E th n p0 p1 p2 p3 ((0 : Int32)) G5) E r4 G3) p1 ((1 : Int32)) ((4 : Int32)) G1) E th p2 G)
theorem pd_X1_known : (parseMethodDescriptor yX1_known.desc).map (fun d => d.parameters.length) = some 4 := by decide +kernel
set_option maxHeartbeats 4000000 in
theorem ct_X1_known {l : Launch} {D : va_G} {T : Nat → ClassId} {Z : Heap} {G0 : Hp} {Q : Int32 → Hp → Prop} {E : Nat → Hp → Prop} {th : Option Nat} {p0 : Int32} {p1 : Int32} {p2 : Int32} {p3 : Int32} (hLf : l.flags = flags0) (hw : w_X1_known T Q E th p0 p1 p2 p3 G0) : CT (twd D T Z) (Evd D T Z) l yX1_known (Cond.code yX1_known cX1_known 7 (some .boolean)) 8 141 [va_rf th, .int p0, .int p1, .int p2, .int p3] G0 (qI Q) E := by
  refine CT.ofW (cc := cX1_known) (nL := 7) (ret := (some .boolean)) Ext.rf (by decide) (Or.inl rfl) ?_
  intro p e s m below meth c hx hb hml hown hr hlk hnm hcb hm hc hn hE I
  have C : Cx p s m meth c D T Z "EndingTown" cX1_known 7 (some .boolean) := ⟨hx, hb, hml, hown, hE, hr, hlk⟩
  have hex := noEx hn hm hc hcb
  refine w_entry [.inr (.inl th), .inl p0, .inl p1, .inl p2, .inl p3] (Nat.le_of_ble_eq_true rfl) (fun ls hl => ?_)
  have hl : LH ls 7 [(0, .inr (.inl th)), (1, .inl p0), (2, .inl p1), (3, .inl p2), (4, .inl p3)] := hl
  obtain ⟨hth, h⟩ := hw
  refine l_ald_n C dX1_known_0 hl 0 rfl rfl ?_
  refine l_ild_n C dX1_known_1 hl 3 rfl rfl ?_
  refine k_call Ext.tr C I (k_V (r := th) (As := [.int p2]) (rest := []) (y := yX1_aThing) C ⟨hth.ad.1, I.recv C.2.2.2.2.1 hth (by decide)⟩ q1109 q1111 qs34 (Or.inl rfl) q1112 (by decide) rfl pd_X1_aThing rfl dX1_known_2) (ct_X1_aThing hLf h) hl.1 dX1_known_2 [] rfl (Nat.le_of_ble_eq_true rfl) (Or.inl rfl) q1112 q100 ⟨Nat.le_of_ble_eq_true rfl, Nat.le_of_ble_eq_true rfl⟩ (fun v G1 H locs cells slots xG1 hq I => ?_) (fun a G9 H locs cells slots ex hq I => t_out C.2.2.2.2.2.2 ⟨rfl, rfl⟩ (fun z hz => hex z hz _) I hq)
  obtain ⟨rfl, h⟩ := hq
  have h := h xG1
  refine l_ild_n C dX1_known_5 hl 2 rfl rfl ?_
  refine lv_iconst (v := 1) C.1 C.2.1 dX1_known_6 (by decide) ?_
  refine lv_iconst (v := 4) C.1 C.2.1 dX1_known_7 (by decide) ?_
  refine k_call Ext.tr C I (k_S (As := [.int p1, .int ((1 : Int32)), .int ((4 : Int32))]) (rest := []) (y := yX1_in) C q1093 q764 q100 (Or.inl rfl) q765 (by decide) rfl pd_X1_in rfl dX1_known_8) (ct_X1_in h) hl.1 dX1_known_8 [] rfl (Nat.le_of_ble_eq_true rfl) (Or.inl rfl) q765 q100 ⟨Nat.le_of_ble_eq_true rfl, Nat.le_of_ble_eq_true rfl⟩ (fun v G3 H locs cells slots xG3 hq I => ?_) (fun a G9 H locs cells slots ex hq I => hq.elim)
  obtain ⟨r4, rfl, h⟩ := hq
  have h := h xG3
  refine k_call Ext.tr C I (k_S (As := [.int r4]) (rest := []) (y := yX1_right) C q640 q641 q100 (Or.inl rfl) q642 (by decide) rfl pd_X1_right rfl dX1_known_11) (ct_X1_right hLf h) hl.1 dX1_known_11 [] rfl (Nat.le_of_ble_eq_true rfl) (Or.inl rfl) q642 q100 ⟨Nat.le_of_ble_eq_true rfl, Nat.le_of_ble_eq_true rfl⟩ (fun v G5 H locs cells slots xG5 hq I => ?_) (fun a G9 H locs cells slots ex hq I => t_out C.2.2.2.2.2.2 ⟨rfl, rfl⟩ (fun z hz => hex z hz _) I hq)
  obtain ⟨rfl, h⟩ := hq
  have h := h xG5
  refine lv_iconst (v := 0) C.1 C.2.1 dX1_known_14 (by decide) ?_
  refine l_ist C dX1_known_15 hl (by decide) rfl (fun ls hl => ?_)
  have hl : LH ls 7 [(5, .inl ((0 : Int32))), (0, .inr (.inl th)), (1, .inl p0), (2, .inl p1), (3, .inl p2), (4, .inl p3)] := hl
  obtain ⟨n, h⟩ := h
  exact b_X1_known_17 C hex hLf n p0 p1 p2 p3 ((0 : Int32)) G5 _ _ _ _ _ h (hth.ext (by decide) (Ext.tr _ _ _ xG1 (Ext.tr _ _ _ xG3 xG5))) I (hl.sub [1, 2, 3, 4, 5, 0] rfl)
def w_X7_eyes_51 (T : Nat → ClassId) (Q : Int32 → Hp → Prop) (th : Option Nat) (k6 : Option Nat → Int32 → Int32 → Int32 → Int32 → Int32 → Int32 → Hp → Prop) (l1 : Option Nat) (l2 : Int32) (l3 : Int32) (l4 : Int32) (l5 : Int32) (l7 : Int32) (l8 : Int32) (G : Hp) : Prop := k6 l1 l2 l3 l4 l5 l7 ((l8 + 1)) G
set_option maxHeartbeats 4000000 in
theorem b_X7_eyes_51 {G0 : Hp} {Q : Int32 → Hp → Prop} {th : Option Nat} {k6 : Option Nat → Int32 → Int32 → Int32 → Int32 → Int32 → Int32 → Hp → Prop} (C : Cx p s m meth c D T Z "EndingTown$Told" cX7_eyes 9 (some .int)) (hk6 : ∀ (l1 : Option Nat) (l2 : Int32) (l3 : Int32) (l4 : Int32) (l5 : Int32) (l7 : Int32) (l8 : Int32) (G : Hp) (H : Heap) (locs : List Loc) (cells slots : Nat) (ls : Array Slot), k6 l1 l2 l3 l4 l5 l7 l8 G → isO G th 5 → HI (twd D T Z) G0 s (rmX (twd D T Z) 4 91 G0) H locs cells slots G → LH ls 9 [(0, .inr (.inl th)), (1, .inr (.inl l1)), (2, .inl l2), (3, .inl l3), (4, .inl l4), (5, .inl l5), (7, .inl l7), (8, .inl l8)] → W p l e (rmX (twd D T Z) 4 91 G0) s m args below meth c H locs cells slots (MQX (twd D T Z) G0 (qI Q) (fun _ _ => False) below s) (F0 m 6 ls [])) : ∀ (l1 : Option Nat) (l2 : Int32) (l3 : Int32) (l4 : Int32) (l5 : Int32) (l7 : Int32) (l8 : Int32) (G : Hp) (H : Heap) (locs : List Loc) (cells slots : Nat) (ls : Array Slot), w_X7_eyes_51 T Q th k6 l1 l2 l3 l4 l5 l7 l8 G → isO G th 5 → HI (twd D T Z) G0 s (rmX (twd D T Z) 4 91 G0) H locs cells slots G → LH ls 9 [(0, .inr (.inl th)), (1, .inr (.inl l1)), (2, .inl l2), (3, .inl l3), (4, .inl l4), (5, .inl l5), (7, .inl l7), (8, .inl l8)] → W p l e (rmX (twd D T Z) 4 91 G0) s m args below meth c H locs cells slots (MQX (twd D T Z) G0 (qI Q) (fun _ _ => False) below s) (F0 m 51 ls []) := by
  intro l1 l2 l3 l4 l5 l7 l8 G H locs cells slots ls h hth I hl
  refine l_inc (q := 7) (v := 1) C dX7_eyes_51 hl rfl (by decide) (by decide) rfl (fun ls hl => ?_)
  have hl : LH ls 9 [(8, .inl ((l8 + 1))), (0, .inr (.inl th)), (1, .inr (.inl l1)), (2, .inl l2), (3, .inl l3), (4, .inl l4), (5, .inl l5), (7, .inl l7)] := hl
  refine lv_goto (tgt := 6) C.1 C.2.1 dX7_eyes_54 (by decide) ?_
  exact hk6 l1 l2 l3 l4 l5 l7 ((l8 + 1)) G _ _ _ _ _ h hth I (hl.sub [1, 2, 3, 4, 5, 6, 7, 0] rfl)
def w_X7_eyes_6 (T : Nat → ClassId) (Q : Int32 → Hp → Prop) (th : Option Nat) : Nat → Option Nat → Int32 → Int32 → Int32 → Int32 → Int32 → Int32 → Hp → Prop
  | 0 => fun _ _ _ _ _ _ _ _ => False
  | f6 + 1 => fun l1 l2 l3 l4 l5 l7 l8 G => isO G (gR G (ad th) 1) 1 ∧ isO G (gR G (ad (gR G (ad th) 1)) 1) 16 ∧ w_J2_size T (fun r3 G2 => Ext G G2 → ((r3 ≤ l8) → (Q l7 G2)) ∧ ((¬ r3 ≤ l8) → (w_X7_tells T (fun r5 G4 => Ext G2 G4 → ((r5 = 0) → (w_X7_eyes_51 T Q th (w_X7_eyes_6 T Q th f6) l1 l2 l3 l4 l5 l7 l8 G4)) ∧ ((¬ r5 = 0) → (isO G4 l1 8 ∧ isO G4 (gR G4 (ad l1) 2) 50 ∧ vp_in l8 (gN G4 (ad (gR G4 (ad l1) 2))) ∧ w_X7_eyes_51 T Q th (w_X7_eyes_6 T Q th f6) l1 l2 l3 l4 l5 ((l7 ||| gI G4 (ad (gR G4 (ad l1) 2)) l8.toNatClampNeg)) l8 G4))) th l1 l8 l2 l3 l4 l5 G2))) (gR G (ad (gR G (ad th) 1)) 1) G
set_option maxHeartbeats 4000000 in
theorem b_X7_eyes_6 {G0 : Hp} {Q : Int32 → Hp → Prop} {th : Option Nat} (C : Cx p s m meth c D T Z "EndingTown$Told" cX7_eyes 9 (some .int)) : ∀ (n : Nat) (l1 : Option Nat) (l2 : Int32) (l3 : Int32) (l4 : Int32) (l5 : Int32) (l7 : Int32) (l8 : Int32) (G : Hp) (H : Heap) (locs : List Loc) (cells slots : Nat) (ls : Array Slot), w_X7_eyes_6 T Q th n l1 l2 l3 l4 l5 l7 l8 G → isO G th 5 → HI (twd D T Z) G0 s (rmX (twd D T Z) 4 91 G0) H locs cells slots G → LH ls 9 [(0, .inr (.inl th)), (1, .inr (.inl l1)), (2, .inl l2), (3, .inl l3), (4, .inl l4), (5, .inl l5), (7, .inl l7), (8, .inl l8)] → W p l e (rmX (twd D T Z) 4 91 G0) s m args below meth c H locs cells slots (MQX (twd D T Z) G0 (qI Q) (fun _ _ => False) below s) (F0 m 6 ls []) := by
  intro f6
  induction f6 with
  | zero => intro l1 l2 l3 l4 l5 l7 l8 G H locs cells slots ls h; exact (show False from h).elim
  | succ f6 ih =>
    intro l1 l2 l3 l4 l5 l7 l8 G H locs cells slots ls h hth I hl
    have h : isO G (gR G (ad th) 1) 1 ∧ isO G (gR G (ad (gR G (ad th) 1)) 1) 16 ∧ w_J2_size T (fun r3 G2 => Ext G G2 → ((r3 ≤ l8) → (Q l7 G2)) ∧ ((¬ r3 ≤ l8) → (w_X7_tells T (fun r5 G4 => Ext G2 G4 → ((r5 = 0) → (w_X7_eyes_51 T Q th (w_X7_eyes_6 T Q th f6) l1 l2 l3 l4 l5 l7 l8 G4)) ∧ ((¬ r5 = 0) → (isO G4 l1 8 ∧ isO G4 (gR G4 (ad l1) 2) 50 ∧ vp_in l8 (gN G4 (ad (gR G4 (ad l1) 2))) ∧ w_X7_eyes_51 T Q th (w_X7_eyes_6 T Q th f6) l1 l2 l3 l4 l5 ((l7 ||| gI G4 (ad (gR G4 (ad l1) 2)) l8.toNatClampNeg)) l8 G4))) th l1 l8 l2 l3 l4 l5 G2))) (gR G (ad (gR G (ad th) 1)) 1) G := h
    have hk6 := ih
    refine l_ild C dX7_eyes_6 hl 7 rfl ?_
    refine l_ald_n C dX7_eyes_8 hl 0 rfl rfl ?_
    refine g_R C I fl_X7_1_5 (by decide) (by decide) hth dX7_eyes_9 ?_
    obtain ⟨ho1, h⟩ := h
    refine g_R C I fl_X7_13_1 (by decide) (by decide) ho1 dX7_eyes_12 ?_
    obtain ⟨ho10, h⟩ := h
    refine k_call Ext.tr C I (k_F (kd := 16) (r := gR G (ad (gR G (ad th) 1)) 1) (As := []) (rest := [.int l8]) (y := yJ2_size) (x := ⟨"java/util/List", "size", "()I"⟩) C (by decide) ⟨ho10.ad.1, I.recv C.2.2.2.2.1 ho10 (by decide)⟩ q523 (by decide) q426 q425 q430 q428 q417 q427 q429 rfl pd_J2_size rfl dX7_eyes_15) (ct_J2_size h) hl.1 dX7_eyes_15 [.inl l8] rfl (Nat.le_of_ble_eq_true rfl) (Or.inl rfl) q431 q104 ⟨Nat.le_of_ble_eq_true rfl, Nat.le_of_ble_eq_true rfl⟩ (fun v G2 H locs cells slots xG2 hq I => ?_) (fun a G9 H locs cells slots ex hq I => hq.elim)
    obtain ⟨r3, rfl, h⟩ := hq
    have h := h xG2
    refine lv_icmp_ge (tgt := 57) C.1 C.2.1 dX7_eyes_20 (by decide) (fun c9 => ?_) (fun c9 => ?_)
    · have h := h.1 c9
      refine l_ild C dX7_eyes_57 hl 6 rfl ?_
      exact r_int C.1 C.2.1 C.2.2.2.2.2.1 rfl C.2.2.2.2.2.2 ⟨rfl, rfl⟩ I dX7_eyes_59 ⟨_, rfl, h⟩
    · have h := h.2 c9
      refine l_ald_n C dX7_eyes_23 hl 0 rfl rfl ?_
      refine l_ald_n C dX7_eyes_24 hl 1 rfl rfl ?_
      refine l_ild C dX7_eyes_25 hl 7 rfl ?_
      refine l_ild_n C dX7_eyes_27 hl 2 rfl rfl ?_
      refine l_ild_n C dX7_eyes_28 hl 3 rfl rfl ?_
      refine l_ild C dX7_eyes_29 hl 4 rfl ?_
      refine l_ild C dX7_eyes_31 hl 5 rfl ?_
      refine k_call Ext.tr C I (k_V (r := th) (As := [va_rf l1, .int l8, .int l2, .int l3, .int l4, .int l5]) (rest := []) (y := yX7_tells) C ⟨(hth.ext (by decide) xG2).ad.1, I.recv C.2.2.2.2.1 (hth.ext (by decide) xG2) (by decide)⟩ q524 q526 qs3 (Or.inl rfl) q527 (by decide) rfl pd_X7_tells rfl dX7_eyes_33) (ct_X7_tells h) hl.1 dX7_eyes_33 [] rfl (Nat.le_of_ble_eq_true rfl) (Or.inl rfl) q527 q109 ⟨Nat.le_of_ble_eq_true rfl, Nat.le_of_ble_eq_true rfl⟩ (fun v G4 H locs cells slots xG4 hq I => ?_) (fun a G9 H locs cells slots ex hq I => hq.elim)
      obtain ⟨r5, rfl, h⟩ := hq
      have h := h xG4
      refine lv_if_eq (tgt := 51) C.1 C.2.1 dX7_eyes_36 (by decide) (fun c8 => ?_) (fun c8 => ?_)
      · have h := h.1 c8
        exact b_X7_eyes_51 C hk6 l1 l2 l3 l4 l5 l7 l8 G4 _ _ _ _ _ h (hth.ext (by decide) (Ext.tr _ _ _ xG2 xG4)) I (hl.sub [0, 1, 2, 3, 4, 5, 6, 7] rfl)
      · have h := h.2 c8
        refine l_ild C dX7_eyes_39 hl 6 rfl ?_
        refine l_ald_n C dX7_eyes_41 hl 1 rfl rfl ?_
        obtain ⟨ho6, h⟩ := h
        refine g_R C I fl_X7_68_8 (by decide) (by decide) ho6 dX7_eyes_42 ?_
        refine l_ild C dX7_eyes_45 hl 7 rfl ?_
        obtain ⟨ho7, h⟩ := h
        obtain ⟨hi, h⟩ := h
        refine a_iald C I ho7 hi dX7_eyes_47 ?_
        refine lv_ior C.1 C.2.1 dX7_eyes_48 ?_
        refine l_ist C dX7_eyes_49 hl (by decide) rfl (fun ls hl => ?_)
        have hl : LH ls 9 [(7, .inl ((l7 ||| gI G4 (ad (gR G4 (ad l1) 2)) l8.toNatClampNeg))), (0, .inr (.inl th)), (1, .inr (.inl l1)), (2, .inl l2), (3, .inl l3), (4, .inl l4), (5, .inl l5), (8, .inl l8)] := hl
        exact b_X7_eyes_51 C hk6 l1 l2 l3 l4 l5 ((l7 ||| gI G4 (ad (gR G4 (ad l1) 2)) l8.toNatClampNeg)) l8 G4 _ _ _ _ _ h (hth.ext (by decide) (Ext.tr _ _ _ xG2 xG4)) I (hl.sub [1, 2, 3, 4, 5, 6, 0, 7] rfl)
def w_X7_eyes (T : Nat → ClassId) (Q : Int32 → Hp → Prop) (th : Option Nat) (p0 : Option Nat) (p1 : Int32) (p2 : Int32) (p3 : Int32) (p4 : Int32) (p5 : Int32) (G : Hp) : Prop := isO G th 5 ∧ (∃ n, w_X7_eyes_6 T Q th n p0 p1 p2 p3 p4 ((0 : Int32)) ((0 : Int32)) G)
theorem pd_X7_eyes : (parseMethodDescriptor yX7_eyes.desc).map (fun d => d.parameters.length) = some 6 := by decide +kernel
set_option maxHeartbeats 4000000 in
theorem ct_X7_eyes {l : Launch} {D : va_G} {T : Nat → ClassId} {Z : Heap} {G0 : Hp} {Q : Int32 → Hp → Prop} {th : Option Nat} {p0 : Option Nat} {p1 : Int32} {p2 : Int32} {p3 : Int32} {p4 : Int32} {p5 : Int32} (hw : w_X7_eyes T Q th p0 p1 p2 p3 p4 p5 G0) : CT (twd D T Z) (Evd D T Z) l yX7_eyes (Cond.code yX7_eyes cX7_eyes 9 (some .int)) 4 91 [va_rf th, va_rf p0, .int p1, .int p2, .int p3, .int p4, .int p5] G0 (qI Q) (fun _ _ => False) := by
  refine CT.ofW (cc := cX7_eyes) (nL := 9) (ret := (some .int)) Ext.rf (by decide) (Or.inl rfl) ?_
  intro p e s m below meth c hx hb hml hown hr hlk hnm hcb hm hc hn hE I
  have C : Cx p s m meth c D T Z "EndingTown$Told" cX7_eyes 9 (some .int) := ⟨hx, hb, hml, hown, hE, hr, hlk⟩
  refine w_entry [.inr (.inl th), .inr (.inl p0), .inl p1, .inl p2, .inl p3, .inl p4, .inl p5] (Nat.le_of_ble_eq_true rfl) (fun ls hl => ?_)
  have hl : LH ls 9 [(0, .inr (.inl th)), (1, .inr (.inl p0)), (2, .inl p1), (3, .inl p2), (4, .inl p3), (5, .inl p4), (6, .inl p5)] := hl
  obtain ⟨hth, h⟩ := hw
  refine lv_iconst (v := 0) C.1 C.2.1 dX7_eyes_0 (by decide) ?_
  refine l_ist C dX7_eyes_1 hl (by decide) rfl (fun ls hl => ?_)
  have hl : LH ls 9 [(7, .inl ((0 : Int32))), (0, .inr (.inl th)), (1, .inr (.inl p0)), (2, .inl p1), (3, .inl p2), (4, .inl p3), (5, .inl p4), (6, .inl p5)] := hl
  refine lv_iconst (v := 0) C.1 C.2.1 dX7_eyes_3 (by decide) ?_
  refine l_ist C dX7_eyes_4 hl (by decide) rfl (fun ls hl => ?_)
  have hl : LH ls 9 [(8, .inl ((0 : Int32))), (7, .inl ((0 : Int32))), (0, .inr (.inl th)), (1, .inr (.inl p0)), (2, .inl p1), (3, .inl p2), (4, .inl p3), (5, .inl p4), (6, .inl p5)] := hl
  obtain ⟨n, h⟩ := h
  exact b_X7_eyes_6 C n p0 p1 p2 p3 p4 ((0 : Int32)) ((0 : Int32)) G0 _ _ _ _ _ h hth I (hl.sub [2, 3, 4, 5, 6, 7, 1, 0] rfl)
def w_X9_eyes (T : Nat → ClassId) (Q : Int32 → Hp → Prop) (th : Option Nat) (p0 : Option Nat) (p1 : Int32) (p2 : Int32) (p3 : Int32) (p4 : Int32) (p5 : Int32) (G : Hp) : Prop := isO G th 7 ∧ (Q ((0 : Int32)) G)
theorem pd_X9_eyes : (parseMethodDescriptor yX9_eyes.desc).map (fun d => d.parameters.length) = some 6 := by decide +kernel
set_option maxHeartbeats 4000000 in
theorem ct_X9_eyes {l : Launch} {D : va_G} {T : Nat → ClassId} {Z : Heap} {G0 : Hp} {Q : Int32 → Hp → Prop} {th : Option Nat} {p0 : Option Nat} {p1 : Int32} {p2 : Int32} {p3 : Int32} {p4 : Int32} {p5 : Int32} (hw : w_X9_eyes T Q th p0 p1 p2 p3 p4 p5 G0) : CT (twd D T Z) (Evd D T Z) l yX9_eyes (Cond.code yX9_eyes cX9_eyes 7 (some .int)) 0 0 [va_rf th, va_rf p0, .int p1, .int p2, .int p3, .int p4, .int p5] G0 (qI Q) (fun _ _ => False) := by
  refine CT.ofW (cc := cX9_eyes) (nL := 7) (ret := (some .int)) Ext.rf (by decide) (Or.inl rfl) ?_
  intro p e s m below meth c hx hb hml hown hr hlk hnm hcb hm hc hn hE I
  have C : Cx p s m meth c D T Z "EndingTown$Dreamt" cX9_eyes 7 (some .int) := ⟨hx, hb, hml, hown, hE, hr, hlk⟩
  refine w_entry [.inr (.inl th), .inr (.inl p0), .inl p1, .inl p2, .inl p3, .inl p4, .inl p5] (Nat.le_of_ble_eq_true rfl) (fun ls hl => ?_)
  have hl : LH ls 7 [(0, .inr (.inl th)), (1, .inr (.inl p0)), (2, .inl p1), (3, .inl p2), (4, .inl p3), (5, .inl p4), (6, .inl p5)] := hl
  obtain ⟨hth, h⟩ := hw
  refine lv_iconst (v := 0) C.1 C.2.1 dX9_eyes_0 (by decide) ?_
  exact r_int C.1 C.2.1 C.2.2.2.2.2.1 rfl C.2.2.2.2.2.2 ⟨rfl, rfl⟩ I dX9_eyes_1 ⟨_, rfl, h⟩
theorem pd_X10_eyes : (parseMethodDescriptor yX10_eyes.desc).map (fun d => d.parameters.length) = some 5 := by decide +kernel
def w_X8_eyes_123 (T : Nat → ClassId) (wr : (Int32 → Hp → Prop) → Option Nat → Int32 → Int32 → Int32 → Int32 → Int32 → Hp → Prop) (Q : Int32 → Hp → Prop) (th : Option Nat) (k6 : Option Nat → Int32 → Int32 → Int32 → Int32 → Int32 → Int32 → Hp → Prop) (l1 : Option Nat) (l2 : Int32) (l3 : Int32) (l4 : Int32) (l6 : Int32) (l7 : Int32) (l8 : Int32) (G : Hp) : Prop := k6 l1 l2 l3 l4 l6 l7 ((l8 + 1)) G
set_option maxHeartbeats 4000000 in
theorem b_X8_eyes_123 {G0 : Hp} {fr1 lc1 fr2 lc2 : Nat} {wr : (Int32 → Hp → Prop) → Option Nat → Int32 → Int32 → Int32 → Int32 → Int32 → Hp → Prop} {Q : Int32 → Hp → Prop} {th : Option Nat} {k6 : Option Nat → Int32 → Int32 → Int32 → Int32 → Int32 → Int32 → Hp → Prop} (C : Cx p s m meth c D T Z "EndingTown$Worked" cX8_eyes 11 (some .int)) (hfl : 6 ≤ fr1 ∧ 146 ≤ lc1 ∧ fr2 + 1 ≤ fr1 ∧ 8 + (9 + 11) + lc2 ≤ lc1) (hwr : ∀ (Q : Int32 → Hp → Prop) (th : Option Nat) (a0 : Int32) (a1 : Int32) (a2 : Int32) (a3 : Int32) (a4 : Int32) (G : Hp), wr Q th a0 a1 a2 a3 a4 G → CT (twd D T Z) (Evd D T Z) l yX10_eyes (Cond.code yX10_eyes cX10_eyes 9 (some .int)) fr2 lc2 [va_rf th, .int a0, .int a1, .int a2, .int a3, .int a4] G (qI Q) (fun _ _ => False)) (hk6 : ∀ (l1 : Option Nat) (l2 : Int32) (l3 : Int32) (l4 : Int32) (l6 : Int32) (l7 : Int32) (l8 : Int32) (G : Hp) (H : Heap) (locs : List Loc) (cells slots : Nat) (ls : Array Slot), k6 l1 l2 l3 l4 l6 l7 l8 G → isO G th 6 → HI (twd D T Z) G0 s (rmX (twd D T Z) fr1 lc1 G0) H locs cells slots G → LH ls 11 [(0, .inr (.inl th)), (1, .inr (.inl l1)), (2, .inl l2), (3, .inl l3), (4, .inl l4), (6, .inl l6), (7, .inl l7), (8, .inl l8)] → W p l e (rmX (twd D T Z) fr1 lc1 G0) s m args below meth c H locs cells slots (MQX (twd D T Z) G0 (qI Q) (fun _ _ => False) below s) (F0 m 6 ls [])) : ∀ (l1 : Option Nat) (l2 : Int32) (l3 : Int32) (l4 : Int32) (l6 : Int32) (l7 : Int32) (l8 : Int32) (G : Hp) (H : Heap) (locs : List Loc) (cells slots : Nat) (ls : Array Slot), w_X8_eyes_123 T wr Q th k6 l1 l2 l3 l4 l6 l7 l8 G → isO G th 6 → HI (twd D T Z) G0 s (rmX (twd D T Z) fr1 lc1 G0) H locs cells slots G → LH ls 11 [(0, .inr (.inl th)), (1, .inr (.inl l1)), (2, .inl l2), (3, .inl l3), (4, .inl l4), (6, .inl l6), (7, .inl l7), (8, .inl l8)] → W p l e (rmX (twd D T Z) fr1 lc1 G0) s m args below meth c H locs cells slots (MQX (twd D T Z) G0 (qI Q) (fun _ _ => False) below s) (F0 m 123 ls []) := by
  intro l1 l2 l3 l4 l6 l7 l8 G H locs cells slots ls h hth I hl
  refine l_inc (q := 7) (v := 1) C dX8_eyes_123 hl rfl (by decide) (by decide) rfl (fun ls hl => ?_)
  have hl : LH ls 11 [(8, .inl ((l8 + 1))), (0, .inr (.inl th)), (1, .inr (.inl l1)), (2, .inl l2), (3, .inl l3), (4, .inl l4), (6, .inl l6), (7, .inl l7)] := hl
  refine lv_goto (tgt := 6) C.1 C.2.1 dX8_eyes_126 (by decide) ?_
  exact hk6 l1 l2 l3 l4 l6 l7 ((l8 + 1)) G _ _ _ _ _ h hth I (hl.sub [1, 2, 3, 4, 5, 6, 7, 0] rfl)
def w_X8_eyes_80 (T : Nat → ClassId) (wr : (Int32 → Hp → Prop) → Option Nat → Int32 → Int32 → Int32 → Int32 → Int32 → Hp → Prop) (Q : Int32 → Hp → Prop) (th : Option Nat) (k6 : Option Nat → Int32 → Int32 → Int32 → Int32 → Int32 → Int32 → Hp → Prop) : Nat → Option Nat → Int32 → Int32 → Int32 → Int32 → Int32 → Int32 → Option Nat → Int32 → Hp → Prop
  | 0 => fun _ _ _ _ _ _ _ _ _ _ => False
  | f80 + 1 => fun l1 l2 l3 l4 l6 l7 l8 l9 l10 G => isO G l9 12 ∧ ((gI G (ad l9) 2 ≤ l10) → (w_X8_eyes_123 T wr Q th k6 l1 l2 l3 l4 l6 l7 l8 G)) ∧ ((¬ gI G (ad l9) 2 ≤ l10) → (isO G (gR G (ad l9) 0) 50 ∧ vp_in l10 (gN G (ad (gR G (ad l9) 0))) ∧ isO G l1 8 ∧ wr (fun r4 G3 => Ext G G3 → (w_X8_eyes_80 T wr Q th k6 f80) l1 l2 l3 l4 l6 ((l7 ||| r4)) l8 l9 ((l10 + 1)) G3) l1 l2 l3 (gI G (ad (gR G (ad l9) 0)) l10.toNatClampNeg) ((0 : Int32)) ((l6 ||| ((1 : Int32) <<< (l4 &&& 31)))) G))
set_option maxHeartbeats 4000000 in
theorem b_X8_eyes_80 {G0 : Hp} {fr1 lc1 fr2 lc2 : Nat} {wr : (Int32 → Hp → Prop) → Option Nat → Int32 → Int32 → Int32 → Int32 → Int32 → Hp → Prop} {Q : Int32 → Hp → Prop} {th : Option Nat} {k6 : Option Nat → Int32 → Int32 → Int32 → Int32 → Int32 → Int32 → Hp → Prop} (C : Cx p s m meth c D T Z "EndingTown$Worked" cX8_eyes 11 (some .int)) (hfl : 6 ≤ fr1 ∧ 146 ≤ lc1 ∧ fr2 + 1 ≤ fr1 ∧ 8 + (9 + 11) + lc2 ≤ lc1) (hwr : ∀ (Q : Int32 → Hp → Prop) (th : Option Nat) (a0 : Int32) (a1 : Int32) (a2 : Int32) (a3 : Int32) (a4 : Int32) (G : Hp), wr Q th a0 a1 a2 a3 a4 G → CT (twd D T Z) (Evd D T Z) l yX10_eyes (Cond.code yX10_eyes cX10_eyes 9 (some .int)) fr2 lc2 [va_rf th, .int a0, .int a1, .int a2, .int a3, .int a4] G (qI Q) (fun _ _ => False)) (hk6 : ∀ (l1 : Option Nat) (l2 : Int32) (l3 : Int32) (l4 : Int32) (l6 : Int32) (l7 : Int32) (l8 : Int32) (G : Hp) (H : Heap) (locs : List Loc) (cells slots : Nat) (ls : Array Slot), k6 l1 l2 l3 l4 l6 l7 l8 G → isO G th 6 → HI (twd D T Z) G0 s (rmX (twd D T Z) fr1 lc1 G0) H locs cells slots G → LH ls 11 [(0, .inr (.inl th)), (1, .inr (.inl l1)), (2, .inl l2), (3, .inl l3), (4, .inl l4), (6, .inl l6), (7, .inl l7), (8, .inl l8)] → W p l e (rmX (twd D T Z) fr1 lc1 G0) s m args below meth c H locs cells slots (MQX (twd D T Z) G0 (qI Q) (fun _ _ => False) below s) (F0 m 6 ls [])) : ∀ (n : Nat) (l1 : Option Nat) (l2 : Int32) (l3 : Int32) (l4 : Int32) (l6 : Int32) (l7 : Int32) (l8 : Int32) (l9 : Option Nat) (l10 : Int32) (G : Hp) (H : Heap) (locs : List Loc) (cells slots : Nat) (ls : Array Slot), w_X8_eyes_80 T wr Q th k6 n l1 l2 l3 l4 l6 l7 l8 l9 l10 G → isO G th 6 → HI (twd D T Z) G0 s (rmX (twd D T Z) fr1 lc1 G0) H locs cells slots G → LH ls 11 [(0, .inr (.inl th)), (1, .inr (.inl l1)), (2, .inl l2), (3, .inl l3), (4, .inl l4), (6, .inl l6), (7, .inl l7), (8, .inl l8), (9, .inr (.inl l9)), (10, .inl l10)] → W p l e (rmX (twd D T Z) fr1 lc1 G0) s m args below meth c H locs cells slots (MQX (twd D T Z) G0 (qI Q) (fun _ _ => False) below s) (F0 m 80 ls []) := by
  intro f80
  induction f80 with
  | zero => intro l1 l2 l3 l4 l6 l7 l8 l9 l10 G H locs cells slots ls h; exact (show False from h).elim
  | succ f80 ih =>
    intro l1 l2 l3 l4 l6 l7 l8 l9 l10 G H locs cells slots ls h hth I hl
    have h : isO G l9 12 ∧ ((gI G (ad l9) 2 ≤ l10) → (w_X8_eyes_123 T wr Q th k6 l1 l2 l3 l4 l6 l7 l8 G)) ∧ ((¬ gI G (ad l9) 2 ≤ l10) → (isO G (gR G (ad l9) 0) 50 ∧ vp_in l10 (gN G (ad (gR G (ad l9) 0))) ∧ isO G l1 8 ∧ wr (fun r4 G3 => Ext G G3 → (w_X8_eyes_80 T wr Q th k6 f80) l1 l2 l3 l4 l6 ((l7 ||| r4)) l8 l9 ((l10 + 1)) G3) l1 l2 l3 (gI G (ad (gR G (ad l9) 0)) l10.toNatClampNeg) ((0 : Int32)) ((l6 ||| ((1 : Int32) <<< (l4 &&& 31)))) G)) := h
    have hk80 := ih
    refine l_ild C dX8_eyes_80 hl 9 rfl ?_
    refine l_ald C dX8_eyes_82 hl 8 rfl ?_
    obtain ⟨ho1, h⟩ := h
    refine g_I C I fl_X8_60_12 (by decide) (by decide) ho1 dX8_eyes_84 ?_
    refine lv_icmp_ge (tgt := 123) C.1 C.2.1 dX8_eyes_87 (by decide) (fun c6 => ?_) (fun c6 => ?_)
    · have h := h.1 c6
      exact b_X8_eyes_123 C hfl hwr hk6 l1 l2 l3 l4 l6 l7 l8 G _ _ _ _ _ h hth I (hl.sub [0, 1, 2, 3, 4, 5, 6, 7] rfl)
    · have h := h.2 c6
      refine l_ild C dX8_eyes_90 hl 6 rfl ?_
      refine l_ald_n C dX8_eyes_92 hl 1 rfl rfl ?_
      refine l_ild_n C dX8_eyes_93 hl 2 rfl rfl ?_
      refine l_ild_n C dX8_eyes_94 hl 3 rfl rfl ?_
      refine l_ald C dX8_eyes_95 hl 8 rfl ?_
      refine g_R C I fl_X8_63_12 (by decide) (by decide) ho1 dX8_eyes_97 ?_
      refine l_ild C dX8_eyes_100 hl 9 rfl ?_
      obtain ⟨ho2, h⟩ := h
      obtain ⟨hi, h⟩ := h
      refine a_iald C I ho2 hi dX8_eyes_102 ?_
      refine lv_iconst (v := 0) C.1 C.2.1 dX8_eyes_103 (by decide) ?_
      refine l_ild C dX8_eyes_104 hl 5 rfl ?_
      refine lv_iconst (v := 1) C.1 C.2.1 dX8_eyes_106 (by decide) ?_
      refine l_ild C dX8_eyes_107 hl 4 rfl ?_
      refine lv_ishl C.1 C.2.1 dX8_eyes_109 ?_
      refine lv_ior C.1 C.2.1 dX8_eyes_110 ?_
      obtain ⟨ho5, h⟩ := h
      refine k_call Ext.tr C I (k_V (r := l1) (As := [.int l2, .int l3, .int (gI G (ad (gR G (ad l9) 0)) l10.toNatClampNeg), .int ((0 : Int32)), .int ((l6 ||| ((1 : Int32) <<< (l4 &&& 31))))]) (rest := [.int l7]) (y := yX10_eyes) C ⟨ho5.ad.1, I.recv C.2.2.2.2.1 ho5 (by decide)⟩ q1263 q1264 q1265 (Or.inl rfl) q1266 (by decide) rfl pd_X10_eyes rfl dX8_eyes_111) (hwr _ _ _ _ _ _ _ _ h) hl.1 dX8_eyes_111 [.inl l7] rfl (Nat.le_of_ble_eq_true rfl) (Or.inl rfl) q1266 q112 ⟨hfl.2.2.1, hfl.2.2.2⟩ (fun v G3 H locs cells slots xG3 hq I => ?_) (fun a G9 H locs cells slots ex hq I => hq.elim)
      obtain ⟨r4, rfl, h⟩ := hq
      have h := h xG3
      refine lv_ior C.1 C.2.1 dX8_eyes_114 ?_
      refine l_ist C dX8_eyes_115 hl (by decide) rfl (fun ls hl => ?_)
      have hl : LH ls 11 [(7, .inl ((l7 ||| r4))), (0, .inr (.inl th)), (1, .inr (.inl l1)), (2, .inl l2), (3, .inl l3), (4, .inl l4), (6, .inl l6), (8, .inl l8), (9, .inr (.inl l9)), (10, .inl l10)] := hl
      refine l_inc (q := 9) (v := 1) C dX8_eyes_117 hl rfl (by decide) (by decide) rfl (fun ls hl => ?_)
      have hl : LH ls 11 [(10, .inl ((l10 + 1))), (7, .inl ((l7 ||| r4))), (0, .inr (.inl th)), (1, .inr (.inl l1)), (2, .inl l2), (3, .inl l3), (4, .inl l4), (6, .inl l6), (8, .inl l8), (9, .inr (.inl l9))] := hl
      refine lv_goto (tgt := 80) C.1 C.2.1 dX8_eyes_120 (by decide) ?_
      exact hk80 l1 l2 l3 l4 l6 ((l7 ||| r4)) l8 l9 ((l10 + 1)) G3 _ _ _ _ _ h (hth.ext (by decide) xG3) I (hl.sub [2, 3, 4, 5, 6, 7, 1, 8, 9, 0] rfl)
def w_X8_eyes_6 (T : Nat → ClassId) (wr : (Int32 → Hp → Prop) → Option Nat → Int32 → Int32 → Int32 → Int32 → Int32 → Hp → Prop) (Q : Int32 → Hp → Prop) (th : Option Nat) : Nat → Option Nat → Int32 → Int32 → Int32 → Int32 → Int32 → Int32 → Hp → Prop
  | 0 => fun _ _ _ _ _ _ _ _ => False
  | f6 + 1 => fun l1 l2 l3 l4 l6 l7 l8 G => isO G (gR G (ad th) 2) 1 ∧ isO G (gR G (ad (gR G (ad th) 2)) 0) 2 ∧ isO G (gR G (ad (gR G (ad (gR G (ad th) 2)) 0)) 4) 16 ∧ w_J2_size T (fun r4 G3 => Ext G G3 → ((r4 ≤ l8) → (Q l7 G3)) ∧ ((¬ r4 ≤ l8) → (isO G3 (gR G3 (ad th) 2) 1 ∧ isO G3 (gR G3 (ad (gR G3 (ad th) 2)) 0) 2 ∧ isO G3 (gR G3 (ad (gR G3 (ad (gR G3 (ad th) 2)) 0)) 4) 16 ∧ w_J2_get T (fun r8 G7 => Ext G3 G7 → (r8 = none ∨ isO G7 r8 12) ∧ w_X8_tell T (fun G9 => Ext G7 G9 → isO G9 r8 12 ∧ ((¬ gI G9 (ad r8) 1 = l4) → (w_X8_eyes_123 T wr Q th (w_X8_eyes_6 T wr Q th f6) l1 l2 l3 l4 l6 l7 l8 G9)) ∧ ((gI G9 (ad r8) 1 = l4) → (w_X8_ruleRound T (fun r13 G12 => Ext G9 G12 → ((¬ r13 = 0) → (∃ n, w_X8_eyes_80 T wr Q th (w_X8_eyes_6 T wr Q th f6) n l1 l2 l3 l4 l6 l7 l8 r8 ((0 : Int32)) G12)) ∧ ((r13 = 0) → (w_X8_eyes_123 T wr Q th (w_X8_eyes_6 T wr Q th f6) l1 l2 l3 l4 l6 l7 l8 G12))) th r8 G9))) th l1 l2 l3 G7) (gR G3 (ad (gR G3 (ad (gR G3 (ad th) 2)) 0)) 4) l8 G3))) (gR G (ad (gR G (ad (gR G (ad th) 2)) 0)) 4) G
set_option maxHeartbeats 4000000 in
theorem b_X8_eyes_6 {G0 : Hp} {fr1 lc1 fr2 lc2 : Nat} {wr : (Int32 → Hp → Prop) → Option Nat → Int32 → Int32 → Int32 → Int32 → Int32 → Hp → Prop} {Q : Int32 → Hp → Prop} {th : Option Nat} (C : Cx p s m meth c D T Z "EndingTown$Worked" cX8_eyes 11 (some .int)) (hfl : 6 ≤ fr1 ∧ 146 ≤ lc1 ∧ fr2 + 1 ≤ fr1 ∧ 8 + (9 + 11) + lc2 ≤ lc1) (hwr : ∀ (Q : Int32 → Hp → Prop) (th : Option Nat) (a0 : Int32) (a1 : Int32) (a2 : Int32) (a3 : Int32) (a4 : Int32) (G : Hp), wr Q th a0 a1 a2 a3 a4 G → CT (twd D T Z) (Evd D T Z) l yX10_eyes (Cond.code yX10_eyes cX10_eyes 9 (some .int)) fr2 lc2 [va_rf th, .int a0, .int a1, .int a2, .int a3, .int a4] G (qI Q) (fun _ _ => False)) : ∀ (n : Nat) (l1 : Option Nat) (l2 : Int32) (l3 : Int32) (l4 : Int32) (l6 : Int32) (l7 : Int32) (l8 : Int32) (G : Hp) (H : Heap) (locs : List Loc) (cells slots : Nat) (ls : Array Slot), w_X8_eyes_6 T wr Q th n l1 l2 l3 l4 l6 l7 l8 G → isO G th 6 → HI (twd D T Z) G0 s (rmX (twd D T Z) fr1 lc1 G0) H locs cells slots G → LH ls 11 [(0, .inr (.inl th)), (1, .inr (.inl l1)), (2, .inl l2), (3, .inl l3), (4, .inl l4), (6, .inl l6), (7, .inl l7), (8, .inl l8)] → W p l e (rmX (twd D T Z) fr1 lc1 G0) s m args below meth c H locs cells slots (MQX (twd D T Z) G0 (qI Q) (fun _ _ => False) below s) (F0 m 6 ls []) := by
  intro f6
  induction f6 with
  | zero => intro l1 l2 l3 l4 l6 l7 l8 G H locs cells slots ls h; exact (show False from h).elim
  | succ f6 ih =>
    intro l1 l2 l3 l4 l6 l7 l8 G H locs cells slots ls h hth I hl
    have h : isO G (gR G (ad th) 2) 1 ∧ isO G (gR G (ad (gR G (ad th) 2)) 0) 2 ∧ isO G (gR G (ad (gR G (ad (gR G (ad th) 2)) 0)) 4) 16 ∧ w_J2_size T (fun r4 G3 => Ext G G3 → ((r4 ≤ l8) → (Q l7 G3)) ∧ ((¬ r4 ≤ l8) → (isO G3 (gR G3 (ad th) 2) 1 ∧ isO G3 (gR G3 (ad (gR G3 (ad th) 2)) 0) 2 ∧ isO G3 (gR G3 (ad (gR G3 (ad (gR G3 (ad th) 2)) 0)) 4) 16 ∧ w_J2_get T (fun r8 G7 => Ext G3 G7 → (r8 = none ∨ isO G7 r8 12) ∧ w_X8_tell T (fun G9 => Ext G7 G9 → isO G9 r8 12 ∧ ((¬ gI G9 (ad r8) 1 = l4) → (w_X8_eyes_123 T wr Q th (w_X8_eyes_6 T wr Q th f6) l1 l2 l3 l4 l6 l7 l8 G9)) ∧ ((gI G9 (ad r8) 1 = l4) → (w_X8_ruleRound T (fun r13 G12 => Ext G9 G12 → ((¬ r13 = 0) → (∃ n, w_X8_eyes_80 T wr Q th (w_X8_eyes_6 T wr Q th f6) n l1 l2 l3 l4 l6 l7 l8 r8 ((0 : Int32)) G12)) ∧ ((r13 = 0) → (w_X8_eyes_123 T wr Q th (w_X8_eyes_6 T wr Q th f6) l1 l2 l3 l4 l6 l7 l8 G12))) th r8 G9))) th l1 l2 l3 G7) (gR G3 (ad (gR G3 (ad (gR G3 (ad th) 2)) 0)) 4) l8 G3))) (gR G (ad (gR G (ad (gR G (ad th) 2)) 0)) 4) G := h
    have hk6 := ih
    refine l_ild C dX8_eyes_6 hl 7 rfl ?_
    refine l_ald_n C dX8_eyes_8 hl 0 rfl rfl ?_
    refine g_R C I fl_X8_3_6 (by decide) (by decide) hth dX8_eyes_9 ?_
    obtain ⟨ho1, h⟩ := h
    refine g_R C I fl_X8_19_1 (by decide) (by decide) ho1 dX8_eyes_12 ?_
    obtain ⟨ho2, h⟩ := h
    refine g_R C I fl_X8_43_2 (by decide) (by decide) ho2 dX8_eyes_15 ?_
    obtain ⟨ho18, h⟩ := h
    refine k_call Ext.tr C I (k_F (kd := 16) (r := gR G (ad (gR G (ad (gR G (ad th) 2)) 0)) 4) (As := []) (rest := [.int l8]) (y := yJ2_size) (x := ⟨"java/util/List", "size", "()I"⟩) C (by decide) ⟨ho18.ad.1, I.recv C.2.2.2.2.1 ho18 (by decide)⟩ q544 (by decide) q426 q425 q430 q428 q417 q427 q429 rfl pd_J2_size rfl dX8_eyes_18) (ct_J2_size h) hl.1 dX8_eyes_18 [.inl l8] rfl (Nat.le_of_ble_eq_true rfl) (Or.inl rfl) q431 q104 ⟨Nat.le_trans (Nat.le_of_ble_eq_true rfl) hfl.1, Nat.le_trans (Nat.le_of_ble_eq_true rfl) hfl.2.1⟩ (fun v G3 H locs cells slots xG3 hq I => ?_) (fun a G9 H locs cells slots ex hq I => hq.elim)
    obtain ⟨r4, rfl, h⟩ := hq
    have h := h xG3
    refine lv_icmp_ge (tgt := 129) C.1 C.2.1 dX8_eyes_23 (by decide) (fun c17 => ?_) (fun c17 => ?_)
    · have h := h.1 c17
      refine l_ild C dX8_eyes_129 hl 6 rfl ?_
      exact r_int C.1 C.2.1 C.2.2.2.2.2.1 rfl C.2.2.2.2.2.2 ⟨rfl, rfl⟩ I dX8_eyes_131 ⟨_, rfl, h⟩
    · have h := h.2 c17
      refine l_ald_n C dX8_eyes_26 hl 0 rfl rfl ?_
      refine g_R C I fl_X8_3_6 (by decide) (by decide) (hth.ext (by decide) xG3) dX8_eyes_27 ?_
      obtain ⟨ho5, h⟩ := h
      refine g_R C I fl_X8_19_1 (by decide) (by decide) ho5 dX8_eyes_30 ?_
      obtain ⟨ho6, h⟩ := h
      refine g_R C I fl_X8_43_2 (by decide) (by decide) ho6 dX8_eyes_33 ?_
      refine l_ild C dX8_eyes_36 hl 7 rfl ?_
      obtain ⟨ho16, h⟩ := h
      refine k_call Ext.tr C I (k_F (kd := 16) (r := gR G3 (ad (gR G3 (ad (gR G3 (ad th) 2)) 0)) 4) (As := [.int l8]) (rest := []) (y := yJ2_get) (x := ⟨"java/util/List", "get", "(I)Ljava/lang/Object;"⟩) C (by decide) ⟨ho16.ad.1, I.recv C.2.2.2.2.1 ho16 (by decide)⟩ q547 (by decide) q477 q476 q481 q479 q417 q478 q480 rfl pd_J2_get rfl dX8_eyes_38) (ct_J2_get h) hl.1 dX8_eyes_38 [] rfl (Nat.le_of_ble_eq_true rfl) (Or.inl rfl) q482 q104 ⟨Nat.le_trans (Nat.le_of_ble_eq_true rfl) hfl.1, Nat.le_trans (Nat.le_of_ble_eq_true rfl) hfl.2.1⟩ (fun v G7 H locs cells slots xG7 hq I => ?_) (fun a G9 H locs cells slots ex hq I => hq.elim)
      obtain ⟨r8, rfl, h⟩ := hq
      have h := h xG7
      obtain ⟨hcc, h⟩ := h
      refine c_cast (kd := 12) C I (by decide) q548 hcc dX8_eyes_43 ?_
      refine l_ast C dX8_eyes_46 hl (by decide) rfl (fun ls hl => ?_)
      have hl : LH ls 11 [(9, .inr (.inl r8)), (0, .inr (.inl th)), (1, .inr (.inl l1)), (2, .inl l2), (3, .inl l3), (4, .inl l4), (6, .inl l6), (7, .inl l7), (8, .inl l8)] := hl
      refine l_ald_n C dX8_eyes_48 hl 1 rfl rfl ?_
      refine l_ald_n C dX8_eyes_49 hl 2 rfl rfl ?_
      refine l_ild_n C dX8_eyes_50 hl 3 rfl rfl ?_
      refine l_ild_n C dX8_eyes_51 hl 4 rfl rfl ?_
      refine k_call Ext.tr C I (k_V (r := th) (As := [va_rf l1, .int l2, .int l3]) (rest := []) (y := yX8_tell) C ⟨(hth.ext (by decide) (Ext.tr _ _ _ xG3 xG7)).ad.1, I.recv C.2.2.2.2.1 (hth.ext (by decide) (Ext.tr _ _ _ xG3 xG7)) (by decide)⟩ q539 q541 qs4 (Or.inl rfl) q542 (by decide) rfl pd_X8_tell rfl dX8_eyes_52) (ct_X8_tell h) hl.1 dX8_eyes_52 [] rfl (Nat.le_of_ble_eq_true rfl) (Or.inl rfl) q542 q110 ⟨Nat.le_trans (Nat.le_of_ble_eq_true rfl) hfl.1, Nat.le_trans (Nat.le_of_ble_eq_true rfl) hfl.2.1⟩ (fun v G9 H locs cells slots xG9 hq I => ?_) (fun a G9 H locs cells slots ex hq I => hq.elim)
      obtain ⟨rfl, h⟩ := hq
      have h := h xG9
      refine l_ald C dX8_eyes_55 hl 0 rfl ?_
      obtain ⟨ho11, h⟩ := h
      refine g_I C I fl_X8_56_12 (by decide) (by decide) ho11 dX8_eyes_57 ?_
      refine l_ild C dX8_eyes_60 hl 5 rfl ?_
      refine lv_icmp_ne (tgt := 123) C.1 C.2.1 dX8_eyes_62 (by decide) (fun c15 => ?_) (fun c15 => ?_)
      · have h := h.1 c15
        exact b_X8_eyes_123 C hfl hwr hk6 l1 l2 l3 l4 l6 l7 l8 G9 _ _ _ _ _ h (hth.ext (by decide) (Ext.tr _ _ _ xG3 (Ext.tr _ _ _ xG7 xG9))) I (hl.sub [1, 2, 3, 4, 5, 6, 7, 8] rfl)
      · have h := h.2 c15
        refine l_ald_n C dX8_eyes_65 hl 1 rfl rfl ?_
        refine l_ald C dX8_eyes_66 hl 0 rfl ?_
        refine k_call Ext.tr C I (k_V (r := th) (As := [va_rf r8]) (rest := []) (y := yX8_ruleRound) C ⟨(hth.ext (by decide) (Ext.tr _ _ _ xG3 (Ext.tr _ _ _ xG7 xG9))).ad.1, I.recv C.2.2.2.2.1 (hth.ext (by decide) (Ext.tr _ _ _ xG3 (Ext.tr _ _ _ xG7 xG9))) (by decide)⟩ q549 q551 qs5 (Or.inl rfl) q552 (by decide) rfl pd_X8_ruleRound rfl dX8_eyes_68) (ct_X8_ruleRound h) hl.1 dX8_eyes_68 [] rfl (Nat.le_of_ble_eq_true rfl) (Or.inl rfl) q552 q110 ⟨Nat.le_trans (Nat.le_of_ble_eq_true rfl) hfl.1, Nat.le_trans (Nat.le_of_ble_eq_true rfl) hfl.2.1⟩ (fun v G12 H locs cells slots xG12 hq I => ?_) (fun a G9 H locs cells slots ex hq I => hq.elim)
        obtain ⟨r13, rfl, h⟩ := hq
        have h := h xG12
        refine lv_if_ne (tgt := 77) C.1 C.2.1 dX8_eyes_71 (by decide) (fun c14 => ?_) (fun c14 => ?_)
        · have h := h.1 c14
          refine lv_iconst (v := 0) C.1 C.2.1 dX8_eyes_77 (by decide) ?_
          refine l_ist C dX8_eyes_78 hl (by decide) rfl (fun ls hl => ?_)
          have hl : LH ls 11 [(10, .inl ((0 : Int32))), (9, .inr (.inl r8)), (0, .inr (.inl th)), (1, .inr (.inl l1)), (2, .inl l2), (3, .inl l3), (4, .inl l4), (6, .inl l6), (7, .inl l7), (8, .inl l8)] := hl
          obtain ⟨n, h⟩ := h
          exact b_X8_eyes_80 C hfl hwr hk6 n l1 l2 l3 l4 l6 l7 l8 r8 ((0 : Int32)) G12 _ _ _ _ _ h (hth.ext (by decide) (Ext.tr _ _ _ xG3 (Ext.tr _ _ _ xG7 (Ext.tr _ _ _ xG9 xG12)))) I (hl.sub [2, 3, 4, 5, 6, 7, 8, 9, 1, 0] rfl)
        · have h := h.2 c14
          refine lv_goto (tgt := 123) C.1 C.2.1 dX8_eyes_74 (by decide) ?_
          exact b_X8_eyes_123 C hfl hwr hk6 l1 l2 l3 l4 l6 l7 l8 G12 _ _ _ _ _ h (hth.ext (by decide) (Ext.tr _ _ _ xG3 (Ext.tr _ _ _ xG7 (Ext.tr _ _ _ xG9 xG12)))) I (hl.sub [1, 2, 3, 4, 5, 6, 7, 8] rfl)
def w_X8_eyes (T : Nat → ClassId) (wr : (Int32 → Hp → Prop) → Option Nat → Int32 → Int32 → Int32 → Int32 → Int32 → Hp → Prop) (Q : Int32 → Hp → Prop) (th : Option Nat) (p0 : Option Nat) (p1 : Int32) (p2 : Int32) (p3 : Int32) (p4 : Int32) (p5 : Int32) (G : Hp) : Prop := isO G th 6 ∧ (∃ n, w_X8_eyes_6 T wr Q th n p0 p1 p2 p3 p5 ((0 : Int32)) ((0 : Int32)) G)
theorem pd_X8_eyes : (parseMethodDescriptor yX8_eyes.desc).map (fun d => d.parameters.length) = some 6 := by decide +kernel
set_option maxHeartbeats 4000000 in
theorem ct_X8_eyes {l : Launch} {D : va_G} {T : Nat → ClassId} {Z : Heap} {G0 : Hp} {fr1 lc1 fr2 lc2 : Nat} {wr : (Int32 → Hp → Prop) → Option Nat → Int32 → Int32 → Int32 → Int32 → Int32 → Hp → Prop} {Q : Int32 → Hp → Prop} {th : Option Nat} {p0 : Option Nat} {p1 : Int32} {p2 : Int32} {p3 : Int32} {p4 : Int32} {p5 : Int32} (hfl : 6 ≤ fr1 ∧ 146 ≤ lc1 ∧ fr2 + 1 ≤ fr1 ∧ 8 + (9 + 11) + lc2 ≤ lc1) (hwr : ∀ (Q : Int32 → Hp → Prop) (th : Option Nat) (a0 : Int32) (a1 : Int32) (a2 : Int32) (a3 : Int32) (a4 : Int32) (G : Hp), wr Q th a0 a1 a2 a3 a4 G → CT (twd D T Z) (Evd D T Z) l yX10_eyes (Cond.code yX10_eyes cX10_eyes 9 (some .int)) fr2 lc2 [va_rf th, .int a0, .int a1, .int a2, .int a3, .int a4] G (qI Q) (fun _ _ => False)) (hw : w_X8_eyes T wr Q th p0 p1 p2 p3 p4 p5 G0) : CT (twd D T Z) (Evd D T Z) l yX8_eyes (Cond.code yX8_eyes cX8_eyes 11 (some .int)) fr1 lc1 [va_rf th, va_rf p0, .int p1, .int p2, .int p3, .int p4, .int p5] G0 (qI Q) (fun _ _ => False) := by
  refine CT.ofW (cc := cX8_eyes) (nL := 11) (ret := (some .int)) Ext.rf (by decide) (Or.inl rfl) ?_
  intro p e s m below meth c hx hb hml hown hr hlk hnm hcb hm hc hn hE I
  have C : Cx p s m meth c D T Z "EndingTown$Worked" cX8_eyes 11 (some .int) := ⟨hx, hb, hml, hown, hE, hr, hlk⟩
  refine w_entry [.inr (.inl th), .inr (.inl p0), .inl p1, .inl p2, .inl p3, .inl p4, .inl p5] (Nat.le_of_ble_eq_true rfl) (fun ls hl => ?_)
  have hl : LH ls 11 [(0, .inr (.inl th)), (1, .inr (.inl p0)), (2, .inl p1), (3, .inl p2), (4, .inl p3), (5, .inl p4), (6, .inl p5)] := hl
  obtain ⟨hth, h⟩ := hw
  refine lv_iconst (v := 0) C.1 C.2.1 dX8_eyes_0 (by decide) ?_
  refine l_ist C dX8_eyes_1 hl (by decide) rfl (fun ls hl => ?_)
  have hl : LH ls 11 [(7, .inl ((0 : Int32))), (0, .inr (.inl th)), (1, .inr (.inl p0)), (2, .inl p1), (3, .inl p2), (4, .inl p3), (5, .inl p4), (6, .inl p5)] := hl
  refine lv_iconst (v := 0) C.1 C.2.1 dX8_eyes_3 (by decide) ?_
  refine l_ist C dX8_eyes_4 hl (by decide) rfl (fun ls hl => ?_)
  have hl : LH ls 11 [(8, .inl ((0 : Int32))), (7, .inl ((0 : Int32))), (0, .inr (.inl th)), (1, .inr (.inl p0)), (2, .inl p1), (3, .inl p2), (4, .inl p3), (5, .inl p4), (6, .inl p5)] := hl
  obtain ⟨n, h⟩ := h
  exact b_X8_eyes_6 C hfl hwr n p0 p1 p2 p3 p5 ((0 : Int32)) ((0 : Int32)) G0 _ _ _ _ _ h hth I (hl.sub [2, 3, 4, 5, 6, 8, 1, 0] rfl)
def w_X4_eyes_k3 (T : Nat → ClassId) (Q : Int32 → Hp → Prop) (th : Option Nat) (p0 : Option Nat) (p1 : Int32) (p2 : Int32) (p3 : Int32) (p4 : Int32) (p5 : Int32) (G : Hp) : Prop := isO G th 3 ∧ (Q (((1 : Int32) <<< (p1 &&& 31))) G)
theorem pd_X4_eyes : (parseMethodDescriptor yX4_eyes.desc).map (fun d => d.parameters.length) = some 6 := by decide +kernel
set_option maxHeartbeats 4000000 in
theorem ct_X4_eyes_k3 {l : Launch} {D : va_G} {T : Nat → ClassId} {Z : Heap} {G0 : Hp} {Q : Int32 → Hp → Prop} {th : Option Nat} {p0 : Option Nat} {p1 : Int32} {p2 : Int32} {p3 : Int32} {p4 : Int32} {p5 : Int32} (hw : w_X4_eyes_k3 T Q th p0 p1 p2 p3 p4 p5 G0) : CT (twd D T Z) (Evd D T Z) l yX4_eyes (Cond.code yX4_eyes cX4_eyes 7 (some .int)) 0 0 [va_rf th, va_rf p0, .int p1, .int p2, .int p3, .int p4, .int p5] G0 (qI Q) (fun _ _ => False) := by
  refine CT.ofW (cc := cX4_eyes) (nL := 7) (ret := (some .int)) Ext.rf (by decide) (Or.inl rfl) ?_
  intro p e s m below meth c hx hb hml hown hr hlk hnm hcb hm hc hn hE I
  have C : Cx p s m meth c D T Z "EndingTown$Own" cX4_eyes 7 (some .int) := ⟨hx, hb, hml, hown, hE, hr, hlk⟩
  refine w_entry [.inr (.inl th), .inr (.inl p0), .inl p1, .inl p2, .inl p3, .inl p4, .inl p5] (Nat.le_of_ble_eq_true rfl) (fun ls hl => ?_)
  have hl : LH ls 7 [(0, .inr (.inl th)), (1, .inr (.inl p0)), (2, .inl p1), (3, .inl p2), (4, .inl p3), (5, .inl p4), (6, .inl p5)] := hl
  obtain ⟨hth, h⟩ := hw
  refine lv_iconst (v := 1) C.1 C.2.1 dX4_eyes_0 (by decide) ?_
  refine l_ild_n C dX4_eyes_1 hl 2 rfl rfl ?_
  refine lv_ishl C.1 C.2.1 dX4_eyes_2 ?_
  exact r_int C.1 C.2.1 C.2.2.2.2.2.1 rfl C.2.2.2.2.2.2 ⟨rfl, rfl⟩ I dX4_eyes_3 ⟨_, rfl, h⟩
def w_X4_eyes_k4 (T : Nat → ClassId) (Q : Int32 → Hp → Prop) (th : Option Nat) (p0 : Option Nat) (p1 : Int32) (p2 : Int32) (p3 : Int32) (p4 : Int32) (p5 : Int32) (G : Hp) : Prop := isO G th 4 ∧ (Q (((1 : Int32) <<< (p1 &&& 31))) G)
set_option maxHeartbeats 4000000 in
theorem ct_X4_eyes_k4 {l : Launch} {D : va_G} {T : Nat → ClassId} {Z : Heap} {G0 : Hp} {Q : Int32 → Hp → Prop} {th : Option Nat} {p0 : Option Nat} {p1 : Int32} {p2 : Int32} {p3 : Int32} {p4 : Int32} {p5 : Int32} (hw : w_X4_eyes_k4 T Q th p0 p1 p2 p3 p4 p5 G0) : CT (twd D T Z) (Evd D T Z) l yX4_eyes (Cond.code yX4_eyes cX4_eyes 7 (some .int)) 0 0 [va_rf th, va_rf p0, .int p1, .int p2, .int p3, .int p4, .int p5] G0 (qI Q) (fun _ _ => False) := by
  refine CT.ofW (cc := cX4_eyes) (nL := 7) (ret := (some .int)) Ext.rf (by decide) (Or.inl rfl) ?_
  intro p e s m below meth c hx hb hml hown hr hlk hnm hcb hm hc hn hE I
  have C : Cx p s m meth c D T Z "EndingTown$Own" cX4_eyes 7 (some .int) := ⟨hx, hb, hml, hown, hE, hr, hlk⟩
  refine w_entry [.inr (.inl th), .inr (.inl p0), .inl p1, .inl p2, .inl p3, .inl p4, .inl p5] (Nat.le_of_ble_eq_true rfl) (fun ls hl => ?_)
  have hl : LH ls 7 [(0, .inr (.inl th)), (1, .inr (.inl p0)), (2, .inl p1), (3, .inl p2), (4, .inl p3), (5, .inl p4), (6, .inl p5)] := hl
  obtain ⟨hth, h⟩ := hw
  refine lv_iconst (v := 1) C.1 C.2.1 dX4_eyes_0 (by decide) ?_
  refine l_ild_n C dX4_eyes_1 hl 2 rfl rfl ?_
  refine lv_ishl C.1 C.2.1 dX4_eyes_2 ?_
  exact r_int C.1 C.2.1 C.2.2.2.2.2.1 rfl C.2.2.2.2.2.2 ⟨rfl, rfl⟩ I dX4_eyes_3 ⟨_, rfl, h⟩
def w_X10_eyes_78 (T : Nat → ClassId) (wr : (Int32 → Hp → Prop) → Option Nat → Option Nat → Int32 → Int32 → Int32 → Int32 → Int32 → Hp → Prop) (Q : Int32 → Hp → Prop) (th : Option Nat) (k23 : Int32 → Int32 → Int32 → Int32 → Int32 → Int32 → Int32 → Int32 → Hp → Prop) (l1 : Int32) (l2 : Int32) (l3 : Int32) (l4 : Int32) (l5 : Int32) (l6 : Int32) (l7 : Int32) (l8 : Int32) (G : Hp) : Prop := k23 l1 l2 l3 l4 l5 l6 l7 ((l8 + 1)) G
set_option maxHeartbeats 4000000 in
theorem b_X10_eyes_78 {G0 : Hp} {fr1 lc1 fr2 lc2 : Nat} {wr : (Int32 → Hp → Prop) → Option Nat → Option Nat → Int32 → Int32 → Int32 → Int32 → Int32 → Hp → Prop} {Q : Int32 → Hp → Prop} {th : Option Nat} {k23 : Int32 → Int32 → Int32 → Int32 → Int32 → Int32 → Int32 → Int32 → Hp → Prop} (C : Cx p s m meth c D T Z "EndingTown$Day" cX10_eyes 9 (some .int)) (hfl : 7 ≤ fr1 ∧ 175 ≤ lc1 ∧ fr2 + 1 ≤ fr1 ∧ 8 + (11 + 11) + lc2 ≤ lc1) (hwr : ∀ (Q : Int32 → Hp → Prop) (th : Option Nat) (a0 : Option Nat) (a1 : Int32) (a2 : Int32) (a3 : Int32) (a4 : Int32) (a5 : Int32) (G : Hp), wr Q th a0 a1 a2 a3 a4 a5 G → CT (twd D T Z) (Evd D T Z) l yX8_eyes (Cond.code yX8_eyes cX8_eyes 11 (some .int)) fr2 lc2 [va_rf th, va_rf a0, .int a1, .int a2, .int a3, .int a4, .int a5] G (qI Q) (fun _ _ => False)) (hk23 : ∀ (l1 : Int32) (l2 : Int32) (l3 : Int32) (l4 : Int32) (l5 : Int32) (l6 : Int32) (l7 : Int32) (l8 : Int32) (G : Hp) (H : Heap) (locs : List Loc) (cells slots : Nat) (ls : Array Slot), k23 l1 l2 l3 l4 l5 l6 l7 l8 G → isO G th 8 → HI (twd D T Z) G0 s (rmX (twd D T Z) fr1 lc1 G0) H locs cells slots G → LH ls 9 [(0, .inr (.inl th)), (1, .inl l1), (2, .inl l2), (3, .inl l3), (4, .inl l4), (5, .inl l5), (6, .inl l6), (7, .inl l7), (8, .inl l8)] → W p l e (rmX (twd D T Z) fr1 lc1 G0) s m args below meth c H locs cells slots (MQX (twd D T Z) G0 (qI Q) (fun _ _ => False) below s) (F0 m 23 ls [])) : ∀ (l1 : Int32) (l2 : Int32) (l3 : Int32) (l4 : Int32) (l5 : Int32) (l6 : Int32) (l7 : Int32) (l8 : Int32) (G : Hp) (H : Heap) (locs : List Loc) (cells slots : Nat) (ls : Array Slot), w_X10_eyes_78 T wr Q th k23 l1 l2 l3 l4 l5 l6 l7 l8 G → isO G th 8 → HI (twd D T Z) G0 s (rmX (twd D T Z) fr1 lc1 G0) H locs cells slots G → LH ls 9 [(0, .inr (.inl th)), (1, .inl l1), (2, .inl l2), (3, .inl l3), (4, .inl l4), (5, .inl l5), (6, .inl l6), (7, .inl l7), (8, .inl l8)] → W p l e (rmX (twd D T Z) fr1 lc1 G0) s m args below meth c H locs cells slots (MQX (twd D T Z) G0 (qI Q) (fun _ _ => False) below s) (F0 m 78 ls []) := by
  intro l1 l2 l3 l4 l5 l6 l7 l8 G H locs cells slots ls h hth I hl
  refine l_inc (q := 8) (v := 1) C dX10_eyes_78 hl rfl (by decide) (by decide) rfl (fun ls hl => ?_)
  have hl : LH ls 9 [(8, .inl ((l8 + 1))), (0, .inr (.inl th)), (1, .inl l1), (2, .inl l2), (3, .inl l3), (4, .inl l4), (5, .inl l5), (6, .inl l6), (7, .inl l7)] := hl
  refine lv_goto (tgt := 23) C.1 C.2.1 dX10_eyes_81 (by decide) ?_
  exact hk23 l1 l2 l3 l4 l5 l6 l7 ((l8 + 1)) G _ _ _ _ _ h hth I (hl.sub [1, 2, 3, 4, 5, 6, 7, 8, 0] rfl)
def w_X10_eyes_23 (T : Nat → ClassId) (wr : (Int32 → Hp → Prop) → Option Nat → Option Nat → Int32 → Int32 → Int32 → Int32 → Int32 → Hp → Prop) (Q : Int32 → Hp → Prop) (th : Option Nat) : Nat → Int32 → Int32 → Int32 → Int32 → Int32 → Int32 → Int32 → Int32 → Hp → Prop
  | 0 => fun _ _ _ _ _ _ _ _ _ => False
  | f23 + 1 => fun l1 l2 l3 l4 l5 l6 l7 l8 G => ((l7 < l8) → (Q l6 G)) ∧ ((¬ l7 < l8) → (isO G (gR G (ad th) 5) 1 ∧ isO G (gR G (ad (gR G (ad th) 5)) 2) 56 ∧ vp_in l8 (gN G (ad (gR G (ad (gR G (ad th) 5)) 2))) ∧ (isO G (gR G (ad (gR G (ad (gR G (ad th) 5)) 2)) l8.toNatClampNeg) 3 ∨ isO G (gR G (ad (gR G (ad (gR G (ad th) 5)) 2)) l8.toNatClampNeg) 4 ∨ isO G (gR G (ad (gR G (ad (gR G (ad th) 5)) 2)) l8.toNatClampNeg) 5 ∨ isO G (gR G (ad (gR G (ad (gR G (ad th) 5)) 2)) l8.toNatClampNeg) 6 ∨ isO G (gR G (ad (gR G (ad (gR G (ad th) 5)) 2)) l8.toNatClampNeg) 7) ∧ (isO G (gR G (ad (gR G (ad (gR G (ad th) 5)) 2)) l8.toNatClampNeg) 3 → w_X5_round T (fun r4 G3 => Ext G G3 → ((r4 ≤ 0) → (w_X10_eyes_78 T wr Q th (w_X10_eyes_23 T wr Q th f23) l1 l2 l3 l4 l5 l6 l7 l8 G3)) ∧ ((¬ r4 ≤ 0) → (isO G3 (gR G3 (ad th) 5) 1 ∧ isO G3 (gR G3 (ad (gR G3 (ad th) 5)) 2) 56 ∧ vp_in l8 (gN G3 (ad (gR G3 (ad (gR G3 (ad th) 5)) 2))) ∧ (isO G3 (gR G3 (ad (gR G3 (ad (gR G3 (ad th) 5)) 2)) l8.toNatClampNeg) 3 ∨ isO G3 (gR G3 (ad (gR G3 (ad (gR G3 (ad th) 5)) 2)) l8.toNatClampNeg) 4 ∨ isO G3 (gR G3 (ad (gR G3 (ad (gR G3 (ad th) 5)) 2)) l8.toNatClampNeg) 5 ∨ isO G3 (gR G3 (ad (gR G3 (ad (gR G3 (ad th) 5)) 2)) l8.toNatClampNeg) 6 ∨ isO G3 (gR G3 (ad (gR G3 (ad (gR G3 (ad th) 5)) 2)) l8.toNatClampNeg) 7) ∧ (isO G3 (gR G3 (ad (gR G3 (ad (gR G3 (ad th) 5)) 2)) l8.toNatClampNeg) 3 → w_X4_eyes_k3 T (fun r8 G7 => Ext G3 G7 → w_X10_eyes_78 T wr Q th (w_X10_eyes_23 T wr Q th f23) l1 l2 l3 l4 l5 ((l6 ||| r8)) l7 l8 G7) (gR G3 (ad (gR G3 (ad (gR G3 (ad th) 5)) 2)) l8.toNatClampNeg) th l1 l2 l3 l4 l5 G3) ∧ (isO G3 (gR G3 (ad (gR G3 (ad (gR G3 (ad th) 5)) 2)) l8.toNatClampNeg) 4 → w_X4_eyes_k4 T (fun r8 G7 => Ext G3 G7 → w_X10_eyes_78 T wr Q th (w_X10_eyes_23 T wr Q th f23) l1 l2 l3 l4 l5 ((l6 ||| r8)) l7 l8 G7) (gR G3 (ad (gR G3 (ad (gR G3 (ad th) 5)) 2)) l8.toNatClampNeg) th l1 l2 l3 l4 l5 G3) ∧ (isO G3 (gR G3 (ad (gR G3 (ad (gR G3 (ad th) 5)) 2)) l8.toNatClampNeg) 5 → w_X7_eyes T (fun r8 G7 => Ext G3 G7 → w_X10_eyes_78 T wr Q th (w_X10_eyes_23 T wr Q th f23) l1 l2 l3 l4 l5 ((l6 ||| r8)) l7 l8 G7) (gR G3 (ad (gR G3 (ad (gR G3 (ad th) 5)) 2)) l8.toNatClampNeg) th l1 l2 l3 l4 l5 G3) ∧ (isO G3 (gR G3 (ad (gR G3 (ad (gR G3 (ad th) 5)) 2)) l8.toNatClampNeg) 6 → wr (fun r8 G7 => Ext G3 G7 → w_X10_eyes_78 T wr Q th (w_X10_eyes_23 T wr Q th f23) l1 l2 l3 l4 l5 ((l6 ||| r8)) l7 l8 G7) (gR G3 (ad (gR G3 (ad (gR G3 (ad th) 5)) 2)) l8.toNatClampNeg) th l1 l2 l3 l4 l5 G3) ∧ (isO G3 (gR G3 (ad (gR G3 (ad (gR G3 (ad th) 5)) 2)) l8.toNatClampNeg) 7 → w_X9_eyes T (fun r8 G7 => Ext G3 G7 → w_X10_eyes_78 T wr Q th (w_X10_eyes_23 T wr Q th f23) l1 l2 l3 l4 l5 ((l6 ||| r8)) l7 l8 G7) (gR G3 (ad (gR G3 (ad (gR G3 (ad th) 5)) 2)) l8.toNatClampNeg) th l1 l2 l3 l4 l5 G3)))) (gR G (ad (gR G (ad (gR G (ad th) 5)) 2)) l8.toNatClampNeg) th l1 l2 l3 l4 G) ∧ (isO G (gR G (ad (gR G (ad (gR G (ad th) 5)) 2)) l8.toNatClampNeg) 4 → w_X6_round T (fun r4 G3 => Ext G G3 → ((r4 ≤ 0) → (w_X10_eyes_78 T wr Q th (w_X10_eyes_23 T wr Q th f23) l1 l2 l3 l4 l5 l6 l7 l8 G3)) ∧ ((¬ r4 ≤ 0) → (isO G3 (gR G3 (ad th) 5) 1 ∧ isO G3 (gR G3 (ad (gR G3 (ad th) 5)) 2) 56 ∧ vp_in l8 (gN G3 (ad (gR G3 (ad (gR G3 (ad th) 5)) 2))) ∧ (isO G3 (gR G3 (ad (gR G3 (ad (gR G3 (ad th) 5)) 2)) l8.toNatClampNeg) 3 ∨ isO G3 (gR G3 (ad (gR G3 (ad (gR G3 (ad th) 5)) 2)) l8.toNatClampNeg) 4 ∨ isO G3 (gR G3 (ad (gR G3 (ad (gR G3 (ad th) 5)) 2)) l8.toNatClampNeg) 5 ∨ isO G3 (gR G3 (ad (gR G3 (ad (gR G3 (ad th) 5)) 2)) l8.toNatClampNeg) 6 ∨ isO G3 (gR G3 (ad (gR G3 (ad (gR G3 (ad th) 5)) 2)) l8.toNatClampNeg) 7) ∧ (isO G3 (gR G3 (ad (gR G3 (ad (gR G3 (ad th) 5)) 2)) l8.toNatClampNeg) 3 → w_X4_eyes_k3 T (fun r8 G7 => Ext G3 G7 → w_X10_eyes_78 T wr Q th (w_X10_eyes_23 T wr Q th f23) l1 l2 l3 l4 l5 ((l6 ||| r8)) l7 l8 G7) (gR G3 (ad (gR G3 (ad (gR G3 (ad th) 5)) 2)) l8.toNatClampNeg) th l1 l2 l3 l4 l5 G3) ∧ (isO G3 (gR G3 (ad (gR G3 (ad (gR G3 (ad th) 5)) 2)) l8.toNatClampNeg) 4 → w_X4_eyes_k4 T (fun r8 G7 => Ext G3 G7 → w_X10_eyes_78 T wr Q th (w_X10_eyes_23 T wr Q th f23) l1 l2 l3 l4 l5 ((l6 ||| r8)) l7 l8 G7) (gR G3 (ad (gR G3 (ad (gR G3 (ad th) 5)) 2)) l8.toNatClampNeg) th l1 l2 l3 l4 l5 G3) ∧ (isO G3 (gR G3 (ad (gR G3 (ad (gR G3 (ad th) 5)) 2)) l8.toNatClampNeg) 5 → w_X7_eyes T (fun r8 G7 => Ext G3 G7 → w_X10_eyes_78 T wr Q th (w_X10_eyes_23 T wr Q th f23) l1 l2 l3 l4 l5 ((l6 ||| r8)) l7 l8 G7) (gR G3 (ad (gR G3 (ad (gR G3 (ad th) 5)) 2)) l8.toNatClampNeg) th l1 l2 l3 l4 l5 G3) ∧ (isO G3 (gR G3 (ad (gR G3 (ad (gR G3 (ad th) 5)) 2)) l8.toNatClampNeg) 6 → wr (fun r8 G7 => Ext G3 G7 → w_X10_eyes_78 T wr Q th (w_X10_eyes_23 T wr Q th f23) l1 l2 l3 l4 l5 ((l6 ||| r8)) l7 l8 G7) (gR G3 (ad (gR G3 (ad (gR G3 (ad th) 5)) 2)) l8.toNatClampNeg) th l1 l2 l3 l4 l5 G3) ∧ (isO G3 (gR G3 (ad (gR G3 (ad (gR G3 (ad th) 5)) 2)) l8.toNatClampNeg) 7 → w_X9_eyes T (fun r8 G7 => Ext G3 G7 → w_X10_eyes_78 T wr Q th (w_X10_eyes_23 T wr Q th f23) l1 l2 l3 l4 l5 ((l6 ||| r8)) l7 l8 G7) (gR G3 (ad (gR G3 (ad (gR G3 (ad th) 5)) 2)) l8.toNatClampNeg) th l1 l2 l3 l4 l5 G3)))) (gR G (ad (gR G (ad (gR G (ad th) 5)) 2)) l8.toNatClampNeg) th l1 l2 l3 l4 G) ∧ (isO G (gR G (ad (gR G (ad (gR G (ad th) 5)) 2)) l8.toNatClampNeg) 5 → w_X7_round T (fun r4 G3 => Ext G G3 → ((r4 ≤ 0) → (w_X10_eyes_78 T wr Q th (w_X10_eyes_23 T wr Q th f23) l1 l2 l3 l4 l5 l6 l7 l8 G3)) ∧ ((¬ r4 ≤ 0) → (isO G3 (gR G3 (ad th) 5) 1 ∧ isO G3 (gR G3 (ad (gR G3 (ad th) 5)) 2) 56 ∧ vp_in l8 (gN G3 (ad (gR G3 (ad (gR G3 (ad th) 5)) 2))) ∧ (isO G3 (gR G3 (ad (gR G3 (ad (gR G3 (ad th) 5)) 2)) l8.toNatClampNeg) 3 ∨ isO G3 (gR G3 (ad (gR G3 (ad (gR G3 (ad th) 5)) 2)) l8.toNatClampNeg) 4 ∨ isO G3 (gR G3 (ad (gR G3 (ad (gR G3 (ad th) 5)) 2)) l8.toNatClampNeg) 5 ∨ isO G3 (gR G3 (ad (gR G3 (ad (gR G3 (ad th) 5)) 2)) l8.toNatClampNeg) 6 ∨ isO G3 (gR G3 (ad (gR G3 (ad (gR G3 (ad th) 5)) 2)) l8.toNatClampNeg) 7) ∧ (isO G3 (gR G3 (ad (gR G3 (ad (gR G3 (ad th) 5)) 2)) l8.toNatClampNeg) 3 → w_X4_eyes_k3 T (fun r8 G7 => Ext G3 G7 → w_X10_eyes_78 T wr Q th (w_X10_eyes_23 T wr Q th f23) l1 l2 l3 l4 l5 ((l6 ||| r8)) l7 l8 G7) (gR G3 (ad (gR G3 (ad (gR G3 (ad th) 5)) 2)) l8.toNatClampNeg) th l1 l2 l3 l4 l5 G3) ∧ (isO G3 (gR G3 (ad (gR G3 (ad (gR G3 (ad th) 5)) 2)) l8.toNatClampNeg) 4 → w_X4_eyes_k4 T (fun r8 G7 => Ext G3 G7 → w_X10_eyes_78 T wr Q th (w_X10_eyes_23 T wr Q th f23) l1 l2 l3 l4 l5 ((l6 ||| r8)) l7 l8 G7) (gR G3 (ad (gR G3 (ad (gR G3 (ad th) 5)) 2)) l8.toNatClampNeg) th l1 l2 l3 l4 l5 G3) ∧ (isO G3 (gR G3 (ad (gR G3 (ad (gR G3 (ad th) 5)) 2)) l8.toNatClampNeg) 5 → w_X7_eyes T (fun r8 G7 => Ext G3 G7 → w_X10_eyes_78 T wr Q th (w_X10_eyes_23 T wr Q th f23) l1 l2 l3 l4 l5 ((l6 ||| r8)) l7 l8 G7) (gR G3 (ad (gR G3 (ad (gR G3 (ad th) 5)) 2)) l8.toNatClampNeg) th l1 l2 l3 l4 l5 G3) ∧ (isO G3 (gR G3 (ad (gR G3 (ad (gR G3 (ad th) 5)) 2)) l8.toNatClampNeg) 6 → wr (fun r8 G7 => Ext G3 G7 → w_X10_eyes_78 T wr Q th (w_X10_eyes_23 T wr Q th f23) l1 l2 l3 l4 l5 ((l6 ||| r8)) l7 l8 G7) (gR G3 (ad (gR G3 (ad (gR G3 (ad th) 5)) 2)) l8.toNatClampNeg) th l1 l2 l3 l4 l5 G3) ∧ (isO G3 (gR G3 (ad (gR G3 (ad (gR G3 (ad th) 5)) 2)) l8.toNatClampNeg) 7 → w_X9_eyes T (fun r8 G7 => Ext G3 G7 → w_X10_eyes_78 T wr Q th (w_X10_eyes_23 T wr Q th f23) l1 l2 l3 l4 l5 ((l6 ||| r8)) l7 l8 G7) (gR G3 (ad (gR G3 (ad (gR G3 (ad th) 5)) 2)) l8.toNatClampNeg) th l1 l2 l3 l4 l5 G3)))) (gR G (ad (gR G (ad (gR G (ad th) 5)) 2)) l8.toNatClampNeg) th l1 l2 l3 l4 G) ∧ (isO G (gR G (ad (gR G (ad (gR G (ad th) 5)) 2)) l8.toNatClampNeg) 6 → w_X8_round T (fun r4 G3 => Ext G G3 → ((r4 ≤ 0) → (w_X10_eyes_78 T wr Q th (w_X10_eyes_23 T wr Q th f23) l1 l2 l3 l4 l5 l6 l7 l8 G3)) ∧ ((¬ r4 ≤ 0) → (isO G3 (gR G3 (ad th) 5) 1 ∧ isO G3 (gR G3 (ad (gR G3 (ad th) 5)) 2) 56 ∧ vp_in l8 (gN G3 (ad (gR G3 (ad (gR G3 (ad th) 5)) 2))) ∧ (isO G3 (gR G3 (ad (gR G3 (ad (gR G3 (ad th) 5)) 2)) l8.toNatClampNeg) 3 ∨ isO G3 (gR G3 (ad (gR G3 (ad (gR G3 (ad th) 5)) 2)) l8.toNatClampNeg) 4 ∨ isO G3 (gR G3 (ad (gR G3 (ad (gR G3 (ad th) 5)) 2)) l8.toNatClampNeg) 5 ∨ isO G3 (gR G3 (ad (gR G3 (ad (gR G3 (ad th) 5)) 2)) l8.toNatClampNeg) 6 ∨ isO G3 (gR G3 (ad (gR G3 (ad (gR G3 (ad th) 5)) 2)) l8.toNatClampNeg) 7) ∧ (isO G3 (gR G3 (ad (gR G3 (ad (gR G3 (ad th) 5)) 2)) l8.toNatClampNeg) 3 → w_X4_eyes_k3 T (fun r8 G7 => Ext G3 G7 → w_X10_eyes_78 T wr Q th (w_X10_eyes_23 T wr Q th f23) l1 l2 l3 l4 l5 ((l6 ||| r8)) l7 l8 G7) (gR G3 (ad (gR G3 (ad (gR G3 (ad th) 5)) 2)) l8.toNatClampNeg) th l1 l2 l3 l4 l5 G3) ∧ (isO G3 (gR G3 (ad (gR G3 (ad (gR G3 (ad th) 5)) 2)) l8.toNatClampNeg) 4 → w_X4_eyes_k4 T (fun r8 G7 => Ext G3 G7 → w_X10_eyes_78 T wr Q th (w_X10_eyes_23 T wr Q th f23) l1 l2 l3 l4 l5 ((l6 ||| r8)) l7 l8 G7) (gR G3 (ad (gR G3 (ad (gR G3 (ad th) 5)) 2)) l8.toNatClampNeg) th l1 l2 l3 l4 l5 G3) ∧ (isO G3 (gR G3 (ad (gR G3 (ad (gR G3 (ad th) 5)) 2)) l8.toNatClampNeg) 5 → w_X7_eyes T (fun r8 G7 => Ext G3 G7 → w_X10_eyes_78 T wr Q th (w_X10_eyes_23 T wr Q th f23) l1 l2 l3 l4 l5 ((l6 ||| r8)) l7 l8 G7) (gR G3 (ad (gR G3 (ad (gR G3 (ad th) 5)) 2)) l8.toNatClampNeg) th l1 l2 l3 l4 l5 G3) ∧ (isO G3 (gR G3 (ad (gR G3 (ad (gR G3 (ad th) 5)) 2)) l8.toNatClampNeg) 6 → wr (fun r8 G7 => Ext G3 G7 → w_X10_eyes_78 T wr Q th (w_X10_eyes_23 T wr Q th f23) l1 l2 l3 l4 l5 ((l6 ||| r8)) l7 l8 G7) (gR G3 (ad (gR G3 (ad (gR G3 (ad th) 5)) 2)) l8.toNatClampNeg) th l1 l2 l3 l4 l5 G3) ∧ (isO G3 (gR G3 (ad (gR G3 (ad (gR G3 (ad th) 5)) 2)) l8.toNatClampNeg) 7 → w_X9_eyes T (fun r8 G7 => Ext G3 G7 → w_X10_eyes_78 T wr Q th (w_X10_eyes_23 T wr Q th f23) l1 l2 l3 l4 l5 ((l6 ||| r8)) l7 l8 G7) (gR G3 (ad (gR G3 (ad (gR G3 (ad th) 5)) 2)) l8.toNatClampNeg) th l1 l2 l3 l4 l5 G3)))) (gR G (ad (gR G (ad (gR G (ad th) 5)) 2)) l8.toNatClampNeg) th l1 l2 l3 l4 G) ∧ (isO G (gR G (ad (gR G (ad (gR G (ad th) 5)) 2)) l8.toNatClampNeg) 7 → w_X9_round T (fun r4 G3 => Ext G G3 → ((r4 ≤ 0) → (w_X10_eyes_78 T wr Q th (w_X10_eyes_23 T wr Q th f23) l1 l2 l3 l4 l5 l6 l7 l8 G3)) ∧ ((¬ r4 ≤ 0) → (isO G3 (gR G3 (ad th) 5) 1 ∧ isO G3 (gR G3 (ad (gR G3 (ad th) 5)) 2) 56 ∧ vp_in l8 (gN G3 (ad (gR G3 (ad (gR G3 (ad th) 5)) 2))) ∧ (isO G3 (gR G3 (ad (gR G3 (ad (gR G3 (ad th) 5)) 2)) l8.toNatClampNeg) 3 ∨ isO G3 (gR G3 (ad (gR G3 (ad (gR G3 (ad th) 5)) 2)) l8.toNatClampNeg) 4 ∨ isO G3 (gR G3 (ad (gR G3 (ad (gR G3 (ad th) 5)) 2)) l8.toNatClampNeg) 5 ∨ isO G3 (gR G3 (ad (gR G3 (ad (gR G3 (ad th) 5)) 2)) l8.toNatClampNeg) 6 ∨ isO G3 (gR G3 (ad (gR G3 (ad (gR G3 (ad th) 5)) 2)) l8.toNatClampNeg) 7) ∧ (isO G3 (gR G3 (ad (gR G3 (ad (gR G3 (ad th) 5)) 2)) l8.toNatClampNeg) 3 → w_X4_eyes_k3 T (fun r8 G7 => Ext G3 G7 → w_X10_eyes_78 T wr Q th (w_X10_eyes_23 T wr Q th f23) l1 l2 l3 l4 l5 ((l6 ||| r8)) l7 l8 G7) (gR G3 (ad (gR G3 (ad (gR G3 (ad th) 5)) 2)) l8.toNatClampNeg) th l1 l2 l3 l4 l5 G3) ∧ (isO G3 (gR G3 (ad (gR G3 (ad (gR G3 (ad th) 5)) 2)) l8.toNatClampNeg) 4 → w_X4_eyes_k4 T (fun r8 G7 => Ext G3 G7 → w_X10_eyes_78 T wr Q th (w_X10_eyes_23 T wr Q th f23) l1 l2 l3 l4 l5 ((l6 ||| r8)) l7 l8 G7) (gR G3 (ad (gR G3 (ad (gR G3 (ad th) 5)) 2)) l8.toNatClampNeg) th l1 l2 l3 l4 l5 G3) ∧ (isO G3 (gR G3 (ad (gR G3 (ad (gR G3 (ad th) 5)) 2)) l8.toNatClampNeg) 5 → w_X7_eyes T (fun r8 G7 => Ext G3 G7 → w_X10_eyes_78 T wr Q th (w_X10_eyes_23 T wr Q th f23) l1 l2 l3 l4 l5 ((l6 ||| r8)) l7 l8 G7) (gR G3 (ad (gR G3 (ad (gR G3 (ad th) 5)) 2)) l8.toNatClampNeg) th l1 l2 l3 l4 l5 G3) ∧ (isO G3 (gR G3 (ad (gR G3 (ad (gR G3 (ad th) 5)) 2)) l8.toNatClampNeg) 6 → wr (fun r8 G7 => Ext G3 G7 → w_X10_eyes_78 T wr Q th (w_X10_eyes_23 T wr Q th f23) l1 l2 l3 l4 l5 ((l6 ||| r8)) l7 l8 G7) (gR G3 (ad (gR G3 (ad (gR G3 (ad th) 5)) 2)) l8.toNatClampNeg) th l1 l2 l3 l4 l5 G3) ∧ (isO G3 (gR G3 (ad (gR G3 (ad (gR G3 (ad th) 5)) 2)) l8.toNatClampNeg) 7 → w_X9_eyes T (fun r8 G7 => Ext G3 G7 → w_X10_eyes_78 T wr Q th (w_X10_eyes_23 T wr Q th f23) l1 l2 l3 l4 l5 ((l6 ||| r8)) l7 l8 G7) (gR G3 (ad (gR G3 (ad (gR G3 (ad th) 5)) 2)) l8.toNatClampNeg) th l1 l2 l3 l4 l5 G3)))) (gR G (ad (gR G (ad (gR G (ad th) 5)) 2)) l8.toNatClampNeg) th l1 l2 l3 l4 G)))
set_option maxHeartbeats 4000000 in
theorem b_X10_eyes_23 {G0 : Hp} {fr1 lc1 fr2 lc2 : Nat} {wr : (Int32 → Hp → Prop) → Option Nat → Option Nat → Int32 → Int32 → Int32 → Int32 → Int32 → Hp → Prop} {Q : Int32 → Hp → Prop} {th : Option Nat} (C : Cx p s m meth c D T Z "EndingTown$Day" cX10_eyes 9 (some .int)) (hfl : 7 ≤ fr1 ∧ 175 ≤ lc1 ∧ fr2 + 1 ≤ fr1 ∧ 8 + (11 + 11) + lc2 ≤ lc1) (hwr : ∀ (Q : Int32 → Hp → Prop) (th : Option Nat) (a0 : Option Nat) (a1 : Int32) (a2 : Int32) (a3 : Int32) (a4 : Int32) (a5 : Int32) (G : Hp), wr Q th a0 a1 a2 a3 a4 a5 G → CT (twd D T Z) (Evd D T Z) l yX8_eyes (Cond.code yX8_eyes cX8_eyes 11 (some .int)) fr2 lc2 [va_rf th, va_rf a0, .int a1, .int a2, .int a3, .int a4, .int a5] G (qI Q) (fun _ _ => False)) : ∀ (n : Nat) (l1 : Int32) (l2 : Int32) (l3 : Int32) (l4 : Int32) (l5 : Int32) (l6 : Int32) (l7 : Int32) (l8 : Int32) (G : Hp) (H : Heap) (locs : List Loc) (cells slots : Nat) (ls : Array Slot), w_X10_eyes_23 T wr Q th n l1 l2 l3 l4 l5 l6 l7 l8 G → isO G th 8 → HI (twd D T Z) G0 s (rmX (twd D T Z) fr1 lc1 G0) H locs cells slots G → LH ls 9 [(0, .inr (.inl th)), (1, .inl l1), (2, .inl l2), (3, .inl l3), (4, .inl l4), (5, .inl l5), (6, .inl l6), (7, .inl l7), (8, .inl l8)] → W p l e (rmX (twd D T Z) fr1 lc1 G0) s m args below meth c H locs cells slots (MQX (twd D T Z) G0 (qI Q) (fun _ _ => False) below s) (F0 m 23 ls []) := by
  intro f23
  induction f23 with
  | zero => intro l1 l2 l3 l4 l5 l6 l7 l8 G H locs cells slots ls h; exact (show False from h).elim
  | succ f23 ih =>
    intro l1 l2 l3 l4 l5 l6 l7 l8 G H locs cells slots ls h hth I hl
    have h : ((l7 < l8) → (Q l6 G)) ∧ ((¬ l7 < l8) → (isO G (gR G (ad th) 5) 1 ∧ isO G (gR G (ad (gR G (ad th) 5)) 2) 56 ∧ vp_in l8 (gN G (ad (gR G (ad (gR G (ad th) 5)) 2))) ∧ (isO G (gR G (ad (gR G (ad (gR G (ad th) 5)) 2)) l8.toNatClampNeg) 3 ∨ isO G (gR G (ad (gR G (ad (gR G (ad th) 5)) 2)) l8.toNatClampNeg) 4 ∨ isO G (gR G (ad (gR G (ad (gR G (ad th) 5)) 2)) l8.toNatClampNeg) 5 ∨ isO G (gR G (ad (gR G (ad (gR G (ad th) 5)) 2)) l8.toNatClampNeg) 6 ∨ isO G (gR G (ad (gR G (ad (gR G (ad th) 5)) 2)) l8.toNatClampNeg) 7) ∧ (isO G (gR G (ad (gR G (ad (gR G (ad th) 5)) 2)) l8.toNatClampNeg) 3 → w_X5_round T (fun r4 G3 => Ext G G3 → ((r4 ≤ 0) → (w_X10_eyes_78 T wr Q th (w_X10_eyes_23 T wr Q th f23) l1 l2 l3 l4 l5 l6 l7 l8 G3)) ∧ ((¬ r4 ≤ 0) → (isO G3 (gR G3 (ad th) 5) 1 ∧ isO G3 (gR G3 (ad (gR G3 (ad th) 5)) 2) 56 ∧ vp_in l8 (gN G3 (ad (gR G3 (ad (gR G3 (ad th) 5)) 2))) ∧ (isO G3 (gR G3 (ad (gR G3 (ad (gR G3 (ad th) 5)) 2)) l8.toNatClampNeg) 3 ∨ isO G3 (gR G3 (ad (gR G3 (ad (gR G3 (ad th) 5)) 2)) l8.toNatClampNeg) 4 ∨ isO G3 (gR G3 (ad (gR G3 (ad (gR G3 (ad th) 5)) 2)) l8.toNatClampNeg) 5 ∨ isO G3 (gR G3 (ad (gR G3 (ad (gR G3 (ad th) 5)) 2)) l8.toNatClampNeg) 6 ∨ isO G3 (gR G3 (ad (gR G3 (ad (gR G3 (ad th) 5)) 2)) l8.toNatClampNeg) 7) ∧ (isO G3 (gR G3 (ad (gR G3 (ad (gR G3 (ad th) 5)) 2)) l8.toNatClampNeg) 3 → w_X4_eyes_k3 T (fun r8 G7 => Ext G3 G7 → w_X10_eyes_78 T wr Q th (w_X10_eyes_23 T wr Q th f23) l1 l2 l3 l4 l5 ((l6 ||| r8)) l7 l8 G7) (gR G3 (ad (gR G3 (ad (gR G3 (ad th) 5)) 2)) l8.toNatClampNeg) th l1 l2 l3 l4 l5 G3) ∧ (isO G3 (gR G3 (ad (gR G3 (ad (gR G3 (ad th) 5)) 2)) l8.toNatClampNeg) 4 → w_X4_eyes_k4 T (fun r8 G7 => Ext G3 G7 → w_X10_eyes_78 T wr Q th (w_X10_eyes_23 T wr Q th f23) l1 l2 l3 l4 l5 ((l6 ||| r8)) l7 l8 G7) (gR G3 (ad (gR G3 (ad (gR G3 (ad th) 5)) 2)) l8.toNatClampNeg) th l1 l2 l3 l4 l5 G3) ∧ (isO G3 (gR G3 (ad (gR G3 (ad (gR G3 (ad th) 5)) 2)) l8.toNatClampNeg) 5 → w_X7_eyes T (fun r8 G7 => Ext G3 G7 → w_X10_eyes_78 T wr Q th (w_X10_eyes_23 T wr Q th f23) l1 l2 l3 l4 l5 ((l6 ||| r8)) l7 l8 G7) (gR G3 (ad (gR G3 (ad (gR G3 (ad th) 5)) 2)) l8.toNatClampNeg) th l1 l2 l3 l4 l5 G3) ∧ (isO G3 (gR G3 (ad (gR G3 (ad (gR G3 (ad th) 5)) 2)) l8.toNatClampNeg) 6 → wr (fun r8 G7 => Ext G3 G7 → w_X10_eyes_78 T wr Q th (w_X10_eyes_23 T wr Q th f23) l1 l2 l3 l4 l5 ((l6 ||| r8)) l7 l8 G7) (gR G3 (ad (gR G3 (ad (gR G3 (ad th) 5)) 2)) l8.toNatClampNeg) th l1 l2 l3 l4 l5 G3) ∧ (isO G3 (gR G3 (ad (gR G3 (ad (gR G3 (ad th) 5)) 2)) l8.toNatClampNeg) 7 → w_X9_eyes T (fun r8 G7 => Ext G3 G7 → w_X10_eyes_78 T wr Q th (w_X10_eyes_23 T wr Q th f23) l1 l2 l3 l4 l5 ((l6 ||| r8)) l7 l8 G7) (gR G3 (ad (gR G3 (ad (gR G3 (ad th) 5)) 2)) l8.toNatClampNeg) th l1 l2 l3 l4 l5 G3)))) (gR G (ad (gR G (ad (gR G (ad th) 5)) 2)) l8.toNatClampNeg) th l1 l2 l3 l4 G) ∧ (isO G (gR G (ad (gR G (ad (gR G (ad th) 5)) 2)) l8.toNatClampNeg) 4 → w_X6_round T (fun r4 G3 => Ext G G3 → ((r4 ≤ 0) → (w_X10_eyes_78 T wr Q th (w_X10_eyes_23 T wr Q th f23) l1 l2 l3 l4 l5 l6 l7 l8 G3)) ∧ ((¬ r4 ≤ 0) → (isO G3 (gR G3 (ad th) 5) 1 ∧ isO G3 (gR G3 (ad (gR G3 (ad th) 5)) 2) 56 ∧ vp_in l8 (gN G3 (ad (gR G3 (ad (gR G3 (ad th) 5)) 2))) ∧ (isO G3 (gR G3 (ad (gR G3 (ad (gR G3 (ad th) 5)) 2)) l8.toNatClampNeg) 3 ∨ isO G3 (gR G3 (ad (gR G3 (ad (gR G3 (ad th) 5)) 2)) l8.toNatClampNeg) 4 ∨ isO G3 (gR G3 (ad (gR G3 (ad (gR G3 (ad th) 5)) 2)) l8.toNatClampNeg) 5 ∨ isO G3 (gR G3 (ad (gR G3 (ad (gR G3 (ad th) 5)) 2)) l8.toNatClampNeg) 6 ∨ isO G3 (gR G3 (ad (gR G3 (ad (gR G3 (ad th) 5)) 2)) l8.toNatClampNeg) 7) ∧ (isO G3 (gR G3 (ad (gR G3 (ad (gR G3 (ad th) 5)) 2)) l8.toNatClampNeg) 3 → w_X4_eyes_k3 T (fun r8 G7 => Ext G3 G7 → w_X10_eyes_78 T wr Q th (w_X10_eyes_23 T wr Q th f23) l1 l2 l3 l4 l5 ((l6 ||| r8)) l7 l8 G7) (gR G3 (ad (gR G3 (ad (gR G3 (ad th) 5)) 2)) l8.toNatClampNeg) th l1 l2 l3 l4 l5 G3) ∧ (isO G3 (gR G3 (ad (gR G3 (ad (gR G3 (ad th) 5)) 2)) l8.toNatClampNeg) 4 → w_X4_eyes_k4 T (fun r8 G7 => Ext G3 G7 → w_X10_eyes_78 T wr Q th (w_X10_eyes_23 T wr Q th f23) l1 l2 l3 l4 l5 ((l6 ||| r8)) l7 l8 G7) (gR G3 (ad (gR G3 (ad (gR G3 (ad th) 5)) 2)) l8.toNatClampNeg) th l1 l2 l3 l4 l5 G3) ∧ (isO G3 (gR G3 (ad (gR G3 (ad (gR G3 (ad th) 5)) 2)) l8.toNatClampNeg) 5 → w_X7_eyes T (fun r8 G7 => Ext G3 G7 → w_X10_eyes_78 T wr Q th (w_X10_eyes_23 T wr Q th f23) l1 l2 l3 l4 l5 ((l6 ||| r8)) l7 l8 G7) (gR G3 (ad (gR G3 (ad (gR G3 (ad th) 5)) 2)) l8.toNatClampNeg) th l1 l2 l3 l4 l5 G3) ∧ (isO G3 (gR G3 (ad (gR G3 (ad (gR G3 (ad th) 5)) 2)) l8.toNatClampNeg) 6 → wr (fun r8 G7 => Ext G3 G7 → w_X10_eyes_78 T wr Q th (w_X10_eyes_23 T wr Q th f23) l1 l2 l3 l4 l5 ((l6 ||| r8)) l7 l8 G7) (gR G3 (ad (gR G3 (ad (gR G3 (ad th) 5)) 2)) l8.toNatClampNeg) th l1 l2 l3 l4 l5 G3) ∧ (isO G3 (gR G3 (ad (gR G3 (ad (gR G3 (ad th) 5)) 2)) l8.toNatClampNeg) 7 → w_X9_eyes T (fun r8 G7 => Ext G3 G7 → w_X10_eyes_78 T wr Q th (w_X10_eyes_23 T wr Q th f23) l1 l2 l3 l4 l5 ((l6 ||| r8)) l7 l8 G7) (gR G3 (ad (gR G3 (ad (gR G3 (ad th) 5)) 2)) l8.toNatClampNeg) th l1 l2 l3 l4 l5 G3)))) (gR G (ad (gR G (ad (gR G (ad th) 5)) 2)) l8.toNatClampNeg) th l1 l2 l3 l4 G) ∧ (isO G (gR G (ad (gR G (ad (gR G (ad th) 5)) 2)) l8.toNatClampNeg) 5 → w_X7_round T (fun r4 G3 => Ext G G3 → ((r4 ≤ 0) → (w_X10_eyes_78 T wr Q th (w_X10_eyes_23 T wr Q th f23) l1 l2 l3 l4 l5 l6 l7 l8 G3)) ∧ ((¬ r4 ≤ 0) → (isO G3 (gR G3 (ad th) 5) 1 ∧ isO G3 (gR G3 (ad (gR G3 (ad th) 5)) 2) 56 ∧ vp_in l8 (gN G3 (ad (gR G3 (ad (gR G3 (ad th) 5)) 2))) ∧ (isO G3 (gR G3 (ad (gR G3 (ad (gR G3 (ad th) 5)) 2)) l8.toNatClampNeg) 3 ∨ isO G3 (gR G3 (ad (gR G3 (ad (gR G3 (ad th) 5)) 2)) l8.toNatClampNeg) 4 ∨ isO G3 (gR G3 (ad (gR G3 (ad (gR G3 (ad th) 5)) 2)) l8.toNatClampNeg) 5 ∨ isO G3 (gR G3 (ad (gR G3 (ad (gR G3 (ad th) 5)) 2)) l8.toNatClampNeg) 6 ∨ isO G3 (gR G3 (ad (gR G3 (ad (gR G3 (ad th) 5)) 2)) l8.toNatClampNeg) 7) ∧ (isO G3 (gR G3 (ad (gR G3 (ad (gR G3 (ad th) 5)) 2)) l8.toNatClampNeg) 3 → w_X4_eyes_k3 T (fun r8 G7 => Ext G3 G7 → w_X10_eyes_78 T wr Q th (w_X10_eyes_23 T wr Q th f23) l1 l2 l3 l4 l5 ((l6 ||| r8)) l7 l8 G7) (gR G3 (ad (gR G3 (ad (gR G3 (ad th) 5)) 2)) l8.toNatClampNeg) th l1 l2 l3 l4 l5 G3) ∧ (isO G3 (gR G3 (ad (gR G3 (ad (gR G3 (ad th) 5)) 2)) l8.toNatClampNeg) 4 → w_X4_eyes_k4 T (fun r8 G7 => Ext G3 G7 → w_X10_eyes_78 T wr Q th (w_X10_eyes_23 T wr Q th f23) l1 l2 l3 l4 l5 ((l6 ||| r8)) l7 l8 G7) (gR G3 (ad (gR G3 (ad (gR G3 (ad th) 5)) 2)) l8.toNatClampNeg) th l1 l2 l3 l4 l5 G3) ∧ (isO G3 (gR G3 (ad (gR G3 (ad (gR G3 (ad th) 5)) 2)) l8.toNatClampNeg) 5 → w_X7_eyes T (fun r8 G7 => Ext G3 G7 → w_X10_eyes_78 T wr Q th (w_X10_eyes_23 T wr Q th f23) l1 l2 l3 l4 l5 ((l6 ||| r8)) l7 l8 G7) (gR G3 (ad (gR G3 (ad (gR G3 (ad th) 5)) 2)) l8.toNatClampNeg) th l1 l2 l3 l4 l5 G3) ∧ (isO G3 (gR G3 (ad (gR G3 (ad (gR G3 (ad th) 5)) 2)) l8.toNatClampNeg) 6 → wr (fun r8 G7 => Ext G3 G7 → w_X10_eyes_78 T wr Q th (w_X10_eyes_23 T wr Q th f23) l1 l2 l3 l4 l5 ((l6 ||| r8)) l7 l8 G7) (gR G3 (ad (gR G3 (ad (gR G3 (ad th) 5)) 2)) l8.toNatClampNeg) th l1 l2 l3 l4 l5 G3) ∧ (isO G3 (gR G3 (ad (gR G3 (ad (gR G3 (ad th) 5)) 2)) l8.toNatClampNeg) 7 → w_X9_eyes T (fun r8 G7 => Ext G3 G7 → w_X10_eyes_78 T wr Q th (w_X10_eyes_23 T wr Q th f23) l1 l2 l3 l4 l5 ((l6 ||| r8)) l7 l8 G7) (gR G3 (ad (gR G3 (ad (gR G3 (ad th) 5)) 2)) l8.toNatClampNeg) th l1 l2 l3 l4 l5 G3)))) (gR G (ad (gR G (ad (gR G (ad th) 5)) 2)) l8.toNatClampNeg) th l1 l2 l3 l4 G) ∧ (isO G (gR G (ad (gR G (ad (gR G (ad th) 5)) 2)) l8.toNatClampNeg) 6 → w_X8_round T (fun r4 G3 => Ext G G3 → ((r4 ≤ 0) → (w_X10_eyes_78 T wr Q th (w_X10_eyes_23 T wr Q th f23) l1 l2 l3 l4 l5 l6 l7 l8 G3)) ∧ ((¬ r4 ≤ 0) → (isO G3 (gR G3 (ad th) 5) 1 ∧ isO G3 (gR G3 (ad (gR G3 (ad th) 5)) 2) 56 ∧ vp_in l8 (gN G3 (ad (gR G3 (ad (gR G3 (ad th) 5)) 2))) ∧ (isO G3 (gR G3 (ad (gR G3 (ad (gR G3 (ad th) 5)) 2)) l8.toNatClampNeg) 3 ∨ isO G3 (gR G3 (ad (gR G3 (ad (gR G3 (ad th) 5)) 2)) l8.toNatClampNeg) 4 ∨ isO G3 (gR G3 (ad (gR G3 (ad (gR G3 (ad th) 5)) 2)) l8.toNatClampNeg) 5 ∨ isO G3 (gR G3 (ad (gR G3 (ad (gR G3 (ad th) 5)) 2)) l8.toNatClampNeg) 6 ∨ isO G3 (gR G3 (ad (gR G3 (ad (gR G3 (ad th) 5)) 2)) l8.toNatClampNeg) 7) ∧ (isO G3 (gR G3 (ad (gR G3 (ad (gR G3 (ad th) 5)) 2)) l8.toNatClampNeg) 3 → w_X4_eyes_k3 T (fun r8 G7 => Ext G3 G7 → w_X10_eyes_78 T wr Q th (w_X10_eyes_23 T wr Q th f23) l1 l2 l3 l4 l5 ((l6 ||| r8)) l7 l8 G7) (gR G3 (ad (gR G3 (ad (gR G3 (ad th) 5)) 2)) l8.toNatClampNeg) th l1 l2 l3 l4 l5 G3) ∧ (isO G3 (gR G3 (ad (gR G3 (ad (gR G3 (ad th) 5)) 2)) l8.toNatClampNeg) 4 → w_X4_eyes_k4 T (fun r8 G7 => Ext G3 G7 → w_X10_eyes_78 T wr Q th (w_X10_eyes_23 T wr Q th f23) l1 l2 l3 l4 l5 ((l6 ||| r8)) l7 l8 G7) (gR G3 (ad (gR G3 (ad (gR G3 (ad th) 5)) 2)) l8.toNatClampNeg) th l1 l2 l3 l4 l5 G3) ∧ (isO G3 (gR G3 (ad (gR G3 (ad (gR G3 (ad th) 5)) 2)) l8.toNatClampNeg) 5 → w_X7_eyes T (fun r8 G7 => Ext G3 G7 → w_X10_eyes_78 T wr Q th (w_X10_eyes_23 T wr Q th f23) l1 l2 l3 l4 l5 ((l6 ||| r8)) l7 l8 G7) (gR G3 (ad (gR G3 (ad (gR G3 (ad th) 5)) 2)) l8.toNatClampNeg) th l1 l2 l3 l4 l5 G3) ∧ (isO G3 (gR G3 (ad (gR G3 (ad (gR G3 (ad th) 5)) 2)) l8.toNatClampNeg) 6 → wr (fun r8 G7 => Ext G3 G7 → w_X10_eyes_78 T wr Q th (w_X10_eyes_23 T wr Q th f23) l1 l2 l3 l4 l5 ((l6 ||| r8)) l7 l8 G7) (gR G3 (ad (gR G3 (ad (gR G3 (ad th) 5)) 2)) l8.toNatClampNeg) th l1 l2 l3 l4 l5 G3) ∧ (isO G3 (gR G3 (ad (gR G3 (ad (gR G3 (ad th) 5)) 2)) l8.toNatClampNeg) 7 → w_X9_eyes T (fun r8 G7 => Ext G3 G7 → w_X10_eyes_78 T wr Q th (w_X10_eyes_23 T wr Q th f23) l1 l2 l3 l4 l5 ((l6 ||| r8)) l7 l8 G7) (gR G3 (ad (gR G3 (ad (gR G3 (ad th) 5)) 2)) l8.toNatClampNeg) th l1 l2 l3 l4 l5 G3)))) (gR G (ad (gR G (ad (gR G (ad th) 5)) 2)) l8.toNatClampNeg) th l1 l2 l3 l4 G) ∧ (isO G (gR G (ad (gR G (ad (gR G (ad th) 5)) 2)) l8.toNatClampNeg) 7 → w_X9_round T (fun r4 G3 => Ext G G3 → ((r4 ≤ 0) → (w_X10_eyes_78 T wr Q th (w_X10_eyes_23 T wr Q th f23) l1 l2 l3 l4 l5 l6 l7 l8 G3)) ∧ ((¬ r4 ≤ 0) → (isO G3 (gR G3 (ad th) 5) 1 ∧ isO G3 (gR G3 (ad (gR G3 (ad th) 5)) 2) 56 ∧ vp_in l8 (gN G3 (ad (gR G3 (ad (gR G3 (ad th) 5)) 2))) ∧ (isO G3 (gR G3 (ad (gR G3 (ad (gR G3 (ad th) 5)) 2)) l8.toNatClampNeg) 3 ∨ isO G3 (gR G3 (ad (gR G3 (ad (gR G3 (ad th) 5)) 2)) l8.toNatClampNeg) 4 ∨ isO G3 (gR G3 (ad (gR G3 (ad (gR G3 (ad th) 5)) 2)) l8.toNatClampNeg) 5 ∨ isO G3 (gR G3 (ad (gR G3 (ad (gR G3 (ad th) 5)) 2)) l8.toNatClampNeg) 6 ∨ isO G3 (gR G3 (ad (gR G3 (ad (gR G3 (ad th) 5)) 2)) l8.toNatClampNeg) 7) ∧ (isO G3 (gR G3 (ad (gR G3 (ad (gR G3 (ad th) 5)) 2)) l8.toNatClampNeg) 3 → w_X4_eyes_k3 T (fun r8 G7 => Ext G3 G7 → w_X10_eyes_78 T wr Q th (w_X10_eyes_23 T wr Q th f23) l1 l2 l3 l4 l5 ((l6 ||| r8)) l7 l8 G7) (gR G3 (ad (gR G3 (ad (gR G3 (ad th) 5)) 2)) l8.toNatClampNeg) th l1 l2 l3 l4 l5 G3) ∧ (isO G3 (gR G3 (ad (gR G3 (ad (gR G3 (ad th) 5)) 2)) l8.toNatClampNeg) 4 → w_X4_eyes_k4 T (fun r8 G7 => Ext G3 G7 → w_X10_eyes_78 T wr Q th (w_X10_eyes_23 T wr Q th f23) l1 l2 l3 l4 l5 ((l6 ||| r8)) l7 l8 G7) (gR G3 (ad (gR G3 (ad (gR G3 (ad th) 5)) 2)) l8.toNatClampNeg) th l1 l2 l3 l4 l5 G3) ∧ (isO G3 (gR G3 (ad (gR G3 (ad (gR G3 (ad th) 5)) 2)) l8.toNatClampNeg) 5 → w_X7_eyes T (fun r8 G7 => Ext G3 G7 → w_X10_eyes_78 T wr Q th (w_X10_eyes_23 T wr Q th f23) l1 l2 l3 l4 l5 ((l6 ||| r8)) l7 l8 G7) (gR G3 (ad (gR G3 (ad (gR G3 (ad th) 5)) 2)) l8.toNatClampNeg) th l1 l2 l3 l4 l5 G3) ∧ (isO G3 (gR G3 (ad (gR G3 (ad (gR G3 (ad th) 5)) 2)) l8.toNatClampNeg) 6 → wr (fun r8 G7 => Ext G3 G7 → w_X10_eyes_78 T wr Q th (w_X10_eyes_23 T wr Q th f23) l1 l2 l3 l4 l5 ((l6 ||| r8)) l7 l8 G7) (gR G3 (ad (gR G3 (ad (gR G3 (ad th) 5)) 2)) l8.toNatClampNeg) th l1 l2 l3 l4 l5 G3) ∧ (isO G3 (gR G3 (ad (gR G3 (ad (gR G3 (ad th) 5)) 2)) l8.toNatClampNeg) 7 → w_X9_eyes T (fun r8 G7 => Ext G3 G7 → w_X10_eyes_78 T wr Q th (w_X10_eyes_23 T wr Q th f23) l1 l2 l3 l4 l5 ((l6 ||| r8)) l7 l8 G7) (gR G3 (ad (gR G3 (ad (gR G3 (ad th) 5)) 2)) l8.toNatClampNeg) th l1 l2 l3 l4 l5 G3)))) (gR G (ad (gR G (ad (gR G (ad th) 5)) 2)) l8.toNatClampNeg) th l1 l2 l3 l4 G))) := h
    have hk23 := ih
    refine l_ild C dX10_eyes_23 hl 8 rfl ?_
    refine l_ild C dX10_eyes_25 hl 7 rfl ?_
    refine lv_icmp_gt (tgt := 84) C.1 C.2.1 dX10_eyes_27 (by decide) (fun c10 => ?_) (fun c10 => ?_)
    · have h := h.1 c10
      refine l_ild C dX10_eyes_84 hl 6 rfl ?_
      exact r_int C.1 C.2.1 C.2.2.2.2.2.1 rfl C.2.2.2.2.2.2 ⟨rfl, rfl⟩ I dX10_eyes_86 ⟨_, rfl, h⟩
    · have h := h.2 c10
      refine l_ald_n C dX10_eyes_30 hl 0 rfl rfl ?_
      refine g_R C I fl_X10_3_8 (by decide) (by decide) hth dX10_eyes_31 ?_
      obtain ⟨ho1, h⟩ := h
      refine g_R C I fl_X10_59_1 (by decide) (by decide) ho1 dX10_eyes_34 ?_
      refine l_ild C dX10_eyes_37 hl 8 rfl ?_
      obtain ⟨ho2, h⟩ := h
      obtain ⟨hi, h⟩ := h
      refine a_aald C I ho2 (by decide) hi dX10_eyes_39 ?_
      refine l_ald_n C dX10_eyes_40 hl 0 rfl rfl ?_
      refine l_ild_n C dX10_eyes_41 hl 1 rfl rfl ?_
      refine l_ild_n C dX10_eyes_42 hl 2 rfl rfl ?_
      refine l_ild_n C dX10_eyes_43 hl 3 rfl rfl ?_
      refine l_ild C dX10_eyes_44 hl 4 rfl ?_
      have kk : ∀ (v : Option Value) (G3 : Hp) (H : Heap) (locs : List Loc) (cells slots : Nat), Ext G G3 → (qI (fun r4 G3 => Ext G G3 → ((r4 ≤ 0) → (w_X10_eyes_78 T wr Q th (w_X10_eyes_23 T wr Q th f23) l1 l2 l3 l4 l5 l6 l7 l8 G3)) ∧ ((¬ r4 ≤ 0) → (isO G3 (gR G3 (ad th) 5) 1 ∧ isO G3 (gR G3 (ad (gR G3 (ad th) 5)) 2) 56 ∧ vp_in l8 (gN G3 (ad (gR G3 (ad (gR G3 (ad th) 5)) 2))) ∧ (isO G3 (gR G3 (ad (gR G3 (ad (gR G3 (ad th) 5)) 2)) l8.toNatClampNeg) 3 ∨ isO G3 (gR G3 (ad (gR G3 (ad (gR G3 (ad th) 5)) 2)) l8.toNatClampNeg) 4 ∨ isO G3 (gR G3 (ad (gR G3 (ad (gR G3 (ad th) 5)) 2)) l8.toNatClampNeg) 5 ∨ isO G3 (gR G3 (ad (gR G3 (ad (gR G3 (ad th) 5)) 2)) l8.toNatClampNeg) 6 ∨ isO G3 (gR G3 (ad (gR G3 (ad (gR G3 (ad th) 5)) 2)) l8.toNatClampNeg) 7) ∧ (isO G3 (gR G3 (ad (gR G3 (ad (gR G3 (ad th) 5)) 2)) l8.toNatClampNeg) 3 → w_X4_eyes_k3 T (fun r8 G7 => Ext G3 G7 → w_X10_eyes_78 T wr Q th (w_X10_eyes_23 T wr Q th f23) l1 l2 l3 l4 l5 ((l6 ||| r8)) l7 l8 G7) (gR G3 (ad (gR G3 (ad (gR G3 (ad th) 5)) 2)) l8.toNatClampNeg) th l1 l2 l3 l4 l5 G3) ∧ (isO G3 (gR G3 (ad (gR G3 (ad (gR G3 (ad th) 5)) 2)) l8.toNatClampNeg) 4 → w_X4_eyes_k4 T (fun r8 G7 => Ext G3 G7 → w_X10_eyes_78 T wr Q th (w_X10_eyes_23 T wr Q th f23) l1 l2 l3 l4 l5 ((l6 ||| r8)) l7 l8 G7) (gR G3 (ad (gR G3 (ad (gR G3 (ad th) 5)) 2)) l8.toNatClampNeg) th l1 l2 l3 l4 l5 G3) ∧ (isO G3 (gR G3 (ad (gR G3 (ad (gR G3 (ad th) 5)) 2)) l8.toNatClampNeg) 5 → w_X7_eyes T (fun r8 G7 => Ext G3 G7 → w_X10_eyes_78 T wr Q th (w_X10_eyes_23 T wr Q th f23) l1 l2 l3 l4 l5 ((l6 ||| r8)) l7 l8 G7) (gR G3 (ad (gR G3 (ad (gR G3 (ad th) 5)) 2)) l8.toNatClampNeg) th l1 l2 l3 l4 l5 G3) ∧ (isO G3 (gR G3 (ad (gR G3 (ad (gR G3 (ad th) 5)) 2)) l8.toNatClampNeg) 6 → wr (fun r8 G7 => Ext G3 G7 → w_X10_eyes_78 T wr Q th (w_X10_eyes_23 T wr Q th f23) l1 l2 l3 l4 l5 ((l6 ||| r8)) l7 l8 G7) (gR G3 (ad (gR G3 (ad (gR G3 (ad th) 5)) 2)) l8.toNatClampNeg) th l1 l2 l3 l4 l5 G3) ∧ (isO G3 (gR G3 (ad (gR G3 (ad (gR G3 (ad th) 5)) 2)) l8.toNatClampNeg) 7 → w_X9_eyes T (fun r8 G7 => Ext G3 G7 → w_X10_eyes_78 T wr Q th (w_X10_eyes_23 T wr Q th f23) l1 l2 l3 l4 l5 ((l6 ||| r8)) l7 l8 G7) (gR G3 (ad (gR G3 (ad (gR G3 (ad th) 5)) 2)) l8.toNatClampNeg) th l1 l2 l3 l4 l5 G3))))) v G3 → HI (twd D T Z) G0 s (rmX (twd D T Z) fr1 lc1 G0) H locs cells slots G3 → W p l e (rmX (twd D T Z) fr1 lc1 G0) s m args below meth c H locs cells slots (MQX (twd D T Z) G0 (qI Q) (fun _ _ => False) below s) (F0 m 49 ls (v.toList ++ [])) := by
        intro v G3 H locs cells slots xG3 hq I
        obtain ⟨r4, rfl, h⟩ := hq
        have h := h xG3
        refine lv_if_le (tgt := 78) C.1 C.2.1 dX10_eyes_49 (by decide) (fun c9 => ?_) (fun c9 => ?_)
        · have h := h.1 c9
          exact b_X10_eyes_78 C hfl hwr hk23 l1 l2 l3 l4 l5 l6 l7 l8 G3 _ _ _ _ _ h (hth.ext (by decide) xG3) I (hl.sub [0, 1, 2, 3, 4, 5, 6, 7, 8] rfl)
        · have h := h.2 c9
          refine l_ild C dX10_eyes_52 hl 6 rfl ?_
          refine l_ald_n C dX10_eyes_54 hl 0 rfl rfl ?_
          refine g_R C I fl_X10_3_8 (by decide) (by decide) (hth.ext (by decide) xG3) dX10_eyes_55 ?_
          obtain ⟨ho5, h⟩ := h
          refine g_R C I fl_X10_59_1 (by decide) (by decide) ho5 dX10_eyes_58 ?_
          refine l_ild C dX10_eyes_61 hl 8 rfl ?_
          obtain ⟨ho6, h⟩ := h
          obtain ⟨hi, h⟩ := h
          refine a_aald C I ho6 (by decide) hi dX10_eyes_63 ?_
          refine l_ald_n C dX10_eyes_64 hl 0 rfl rfl ?_
          refine l_ild_n C dX10_eyes_65 hl 1 rfl rfl ?_
          refine l_ild_n C dX10_eyes_66 hl 2 rfl rfl ?_
          refine l_ild_n C dX10_eyes_67 hl 3 rfl rfl ?_
          refine l_ild C dX10_eyes_68 hl 4 rfl ?_
          refine l_ild C dX10_eyes_70 hl 5 rfl ?_
          have kk : ∀ (v : Option Value) (G7 : Hp) (H : Heap) (locs : List Loc) (cells slots : Nat), Ext G3 G7 → (qI (fun r8 G7 => Ext G3 G7 → w_X10_eyes_78 T wr Q th (w_X10_eyes_23 T wr Q th f23) l1 l2 l3 l4 l5 ((l6 ||| r8)) l7 l8 G7)) v G7 → HI (twd D T Z) G0 s (rmX (twd D T Z) fr1 lc1 G0) H locs cells slots G7 → W p l e (rmX (twd D T Z) fr1 lc1 G0) s m args below meth c H locs cells slots (MQX (twd D T Z) G0 (qI Q) (fun _ _ => False) below s) (F0 m 75 ls (v.toList ++ [.int l6])) := by
            intro v G7 H locs cells slots xG7 hq I
            obtain ⟨r8, rfl, h⟩ := hq
            have h := h xG7
            refine lv_ior C.1 C.2.1 dX10_eyes_75 ?_
            refine l_ist C dX10_eyes_76 hl (by decide) rfl (fun ls hl => ?_)
            have hl : LH ls 9 [(6, .inl ((l6 ||| r8))), (0, .inr (.inl th)), (1, .inl l1), (2, .inl l2), (3, .inl l3), (4, .inl l4), (5, .inl l5), (7, .inl l7), (8, .inl l8)] := hl
            exact b_X10_eyes_78 C hfl hwr hk23 l1 l2 l3 l4 l5 ((l6 ||| r8)) l7 l8 G7 _ _ _ _ _ h (hth.ext (by decide) (Ext.tr _ _ _ xG3 xG7)) I (hl.sub [1, 2, 3, 4, 5, 6, 0, 7, 8] rfl)
          obtain ⟨hd, h⟩ := h
          rcases hd with ho3 | ho4 | ho5 | ho6 | ho7
          · have h := h.1 ho3
            refine k_call Ext.tr C I (k_U (r := gR G3 (ad (gR G3 (ad (gR G3 (ad th) 5)) 2)) l8.toNatClampNeg) (As := [va_rf th, .int l1, .int l2, .int l3, .int l4, .int l5]) (rest := [.int l6]) (y := yX4_eyes) (x := ⟨"EndingTown$How", "eyes", "(LEndingTown$Day;IIIZI)I"⟩) (owner := "EndingTown$How") C ⟨ho3.ad.1, I.recv C.2.2.2.2.1 ho3 (by decide)⟩ q1247 q1249 q1248 (by decide) q1256 q1254 rfl pd_X4_eyes rfl dX10_eyes_72) (ct_X4_eyes_k3 h) hl.1 dX10_eyes_72 [.inl l6] rfl (Nat.le_of_ble_eq_true rfl) (Or.inl rfl) q1255 q106 ⟨Nat.le_trans (Nat.le_of_ble_eq_true rfl) hfl.1, Nat.le_trans (Nat.le_of_ble_eq_true rfl) hfl.2.1⟩ (fun v G7 H locs cells slots xG7 hq I => kk v G7 H locs cells slots xG7 hq I) (fun a G9 H locs cells slots ex hq I => hq.elim)
          · have h := h.2.1 ho4
            refine k_call Ext.tr C I (k_U (r := gR G3 (ad (gR G3 (ad (gR G3 (ad th) 5)) 2)) l8.toNatClampNeg) (As := [va_rf th, .int l1, .int l2, .int l3, .int l4, .int l5]) (rest := [.int l6]) (y := yX4_eyes) (x := ⟨"EndingTown$How", "eyes", "(LEndingTown$Day;IIIZI)I"⟩) (owner := "EndingTown$How") C ⟨ho4.ad.1, I.recv C.2.2.2.2.1 ho4 (by decide)⟩ q1247 q1249 q1248 (by decide) q1253 q1254 rfl pd_X4_eyes rfl dX10_eyes_72) (ct_X4_eyes_k4 h) hl.1 dX10_eyes_72 [.inl l6] rfl (Nat.le_of_ble_eq_true rfl) (Or.inl rfl) q1255 q106 ⟨Nat.le_trans (Nat.le_of_ble_eq_true rfl) hfl.1, Nat.le_trans (Nat.le_of_ble_eq_true rfl) hfl.2.1⟩ (fun v G7 H locs cells slots xG7 hq I => kk v G7 H locs cells slots xG7 hq I) (fun a G9 H locs cells slots ex hq I => hq.elim)
          · have h := h.2.2.1 ho5
            refine k_call Ext.tr C I (k_U (r := gR G3 (ad (gR G3 (ad (gR G3 (ad th) 5)) 2)) l8.toNatClampNeg) (As := [va_rf th, .int l1, .int l2, .int l3, .int l4, .int l5]) (rest := [.int l6]) (y := yX7_eyes) (x := ⟨"EndingTown$How", "eyes", "(LEndingTown$Day;IIIZI)I"⟩) (owner := "EndingTown$How") C ⟨ho5.ad.1, I.recv C.2.2.2.2.1 ho5 (by decide)⟩ q1247 q1249 q1248 (by decide) q1257 q1258 rfl pd_X7_eyes rfl dX10_eyes_72) (ct_X7_eyes h) hl.1 dX10_eyes_72 [.inl l6] rfl (Nat.le_of_ble_eq_true rfl) (Or.inl rfl) q1259 q109 ⟨Nat.le_trans (Nat.le_of_ble_eq_true rfl) hfl.1, Nat.le_trans (Nat.le_of_ble_eq_true rfl) hfl.2.1⟩ (fun v G7 H locs cells slots xG7 hq I => kk v G7 H locs cells slots xG7 hq I) (fun a G9 H locs cells slots ex hq I => hq.elim)
          · have h := h.2.2.2.1 ho6
            refine k_call Ext.tr C I (k_U (r := gR G3 (ad (gR G3 (ad (gR G3 (ad th) 5)) 2)) l8.toNatClampNeg) (As := [va_rf th, .int l1, .int l2, .int l3, .int l4, .int l5]) (rest := [.int l6]) (y := yX8_eyes) (x := ⟨"EndingTown$How", "eyes", "(LEndingTown$Day;IIIZI)I"⟩) (owner := "EndingTown$How") C ⟨ho6.ad.1, I.recv C.2.2.2.2.1 ho6 (by decide)⟩ q1247 q1249 q1248 (by decide) q1260 q1261 rfl pd_X8_eyes rfl dX10_eyes_72) (hwr _ _ _ _ _ _ _ _ _ h) hl.1 dX10_eyes_72 [.inl l6] rfl (Nat.le_of_ble_eq_true rfl) (Or.inl rfl) q1262 q110 ⟨hfl.2.2.1, hfl.2.2.2⟩ (fun v G7 H locs cells slots xG7 hq I => kk v G7 H locs cells slots xG7 hq I) (fun a G9 H locs cells slots ex hq I => hq.elim)
          · have h := h.2.2.2.2 ho7
            refine k_call Ext.tr C I (k_U (r := gR G3 (ad (gR G3 (ad (gR G3 (ad th) 5)) 2)) l8.toNatClampNeg) (As := [va_rf th, .int l1, .int l2, .int l3, .int l4, .int l5]) (rest := [.int l6]) (y := yX9_eyes) (x := ⟨"EndingTown$How", "eyes", "(LEndingTown$Day;IIIZI)I"⟩) (owner := "EndingTown$How") C ⟨ho7.ad.1, I.recv C.2.2.2.2.1 ho7 (by decide)⟩ q1247 q1249 q1248 (by decide) q1250 q1251 rfl pd_X9_eyes rfl dX10_eyes_72) (ct_X9_eyes h) hl.1 dX10_eyes_72 [.inl l6] rfl (Nat.le_of_ble_eq_true rfl) (Or.inl rfl) q1252 q111 ⟨Nat.le_trans (Nat.le_of_ble_eq_true rfl) hfl.1, Nat.le_trans (Nat.le_of_ble_eq_true rfl) hfl.2.1⟩ (fun v G7 H locs cells slots xG7 hq I => kk v G7 H locs cells slots xG7 hq I) (fun a G9 H locs cells slots ex hq I => hq.elim)
      obtain ⟨hd, h⟩ := h
      rcases hd with ho3 | ho4 | ho5 | ho6 | ho7
      · have h := h.1 ho3
        refine k_call Ext.tr C I (k_U (r := gR G (ad (gR G (ad (gR G (ad th) 5)) 2)) l8.toNatClampNeg) (As := [va_rf th, .int l1, .int l2, .int l3, .int l4]) (rest := []) (y := yX5_round) (x := ⟨"EndingTown$How", "round", "(LEndingTown$Day;IIIZ)I"⟩) (owner := "EndingTown$How") C ⟨ho3.ad.1, I.recv C.2.2.2.2.1 ho3 (by decide)⟩ q496 q498 q497 (by decide) q512 q513 rfl pd_X5_round rfl dX10_eyes_46) (ct_X5_round h) hl.1 dX10_eyes_46 [] rfl (Nat.le_of_ble_eq_true rfl) (Or.inl rfl) q514 q107 ⟨Nat.le_trans (Nat.le_of_ble_eq_true rfl) hfl.1, Nat.le_trans (Nat.le_of_ble_eq_true rfl) hfl.2.1⟩ (fun v G3 H locs cells slots xG3 hq I => kk v G3 H locs cells slots xG3 hq I) (fun a G9 H locs cells slots ex hq I => hq.elim)
      · have h := h.2.1 ho4
        refine k_call Ext.tr C I (k_U (r := gR G (ad (gR G (ad (gR G (ad th) 5)) 2)) l8.toNatClampNeg) (As := [va_rf th, .int l1, .int l2, .int l3, .int l4]) (rest := []) (y := yX6_round) (x := ⟨"EndingTown$How", "round", "(LEndingTown$Day;IIIZ)I"⟩) (owner := "EndingTown$How") C ⟨ho4.ad.1, I.recv C.2.2.2.2.1 ho4 (by decide)⟩ q496 q498 q497 (by decide) q502 q503 rfl pd_X6_round rfl dX10_eyes_46) (ct_X6_round h) hl.1 dX10_eyes_46 [] rfl (Nat.le_of_ble_eq_true rfl) (Or.inl rfl) q504 q108 ⟨Nat.le_trans (Nat.le_of_ble_eq_true rfl) hfl.1, Nat.le_trans (Nat.le_of_ble_eq_true rfl) hfl.2.1⟩ (fun v G3 H locs cells slots xG3 hq I => kk v G3 H locs cells slots xG3 hq I) (fun a G9 H locs cells slots ex hq I => hq.elim)
      · have h := h.2.2.1 ho5
        refine k_call Ext.tr C I (k_U (r := gR G (ad (gR G (ad (gR G (ad th) 5)) 2)) l8.toNatClampNeg) (As := [va_rf th, .int l1, .int l2, .int l3, .int l4]) (rest := []) (y := yX7_round) (x := ⟨"EndingTown$How", "round", "(LEndingTown$Day;IIIZ)I"⟩) (owner := "EndingTown$How") C ⟨ho5.ad.1, I.recv C.2.2.2.2.1 ho5 (by decide)⟩ q496 q498 q497 (by decide) q519 q520 rfl pd_X7_round rfl dX10_eyes_46) (ct_X7_round h) hl.1 dX10_eyes_46 [] rfl (Nat.le_of_ble_eq_true rfl) (Or.inl rfl) q521 q109 ⟨Nat.le_trans (Nat.le_of_ble_eq_true rfl) hfl.1, Nat.le_trans (Nat.le_of_ble_eq_true rfl) hfl.2.1⟩ (fun v G3 H locs cells slots xG3 hq I => kk v G3 H locs cells slots xG3 hq I) (fun a G9 H locs cells slots ex hq I => hq.elim)
      · have h := h.2.2.2.1 ho6
        refine k_call Ext.tr C I (k_U (r := gR G (ad (gR G (ad (gR G (ad th) 5)) 2)) l8.toNatClampNeg) (As := [va_rf th, .int l1, .int l2, .int l3, .int l4]) (rest := []) (y := yX8_round) (x := ⟨"EndingTown$How", "round", "(LEndingTown$Day;IIIZ)I"⟩) (owner := "EndingTown$How") C ⟨ho6.ad.1, I.recv C.2.2.2.2.1 ho6 (by decide)⟩ q496 q498 q497 (by decide) q536 q537 rfl pd_X8_round rfl dX10_eyes_46) (ct_X8_round h) hl.1 dX10_eyes_46 [] rfl (Nat.le_of_ble_eq_true rfl) (Or.inl rfl) q538 q110 ⟨Nat.le_trans (Nat.le_of_ble_eq_true rfl) hfl.1, Nat.le_trans (Nat.le_of_ble_eq_true rfl) hfl.2.1⟩ (fun v G3 H locs cells slots xG3 hq I => kk v G3 H locs cells slots xG3 hq I) (fun a G9 H locs cells slots ex hq I => hq.elim)
      · have h := h.2.2.2.2 ho7
        refine k_call Ext.tr C I (k_U (r := gR G (ad (gR G (ad (gR G (ad th) 5)) 2)) l8.toNatClampNeg) (As := [va_rf th, .int l1, .int l2, .int l3, .int l4]) (rest := []) (y := yX9_round) (x := ⟨"EndingTown$How", "round", "(LEndingTown$Day;IIIZ)I"⟩) (owner := "EndingTown$How") C ⟨ho7.ad.1, I.recv C.2.2.2.2.1 ho7 (by decide)⟩ q496 q498 q497 (by decide) q499 q500 rfl pd_X9_round rfl dX10_eyes_46) (ct_X9_round h) hl.1 dX10_eyes_46 [] rfl (Nat.le_of_ble_eq_true rfl) (Or.inl rfl) q501 q111 ⟨Nat.le_trans (Nat.le_of_ble_eq_true rfl) hfl.1, Nat.le_trans (Nat.le_of_ble_eq_true rfl) hfl.2.1⟩ (fun v G3 H locs cells slots xG3 hq I => kk v G3 H locs cells slots xG3 hq I) (fun a G9 H locs cells slots ex hq I => hq.elim)
def w_X10_eyes_18 (T : Nat → ClassId) (wr : (Int32 → Hp → Prop) → Option Nat → Option Nat → Int32 → Int32 → Int32 → Int32 → Int32 → Hp → Prop) (Q : Int32 → Hp → Prop) (th : Option Nat) (l1 : Int32) (l2 : Int32) (l3 : Int32) (l4 : Int32) (l5 : Int32) (l6 : Int32) (t0 : Int32) (G : Hp) : Prop := ∃ n, w_X10_eyes_23 T wr Q th n l1 l2 l3 l4 l5 l6 t0 ((0 : Int32)) G
set_option maxHeartbeats 4000000 in
theorem b_X10_eyes_18 {G0 : Hp} {fr1 lc1 fr2 lc2 : Nat} {wr : (Int32 → Hp → Prop) → Option Nat → Option Nat → Int32 → Int32 → Int32 → Int32 → Int32 → Hp → Prop} {Q : Int32 → Hp → Prop} {th : Option Nat} (C : Cx p s m meth c D T Z "EndingTown$Day" cX10_eyes 9 (some .int)) (hfl : 7 ≤ fr1 ∧ 175 ≤ lc1 ∧ fr2 + 1 ≤ fr1 ∧ 8 + (11 + 11) + lc2 ≤ lc1) (hwr : ∀ (Q : Int32 → Hp → Prop) (th : Option Nat) (a0 : Option Nat) (a1 : Int32) (a2 : Int32) (a3 : Int32) (a4 : Int32) (a5 : Int32) (G : Hp), wr Q th a0 a1 a2 a3 a4 a5 G → CT (twd D T Z) (Evd D T Z) l yX8_eyes (Cond.code yX8_eyes cX8_eyes 11 (some .int)) fr2 lc2 [va_rf th, va_rf a0, .int a1, .int a2, .int a3, .int a4, .int a5] G (qI Q) (fun _ _ => False)) : ∀ (l1 : Int32) (l2 : Int32) (l3 : Int32) (l4 : Int32) (l5 : Int32) (l6 : Int32) (t0 : Int32) (G : Hp) (H : Heap) (locs : List Loc) (cells slots : Nat) (ls : Array Slot), w_X10_eyes_18 T wr Q th l1 l2 l3 l4 l5 l6 t0 G → isO G th 8 → HI (twd D T Z) G0 s (rmX (twd D T Z) fr1 lc1 G0) H locs cells slots G → LH ls 9 [(0, .inr (.inl th)), (1, .inl l1), (2, .inl l2), (3, .inl l3), (4, .inl l4), (5, .inl l5), (6, .inl l6)] → W p l e (rmX (twd D T Z) fr1 lc1 G0) s m args below meth c H locs cells slots (MQX (twd D T Z) G0 (qI Q) (fun _ _ => False) below s) (F0 m 18 ls [.int t0]) := by
  intro l1 l2 l3 l4 l5 l6 t0 G H locs cells slots ls h hth I hl
  refine l_ist C dX10_eyes_18 hl (by decide) rfl (fun ls hl => ?_)
  have hl : LH ls 9 [(7, .inl t0), (0, .inr (.inl th)), (1, .inl l1), (2, .inl l2), (3, .inl l3), (4, .inl l4), (5, .inl l5), (6, .inl l6)] := hl
  refine lv_iconst (v := 0) C.1 C.2.1 dX10_eyes_20 (by decide) ?_
  refine l_ist C dX10_eyes_21 hl (by decide) rfl (fun ls hl => ?_)
  have hl : LH ls 9 [(8, .inl ((0 : Int32))), (7, .inl t0), (0, .inr (.inl th)), (1, .inl l1), (2, .inl l2), (3, .inl l3), (4, .inl l4), (5, .inl l5), (6, .inl l6)] := hl
  obtain ⟨n, h⟩ := h
  exact b_X10_eyes_23 C hfl hwr n l1 l2 l3 l4 l5 l6 t0 ((0 : Int32)) G _ _ _ _ _ h hth I (hl.sub [2, 3, 4, 5, 6, 7, 8, 1, 0] rfl)
def w_X10_eyes (T : Nat → ClassId) (wr : (Int32 → Hp → Prop) → Option Nat → Option Nat → Int32 → Int32 → Int32 → Int32 → Int32 → Hp → Prop) (Q : Int32 → Hp → Prop) (th : Option Nat) (p0 : Int32) (p1 : Int32) (p2 : Int32) (p3 : Int32) (p4 : Int32) (G : Hp) : Prop := isO G th 8 ∧ (((¬ ((p4 >>> (p2 &&& 31)) &&& (1 : Int32)) = (1 : Int32)) → (w_X10_eyes_18 T wr Q th p0 p1 p2 p3 p4 ((0 : Int32)) ((3 : Int32)) G)) ∧ ((((p4 >>> (p2 &&& 31)) &&& (1 : Int32)) = (1 : Int32)) → (w_X10_eyes_18 T wr Q th p0 p1 p2 p3 p4 ((0 : Int32)) ((2 : Int32)) G)))
set_option maxHeartbeats 4000000 in
theorem ct_X10_eyes {l : Launch} {D : va_G} {T : Nat → ClassId} {Z : Heap} {G0 : Hp} {fr1 lc1 fr2 lc2 : Nat} {wr : (Int32 → Hp → Prop) → Option Nat → Option Nat → Int32 → Int32 → Int32 → Int32 → Int32 → Hp → Prop} {Q : Int32 → Hp → Prop} {th : Option Nat} {p0 : Int32} {p1 : Int32} {p2 : Int32} {p3 : Int32} {p4 : Int32} (hfl : 7 ≤ fr1 ∧ 175 ≤ lc1 ∧ fr2 + 1 ≤ fr1 ∧ 8 + (11 + 11) + lc2 ≤ lc1) (hwr : ∀ (Q : Int32 → Hp → Prop) (th : Option Nat) (a0 : Option Nat) (a1 : Int32) (a2 : Int32) (a3 : Int32) (a4 : Int32) (a5 : Int32) (G : Hp), wr Q th a0 a1 a2 a3 a4 a5 G → CT (twd D T Z) (Evd D T Z) l yX8_eyes (Cond.code yX8_eyes cX8_eyes 11 (some .int)) fr2 lc2 [va_rf th, va_rf a0, .int a1, .int a2, .int a3, .int a4, .int a5] G (qI Q) (fun _ _ => False)) (hw : w_X10_eyes T wr Q th p0 p1 p2 p3 p4 G0) : CT (twd D T Z) (Evd D T Z) l yX10_eyes (Cond.code yX10_eyes cX10_eyes 9 (some .int)) fr1 lc1 [va_rf th, .int p0, .int p1, .int p2, .int p3, .int p4] G0 (qI Q) (fun _ _ => False) := by
  refine CT.ofW (cc := cX10_eyes) (nL := 9) (ret := (some .int)) Ext.rf (by decide) (Or.inl rfl) ?_
  intro p e s m below meth c hx hb hml hown hr hlk hnm hcb hm hc hn hE I
  have C : Cx p s m meth c D T Z "EndingTown$Day" cX10_eyes 9 (some .int) := ⟨hx, hb, hml, hown, hE, hr, hlk⟩
  refine w_entry [.inr (.inl th), .inl p0, .inl p1, .inl p2, .inl p3, .inl p4] (Nat.le_of_ble_eq_true rfl) (fun ls hl => ?_)
  have hl : LH ls 9 [(0, .inr (.inl th)), (1, .inl p0), (2, .inl p1), (3, .inl p2), (4, .inl p3), (5, .inl p4)] := hl
  obtain ⟨hth, h⟩ := hw
  refine lv_iconst (v := 0) C.1 C.2.1 dX10_eyes_0 (by decide) ?_
  refine l_ist C dX10_eyes_1 hl (by decide) rfl (fun ls hl => ?_)
  have hl : LH ls 9 [(6, .inl ((0 : Int32))), (0, .inr (.inl th)), (1, .inl p0), (2, .inl p1), (3, .inl p2), (4, .inl p3), (5, .inl p4)] := hl
  refine l_ild C dX10_eyes_3 hl 6 rfl ?_
  refine l_ild_n C dX10_eyes_5 hl 4 rfl rfl ?_
  refine lv_ishr C.1 C.2.1 dX10_eyes_6 ?_
  refine lv_iconst (v := 1) C.1 C.2.1 dX10_eyes_7 (by decide) ?_
  refine lv_iand C.1 C.2.1 dX10_eyes_8 ?_
  refine lv_iconst (v := 1) C.1 C.2.1 dX10_eyes_9 (by decide) ?_
  refine lv_icmp_ne (tgt := 17) C.1 C.2.1 dX10_eyes_10 (by decide) (fun c1 => ?_) (fun c1 => ?_)
  · have h := h.1 c1
    refine lv_iconst (v := 3) C.1 C.2.1 dX10_eyes_17 (by decide) ?_
    exact b_X10_eyes_18 C hfl hwr p0 p1 p2 p3 p4 ((0 : Int32)) ((3 : Int32)) G0 _ _ _ _ _ h hth I (hl.sub [1, 2, 3, 4, 5, 6, 0] rfl)
  · have h := h.2 c1
    refine lv_iconst (v := 2) C.1 C.2.1 dX10_eyes_13 (by decide) ?_
    refine lv_goto (tgt := 18) C.1 C.2.1 dX10_eyes_14 (by decide) ?_
    exact b_X10_eyes_18 C hfl hwr p0 p1 p2 p3 p4 ((0 : Int32)) ((2 : Int32)) G0 _ _ _ _ _ h hth I (hl.sub [1, 2, 3, 4, 5, 6, 0] rfl)
end GT4
