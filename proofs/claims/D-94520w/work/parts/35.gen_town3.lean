/-! the town: wp and contracts, by program -/
set_option maxRecDepth 100000
section GT2
variable {p : Program} {l : Launch} {e : Env} {s : State} {m : MethodId} {args : Array Value} {below : List Frame} {meth : Method} {c : Code} {D : va_G} {T : Nat → ClassId} {Z : Heap}
def w_J13_hugeLength (T : Nat → ClassId) (Q : Int32 → Hp → Prop) (p0 : Int32) (p1 : Int32) (G : Hp) : Prop := (((0 ≤ (p0 + p1)) → ((((2147483639 : Int32) < (p0 + p1)) → (Q ((p0 + p1)) G)) ∧ ((¬ (2147483639 : Int32) < (p0 + p1)) → (Q ((2147483639 : Int32)) G)))) ∧ ((¬ 0 ≤ (p0 + p1)) → (False)))
theorem pd_J13_hugeLength : (parseMethodDescriptor yJ13_hugeLength.desc).map (fun d => d.parameters.length) = some 2 := by decide +kernel
set_option maxHeartbeats 4000000 in
theorem ct_J13_hugeLength {l : Launch} {D : va_G} {T : Nat → ClassId} {Z : Heap} {G0 : Hp} {Q : Int32 → Hp → Prop} {p0 : Int32} {p1 : Int32} (hw : w_J13_hugeLength T Q p0 p1 G0) : CT (twd D T Z) (Evd D T Z) l yJ13_hugeLength (Cond.code yJ13_hugeLength cJ13_hugeLength 3 (some .int)) 0 0 [.int p0, .int p1] G0 (qI Q) (fun _ _ => False) := by
  refine CT.ofW (cc := cJ13_hugeLength) (nL := 3) (ret := (some .int)) Ext.rf (by decide +kernel) (Or.inl rfl) ?_
  intro p e s m below meth c hx hb hml hown hr hlk hnm hcb hm hc hn hE I
  have C : Cx p s m meth c D T Z "jdk/internal/util/ArraysSupport" cJ13_hugeLength 3 (some .int) := ⟨hx, hb, hml, hown, hE, hr, hlk⟩
  refine w_entry [.inl p0, .inl p1] (Nat.le_of_ble_eq_true rfl) (fun ls hl => ?_)
  have hl : LH ls 3 [(0, .inl p0), (1, .inl p1)] := hl
  have h := hw
  refine l_ild_n C dJ13_hugeLength_0 hl 0 rfl rfl ?_
  refine l_ild_n C dJ13_hugeLength_1 hl 1 rfl rfl ?_
  refine lv_iadd C.1 C.2.1 dJ13_hugeLength_2 ?_
  refine l_ist_n C dJ13_hugeLength_3 rfl hl (by decide) rfl (fun ls hl => ?_)
  have hl : LH ls 3 [(2, .inl ((p0 + p1))), (0, .inl p0), (1, .inl p1)] := hl
  refine l_ild_n C dJ13_hugeLength_4 hl 0 rfl rfl ?_
  refine lv_if_ge (tgt := 49) C.1 C.2.1 dJ13_hugeLength_5 (by decide) (fun c2 => ?_) (fun c2 => ?_)
  · have h := h.1 c2
    refine l_ild_n C dJ13_hugeLength_49 hl 0 rfl rfl ?_
    refine lv_ldc C.1 C.2.1 C.2.2.2.1 (C.2.2.2.2.1.1.good q962 _) dJ13_hugeLength_50 ?_
    refine lv_icmp_gt (tgt := 58) C.1 C.2.1 dJ13_hugeLength_52 (by decide) (fun c1 => ?_) (fun c1 => ?_)
    · have h := h.1 c1
      refine l_ild_n C dJ13_hugeLength_58 hl 0 rfl rfl ?_
      exact r_int C.1 C.2.1 C.2.2.2.2.2.1 rfl C.2.2.2.2.2.2 ⟨rfl, rfl⟩ I dJ13_hugeLength_59 ⟨_, rfl, h⟩
    · have h := h.2 c1
      refine lv_ldc C.1 C.2.1 C.2.2.2.1 (C.2.2.2.2.1.1.good q962 _) dJ13_hugeLength_55 ?_
      exact r_int C.1 C.2.1 C.2.2.2.2.2.1 rfl C.2.2.2.2.2.2 ⟨rfl, rfl⟩ I dJ13_hugeLength_57 ⟨_, rfl, h⟩
  · have h := h.2 c2
    exact h.elim
def w_J13_newLength_21 (T : Nat → ClassId) (Q : Int32 → Hp → Prop) (l0 : Int32) (l1 : Int32) (G : Hp) : Prop := w_J13_hugeLength T (fun r2 G1 => Ext G G1 → Q r2 G1) l0 l1 G
set_option maxHeartbeats 4000000 in
theorem b_J13_newLength_21 {G0 : Hp} {Q : Int32 → Hp → Prop} (C : Cx p s m meth c D T Z "jdk/internal/util/ArraysSupport" cJ13_newLength 4 (some .int)) : ∀ (l0 : Int32) (l1 : Int32) (G : Hp) (H : Heap) (locs : List Loc) (cells slots : Nat) (ls : Array Slot), w_J13_newLength_21 T Q l0 l1 G → HI (twd D T Z) G0 s (rmX (twd D T Z) 1 22 G0) H locs cells slots G → LH ls 4 [(0, .inl l0), (1, .inl l1)] → W p l e (rmX (twd D T Z) 1 22 G0) s m args below meth c H locs cells slots (MQX (twd D T Z) G0 (qI Q) (fun _ _ => False) below s) (F0 m 21 ls []) := by
  intro l0 l1 G H locs cells slots ls h I hl
  refine l_ild_n C dJ13_newLength_21 hl 0 rfl rfl ?_
  refine l_ild_n C dJ13_newLength_22 hl 1 rfl rfl ?_
  refine k_call Ext.tr C I (k_S (As := [.int l0, .int l1]) (rest := []) (y := yJ13_hugeLength) C q963 q964 q127 (Or.inl rfl) q965 (by decide) rfl pd_J13_hugeLength rfl dJ13_newLength_23) (ct_J13_hugeLength h) hl.1 dJ13_newLength_23 [] rfl (Nat.le_of_ble_eq_true rfl) (Or.inl rfl) q965 q127 ⟨Nat.le_of_ble_eq_true rfl, Nat.le_of_ble_eq_true rfl⟩ (fun v G1 H locs cells slots xG1 hq I => ?_) (fun a G9 H locs cells slots ex hq I => hq.elim)
  obtain ⟨r2, rfl, h⟩ := hq
  have h := h xG1
  exact r_int C.1 C.2.1 C.2.2.2.2.2.1 rfl C.2.2.2.2.2.2 ⟨rfl, rfl⟩ I dJ13_newLength_26 ⟨_, rfl, h⟩
def w_J13_newLength (T : Nat → ClassId) (Q : Int32 → Hp → Prop) (p0 : Int32) (p1 : Int32) (p2 : Int32) (G : Hp) : Prop := (w_J7_max T (fun r2 G1 => Ext G G1 → (((p0 + r2) ≤ (0 : Int32)) → (w_J13_newLength_21 T Q p0 p1 G1)) ∧ ((¬ (p0 + r2) ≤ (0 : Int32)) → ((((2147483639 : Int32) < (p0 + r2)) → (w_J13_newLength_21 T Q p0 p1 G1)) ∧ ((¬ (2147483639 : Int32) < (p0 + r2)) → (Q ((p0 + r2)) G1))))) p1 p2 G)
theorem pd_J13_newLength : (parseMethodDescriptor yJ13_newLength.desc).map (fun d => d.parameters.length) = some 3 := by decide +kernel
set_option maxHeartbeats 4000000 in
theorem ct_J13_newLength {l : Launch} {D : va_G} {T : Nat → ClassId} {Z : Heap} {G0 : Hp} {Q : Int32 → Hp → Prop} {p0 : Int32} {p1 : Int32} {p2 : Int32} (hw : w_J13_newLength T Q p0 p1 p2 G0) : CT (twd D T Z) (Evd D T Z) l yJ13_newLength (Cond.code yJ13_newLength cJ13_newLength 4 (some .int)) 1 22 [.int p0, .int p1, .int p2] G0 (qI Q) (fun _ _ => False) := by
  refine CT.ofW (cc := cJ13_newLength) (nL := 4) (ret := (some .int)) Ext.rf (by decide +kernel) (Or.inl rfl) ?_
  intro p e s m below meth c hx hb hml hown hr hlk hnm hcb hm hc hn hE I
  have C : Cx p s m meth c D T Z "jdk/internal/util/ArraysSupport" cJ13_newLength 4 (some .int) := ⟨hx, hb, hml, hown, hE, hr, hlk⟩
  refine w_entry [.inl p0, .inl p1, .inl p2] (Nat.le_of_ble_eq_true rfl) (fun ls hl => ?_)
  have hl : LH ls 4 [(0, .inl p0), (1, .inl p1), (2, .inl p2)] := hl
  have h := hw
  refine l_ild_n C dJ13_newLength_0 hl 0 rfl rfl ?_
  refine l_ild_n C dJ13_newLength_1 hl 1 rfl rfl ?_
  refine l_ild_n C dJ13_newLength_2 hl 2 rfl rfl ?_
  refine k_call Ext.tr C I (k_S (As := [.int p1, .int p2]) (rest := [.int p0]) (y := yJ7_max) C q961 q554 q119 (Or.inl rfl) q555 (by decide) rfl pd_J7_max rfl dJ13_newLength_3) (ct_J7_max h) hl.1 dJ13_newLength_3 [.inl p0] rfl (Nat.le_of_ble_eq_true rfl) (Or.inl rfl) q555 q119 ⟨Nat.le_of_ble_eq_true rfl, Nat.le_of_ble_eq_true rfl⟩ (fun v G1 H locs cells slots xG1 hq I => ?_) (fun a G9 H locs cells slots ex hq I => hq.elim)
  obtain ⟨r2, rfl, h⟩ := hq
  have h := h xG1
  refine lv_iadd C.1 C.2.1 dJ13_newLength_6 ?_
  refine l_ist_n C dJ13_newLength_7 rfl hl (by decide) rfl (fun ls hl => ?_)
  have hl : LH ls 4 [(3, .inl ((p0 + r2))), (0, .inl p0), (1, .inl p1), (2, .inl p2)] := hl
  refine lv_iconst (v := 0) C.1 C.2.1 dJ13_newLength_8 (by decide) ?_
  refine l_ild_n C dJ13_newLength_9 hl 0 rfl rfl ?_
  refine lv_icmp_ge (tgt := 21) C.1 C.2.1 dJ13_newLength_10 (by decide) (fun c4 => ?_) (fun c4 => ?_)
  · have h := h.1 c4
    exact b_J13_newLength_21 C p0 p1 G1 _ _ _ _ _ h I (hl.sub [1, 2] rfl)
  · have h := h.2 c4
    refine l_ild_n C dJ13_newLength_13 hl 0 rfl rfl ?_
    refine lv_ldc C.1 C.2.1 C.2.2.2.1 (C.2.2.2.2.1.1.good q962 _) dJ13_newLength_14 ?_
    refine lv_icmp_gt (tgt := 21) C.1 C.2.1 dJ13_newLength_16 (by decide) (fun c3 => ?_) (fun c3 => ?_)
    · have h := h.1 c3
      exact b_J13_newLength_21 C p0 p1 G1 _ _ _ _ _ h I (hl.sub [1, 2] rfl)
    · have h := h.2 c3
      refine l_ild_n C dJ13_newLength_19 hl 0 rfl rfl ?_
      exact r_int C.1 C.2.1 C.2.2.2.2.2.1 rfl C.2.2.2.2.2.2 ⟨rfl, rfl⟩ I dJ13_newLength_20 ⟨_, rfl, h⟩
def w_J2_grow_2_20 (T : Nat → ClassId) (Q : Option Nat → Hp → Prop) (th : Option Nat) (l1 : Int32) (l2 : Int32) (G : Hp) : Prop := w_J13_newLength T (fun r2 G1 => Ext G G1 → w_J14_copyOf T (fun r4 G3 => Ext G1 G3 → ∀ G5 : Hp, G5 = wR G3 (ad th) 1 r4 → Q r4 G5) (gR G1 (ad th) 1) r2 G1) l2 ((l1 - l2)) ((l2 >>> ((1 : Int32) &&& 31))) G
set_option maxHeartbeats 4000000 in
theorem b_J2_grow_2_20 {G0 : Hp} {Q : Option Nat → Hp → Prop} {th : Option Nat} (C : Cx p s m meth c D T Z "java/util/ArrayList" cJ2_grow_2 4 (some (.array (.object "java/lang/Object")))) : ∀ (l1 : Int32) (l2 : Int32) (G : Hp) (H : Heap) (locs : List Loc) (cells slots : Nat) (ls : Array Slot), w_J2_grow_2_20 T Q th l1 l2 G → isO G th 16 → HI (twd D T Z) G0 s (rmX (twd D T Z) 3 141 G0) H locs cells slots G → LH ls 4 [(0, .inr (.inl th)), (1, .inl l1), (2, .inl l2)] → W p l e (rmX (twd D T Z) 3 141 G0) s m args below meth c H locs cells slots (MQX (twd D T Z) G0 (qR Q) (fun _ _ => False) below s) (F0 m 20 ls []) := by
  intro l1 l2 G H locs cells slots ls h hth I hl
  refine l_ild_n C dJ2_grow_2_20 hl 2 rfl rfl ?_
  refine l_ild_n C dJ2_grow_2_21 hl 1 rfl rfl ?_
  refine l_ild_n C dJ2_grow_2_22 hl 2 rfl rfl ?_
  refine lv_isub C.1 C.2.1 dJ2_grow_2_23 ?_
  refine l_ild_n C dJ2_grow_2_24 hl 2 rfl rfl ?_
  refine lv_iconst (v := 1) C.1 C.2.1 dJ2_grow_2_25 (by decide) ?_
  refine lv_ishr C.1 C.2.1 dJ2_grow_2_26 ?_
  refine k_call Ext.tr C I (k_S (As := [.int l2, .int ((l1 - l2)), .int ((l2 >>> ((1 : Int32) &&& 31)))]) (rest := []) (y := yJ13_newLength) C q958 q959 q127 (Or.inl rfl) q960 (by decide) rfl pd_J13_newLength rfl dJ2_grow_2_27) (ct_J13_newLength h) hl.1 dJ2_grow_2_27 [] rfl (Nat.le_of_ble_eq_true rfl) (Or.inl rfl) q960 q127 ⟨Nat.le_of_ble_eq_true rfl, Nat.le_of_ble_eq_true rfl⟩ (fun v G1 H locs cells slots xG1 hq I => ?_) (fun a G9 H locs cells slots ex hq I => hq.elim)
  obtain ⟨r2, rfl, h⟩ := hq
  have h := h xG1
  refine l_ist_n C dJ2_grow_2_30 rfl hl (by decide) rfl (fun ls hl => ?_)
  have hl : LH ls 4 [(3, .inl r2), (0, .inr (.inl th)), (1, .inl l1), (2, .inl l2)] := hl
  refine l_ald_n C dJ2_grow_2_31 hl 1 rfl rfl ?_
  refine l_ald_n C dJ2_grow_2_32 hl 1 rfl rfl ?_
  refine g_R C I fl_J2_9_16 (by decide) (by decide) (hth.ext (by decide) xG1) dJ2_grow_2_33 ?_
  refine l_ild_n C dJ2_grow_2_36 hl 0 rfl rfl ?_
  refine k_call Ext.tr C I (k_S (As := [va_rf (gR G1 (ad th) 1), .int r2]) (rest := [va_rf th]) (y := yJ14_copyOf) C q580 q581 q128 (Or.inl rfl) q582 (by decide) rfl pd_J14_copyOf rfl dJ2_grow_2_37) (ct_J14_copyOf h) hl.1 dJ2_grow_2_37 [.inr (.inl th)] rfl (Nat.le_of_ble_eq_true rfl) (Or.inl rfl) q582 q128 ⟨Nat.le_of_ble_eq_true rfl, Nat.le_of_ble_eq_true rfl⟩ (fun v G3 H locs cells slots xG3 hq I => ?_) (fun a G9 H locs cells slots ex hq I => hq.elim)
  obtain ⟨r4, rfl, h⟩ := hq
  have h := h xG3
  refine lv_dup_x1 C.1 C.2.1 dJ2_grow_2_40 (cat_rf _) (cat_rf _) ?_
  refine P_R C I fp_J2_9_16 (fun z => by cases z) (by decide) (by decide) (hth.ext (by decide) (Ext.tr _ _ _ xG1 xG3)) dJ2_grow_2_41 (fun x => fit_a x) (fun H locs G5 eG5 xG5 I => ?_)
  have h := h G5 eG5
  exact r_ref C.1 C.2.1 C.2.2.2.2.2.1 (Or.inr ⟨_, rfl⟩) C.2.2.2.2.2.2 ⟨rfl, rfl⟩ I dJ2_grow_2_44 ⟨_, rfl, h⟩
def w_J2_grow_2 (T : Nat → ClassId) (Q : Option Nat → Hp → Prop) (th : Option Nat) (p0 : Int32) (G : Hp) : Prop := isO G th 16 ∧ ((isO G (gR G (ad th) 1) 54 ∨ isO G (gR G (ad th) 1) 57) ∧ ((0 < nI (gN G (ad (gR G (ad th) 1)))) → (w_J2_grow_2_20 T Q th p0 (nI (gN G (ad (gR G (ad th) 1)))) G)) ∧ ((¬ 0 < nI (gN G (ad (gR G (ad th) 1)))) → (((gR G (ad th) 1 = (some (T 100))) → (w_J7_max T (fun r2 G1 => Ext G G1 → (¬ r2 < 0 ∧ r2.toNatClampNeg ≤ 100000 ∧ 1 ≤ gC G1 ∧ r2.toNatClampNeg ≤ gS G1) ∧ ∀ G3 : Hp, G3 = nw G1 54 r2.toNatClampNeg r2.toNatClampNeg → ∀ G4 : Hp, G4 = wR G3 (ad th) 1 ((some (gZ G1))) → Q ((some (gZ G1))) G4) ((10 : Int32)) p0 G)) ∧ ((¬ gR G (ad th) 1 = (some (T 100))) → (w_J2_grow_2_20 T Q th p0 (nI (gN G (ad (gR G (ad th) 1)))) G)))))
theorem pd_J2_grow_2 : (parseMethodDescriptor yJ2_grow_2.desc).map (fun d => d.parameters.length) = some 1 := by decide +kernel
set_option maxHeartbeats 4000000 in
theorem ct_J2_grow_2 {l : Launch} {D : va_G} {T : Nat → ClassId} {Z : Heap} {G0 : Hp} {Q : Option Nat → Hp → Prop} {th : Option Nat} {p0 : Int32} (hw : w_J2_grow_2 T Q th p0 G0) : CT (twd D T Z) (Evd D T Z) l yJ2_grow_2 (Cond.code yJ2_grow_2 cJ2_grow_2 4 (some (.array (.object "java/lang/Object")))) 3 141 [va_rf th, .int p0] G0 (qR Q) (fun _ _ => False) := by
  refine CT.ofW (cc := cJ2_grow_2) (nL := 4) (ret := (some (.array (.object "java/lang/Object")))) Ext.rf (by decide +kernel) (Or.inl rfl) ?_
  intro p e s m below meth c hx hb hml hown hr hlk hnm hcb hm hc hn hE I
  have C : Cx p s m meth c D T Z "java/util/ArrayList" cJ2_grow_2 4 (some (.array (.object "java/lang/Object"))) := ⟨hx, hb, hml, hown, hE, hr, hlk⟩
  refine w_entry [.inr (.inl th), .inl p0] (Nat.le_of_ble_eq_true rfl) (fun ls hl => ?_)
  have hl : LH ls 4 [(0, .inr (.inl th)), (1, .inl p0)] := hl
  obtain ⟨hth, h⟩ := hw
  refine l_ald_n C dJ2_grow_2_0 hl 0 rfl rfl ?_
  refine g_R C I fl_J2_9_16 (by decide) (by decide) hth dJ2_grow_2_1 ?_
  obtain ⟨ho54, h⟩ := h
  refine a_len54 C I ho54 dJ2_grow_2_4 ?_
  refine l_ist_n C dJ2_grow_2_5 rfl hl (by decide) rfl (fun ls hl => ?_)
  have hl : LH ls 4 [(2, .inl (nI (gN G0 (ad (gR G0 (ad th) 1))))), (0, .inr (.inl th)), (1, .inl p0)] := hl
  refine l_ild_n C dJ2_grow_2_6 hl 0 rfl rfl ?_
  refine lv_if_gt (tgt := 20) C.1 C.2.1 dJ2_grow_2_7 (by decide) (fun c6 => ?_) (fun c6 => ?_)
  · have h := h.1 c6
    exact b_J2_grow_2_20 C p0 (nI (gN G0 (ad (gR G0 (ad th) 1)))) G0 _ _ _ _ _ h hth I (hl.sub [1, 2, 0] rfl)
  · have h := h.2 c6
    refine l_ald_n C dJ2_grow_2_10 hl 1 rfl rfl ?_
    refine g_R C I fl_J2_9_16 (by decide) (by decide) hth dJ2_grow_2_11 ?_
    refine z_st0 C I q162 dJ2_grow_2_14 ?_
    refine lv_acmp_eq (tgt := 45) C.1 C.2.1 dJ2_grow_2_17 (by decide) (fun c5 => ?_) (fun c5 => ?_)
    · have h := h.1 c5
      refine l_ald_n C dJ2_grow_2_45 hl 1 rfl rfl ?_
      refine lv_bipush (v := 10) C.1 C.2.1 dJ2_grow_2_46 (by decide) ?_
      refine l_ild_n C dJ2_grow_2_48 hl 2 rfl rfl ?_
      refine k_call Ext.tr C I (k_S (As := [.int ((10 : Int32)), .int p0]) (rest := [va_rf th]) (y := yJ7_max) C q966 q554 q119 (Or.inl rfl) q555 (by decide) rfl pd_J7_max rfl dJ2_grow_2_49) (ct_J7_max h) hl.1 dJ2_grow_2_49 [.inr (.inl th)] rfl (Nat.le_of_ble_eq_true rfl) (Or.inl rfl) q555 q119 ⟨Nat.le_of_ble_eq_true rfl, Nat.le_of_ble_eq_true rfl⟩ (fun v G1 H locs cells slots xG1 hq I => ?_) (fun a G9 H locs cells slots ex hq I => hq.elim)
      obtain ⟨r2, rfl, h⟩ := hq
      have h := h xG1
      obtain ⟨hb, h⟩ := h
      refine N_aarr (kd := 54) C I (by decide) rfl q967 q610 hb dJ2_grow_2_52 (fun H cells slots G3 eG3 xG3 I => ?_)
      have h := h G3 eG3
      have hnG3 : isO G3 (some (gZ G1)) 54 := ⟨_, rfl, by rw [eG3]; exact gK_nw⟩
      refine lv_dup_x1 C.1 C.2.1 dJ2_grow_2_55 (cat_rf _) (cat_rf _) ?_
      refine P_R C I fp_J2_9_16 (fun z => by cases z) (by decide) (by decide) (hth.ext (by decide) (Ext.tr _ _ _ xG1 xG3)) dJ2_grow_2_56 (fun x => fit_a x) (fun H locs G4 eG4 xG4 I => ?_)
      have h := h G4 eG4
      exact r_ref C.1 C.2.1 C.2.2.2.2.2.1 (Or.inr ⟨_, rfl⟩) C.2.2.2.2.2.2 ⟨rfl, rfl⟩ I dJ2_grow_2_59 ⟨_, rfl, h⟩
    · have h := h.2 c5
      exact b_J2_grow_2_20 C p0 (nI (gN G0 (ad (gR G0 (ad th) 1)))) G0 _ _ _ _ _ h hth I (hl.sub [1, 2, 0] rfl)
def w_J2_grow (T : Nat → ClassId) (Q : Option Nat → Hp → Prop) (th : Option Nat) (G : Hp) : Prop := isO G th 16 ∧ (w_J2_grow_2 T (fun r2 G1 => Ext G G1 → Q r2 G1) th ((gI G (ad th) 2 + (1 : Int32))) G)
theorem pd_J2_grow : (parseMethodDescriptor yJ2_grow.desc).map (fun d => d.parameters.length) = some 0 := by decide +kernel
set_option maxHeartbeats 4000000 in
theorem ct_J2_grow {l : Launch} {D : va_G} {T : Nat → ClassId} {Z : Heap} {G0 : Hp} {Q : Option Nat → Hp → Prop} {th : Option Nat} (hw : w_J2_grow T Q th G0) : CT (twd D T Z) (Evd D T Z) l yJ2_grow (Cond.code yJ2_grow cJ2_grow 1 (some (.array (.object "java/lang/Object")))) 4 164 [va_rf th] G0 (qR Q) (fun _ _ => False) := by
  refine CT.ofW (cc := cJ2_grow) (nL := 1) (ret := (some (.array (.object "java/lang/Object")))) Ext.rf (by decide +kernel) (Or.inl rfl) ?_
  intro p e s m below meth c hx hb hml hown hr hlk hnm hcb hm hc hn hE I
  have C : Cx p s m meth c D T Z "java/util/ArrayList" cJ2_grow 1 (some (.array (.object "java/lang/Object"))) := ⟨hx, hb, hml, hown, hE, hr, hlk⟩
  refine w_entry [.inr (.inl th)] (Nat.le_of_ble_eq_true rfl) (fun ls hl => ?_)
  have hl : LH ls 1 [(0, .inr (.inl th))] := hl
  obtain ⟨hth, h⟩ := hw
  refine l_ald_n C dJ2_grow_0 hl 0 rfl rfl ?_
  refine l_ald_n C dJ2_grow_1 hl 0 rfl rfl ?_
  refine g_I C I fl_J2_48_16 (by decide) (by decide) hth dJ2_grow_2 ?_
  refine lv_iconst (v := 1) C.1 C.2.1 dJ2_grow_5 (by decide) ?_
  refine lv_iadd C.1 C.2.1 dJ2_grow_6 ?_
  refine k_call Ext.tr C I (k_V (r := th) (As := [.int ((gI G0 (ad th) 2 + (1 : Int32)))]) (rest := []) (y := yJ2_grow_2) C ⟨hth.ad.1, I.recv C.2.2.2.2.1 hth (by decide)⟩ q954 q956 qs24 (Or.inl rfl) q957 (by decide) rfl pd_J2_grow_2 rfl dJ2_grow_7) (ct_J2_grow_2 h) hl.1 dJ2_grow_7 [] rfl (Nat.le_of_ble_eq_true rfl) (Or.inl rfl) q957 q104 ⟨Nat.le_of_ble_eq_true rfl, Nat.le_of_ble_eq_true rfl⟩ (fun v G1 H locs cells slots xG1 hq I => ?_) (fun a G9 H locs cells slots ex hq I => hq.elim)
  obtain ⟨r2, rfl, h⟩ := hq
  have h := h xG1
  exact r_ref C.1 C.2.1 C.2.2.2.2.2.1 (Or.inr ⟨_, rfl⟩) C.2.2.2.2.2.2 ⟨rfl, rfl⟩ I dJ2_grow_10 ⟨_, rfl, h⟩
def w_J2_add_2_11 (T : Nat → ClassId) (Q : Hp → Prop) (th : Option Nat) (l1 : Option Nat) (l2 : Option Nat) (l3 : Int32) (G : Hp) : Prop := isO G l2 54 ∧ vp_in l3 (gN G (ad l2)) ∧ okA G 54 l1 ∧ ∀ G2 : Hp, G2 = wR G (ad l2) l3.toNatClampNeg l1 → ∀ G3 : Hp, G3 = wI G2 (ad th) 2 ((l3 + (1 : Int32))) → Q G3
set_option maxHeartbeats 4000000 in
theorem b_J2_add_2_11 {G0 : Hp} {Q : Hp → Prop} {th : Option Nat} (C : Cx p s m meth c D T Z "java/util/ArrayList" cJ2_add_2 4 none) : ∀ (l1 : Option Nat) (l2 : Option Nat) (l3 : Int32) (G : Hp) (H : Heap) (locs : List Loc) (cells slots : Nat) (ls : Array Slot), w_J2_add_2_11 T Q th l1 l2 l3 G → isO G th 16 → HI (twd D T Z) G0 s (rmX (twd D T Z) 5 184 G0) H locs cells slots G → LH ls 4 [(0, .inr (.inl th)), (1, .inr (.inl l1)), (2, .inr (.inl l2)), (3, .inl l3)] → W p l e (rmX (twd D T Z) 5 184 G0) s m args below meth c H locs cells slots (MQX (twd D T Z) G0 (qV Q) (fun _ _ => False) below s) (F0 m 11 ls []) := by
  intro l1 l2 l3 G H locs cells slots ls h hth I hl
  refine l_ald_n C dJ2_add_2_11 hl 2 rfl rfl ?_
  refine l_ild_n C dJ2_add_2_12 hl 3 rfl rfl ?_
  refine l_ald_n C dJ2_add_2_13 hl 1 rfl rfl ?_
  obtain ⟨ho1, h⟩ := h
  obtain ⟨hi, h⟩ := h
  obtain ⟨hok, h⟩ := h
  refine A_aast C I ho1 (by decide) rfl hok hi dJ2_add_2_14 (fun H locs G2 eG2 xG2 I => ?_)
  have h := h G2 eG2
  refine l_ald_n C dJ2_add_2_15 hl 0 rfl rfl ?_
  refine l_ild_n C dJ2_add_2_16 hl 3 rfl rfl ?_
  refine lv_iconst (v := 1) C.1 C.2.1 dJ2_add_2_17 (by decide) ?_
  refine lv_iadd C.1 C.2.1 dJ2_add_2_18 ?_
  refine P_I C I fp_J2_48_16 (fun z => by cases z) (by decide) (by decide) (hth.ext (by decide) xG2) dJ2_add_2_19 (fit_i _) (fun H locs G3 eG3 xG3 I => ?_)
  have h := h G3 eG3
  exact r_void C.1 C.2.1 C.2.2.2.2.2.1 C.2.2.2.2.2.2 ⟨rfl, rfl⟩ I dJ2_add_2_22 ⟨rfl, h⟩
def w_J2_add_2 (T : Nat → ClassId) (Q : Hp → Prop) (th : Option Nat) (p0 : Option Nat) (p1 : Option Nat) (p2 : Int32) (G : Hp) : Prop := isO G th 16 ∧ ((isO G p1 54 ∨ isO G p1 57) ∧ ((¬ p2 = nI (gN G (ad p1))) → (w_J2_add_2_11 T Q th p0 p1 p2 G)) ∧ ((p2 = nI (gN G (ad p1))) → (w_J2_grow T (fun r2 G1 => Ext G G1 → w_J2_add_2_11 T Q th p0 r2 p2 G1) th G)))
theorem pd_J2_add_2 : (parseMethodDescriptor yJ2_add_2.desc).map (fun d => d.parameters.length) = some 3 := by decide +kernel
set_option maxHeartbeats 4000000 in
theorem ct_J2_add_2 {l : Launch} {D : va_G} {T : Nat → ClassId} {Z : Heap} {G0 : Hp} {Q : Hp → Prop} {th : Option Nat} {p0 : Option Nat} {p1 : Option Nat} {p2 : Int32} (hw : w_J2_add_2 T Q th p0 p1 p2 G0) : CT (twd D T Z) (Evd D T Z) l yJ2_add_2 (Cond.code yJ2_add_2 cJ2_add_2 4 none) 5 184 [va_rf th, va_rf p0, va_rf p1, .int p2] G0 (qV Q) (fun _ _ => False) := by
  refine CT.ofW (cc := cJ2_add_2) (nL := 4) (ret := none) Ext.rf (by decide +kernel) (Or.inl rfl) ?_
  intro p e s m below meth c hx hb hml hown hr hlk hnm hcb hm hc hn hE I
  have C : Cx p s m meth c D T Z "java/util/ArrayList" cJ2_add_2 4 none := ⟨hx, hb, hml, hown, hE, hr, hlk⟩
  refine w_entry [.inr (.inl th), .inr (.inl p0), .inr (.inl p1), .inl p2] (Nat.le_of_ble_eq_true rfl) (fun ls hl => ?_)
  have hl : LH ls 4 [(0, .inr (.inl th)), (1, .inr (.inl p0)), (2, .inr (.inl p1)), (3, .inl p2)] := hl
  obtain ⟨hth, h⟩ := hw
  refine l_ild_n C dJ2_add_2_0 hl 3 rfl rfl ?_
  refine l_ald_n C dJ2_add_2_1 hl 2 rfl rfl ?_
  obtain ⟨ho54, h⟩ := h
  refine a_len54 C I ho54 dJ2_add_2_2 ?_
  refine lv_icmp_ne (tgt := 11) C.1 C.2.1 dJ2_add_2_3 (by decide) (fun c3 => ?_) (fun c3 => ?_)
  · have h := h.1 c3
    exact b_J2_add_2_11 C p0 p1 p2 G0 _ _ _ _ _ h hth I (hl.sub [0, 1, 2, 3] rfl)
  · have h := h.2 c3
    refine l_ald_n C dJ2_add_2_6 hl 0 rfl rfl ?_
    refine k_call Ext.tr C I (k_V (r := th) (As := []) (rest := []) (y := yJ2_grow) C ⟨hth.ad.1, I.recv C.2.2.2.2.1 hth (by decide)⟩ q950 q952 qs23 (Or.inl rfl) q953 (by decide) rfl pd_J2_grow rfl dJ2_add_2_7) (ct_J2_grow h) hl.1 dJ2_add_2_7 [] rfl (Nat.le_of_ble_eq_true rfl) (Or.inl rfl) q953 q104 ⟨Nat.le_of_ble_eq_true rfl, Nat.le_of_ble_eq_true rfl⟩ (fun v G1 H locs cells slots xG1 hq I => ?_) (fun a G9 H locs cells slots ex hq I => hq.elim)
    obtain ⟨r2, rfl, h⟩ := hq
    have h := h xG1
    refine l_ast_n C dJ2_add_2_10 rfl hl (by decide) rfl (fun ls hl => ?_)
    have hl : LH ls 4 [(2, .inr (.inl r2)), (0, .inr (.inl th)), (1, .inr (.inl p0)), (3, .inl p2)] := hl
    exact b_J2_add_2_11 C p0 r2 p2 G1 _ _ _ _ _ h (hth.ext (by decide) xG1) I (hl.sub [1, 2, 0, 3] rfl)
def w_J2_add (T : Nat → ClassId) (Q : Int32 → Hp → Prop) (th : Option Nat) (p0 : Option Nat) (G : Hp) : Prop := isO G th 16 ∧ (∀ G1 : Hp, G1 = wI G (ad th) 0 ((gI G (ad th) 0 + (1 : Int32))) → w_J2_add_2 T (fun G2 => Ext G1 G2 → Q (1 : Int32) G2) th p0 (gR G1 (ad th) 1) (gI G1 (ad th) 2) G1)
theorem pd_J2_add : (parseMethodDescriptor yJ2_add.desc).map (fun d => d.parameters.length) = some 1 := by decide +kernel
set_option maxHeartbeats 4000000 in
theorem ct_J2_add {l : Launch} {D : va_G} {T : Nat → ClassId} {Z : Heap} {G0 : Hp} {Q : Int32 → Hp → Prop} {th : Option Nat} {p0 : Option Nat} (hw : w_J2_add T Q th p0 G0) : CT (twd D T Z) (Evd D T Z) l yJ2_add (Cond.code yJ2_add cJ2_add 2 (some .boolean)) 6 207 [va_rf th, va_rf p0] G0 (qI Q) (fun _ _ => False) := by
  refine CT.ofW (cc := cJ2_add) (nL := 2) (ret := (some .boolean)) Ext.rf (by decide +kernel) (Or.inl rfl) ?_
  intro p e s m below meth c hx hb hml hown hr hlk hnm hcb hm hc hn hE I
  have C : Cx p s m meth c D T Z "java/util/ArrayList" cJ2_add 2 (some .boolean) := ⟨hx, hb, hml, hown, hE, hr, hlk⟩
  refine w_entry [.inr (.inl th), .inr (.inl p0)] (Nat.le_of_ble_eq_true rfl) (fun ls hl => ?_)
  have hl : LH ls 2 [(0, .inr (.inl th)), (1, .inr (.inl p0))] := hl
  obtain ⟨hth, h⟩ := hw
  refine l_ald_n C dJ2_add_0 hl 0 rfl rfl ?_
  refine lv_dup C.1 C.2.1 dJ2_add_1 (cat_rf _) ?_
  refine g_I C I fl_J2_63_16 (by decide) (by decide) hth dJ2_add_2 ?_
  refine lv_iconst (v := 1) C.1 C.2.1 dJ2_add_5 (by decide) ?_
  refine lv_iadd C.1 C.2.1 dJ2_add_6 ?_
  refine P_I C I fp_J2_63_16 (fun z => by cases z) (by decide) (by decide) hth dJ2_add_7 (fit_i _) (fun H locs G1 eG1 xG1 I => ?_)
  have h := h G1 eG1
  refine l_ald_n C dJ2_add_10 hl 0 rfl rfl ?_
  refine l_ald_n C dJ2_add_11 hl 1 rfl rfl ?_
  refine l_ald_n C dJ2_add_12 hl 0 rfl rfl ?_
  refine g_R C I fl_J2_9_16 (by decide) (by decide) (hth.ext (by decide) xG1) dJ2_add_13 ?_
  refine l_ald_n C dJ2_add_16 hl 0 rfl rfl ?_
  refine g_I C I fl_J2_48_16 (by decide) (by decide) (hth.ext (by decide) xG1) dJ2_add_17 ?_
  refine k_call Ext.tr C I (k_V (r := th) (As := [va_rf p0, va_rf (gR G1 (ad th) 1), .int (gI G1 (ad th) 2)]) (rest := []) (y := yJ2_add_2) C ⟨(hth.ext (by decide) xG1).ad.1, I.recv C.2.2.2.2.1 (hth.ext (by decide) xG1) (by decide)⟩ q946 q948 qs22 (Or.inl rfl) q949 (by decide) rfl pd_J2_add_2 rfl dJ2_add_20) (ct_J2_add_2 h) hl.1 dJ2_add_20 [] rfl (Nat.le_of_ble_eq_true rfl) (Or.inl rfl) q949 q104 ⟨Nat.le_of_ble_eq_true rfl, Nat.le_of_ble_eq_true rfl⟩ (fun v G2 H locs cells slots xG2 hq I => ?_) (fun a G9 H locs cells slots ex hq I => hq.elim)
  obtain ⟨rfl, h⟩ := hq
  have h := h xG2
  refine lv_iconst (v := 1) C.1 C.2.1 dJ2_add_23 (by decide) ?_
  exact r_int C.1 C.2.1 C.2.2.2.2.2.1 rfl C.2.2.2.2.2.2 ⟨rfl, rfl⟩ I dJ2_add_24 ⟨_, rfl, h⟩
def w_X15_has_2 (T : Nat → ClassId) (Q : Int32 → Hp → Prop) (th : Option Nat) : Nat → Int32 → Int32 → Hp → Prop
  | 0 => fun _ _ _ => False
  | f2 + 1 => fun l1 l2 G => ((gI G (ad th) 2 ≤ l2) → (Q (0 : Int32) G)) ∧ ((¬ gI G (ad th) 2 ≤ l2) → (isO G (gR G (ad th) 0) 50 ∧ vp_in l2 (gN G (ad (gR G (ad th) 0))) ∧ ((¬ gI G (ad (gR G (ad th) 0)) l2.toNatClampNeg = l1) → ((w_X15_has_2 T Q th f2) l1 ((l2 + 1)) G)) ∧ ((gI G (ad (gR G (ad th) 0)) l2.toNatClampNeg = l1) → (Q (1 : Int32) G))))
set_option maxHeartbeats 4000000 in
theorem b_X15_has_2 {G0 : Hp} {Q : Int32 → Hp → Prop} {th : Option Nat} (C : Cx p s m meth c D T Z "EndingTown$Rule" cX15_has 3 (some .boolean)) : ∀ (n : Nat) (l1 : Int32) (l2 : Int32) (G : Hp) (H : Heap) (locs : List Loc) (cells slots : Nat) (ls : Array Slot), w_X15_has_2 T Q th n l1 l2 G → isO G th 12 → HI (twd D T Z) G0 s (rmX (twd D T Z) 0 0 G0) H locs cells slots G → LH ls 3 [(0, .inr (.inl th)), (1, .inl l1), (2, .inl l2)] → W p l e (rmX (twd D T Z) 0 0 G0) s m args below meth c H locs cells slots (MQX (twd D T Z) G0 (qI Q) (fun _ _ => False) below s) (F0 m 2 ls []) := by
  intro f2
  induction f2 with
  | zero => intro l1 l2 G H locs cells slots ls h; exact (show False from h).elim
  | succ f2 ih =>
    intro l1 l2 G H locs cells slots ls h hth I hl
    have h : ((gI G (ad th) 2 ≤ l2) → (Q (0 : Int32) G)) ∧ ((¬ gI G (ad th) 2 ≤ l2) → (isO G (gR G (ad th) 0) 50 ∧ vp_in l2 (gN G (ad (gR G (ad th) 0))) ∧ ((¬ gI G (ad (gR G (ad th) 0)) l2.toNatClampNeg = l1) → ((w_X15_has_2 T Q th f2) l1 ((l2 + 1)) G)) ∧ ((gI G (ad (gR G (ad th) 0)) l2.toNatClampNeg = l1) → (Q (1 : Int32) G)))) := h
    have hk2 := ih
    refine l_ild_n C dX15_has_2 hl 2 rfl rfl ?_
    refine l_ald_n C dX15_has_3 hl 0 rfl rfl ?_
    refine g_I C I fl_X15_15_12 (by decide) (by decide) hth dX15_has_4 ?_
    refine lv_icmp_ge (tgt := 28) C.1 C.2.1 dX15_has_7 (by decide) (fun c3 => ?_) (fun c3 => ?_)
    · have h := h.1 c3
      refine lv_iconst (v := 0) C.1 C.2.1 dX15_has_28 (by decide) ?_
      exact r_int C.1 C.2.1 C.2.2.2.2.2.1 rfl C.2.2.2.2.2.2 ⟨rfl, rfl⟩ I dX15_has_29 ⟨_, rfl, h⟩
    · have h := h.2 c3
      refine l_ald_n C dX15_has_10 hl 0 rfl rfl ?_
      refine g_R C I fl_X15_9_12 (by decide) (by decide) hth dX15_has_11 ?_
      refine l_ild_n C dX15_has_14 hl 2 rfl rfl ?_
      obtain ⟨ho1, h⟩ := h
      obtain ⟨hi, h⟩ := h
      refine a_iald C I ho1 hi dX15_has_15 ?_
      refine l_ild_n C dX15_has_16 hl 1 rfl rfl ?_
      refine lv_icmp_ne (tgt := 22) C.1 C.2.1 dX15_has_17 (by decide) (fun c2 => ?_) (fun c2 => ?_)
      · have h := h.1 c2
        refine l_inc (q := 2) (v := 1) C dX15_has_22 hl rfl (by decide) (by decide) rfl (fun ls hl => ?_)
        have hl : LH ls 3 [(2, .inl ((l2 + 1))), (0, .inr (.inl th)), (1, .inl l1)] := hl
        refine lv_goto (tgt := 2) C.1 C.2.1 dX15_has_25 (by decide) ?_
        exact hk2 l1 ((l2 + 1)) G _ _ _ _ _ h hth I (hl.sub [1, 2, 0] rfl)
      · have h := h.2 c2
        refine lv_iconst (v := 1) C.1 C.2.1 dX15_has_20 (by decide) ?_
        exact r_int C.1 C.2.1 C.2.2.2.2.2.1 rfl C.2.2.2.2.2.2 ⟨rfl, rfl⟩ I dX15_has_21 ⟨_, rfl, h⟩
def w_X15_has (T : Nat → ClassId) (Q : Int32 → Hp → Prop) (th : Option Nat) (p0 : Int32) (G : Hp) : Prop := isO G th 12 ∧ (∃ n, w_X15_has_2 T Q th n p0 ((0 : Int32)) G)
theorem pd_X15_has : (parseMethodDescriptor yX15_has.desc).map (fun d => d.parameters.length) = some 1 := by decide +kernel
set_option maxHeartbeats 4000000 in
theorem ct_X15_has {l : Launch} {D : va_G} {T : Nat → ClassId} {Z : Heap} {G0 : Hp} {Q : Int32 → Hp → Prop} {th : Option Nat} {p0 : Int32} (hw : w_X15_has T Q th p0 G0) : CT (twd D T Z) (Evd D T Z) l yX15_has (Cond.code yX15_has cX15_has 3 (some .boolean)) 0 0 [va_rf th, .int p0] G0 (qI Q) (fun _ _ => False) := by
  refine CT.ofW (cc := cX15_has) (nL := 3) (ret := (some .boolean)) Ext.rf (by decide) (Or.inl rfl) ?_
  intro p e s m below meth c hx hb hml hown hr hlk hnm hcb hm hc hn hE I
  have C : Cx p s m meth c D T Z "EndingTown$Rule" cX15_has 3 (some .boolean) := ⟨hx, hb, hml, hown, hE, hr, hlk⟩
  refine w_entry [.inr (.inl th), .inl p0] (Nat.le_of_ble_eq_true rfl) (fun ls hl => ?_)
  have hl : LH ls 3 [(0, .inr (.inl th)), (1, .inl p0)] := hl
  obtain ⟨hth, h⟩ := hw
  refine lv_iconst (v := 0) C.1 C.2.1 dX15_has_0 (by decide) ?_
  refine l_ist_n C dX15_has_1 rfl hl (by decide) rfl (fun ls hl => ?_)
  have hl : LH ls 3 [(2, .inl ((0 : Int32))), (0, .inr (.inl th)), (1, .inl p0)] := hl
  obtain ⟨n, h⟩ := h
  exact b_X15_has_2 C n p0 ((0 : Int32)) G0 _ _ _ _ _ h hth I (hl.sub [1, 2, 0] rfl)
def w_X15_init (T : Nat → ClassId) (Q : Hp → Prop) (th : Option Nat) (G : Hp) : Prop := isO G th 12 ∧ ((¬ (3 : Int32) < 0 ∧ ((3 : Int32)).toNatClampNeg ≤ 100000 ∧ 1 ≤ gC G ∧ ((3 : Int32)).toNatClampNeg ≤ gS G) ∧ ∀ G1 : Hp, G1 = nw G 50 ((3 : Int32)).toNatClampNeg ((3 : Int32)).toNatClampNeg → ∀ G2 : Hp, G2 = wR G1 (ad th) 0 ((some (gZ G))) → Q G2)
theorem pd_X15_init : (parseMethodDescriptor yX15_init.desc).map (fun d => d.parameters.length) = some 0 := by decide +kernel
set_option maxHeartbeats 4000000 in
theorem ct_X15_init {l : Launch} {D : va_G} {T : Nat → ClassId} {Z : Heap} {G0 : Hp} {Q : Hp → Prop} {th : Option Nat} (hw : w_X15_init T Q th G0) : CT (twd D T Z) (Evd D T Z) l yX15_init (Cond.code yX15_init cX15_init 1 none) 1 20 [va_rf th] G0 (qV Q) (fun _ _ => False) := by
  refine CT.ofW (cc := cX15_init) (nL := 1) (ret := none) Ext.rf (by decide) (Or.inl rfl) ?_
  intro p e s m below meth c hx hb hml hown hr hlk hnm hcb hm hc hn hE I
  have C : Cx p s m meth c D T Z "EndingTown$Rule" cX15_init 1 none := ⟨hx, hb, hml, hown, hE, hr, hlk⟩
  refine w_entry [.inr (.inl th)] (Nat.le_of_ble_eq_true rfl) (fun ls hl => ?_)
  have hl : LH ls 1 [(0, .inr (.inl th))] := hl
  obtain ⟨hth, h⟩ := hw
  refine l_ald_n C dX15_init_0 hl 0 rfl rfl ?_
  refine k_objInit C hth.ad.1 q978 q142 q143 hl.1 dX15_init_1 (Nat.le_of_ble_eq_true rfl) ⟨Nat.le_of_ble_eq_true rfl, Nat.le_of_ble_eq_true rfl⟩ ?_
  refine l_ald_n C dX15_init_4 hl 0 rfl rfl ?_
  refine lv_iconst (v := 3) C.1 C.2.1 dX15_init_5 (by decide) ?_
  obtain ⟨hb, h⟩ := h
  refine N_arr (kd := 50) C I (by decide) rfl q234 hb dX15_init_6 (fun H cells slots G1 eG1 xG1 I => ?_)
  have h := h G1 eG1
  have hnG1 : isO G1 (some (gZ G0)) 50 := ⟨_, rfl, by rw [eG1]; exact gK_nw⟩
  refine P_R C I fp_X15_9_12 (fun _ => hnm) (by decide) (by decide) (hth.ext (by decide) xG1) dX15_init_8 (fun x => fit_a x) (fun H locs G2 eG2 xG2 I => ?_)
  have h := h G2 eG2
  exact r_void C.1 C.2.1 C.2.2.2.2.2.1 C.2.2.2.2.2.2 ⟨rfl, rfl⟩ I dX15_init_11 ⟨rfl, h⟩
def w_X12_rule_134 (T : Nat → ClassId) (Q : Hp → Prop) (E : Nat → Hp → Prop) (th : Option Nat) (k59 : Option Nat → Hp → Prop) (l1 : Option Nat) (l2 : Int32) (t0 : Int32) (G : Hp) : Prop := w_X12_want T (fun G1 => Ext G G1 → isO G1 l1 12 ∧ isO G1 (gR G1 (ad l1) 0) 50 ∧ vp_in (gI G1 (ad l1) 2) (gN G1 (ad (gR G1 (ad l1) 0))) ∧ ∀ G5 : Hp, G5 = wI G1 (ad (gR G1 (ad l1) 0)) (gI G1 (ad l1) 2).toNatClampNeg l2 → ∀ G6 : Hp, G6 = wI G5 (ad l1) 2 ((gI G5 (ad l1) 2 + (1 : Int32))) → w_X12_next T (fun G7 => Ext G6 G7 → ((gI G7 (ad th) 3 = (2 : Int32)) → (k59 l1 G7)) ∧ ((¬ gI G7 (ad th) 3 = (2 : Int32)) → (isO G7 (gR G7 (ad th) 1) 2 ∧ isO G7 (gR G7 (ad (gR G7 (ad th) 1)) 4) 16 ∧ w_J2_add T (fun r11 G10 => Ext G7 G10 → Q G10) (gR G7 (ad (gR G7 (ad th) 1)) 4) l1 G7))) th G6) E th t0 ((4 : Int32)) G
set_option maxHeartbeats 4000000 in
theorem b_X12_rule_134 {G0 : Hp} {Q : Hp → Prop} {E : Nat → Hp → Prop} {th : Option Nat} {k59 : Option Nat → Hp → Prop} (C : Cx p s m meth c D T Z "EndingTown$Reader" cX12_rule 3 none) (hex : ∀ z ∈ c.exceptionTable.toList, ∀ pc, covers z pc = false) (hLf : l.flags = flags0) (hk59 : ∀ (l1 : Option Nat) (G : Hp) (H : Heap) (locs : List Loc) (cells slots : Nat) (ls : Array Slot), k59 l1 G → isO G th 9 → HI (twd D T Z) G0 s (rmX (twd D T Z) 8 228 G0) H locs cells slots G → LH ls 3 [(0, .inr (.inl th)), (1, .inr (.inl l1))] → W p l e (rmX (twd D T Z) 8 228 G0) s m args below meth c H locs cells slots (MQX (twd D T Z) G0 (qV Q) E below s) (F0 m 59 ls [])) : ∀ (l1 : Option Nat) (l2 : Int32) (t0 : Int32) (G : Hp) (H : Heap) (locs : List Loc) (cells slots : Nat) (ls : Array Slot), w_X12_rule_134 T Q E th k59 l1 l2 t0 G → isO G th 9 → HI (twd D T Z) G0 s (rmX (twd D T Z) 8 228 G0) H locs cells slots G → LH ls 3 [(0, .inr (.inl th)), (1, .inr (.inl l1)), (2, .inl l2)] → W p l e (rmX (twd D T Z) 8 228 G0) s m args below meth c H locs cells slots (MQX (twd D T Z) G0 (qV Q) E below s) (F0 m 134 ls [.int t0, va_rf th]) := by
  intro l1 l2 t0 G H locs cells slots ls h hth I hl
  refine lv_iconst (v := 4) C.1 C.2.1 dX12_rule_134 (by decide) ?_
  refine k_call Ext.tr C I (k_V (r := th) (As := [.int t0, .int ((4 : Int32))]) (rest := []) (y := yX12_want) C ⟨hth.ad.1, I.recv C.2.2.2.2.1 hth (by decide)⟩ q830 q832 qs14 (Or.inl rfl) q833 (by decide) rfl pd_X12_want rfl dX12_rule_135) (ct_X12_want hLf h) hl.1 dX12_rule_135 [] rfl (Nat.le_of_ble_eq_true rfl) (Or.inl rfl) q833 q118 ⟨Nat.le_of_ble_eq_true rfl, Nat.le_of_ble_eq_true rfl⟩ (fun v G1 H locs cells slots xG1 hq I => ?_) (fun a G9 H locs cells slots ex hq I => t_out C.2.2.2.2.2.2 ⟨rfl, rfl⟩ (fun z hz => hex z hz _) I hq)
  obtain ⟨rfl, h⟩ := hq
  have h := h xG1
  refine l_ald_n C dX12_rule_138 hl 1 rfl rfl ?_
  obtain ⟨ho3, h⟩ := h
  refine g_R C I fl_X12_195_12 (by decide) (by decide) ho3 dX12_rule_139 ?_
  refine l_ald_n C dX12_rule_142 hl 1 rfl rfl ?_
  refine g_I C I fl_X12_188_12 (by decide) (by decide) ho3 dX12_rule_143 ?_
  refine l_ild_n C dX12_rule_146 hl 2 rfl rfl ?_
  obtain ⟨ho4, h⟩ := h
  obtain ⟨hi, h⟩ := h
  refine A_iast C I ho4 hi dX12_rule_147 (fun H locs G5 eG5 xG5 I => ?_)
  have h := h G5 eG5
  refine l_ald_n C dX12_rule_148 hl 1 rfl rfl ?_
  refine lv_dup C.1 C.2.1 dX12_rule_149 (cat_rf _) ?_
  refine g_I C I fl_X12_188_12 (by decide) (by decide) (ho3.ext (by decide) xG5) dX12_rule_150 ?_
  refine lv_iconst (v := 1) C.1 C.2.1 dX12_rule_153 (by decide) ?_
  refine lv_iadd C.1 C.2.1 dX12_rule_154 ?_
  refine P_I C I fp_X12_188_12 (fun z => by cases z) (by decide) (by decide) (ho3.ext (by decide) xG5) dX12_rule_155 (fit_i _) (fun H locs G6 eG6 xG6 I => ?_)
  have h := h G6 eG6
  refine l_ald_n C dX12_rule_158 hl 0 rfl rfl ?_
  refine k_call Ext.tr C I (k_V (r := th) (As := []) (rest := []) (y := yX12_next) C ⟨(hth.ext (by decide) (Ext.tr _ _ _ xG1 (Ext.tr _ _ _ xG5 xG6))).ad.1, I.recv C.2.2.2.2.1 (hth.ext (by decide) (Ext.tr _ _ _ xG1 (Ext.tr _ _ _ xG5 xG6))) (by decide)⟩ q751 q752 q753 (Or.inl rfl) q754 (by decide) rfl pd_X12_next rfl dX12_rule_159) (ct_X12_next h) hl.1 dX12_rule_159 [] rfl (Nat.le_of_ble_eq_true rfl) (Or.inl rfl) q754 q118 ⟨Nat.le_of_ble_eq_true rfl, Nat.le_of_ble_eq_true rfl⟩ (fun v G7 H locs cells slots xG7 hq I => ?_) (fun a G9 H locs cells slots ex hq I => hq.elim)
  obtain ⟨rfl, h⟩ := hq
  have h := h xG7
  refine l_ald_n C dX12_rule_162 hl 0 rfl rfl ?_
  refine g_I C I fl_X12_44_9 (by decide) (by decide) (hth.ext (by decide) (Ext.tr _ _ _ xG1 (Ext.tr _ _ _ xG5 (Ext.tr _ _ _ xG6 xG7)))) dX12_rule_163 ?_
  refine lv_iconst (v := 2) C.1 C.2.1 dX12_rule_166 (by decide) ?_
  refine lv_icmp_eq (tgt := 59) C.1 C.2.1 dX12_rule_167 (by decide) (fun c13 => ?_) (fun c13 => ?_)
  · have h := h.1 c13
    exact hk59 l1 G7 _ _ _ _ _ h (hth.ext (by decide) (Ext.tr _ _ _ xG1 (Ext.tr _ _ _ xG5 (Ext.tr _ _ _ xG6 xG7)))) I (hl.sub [0, 1] rfl)
  · have h := h.2 c13
    refine l_ald_n C dX12_rule_170 hl 0 rfl rfl ?_
    refine g_R C I fl_X12_18_9 (by decide) (by decide) (hth.ext (by decide) (Ext.tr _ _ _ xG1 (Ext.tr _ _ _ xG5 (Ext.tr _ _ _ xG6 xG7)))) dX12_rule_171 ?_
    obtain ⟨ho9, h⟩ := h
    refine g_R C I fl_X12_179_2 (by decide) (by decide) ho9 dX12_rule_174 ?_
    refine l_ald_n C dX12_rule_177 hl 1 rfl rfl ?_
    obtain ⟨ho12, h⟩ := h
    refine k_call Ext.tr C I (k_F (kd := 16) (r := gR G7 (ad (gR G7 (ad th) 1)) 4) (As := [va_rf l1]) (rest := []) (y := yJ2_add) (x := ⟨"java/util/List", "add", "(Ljava/lang/Object;)Z"⟩) C (by decide) ⟨ho12.ad.1, I.recv C.2.2.2.2.1 ho12 (by decide)⟩ q938 (by decide) q940 q939 q944 q942 q417 q941 q943 rfl pd_J2_add rfl dX12_rule_178) (ct_J2_add h) hl.1 dX12_rule_178 [] rfl (Nat.le_of_ble_eq_true rfl) (Or.inl rfl) q945 q104 ⟨Nat.le_of_ble_eq_true rfl, Nat.le_of_ble_eq_true rfl⟩ (fun v G10 H locs cells slots xG10 hq I => ?_) (fun a G9 H locs cells slots ex hq I => hq.elim)
    obtain ⟨r11, rfl, h⟩ := hq
    have h := h xG10
    refine lv_pop C.1 C.2.1 dX12_rule_183 rfl ?_
    exact r_void C.1 C.2.1 C.2.2.2.2.2.1 C.2.2.2.2.2.2 ⟨rfl, rfl⟩ I dX12_rule_184 ⟨rfl, h⟩
def w_X12_rule_133 (T : Nat → ClassId) (Q : Hp → Prop) (E : Nat → Hp → Prop) (th : Option Nat) (k59 : Option Nat → Hp → Prop) (l1 : Option Nat) (l2 : Int32) (G : Hp) : Prop := w_X12_rule_134 T Q E th k59 l1 l2 ((0 : Int32)) G
set_option maxHeartbeats 4000000 in
theorem b_X12_rule_133 {G0 : Hp} {Q : Hp → Prop} {E : Nat → Hp → Prop} {th : Option Nat} {k59 : Option Nat → Hp → Prop} (C : Cx p s m meth c D T Z "EndingTown$Reader" cX12_rule 3 none) (hex : ∀ z ∈ c.exceptionTable.toList, ∀ pc, covers z pc = false) (hLf : l.flags = flags0) (hk59 : ∀ (l1 : Option Nat) (G : Hp) (H : Heap) (locs : List Loc) (cells slots : Nat) (ls : Array Slot), k59 l1 G → isO G th 9 → HI (twd D T Z) G0 s (rmX (twd D T Z) 8 228 G0) H locs cells slots G → LH ls 3 [(0, .inr (.inl th)), (1, .inr (.inl l1))] → W p l e (rmX (twd D T Z) 8 228 G0) s m args below meth c H locs cells slots (MQX (twd D T Z) G0 (qV Q) E below s) (F0 m 59 ls [])) : ∀ (l1 : Option Nat) (l2 : Int32) (G : Hp) (H : Heap) (locs : List Loc) (cells slots : Nat) (ls : Array Slot), w_X12_rule_133 T Q E th k59 l1 l2 G → isO G th 9 → HI (twd D T Z) G0 s (rmX (twd D T Z) 8 228 G0) H locs cells slots G → LH ls 3 [(0, .inr (.inl th)), (1, .inr (.inl l1)), (2, .inl l2)] → W p l e (rmX (twd D T Z) 8 228 G0) s m args below meth c H locs cells slots (MQX (twd D T Z) G0 (qV Q) E below s) (F0 m 133 ls [va_rf th]) := by
  intro l1 l2 G H locs cells slots ls h hth I hl
  refine lv_iconst (v := 0) C.1 C.2.1 dX12_rule_133 (by decide) ?_
  exact b_X12_rule_134 C hex hLf hk59 l1 l2 ((0 : Int32)) G _ _ _ _ _ h hth I (hl.sub [0, 1, 2] rfl)
def w_X12_rule_91 (T : Nat → ClassId) (Q : Hp → Prop) (E : Nat → Hp → Prop) (th : Option Nat) (k59 : Option Nat → Hp → Prop) (l1 : Option Nat) (t0 : Int32) (G : Hp) : Prop := w_X12_want T (fun G1 => Ext G G1 → isO G1 (gR G1 (ad th) 1) 2 ∧ isO G1 (gR G1 (ad (gR G1 (ad th) 1)) 3) 16 ∧ w_J2_size T (fun r5 G4 => Ext G1 G4 → w_X12_oneNow T (fun r7 G6 => Ext G4 G6 → isO G6 l1 12 ∧ ((r7 = gI G6 (ad l1) 1) → (w_X12_rule_133 T Q E th k59 l1 r7 G6)) ∧ ((¬ r7 = gI G6 (ad l1) 1) → (w_X15_has T (fun r10 G9 => Ext G6 G9 → ((¬ r10 = 0) → (w_X12_rule_133 T Q E th k59 l1 r7 G9)) ∧ ((r10 = 0) → (w_X12_rule_134 T Q E th k59 l1 r7 ((1 : Int32)) G9))) l1 r7 G6))) E th r5 G4) (gR G1 (ad (gR G1 (ad th) 1)) 3) G1) E th t0 ((2 : Int32)) G
set_option maxHeartbeats 4000000 in
theorem b_X12_rule_91 {G0 : Hp} {Q : Hp → Prop} {E : Nat → Hp → Prop} {th : Option Nat} {k59 : Option Nat → Hp → Prop} (C : Cx p s m meth c D T Z "EndingTown$Reader" cX12_rule 3 none) (hex : ∀ z ∈ c.exceptionTable.toList, ∀ pc, covers z pc = false) (hLf : l.flags = flags0) (hk59 : ∀ (l1 : Option Nat) (G : Hp) (H : Heap) (locs : List Loc) (cells slots : Nat) (ls : Array Slot), k59 l1 G → isO G th 9 → HI (twd D T Z) G0 s (rmX (twd D T Z) 8 228 G0) H locs cells slots G → LH ls 3 [(0, .inr (.inl th)), (1, .inr (.inl l1))] → W p l e (rmX (twd D T Z) 8 228 G0) s m args below meth c H locs cells slots (MQX (twd D T Z) G0 (qV Q) E below s) (F0 m 59 ls [])) : ∀ (l1 : Option Nat) (t0 : Int32) (G : Hp) (H : Heap) (locs : List Loc) (cells slots : Nat) (ls : Array Slot), w_X12_rule_91 T Q E th k59 l1 t0 G → isO G th 9 → HI (twd D T Z) G0 s (rmX (twd D T Z) 8 228 G0) H locs cells slots G → LH ls 3 [(0, .inr (.inl th)), (1, .inr (.inl l1))] → W p l e (rmX (twd D T Z) 8 228 G0) s m args below meth c H locs cells slots (MQX (twd D T Z) G0 (qV Q) E below s) (F0 m 91 ls [.int t0, va_rf th]) := by
  intro l1 t0 G H locs cells slots ls h hth I hl
  refine lv_iconst (v := 2) C.1 C.2.1 dX12_rule_91 (by decide) ?_
  refine k_call Ext.tr C I (k_V (r := th) (As := [.int t0, .int ((2 : Int32))]) (rest := []) (y := yX12_want) C ⟨hth.ad.1, I.recv C.2.2.2.2.1 hth (by decide)⟩ q830 q832 qs14 (Or.inl rfl) q833 (by decide) rfl pd_X12_want rfl dX12_rule_92) (ct_X12_want hLf h) hl.1 dX12_rule_92 [] rfl (Nat.le_of_ble_eq_true rfl) (Or.inl rfl) q833 q118 ⟨Nat.le_of_ble_eq_true rfl, Nat.le_of_ble_eq_true rfl⟩ (fun v G1 H locs cells slots xG1 hq I => ?_) (fun a G9 H locs cells slots ex hq I => t_out C.2.2.2.2.2.2 ⟨rfl, rfl⟩ (fun z hz => hex z hz _) I hq)
  obtain ⟨rfl, h⟩ := hq
  have h := h xG1
  refine l_ald_n C dX12_rule_95 hl 0 rfl rfl ?_
  refine l_ald_n C dX12_rule_96 hl 0 rfl rfl ?_
  refine g_R C I fl_X12_18_9 (by decide) (by decide) (hth.ext (by decide) xG1) dX12_rule_97 ?_
  obtain ⟨ho3, h⟩ := h
  refine g_R C I fl_X12_147_2 (by decide) (by decide) ho3 dX12_rule_100 ?_
  obtain ⟨ho13, h⟩ := h
  refine k_call Ext.tr C I (k_F (kd := 16) (r := gR G1 (ad (gR G1 (ad th) 1)) 3) (As := []) (rest := [va_rf th]) (y := yJ2_size) (x := ⟨"java/util/List", "size", "()I"⟩) C (by decide) ⟨ho13.ad.1, I.recv C.2.2.2.2.1 ho13 (by decide)⟩ q890 (by decide) q426 q425 q430 q428 q417 q427 q429 rfl pd_J2_size rfl dX12_rule_103) (ct_J2_size h) hl.1 dX12_rule_103 [.inr (.inl th)] rfl (Nat.le_of_ble_eq_true rfl) (Or.inl rfl) q431 q104 ⟨Nat.le_of_ble_eq_true rfl, Nat.le_of_ble_eq_true rfl⟩ (fun v G4 H locs cells slots xG4 hq I => ?_) (fun a G9 H locs cells slots ex hq I => hq.elim)
  obtain ⟨r5, rfl, h⟩ := hq
  have h := h xG4
  refine k_call Ext.tr C I (k_V (r := th) (As := [.int r5]) (rest := []) (y := yX12_oneNow) C ⟨(hth.ext (by decide) (Ext.tr _ _ _ xG1 xG4)).ad.1, I.recv C.2.2.2.2.1 (hth.ext (by decide) (Ext.tr _ _ _ xG1 xG4)) (by decide)⟩ q879 q881 qs20 (Or.inl rfl) q882 (by decide) rfl pd_X12_oneNow rfl dX12_rule_108) (ct_X12_oneNow hLf h) hl.1 dX12_rule_108 [] rfl (Nat.le_of_ble_eq_true rfl) (Or.inl rfl) q882 q118 ⟨Nat.le_of_ble_eq_true rfl, Nat.le_of_ble_eq_true rfl⟩ (fun v G6 H locs cells slots xG6 hq I => ?_) (fun a G9 H locs cells slots ex hq I => t_out C.2.2.2.2.2.2 ⟨rfl, rfl⟩ (fun z hz => hex z hz _) I hq)
  obtain ⟨r7, rfl, h⟩ := hq
  have h := h xG6
  refine l_ist_n C dX12_rule_111 rfl hl (by decide) rfl (fun ls hl => ?_)
  have hl : LH ls 3 [(2, .inl r7), (0, .inr (.inl th)), (1, .inr (.inl l1))] := hl
  refine l_ald_n C dX12_rule_112 hl 1 rfl rfl ?_
  refine l_ild_n C dX12_rule_113 hl 0 rfl rfl ?_
  refine l_ald_n C dX12_rule_114 hl 2 rfl rfl ?_
  obtain ⟨ho8, h⟩ := h
  refine g_I C I fl_X12_185_12 (by decide) (by decide) ho8 dX12_rule_115 ?_
  refine lv_icmp_eq (tgt := 133) C.1 C.2.1 dX12_rule_118 (by decide) (fun c12 => ?_) (fun c12 => ?_)
  · have h := h.1 c12
    exact b_X12_rule_133 C hex hLf hk59 l1 r7 G6 _ _ _ _ _ h (hth.ext (by decide) (Ext.tr _ _ _ xG1 (Ext.tr _ _ _ xG4 xG6))) I (hl.sub [1, 2, 0] rfl)
  · have h := h.2 c12
    refine l_ald_n C dX12_rule_121 hl 2 rfl rfl ?_
    refine l_ild_n C dX12_rule_122 hl 0 rfl rfl ?_
    refine k_call Ext.tr C I (k_V (r := l1) (As := [.int r7]) (rest := [va_rf th]) (y := yX15_has) C ⟨ho8.ad.1, I.recv C.2.2.2.2.1 ho8 (by decide)⟩ q994 q995 q996 (Or.inl rfl) q997 (by decide) rfl pd_X15_has rfl dX12_rule_123) (ct_X15_has h) hl.1 dX12_rule_123 [.inr (.inl th)] rfl (Nat.le_of_ble_eq_true rfl) (Or.inl rfl) q997 q130 ⟨Nat.le_of_ble_eq_true rfl, Nat.le_of_ble_eq_true rfl⟩ (fun v G9 H locs cells slots xG9 hq I => ?_) (fun a G9 H locs cells slots ex hq I => hq.elim)
    obtain ⟨r10, rfl, h⟩ := hq
    have h := h xG9
    refine lv_if_ne (tgt := 133) C.1 C.2.1 dX12_rule_126 (by decide) (fun c11 => ?_) (fun c11 => ?_)
    · have h := h.1 c11
      exact b_X12_rule_133 C hex hLf hk59 l1 r7 G9 _ _ _ _ _ h (hth.ext (by decide) (Ext.tr _ _ _ xG1 (Ext.tr _ _ _ xG4 (Ext.tr _ _ _ xG6 xG9)))) I (hl.sub [1, 2, 0] rfl)
    · have h := h.2 c11
      refine lv_iconst (v := 1) C.1 C.2.1 dX12_rule_129 (by decide) ?_
      refine lv_goto (tgt := 134) C.1 C.2.1 dX12_rule_130 (by decide) ?_
      exact b_X12_rule_134 C hex hLf hk59 l1 r7 ((1 : Int32)) G9 _ _ _ _ _ h (hth.ext (by decide) (Ext.tr _ _ _ xG1 (Ext.tr _ _ _ xG4 (Ext.tr _ _ _ xG6 xG9)))) I (hl.sub [1, 2, 0] rfl)
def w_X12_rule_73 (T : Nat → ClassId) (Q : Hp → Prop) (E : Nat → Hp → Prop) (th : Option Nat) (k59 : Option Nat → Hp → Prop) (l1 : Option Nat) (t0 : Int32) (G : Hp) : Prop := w_X12_want T (fun G1 => Ext G G1 → isO G1 l1 12 ∧ (((3 : Int32) ≤ gI G1 (ad l1) 2) → (w_X12_rule_91 T Q E th k59 l1 ((0 : Int32)) G1)) ∧ ((¬ (3 : Int32) ≤ gI G1 (ad l1) 2) → (w_X12_rule_91 T Q E th k59 l1 ((1 : Int32)) G1))) E th t0 ((1 : Int32)) G
set_option maxHeartbeats 4000000 in
theorem b_X12_rule_73 {G0 : Hp} {Q : Hp → Prop} {E : Nat → Hp → Prop} {th : Option Nat} {k59 : Option Nat → Hp → Prop} (C : Cx p s m meth c D T Z "EndingTown$Reader" cX12_rule 3 none) (hex : ∀ z ∈ c.exceptionTable.toList, ∀ pc, covers z pc = false) (hLf : l.flags = flags0) (hk59 : ∀ (l1 : Option Nat) (G : Hp) (H : Heap) (locs : List Loc) (cells slots : Nat) (ls : Array Slot), k59 l1 G → isO G th 9 → HI (twd D T Z) G0 s (rmX (twd D T Z) 8 228 G0) H locs cells slots G → LH ls 3 [(0, .inr (.inl th)), (1, .inr (.inl l1))] → W p l e (rmX (twd D T Z) 8 228 G0) s m args below meth c H locs cells slots (MQX (twd D T Z) G0 (qV Q) E below s) (F0 m 59 ls [])) : ∀ (l1 : Option Nat) (t0 : Int32) (G : Hp) (H : Heap) (locs : List Loc) (cells slots : Nat) (ls : Array Slot), w_X12_rule_73 T Q E th k59 l1 t0 G → isO G th 9 → HI (twd D T Z) G0 s (rmX (twd D T Z) 8 228 G0) H locs cells slots G → LH ls 3 [(0, .inr (.inl th)), (1, .inr (.inl l1))] → W p l e (rmX (twd D T Z) 8 228 G0) s m args below meth c H locs cells slots (MQX (twd D T Z) G0 (qV Q) E below s) (F0 m 73 ls [.int t0, va_rf th]) := by
  intro l1 t0 G H locs cells slots ls h hth I hl
  refine lv_iconst (v := 1) C.1 C.2.1 dX12_rule_73 (by decide) ?_
  refine k_call Ext.tr C I (k_V (r := th) (As := [.int t0, .int ((1 : Int32))]) (rest := []) (y := yX12_want) C ⟨hth.ad.1, I.recv C.2.2.2.2.1 hth (by decide)⟩ q830 q832 qs14 (Or.inl rfl) q833 (by decide) rfl pd_X12_want rfl dX12_rule_74) (ct_X12_want hLf h) hl.1 dX12_rule_74 [] rfl (Nat.le_of_ble_eq_true rfl) (Or.inl rfl) q833 q118 ⟨Nat.le_of_ble_eq_true rfl, Nat.le_of_ble_eq_true rfl⟩ (fun v G1 H locs cells slots xG1 hq I => ?_) (fun a G9 H locs cells slots ex hq I => t_out C.2.2.2.2.2.2 ⟨rfl, rfl⟩ (fun z hz => hex z hz _) I hq)
  obtain ⟨rfl, h⟩ := hq
  have h := h xG1
  refine l_ald_n C dX12_rule_77 hl 0 rfl rfl ?_
  refine l_ald_n C dX12_rule_78 hl 1 rfl rfl ?_
  obtain ⟨ho3, h⟩ := h
  refine g_I C I fl_X12_188_12 (by decide) (by decide) ho3 dX12_rule_79 ?_
  refine lv_iconst (v := 3) C.1 C.2.1 dX12_rule_82 (by decide) ?_
  refine lv_icmp_ge (tgt := 90) C.1 C.2.1 dX12_rule_83 (by decide) (fun c4 => ?_) (fun c4 => ?_)
  · have h := h.1 c4
    refine lv_iconst (v := 0) C.1 C.2.1 dX12_rule_90 (by decide) ?_
    exact b_X12_rule_91 C hex hLf hk59 l1 ((0 : Int32)) G1 _ _ _ _ _ h (hth.ext (by decide) xG1) I (hl.sub [0, 1] rfl)
  · have h := h.2 c4
    refine lv_iconst (v := 1) C.1 C.2.1 dX12_rule_86 (by decide) ?_
    refine lv_goto (tgt := 91) C.1 C.2.1 dX12_rule_87 (by decide) ?_
    exact b_X12_rule_91 C hex hLf hk59 l1 ((1 : Int32)) G1 _ _ _ _ _ h (hth.ext (by decide) xG1) I (hl.sub [0, 1] rfl)
def w_X12_rule_59 (T : Nat → ClassId) (Q : Hp → Prop) (E : Nat → Hp → Prop) (th : Option Nat) : Nat → Option Nat → Hp → Prop
  | 0 => fun _ _ => False
  | f59 + 1 => fun l1 G => ((¬ gI G (ad th) 3 = (2 : Int32)) → (w_X12_rule_73 T Q E th (w_X12_rule_59 T Q E th f59) l1 ((0 : Int32)) G)) ∧ ((gI G (ad th) 3 = (2 : Int32)) → (w_X12_rule_73 T Q E th (w_X12_rule_59 T Q E th f59) l1 ((1 : Int32)) G))
set_option maxHeartbeats 4000000 in
theorem b_X12_rule_59 {G0 : Hp} {Q : Hp → Prop} {E : Nat → Hp → Prop} {th : Option Nat} (C : Cx p s m meth c D T Z "EndingTown$Reader" cX12_rule 3 none) (hex : ∀ z ∈ c.exceptionTable.toList, ∀ pc, covers z pc = false) (hLf : l.flags = flags0) : ∀ (n : Nat) (l1 : Option Nat) (G : Hp) (H : Heap) (locs : List Loc) (cells slots : Nat) (ls : Array Slot), w_X12_rule_59 T Q E th n l1 G → isO G th 9 → HI (twd D T Z) G0 s (rmX (twd D T Z) 8 228 G0) H locs cells slots G → LH ls 3 [(0, .inr (.inl th)), (1, .inr (.inl l1))] → W p l e (rmX (twd D T Z) 8 228 G0) s m args below meth c H locs cells slots (MQX (twd D T Z) G0 (qV Q) E below s) (F0 m 59 ls []) := by
  intro f59
  induction f59 with
  | zero => intro l1 G H locs cells slots ls h; exact (show False from h).elim
  | succ f59 ih =>
    intro l1 G H locs cells slots ls h hth I hl
    have h : ((¬ gI G (ad th) 3 = (2 : Int32)) → (w_X12_rule_73 T Q E th (w_X12_rule_59 T Q E th f59) l1 ((0 : Int32)) G)) ∧ ((gI G (ad th) 3 = (2 : Int32)) → (w_X12_rule_73 T Q E th (w_X12_rule_59 T Q E th f59) l1 ((1 : Int32)) G)) := h
    have hk59 := ih
    refine l_ald_n C dX12_rule_59 hl 0 rfl rfl ?_
    refine l_ald_n C dX12_rule_60 hl 0 rfl rfl ?_
    refine g_I C I fl_X12_44_9 (by decide) (by decide) hth dX12_rule_61 ?_
    refine lv_iconst (v := 2) C.1 C.2.1 dX12_rule_64 (by decide) ?_
    refine lv_icmp_ne (tgt := 72) C.1 C.2.1 dX12_rule_65 (by decide) (fun c1 => ?_) (fun c1 => ?_)
    · have h := h.1 c1
      refine lv_iconst (v := 0) C.1 C.2.1 dX12_rule_72 (by decide) ?_
      exact b_X12_rule_73 C hex hLf hk59 l1 ((0 : Int32)) G _ _ _ _ _ h hth I (hl.sub [0, 1] rfl)
    · have h := h.2 c1
      refine lv_iconst (v := 1) C.1 C.2.1 dX12_rule_68 (by decide) ?_
      refine lv_goto (tgt := 73) C.1 C.2.1 dX12_rule_69 (by decide) ?_
      exact b_X12_rule_73 C hex hLf hk59 l1 ((1 : Int32)) G _ _ _ _ _ h hth I (hl.sub [0, 1] rfl)
def w_X12_rule_23 (T : Nat → ClassId) (Q : Hp → Prop) (E : Nat → Hp → Prop) (th : Option Nat) (t0 : Int32) (G : Hp) : Prop := w_X12_want T (fun G1 => Ext G G1 → w_X12_next T (fun G3 => Ext G1 G3 → 1 ≤ gC G3 ∧ 3 ≤ gS G3 ∧ ∀ G5 : Hp, G5 = nw G3 12 0 3 → w_X15_init T (fun G6 => Ext G5 G6 → isO G6 (gR G6 (ad th) 1) 2 ∧ isO G6 (gR G6 (ad (gR G6 (ad th) 1)) 3) 16 ∧ w_J2_size T (fun r10 G9 => Ext G6 G9 → w_X12_one T (fun r12 G11 => Ext G9 G11 → ∀ G13 : Hp, G13 = wI G11 (ad ((some (gZ G3)))) 1 r12 → ∃ n, w_X12_rule_59 T Q E th n ((some (gZ G3))) G13) E th r10 G9) (gR G6 (ad (gR G6 (ad th) 1)) 3) G6) ((some (gZ G3))) G5) th G1) E th t0 ((2 : Int32)) G
set_option maxHeartbeats 4000000 in
theorem b_X12_rule_23 {G0 : Hp} {Q : Hp → Prop} {E : Nat → Hp → Prop} {th : Option Nat} (C : Cx p s m meth c D T Z "EndingTown$Reader" cX12_rule 3 none) (hex : ∀ z ∈ c.exceptionTable.toList, ∀ pc, covers z pc = false) (hLf : l.flags = flags0) : ∀ (t0 : Int32) (G : Hp) (H : Heap) (locs : List Loc) (cells slots : Nat) (ls : Array Slot), w_X12_rule_23 T Q E th t0 G → isO G th 9 → HI (twd D T Z) G0 s (rmX (twd D T Z) 8 228 G0) H locs cells slots G → LH ls 3 [(0, .inr (.inl th))] → W p l e (rmX (twd D T Z) 8 228 G0) s m args below meth c H locs cells slots (MQX (twd D T Z) G0 (qV Q) E below s) (F0 m 23 ls [.int t0, va_rf th]) := by
  intro t0 G H locs cells slots ls h hth I hl
  refine lv_iconst (v := 2) C.1 C.2.1 dX12_rule_23 (by decide) ?_
  refine k_call Ext.tr C I (k_V (r := th) (As := [.int t0, .int ((2 : Int32))]) (rest := []) (y := yX12_want) C ⟨hth.ad.1, I.recv C.2.2.2.2.1 hth (by decide)⟩ q830 q832 qs14 (Or.inl rfl) q833 (by decide) rfl pd_X12_want rfl dX12_rule_24) (ct_X12_want hLf h) hl.1 dX12_rule_24 [] rfl (Nat.le_of_ble_eq_true rfl) (Or.inl rfl) q833 q118 ⟨Nat.le_of_ble_eq_true rfl, Nat.le_of_ble_eq_true rfl⟩ (fun v G1 H locs cells slots xG1 hq I => ?_) (fun a G9 H locs cells slots ex hq I => t_out C.2.2.2.2.2.2 ⟨rfl, rfl⟩ (fun z hz => hex z hz _) I hq)
  obtain ⟨rfl, h⟩ := hq
  have h := h xG1
  refine l_ald_n C dX12_rule_27 hl 0 rfl rfl ?_
  refine k_call Ext.tr C I (k_V (r := th) (As := []) (rest := []) (y := yX12_next) C ⟨(hth.ext (by decide) xG1).ad.1, I.recv C.2.2.2.2.1 (hth.ext (by decide) xG1) (by decide)⟩ q751 q752 q753 (Or.inl rfl) q754 (by decide) rfl pd_X12_next rfl dX12_rule_28) (ct_X12_next h) hl.1 dX12_rule_28 [] rfl (Nat.le_of_ble_eq_true rfl) (Or.inl rfl) q754 q118 ⟨Nat.le_of_ble_eq_true rfl, Nat.le_of_ble_eq_true rfl⟩ (fun v G3 H locs cells slots xG3 hq I => ?_) (fun a G9 H locs cells slots ex hq I => hq.elim)
  obtain ⟨rfl, h⟩ := hq
  have h := h xG3
  obtain ⟨hb1, hb2, h⟩ := h
  refine N_obj (kd := 12) C I (by decide) q973 ⟨hb1, hb2⟩ dX12_rule_31 (fun H cells slots G5 eG5 xG5 I => ?_)
  have h := h G5 eG5
  have hnG5 : isO G5 (some (gZ G3)) 12 := ⟨_, rfl, by rw [eG5]; exact gK_nw⟩
  refine lv_dup C.1 C.2.1 dX12_rule_34 (cat_rf _) ?_
  refine k_call Ext.tr C I (k_IN (r := (some (gZ G3))) (As := []) (rest := [va_rf ((some (gZ G3)))]) (y := yX15_init) C hnG5.ad.1 rfl q975 q976 q977 (by decide) rfl pd_X15_init rfl dX12_rule_35) (ct_X15_init h) hl.1 dX12_rule_35 [.inr (.inl ((some (gZ G3))))] rfl (Nat.le_of_ble_eq_true rfl) (Or.inl rfl) q977 q130 ⟨Nat.le_of_ble_eq_true rfl, Nat.le_of_ble_eq_true rfl⟩ (fun v G6 H locs cells slots xG6 hq I => ?_) (fun a G9 H locs cells slots ex hq I => hq.elim)
  obtain ⟨rfl, h⟩ := hq
  have h := h xG6
  refine l_ast_n C dX12_rule_38 rfl hl (by decide) rfl (fun ls hl => ?_)
  have hl : LH ls 3 [(1, .inr (.inl ((some (gZ G3))))), (0, .inr (.inl th))] := hl
  refine l_ald_n C dX12_rule_39 hl 0 rfl rfl ?_
  refine l_ald_n C dX12_rule_40 hl 1 rfl rfl ?_
  refine l_ald_n C dX12_rule_41 hl 1 rfl rfl ?_
  refine g_R C I fl_X12_18_9 (by decide) (by decide) (hth.ext (by decide) (Ext.tr _ _ _ xG1 (Ext.tr _ _ _ xG3 (Ext.tr _ _ _ xG5 xG6)))) dX12_rule_42 ?_
  obtain ⟨ho8, h⟩ := h
  refine g_R C I fl_X12_147_2 (by decide) (by decide) ho8 dX12_rule_45 ?_
  obtain ⟨ho14, h⟩ := h
  refine k_call Ext.tr C I (k_F (kd := 16) (r := gR G6 (ad (gR G6 (ad th) 1)) 3) (As := []) (rest := [va_rf th, va_rf ((some (gZ G3)))]) (y := yJ2_size) (x := ⟨"java/util/List", "size", "()I"⟩) C (by decide) ⟨ho14.ad.1, I.recv C.2.2.2.2.1 ho14 (by decide)⟩ q890 (by decide) q426 q425 q430 q428 q417 q427 q429 rfl pd_J2_size rfl dX12_rule_48) (ct_J2_size h) hl.1 dX12_rule_48 [.inr (.inl th), .inr (.inl ((some (gZ G3))))] rfl (Nat.le_of_ble_eq_true rfl) (Or.inl rfl) q431 q104 ⟨Nat.le_of_ble_eq_true rfl, Nat.le_of_ble_eq_true rfl⟩ (fun v G9 H locs cells slots xG9 hq I => ?_) (fun a G9 H locs cells slots ex hq I => hq.elim)
  obtain ⟨r10, rfl, h⟩ := hq
  have h := h xG9
  refine k_call Ext.tr C I (k_V (r := th) (As := [.int r10]) (rest := [va_rf ((some (gZ G3)))]) (y := yX12_one) C ⟨(hth.ext (by decide) (Ext.tr _ _ _ xG1 (Ext.tr _ _ _ xG3 (Ext.tr _ _ _ xG5 (Ext.tr _ _ _ xG6 xG9))))).ad.1, I.recv C.2.2.2.2.1 (hth.ext (by decide) (Ext.tr _ _ _ xG1 (Ext.tr _ _ _ xG3 (Ext.tr _ _ _ xG5 (Ext.tr _ _ _ xG6 xG9))))) (by decide)⟩ q875 q877 qs19 (Or.inl rfl) q878 (by decide) rfl pd_X12_one rfl dX12_rule_53) (ct_X12_one hLf h) hl.1 dX12_rule_53 [.inr (.inl ((some (gZ G3))))] rfl (Nat.le_of_ble_eq_true rfl) (Or.inl rfl) q878 q118 ⟨Nat.le_of_ble_eq_true rfl, Nat.le_of_ble_eq_true rfl⟩ (fun v G11 H locs cells slots xG11 hq I => ?_) (fun a G9 H locs cells slots ex hq I => t_out C.2.2.2.2.2.2 ⟨rfl, rfl⟩ (fun z hz => hex z hz _) I hq)
  obtain ⟨r12, rfl, h⟩ := hq
  have h := h xG11
  refine P_I C I fp_X12_185_12 (fun z => by cases z) (by decide) (by decide) (hnG5.ext (by decide) (Ext.tr _ _ _ xG6 (Ext.tr _ _ _ xG9 xG11))) dX12_rule_56 (fit_i _) (fun H locs G13 eG13 xG13 I => ?_)
  have h := h G13 eG13
  obtain ⟨n, h⟩ := h
  exact b_X12_rule_59 C hex hLf n ((some (gZ G3))) G13 _ _ _ _ _ h (hth.ext (by decide) (Ext.tr _ _ _ xG1 (Ext.tr _ _ _ xG3 (Ext.tr _ _ _ xG5 (Ext.tr _ _ _ xG6 (Ext.tr _ _ _ xG9 (Ext.tr _ _ _ xG11 xG13))))))) I (hl.sub [1, 0] rfl)
def w_X12_rule (T : Nat → ClassId) (Q : Hp → Prop) (E : Nat → Hp → Prop) (th : Option Nat) (G : Hp) : Prop := isO G th 9 ∧ (isO G (gR G (ad th) 1) 2 ∧ isO G (gR G (ad (gR G (ad th) 1)) 4) 16 ∧ w_J2_size T (fun r3 G2 => Ext G G2 → (((6 : Int32) ≤ r3) → (w_X12_rule_23 T Q E th ((0 : Int32)) G2)) ∧ ((¬ (6 : Int32) ≤ r3) → (w_X12_rule_23 T Q E th ((1 : Int32)) G2))) (gR G (ad (gR G (ad th) 1)) 4) G)
theorem pd_X12_rule : (parseMethodDescriptor yX12_rule.desc).map (fun d => d.parameters.length) = some 0 := by decide +kernel
set_option maxHeartbeats 4000000 in
theorem ct_X12_rule {l : Launch} {D : va_G} {T : Nat → ClassId} {Z : Heap} {G0 : Hp} {Q : Hp → Prop} {E : Nat → Hp → Prop} {th : Option Nat} (hLf : l.flags = flags0) (hw : w_X12_rule T Q E th G0) : CT (twd D T Z) (Evd D T Z) l yX12_rule (Cond.code yX12_rule cX12_rule 3 none) 8 228 [va_rf th] G0 (qV Q) E := by
  refine CT.ofW (cc := cX12_rule) (nL := 3) (ret := none) Ext.rf (by decide) (Or.inl rfl) ?_
  intro p e s m below meth c hx hb hml hown hr hlk hnm hcb hm hc hn hE I
  have C : Cx p s m meth c D T Z "EndingTown$Reader" cX12_rule 3 none := ⟨hx, hb, hml, hown, hE, hr, hlk⟩
  have hex := noEx hn hm hc hcb
  refine w_entry [.inr (.inl th)] (Nat.le_of_ble_eq_true rfl) (fun ls hl => ?_)
  have hl : LH ls 3 [(0, .inr (.inl th))] := hl
  obtain ⟨hth, h⟩ := hw
  refine l_ald_n C dX12_rule_0 hl 0 rfl rfl ?_
  refine l_ald_n C dX12_rule_1 hl 0 rfl rfl ?_
  refine g_R C I fl_X12_18_9 (by decide) (by decide) hth dX12_rule_2 ?_
  obtain ⟨ho1, h⟩ := h
  refine g_R C I fl_X12_179_2 (by decide) (by decide) ho1 dX12_rule_5 ?_
  obtain ⟨ho5, h⟩ := h
  refine k_call Ext.tr C I (k_F (kd := 16) (r := gR G0 (ad (gR G0 (ad th) 1)) 4) (As := []) (rest := [va_rf th]) (y := yJ2_size) (x := ⟨"java/util/List", "size", "()I"⟩) C (by decide) ⟨ho5.ad.1, I.recv C.2.2.2.2.1 ho5 (by decide)⟩ q890 (by decide) q426 q425 q430 q428 q417 q427 q429 rfl pd_J2_size rfl dX12_rule_8) (ct_J2_size h) hl.1 dX12_rule_8 [.inr (.inl th)] rfl (Nat.le_of_ble_eq_true rfl) (Or.inl rfl) q431 q104 ⟨Nat.le_of_ble_eq_true rfl, Nat.le_of_ble_eq_true rfl⟩ (fun v G2 H locs cells slots xG2 hq I => ?_) (fun a G9 H locs cells slots ex hq I => hq.elim)
  obtain ⟨r3, rfl, h⟩ := hq
  have h := h xG2
  refine lv_bipush (v := 6) C.1 C.2.1 dX12_rule_13 (by decide) ?_
  refine lv_icmp_ge (tgt := 22) C.1 C.2.1 dX12_rule_15 (by decide) (fun c4 => ?_) (fun c4 => ?_)
  · have h := h.1 c4
    refine lv_iconst (v := 0) C.1 C.2.1 dX12_rule_22 (by decide) ?_
    exact b_X12_rule_23 C hex hLf ((0 : Int32)) G2 _ _ _ _ _ h (hth.ext (by decide) xG2) I (hl.sub [0] rfl)
  · have h := h.2 c4
    refine lv_iconst (v := 1) C.1 C.2.1 dX12_rule_18 (by decide) ?_
    refine lv_goto (tgt := 23) C.1 C.2.1 dX12_rule_19 (by decide) ?_
    exact b_X12_rule_23 C hex hLf ((1 : Int32)) G2 _ _ _ _ _ h (hth.ext (by decide) xG2) I (hl.sub [0] rfl)
def w_X14_init (T : Nat → ClassId) (Q : Hp → Prop) (th : Option Nat) (G : Hp) : Prop := isO G th 11 ∧ (Q G)
theorem pd_X14_init : (parseMethodDescriptor yX14_init.desc).map (fun d => d.parameters.length) = some 0 := by decide +kernel
set_option maxHeartbeats 4000000 in
theorem ct_X14_init {l : Launch} {D : va_G} {T : Nat → ClassId} {Z : Heap} {G0 : Hp} {Q : Hp → Prop} {th : Option Nat} (hw : w_X14_init T Q th G0) : CT (twd D T Z) (Evd D T Z) l yX14_init (Cond.code yX14_init cX14_init 1 none) 1 20 [va_rf th] G0 (qV Q) (fun _ _ => False) := by
  refine CT.ofW (cc := cX14_init) (nL := 1) (ret := none) Ext.rf (by decide) (Or.inl rfl) ?_
  intro p e s m below meth c hx hb hml hown hr hlk hnm hcb hm hc hn hE I
  have C : Cx p s m meth c D T Z "EndingTown$Thing" cX14_init 1 none := ⟨hx, hb, hml, hown, hE, hr, hlk⟩
  refine w_entry [.inr (.inl th)] (Nat.le_of_ble_eq_true rfl) (fun ls hl => ?_)
  have hl : LH ls 1 [(0, .inr (.inl th))] := hl
  obtain ⟨hth, h⟩ := hw
  refine l_ald_n C dX14_init_0 hl 0 rfl rfl ?_
  refine k_objInit C hth.ad.1 q896 q142 q143 hl.1 dX14_init_1 (Nat.le_of_ble_eq_true rfl) ⟨Nat.le_of_ble_eq_true rfl, Nat.le_of_ble_eq_true rfl⟩ ?_
  exact r_void C.1 C.2.1 C.2.2.2.2.2.1 C.2.2.2.2.2.2 ⟨rfl, rfl⟩ I dX14_init_4 ⟨rfl, h⟩
def w_X2_thingOf_2 (T : Nat → ClassId) (Q : Int32 → Hp → Prop) (th : Option Nat) : Nat → Int32 → Int32 → Hp → Prop
  | 0 => fun _ _ _ => False
  | f2 + 1 => fun l1 l2 G => isO G (gR G (ad th) 3) 16 ∧ w_J2_size T (fun r2 G1 => Ext G G1 → ((r2 ≤ l2) → (Q ((-1 : Int32)) G1)) ∧ ((¬ r2 ≤ l2) → (isO G1 (gR G1 (ad th) 3) 16 ∧ w_J2_get T (fun r4 G3 => Ext G1 G3 → (r4 = none ∨ isO G3 r4 11) ∧ isO G3 r4 11 ∧ ((¬ gI G3 (ad r4) 0 = l1) → ((w_X2_thingOf_2 T Q th f2) l1 ((l2 + 1)) G3)) ∧ ((gI G3 (ad r4) 0 = l1) → (Q l2 G3))) (gR G1 (ad th) 3) l2 G1))) (gR G (ad th) 3) G
set_option maxHeartbeats 4000000 in
theorem b_X2_thingOf_2 {G0 : Hp} {Q : Int32 → Hp → Prop} {th : Option Nat} (C : Cx p s m meth c D T Z "EndingTown$Village" cX2_thingOf 3 (some .int)) : ∀ (n : Nat) (l1 : Int32) (l2 : Int32) (G : Hp) (H : Heap) (locs : List Loc) (cells slots : Nat) (ls : Array Slot), w_X2_thingOf_2 T Q th n l1 l2 G → isO G th 2 → HI (twd D T Z) G0 s (rmX (twd D T Z) 3 64 G0) H locs cells slots G → LH ls 3 [(0, .inr (.inl th)), (1, .inl l1), (2, .inl l2)] → W p l e (rmX (twd D T Z) 3 64 G0) s m args below meth c H locs cells slots (MQX (twd D T Z) G0 (qI Q) (fun _ _ => False) below s) (F0 m 2 ls []) := by
  intro f2
  induction f2 with
  | zero => intro l1 l2 G H locs cells slots ls h; exact (show False from h).elim
  | succ f2 ih =>
    intro l1 l2 G H locs cells slots ls h hth I hl
    have h : isO G (gR G (ad th) 3) 16 ∧ w_J2_size T (fun r2 G1 => Ext G G1 → ((r2 ≤ l2) → (Q ((-1 : Int32)) G1)) ∧ ((¬ r2 ≤ l2) → (isO G1 (gR G1 (ad th) 3) 16 ∧ w_J2_get T (fun r4 G3 => Ext G1 G3 → (r4 = none ∨ isO G3 r4 11) ∧ isO G3 r4 11 ∧ ((¬ gI G3 (ad r4) 0 = l1) → ((w_X2_thingOf_2 T Q th f2) l1 ((l2 + 1)) G3)) ∧ ((gI G3 (ad r4) 0 = l1) → (Q l2 G3))) (gR G1 (ad th) 3) l2 G1))) (gR G (ad th) 3) G := h
    have hk2 := ih
    refine l_ild_n C dX2_thingOf_2 hl 2 rfl rfl ?_
    refine l_ald_n C dX2_thingOf_3 hl 0 rfl rfl ?_
    refine g_R C I fl_X2_27_2 (by decide) (by decide) hth dX2_thingOf_4 ?_
    obtain ⟨ho9, h⟩ := h
    refine k_call Ext.tr C I (k_F (kd := 16) (r := gR G (ad th) 3) (As := []) (rest := [.int l2]) (y := yJ2_size) (x := ⟨"java/util/List", "size", "()I"⟩) C (by decide) ⟨ho9.ad.1, I.recv C.2.2.2.2.1 ho9 (by decide)⟩ q931 (by decide) q426 q425 q430 q428 q417 q427 q429 rfl pd_J2_size rfl dX2_thingOf_7) (ct_J2_size h) hl.1 dX2_thingOf_7 [.inl l2] rfl (Nat.le_of_ble_eq_true rfl) (Or.inl rfl) q431 q104 ⟨Nat.le_of_ble_eq_true rfl, Nat.le_of_ble_eq_true rfl⟩ (fun v G1 H locs cells slots xG1 hq I => ?_) (fun a G9 H locs cells slots ex hq I => hq.elim)
    obtain ⟨r2, rfl, h⟩ := hq
    have h := h xG1
    refine lv_icmp_ge (tgt := 43) C.1 C.2.1 dX2_thingOf_12 (by decide) (fun c8 => ?_) (fun c8 => ?_)
    · have h := h.1 c8
      refine lv_iconst (v := (-1)) C.1 C.2.1 dX2_thingOf_43 (by decide) ?_
      exact r_int C.1 C.2.1 C.2.2.2.2.2.1 rfl C.2.2.2.2.2.2 ⟨rfl, rfl⟩ I dX2_thingOf_44 ⟨_, rfl, h⟩
    · have h := h.2 c8
      refine l_ald_n C dX2_thingOf_15 hl 0 rfl rfl ?_
      refine g_R C I fl_X2_27_2 (by decide) (by decide) (hth.ext (by decide) xG1) dX2_thingOf_16 ?_
      refine l_ild_n C dX2_thingOf_19 hl 2 rfl rfl ?_
      obtain ⟨ho7, h⟩ := h
      refine k_call Ext.tr C I (k_F (kd := 16) (r := gR G1 (ad th) 3) (As := [.int l2]) (rest := []) (y := yJ2_get) (x := ⟨"java/util/List", "get", "(I)Ljava/lang/Object;"⟩) C (by decide) ⟨ho7.ad.1, I.recv C.2.2.2.2.1 ho7 (by decide)⟩ q933 (by decide) q477 q476 q481 q479 q417 q478 q480 rfl pd_J2_get rfl dX2_thingOf_20) (ct_J2_get h) hl.1 dX2_thingOf_20 [] rfl (Nat.le_of_ble_eq_true rfl) (Or.inl rfl) q482 q104 ⟨Nat.le_of_ble_eq_true rfl, Nat.le_of_ble_eq_true rfl⟩ (fun v G3 H locs cells slots xG3 hq I => ?_) (fun a G9 H locs cells slots ex hq I => hq.elim)
      obtain ⟨r4, rfl, h⟩ := hq
      have h := h xG3
      obtain ⟨hcc, h⟩ := h
      refine c_cast (kd := 11) C I (by decide) q934 hcc dX2_thingOf_25 ?_
      obtain ⟨ho5, h⟩ := h
      refine g_I C I fl_X2_59_11 (by decide) (by decide) ho5 dX2_thingOf_28 ?_
      refine l_ild_n C dX2_thingOf_31 hl 1 rfl rfl ?_
      refine lv_icmp_ne (tgt := 37) C.1 C.2.1 dX2_thingOf_32 (by decide) (fun c6 => ?_) (fun c6 => ?_)
      · have h := h.1 c6
        refine l_inc (q := 2) (v := 1) C dX2_thingOf_37 hl rfl (by decide) (by decide) rfl (fun ls hl => ?_)
        have hl : LH ls 3 [(2, .inl ((l2 + 1))), (0, .inr (.inl th)), (1, .inl l1)] := hl
        refine lv_goto (tgt := 2) C.1 C.2.1 dX2_thingOf_40 (by decide) ?_
        exact hk2 l1 ((l2 + 1)) G3 _ _ _ _ _ h (hth.ext (by decide) (Ext.tr _ _ _ xG1 xG3)) I (hl.sub [1, 2, 0] rfl)
      · have h := h.2 c6
        refine l_ild_n C dX2_thingOf_35 hl 2 rfl rfl ?_
        exact r_int C.1 C.2.1 C.2.2.2.2.2.1 rfl C.2.2.2.2.2.2 ⟨rfl, rfl⟩ I dX2_thingOf_36 ⟨_, rfl, h⟩
def w_X2_thingOf (T : Nat → ClassId) (Q : Int32 → Hp → Prop) (th : Option Nat) (p0 : Int32) (G : Hp) : Prop := isO G th 2 ∧ (∃ n, w_X2_thingOf_2 T Q th n p0 ((0 : Int32)) G)
theorem pd_X2_thingOf : (parseMethodDescriptor yX2_thingOf.desc).map (fun d => d.parameters.length) = some 1 := by decide +kernel
set_option maxHeartbeats 4000000 in
theorem ct_X2_thingOf {l : Launch} {D : va_G} {T : Nat → ClassId} {Z : Heap} {G0 : Hp} {Q : Int32 → Hp → Prop} {th : Option Nat} {p0 : Int32} (hw : w_X2_thingOf T Q th p0 G0) : CT (twd D T Z) (Evd D T Z) l yX2_thingOf (Cond.code yX2_thingOf cX2_thingOf 3 (some .int)) 3 64 [va_rf th, .int p0] G0 (qI Q) (fun _ _ => False) := by
  refine CT.ofW (cc := cX2_thingOf) (nL := 3) (ret := (some .int)) Ext.rf (by decide) (Or.inl rfl) ?_
  intro p e s m below meth c hx hb hml hown hr hlk hnm hcb hm hc hn hE I
  have C : Cx p s m meth c D T Z "EndingTown$Village" cX2_thingOf 3 (some .int) := ⟨hx, hb, hml, hown, hE, hr, hlk⟩
  refine w_entry [.inr (.inl th), .inl p0] (Nat.le_of_ble_eq_true rfl) (fun ls hl => ?_)
  have hl : LH ls 3 [(0, .inr (.inl th)), (1, .inl p0)] := hl
  obtain ⟨hth, h⟩ := hw
  refine lv_iconst (v := 0) C.1 C.2.1 dX2_thingOf_0 (by decide) ?_
  refine l_ist_n C dX2_thingOf_1 rfl hl (by decide) rfl (fun ls hl => ?_)
  have hl : LH ls 3 [(2, .inl ((0 : Int32))), (0, .inr (.inl th)), (1, .inl p0)] := hl
  obtain ⟨n, h⟩ := h
  exact b_X2_thingOf_2 C n p0 ((0 : Int32)) G0 _ _ _ _ _ h hth I (hl.sub [1, 2, 0] rfl)
def w_X12_thing_85 (T : Nat → ClassId) (Q : Hp → Prop) (E : Nat → Hp → Prop) (th : Option Nat) (l1 : Option Nat) (t0 : Int32) (G : Hp) : Prop := w_X12_want T (fun G1 => Ext G G1 → w_X12_next T (fun G3 => Ext G1 G3 → isO G3 (gR G3 (ad th) 1) 2 ∧ w_X12_one T (fun r7 G6 => Ext G3 G6 → isO G6 l1 11 ∧ ∀ G9 : Hp, G9 = wI G6 (ad l1) 1 r7 → w_X12_number T (fun r11 G10 => Ext G9 G10 → ∀ G12 : Hp, G12 = wI G10 (ad l1) 2 r11 → w_X12_passes T (fun r14 G13 => Ext G12 G13 → bz r14 ∧ ∀ G15 : Hp, G15 = wI G13 (ad l1) 3 r14 → w_X12_passes T (fun r17 G16 => Ext G15 G16 → bz r17 ∧ ∀ G18 : Hp, G18 = wI G16 (ad l1) 4 r17 → isO G18 (gR G18 (ad th) 1) 2 ∧ isO G18 (gR G18 (ad (gR G18 (ad th) 1)) 3) 16 ∧ w_J2_add T (fun r21 G20 => Ext G18 G20 → Q G20) (gR G18 (ad (gR G18 (ad th) 1)) 3) l1 G18) th ((some (T 125))) G15) th ((some (T 124))) G12) E th ((0 : Int32)) ((23 : Int32)) G9) E th (gI G3 (ad (gR G3 (ad th) 1)) 9) G3) th G1) E th t0 ((4 : Int32)) G
set_option maxHeartbeats 4000000 in
theorem b_X12_thing_85 {G0 : Hp} {Q : Hp → Prop} {E : Nat → Hp → Prop} {th : Option Nat} (C : Cx p s m meth c D T Z "EndingTown$Reader" cX12_thing 2 none) (hex : ∀ z ∈ c.exceptionTable.toList, ∀ pc, covers z pc = false) (hLf : l.flags = flags0) : ∀ (l1 : Option Nat) (t0 : Int32) (G : Hp) (H : Heap) (locs : List Loc) (cells slots : Nat) (ls : Array Slot), w_X12_thing_85 T Q E th l1 t0 G → isO G th 9 → HI (twd D T Z) G0 s (rmX (twd D T Z) 8 228 G0) H locs cells slots G → LH ls 2 [(0, .inr (.inl th)), (1, .inr (.inl l1))] → W p l e (rmX (twd D T Z) 8 228 G0) s m args below meth c H locs cells slots (MQX (twd D T Z) G0 (qV Q) E below s) (F0 m 85 ls [.int t0, va_rf th]) := by
  intro l1 t0 G H locs cells slots ls h hth I hl
  refine lv_iconst (v := 4) C.1 C.2.1 dX12_thing_85 (by decide) ?_
  refine k_call Ext.tr C I (k_V (r := th) (As := [.int t0, .int ((4 : Int32))]) (rest := []) (y := yX12_want) C ⟨hth.ad.1, I.recv C.2.2.2.2.1 hth (by decide)⟩ q830 q832 qs14 (Or.inl rfl) q833 (by decide) rfl pd_X12_want rfl dX12_thing_86) (ct_X12_want hLf h) hl.1 dX12_thing_86 [] rfl (Nat.le_of_ble_eq_true rfl) (Or.inl rfl) q833 q118 ⟨Nat.le_of_ble_eq_true rfl, Nat.le_of_ble_eq_true rfl⟩ (fun v G1 H locs cells slots xG1 hq I => ?_) (fun a G9 H locs cells slots ex hq I => t_out C.2.2.2.2.2.2 ⟨rfl, rfl⟩ (fun z hz => hex z hz _) I hq)
  obtain ⟨rfl, h⟩ := hq
  have h := h xG1
  refine l_ald_n C dX12_thing_89 hl 0 rfl rfl ?_
  refine k_call Ext.tr C I (k_V (r := th) (As := []) (rest := []) (y := yX12_next) C ⟨(hth.ext (by decide) xG1).ad.1, I.recv C.2.2.2.2.1 (hth.ext (by decide) xG1) (by decide)⟩ q751 q752 q753 (Or.inl rfl) q754 (by decide) rfl pd_X12_next rfl dX12_thing_90) (ct_X12_next h) hl.1 dX12_thing_90 [] rfl (Nat.le_of_ble_eq_true rfl) (Or.inl rfl) q754 q118 ⟨Nat.le_of_ble_eq_true rfl, Nat.le_of_ble_eq_true rfl⟩ (fun v G3 H locs cells slots xG3 hq I => ?_) (fun a G9 H locs cells slots ex hq I => hq.elim)
  obtain ⟨rfl, h⟩ := hq
  have h := h xG3
  refine l_ald_n C dX12_thing_93 hl 1 rfl rfl ?_
  refine l_ald_n C dX12_thing_94 hl 0 rfl rfl ?_
  refine l_ald_n C dX12_thing_95 hl 0 rfl rfl ?_
  refine g_R C I fl_X12_18_9 (by decide) (by decide) (hth.ext (by decide) (Ext.tr _ _ _ xG1 xG3)) dX12_thing_96 ?_
  obtain ⟨ho5, h⟩ := h
  refine g_I C I fl_X12_137_2 (by decide) (by decide) ho5 dX12_thing_99 ?_
  refine k_call Ext.tr C I (k_V (r := th) (As := [.int (gI G3 (ad (gR G3 (ad th) 1)) 9)]) (rest := [va_rf l1]) (y := yX12_one) C ⟨(hth.ext (by decide) (Ext.tr _ _ _ xG1 xG3)).ad.1, I.recv C.2.2.2.2.1 (hth.ext (by decide) (Ext.tr _ _ _ xG1 xG3)) (by decide)⟩ q875 q877 qs19 (Or.inl rfl) q878 (by decide) rfl pd_X12_one rfl dX12_thing_102) (ct_X12_one hLf h) hl.1 dX12_thing_102 [.inr (.inl l1)] rfl (Nat.le_of_ble_eq_true rfl) (Or.inl rfl) q878 q118 ⟨Nat.le_of_ble_eq_true rfl, Nat.le_of_ble_eq_true rfl⟩ (fun v G6 H locs cells slots xG6 hq I => ?_) (fun a G9 H locs cells slots ex hq I => t_out C.2.2.2.2.2.2 ⟨rfl, rfl⟩ (fun z hz => hex z hz _) I hq)
  obtain ⟨r7, rfl, h⟩ := hq
  have h := h xG6
  obtain ⟨ho8, h⟩ := h
  refine P_I C I fp_X12_162_11 (fun z => by cases z) (by decide) (by decide) ho8 dX12_thing_105 (fit_i _) (fun H locs G9 eG9 xG9 I => ?_)
  have h := h G9 eG9
  refine l_ald_n C dX12_thing_108 hl 1 rfl rfl ?_
  refine l_ald_n C dX12_thing_109 hl 0 rfl rfl ?_
  refine lv_iconst (v := 0) C.1 C.2.1 dX12_thing_110 (by decide) ?_
  refine lv_bipush (v := 23) C.1 C.2.1 dX12_thing_111 (by decide) ?_
  refine k_call Ext.tr C I (k_V (r := th) (As := [.int ((0 : Int32)), .int ((23 : Int32))]) (rest := [va_rf l1]) (y := yX12_number) C ⟨(hth.ext (by decide) (Ext.tr _ _ _ xG1 (Ext.tr _ _ _ xG3 (Ext.tr _ _ _ xG6 xG9)))).ad.1, I.recv C.2.2.2.2.1 (hth.ext (by decide) (Ext.tr _ _ _ xG1 (Ext.tr _ _ _ xG3 (Ext.tr _ _ _ xG6 xG9)))) (by decide)⟩ q858 q860 qs15 (Or.inl rfl) q861 (by decide) rfl pd_X12_number rfl dX12_thing_113) (ct_X12_number hLf h) hl.1 dX12_thing_113 [.inr (.inl l1)] rfl (Nat.le_of_ble_eq_true rfl) (Or.inl rfl) q861 q118 ⟨Nat.le_of_ble_eq_true rfl, Nat.le_of_ble_eq_true rfl⟩ (fun v G10 H locs cells slots xG10 hq I => ?_) (fun a G9 H locs cells slots ex hq I => t_out C.2.2.2.2.2.2 ⟨rfl, rfl⟩ (fun z hz => hex z hz _) I hq)
  obtain ⟨r11, rfl, h⟩ := hq
  have h := h xG10
  refine P_I C I fp_X12_165_11 (fun z => by cases z) (by decide) (by decide) (ho8.ext (by decide) (Ext.tr _ _ _ xG9 xG10)) dX12_thing_116 (fit_i _) (fun H locs G12 eG12 xG12 I => ?_)
  have h := h G12 eG12
  refine l_ald_n C dX12_thing_119 hl 1 rfl rfl ?_
  refine l_ald_n C dX12_thing_120 hl 0 rfl rfl ?_
  refine z_ls (i := 4) C I q935 rfl (by decide) dX12_thing_121 ?_
  refine k_call Ext.tr C I (k_V (r := th) (As := [va_rf ((some (T 124)))]) (rest := [va_rf l1]) (y := yX12_passes) C ⟨(hth.ext (by decide) (Ext.tr _ _ _ xG1 (Ext.tr _ _ _ xG3 (Ext.tr _ _ _ xG6 (Ext.tr _ _ _ xG9 (Ext.tr _ _ _ xG10 xG12)))))).ad.1, I.recv C.2.2.2.2.1 (hth.ext (by decide) (Ext.tr _ _ _ xG1 (Ext.tr _ _ _ xG3 (Ext.tr _ _ _ xG6 (Ext.tr _ _ _ xG9 (Ext.tr _ _ _ xG10 xG12)))))) (by decide)⟩ q867 q869 qs17 (Or.inl rfl) q870 (by decide) rfl pd_X12_passes rfl dX12_thing_123) (ct_X12_passes h) hl.1 dX12_thing_123 [.inr (.inl l1)] rfl (Nat.le_of_ble_eq_true rfl) (Or.inl rfl) q870 q118 ⟨Nat.le_of_ble_eq_true rfl, Nat.le_of_ble_eq_true rfl⟩ (fun v G13 H locs cells slots xG13 hq I => ?_) (fun a G9 H locs cells slots ex hq I => hq.elim)
  obtain ⟨r14, rfl, h⟩ := hq
  have h := h xG13
  obtain ⟨hz, h⟩ := h
  refine P_I C I fp_X12_173_11 (fun z => by cases z) (by decide) (by decide) (ho8.ext (by decide) (Ext.tr _ _ _ xG9 (Ext.tr _ _ _ xG10 (Ext.tr _ _ _ xG12 xG13)))) dX12_thing_126 (fit_z hz) (fun H locs G15 eG15 xG15 I => ?_)
  have h := h G15 eG15
  refine l_ald_n C dX12_thing_129 hl 1 rfl rfl ?_
  refine l_ald_n C dX12_thing_130 hl 0 rfl rfl ?_
  refine z_ls (i := 5) C I q936 rfl (by decide) dX12_thing_131 ?_
  refine k_call Ext.tr C I (k_V (r := th) (As := [va_rf ((some (T 125)))]) (rest := [va_rf l1]) (y := yX12_passes) C ⟨(hth.ext (by decide) (Ext.tr _ _ _ xG1 (Ext.tr _ _ _ xG3 (Ext.tr _ _ _ xG6 (Ext.tr _ _ _ xG9 (Ext.tr _ _ _ xG10 (Ext.tr _ _ _ xG12 (Ext.tr _ _ _ xG13 xG15)))))))).ad.1, I.recv C.2.2.2.2.1 (hth.ext (by decide) (Ext.tr _ _ _ xG1 (Ext.tr _ _ _ xG3 (Ext.tr _ _ _ xG6 (Ext.tr _ _ _ xG9 (Ext.tr _ _ _ xG10 (Ext.tr _ _ _ xG12 (Ext.tr _ _ _ xG13 xG15)))))))) (by decide)⟩ q867 q869 qs17 (Or.inl rfl) q870 (by decide) rfl pd_X12_passes rfl dX12_thing_133) (ct_X12_passes h) hl.1 dX12_thing_133 [.inr (.inl l1)] rfl (Nat.le_of_ble_eq_true rfl) (Or.inl rfl) q870 q118 ⟨Nat.le_of_ble_eq_true rfl, Nat.le_of_ble_eq_true rfl⟩ (fun v G16 H locs cells slots xG16 hq I => ?_) (fun a G9 H locs cells slots ex hq I => hq.elim)
  obtain ⟨r17, rfl, h⟩ := hq
  have h := h xG16
  obtain ⟨hz, h⟩ := h
  refine P_I C I fp_X12_177_11 (fun z => by cases z) (by decide) (by decide) (ho8.ext (by decide) (Ext.tr _ _ _ xG9 (Ext.tr _ _ _ xG10 (Ext.tr _ _ _ xG12 (Ext.tr _ _ _ xG13 (Ext.tr _ _ _ xG15 xG16)))))) dX12_thing_136 (fit_z hz) (fun H locs G18 eG18 xG18 I => ?_)
  have h := h G18 eG18
  refine l_ald_n C dX12_thing_139 hl 0 rfl rfl ?_
  refine g_R C I fl_X12_18_9 (by decide) (by decide) (hth.ext (by decide) (Ext.tr _ _ _ xG1 (Ext.tr _ _ _ xG3 (Ext.tr _ _ _ xG6 (Ext.tr _ _ _ xG9 (Ext.tr _ _ _ xG10 (Ext.tr _ _ _ xG12 (Ext.tr _ _ _ xG13 (Ext.tr _ _ _ xG15 (Ext.tr _ _ _ xG16 xG18)))))))))) dX12_thing_140 ?_
  obtain ⟨ho19, h⟩ := h
  refine g_R C I fl_X12_147_2 (by decide) (by decide) ho19 dX12_thing_143 ?_
  refine l_ald_n C dX12_thing_146 hl 1 rfl rfl ?_
  obtain ⟨ho22, h⟩ := h
  refine k_call Ext.tr C I (k_F (kd := 16) (r := gR G18 (ad (gR G18 (ad th) 1)) 3) (As := [va_rf l1]) (rest := []) (y := yJ2_add) (x := ⟨"java/util/List", "add", "(Ljava/lang/Object;)Z"⟩) C (by decide) ⟨ho22.ad.1, I.recv C.2.2.2.2.1 ho22 (by decide)⟩ q938 (by decide) q940 q939 q944 q942 q417 q941 q943 rfl pd_J2_add rfl dX12_thing_147) (ct_J2_add h) hl.1 dX12_thing_147 [] rfl (Nat.le_of_ble_eq_true rfl) (Or.inl rfl) q945 q104 ⟨Nat.le_of_ble_eq_true rfl, Nat.le_of_ble_eq_true rfl⟩ (fun v G20 H locs cells slots xG20 hq I => ?_) (fun a G9 H locs cells slots ex hq I => hq.elim)
  obtain ⟨r21, rfl, h⟩ := hq
  have h := h xG20
  refine lv_pop C.1 C.2.1 dX12_thing_152 rfl ?_
  exact r_void C.1 C.2.1 C.2.2.2.2.2.1 C.2.2.2.2.2.2 ⟨rfl, rfl⟩ I dX12_thing_153 ⟨rfl, h⟩
def w_X12_thing_23 (T : Nat → ClassId) (Q : Hp → Prop) (E : Nat → Hp → Prop) (th : Option Nat) (t0 : Int32) (G : Hp) : Prop := w_X12_want T (fun G1 => Ext G G1 → ∀ G3 : Hp, G3 = wI G1 (ad th) 8 ((1 : Int32)) → w_X12_next T (fun G4 => Ext G3 G4 → 1 ≤ gC G4 ∧ 5 ≤ gS G4 ∧ ∀ G6 : Hp, G6 = nw G4 11 0 5 → w_X14_init T (fun G7 => Ext G6 G7 → isO G7 (gR G7 (ad th) 1) 2 ∧ isO G7 (gR G7 (ad (gR G7 (ad th) 1)) 0) 16 ∧ w_J2_size T (fun r11 G10 => Ext G7 G10 → w_X12_oneNow T (fun r13 G12 => Ext G10 G12 → ∀ G14 : Hp, G14 = wI G12 (ad ((some (gZ G4)))) 0 r13 → isO G14 (gR G14 (ad th) 1) 2 ∧ w_X2_thingOf T (fun r16 G15 => Ext G14 G15 → ((¬ r16 = (-1 : Int32)) → (w_X12_thing_85 T Q E th ((some (gZ G4))) ((0 : Int32)) G15)) ∧ ((r16 = (-1 : Int32)) → (w_X12_thing_85 T Q E th ((some (gZ G4))) ((1 : Int32)) G15))) (gR G14 (ad th) 1) (gI G14 (ad ((some (gZ G4)))) 0) G14) E th r11 G10) (gR G7 (ad (gR G7 (ad th) 1)) 0) G7) ((some (gZ G4))) G6) th G3) E th t0 ((2 : Int32)) G
set_option maxHeartbeats 4000000 in
theorem b_X12_thing_23 {G0 : Hp} {Q : Hp → Prop} {E : Nat → Hp → Prop} {th : Option Nat} (C : Cx p s m meth c D T Z "EndingTown$Reader" cX12_thing 2 none) (hex : ∀ z ∈ c.exceptionTable.toList, ∀ pc, covers z pc = false) (hLf : l.flags = flags0) : ∀ (t0 : Int32) (G : Hp) (H : Heap) (locs : List Loc) (cells slots : Nat) (ls : Array Slot), w_X12_thing_23 T Q E th t0 G → isO G th 9 → HI (twd D T Z) G0 s (rmX (twd D T Z) 8 228 G0) H locs cells slots G → LH ls 2 [(0, .inr (.inl th))] → W p l e (rmX (twd D T Z) 8 228 G0) s m args below meth c H locs cells slots (MQX (twd D T Z) G0 (qV Q) E below s) (F0 m 23 ls [.int t0, va_rf th]) := by
  intro t0 G H locs cells slots ls h hth I hl
  refine lv_iconst (v := 2) C.1 C.2.1 dX12_thing_23 (by decide) ?_
  refine k_call Ext.tr C I (k_V (r := th) (As := [.int t0, .int ((2 : Int32))]) (rest := []) (y := yX12_want) C ⟨hth.ad.1, I.recv C.2.2.2.2.1 hth (by decide)⟩ q830 q832 qs14 (Or.inl rfl) q833 (by decide) rfl pd_X12_want rfl dX12_thing_24) (ct_X12_want hLf h) hl.1 dX12_thing_24 [] rfl (Nat.le_of_ble_eq_true rfl) (Or.inl rfl) q833 q118 ⟨Nat.le_of_ble_eq_true rfl, Nat.le_of_ble_eq_true rfl⟩ (fun v G1 H locs cells slots xG1 hq I => ?_) (fun a G9 H locs cells slots ex hq I => t_out C.2.2.2.2.2.2 ⟨rfl, rfl⟩ (fun z hz => hex z hz _) I hq)
  obtain ⟨rfl, h⟩ := hq
  have h := h xG1
  refine l_ald_n C dX12_thing_27 hl 0 rfl rfl ?_
  refine lv_iconst (v := 1) C.1 C.2.1 dX12_thing_28 (by decide) ?_
  refine P_I C I fp_X12_134_9 (fun z => by cases z) (by decide) (by decide) (hth.ext (by decide) xG1) dX12_thing_29 (fit_z bz1) (fun H locs G3 eG3 xG3 I => ?_)
  have h := h G3 eG3
  refine l_ald_n C dX12_thing_32 hl 0 rfl rfl ?_
  refine k_call Ext.tr C I (k_V (r := th) (As := []) (rest := []) (y := yX12_next) C ⟨(hth.ext (by decide) (Ext.tr _ _ _ xG1 xG3)).ad.1, I.recv C.2.2.2.2.1 (hth.ext (by decide) (Ext.tr _ _ _ xG1 xG3)) (by decide)⟩ q751 q752 q753 (Or.inl rfl) q754 (by decide) rfl pd_X12_next rfl dX12_thing_33) (ct_X12_next h) hl.1 dX12_thing_33 [] rfl (Nat.le_of_ble_eq_true rfl) (Or.inl rfl) q754 q118 ⟨Nat.le_of_ble_eq_true rfl, Nat.le_of_ble_eq_true rfl⟩ (fun v G4 H locs cells slots xG4 hq I => ?_) (fun a G9 H locs cells slots ex hq I => hq.elim)
  obtain ⟨rfl, h⟩ := hq
  have h := h xG4
  obtain ⟨hb1, hb2, h⟩ := h
  refine N_obj (kd := 11) C I (by decide) q891 ⟨hb1, hb2⟩ dX12_thing_36 (fun H cells slots G6 eG6 xG6 I => ?_)
  have h := h G6 eG6
  have hnG6 : isO G6 (some (gZ G4)) 11 := ⟨_, rfl, by rw [eG6]; exact gK_nw⟩
  refine lv_dup C.1 C.2.1 dX12_thing_39 (cat_rf _) ?_
  refine k_call Ext.tr C I (k_IN (r := (some (gZ G4))) (As := []) (rest := [va_rf ((some (gZ G4)))]) (y := yX14_init) C hnG6.ad.1 rfl q893 q894 q895 (by decide) rfl pd_X14_init rfl dX12_thing_40) (ct_X14_init h) hl.1 dX12_thing_40 [.inr (.inl ((some (gZ G4))))] rfl (Nat.le_of_ble_eq_true rfl) (Or.inl rfl) q895 q125 ⟨Nat.le_of_ble_eq_true rfl, Nat.le_of_ble_eq_true rfl⟩ (fun v G7 H locs cells slots xG7 hq I => ?_) (fun a G9 H locs cells slots ex hq I => hq.elim)
  obtain ⟨rfl, h⟩ := hq
  have h := h xG7
  refine l_ast_n C dX12_thing_43 rfl hl (by decide) rfl (fun ls hl => ?_)
  have hl : LH ls 2 [(1, .inr (.inl ((some (gZ G4))))), (0, .inr (.inl th))] := hl
  refine l_ald_n C dX12_thing_44 hl 0 rfl rfl ?_
  refine l_ald_n C dX12_thing_45 hl 1 rfl rfl ?_
  refine l_ald_n C dX12_thing_46 hl 1 rfl rfl ?_
  refine g_R C I fl_X12_18_9 (by decide) (by decide) (hth.ext (by decide) (Ext.tr _ _ _ xG1 (Ext.tr _ _ _ xG3 (Ext.tr _ _ _ xG4 (Ext.tr _ _ _ xG6 xG7))))) dX12_thing_47 ?_
  obtain ⟨ho9, h⟩ := h
  refine g_R C I fl_X12_153_2 (by decide) (by decide) ho9 dX12_thing_50 ?_
  obtain ⟨ho19, h⟩ := h
  refine k_call Ext.tr C I (k_F (kd := 16) (r := gR G7 (ad (gR G7 (ad th) 1)) 0) (As := []) (rest := [va_rf th, va_rf ((some (gZ G4)))]) (y := yJ2_size) (x := ⟨"java/util/List", "size", "()I"⟩) C (by decide) ⟨ho19.ad.1, I.recv C.2.2.2.2.1 ho19 (by decide)⟩ q890 (by decide) q426 q425 q430 q428 q417 q427 q429 rfl pd_J2_size rfl dX12_thing_53) (ct_J2_size h) hl.1 dX12_thing_53 [.inr (.inl th), .inr (.inl ((some (gZ G4))))] rfl (Nat.le_of_ble_eq_true rfl) (Or.inl rfl) q431 q104 ⟨Nat.le_of_ble_eq_true rfl, Nat.le_of_ble_eq_true rfl⟩ (fun v G10 H locs cells slots xG10 hq I => ?_) (fun a G9 H locs cells slots ex hq I => hq.elim)
  obtain ⟨r11, rfl, h⟩ := hq
  have h := h xG10
  refine k_call Ext.tr C I (k_V (r := th) (As := [.int r11]) (rest := [va_rf ((some (gZ G4)))]) (y := yX12_oneNow) C ⟨(hth.ext (by decide) (Ext.tr _ _ _ xG1 (Ext.tr _ _ _ xG3 (Ext.tr _ _ _ xG4 (Ext.tr _ _ _ xG6 (Ext.tr _ _ _ xG7 xG10)))))).ad.1, I.recv C.2.2.2.2.1 (hth.ext (by decide) (Ext.tr _ _ _ xG1 (Ext.tr _ _ _ xG3 (Ext.tr _ _ _ xG4 (Ext.tr _ _ _ xG6 (Ext.tr _ _ _ xG7 xG10)))))) (by decide)⟩ q879 q881 qs20 (Or.inl rfl) q882 (by decide) rfl pd_X12_oneNow rfl dX12_thing_58) (ct_X12_oneNow hLf h) hl.1 dX12_thing_58 [.inr (.inl ((some (gZ G4))))] rfl (Nat.le_of_ble_eq_true rfl) (Or.inl rfl) q882 q118 ⟨Nat.le_of_ble_eq_true rfl, Nat.le_of_ble_eq_true rfl⟩ (fun v G12 H locs cells slots xG12 hq I => ?_) (fun a G9 H locs cells slots ex hq I => t_out C.2.2.2.2.2.2 ⟨rfl, rfl⟩ (fun z hz => hex z hz _) I hq)
  obtain ⟨r13, rfl, h⟩ := hq
  have h := h xG12
  refine P_I C I fp_X12_156_11 (fun z => by cases z) (by decide) (by decide) (hnG6.ext (by decide) (Ext.tr _ _ _ xG7 (Ext.tr _ _ _ xG10 xG12))) dX12_thing_61 (fit_i _) (fun H locs G14 eG14 xG14 I => ?_)
  have h := h G14 eG14
  refine l_ald_n C dX12_thing_64 hl 1 rfl rfl ?_
  refine l_ald_n C dX12_thing_65 hl 1 rfl rfl ?_
  refine g_R C I fl_X12_18_9 (by decide) (by decide) (hth.ext (by decide) (Ext.tr _ _ _ xG1 (Ext.tr _ _ _ xG3 (Ext.tr _ _ _ xG4 (Ext.tr _ _ _ xG6 (Ext.tr _ _ _ xG7 (Ext.tr _ _ _ xG10 (Ext.tr _ _ _ xG12 xG14)))))))) dX12_thing_66 ?_
  refine l_ald_n C dX12_thing_69 hl 0 rfl rfl ?_
  refine g_I C I fl_X12_156_11 (by decide) (by decide) (hnG6.ext (by decide) (Ext.tr _ _ _ xG7 (Ext.tr _ _ _ xG10 (Ext.tr _ _ _ xG12 xG14)))) dX12_thing_70 ?_
  obtain ⟨ho18, h⟩ := h
  refine k_call Ext.tr C I (k_V (r := gR G14 (ad th) 1) (As := [.int (gI G14 (ad ((some (gZ G4)))) 0)]) (rest := [va_rf th]) (y := yX2_thingOf) C ⟨ho18.ad.1, I.recv C.2.2.2.2.1 ho18 (by decide)⟩ q926 q927 q928 (Or.inl rfl) q929 (by decide) rfl pd_X2_thingOf rfl dX12_thing_73) (ct_X2_thingOf h) hl.1 dX12_thing_73 [.inr (.inl th)] rfl (Nat.le_of_ble_eq_true rfl) (Or.inl rfl) q929 q101 ⟨Nat.le_of_ble_eq_true rfl, Nat.le_of_ble_eq_true rfl⟩ (fun v G15 H locs cells slots xG15 hq I => ?_) (fun a G9 H locs cells slots ex hq I => hq.elim)
  obtain ⟨r16, rfl, h⟩ := hq
  have h := h xG15
  refine lv_iconst (v := (-1)) C.1 C.2.1 dX12_thing_76 (by decide) ?_
  refine lv_icmp_ne (tgt := 84) C.1 C.2.1 dX12_thing_77 (by decide) (fun c17 => ?_) (fun c17 => ?_)
  · have h := h.1 c17
    refine lv_iconst (v := 0) C.1 C.2.1 dX12_thing_84 (by decide) ?_
    exact b_X12_thing_85 C hex hLf ((some (gZ G4))) ((0 : Int32)) G15 _ _ _ _ _ h (hth.ext (by decide) (Ext.tr _ _ _ xG1 (Ext.tr _ _ _ xG3 (Ext.tr _ _ _ xG4 (Ext.tr _ _ _ xG6 (Ext.tr _ _ _ xG7 (Ext.tr _ _ _ xG10 (Ext.tr _ _ _ xG12 (Ext.tr _ _ _ xG14 xG15))))))))) I (hl.sub [1, 0] rfl)
  · have h := h.2 c17
    refine lv_iconst (v := 1) C.1 C.2.1 dX12_thing_80 (by decide) ?_
    refine lv_goto (tgt := 85) C.1 C.2.1 dX12_thing_81 (by decide) ?_
    exact b_X12_thing_85 C hex hLf ((some (gZ G4))) ((1 : Int32)) G15 _ _ _ _ _ h (hth.ext (by decide) (Ext.tr _ _ _ xG1 (Ext.tr _ _ _ xG3 (Ext.tr _ _ _ xG4 (Ext.tr _ _ _ xG6 (Ext.tr _ _ _ xG7 (Ext.tr _ _ _ xG10 (Ext.tr _ _ _ xG12 (Ext.tr _ _ _ xG14 xG15))))))))) I (hl.sub [1, 0] rfl)
def w_X12_thing (T : Nat → ClassId) (Q : Hp → Prop) (E : Nat → Hp → Prop) (th : Option Nat) (G : Hp) : Prop := isO G th 9 ∧ (isO G (gR G (ad th) 1) 2 ∧ isO G (gR G (ad (gR G (ad th) 1)) 3) 16 ∧ w_J2_size T (fun r3 G2 => Ext G G2 → (((8 : Int32) ≤ r3) → (w_X12_thing_23 T Q E th ((0 : Int32)) G2)) ∧ ((¬ (8 : Int32) ≤ r3) → (w_X12_thing_23 T Q E th ((1 : Int32)) G2))) (gR G (ad (gR G (ad th) 1)) 3) G)
theorem pd_X12_thing : (parseMethodDescriptor yX12_thing.desc).map (fun d => d.parameters.length) = some 0 := by decide +kernel
set_option maxHeartbeats 4000000 in
theorem ct_X12_thing {l : Launch} {D : va_G} {T : Nat → ClassId} {Z : Heap} {G0 : Hp} {Q : Hp → Prop} {E : Nat → Hp → Prop} {th : Option Nat} (hLf : l.flags = flags0) (hw : w_X12_thing T Q E th G0) : CT (twd D T Z) (Evd D T Z) l yX12_thing (Cond.code yX12_thing cX12_thing 2 none) 8 228 [va_rf th] G0 (qV Q) E := by
  refine CT.ofW (cc := cX12_thing) (nL := 2) (ret := none) Ext.rf (by decide) (Or.inl rfl) ?_
  intro p e s m below meth c hx hb hml hown hr hlk hnm hcb hm hc hn hE I
  have C : Cx p s m meth c D T Z "EndingTown$Reader" cX12_thing 2 none := ⟨hx, hb, hml, hown, hE, hr, hlk⟩
  have hex := noEx hn hm hc hcb
  refine w_entry [.inr (.inl th)] (Nat.le_of_ble_eq_true rfl) (fun ls hl => ?_)
  have hl : LH ls 2 [(0, .inr (.inl th))] := hl
  obtain ⟨hth, h⟩ := hw
  refine l_ald_n C dX12_thing_0 hl 0 rfl rfl ?_
  refine l_ald_n C dX12_thing_1 hl 0 rfl rfl ?_
  refine g_R C I fl_X12_18_9 (by decide) (by decide) hth dX12_thing_2 ?_
  obtain ⟨ho1, h⟩ := h
  refine g_R C I fl_X12_147_2 (by decide) (by decide) ho1 dX12_thing_5 ?_
  obtain ⟨ho5, h⟩ := h
  refine k_call Ext.tr C I (k_F (kd := 16) (r := gR G0 (ad (gR G0 (ad th) 1)) 3) (As := []) (rest := [va_rf th]) (y := yJ2_size) (x := ⟨"java/util/List", "size", "()I"⟩) C (by decide) ⟨ho5.ad.1, I.recv C.2.2.2.2.1 ho5 (by decide)⟩ q890 (by decide) q426 q425 q430 q428 q417 q427 q429 rfl pd_J2_size rfl dX12_thing_8) (ct_J2_size h) hl.1 dX12_thing_8 [.inr (.inl th)] rfl (Nat.le_of_ble_eq_true rfl) (Or.inl rfl) q431 q104 ⟨Nat.le_of_ble_eq_true rfl, Nat.le_of_ble_eq_true rfl⟩ (fun v G2 H locs cells slots xG2 hq I => ?_) (fun a G9 H locs cells slots ex hq I => hq.elim)
  obtain ⟨r3, rfl, h⟩ := hq
  have h := h xG2
  refine lv_bipush (v := 8) C.1 C.2.1 dX12_thing_13 (by decide) ?_
  refine lv_icmp_ge (tgt := 22) C.1 C.2.1 dX12_thing_15 (by decide) (fun c4 => ?_) (fun c4 => ?_)
  · have h := h.1 c4
    refine lv_iconst (v := 0) C.1 C.2.1 dX12_thing_22 (by decide) ?_
    exact b_X12_thing_23 C hex hLf ((0 : Int32)) G2 _ _ _ _ _ h (hth.ext (by decide) xG2) I (hl.sub [0] rfl)
  · have h := h.2 c4
    refine lv_iconst (v := 1) C.1 C.2.1 dX12_thing_18 (by decide) ?_
    refine lv_goto (tgt := 23) C.1 C.2.1 dX12_thing_19 (by decide) ?_
    exact b_X12_thing_23 C hex hLf ((1 : Int32)) G2 _ _ _ _ _ h (hth.ext (by decide) xG2) I (hl.sub [0] rfl)
def w_X16_init_16 (T : Nat → ClassId) (Q : Hp → Prop) (th : Option Nat) : Nat → Option Nat → Int32 → Int32 → Hp → Prop
  | 0 => fun _ _ _ _ => False
  | f16 + 1 => fun l1 l2 l4 G => isO G (gR G (ad th) 0) 51 ∧ ((nI (gN G (ad (gR G (ad th) 0))) ≤ l4) → (Q G)) ∧ ((¬ nI (gN G (ad (gR G (ad th) 0))) ≤ l4) → (isO G l1 51 ∧ vp_in ((l2 + l4)) (gN G (ad l1)) ∧ vp_in l4 (gN G (ad (gR G (ad th) 0))) ∧ ∀ G3 : Hp, G3 = wI G (ad (gR G (ad th) 0)) l4.toNatClampNeg ((gI G (ad l1) ((l2 + l4)).toNatClampNeg).toInt8.toInt32) → (w_X16_init_16 T Q th f16) l1 l2 ((l4 + 1)) G3))
set_option maxHeartbeats 4000000 in
theorem b_X16_init_16 {G0 : Hp} {Q : Hp → Prop} {th : Option Nat} (C : Cx p s m meth c D T Z "EndingTown$Letters" cX16_init 5 none) (hnm : meth.name = "<init>") : ∀ (n : Nat) (l1 : Option Nat) (l2 : Int32) (l4 : Int32) (G : Hp) (H : Heap) (locs : List Loc) (cells slots : Nat) (ls : Array Slot), w_X16_init_16 T Q th n l1 l2 l4 G → isO G th 13 → HI (twd D T Z) G0 s (rmX (twd D T Z) 1 20 G0) H locs cells slots G → LH ls 5 [(0, .inr (.inl th)), (1, .inr (.inl l1)), (2, .inl l2), (4, .inl l4)] → W p l e (rmX (twd D T Z) 1 20 G0) s m args below meth c H locs cells slots (MQX (twd D T Z) G0 (qV Q) (fun _ _ => False) below s) (F0 m 16 ls []) := by
  intro f16
  induction f16 with
  | zero => intro l1 l2 l4 G H locs cells slots ls h; exact (show False from h).elim
  | succ f16 ih =>
    intro l1 l2 l4 G H locs cells slots ls h hth I hl
    have h : isO G (gR G (ad th) 0) 51 ∧ ((nI (gN G (ad (gR G (ad th) 0))) ≤ l4) → (Q G)) ∧ ((¬ nI (gN G (ad (gR G (ad th) 0))) ≤ l4) → (isO G l1 51 ∧ vp_in ((l2 + l4)) (gN G (ad l1)) ∧ vp_in l4 (gN G (ad (gR G (ad th) 0))) ∧ ∀ G3 : Hp, G3 = wI G (ad (gR G (ad th) 0)) l4.toNatClampNeg ((gI G (ad l1) ((l2 + l4)).toNatClampNeg).toInt8.toInt32) → (w_X16_init_16 T Q th f16) l1 l2 ((l4 + 1)) G3)) := h
    have hk16 := ih
    refine l_ild C dX16_init_16 hl 3 rfl ?_
    refine l_ald_n C dX16_init_18 hl 0 rfl rfl ?_
    refine g_R C I fl_X16_7_13 (by decide) (by decide) hth dX16_init_19 ?_
    obtain ⟨ho1, h⟩ := h
    refine a_len C I ho1 (by decide) dX16_init_22 ?_
    refine lv_icmp_ge (tgt := 45) C.1 C.2.1 dX16_init_23 (by decide) (fun c4 => ?_) (fun c4 => ?_)
    · have h := h.1 c4
      exact r_void C.1 C.2.1 C.2.2.2.2.2.1 C.2.2.2.2.2.2 ⟨rfl, rfl⟩ I dX16_init_45 ⟨rfl, h⟩
    · have h := h.2 c4
      refine l_ald_n C dX16_init_26 hl 0 rfl rfl ?_
      refine g_R C I fl_X16_7_13 (by decide) (by decide) hth dX16_init_27 ?_
      refine l_ild C dX16_init_30 hl 3 rfl ?_
      refine l_ald_n C dX16_init_32 hl 1 rfl rfl ?_
      refine l_ild_n C dX16_init_33 hl 2 rfl rfl ?_
      refine l_ild C dX16_init_34 hl 3 rfl ?_
      refine lv_iadd C.1 C.2.1 dX16_init_36 ?_
      obtain ⟨ho2, h⟩ := h
      obtain ⟨hi, h⟩ := h
      refine a_bald C I ho2 hi dX16_init_37 ?_
      obtain ⟨hi, h⟩ := h
      refine A_bast C I ho1 hi dX16_init_38 (fun H locs G3 eG3 xG3 I => ?_)
      have h := h G3 eG3
      refine l_inc (q := 3) (v := 1) C dX16_init_39 hl rfl (by decide) (by decide) rfl (fun ls hl => ?_)
      have hl : LH ls 5 [(4, .inl ((l4 + 1))), (0, .inr (.inl th)), (1, .inr (.inl l1)), (2, .inl l2)] := hl
      refine lv_goto (tgt := 16) C.1 C.2.1 dX16_init_42 (by decide) ?_
      exact hk16 l1 l2 ((l4 + 1)) G3 _ _ _ _ _ h (hth.ext (by decide) xG3) I (hl.sub [1, 2, 3, 0] rfl)
def w_X16_init (T : Nat → ClassId) (Q : Hp → Prop) (th : Option Nat) (p0 : Option Nat) (p1 : Int32) (p2 : Int32) (G : Hp) : Prop := isO G th 13 ∧ ((¬ (p2 - p1) < 0 ∧ ((p2 - p1)).toNatClampNeg ≤ 100000 ∧ 1 ≤ gC G ∧ ((p2 - p1)).toNatClampNeg ≤ gS G) ∧ ∀ G1 : Hp, G1 = nw G 51 ((p2 - p1)).toNatClampNeg ((p2 - p1)).toNatClampNeg → ∀ G2 : Hp, G2 = wR G1 (ad th) 0 ((some (gZ G))) → ∃ n, w_X16_init_16 T Q th n p0 p1 ((0 : Int32)) G2)
theorem pd_X16_init : (parseMethodDescriptor yX16_init.desc).map (fun d => d.parameters.length) = some 3 := by decide +kernel
set_option maxHeartbeats 4000000 in
theorem ct_X16_init {l : Launch} {D : va_G} {T : Nat → ClassId} {Z : Heap} {G0 : Hp} {Q : Hp → Prop} {th : Option Nat} {p0 : Option Nat} {p1 : Int32} {p2 : Int32} (hw : w_X16_init T Q th p0 p1 p2 G0) : CT (twd D T Z) (Evd D T Z) l yX16_init (Cond.code yX16_init cX16_init 5 none) 1 20 [va_rf th, va_rf p0, .int p1, .int p2] G0 (qV Q) (fun _ _ => False) := by
  refine CT.ofW (cc := cX16_init) (nL := 5) (ret := none) Ext.rf (by decide) (Or.inl rfl) ?_
  intro p e s m below meth c hx hb hml hown hr hlk hnm hcb hm hc hn hE I
  have C : Cx p s m meth c D T Z "EndingTown$Letters" cX16_init 5 none := ⟨hx, hb, hml, hown, hE, hr, hlk⟩
  refine w_entry [.inr (.inl th), .inr (.inl p0), .inl p1, .inl p2] (Nat.le_of_ble_eq_true rfl) (fun ls hl => ?_)
  have hl : LH ls 5 [(0, .inr (.inl th)), (1, .inr (.inl p0)), (2, .inl p1), (3, .inl p2)] := hl
  obtain ⟨hth, h⟩ := hw
  refine l_ald_n C dX16_init_0 hl 0 rfl rfl ?_
  refine k_objInit C hth.ad.1 q1022 q142 q143 hl.1 dX16_init_1 (Nat.le_of_ble_eq_true rfl) ⟨Nat.le_of_ble_eq_true rfl, Nat.le_of_ble_eq_true rfl⟩ ?_
  refine l_ald_n C dX16_init_4 hl 0 rfl rfl ?_
  refine l_ild_n C dX16_init_5 hl 3 rfl rfl ?_
  refine l_ild_n C dX16_init_6 hl 2 rfl rfl ?_
  refine lv_isub C.1 C.2.1 dX16_init_7 ?_
  obtain ⟨hb, h⟩ := h
  refine N_arr (kd := 51) C I (by decide) rfl q400 hb dX16_init_8 (fun H cells slots G1 eG1 xG1 I => ?_)
  have h := h G1 eG1
  have hnG1 : isO G1 (some (gZ G0)) 51 := ⟨_, rfl, by rw [eG1]; exact gK_nw⟩
  refine P_R C I fp_X16_7_13 (fun _ => hnm) (by decide) (by decide) (hth.ext (by decide) xG1) dX16_init_10 (fun x => fit_a x) (fun H locs G2 eG2 xG2 I => ?_)
  have h := h G2 eG2
  refine lv_iconst (v := 0) C.1 C.2.1 dX16_init_13 (by decide) ?_
  refine l_ist C dX16_init_14 hl (by decide) rfl (fun ls hl => ?_)
  have hl : LH ls 5 [(4, .inl ((0 : Int32))), (0, .inr (.inl th)), (1, .inr (.inl p0)), (2, .inl p1), (3, .inl p2)] := hl
  obtain ⟨n, h⟩ := h
  exact b_X16_init_16 C hnm n p0 p1 ((0 : Int32)) G2 _ _ _ _ _ h (hth.ext (by decide) (Ext.tr _ _ _ xG1 xG2)) I (hl.sub [1, 2, 3, 0] rfl)
def w_X12_letters_38 (T : Nat → ClassId) (Q : Option Nat → Hp → Prop) (E : Nat → Hp → Prop) (th : Option Nat) (t0 : Int32) (G : Hp) : Prop := w_X12_want T (fun G1 => Ext G G1 → 1 ≤ gC G1 ∧ 1 ≤ gS G1 ∧ ∀ G3 : Hp, G3 = nw G1 13 0 1 → isO G3 (gR G3 (ad th) 9) 1 ∧ w_X16_init T (fun G5 => Ext G3 G5 → w_X12_next T (fun G7 => Ext G5 G7 → Q ((some (gZ G1))) G7) th G5) ((some (gZ G1))) (gR G3 (ad (gR G3 (ad th) 9)) 4) (gI G3 (ad th) 4) (gI G3 (ad th) 5) G3) E th t0 ((2 : Int32)) G
set_option maxHeartbeats 4000000 in
theorem b_X12_letters_38 {G0 : Hp} {Q : Option Nat → Hp → Prop} {E : Nat → Hp → Prop} {th : Option Nat} (C : Cx p s m meth c D T Z "EndingTown$Reader" cX12_letters 2 (some (.object "EndingTown$Letters"))) (hex : ∀ z ∈ c.exceptionTable.toList, ∀ pc, covers z pc = false) (hLf : l.flags = flags0) : ∀ (t0 : Int32) (G : Hp) (H : Heap) (locs : List Loc) (cells slots : Nat) (ls : Array Slot), w_X12_letters_38 T Q E th t0 G → isO G th 9 → HI (twd D T Z) G0 s (rmX (twd D T Z) 5 111 G0) H locs cells slots G → LH ls 2 [(0, .inr (.inl th))] → W p l e (rmX (twd D T Z) 5 111 G0) s m args below meth c H locs cells slots (MQX (twd D T Z) G0 (qR Q) E below s) (F0 m 38 ls [.int t0, va_rf th]) := by
  intro t0 G H locs cells slots ls h hth I hl
  refine lv_iconst (v := 2) C.1 C.2.1 dX12_letters_38 (by decide) ?_
  refine k_call Ext.tr C I (k_V (r := th) (As := [.int t0, .int ((2 : Int32))]) (rest := []) (y := yX12_want) C ⟨hth.ad.1, I.recv C.2.2.2.2.1 hth (by decide)⟩ q830 q832 qs14 (Or.inl rfl) q833 (by decide) rfl pd_X12_want rfl dX12_letters_39) (ct_X12_want hLf h) hl.1 dX12_letters_39 [] rfl (Nat.le_of_ble_eq_true rfl) (Or.inl rfl) q833 q118 ⟨Nat.le_of_ble_eq_true rfl, Nat.le_of_ble_eq_true rfl⟩ (fun v G1 H locs cells slots xG1 hq I => ?_) (fun a G9 H locs cells slots ex hq I => t_out C.2.2.2.2.2.2 ⟨rfl, rfl⟩ (fun z hz => hex z hz _) I hq)
  obtain ⟨rfl, h⟩ := hq
  have h := h xG1
  obtain ⟨hb1, hb2, h⟩ := h
  refine N_obj (kd := 13) C I (by decide) q1017 ⟨hb1, hb2⟩ dX12_letters_42 (fun H cells slots G3 eG3 xG3 I => ?_)
  have h := h G3 eG3
  have hnG3 : isO G3 (some (gZ G1)) 13 := ⟨_, rfl, by rw [eG3]; exact gK_nw⟩
  refine lv_dup C.1 C.2.1 dX12_letters_45 (cat_rf _) ?_
  refine l_ald_n C dX12_letters_46 hl 0 rfl rfl ?_
  refine g_R C I fl_X12_3_9 (by decide) (by decide) (hth.ext (by decide) (Ext.tr _ _ _ xG1 xG3)) dX12_letters_47 ?_
  obtain ⟨ho4, h⟩ := h
  refine g_R C I fl_X12_29_1 (by decide) (by decide) ho4 dX12_letters_50 ?_
  refine l_ald_n C dX12_letters_53 hl 0 rfl rfl ?_
  refine g_I C I fl_X12_41_9 (by decide) (by decide) (hth.ext (by decide) (Ext.tr _ _ _ xG1 xG3)) dX12_letters_54 ?_
  refine l_ald_n C dX12_letters_57 hl 0 rfl rfl ?_
  refine g_I C I fl_X12_63_9 (by decide) (by decide) (hth.ext (by decide) (Ext.tr _ _ _ xG1 xG3)) dX12_letters_58 ?_
  refine k_call Ext.tr C I (k_I (r := (some (gZ G1))) (As := [va_rf (gR G3 (ad (gR G3 (ad th) 9)) 4), .int (gI G3 (ad th) 4), .int (gI G3 (ad th) 5)]) (rest := [va_rf ((some (gZ G1)))]) (y := yX16_init) C hnG3.ad.1 rfl q1019 q1020 q1021 (by decide) rfl pd_X16_init rfl dX12_letters_61) (ct_X16_init h) hl.1 dX12_letters_61 [.inr (.inl ((some (gZ G1))))] rfl (Nat.le_of_ble_eq_true rfl) (Or.inl rfl) q1021 q131 ⟨Nat.le_of_ble_eq_true rfl, Nat.le_of_ble_eq_true rfl⟩ (fun v G5 H locs cells slots xG5 hq I => ?_) (fun a G9 H locs cells slots ex hq I => hq.elim)
  obtain ⟨rfl, h⟩ := hq
  have h := h xG5
  refine l_ast_n C dX12_letters_64 rfl hl (by decide) rfl (fun ls hl => ?_)
  have hl : LH ls 2 [(1, .inr (.inl ((some (gZ G1))))), (0, .inr (.inl th))] := hl
  refine l_ald_n C dX12_letters_65 hl 1 rfl rfl ?_
  refine k_call Ext.tr C I (k_V (r := th) (As := []) (rest := []) (y := yX12_next) C ⟨(hth.ext (by decide) (Ext.tr _ _ _ xG1 (Ext.tr _ _ _ xG3 xG5))).ad.1, I.recv C.2.2.2.2.1 (hth.ext (by decide) (Ext.tr _ _ _ xG1 (Ext.tr _ _ _ xG3 xG5))) (by decide)⟩ q751 q752 q753 (Or.inl rfl) q754 (by decide) rfl pd_X12_next rfl dX12_letters_66) (ct_X12_next h) hl.1 dX12_letters_66 [] rfl (Nat.le_of_ble_eq_true rfl) (Or.inl rfl) q754 q118 ⟨Nat.le_of_ble_eq_true rfl, Nat.le_of_ble_eq_true rfl⟩ (fun v G7 H locs cells slots xG7 hq I => ?_) (fun a G9 H locs cells slots ex hq I => hq.elim)
  obtain ⟨rfl, h⟩ := hq
  have h := h xG7
  refine l_ald_n C dX12_letters_69 hl 0 rfl rfl ?_
  exact r_ref C.1 C.2.1 C.2.2.2.2.2.1 (Or.inl ⟨_, rfl⟩) C.2.2.2.2.2.2 ⟨rfl, rfl⟩ I dX12_letters_70 ⟨_, rfl, h⟩
def w_X12_letters_14 (T : Nat → ClassId) (Q : Option Nat → Hp → Prop) (E : Nat → Hp → Prop) (th : Option Nat) (t0 : Int32) (G : Hp) : Prop := w_X12_want T (fun G1 => Ext G G1 → (((8 : Int32) < (gI G1 (ad th) 5 - gI G1 (ad th) 4)) → (w_X12_letters_38 T Q E th ((0 : Int32)) G1)) ∧ ((¬ (8 : Int32) < (gI G1 (ad th) 5 - gI G1 (ad th) 4)) → (w_X12_letters_38 T Q E th ((1 : Int32)) G1))) E th t0 ((1 : Int32)) G
set_option maxHeartbeats 4000000 in
theorem b_X12_letters_14 {G0 : Hp} {Q : Option Nat → Hp → Prop} {E : Nat → Hp → Prop} {th : Option Nat} (C : Cx p s m meth c D T Z "EndingTown$Reader" cX12_letters 2 (some (.object "EndingTown$Letters"))) (hex : ∀ z ∈ c.exceptionTable.toList, ∀ pc, covers z pc = false) (hLf : l.flags = flags0) : ∀ (t0 : Int32) (G : Hp) (H : Heap) (locs : List Loc) (cells slots : Nat) (ls : Array Slot), w_X12_letters_14 T Q E th t0 G → isO G th 9 → HI (twd D T Z) G0 s (rmX (twd D T Z) 5 111 G0) H locs cells slots G → LH ls 2 [(0, .inr (.inl th))] → W p l e (rmX (twd D T Z) 5 111 G0) s m args below meth c H locs cells slots (MQX (twd D T Z) G0 (qR Q) E below s) (F0 m 14 ls [.int t0, va_rf th]) := by
  intro t0 G H locs cells slots ls h hth I hl
  refine lv_iconst (v := 1) C.1 C.2.1 dX12_letters_14 (by decide) ?_
  refine k_call Ext.tr C I (k_V (r := th) (As := [.int t0, .int ((1 : Int32))]) (rest := []) (y := yX12_want) C ⟨hth.ad.1, I.recv C.2.2.2.2.1 hth (by decide)⟩ q830 q832 qs14 (Or.inl rfl) q833 (by decide) rfl pd_X12_want rfl dX12_letters_15) (ct_X12_want hLf h) hl.1 dX12_letters_15 [] rfl (Nat.le_of_ble_eq_true rfl) (Or.inl rfl) q833 q118 ⟨Nat.le_of_ble_eq_true rfl, Nat.le_of_ble_eq_true rfl⟩ (fun v G1 H locs cells slots xG1 hq I => ?_) (fun a G9 H locs cells slots ex hq I => t_out C.2.2.2.2.2.2 ⟨rfl, rfl⟩ (fun z hz => hex z hz _) I hq)
  obtain ⟨rfl, h⟩ := hq
  have h := h xG1
  refine l_ald_n C dX12_letters_18 hl 0 rfl rfl ?_
  refine l_ald_n C dX12_letters_19 hl 0 rfl rfl ?_
  refine g_I C I fl_X12_63_9 (by decide) (by decide) (hth.ext (by decide) xG1) dX12_letters_20 ?_
  refine l_ald_n C dX12_letters_23 hl 0 rfl rfl ?_
  refine g_I C I fl_X12_41_9 (by decide) (by decide) (hth.ext (by decide) xG1) dX12_letters_24 ?_
  refine lv_isub C.1 C.2.1 dX12_letters_27 ?_
  refine lv_bipush (v := 8) C.1 C.2.1 dX12_letters_28 (by decide) ?_
  refine lv_icmp_gt (tgt := 37) C.1 C.2.1 dX12_letters_30 (by decide) (fun c3 => ?_) (fun c3 => ?_)
  · have h := h.1 c3
    refine lv_iconst (v := 0) C.1 C.2.1 dX12_letters_37 (by decide) ?_
    exact b_X12_letters_38 C hex hLf ((0 : Int32)) G1 _ _ _ _ _ h (hth.ext (by decide) xG1) I (hl.sub [0] rfl)
  · have h := h.2 c3
    refine lv_iconst (v := 1) C.1 C.2.1 dX12_letters_33 (by decide) ?_
    refine lv_goto (tgt := 38) C.1 C.2.1 dX12_letters_34 (by decide) ?_
    exact b_X12_letters_38 C hex hLf ((1 : Int32)) G1 _ _ _ _ _ h (hth.ext (by decide) xG1) I (hl.sub [0] rfl)
def w_X12_letters (T : Nat → ClassId) (Q : Option Nat → Hp → Prop) (E : Nat → Hp → Prop) (th : Option Nat) (G : Hp) : Prop := isO G th 9 ∧ (((¬ gI G (ad th) 3 = (1 : Int32)) → (w_X12_letters_14 T Q E th ((0 : Int32)) G)) ∧ ((gI G (ad th) 3 = (1 : Int32)) → (w_X12_letters_14 T Q E th ((1 : Int32)) G)))
theorem pd_X12_letters : (parseMethodDescriptor yX12_letters.desc).map (fun d => d.parameters.length) = some 0 := by decide +kernel
set_option maxHeartbeats 4000000 in
theorem ct_X12_letters {l : Launch} {D : va_G} {T : Nat → ClassId} {Z : Heap} {G0 : Hp} {Q : Option Nat → Hp → Prop} {E : Nat → Hp → Prop} {th : Option Nat} (hLf : l.flags = flags0) (hw : w_X12_letters T Q E th G0) : CT (twd D T Z) (Evd D T Z) l yX12_letters (Cond.code yX12_letters cX12_letters 2 (some (.object "EndingTown$Letters"))) 5 111 [va_rf th] G0 (qR Q) E := by
  refine CT.ofW (cc := cX12_letters) (nL := 2) (ret := (some (.object "EndingTown$Letters"))) Ext.rf (by decide) (Or.inl rfl) ?_
  intro p e s m below meth c hx hb hml hown hr hlk hnm hcb hm hc hn hE I
  have C : Cx p s m meth c D T Z "EndingTown$Reader" cX12_letters 2 (some (.object "EndingTown$Letters")) := ⟨hx, hb, hml, hown, hE, hr, hlk⟩
  have hex := noEx hn hm hc hcb
  refine w_entry [.inr (.inl th)] (Nat.le_of_ble_eq_true rfl) (fun ls hl => ?_)
  have hl : LH ls 2 [(0, .inr (.inl th))] := hl
  obtain ⟨hth, h⟩ := hw
  refine l_ald_n C dX12_letters_0 hl 0 rfl rfl ?_
  refine l_ald_n C dX12_letters_1 hl 0 rfl rfl ?_
  refine g_I C I fl_X12_44_9 (by decide) (by decide) hth dX12_letters_2 ?_
  refine lv_iconst (v := 1) C.1 C.2.1 dX12_letters_5 (by decide) ?_
  refine lv_icmp_ne (tgt := 13) C.1 C.2.1 dX12_letters_6 (by decide) (fun c1 => ?_) (fun c1 => ?_)
  · have h := h.1 c1
    refine lv_iconst (v := 0) C.1 C.2.1 dX12_letters_13 (by decide) ?_
    exact b_X12_letters_14 C hex hLf ((0 : Int32)) G0 _ _ _ _ _ h hth I (hl.sub [0] rfl)
  · have h := h.2 c1
    refine lv_iconst (v := 1) C.1 C.2.1 dX12_letters_9 (by decide) ?_
    refine lv_goto (tgt := 14) C.1 C.2.1 dX12_letters_10 (by decide) ?_
    exact b_X12_letters_14 C hex hLf ((1 : Int32)) G0 _ _ _ _ _ h hth I (hl.sub [0] rfl)
def w_X17_init (T : Nat → ClassId) (Q : Hp → Prop) (th : Option Nat) (p0 : Option Nat) (p1 : Option Nat) (p2 : Option Nat) (G : Hp) : Prop := isO G th 14 ∧ (∀ G1 : Hp, G1 = wR G (ad th) 0 p0 → ∀ G2 : Hp, G2 = wR G1 (ad th) 1 p1 → ∀ G3 : Hp, G3 = wR G2 (ad th) 2 p2 → Q G3)
theorem pd_X17_init : (parseMethodDescriptor yX17_init.desc).map (fun d => d.parameters.length) = some 3 := by decide +kernel
set_option maxHeartbeats 4000000 in
theorem ct_X17_init {l : Launch} {D : va_G} {T : Nat → ClassId} {Z : Heap} {G0 : Hp} {Q : Hp → Prop} {th : Option Nat} {p0 : Option Nat} {p1 : Option Nat} {p2 : Option Nat} (hw : w_X17_init T Q th p0 p1 p2 G0) : CT (twd D T Z) (Evd D T Z) l yX17_init (Cond.code yX17_init cX17_init 4 none) 1 20 [va_rf th, va_rf p0, va_rf p1, va_rf p2] G0 (qV Q) (fun _ _ => False) := by
  refine CT.ofW (cc := cX17_init) (nL := 4) (ret := none) Ext.rf (by decide) (Or.inl rfl) ?_
  intro p e s m below meth c hx hb hml hown hr hlk hnm hcb hm hc hn hE I
  have C : Cx p s m meth c D T Z "EndingTown$Change" cX17_init 4 none := ⟨hx, hb, hml, hown, hE, hr, hlk⟩
  refine w_entry [.inr (.inl th), .inr (.inl p0), .inr (.inl p1), .inr (.inl p2)] (Nat.le_of_ble_eq_true rfl) (fun ls hl => ?_)
  have hl : LH ls 4 [(0, .inr (.inl th)), (1, .inr (.inl p0)), (2, .inr (.inl p1)), (3, .inr (.inl p2))] := hl
  obtain ⟨hth, h⟩ := hw
  refine l_ald_n C dX17_init_0 hl 0 rfl rfl ?_
  refine k_objInit C hth.ad.1 q1044 q142 q143 hl.1 dX17_init_1 (Nat.le_of_ble_eq_true rfl) ⟨Nat.le_of_ble_eq_true rfl, Nat.le_of_ble_eq_true rfl⟩ ?_
  refine l_ald_n C dX17_init_4 hl 0 rfl rfl ?_
  refine l_ald_n C dX17_init_5 hl 1 rfl rfl ?_
  refine P_R C I fp_X17_7_14 (fun _ => hnm) (by decide) (by decide) hth dX17_init_6 (fun x => fit_o x) (fun H locs G1 eG1 xG1 I => ?_)
  have h := h G1 eG1
  refine l_ald_n C dX17_init_9 hl 0 rfl rfl ?_
  refine l_ald_n C dX17_init_10 hl 2 rfl rfl ?_
  refine P_R C I fp_X17_13_14 (fun _ => hnm) (by decide) (by decide) (hth.ext (by decide) xG1) dX17_init_11 (fun x => fit_o x) (fun H locs G2 eG2 xG2 I => ?_)
  have h := h G2 eG2
  refine l_ald_n C dX17_init_14 hl 0 rfl rfl ?_
  refine l_ald_n C dX17_init_15 hl 3 rfl rfl ?_
  refine P_R C I fp_X17_16_14 (fun _ => hnm) (by decide) (by decide) (hth.ext (by decide) (Ext.tr _ _ _ xG1 xG2)) dX17_init_16 (fun x => fit_o x) (fun H locs G3 eG3 xG3 I => ?_)
  have h := h G3 eG3
  exact r_void C.1 C.2.1 C.2.2.2.2.2.1 C.2.2.2.2.2.2 ⟨rfl, rfl⟩ I dX17_init_19 ⟨rfl, h⟩
def w_X12_change_23 (T : Nat → ClassId) (Q : Hp → Prop) (E : Nat → Hp → Prop) (th : Option Nat) (t0 : Int32) (G : Hp) : Prop := w_X12_want T (fun G1 => Ext G G1 → w_X12_next T (fun G3 => Ext G1 G3 → w_X12_letters T (fun r6 G5 => Ext G3 G5 → w_X12_letters T (fun r8 G7 => Ext G5 G7 → isO G7 (gR G7 (ad th) 1) 2 ∧ 1 ≤ gC G7 ∧ 3 ≤ gS G7 ∧ ∀ G10 : Hp, G10 = nw G7 14 0 3 → w_X12_letters T (fun r12 G11 => Ext G10 G11 → w_X17_init T (fun G13 => Ext G11 G13 → isO G13 (gR G7 (ad (gR G7 (ad th) 1)) 2) 16 ∧ w_J2_add T (fun r16 G15 => Ext G13 G15 → Q G15) (gR G7 (ad (gR G7 (ad th) 1)) 2) ((some (gZ G7))) G13) ((some (gZ G7))) r6 r8 r12 G11) E th G10) E th G5) E th G3) th G1) E th t0 ((2 : Int32)) G
set_option maxHeartbeats 4000000 in
theorem b_X12_change_23 {G0 : Hp} {Q : Hp → Prop} {E : Nat → Hp → Prop} {th : Option Nat} (C : Cx p s m meth c D T Z "EndingTown$Reader" cX12_change 3 none) (hex : ∀ z ∈ c.exceptionTable.toList, ∀ pc, covers z pc = false) (hLf : l.flags = flags0) : ∀ (t0 : Int32) (G : Hp) (H : Heap) (locs : List Loc) (cells slots : Nat) (ls : Array Slot), w_X12_change_23 T Q E th t0 G → isO G th 9 → HI (twd D T Z) G0 s (rmX (twd D T Z) 7 228 G0) H locs cells slots G → LH ls 3 [(0, .inr (.inl th))] → W p l e (rmX (twd D T Z) 7 228 G0) s m args below meth c H locs cells slots (MQX (twd D T Z) G0 (qV Q) E below s) (F0 m 23 ls [.int t0, va_rf th]) := by
  intro t0 G H locs cells slots ls h hth I hl
  refine lv_iconst (v := 2) C.1 C.2.1 dX12_change_23 (by decide) ?_
  refine k_call Ext.tr C I (k_V (r := th) (As := [.int t0, .int ((2 : Int32))]) (rest := []) (y := yX12_want) C ⟨hth.ad.1, I.recv C.2.2.2.2.1 hth (by decide)⟩ q830 q832 qs14 (Or.inl rfl) q833 (by decide) rfl pd_X12_want rfl dX12_change_24) (ct_X12_want hLf h) hl.1 dX12_change_24 [] rfl (Nat.le_of_ble_eq_true rfl) (Or.inl rfl) q833 q118 ⟨Nat.le_of_ble_eq_true rfl, Nat.le_of_ble_eq_true rfl⟩ (fun v G1 H locs cells slots xG1 hq I => ?_) (fun a G9 H locs cells slots ex hq I => t_out C.2.2.2.2.2.2 ⟨rfl, rfl⟩ (fun z hz => hex z hz _) I hq)
  obtain ⟨rfl, h⟩ := hq
  have h := h xG1
  refine l_ald_n C dX12_change_27 hl 0 rfl rfl ?_
  refine k_call Ext.tr C I (k_V (r := th) (As := []) (rest := []) (y := yX12_next) C ⟨(hth.ext (by decide) xG1).ad.1, I.recv C.2.2.2.2.1 (hth.ext (by decide) xG1) (by decide)⟩ q751 q752 q753 (Or.inl rfl) q754 (by decide) rfl pd_X12_next rfl dX12_change_28) (ct_X12_next h) hl.1 dX12_change_28 [] rfl (Nat.le_of_ble_eq_true rfl) (Or.inl rfl) q754 q118 ⟨Nat.le_of_ble_eq_true rfl, Nat.le_of_ble_eq_true rfl⟩ (fun v G3 H locs cells slots xG3 hq I => ?_) (fun a G9 H locs cells slots ex hq I => hq.elim)
  obtain ⟨rfl, h⟩ := hq
  have h := h xG3
  refine l_ald_n C dX12_change_31 hl 0 rfl rfl ?_
  refine k_call Ext.tr C I (k_V (r := th) (As := []) (rest := []) (y := yX12_letters) C ⟨(hth.ext (by decide) (Ext.tr _ _ _ xG1 xG3)).ad.1, I.recv C.2.2.2.2.1 (hth.ext (by decide) (Ext.tr _ _ _ xG1 xG3)) (by decide)⟩ q1013 q1015 qs29 (Or.inl rfl) q1016 (by decide) rfl pd_X12_letters rfl dX12_change_32) (ct_X12_letters hLf h) hl.1 dX12_change_32 [] rfl (Nat.le_of_ble_eq_true rfl) (Or.inl rfl) q1016 q118 ⟨Nat.le_of_ble_eq_true rfl, Nat.le_of_ble_eq_true rfl⟩ (fun v G5 H locs cells slots xG5 hq I => ?_) (fun a G9 H locs cells slots ex hq I => t_out C.2.2.2.2.2.2 ⟨rfl, rfl⟩ (fun z hz => hex z hz _) I hq)
  obtain ⟨r6, rfl, h⟩ := hq
  have h := h xG5
  refine l_ast_n C dX12_change_35 rfl hl (by decide) rfl (fun ls hl => ?_)
  have hl : LH ls 3 [(1, .inr (.inl r6)), (0, .inr (.inl th))] := hl
  refine l_ald_n C dX12_change_36 hl 1 rfl rfl ?_
  refine k_call Ext.tr C I (k_V (r := th) (As := []) (rest := []) (y := yX12_letters) C ⟨(hth.ext (by decide) (Ext.tr _ _ _ xG1 (Ext.tr _ _ _ xG3 xG5))).ad.1, I.recv C.2.2.2.2.1 (hth.ext (by decide) (Ext.tr _ _ _ xG1 (Ext.tr _ _ _ xG3 xG5))) (by decide)⟩ q1013 q1015 qs29 (Or.inl rfl) q1016 (by decide) rfl pd_X12_letters rfl dX12_change_37) (ct_X12_letters hLf h) hl.1 dX12_change_37 [] rfl (Nat.le_of_ble_eq_true rfl) (Or.inl rfl) q1016 q118 ⟨Nat.le_of_ble_eq_true rfl, Nat.le_of_ble_eq_true rfl⟩ (fun v G7 H locs cells slots xG7 hq I => ?_) (fun a G9 H locs cells slots ex hq I => t_out C.2.2.2.2.2.2 ⟨rfl, rfl⟩ (fun z hz => hex z hz _) I hq)
  obtain ⟨r8, rfl, h⟩ := hq
  have h := h xG7
  refine l_ast_n C dX12_change_40 rfl hl (by decide) rfl (fun ls hl => ?_)
  have hl : LH ls 3 [(2, .inr (.inl r8)), (1, .inr (.inl r6)), (0, .inr (.inl th))] := hl
  refine l_ald_n C dX12_change_41 hl 2 rfl rfl ?_
  refine g_R C I fl_X12_18_9 (by decide) (by decide) (hth.ext (by decide) (Ext.tr _ _ _ xG1 (Ext.tr _ _ _ xG3 (Ext.tr _ _ _ xG5 xG7)))) dX12_change_42 ?_
  obtain ⟨ho9, h⟩ := h
  refine g_R C I fl_X12_113_2 (by decide) (by decide) ho9 dX12_change_45 ?_
  obtain ⟨hb1, hb2, h⟩ := h
  refine N_obj (kd := 14) C I (by decide) q1039 ⟨hb1, hb2⟩ dX12_change_48 (fun H cells slots G10 eG10 xG10 I => ?_)
  have h := h G10 eG10
  have hnG10 : isO G10 (some (gZ G7)) 14 := ⟨_, rfl, by rw [eG10]; exact gK_nw⟩
  refine lv_dup C.1 C.2.1 dX12_change_51 (cat_rf _) ?_
  refine l_ald_n C dX12_change_52 hl 1 rfl rfl ?_
  refine l_ald_n C dX12_change_53 hl 0 rfl rfl ?_
  refine l_ald_n C dX12_change_54 hl 2 rfl rfl ?_
  refine k_call Ext.tr C I (k_V (r := th) (As := []) (rest := [va_rf r8, va_rf r6, va_rf ((some (gZ G7))), va_rf ((some (gZ G7))), va_rf (gR G7 (ad (gR G7 (ad th) 1)) 2)]) (y := yX12_letters) C ⟨(hth.ext (by decide) (Ext.tr _ _ _ xG1 (Ext.tr _ _ _ xG3 (Ext.tr _ _ _ xG5 (Ext.tr _ _ _ xG7 xG10))))).ad.1, I.recv C.2.2.2.2.1 (hth.ext (by decide) (Ext.tr _ _ _ xG1 (Ext.tr _ _ _ xG3 (Ext.tr _ _ _ xG5 (Ext.tr _ _ _ xG7 xG10))))) (by decide)⟩ q1013 q1015 qs29 (Or.inl rfl) q1016 (by decide) rfl pd_X12_letters rfl dX12_change_55) (ct_X12_letters hLf h) hl.1 dX12_change_55 [.inr (.inl r8), .inr (.inl r6), .inr (.inl ((some (gZ G7)))), .inr (.inl ((some (gZ G7)))), .inr (.inl (gR G7 (ad (gR G7 (ad th) 1)) 2))] rfl (Nat.le_of_ble_eq_true rfl) (Or.inl rfl) q1016 q118 ⟨Nat.le_of_ble_eq_true rfl, Nat.le_of_ble_eq_true rfl⟩ (fun v G11 H locs cells slots xG11 hq I => ?_) (fun a G9 H locs cells slots ex hq I => t_out C.2.2.2.2.2.2 ⟨rfl, rfl⟩ (fun z hz => hex z hz _) I hq)
  obtain ⟨r12, rfl, h⟩ := hq
  have h := h xG11
  refine k_call Ext.tr C I (k_I (r := (some (gZ G7))) (As := [va_rf r6, va_rf r8, va_rf r12]) (rest := [va_rf ((some (gZ G7))), va_rf (gR G7 (ad (gR G7 (ad th) 1)) 2)]) (y := yX17_init) C (hnG10.ext (by decide) xG11).ad.1 rfl q1041 q1042 q1043 (by decide) rfl pd_X17_init rfl dX12_change_58) (ct_X17_init h) hl.1 dX12_change_58 [.inr (.inl ((some (gZ G7)))), .inr (.inl (gR G7 (ad (gR G7 (ad th) 1)) 2))] rfl (Nat.le_of_ble_eq_true rfl) (Or.inl rfl) q1043 q132 ⟨Nat.le_of_ble_eq_true rfl, Nat.le_of_ble_eq_true rfl⟩ (fun v G13 H locs cells slots xG13 hq I => ?_) (fun a G9 H locs cells slots ex hq I => hq.elim)
  obtain ⟨rfl, h⟩ := hq
  have h := h xG13
  obtain ⟨ho17, h⟩ := h
  refine k_call Ext.tr C I (k_F (kd := 16) (r := gR G7 (ad (gR G7 (ad th) 1)) 2) (As := [va_rf ((some (gZ G7)))]) (rest := []) (y := yJ2_add) (x := ⟨"java/util/List", "add", "(Ljava/lang/Object;)Z"⟩) C (by decide) ⟨ho17.ad.1, I.recv C.2.2.2.2.1 ho17 (by decide)⟩ q938 (by decide) q940 q939 q944 q942 q417 q941 q943 rfl pd_J2_add rfl dX12_change_61) (ct_J2_add h) hl.1 dX12_change_61 [] rfl (Nat.le_of_ble_eq_true rfl) (Or.inl rfl) q945 q104 ⟨Nat.le_of_ble_eq_true rfl, Nat.le_of_ble_eq_true rfl⟩ (fun v G15 H locs cells slots xG15 hq I => ?_) (fun a G9 H locs cells slots ex hq I => hq.elim)
  obtain ⟨r16, rfl, h⟩ := hq
  have h := h xG15
  refine lv_pop C.1 C.2.1 dX12_change_66 rfl ?_
  exact r_void C.1 C.2.1 C.2.2.2.2.2.1 C.2.2.2.2.2.2 ⟨rfl, rfl⟩ I dX12_change_67 ⟨rfl, h⟩
def w_X12_change (T : Nat → ClassId) (Q : Hp → Prop) (E : Nat → Hp → Prop) (th : Option Nat) (G : Hp) : Prop := isO G th 9 ∧ (isO G (gR G (ad th) 1) 2 ∧ isO G (gR G (ad (gR G (ad th) 1)) 2) 16 ∧ w_J2_size T (fun r3 G2 => Ext G G2 → (((6 : Int32) ≤ r3) → (w_X12_change_23 T Q E th ((0 : Int32)) G2)) ∧ ((¬ (6 : Int32) ≤ r3) → (w_X12_change_23 T Q E th ((1 : Int32)) G2))) (gR G (ad (gR G (ad th) 1)) 2) G)
theorem pd_X12_change : (parseMethodDescriptor yX12_change.desc).map (fun d => d.parameters.length) = some 0 := by decide +kernel
set_option maxHeartbeats 4000000 in
theorem ct_X12_change {l : Launch} {D : va_G} {T : Nat → ClassId} {Z : Heap} {G0 : Hp} {Q : Hp → Prop} {E : Nat → Hp → Prop} {th : Option Nat} (hLf : l.flags = flags0) (hw : w_X12_change T Q E th G0) : CT (twd D T Z) (Evd D T Z) l yX12_change (Cond.code yX12_change cX12_change 3 none) 7 228 [va_rf th] G0 (qV Q) E := by
  refine CT.ofW (cc := cX12_change) (nL := 3) (ret := none) Ext.rf (by decide) (Or.inl rfl) ?_
  intro p e s m below meth c hx hb hml hown hr hlk hnm hcb hm hc hn hE I
  have C : Cx p s m meth c D T Z "EndingTown$Reader" cX12_change 3 none := ⟨hx, hb, hml, hown, hE, hr, hlk⟩
  have hex := noEx hn hm hc hcb
  refine w_entry [.inr (.inl th)] (Nat.le_of_ble_eq_true rfl) (fun ls hl => ?_)
  have hl : LH ls 3 [(0, .inr (.inl th))] := hl
  obtain ⟨hth, h⟩ := hw
  refine l_ald_n C dX12_change_0 hl 0 rfl rfl ?_
  refine l_ald_n C dX12_change_1 hl 0 rfl rfl ?_
  refine g_R C I fl_X12_18_9 (by decide) (by decide) hth dX12_change_2 ?_
  obtain ⟨ho1, h⟩ := h
  refine g_R C I fl_X12_113_2 (by decide) (by decide) ho1 dX12_change_5 ?_
  obtain ⟨ho5, h⟩ := h
  refine k_call Ext.tr C I (k_F (kd := 16) (r := gR G0 (ad (gR G0 (ad th) 1)) 2) (As := []) (rest := [va_rf th]) (y := yJ2_size) (x := ⟨"java/util/List", "size", "()I"⟩) C (by decide) ⟨ho5.ad.1, I.recv C.2.2.2.2.1 ho5 (by decide)⟩ q890 (by decide) q426 q425 q430 q428 q417 q427 q429 rfl pd_J2_size rfl dX12_change_8) (ct_J2_size h) hl.1 dX12_change_8 [.inr (.inl th)] rfl (Nat.le_of_ble_eq_true rfl) (Or.inl rfl) q431 q104 ⟨Nat.le_of_ble_eq_true rfl, Nat.le_of_ble_eq_true rfl⟩ (fun v G2 H locs cells slots xG2 hq I => ?_) (fun a G9 H locs cells slots ex hq I => hq.elim)
  obtain ⟨r3, rfl, h⟩ := hq
  have h := h xG2
  refine lv_bipush (v := 6) C.1 C.2.1 dX12_change_13 (by decide) ?_
  refine lv_icmp_ge (tgt := 22) C.1 C.2.1 dX12_change_15 (by decide) (fun c4 => ?_) (fun c4 => ?_)
  · have h := h.1 c4
    refine lv_iconst (v := 0) C.1 C.2.1 dX12_change_22 (by decide) ?_
    exact b_X12_change_23 C hex hLf ((0 : Int32)) G2 _ _ _ _ _ h (hth.ext (by decide) xG2) I (hl.sub [0] rfl)
  · have h := h.2 c4
    refine lv_iconst (v := 1) C.1 C.2.1 dX12_change_18 (by decide) ?_
    refine lv_goto (tgt := 23) C.1 C.2.1 dX12_change_19 (by decide) ?_
    exact b_X12_change_23 C hex hLf ((1 : Int32)) G2 _ _ _ _ _ h (hth.ext (by decide) xG2) I (hl.sub [0] rfl)
def w_X12_ending_36 (T : Nat → ClassId) (Q : Hp → Prop) (E : Nat → Hp → Prop) (th : Option Nat) (l1 : Int32) (l2 : Int32) (t0 : Int32) (G : Hp) : Prop := w_X12_want T (fun G1 => Ext G G1 → w_X12_next T (fun G3 => Ext G1 G3 → isO G3 (gR G3 (ad th) 1) 2 ∧ w_X12_letters T (fun r7 G6 => Ext G3 G6 → isO G6 (gR G3 (ad (gR G3 (ad th) 1)) 1) 55 ∧ vp_in ((((5 : Int32) * l1) + l2)) (gN G6 (ad (gR G3 (ad (gR G3 (ad th) 1)) 1))) ∧ okA G6 55 r7 ∧ ∀ G9 : Hp, G9 = wR G6 (ad (gR G3 (ad (gR G3 (ad th) 1)) 1)) ((((5 : Int32) * l1) + l2)).toNatClampNeg r7 → Q G9) E th G3) th G1) E th t0 ((4 : Int32)) G
set_option maxHeartbeats 4000000 in
theorem b_X12_ending_36 {G0 : Hp} {Q : Hp → Prop} {E : Nat → Hp → Prop} {th : Option Nat} (C : Cx p s m meth c D T Z "EndingTown$Reader" cX12_ending 3 none) (hex : ∀ z ∈ c.exceptionTable.toList, ∀ pc, covers z pc = false) (hLf : l.flags = flags0) : ∀ (l1 : Int32) (l2 : Int32) (t0 : Int32) (G : Hp) (H : Heap) (locs : List Loc) (cells slots : Nat) (ls : Array Slot), w_X12_ending_36 T Q E th l1 l2 t0 G → isO G th 9 → HI (twd D T Z) G0 s (rmX (twd D T Z) 7 156 G0) H locs cells slots G → LH ls 3 [(0, .inr (.inl th)), (1, .inl l1), (2, .inl l2)] → W p l e (rmX (twd D T Z) 7 156 G0) s m args below meth c H locs cells slots (MQX (twd D T Z) G0 (qV Q) E below s) (F0 m 36 ls [.int t0, va_rf th]) := by
  intro l1 l2 t0 G H locs cells slots ls h hth I hl
  refine lv_iconst (v := 4) C.1 C.2.1 dX12_ending_36 (by decide) ?_
  refine k_call Ext.tr C I (k_V (r := th) (As := [.int t0, .int ((4 : Int32))]) (rest := []) (y := yX12_want) C ⟨hth.ad.1, I.recv C.2.2.2.2.1 hth (by decide)⟩ q830 q832 qs14 (Or.inl rfl) q833 (by decide) rfl pd_X12_want rfl dX12_ending_37) (ct_X12_want hLf h) hl.1 dX12_ending_37 [] rfl (Nat.le_of_ble_eq_true rfl) (Or.inl rfl) q833 q118 ⟨Nat.le_of_ble_eq_true rfl, Nat.le_of_ble_eq_true rfl⟩ (fun v G1 H locs cells slots xG1 hq I => ?_) (fun a G9 H locs cells slots ex hq I => t_out C.2.2.2.2.2.2 ⟨rfl, rfl⟩ (fun z hz => hex z hz _) I hq)
  obtain ⟨rfl, h⟩ := hq
  have h := h xG1
  refine l_ald_n C dX12_ending_40 hl 0 rfl rfl ?_
  refine k_call Ext.tr C I (k_V (r := th) (As := []) (rest := []) (y := yX12_next) C ⟨(hth.ext (by decide) xG1).ad.1, I.recv C.2.2.2.2.1 (hth.ext (by decide) xG1) (by decide)⟩ q751 q752 q753 (Or.inl rfl) q754 (by decide) rfl pd_X12_next rfl dX12_ending_41) (ct_X12_next h) hl.1 dX12_ending_41 [] rfl (Nat.le_of_ble_eq_true rfl) (Or.inl rfl) q754 q118 ⟨Nat.le_of_ble_eq_true rfl, Nat.le_of_ble_eq_true rfl⟩ (fun v G3 H locs cells slots xG3 hq I => ?_) (fun a G9 H locs cells slots ex hq I => hq.elim)
  obtain ⟨rfl, h⟩ := hq
  have h := h xG3
  refine l_ald_n C dX12_ending_44 hl 0 rfl rfl ?_
  refine g_R C I fl_X12_18_9 (by decide) (by decide) (hth.ext (by decide) (Ext.tr _ _ _ xG1 xG3)) dX12_ending_45 ?_
  obtain ⟨ho5, h⟩ := h
  refine g_R C I fl_X12_105_2 (by decide) (by decide) ho5 dX12_ending_48 ?_
  refine lv_iconst (v := 5) C.1 C.2.1 dX12_ending_51 (by decide) ?_
  refine l_ild_n C dX12_ending_52 hl 1 rfl rfl ?_
  refine lv_imul C.1 C.2.1 dX12_ending_53 ?_
  refine l_ild_n C dX12_ending_54 hl 2 rfl rfl ?_
  refine lv_iadd C.1 C.2.1 dX12_ending_55 ?_
  refine l_ald_n C dX12_ending_56 hl 0 rfl rfl ?_
  refine k_call Ext.tr C I (k_V (r := th) (As := []) (rest := [.int ((((5 : Int32) * l1) + l2)), va_rf (gR G3 (ad (gR G3 (ad th) 1)) 1)]) (y := yX12_letters) C ⟨(hth.ext (by decide) (Ext.tr _ _ _ xG1 xG3)).ad.1, I.recv C.2.2.2.2.1 (hth.ext (by decide) (Ext.tr _ _ _ xG1 xG3)) (by decide)⟩ q1013 q1015 qs29 (Or.inl rfl) q1016 (by decide) rfl pd_X12_letters rfl dX12_ending_57) (ct_X12_letters hLf h) hl.1 dX12_ending_57 [.inl ((((5 : Int32) * l1) + l2)), .inr (.inl (gR G3 (ad (gR G3 (ad th) 1)) 1))] rfl (Nat.le_of_ble_eq_true rfl) (Or.inl rfl) q1016 q118 ⟨Nat.le_of_ble_eq_true rfl, Nat.le_of_ble_eq_true rfl⟩ (fun v G6 H locs cells slots xG6 hq I => ?_) (fun a G9 H locs cells slots ex hq I => t_out C.2.2.2.2.2.2 ⟨rfl, rfl⟩ (fun z hz => hex z hz _) I hq)
  obtain ⟨r7, rfl, h⟩ := hq
  have h := h xG6
  obtain ⟨ho8, h⟩ := h
  obtain ⟨hi, h⟩ := h
  obtain ⟨hok, h⟩ := h
  refine A_aast C I ho8 (by decide) rfl hok hi dX12_ending_60 (fun H locs G9 eG9 xG9 I => ?_)
  have h := h G9 eG9
  exact r_void C.1 C.2.1 C.2.2.2.2.2.1 C.2.2.2.2.2.2 ⟨rfl, rfl⟩ I dX12_ending_61 ⟨rfl, h⟩
def w_X12_ending (T : Nat → ClassId) (Q : Hp → Prop) (E : Nat → Hp → Prop) (th : Option Nat) (G : Hp) : Prop := isO G th 9 ∧ (w_X12_number T (fun r2 G1 => Ext G G1 → w_X12_numberNow T (fun r4 G3 => Ext G1 G3 → isO G3 (gR G3 (ad th) 1) 2 ∧ isO G3 (gR G3 (ad (gR G3 (ad th) 1)) 1) 55 ∧ vp_in ((((5 : Int32) * r2) + r4)) (gN G3 (ad (gR G3 (ad (gR G3 (ad th) 1)) 1))) ∧ ((¬ gR G3 (ad (gR G3 (ad (gR G3 (ad th) 1)) 1)) ((((5 : Int32) * r2) + r4)).toNatClampNeg = none) → (w_X12_ending_36 T Q E th r2 r4 ((0 : Int32)) G3)) ∧ ((gR G3 (ad (gR G3 (ad (gR G3 (ad th) 1)) 1)) ((((5 : Int32) * r2) + r4)).toNatClampNeg = none) → (w_X12_ending_36 T Q E th r2 r4 ((1 : Int32)) G3))) E th ((0 : Int32)) ((4 : Int32)) G1) E th ((0 : Int32)) ((2 : Int32)) G)
theorem pd_X12_ending : (parseMethodDescriptor yX12_ending.desc).map (fun d => d.parameters.length) = some 0 := by decide +kernel
set_option maxHeartbeats 4000000 in
theorem ct_X12_ending {l : Launch} {D : va_G} {T : Nat → ClassId} {Z : Heap} {G0 : Hp} {Q : Hp → Prop} {E : Nat → Hp → Prop} {th : Option Nat} (hLf : l.flags = flags0) (hw : w_X12_ending T Q E th G0) : CT (twd D T Z) (Evd D T Z) l yX12_ending (Cond.code yX12_ending cX12_ending 3 none) 7 156 [va_rf th] G0 (qV Q) E := by
  refine CT.ofW (cc := cX12_ending) (nL := 3) (ret := none) Ext.rf (by decide) (Or.inl rfl) ?_
  intro p e s m below meth c hx hb hml hown hr hlk hnm hcb hm hc hn hE I
  have C : Cx p s m meth c D T Z "EndingTown$Reader" cX12_ending 3 none := ⟨hx, hb, hml, hown, hE, hr, hlk⟩
  have hex := noEx hn hm hc hcb
  refine w_entry [.inr (.inl th)] (Nat.le_of_ble_eq_true rfl) (fun ls hl => ?_)
  have hl : LH ls 3 [(0, .inr (.inl th))] := hl
  obtain ⟨hth, h⟩ := hw
  refine l_ald_n C dX12_ending_0 hl 0 rfl rfl ?_
  refine lv_iconst (v := 0) C.1 C.2.1 dX12_ending_1 (by decide) ?_
  refine lv_iconst (v := 2) C.1 C.2.1 dX12_ending_2 (by decide) ?_
  refine k_call Ext.tr C I (k_V (r := th) (As := [.int ((0 : Int32)), .int ((2 : Int32))]) (rest := []) (y := yX12_number) C ⟨hth.ad.1, I.recv C.2.2.2.2.1 hth (by decide)⟩ q858 q860 qs15 (Or.inl rfl) q861 (by decide) rfl pd_X12_number rfl dX12_ending_3) (ct_X12_number hLf h) hl.1 dX12_ending_3 [] rfl (Nat.le_of_ble_eq_true rfl) (Or.inl rfl) q861 q118 ⟨Nat.le_of_ble_eq_true rfl, Nat.le_of_ble_eq_true rfl⟩ (fun v G1 H locs cells slots xG1 hq I => ?_) (fun a G9 H locs cells slots ex hq I => t_out C.2.2.2.2.2.2 ⟨rfl, rfl⟩ (fun z hz => hex z hz _) I hq)
  obtain ⟨r2, rfl, h⟩ := hq
  have h := h xG1
  refine l_ist_n C dX12_ending_6 rfl hl (by decide) rfl (fun ls hl => ?_)
  have hl : LH ls 3 [(1, .inl r2), (0, .inr (.inl th))] := hl
  refine l_ald_n C dX12_ending_7 hl 1 rfl rfl ?_
  refine lv_iconst (v := 0) C.1 C.2.1 dX12_ending_8 (by decide) ?_
  refine lv_iconst (v := 4) C.1 C.2.1 dX12_ending_9 (by decide) ?_
  refine k_call Ext.tr C I (k_V (r := th) (As := [.int ((0 : Int32)), .int ((4 : Int32))]) (rest := []) (y := yX12_numberNow) C ⟨(hth.ext (by decide) xG1).ad.1, I.recv C.2.2.2.2.1 (hth.ext (by decide) xG1) (by decide)⟩ q862 q864 qs16 (Or.inl rfl) q865 (by decide) rfl pd_X12_numberNow rfl dX12_ending_10) (ct_X12_numberNow hLf h) hl.1 dX12_ending_10 [] rfl (Nat.le_of_ble_eq_true rfl) (Or.inl rfl) q865 q118 ⟨Nat.le_of_ble_eq_true rfl, Nat.le_of_ble_eq_true rfl⟩ (fun v G3 H locs cells slots xG3 hq I => ?_) (fun a G9 H locs cells slots ex hq I => t_out C.2.2.2.2.2.2 ⟨rfl, rfl⟩ (fun z hz => hex z hz _) I hq)
  obtain ⟨r4, rfl, h⟩ := hq
  have h := h xG3
  refine l_ist_n C dX12_ending_13 rfl hl (by decide) rfl (fun ls hl => ?_)
  have hl : LH ls 3 [(2, .inl r4), (1, .inl r2), (0, .inr (.inl th))] := hl
  refine l_ald_n C dX12_ending_14 hl 2 rfl rfl ?_
  refine l_ald_n C dX12_ending_15 hl 2 rfl rfl ?_
  refine g_R C I fl_X12_18_9 (by decide) (by decide) (hth.ext (by decide) (Ext.tr _ _ _ xG1 xG3)) dX12_ending_16 ?_
  obtain ⟨ho5, h⟩ := h
  refine g_R C I fl_X12_105_2 (by decide) (by decide) ho5 dX12_ending_19 ?_
  refine lv_iconst (v := 5) C.1 C.2.1 dX12_ending_22 (by decide) ?_
  refine l_ild_n C dX12_ending_23 hl 1 rfl rfl ?_
  refine lv_imul C.1 C.2.1 dX12_ending_24 ?_
  refine l_ild_n C dX12_ending_25 hl 0 rfl rfl ?_
  refine lv_iadd C.1 C.2.1 dX12_ending_26 ?_
  obtain ⟨ho6, h⟩ := h
  obtain ⟨hi, h⟩ := h
  refine a_aald C I ho6 (by decide) hi dX12_ending_27 ?_
  refine l_ifnonnull (tgt := 35) C dX12_ending_28 (by decide) (fun c7 => ?_) (fun c7 => ?_)
  · have h := h.1 c7
    refine lv_iconst (v := 0) C.1 C.2.1 dX12_ending_35 (by decide) ?_
    exact b_X12_ending_36 C hex hLf r2 r4 ((0 : Int32)) G3 _ _ _ _ _ h (hth.ext (by decide) (Ext.tr _ _ _ xG1 xG3)) I (hl.sub [2, 1, 0] rfl)
  · have h := h.2 c7
    refine lv_iconst (v := 1) C.1 C.2.1 dX12_ending_31 (by decide) ?_
    refine lv_goto (tgt := 36) C.1 C.2.1 dX12_ending_32 (by decide) ?_
    exact b_X12_ending_36 C hex hLf r2 r4 ((1 : Int32)) G3 _ _ _ _ _ h (hth.ext (by decide) (Ext.tr _ _ _ xG1 xG3)) I (hl.sub [2, 1, 0] rfl)
def w_X12_tongue_138 (T : Nat → ClassId) (Q : Hp → Prop) (E : Nat → Hp → Prop) (th : Option Nat) (G : Hp) : Prop := Q G
set_option maxHeartbeats 4000000 in
theorem b_X12_tongue_138 {G0 : Hp} {Q : Hp → Prop} {E : Nat → Hp → Prop} {th : Option Nat} (C : Cx p s m meth c D T Z "EndingTown$Reader" cX12_tongue 1 none) (hex : ∀ z ∈ c.exceptionTable.toList, ∀ pc, covers z pc = false) (hLf : l.flags = flags0) : ∀ (G : Hp) (H : Heap) (locs : List Loc) (cells slots : Nat) (ls : Array Slot), w_X12_tongue_138 T Q E th G → isO G th 9 → HI (twd D T Z) G0 s (rmX (twd D T Z) 8 250 G0) H locs cells slots G → LH ls 1 [] → W p l e (rmX (twd D T Z) 8 250 G0) s m args below meth c H locs cells slots (MQX (twd D T Z) G0 (qV Q) E below s) (F0 m 138 ls []) := by
  intro G H locs cells slots ls h hth I hl
  exact r_void C.1 C.2.1 C.2.2.2.2.2.1 C.2.2.2.2.2.2 ⟨rfl, rfl⟩ I dX12_tongue_138 ⟨rfl, h⟩
def w_X12_tongue_32 (T : Nat → ClassId) (Q : Hp → Prop) (E : Nat → Hp → Prop) (th : Option Nat) (t0 : Int32) (G : Hp) : Prop := w_X12_want T (fun G1 => Ext G G1 → w_X12_next T (fun G3 => Ext G1 G3 → isO G3 (gR G3 (ad th) 1) 2 ∧ w_X12_letters T (fun r7 G6 => Ext G3 G6 → isO G6 (gR G3 (ad (gR G3 (ad th) 1)) 0) 16 ∧ w_J2_add T (fun r9 G8 => Ext G6 G8 → w_X12_tongue_138 T Q E th G8) (gR G3 (ad (gR G3 (ad th) 1)) 0) r7 G6) E th G3) th G1) E th t0 ((2 : Int32)) G
set_option maxHeartbeats 4000000 in
theorem b_X12_tongue_32 {G0 : Hp} {Q : Hp → Prop} {E : Nat → Hp → Prop} {th : Option Nat} (C : Cx p s m meth c D T Z "EndingTown$Reader" cX12_tongue 1 none) (hex : ∀ z ∈ c.exceptionTable.toList, ∀ pc, covers z pc = false) (hLf : l.flags = flags0) : ∀ (t0 : Int32) (G : Hp) (H : Heap) (locs : List Loc) (cells slots : Nat) (ls : Array Slot), w_X12_tongue_32 T Q E th t0 G → isO G th 9 → HI (twd D T Z) G0 s (rmX (twd D T Z) 8 250 G0) H locs cells slots G → LH ls 1 [(0, .inr (.inl th))] → W p l e (rmX (twd D T Z) 8 250 G0) s m args below meth c H locs cells slots (MQX (twd D T Z) G0 (qV Q) E below s) (F0 m 32 ls [.int t0, va_rf th]) := by
  intro t0 G H locs cells slots ls h hth I hl
  refine lv_iconst (v := 2) C.1 C.2.1 dX12_tongue_32 (by decide) ?_
  refine k_call Ext.tr C I (k_V (r := th) (As := [.int t0, .int ((2 : Int32))]) (rest := []) (y := yX12_want) C ⟨hth.ad.1, I.recv C.2.2.2.2.1 hth (by decide)⟩ q830 q832 qs14 (Or.inl rfl) q833 (by decide) rfl pd_X12_want rfl dX12_tongue_33) (ct_X12_want hLf h) hl.1 dX12_tongue_33 [] rfl (Nat.le_of_ble_eq_true rfl) (Or.inl rfl) q833 q118 ⟨Nat.le_of_ble_eq_true rfl, Nat.le_of_ble_eq_true rfl⟩ (fun v G1 H locs cells slots xG1 hq I => ?_) (fun a G9 H locs cells slots ex hq I => t_out C.2.2.2.2.2.2 ⟨rfl, rfl⟩ (fun z hz => hex z hz _) I hq)
  obtain ⟨rfl, h⟩ := hq
  have h := h xG1
  refine l_ald_n C dX12_tongue_36 hl 0 rfl rfl ?_
  refine k_call Ext.tr C I (k_V (r := th) (As := []) (rest := []) (y := yX12_next) C ⟨(hth.ext (by decide) xG1).ad.1, I.recv C.2.2.2.2.1 (hth.ext (by decide) xG1) (by decide)⟩ q751 q752 q753 (Or.inl rfl) q754 (by decide) rfl pd_X12_next rfl dX12_tongue_37) (ct_X12_next h) hl.1 dX12_tongue_37 [] rfl (Nat.le_of_ble_eq_true rfl) (Or.inl rfl) q754 q118 ⟨Nat.le_of_ble_eq_true rfl, Nat.le_of_ble_eq_true rfl⟩ (fun v G3 H locs cells slots xG3 hq I => ?_) (fun a G9 H locs cells slots ex hq I => hq.elim)
  obtain ⟨rfl, h⟩ := hq
  have h := h xG3
  refine l_ald_n C dX12_tongue_40 hl 0 rfl rfl ?_
  refine g_R C I fl_X12_18_9 (by decide) (by decide) (hth.ext (by decide) (Ext.tr _ _ _ xG1 xG3)) dX12_tongue_41 ?_
  obtain ⟨ho5, h⟩ := h
  refine g_R C I fl_X12_153_2 (by decide) (by decide) ho5 dX12_tongue_44 ?_
  refine l_ald_n C dX12_tongue_47 hl 0 rfl rfl ?_
  refine k_call Ext.tr C I (k_V (r := th) (As := []) (rest := [va_rf (gR G3 (ad (gR G3 (ad th) 1)) 0)]) (y := yX12_letters) C ⟨(hth.ext (by decide) (Ext.tr _ _ _ xG1 xG3)).ad.1, I.recv C.2.2.2.2.1 (hth.ext (by decide) (Ext.tr _ _ _ xG1 xG3)) (by decide)⟩ q1013 q1015 qs29 (Or.inl rfl) q1016 (by decide) rfl pd_X12_letters rfl dX12_tongue_48) (ct_X12_letters hLf h) hl.1 dX12_tongue_48 [.inr (.inl (gR G3 (ad (gR G3 (ad th) 1)) 0))] rfl (Nat.le_of_ble_eq_true rfl) (Or.inl rfl) q1016 q118 ⟨Nat.le_of_ble_eq_true rfl, Nat.le_of_ble_eq_true rfl⟩ (fun v G6 H locs cells slots xG6 hq I => ?_) (fun a G9 H locs cells slots ex hq I => t_out C.2.2.2.2.2.2 ⟨rfl, rfl⟩ (fun z hz => hex z hz _) I hq)
  obtain ⟨r7, rfl, h⟩ := hq
  have h := h xG6
  obtain ⟨ho10, h⟩ := h
  refine k_call Ext.tr C I (k_F (kd := 16) (r := gR G3 (ad (gR G3 (ad th) 1)) 0) (As := [va_rf r7]) (rest := []) (y := yJ2_add) (x := ⟨"java/util/List", "add", "(Ljava/lang/Object;)Z"⟩) C (by decide) ⟨ho10.ad.1, I.recv C.2.2.2.2.1 ho10 (by decide)⟩ q938 (by decide) q940 q939 q944 q942 q417 q941 q943 rfl pd_J2_add rfl dX12_tongue_51) (ct_J2_add h) hl.1 dX12_tongue_51 [] rfl (Nat.le_of_ble_eq_true rfl) (Or.inl rfl) q945 q104 ⟨Nat.le_of_ble_eq_true rfl, Nat.le_of_ble_eq_true rfl⟩ (fun v G8 H locs cells slots xG8 hq I => ?_) (fun a G9 H locs cells slots ex hq I => hq.elim)
  obtain ⟨r9, rfl, h⟩ := hq
  have h := h xG8
  refine lv_pop C.1 C.2.1 dX12_tongue_56 rfl ?_
  refine lv_goto (tgt := 138) C.1 C.2.1 dX12_tongue_57 (by decide) ?_
  exact b_X12_tongue_138 C hex hLf G8 _ _ _ _ _ h (hth.ext (by decide) (Ext.tr _ _ _ xG1 (Ext.tr _ _ _ xG3 (Ext.tr _ _ _ xG6 xG8)))) I (hl.sub [] rfl)
def w_X12_tongue_119 (T : Nat → ClassId) (Q : Hp → Prop) (E : Nat → Hp → Prop) (th : Option Nat) (t0 : Int32) (G : Hp) : Prop := w_X12_want T (fun G1 => Ext G G1 → w_X12_next T (fun G3 => Ext G1 G3 → w_X12_letters T (fun r6 G5 => Ext G3 G5 → isO G5 (gR G3 (ad th) 1) 2 ∧ ∀ G8 : Hp, G8 = wR G5 (ad (gR G3 (ad th) 1)) 8 r6 → w_X12_tongue_138 T Q E th G8) E th G3) th G1) E th t0 ((4 : Int32)) G
set_option maxHeartbeats 4000000 in
theorem b_X12_tongue_119 {G0 : Hp} {Q : Hp → Prop} {E : Nat → Hp → Prop} {th : Option Nat} (C : Cx p s m meth c D T Z "EndingTown$Reader" cX12_tongue 1 none) (hex : ∀ z ∈ c.exceptionTable.toList, ∀ pc, covers z pc = false) (hLf : l.flags = flags0) : ∀ (t0 : Int32) (G : Hp) (H : Heap) (locs : List Loc) (cells slots : Nat) (ls : Array Slot), w_X12_tongue_119 T Q E th t0 G → isO G th 9 → HI (twd D T Z) G0 s (rmX (twd D T Z) 8 250 G0) H locs cells slots G → LH ls 1 [(0, .inr (.inl th))] → W p l e (rmX (twd D T Z) 8 250 G0) s m args below meth c H locs cells slots (MQX (twd D T Z) G0 (qV Q) E below s) (F0 m 119 ls [.int t0, va_rf th]) := by
  intro t0 G H locs cells slots ls h hth I hl
  refine lv_iconst (v := 4) C.1 C.2.1 dX12_tongue_119 (by decide) ?_
  refine k_call Ext.tr C I (k_V (r := th) (As := [.int t0, .int ((4 : Int32))]) (rest := []) (y := yX12_want) C ⟨hth.ad.1, I.recv C.2.2.2.2.1 hth (by decide)⟩ q830 q832 qs14 (Or.inl rfl) q833 (by decide) rfl pd_X12_want rfl dX12_tongue_120) (ct_X12_want hLf h) hl.1 dX12_tongue_120 [] rfl (Nat.le_of_ble_eq_true rfl) (Or.inl rfl) q833 q118 ⟨Nat.le_of_ble_eq_true rfl, Nat.le_of_ble_eq_true rfl⟩ (fun v G1 H locs cells slots xG1 hq I => ?_) (fun a G9 H locs cells slots ex hq I => t_out C.2.2.2.2.2.2 ⟨rfl, rfl⟩ (fun z hz => hex z hz _) I hq)
  obtain ⟨rfl, h⟩ := hq
  have h := h xG1
  refine l_ald_n C dX12_tongue_123 hl 0 rfl rfl ?_
  refine k_call Ext.tr C I (k_V (r := th) (As := []) (rest := []) (y := yX12_next) C ⟨(hth.ext (by decide) xG1).ad.1, I.recv C.2.2.2.2.1 (hth.ext (by decide) xG1) (by decide)⟩ q751 q752 q753 (Or.inl rfl) q754 (by decide) rfl pd_X12_next rfl dX12_tongue_124) (ct_X12_next h) hl.1 dX12_tongue_124 [] rfl (Nat.le_of_ble_eq_true rfl) (Or.inl rfl) q754 q118 ⟨Nat.le_of_ble_eq_true rfl, Nat.le_of_ble_eq_true rfl⟩ (fun v G3 H locs cells slots xG3 hq I => ?_) (fun a G9 H locs cells slots ex hq I => hq.elim)
  obtain ⟨rfl, h⟩ := hq
  have h := h xG3
  refine l_ald_n C dX12_tongue_127 hl 0 rfl rfl ?_
  refine g_R C I fl_X12_18_9 (by decide) (by decide) (hth.ext (by decide) (Ext.tr _ _ _ xG1 xG3)) dX12_tongue_128 ?_
  refine l_ald_n C dX12_tongue_131 hl 0 rfl rfl ?_
  refine k_call Ext.tr C I (k_V (r := th) (As := []) (rest := [va_rf (gR G3 (ad th) 1)]) (y := yX12_letters) C ⟨(hth.ext (by decide) (Ext.tr _ _ _ xG1 xG3)).ad.1, I.recv C.2.2.2.2.1 (hth.ext (by decide) (Ext.tr _ _ _ xG1 xG3)) (by decide)⟩ q1013 q1015 qs29 (Or.inl rfl) q1016 (by decide) rfl pd_X12_letters rfl dX12_tongue_132) (ct_X12_letters hLf h) hl.1 dX12_tongue_132 [.inr (.inl (gR G3 (ad th) 1))] rfl (Nat.le_of_ble_eq_true rfl) (Or.inl rfl) q1016 q118 ⟨Nat.le_of_ble_eq_true rfl, Nat.le_of_ble_eq_true rfl⟩ (fun v G5 H locs cells slots xG5 hq I => ?_) (fun a G9 H locs cells slots ex hq I => t_out C.2.2.2.2.2.2 ⟨rfl, rfl⟩ (fun z hz => hex z hz _) I hq)
  obtain ⟨r6, rfl, h⟩ := hq
  have h := h xG5
  obtain ⟨ho7, h⟩ := h
  refine P_R C I fp_X12_218_2 (fun z => by cases z) (by decide) (by decide) ho7 dX12_tongue_135 (fun x => fit_o x) (fun H locs G8 eG8 xG8 I => ?_)
  have h := h G8 eG8
  exact b_X12_tongue_138 C hex hLf G8 _ _ _ _ _ h (hth.ext (by decide) (Ext.tr _ _ _ xG1 (Ext.tr _ _ _ xG3 (Ext.tr _ _ _ xG5 xG8)))) I (hl.sub [] rfl)
def w_X12_tongue (T : Nat → ClassId) (Q : Hp → Prop) (E : Nat → Hp → Prop) (th : Option Nat) (G : Hp) : Prop := isO G th 9 ∧ (w_X12_is T (fun r2 G1 => Ext G G1 → ((r2 = 0) → (w_X12_passes T (fun r4 G3 => Ext G1 G3 → ((r4 = 0) → (w_X12_is T (fun r6 G5 => Ext G3 G5 → ((r6 = 0) → (w_X12_is T (fun r8 G7 => Ext G5 G7 → w_X12_want T (fun G9 => Ext G7 G9 → isO G9 (gR G9 (ad th) 1) 2 ∧ ((¬ gR G9 (ad (gR G9 (ad th) 1)) 8 = none) → (w_X12_tongue_119 T Q E th ((0 : Int32)) G9)) ∧ ((gR G9 (ad (gR G9 (ad th) 1)) 8 = none) → (w_X12_tongue_119 T Q E th ((1 : Int32)) G9))) E th r8 ((1 : Int32)) G7) th ((some (T 132))) G5)) ∧ ((¬ r6 = 0) → (w_X12_change T (fun G13 => Ext G5 G13 → w_X12_tongue_138 T Q E th G13) E th G5))) th ((some (T 131))) G3)) ∧ ((¬ r4 = 0) → (w_X12_ending T (fun G16 => Ext G3 G16 → w_X12_tongue_138 T Q E th G16) E th G3))) th ((some (T 130))) G1)) ∧ ((¬ r2 = 0) → (isO G1 (gR G1 (ad th) 1) 2 ∧ isO G1 (gR G1 (ad (gR G1 (ad th) 1)) 0) 16 ∧ w_J2_size T (fun r21 G20 => Ext G1 G20 → (((12 : Int32) ≤ r21) → (w_X12_tongue_32 T Q E th ((0 : Int32)) G20)) ∧ ((¬ (12 : Int32) ≤ r21) → (w_X12_tongue_32 T Q E th ((1 : Int32)) G20))) (gR G1 (ad (gR G1 (ad th) 1)) 0) G1))) th ((some (T 129))) G)
theorem pd_X12_tongue : (parseMethodDescriptor yX12_tongue.desc).map (fun d => d.parameters.length) = some 0 := by decide +kernel
set_option maxHeartbeats 4000000 in
theorem ct_X12_tongue {l : Launch} {D : va_G} {T : Nat → ClassId} {Z : Heap} {G0 : Hp} {Q : Hp → Prop} {E : Nat → Hp → Prop} {th : Option Nat} (hLf : l.flags = flags0) (hw : w_X12_tongue T Q E th G0) : CT (twd D T Z) (Evd D T Z) l yX12_tongue (Cond.code yX12_tongue cX12_tongue 1 none) 8 250 [va_rf th] G0 (qV Q) E := by
  refine CT.ofW (cc := cX12_tongue) (nL := 1) (ret := none) Ext.rf (by decide) (Or.inl rfl) ?_
  intro p e s m below meth c hx hb hml hown hr hlk hnm hcb hm hc hn hE I
  have C : Cx p s m meth c D T Z "EndingTown$Reader" cX12_tongue 1 none := ⟨hx, hb, hml, hown, hE, hr, hlk⟩
  have hex := noEx hn hm hc hcb
  refine w_entry [.inr (.inl th)] (Nat.le_of_ble_eq_true rfl) (fun ls hl => ?_)
  have hl : LH ls 1 [(0, .inr (.inl th))] := hl
  obtain ⟨hth, h⟩ := hw
  refine l_ald_n C dX12_tongue_0 hl 0 rfl rfl ?_
  refine z_ls (i := 9) C I q1012 rfl (by decide) dX12_tongue_1 ?_
  refine k_call Ext.tr C I (k_V (r := th) (As := [va_rf ((some (T 129)))]) (rest := []) (y := yX12_is) C ⟨hth.ad.1, I.recv C.2.2.2.2.1 hth (by decide)⟩ q776 q778 qs12 (Or.inl rfl) q779 (by decide) rfl pd_X12_is rfl dX12_tongue_3) (ct_X12_is h) hl.1 dX12_tongue_3 [] rfl (Nat.le_of_ble_eq_true rfl) (Or.inl rfl) q779 q118 ⟨Nat.le_of_ble_eq_true rfl, Nat.le_of_ble_eq_true rfl⟩ (fun v G1 H locs cells slots xG1 hq I => ?_) (fun a G9 H locs cells slots ex hq I => hq.elim)
  obtain ⟨r2, rfl, h⟩ := hq
  have h := h xG1
  refine lv_if_eq (tgt := 60) C.1 C.2.1 dX12_tongue_6 (by decide) (fun c24 => ?_) (fun c24 => ?_)
  · have h := h.1 c24
    refine l_ald_n C dX12_tongue_60 hl 0 rfl rfl ?_
    refine z_ls (i := 10) C I q1029 rfl (by decide) dX12_tongue_61 ?_
    refine k_call Ext.tr C I (k_V (r := th) (As := [va_rf ((some (T 130)))]) (rest := []) (y := yX12_passes) C ⟨(hth.ext (by decide) xG1).ad.1, I.recv C.2.2.2.2.1 (hth.ext (by decide) xG1) (by decide)⟩ q867 q869 qs17 (Or.inl rfl) q870 (by decide) rfl pd_X12_passes rfl dX12_tongue_63) (ct_X12_passes h) hl.1 dX12_tongue_63 [] rfl (Nat.le_of_ble_eq_true rfl) (Or.inl rfl) q870 q118 ⟨Nat.le_of_ble_eq_true rfl, Nat.le_of_ble_eq_true rfl⟩ (fun v G3 H locs cells slots xG3 hq I => ?_) (fun a G9 H locs cells slots ex hq I => hq.elim)
    obtain ⟨r4, rfl, h⟩ := hq
    have h := h xG3
    refine lv_if_eq (tgt := 76) C.1 C.2.1 dX12_tongue_66 (by decide) (fun c18 => ?_) (fun c18 => ?_)
    · have h := h.1 c18
      refine l_ald_n C dX12_tongue_76 hl 0 rfl rfl ?_
      refine z_ls (i := 11) C I q1034 rfl (by decide) dX12_tongue_77 ?_
      refine k_call Ext.tr C I (k_V (r := th) (As := [va_rf ((some (T 131)))]) (rest := []) (y := yX12_is) C ⟨(hth.ext (by decide) (Ext.tr _ _ _ xG1 xG3)).ad.1, I.recv C.2.2.2.2.1 (hth.ext (by decide) (Ext.tr _ _ _ xG1 xG3)) (by decide)⟩ q776 q778 qs12 (Or.inl rfl) q779 (by decide) rfl pd_X12_is rfl dX12_tongue_79) (ct_X12_is h) hl.1 dX12_tongue_79 [] rfl (Nat.le_of_ble_eq_true rfl) (Or.inl rfl) q779 q118 ⟨Nat.le_of_ble_eq_true rfl, Nat.le_of_ble_eq_true rfl⟩ (fun v G5 H locs cells slots xG5 hq I => ?_) (fun a G9 H locs cells slots ex hq I => hq.elim)
      obtain ⟨r6, rfl, h⟩ := hq
      have h := h xG5
      refine lv_if_eq (tgt := 92) C.1 C.2.1 dX12_tongue_82 (by decide) (fun c15 => ?_) (fun c15 => ?_)
      · have h := h.1 c15
        refine l_ald_n C dX12_tongue_92 hl 0 rfl rfl ?_
        refine l_ald_n C dX12_tongue_93 hl 0 rfl rfl ?_
        refine z_ls (i := 12) C I q1058 rfl (by decide) dX12_tongue_94 ?_
        refine k_call Ext.tr C I (k_V (r := th) (As := [va_rf ((some (T 132)))]) (rest := [va_rf th]) (y := yX12_is) C ⟨(hth.ext (by decide) (Ext.tr _ _ _ xG1 (Ext.tr _ _ _ xG3 xG5))).ad.1, I.recv C.2.2.2.2.1 (hth.ext (by decide) (Ext.tr _ _ _ xG1 (Ext.tr _ _ _ xG3 xG5))) (by decide)⟩ q776 q778 qs12 (Or.inl rfl) q779 (by decide) rfl pd_X12_is rfl dX12_tongue_96) (ct_X12_is h) hl.1 dX12_tongue_96 [.inr (.inl th)] rfl (Nat.le_of_ble_eq_true rfl) (Or.inl rfl) q779 q118 ⟨Nat.le_of_ble_eq_true rfl, Nat.le_of_ble_eq_true rfl⟩ (fun v G7 H locs cells slots xG7 hq I => ?_) (fun a G9 H locs cells slots ex hq I => hq.elim)
        obtain ⟨r8, rfl, h⟩ := hq
        have h := h xG7
        refine lv_iconst (v := 1) C.1 C.2.1 dX12_tongue_99 (by decide) ?_
        refine k_call Ext.tr C I (k_V (r := th) (As := [.int r8, .int ((1 : Int32))]) (rest := []) (y := yX12_want) C ⟨(hth.ext (by decide) (Ext.tr _ _ _ xG1 (Ext.tr _ _ _ xG3 (Ext.tr _ _ _ xG5 xG7)))).ad.1, I.recv C.2.2.2.2.1 (hth.ext (by decide) (Ext.tr _ _ _ xG1 (Ext.tr _ _ _ xG3 (Ext.tr _ _ _ xG5 xG7)))) (by decide)⟩ q830 q832 qs14 (Or.inl rfl) q833 (by decide) rfl pd_X12_want rfl dX12_tongue_100) (ct_X12_want hLf h) hl.1 dX12_tongue_100 [] rfl (Nat.le_of_ble_eq_true rfl) (Or.inl rfl) q833 q118 ⟨Nat.le_of_ble_eq_true rfl, Nat.le_of_ble_eq_true rfl⟩ (fun v G9 H locs cells slots xG9 hq I => ?_) (fun a G9 H locs cells slots ex hq I => t_out C.2.2.2.2.2.2 ⟨rfl, rfl⟩ (fun z hz => hex z hz _) I hq)
        obtain ⟨rfl, h⟩ := hq
        have h := h xG9
        refine l_ald_n C dX12_tongue_103 hl 0 rfl rfl ?_
        refine l_ald_n C dX12_tongue_104 hl 0 rfl rfl ?_
        refine g_R C I fl_X12_18_9 (by decide) (by decide) (hth.ext (by decide) (Ext.tr _ _ _ xG1 (Ext.tr _ _ _ xG3 (Ext.tr _ _ _ xG5 (Ext.tr _ _ _ xG7 xG9))))) dX12_tongue_105 ?_
        obtain ⟨ho11, h⟩ := h
        refine g_R C I fl_X12_218_2 (by decide) (by decide) ho11 dX12_tongue_108 ?_
        refine l_ifnonnull (tgt := 118) C dX12_tongue_111 (by decide) (fun c12 => ?_) (fun c12 => ?_)
        · have h := h.1 c12
          refine lv_iconst (v := 0) C.1 C.2.1 dX12_tongue_118 (by decide) ?_
          exact b_X12_tongue_119 C hex hLf ((0 : Int32)) G9 _ _ _ _ _ h (hth.ext (by decide) (Ext.tr _ _ _ xG1 (Ext.tr _ _ _ xG3 (Ext.tr _ _ _ xG5 (Ext.tr _ _ _ xG7 xG9))))) I (hl.sub [0] rfl)
        · have h := h.2 c12
          refine lv_iconst (v := 1) C.1 C.2.1 dX12_tongue_114 (by decide) ?_
          refine lv_goto (tgt := 119) C.1 C.2.1 dX12_tongue_115 (by decide) ?_
          exact b_X12_tongue_119 C hex hLf ((1 : Int32)) G9 _ _ _ _ _ h (hth.ext (by decide) (Ext.tr _ _ _ xG1 (Ext.tr _ _ _ xG3 (Ext.tr _ _ _ xG5 (Ext.tr _ _ _ xG7 xG9))))) I (hl.sub [0] rfl)
      · have h := h.2 c15
        refine l_ald_n C dX12_tongue_85 hl 0 rfl rfl ?_
        refine k_call Ext.tr C I (k_V (r := th) (As := []) (rest := []) (y := yX12_change) C ⟨(hth.ext (by decide) (Ext.tr _ _ _ xG1 (Ext.tr _ _ _ xG3 xG5))).ad.1, I.recv C.2.2.2.2.1 (hth.ext (by decide) (Ext.tr _ _ _ xG1 (Ext.tr _ _ _ xG3 xG5))) (by decide)⟩ q1035 q1037 qs31 (Or.inl rfl) q1038 (by decide) rfl pd_X12_change rfl dX12_tongue_86) (ct_X12_change hLf h) hl.1 dX12_tongue_86 [] rfl (Nat.le_of_ble_eq_true rfl) (Or.inl rfl) q1038 q118 ⟨Nat.le_of_ble_eq_true rfl, Nat.le_of_ble_eq_true rfl⟩ (fun v G13 H locs cells slots xG13 hq I => ?_) (fun a G9 H locs cells slots ex hq I => t_out C.2.2.2.2.2.2 ⟨rfl, rfl⟩ (fun z hz => hex z hz _) I hq)
        obtain ⟨rfl, h⟩ := hq
        have h := h xG13
        refine lv_goto (tgt := 138) C.1 C.2.1 dX12_tongue_89 (by decide) ?_
        exact b_X12_tongue_138 C hex hLf G13 _ _ _ _ _ h (hth.ext (by decide) (Ext.tr _ _ _ xG1 (Ext.tr _ _ _ xG3 (Ext.tr _ _ _ xG5 xG13)))) I (hl.sub [] rfl)
    · have h := h.2 c18
      refine l_ald_n C dX12_tongue_69 hl 0 rfl rfl ?_
      refine k_call Ext.tr C I (k_V (r := th) (As := []) (rest := []) (y := yX12_ending) C ⟨(hth.ext (by decide) (Ext.tr _ _ _ xG1 xG3)).ad.1, I.recv C.2.2.2.2.1 (hth.ext (by decide) (Ext.tr _ _ _ xG1 xG3)) (by decide)⟩ q1030 q1032 qs30 (Or.inl rfl) q1033 (by decide) rfl pd_X12_ending rfl dX12_tongue_70) (ct_X12_ending hLf h) hl.1 dX12_tongue_70 [] rfl (Nat.le_of_ble_eq_true rfl) (Or.inl rfl) q1033 q118 ⟨Nat.le_of_ble_eq_true rfl, Nat.le_of_ble_eq_true rfl⟩ (fun v G16 H locs cells slots xG16 hq I => ?_) (fun a G9 H locs cells slots ex hq I => t_out C.2.2.2.2.2.2 ⟨rfl, rfl⟩ (fun z hz => hex z hz _) I hq)
      obtain ⟨rfl, h⟩ := hq
      have h := h xG16
      refine lv_goto (tgt := 138) C.1 C.2.1 dX12_tongue_73 (by decide) ?_
      exact b_X12_tongue_138 C hex hLf G16 _ _ _ _ _ h (hth.ext (by decide) (Ext.tr _ _ _ xG1 (Ext.tr _ _ _ xG3 xG16))) I (hl.sub [] rfl)
  · have h := h.2 c24
    refine l_ald_n C dX12_tongue_9 hl 0 rfl rfl ?_
    refine l_ald_n C dX12_tongue_10 hl 0 rfl rfl ?_
    refine g_R C I fl_X12_18_9 (by decide) (by decide) (hth.ext (by decide) xG1) dX12_tongue_11 ?_
    obtain ⟨ho19, h⟩ := h
    refine g_R C I fl_X12_153_2 (by decide) (by decide) ho19 dX12_tongue_14 ?_
    obtain ⟨ho23, h⟩ := h
    refine k_call Ext.tr C I (k_F (kd := 16) (r := gR G1 (ad (gR G1 (ad th) 1)) 0) (As := []) (rest := [va_rf th]) (y := yJ2_size) (x := ⟨"java/util/List", "size", "()I"⟩) C (by decide) ⟨ho23.ad.1, I.recv C.2.2.2.2.1 ho23 (by decide)⟩ q890 (by decide) q426 q425 q430 q428 q417 q427 q429 rfl pd_J2_size rfl dX12_tongue_17) (ct_J2_size h) hl.1 dX12_tongue_17 [.inr (.inl th)] rfl (Nat.le_of_ble_eq_true rfl) (Or.inl rfl) q431 q104 ⟨Nat.le_of_ble_eq_true rfl, Nat.le_of_ble_eq_true rfl⟩ (fun v G20 H locs cells slots xG20 hq I => ?_) (fun a G9 H locs cells slots ex hq I => hq.elim)
    obtain ⟨r21, rfl, h⟩ := hq
    have h := h xG20
    refine lv_bipush (v := 12) C.1 C.2.1 dX12_tongue_22 (by decide) ?_
    refine lv_icmp_ge (tgt := 31) C.1 C.2.1 dX12_tongue_24 (by decide) (fun c22 => ?_) (fun c22 => ?_)
    · have h := h.1 c22
      refine lv_iconst (v := 0) C.1 C.2.1 dX12_tongue_31 (by decide) ?_
      exact b_X12_tongue_32 C hex hLf ((0 : Int32)) G20 _ _ _ _ _ h (hth.ext (by decide) (Ext.tr _ _ _ xG1 xG20)) I (hl.sub [0] rfl)
    · have h := h.2 c22
      refine lv_iconst (v := 1) C.1 C.2.1 dX12_tongue_27 (by decide) ?_
      refine lv_goto (tgt := 32) C.1 C.2.1 dX12_tongue_28 (by decide) ?_
      exact b_X12_tongue_32 C hex hLf ((1 : Int32)) G20 _ _ _ _ _ h (hth.ext (by decide) (Ext.tr _ _ _ xG1 xG20)) I (hl.sub [0] rfl)
def w_X12_weigh (T : Nat → ClassId) (Q : Hp → Prop) (E : Nat → Hp → Prop) (th : Option Nat) (G : Hp) : Prop := isO G th 9 ∧ (w_X12_number T (fun r2 G1 => Ext G G1 → isO G1 (gR G1 (ad th) 1) 2 ∧ w_X12_number T (fun r5 G4 => Ext G1 G4 → isO G4 (gR G1 (ad (gR G1 (ad th) 1)) 7) 50 ∧ vp_in (((2 : Int32) * r2)) (gN G4 (ad (gR G1 (ad (gR G1 (ad th) 1)) 7))) ∧ ∀ G7 : Hp, G7 = wI G4 (ad (gR G1 (ad (gR G1 (ad th) 1)) 7)) (((2 : Int32) * r2)).toNatClampNeg r5 → isO G7 (gR G7 (ad th) 1) 2 ∧ w_X12_number T (fun r10 G9 => Ext G7 G9 → isO G9 (gR G7 (ad (gR G7 (ad th) 1)) 7) 50 ∧ vp_in ((((2 : Int32) * r2) + (1 : Int32))) (gN G9 (ad (gR G7 (ad (gR G7 (ad th) 1)) 7))) ∧ ∀ G12 : Hp, G12 = wI G9 (ad (gR G7 (ad (gR G7 (ad th) 1)) 7)) ((((2 : Int32) * r2) + (1 : Int32))).toNatClampNeg r10 → Q G12) E th ((0 : Int32)) ((1000 : Int32)) G7) E th ((0 : Int32)) ((1000 : Int32)) G1) E th ((0 : Int32)) ((4 : Int32)) G)
theorem pd_X12_weigh : (parseMethodDescriptor yX12_weigh.desc).map (fun d => d.parameters.length) = some 0 := by decide +kernel
set_option maxHeartbeats 4000000 in
theorem ct_X12_weigh {l : Launch} {D : va_G} {T : Nat → ClassId} {Z : Heap} {G0 : Hp} {Q : Hp → Prop} {E : Nat → Hp → Prop} {th : Option Nat} (hLf : l.flags = flags0) (hw : w_X12_weigh T Q E th G0) : CT (twd D T Z) (Evd D T Z) l yX12_weigh (Cond.code yX12_weigh cX12_weigh 2 none) 7 156 [va_rf th] G0 (qV Q) E := by
  refine CT.ofW (cc := cX12_weigh) (nL := 2) (ret := none) Ext.rf (by decide) (Or.inl rfl) ?_
  intro p e s m below meth c hx hb hml hown hr hlk hnm hcb hm hc hn hE I
  have C : Cx p s m meth c D T Z "EndingTown$Reader" cX12_weigh 2 none := ⟨hx, hb, hml, hown, hE, hr, hlk⟩
  have hex := noEx hn hm hc hcb
  refine w_entry [.inr (.inl th)] (Nat.le_of_ble_eq_true rfl) (fun ls hl => ?_)
  have hl : LH ls 2 [(0, .inr (.inl th))] := hl
  obtain ⟨hth, h⟩ := hw
  refine l_ald_n C dX12_weigh_0 hl 0 rfl rfl ?_
  refine lv_iconst (v := 0) C.1 C.2.1 dX12_weigh_1 (by decide) ?_
  refine lv_iconst (v := 4) C.1 C.2.1 dX12_weigh_2 (by decide) ?_
  refine k_call Ext.tr C I (k_V (r := th) (As := [.int ((0 : Int32)), .int ((4 : Int32))]) (rest := []) (y := yX12_number) C ⟨hth.ad.1, I.recv C.2.2.2.2.1 hth (by decide)⟩ q858 q860 qs15 (Or.inl rfl) q861 (by decide) rfl pd_X12_number rfl dX12_weigh_3) (ct_X12_number hLf h) hl.1 dX12_weigh_3 [] rfl (Nat.le_of_ble_eq_true rfl) (Or.inl rfl) q861 q118 ⟨Nat.le_of_ble_eq_true rfl, Nat.le_of_ble_eq_true rfl⟩ (fun v G1 H locs cells slots xG1 hq I => ?_) (fun a G9 H locs cells slots ex hq I => t_out C.2.2.2.2.2.2 ⟨rfl, rfl⟩ (fun z hz => hex z hz _) I hq)
  obtain ⟨r2, rfl, h⟩ := hq
  have h := h xG1
  refine l_ist_n C dX12_weigh_6 rfl hl (by decide) rfl (fun ls hl => ?_)
  have hl : LH ls 2 [(1, .inl r2), (0, .inr (.inl th))] := hl
  refine l_ald_n C dX12_weigh_7 hl 1 rfl rfl ?_
  refine g_R C I fl_X12_18_9 (by decide) (by decide) (hth.ext (by decide) xG1) dX12_weigh_8 ?_
  obtain ⟨ho3, h⟩ := h
  refine g_R C I fl_X12_204_2 (by decide) (by decide) ho3 dX12_weigh_11 ?_
  refine lv_iconst (v := 2) C.1 C.2.1 dX12_weigh_14 (by decide) ?_
  refine l_ild_n C dX12_weigh_15 hl 0 rfl rfl ?_
  refine lv_imul C.1 C.2.1 dX12_weigh_16 ?_
  refine l_ald_n C dX12_weigh_17 hl 1 rfl rfl ?_
  refine lv_iconst (v := 0) C.1 C.2.1 dX12_weigh_18 (by decide) ?_
  refine lv_sipush (v := 1000) C.1 C.2.1 dX12_weigh_19 (by decide) ?_
  refine k_call Ext.tr C I (k_V (r := th) (As := [.int ((0 : Int32)), .int ((1000 : Int32))]) (rest := [.int (((2 : Int32) * r2)), va_rf (gR G1 (ad (gR G1 (ad th) 1)) 7)]) (y := yX12_number) C ⟨(hth.ext (by decide) xG1).ad.1, I.recv C.2.2.2.2.1 (hth.ext (by decide) xG1) (by decide)⟩ q858 q860 qs15 (Or.inl rfl) q861 (by decide) rfl pd_X12_number rfl dX12_weigh_22) (ct_X12_number hLf h) hl.1 dX12_weigh_22 [.inl (((2 : Int32) * r2)), .inr (.inl (gR G1 (ad (gR G1 (ad th) 1)) 7))] rfl (Nat.le_of_ble_eq_true rfl) (Or.inl rfl) q861 q118 ⟨Nat.le_of_ble_eq_true rfl, Nat.le_of_ble_eq_true rfl⟩ (fun v G4 H locs cells slots xG4 hq I => ?_) (fun a G9 H locs cells slots ex hq I => t_out C.2.2.2.2.2.2 ⟨rfl, rfl⟩ (fun z hz => hex z hz _) I hq)
  obtain ⟨r5, rfl, h⟩ := hq
  have h := h xG4
  obtain ⟨ho6, h⟩ := h
  obtain ⟨hi, h⟩ := h
  refine A_iast C I ho6 hi dX12_weigh_25 (fun H locs G7 eG7 xG7 I => ?_)
  have h := h G7 eG7
  refine l_ald_n C dX12_weigh_26 hl 1 rfl rfl ?_
  refine g_R C I fl_X12_18_9 (by decide) (by decide) (hth.ext (by decide) (Ext.tr _ _ _ xG1 (Ext.tr _ _ _ xG4 xG7))) dX12_weigh_27 ?_
  obtain ⟨ho8, h⟩ := h
  refine g_R C I fl_X12_204_2 (by decide) (by decide) ho8 dX12_weigh_30 ?_
  refine lv_iconst (v := 2) C.1 C.2.1 dX12_weigh_33 (by decide) ?_
  refine l_ild_n C dX12_weigh_34 hl 0 rfl rfl ?_
  refine lv_imul C.1 C.2.1 dX12_weigh_35 ?_
  refine lv_iconst (v := 1) C.1 C.2.1 dX12_weigh_36 (by decide) ?_
  refine lv_iadd C.1 C.2.1 dX12_weigh_37 ?_
  refine l_ald_n C dX12_weigh_38 hl 1 rfl rfl ?_
  refine lv_iconst (v := 0) C.1 C.2.1 dX12_weigh_39 (by decide) ?_
  refine lv_sipush (v := 1000) C.1 C.2.1 dX12_weigh_40 (by decide) ?_
  refine k_call Ext.tr C I (k_V (r := th) (As := [.int ((0 : Int32)), .int ((1000 : Int32))]) (rest := [.int ((((2 : Int32) * r2) + (1 : Int32))), va_rf (gR G7 (ad (gR G7 (ad th) 1)) 7)]) (y := yX12_number) C ⟨(hth.ext (by decide) (Ext.tr _ _ _ xG1 (Ext.tr _ _ _ xG4 xG7))).ad.1, I.recv C.2.2.2.2.1 (hth.ext (by decide) (Ext.tr _ _ _ xG1 (Ext.tr _ _ _ xG4 xG7))) (by decide)⟩ q858 q860 qs15 (Or.inl rfl) q861 (by decide) rfl pd_X12_number rfl dX12_weigh_43) (ct_X12_number hLf h) hl.1 dX12_weigh_43 [.inl ((((2 : Int32) * r2) + (1 : Int32))), .inr (.inl (gR G7 (ad (gR G7 (ad th) 1)) 7))] rfl (Nat.le_of_ble_eq_true rfl) (Or.inl rfl) q861 q118 ⟨Nat.le_of_ble_eq_true rfl, Nat.le_of_ble_eq_true rfl⟩ (fun v G9 H locs cells slots xG9 hq I => ?_) (fun a G9 H locs cells slots ex hq I => t_out C.2.2.2.2.2.2 ⟨rfl, rfl⟩ (fun z hz => hex z hz _) I hq)
  obtain ⟨r10, rfl, h⟩ := hq
  have h := h xG9
  obtain ⟨ho11, h⟩ := h
  obtain ⟨hi, h⟩ := h
  refine A_iast C I ho11 hi dX12_weigh_46 (fun H locs G12 eG12 xG12 I => ?_)
  have h := h G12 eG12
  exact r_void C.1 C.2.1 C.2.2.2.2.2.1 C.2.2.2.2.2.2 ⟨rfl, rfl⟩ I dX12_weigh_47 ⟨rfl, h⟩
def w_X12_line_165 (T : Nat → ClassId) (Q : Hp → Prop) (E : Nat → Hp → Prop) (th : Option Nat) (t0 : Int32) (G : Hp) : Prop := w_X12_want T (fun G1 => Ext G G1 → w_X12_next T (fun G3 => Ext G1 G3 → Q G3) th G1) E th t0 ((1 : Int32)) G
set_option maxHeartbeats 4000000 in
theorem b_X12_line_165 {G0 : Hp} {Q : Hp → Prop} {E : Nat → Hp → Prop} {th : Option Nat} (C : Cx p s m meth c D T Z "EndingTown$Reader" cX12_line 1 none) (hex : ∀ z ∈ c.exceptionTable.toList, ∀ pc, covers z pc = false) (hLf : l.flags = flags0) : ∀ (t0 : Int32) (G : Hp) (H : Heap) (locs : List Loc) (cells slots : Nat) (ls : Array Slot), w_X12_line_165 T Q E th t0 G → isO G th 9 → HI (twd D T Z) G0 s (rmX (twd D T Z) 9 270 G0) H locs cells slots G → LH ls 1 [(0, .inr (.inl th))] → W p l e (rmX (twd D T Z) 9 270 G0) s m args below meth c H locs cells slots (MQX (twd D T Z) G0 (qV Q) E below s) (F0 m 165 ls [.int t0, va_rf th]) := by
  intro t0 G H locs cells slots ls h hth I hl
  refine lv_iconst (v := 1) C.1 C.2.1 dX12_line_165 (by decide) ?_
  refine k_call Ext.tr C I (k_V (r := th) (As := [.int t0, .int ((1 : Int32))]) (rest := []) (y := yX12_want) C ⟨hth.ad.1, I.recv C.2.2.2.2.1 hth (by decide)⟩ q830 q832 qs14 (Or.inl rfl) q833 (by decide) rfl pd_X12_want rfl dX12_line_166) (ct_X12_want hLf h) hl.1 dX12_line_166 [] rfl (Nat.le_of_ble_eq_true rfl) (Or.inl rfl) q833 q118 ⟨Nat.le_of_ble_eq_true rfl, Nat.le_of_ble_eq_true rfl⟩ (fun v G1 H locs cells slots xG1 hq I => ?_) (fun a G9 H locs cells slots ex hq I => t_out C.2.2.2.2.2.2 ⟨rfl, rfl⟩ (fun z hz => hex z hz _) I hq)
  obtain ⟨rfl, h⟩ := hq
  have h := h xG1
  refine l_ald_n C dX12_line_169 hl 0 rfl rfl ?_
  refine k_call Ext.tr C I (k_V (r := th) (As := []) (rest := []) (y := yX12_next) C ⟨(hth.ext (by decide) xG1).ad.1, I.recv C.2.2.2.2.1 (hth.ext (by decide) xG1) (by decide)⟩ q751 q752 q753 (Or.inl rfl) q754 (by decide) rfl pd_X12_next rfl dX12_line_170) (ct_X12_next h) hl.1 dX12_line_170 [] rfl (Nat.le_of_ble_eq_true rfl) (Or.inl rfl) q754 q118 ⟨Nat.le_of_ble_eq_true rfl, Nat.le_of_ble_eq_true rfl⟩ (fun v G3 H locs cells slots xG3 hq I => ?_) (fun a G9 H locs cells slots ex hq I => hq.elim)
  obtain ⟨rfl, h⟩ := hq
  have h := h xG3
  exact r_void C.1 C.2.1 C.2.2.2.2.2.1 C.2.2.2.2.2.2 ⟨rfl, rfl⟩ I dX12_line_173 ⟨rfl, h⟩
def w_X12_line_151 (T : Nat → ClassId) (Q : Hp → Prop) (E : Nat → Hp → Prop) (th : Option Nat) (G : Hp) : Prop := ((¬ gI G (ad th) 3 = (3 : Int32)) → (w_X12_line_165 T Q E th ((0 : Int32)) G)) ∧ ((gI G (ad th) 3 = (3 : Int32)) → (w_X12_line_165 T Q E th ((1 : Int32)) G))
set_option maxHeartbeats 4000000 in
theorem b_X12_line_151 {G0 : Hp} {Q : Hp → Prop} {E : Nat → Hp → Prop} {th : Option Nat} (C : Cx p s m meth c D T Z "EndingTown$Reader" cX12_line 1 none) (hex : ∀ z ∈ c.exceptionTable.toList, ∀ pc, covers z pc = false) (hLf : l.flags = flags0) : ∀ (G : Hp) (H : Heap) (locs : List Loc) (cells slots : Nat) (ls : Array Slot), w_X12_line_151 T Q E th G → isO G th 9 → HI (twd D T Z) G0 s (rmX (twd D T Z) 9 270 G0) H locs cells slots G → LH ls 1 [(0, .inr (.inl th))] → W p l e (rmX (twd D T Z) 9 270 G0) s m args below meth c H locs cells slots (MQX (twd D T Z) G0 (qV Q) E below s) (F0 m 151 ls []) := by
  intro G H locs cells slots ls h hth I hl
  refine l_ald_n C dX12_line_151 hl 0 rfl rfl ?_
  refine l_ald_n C dX12_line_152 hl 0 rfl rfl ?_
  refine g_I C I fl_X12_44_9 (by decide) (by decide) hth dX12_line_153 ?_
  refine lv_iconst (v := 3) C.1 C.2.1 dX12_line_156 (by decide) ?_
  refine lv_icmp_ne (tgt := 164) C.1 C.2.1 dX12_line_157 (by decide) (fun c1 => ?_) (fun c1 => ?_)
  · have h := h.1 c1
    refine lv_iconst (v := 0) C.1 C.2.1 dX12_line_164 (by decide) ?_
    exact b_X12_line_165 C hex hLf ((0 : Int32)) G _ _ _ _ _ h hth I (hl.sub [0] rfl)
  · have h := h.2 c1
    refine lv_iconst (v := 1) C.1 C.2.1 dX12_line_160 (by decide) ?_
    refine lv_goto (tgt := 165) C.1 C.2.1 dX12_line_161 (by decide) ?_
    exact b_X12_line_165 C hex hLf ((1 : Int32)) G _ _ _ _ _ h hth I (hl.sub [0] rfl)
def w_X12_line_59 (T : Nat → ClassId) (Q : Hp → Prop) (E : Nat → Hp → Prop) (th : Option Nat) (t0 : Int32) (G : Hp) : Prop := w_X12_want T (fun G1 => Ext G G1 → w_X12_next T (fun G3 => Ext G1 G3 → isO G3 (gR G3 (ad th) 1) 2 ∧ ∀ G6 : Hp, G6 = wI G3 (ad (gR G3 (ad th) 1)) 10 ((gI G3 (ad (gR G3 (ad th) 1)) 10 + (1 : Int32))) → w_X12_line_151 T Q E th G6) th G1) E th t0 ((2 : Int32)) G
set_option maxHeartbeats 4000000 in
theorem b_X12_line_59 {G0 : Hp} {Q : Hp → Prop} {E : Nat → Hp → Prop} {th : Option Nat} (C : Cx p s m meth c D T Z "EndingTown$Reader" cX12_line 1 none) (hex : ∀ z ∈ c.exceptionTable.toList, ∀ pc, covers z pc = false) (hLf : l.flags = flags0) : ∀ (t0 : Int32) (G : Hp) (H : Heap) (locs : List Loc) (cells slots : Nat) (ls : Array Slot), w_X12_line_59 T Q E th t0 G → isO G th 9 → HI (twd D T Z) G0 s (rmX (twd D T Z) 9 270 G0) H locs cells slots G → LH ls 1 [(0, .inr (.inl th))] → W p l e (rmX (twd D T Z) 9 270 G0) s m args below meth c H locs cells slots (MQX (twd D T Z) G0 (qV Q) E below s) (F0 m 59 ls [.int t0, va_rf th]) := by
  intro t0 G H locs cells slots ls h hth I hl
  refine lv_iconst (v := 2) C.1 C.2.1 dX12_line_59 (by decide) ?_
  refine k_call Ext.tr C I (k_V (r := th) (As := [.int t0, .int ((2 : Int32))]) (rest := []) (y := yX12_want) C ⟨hth.ad.1, I.recv C.2.2.2.2.1 hth (by decide)⟩ q830 q832 qs14 (Or.inl rfl) q833 (by decide) rfl pd_X12_want rfl dX12_line_60) (ct_X12_want hLf h) hl.1 dX12_line_60 [] rfl (Nat.le_of_ble_eq_true rfl) (Or.inl rfl) q833 q118 ⟨Nat.le_of_ble_eq_true rfl, Nat.le_of_ble_eq_true rfl⟩ (fun v G1 H locs cells slots xG1 hq I => ?_) (fun a G9 H locs cells slots ex hq I => t_out C.2.2.2.2.2.2 ⟨rfl, rfl⟩ (fun z hz => hex z hz _) I hq)
  obtain ⟨rfl, h⟩ := hq
  have h := h xG1
  refine l_ald_n C dX12_line_63 hl 0 rfl rfl ?_
  refine k_call Ext.tr C I (k_V (r := th) (As := []) (rest := []) (y := yX12_next) C ⟨(hth.ext (by decide) xG1).ad.1, I.recv C.2.2.2.2.1 (hth.ext (by decide) xG1) (by decide)⟩ q751 q752 q753 (Or.inl rfl) q754 (by decide) rfl pd_X12_next rfl dX12_line_64) (ct_X12_next h) hl.1 dX12_line_64 [] rfl (Nat.le_of_ble_eq_true rfl) (Or.inl rfl) q754 q118 ⟨Nat.le_of_ble_eq_true rfl, Nat.le_of_ble_eq_true rfl⟩ (fun v G3 H locs cells slots xG3 hq I => ?_) (fun a G9 H locs cells slots ex hq I => hq.elim)
  obtain ⟨rfl, h⟩ := hq
  have h := h xG3
  refine l_ald_n C dX12_line_67 hl 0 rfl rfl ?_
  refine g_R C I fl_X12_18_9 (by decide) (by decide) (hth.ext (by decide) (Ext.tr _ _ _ xG1 xG3)) dX12_line_68 ?_
  refine lv_dup C.1 C.2.1 dX12_line_71 (cat_rf _) ?_
  obtain ⟨ho5, h⟩ := h
  refine g_I C I fl_X12_198_2 (by decide) (by decide) ho5 dX12_line_72 ?_
  refine lv_iconst (v := 1) C.1 C.2.1 dX12_line_75 (by decide) ?_
  refine lv_iadd C.1 C.2.1 dX12_line_76 ?_
  refine P_I C I fp_X12_198_2 (fun z => by cases z) (by decide) (by decide) ho5 dX12_line_77 (fit_i _) (fun H locs G6 eG6 xG6 I => ?_)
  have h := h G6 eG6
  refine lv_goto (tgt := 151) C.1 C.2.1 dX12_line_80 (by decide) ?_
  exact b_X12_line_151 C hex hLf G6 _ _ _ _ _ h (hth.ext (by decide) (Ext.tr _ _ _ xG1 (Ext.tr _ _ _ xG3 xG6))) I (hl.sub [0] rfl)
def w_X12_line (T : Nat → ClassId) (Q : Hp → Prop) (E : Nat → Hp → Prop) (th : Option Nat) (G : Hp) : Prop := isO G th 9 ∧ (w_X12_is T (fun r2 G1 => Ext G G1 → ((r2 = 0) → (w_X12_passes T (fun r4 G3 => Ext G1 G3 → ((r4 = 0) → (w_X12_is T (fun r6 G5 => Ext G3 G5 → ((r6 = 0) → (w_X12_is T (fun r8 G7 => Ext G5 G7 → ((r8 = 0) → (w_X12_is T (fun r10 G9 => Ext G7 G9 → ((r10 = 0) → (w_X12_passes T (fun r12 G11 => Ext G9 G11 → ((r12 = 0) → (w_X12_passes T (fun r14 G13 => Ext G11 G13 → ((r14 = 0) → (w_X12_tongue T (fun G15 => Ext G13 G15 → w_X12_line_151 T Q E th G15) E th G13)) ∧ ((¬ r14 = 0) → (w_X12_weigh T (fun G17 => Ext G13 G17 → w_X12_line_151 T Q E th G17) E th G13))) th ((some (T 128))) G11)) ∧ ((¬ r12 = 0) → (w_X12_at T (fun G20 => Ext G11 G20 → w_X12_line_151 T Q E th G20) E th G11))) th ((some (T 127))) G9)) ∧ ((¬ r10 = 0) → (w_X12_rule T (fun G23 => Ext G9 G23 → w_X12_line_151 T Q E th G23) E th G9))) th ((some (T 126))) G7)) ∧ ((¬ r8 = 0) → (w_X12_thing T (fun G26 => Ext G7 G26 → w_X12_line_151 T Q E th G26) E th G7))) th ((some (T 123))) G5)) ∧ ((¬ r6 = 0) → (isO G5 (gR G5 (ad th) 1) 2 ∧ (((6 : Int32) ≤ gI G5 (ad (gR G5 (ad th) 1)) 10) → (w_X12_line_59 T Q E th ((0 : Int32)) G5)) ∧ ((¬ (6 : Int32) ≤ gI G5 (ad (gR G5 (ad th) 1)) 10) → (w_X12_line_59 T Q E th ((1 : Int32)) G5))))) th ((some (T 122))) G3)) ∧ ((¬ r4 = 0) → (w_X12_near T (fun G32 => Ext G3 G32 → w_X12_line_151 T Q E th G32) E th G3))) th ((some (T 121))) G1)) ∧ ((¬ r2 = 0) → (w_X12_places T (fun G35 => Ext G1 G35 → w_X12_line_151 T Q E th G35) E th G1))) th ((some (T 120))) G)
theorem pd_X12_line : (parseMethodDescriptor yX12_line.desc).map (fun d => d.parameters.length) = some 0 := by decide +kernel
set_option maxHeartbeats 4000000 in
theorem ct_X12_line {l : Launch} {D : va_G} {T : Nat → ClassId} {Z : Heap} {G0 : Hp} {Q : Hp → Prop} {E : Nat → Hp → Prop} {th : Option Nat} (hLf : l.flags = flags0) (hw : w_X12_line T Q E th G0) : CT (twd D T Z) (Evd D T Z) l yX12_line (Cond.code yX12_line cX12_line 1 none) 9 270 [va_rf th] G0 (qV Q) E := by
  refine CT.ofW (cc := cX12_line) (nL := 1) (ret := none) Ext.rf (by decide) (Or.inl rfl) ?_
  intro p e s m below meth c hx hb hml hown hr hlk hnm hcb hm hc hn hE I
  have C : Cx p s m meth c D T Z "EndingTown$Reader" cX12_line 1 none := ⟨hx, hb, hml, hown, hE, hr, hlk⟩
  have hex := noEx hn hm hc hcb
  refine w_entry [.inr (.inl th)] (Nat.le_of_ble_eq_true rfl) (fun ls hl => ?_)
  have hl : LH ls 1 [(0, .inr (.inl th))] := hl
  obtain ⟨hth, h⟩ := hw
  refine l_ald_n C dX12_line_0 hl 0 rfl rfl ?_
  refine z_ls (i := 0) C I q775 rfl (by decide) dX12_line_1 ?_
  refine k_call Ext.tr C I (k_V (r := th) (As := [va_rf ((some (T 120)))]) (rest := []) (y := yX12_is) C ⟨hth.ad.1, I.recv C.2.2.2.2.1 hth (by decide)⟩ q776 q778 qs12 (Or.inl rfl) q779 (by decide) rfl pd_X12_is rfl dX12_line_3) (ct_X12_is h) hl.1 dX12_line_3 [] rfl (Nat.le_of_ble_eq_true rfl) (Or.inl rfl) q779 q118 ⟨Nat.le_of_ble_eq_true rfl, Nat.le_of_ble_eq_true rfl⟩ (fun v G1 H locs cells slots xG1 hq I => ?_) (fun a G9 H locs cells slots ex hq I => hq.elim)
  obtain ⟨r2, rfl, h⟩ := hq
  have h := h xG1
  refine lv_if_eq (tgt := 16) C.1 C.2.1 dX12_line_6 (by decide) (fun c37 => ?_) (fun c37 => ?_)
  · have h := h.1 c37
    refine l_ald_n C dX12_line_16 hl 0 rfl rfl ?_
    refine z_ls (i := 1) C I q866 rfl (by decide) dX12_line_17 ?_
    refine k_call Ext.tr C I (k_V (r := th) (As := [va_rf ((some (T 121)))]) (rest := []) (y := yX12_passes) C ⟨(hth.ext (by decide) xG1).ad.1, I.recv C.2.2.2.2.1 (hth.ext (by decide) xG1) (by decide)⟩ q867 q869 qs17 (Or.inl rfl) q870 (by decide) rfl pd_X12_passes rfl dX12_line_19) (ct_X12_passes h) hl.1 dX12_line_19 [] rfl (Nat.le_of_ble_eq_true rfl) (Or.inl rfl) q870 q118 ⟨Nat.le_of_ble_eq_true rfl, Nat.le_of_ble_eq_true rfl⟩ (fun v G3 H locs cells slots xG3 hq I => ?_) (fun a G9 H locs cells slots ex hq I => hq.elim)
    obtain ⟨r4, rfl, h⟩ := hq
    have h := h xG3
    refine lv_if_eq (tgt := 32) C.1 C.2.1 dX12_line_22 (by decide) (fun c34 => ?_) (fun c34 => ?_)
    · have h := h.1 c34
      refine l_ald_n C dX12_line_32 hl 0 rfl rfl ?_
      refine z_ls (i := 2) C I q883 rfl (by decide) dX12_line_33 ?_
      refine k_call Ext.tr C I (k_V (r := th) (As := [va_rf ((some (T 122)))]) (rest := []) (y := yX12_is) C ⟨(hth.ext (by decide) (Ext.tr _ _ _ xG1 xG3)).ad.1, I.recv C.2.2.2.2.1 (hth.ext (by decide) (Ext.tr _ _ _ xG1 xG3)) (by decide)⟩ q776 q778 qs12 (Or.inl rfl) q779 (by decide) rfl pd_X12_is rfl dX12_line_35) (ct_X12_is h) hl.1 dX12_line_35 [] rfl (Nat.le_of_ble_eq_true rfl) (Or.inl rfl) q779 q118 ⟨Nat.le_of_ble_eq_true rfl, Nat.le_of_ble_eq_true rfl⟩ (fun v G5 H locs cells slots xG5 hq I => ?_) (fun a G9 H locs cells slots ex hq I => hq.elim)
      obtain ⟨r6, rfl, h⟩ := hq
      have h := h xG5
      refine lv_if_eq (tgt := 83) C.1 C.2.1 dX12_line_38 (by decide) (fun c31 => ?_) (fun c31 => ?_)
      · have h := h.1 c31
        refine l_ald_n C dX12_line_83 hl 0 rfl rfl ?_
        refine z_ls (i := 3) C I q884 rfl (by decide) dX12_line_84 ?_
        refine k_call Ext.tr C I (k_V (r := th) (As := [va_rf ((some (T 123)))]) (rest := []) (y := yX12_is) C ⟨(hth.ext (by decide) (Ext.tr _ _ _ xG1 (Ext.tr _ _ _ xG3 xG5))).ad.1, I.recv C.2.2.2.2.1 (hth.ext (by decide) (Ext.tr _ _ _ xG1 (Ext.tr _ _ _ xG3 xG5))) (by decide)⟩ q776 q778 qs12 (Or.inl rfl) q779 (by decide) rfl pd_X12_is rfl dX12_line_86) (ct_X12_is h) hl.1 dX12_line_86 [] rfl (Nat.le_of_ble_eq_true rfl) (Or.inl rfl) q779 q118 ⟨Nat.le_of_ble_eq_true rfl, Nat.le_of_ble_eq_true rfl⟩ (fun v G7 H locs cells slots xG7 hq I => ?_) (fun a G9 H locs cells slots ex hq I => hq.elim)
        obtain ⟨r8, rfl, h⟩ := hq
        have h := h xG7
        refine lv_if_eq (tgt := 99) C.1 C.2.1 dX12_line_89 (by decide) (fun c28 => ?_) (fun c28 => ?_)
        · have h := h.1 c28
          refine l_ald_n C dX12_line_99 hl 0 rfl rfl ?_
          refine z_ls (i := 6) C I q968 rfl (by decide) dX12_line_100 ?_
          refine k_call Ext.tr C I (k_V (r := th) (As := [va_rf ((some (T 126)))]) (rest := []) (y := yX12_is) C ⟨(hth.ext (by decide) (Ext.tr _ _ _ xG1 (Ext.tr _ _ _ xG3 (Ext.tr _ _ _ xG5 xG7)))).ad.1, I.recv C.2.2.2.2.1 (hth.ext (by decide) (Ext.tr _ _ _ xG1 (Ext.tr _ _ _ xG3 (Ext.tr _ _ _ xG5 xG7)))) (by decide)⟩ q776 q778 qs12 (Or.inl rfl) q779 (by decide) rfl pd_X12_is rfl dX12_line_102) (ct_X12_is h) hl.1 dX12_line_102 [] rfl (Nat.le_of_ble_eq_true rfl) (Or.inl rfl) q779 q118 ⟨Nat.le_of_ble_eq_true rfl, Nat.le_of_ble_eq_true rfl⟩ (fun v G9 H locs cells slots xG9 hq I => ?_) (fun a G9 H locs cells slots ex hq I => hq.elim)
          obtain ⟨r10, rfl, h⟩ := hq
          have h := h xG9
          refine lv_if_eq (tgt := 115) C.1 C.2.1 dX12_line_105 (by decide) (fun c25 => ?_) (fun c25 => ?_)
          · have h := h.1 c25
            refine l_ald_n C dX12_line_115 hl 0 rfl rfl ?_
            refine z_ls (i := 7) C I q998 rfl (by decide) dX12_line_116 ?_
            refine k_call Ext.tr C I (k_V (r := th) (As := [va_rf ((some (T 127)))]) (rest := []) (y := yX12_passes) C ⟨(hth.ext (by decide) (Ext.tr _ _ _ xG1 (Ext.tr _ _ _ xG3 (Ext.tr _ _ _ xG5 (Ext.tr _ _ _ xG7 xG9))))).ad.1, I.recv C.2.2.2.2.1 (hth.ext (by decide) (Ext.tr _ _ _ xG1 (Ext.tr _ _ _ xG3 (Ext.tr _ _ _ xG5 (Ext.tr _ _ _ xG7 xG9))))) (by decide)⟩ q867 q869 qs17 (Or.inl rfl) q870 (by decide) rfl pd_X12_passes rfl dX12_line_118) (ct_X12_passes h) hl.1 dX12_line_118 [] rfl (Nat.le_of_ble_eq_true rfl) (Or.inl rfl) q870 q118 ⟨Nat.le_of_ble_eq_true rfl, Nat.le_of_ble_eq_true rfl⟩ (fun v G11 H locs cells slots xG11 hq I => ?_) (fun a G9 H locs cells slots ex hq I => hq.elim)
            obtain ⟨r12, rfl, h⟩ := hq
            have h := h xG11
            refine lv_if_eq (tgt := 131) C.1 C.2.1 dX12_line_121 (by decide) (fun c22 => ?_) (fun c22 => ?_)
            · have h := h.1 c22
              refine l_ald_n C dX12_line_131 hl 0 rfl rfl ?_
              refine z_ls (i := 8) C I q1003 rfl (by decide) dX12_line_132 ?_
              refine k_call Ext.tr C I (k_V (r := th) (As := [va_rf ((some (T 128)))]) (rest := []) (y := yX12_passes) C ⟨(hth.ext (by decide) (Ext.tr _ _ _ xG1 (Ext.tr _ _ _ xG3 (Ext.tr _ _ _ xG5 (Ext.tr _ _ _ xG7 (Ext.tr _ _ _ xG9 xG11)))))).ad.1, I.recv C.2.2.2.2.1 (hth.ext (by decide) (Ext.tr _ _ _ xG1 (Ext.tr _ _ _ xG3 (Ext.tr _ _ _ xG5 (Ext.tr _ _ _ xG7 (Ext.tr _ _ _ xG9 xG11)))))) (by decide)⟩ q867 q869 qs17 (Or.inl rfl) q870 (by decide) rfl pd_X12_passes rfl dX12_line_134) (ct_X12_passes h) hl.1 dX12_line_134 [] rfl (Nat.le_of_ble_eq_true rfl) (Or.inl rfl) q870 q118 ⟨Nat.le_of_ble_eq_true rfl, Nat.le_of_ble_eq_true rfl⟩ (fun v G13 H locs cells slots xG13 hq I => ?_) (fun a G9 H locs cells slots ex hq I => hq.elim)
              obtain ⟨r14, rfl, h⟩ := hq
              have h := h xG13
              refine lv_if_eq (tgt := 147) C.1 C.2.1 dX12_line_137 (by decide) (fun c19 => ?_) (fun c19 => ?_)
              · have h := h.1 c19
                refine l_ald_n C dX12_line_147 hl 0 rfl rfl ?_
                refine k_call Ext.tr C I (k_V (r := th) (As := []) (rest := []) (y := yX12_tongue) C ⟨(hth.ext (by decide) (Ext.tr _ _ _ xG1 (Ext.tr _ _ _ xG3 (Ext.tr _ _ _ xG5 (Ext.tr _ _ _ xG7 (Ext.tr _ _ _ xG9 (Ext.tr _ _ _ xG11 xG13))))))).ad.1, I.recv C.2.2.2.2.1 (hth.ext (by decide) (Ext.tr _ _ _ xG1 (Ext.tr _ _ _ xG3 (Ext.tr _ _ _ xG5 (Ext.tr _ _ _ xG7 (Ext.tr _ _ _ xG9 (Ext.tr _ _ _ xG11 xG13))))))) (by decide)⟩ q1008 q1010 qs28 (Or.inl rfl) q1011 (by decide) rfl pd_X12_tongue rfl dX12_line_148) (ct_X12_tongue hLf h) hl.1 dX12_line_148 [] rfl (Nat.le_of_ble_eq_true rfl) (Or.inl rfl) q1011 q118 ⟨Nat.le_of_ble_eq_true rfl, Nat.le_of_ble_eq_true rfl⟩ (fun v G15 H locs cells slots xG15 hq I => ?_) (fun a G9 H locs cells slots ex hq I => t_out C.2.2.2.2.2.2 ⟨rfl, rfl⟩ (fun z hz => hex z hz _) I hq)
                obtain ⟨rfl, h⟩ := hq
                have h := h xG15
                exact b_X12_line_151 C hex hLf G15 _ _ _ _ _ h (hth.ext (by decide) (Ext.tr _ _ _ xG1 (Ext.tr _ _ _ xG3 (Ext.tr _ _ _ xG5 (Ext.tr _ _ _ xG7 (Ext.tr _ _ _ xG9 (Ext.tr _ _ _ xG11 (Ext.tr _ _ _ xG13 xG15)))))))) I (hl.sub [0] rfl)
              · have h := h.2 c19
                refine l_ald_n C dX12_line_140 hl 0 rfl rfl ?_
                refine k_call Ext.tr C I (k_V (r := th) (As := []) (rest := []) (y := yX12_weigh) C ⟨(hth.ext (by decide) (Ext.tr _ _ _ xG1 (Ext.tr _ _ _ xG3 (Ext.tr _ _ _ xG5 (Ext.tr _ _ _ xG7 (Ext.tr _ _ _ xG9 (Ext.tr _ _ _ xG11 xG13))))))).ad.1, I.recv C.2.2.2.2.1 (hth.ext (by decide) (Ext.tr _ _ _ xG1 (Ext.tr _ _ _ xG3 (Ext.tr _ _ _ xG5 (Ext.tr _ _ _ xG7 (Ext.tr _ _ _ xG9 (Ext.tr _ _ _ xG11 xG13))))))) (by decide)⟩ q1004 q1006 qs27 (Or.inl rfl) q1007 (by decide) rfl pd_X12_weigh rfl dX12_line_141) (ct_X12_weigh hLf h) hl.1 dX12_line_141 [] rfl (Nat.le_of_ble_eq_true rfl) (Or.inl rfl) q1007 q118 ⟨Nat.le_of_ble_eq_true rfl, Nat.le_of_ble_eq_true rfl⟩ (fun v G17 H locs cells slots xG17 hq I => ?_) (fun a G9 H locs cells slots ex hq I => t_out C.2.2.2.2.2.2 ⟨rfl, rfl⟩ (fun z hz => hex z hz _) I hq)
                obtain ⟨rfl, h⟩ := hq
                have h := h xG17
                refine lv_goto (tgt := 151) C.1 C.2.1 dX12_line_144 (by decide) ?_
                exact b_X12_line_151 C hex hLf G17 _ _ _ _ _ h (hth.ext (by decide) (Ext.tr _ _ _ xG1 (Ext.tr _ _ _ xG3 (Ext.tr _ _ _ xG5 (Ext.tr _ _ _ xG7 (Ext.tr _ _ _ xG9 (Ext.tr _ _ _ xG11 (Ext.tr _ _ _ xG13 xG17)))))))) I (hl.sub [0] rfl)
            · have h := h.2 c22
              refine l_ald_n C dX12_line_124 hl 0 rfl rfl ?_
              refine k_call Ext.tr C I (k_V (r := th) (As := []) (rest := []) (y := yX12_at) C ⟨(hth.ext (by decide) (Ext.tr _ _ _ xG1 (Ext.tr _ _ _ xG3 (Ext.tr _ _ _ xG5 (Ext.tr _ _ _ xG7 (Ext.tr _ _ _ xG9 xG11)))))).ad.1, I.recv C.2.2.2.2.1 (hth.ext (by decide) (Ext.tr _ _ _ xG1 (Ext.tr _ _ _ xG3 (Ext.tr _ _ _ xG5 (Ext.tr _ _ _ xG7 (Ext.tr _ _ _ xG9 xG11)))))) (by decide)⟩ q999 q1001 qs26 (Or.inl rfl) q1002 (by decide) rfl pd_X12_at rfl dX12_line_125) (ct_X12_at hLf h) hl.1 dX12_line_125 [] rfl (Nat.le_of_ble_eq_true rfl) (Or.inl rfl) q1002 q118 ⟨Nat.le_of_ble_eq_true rfl, Nat.le_of_ble_eq_true rfl⟩ (fun v G20 H locs cells slots xG20 hq I => ?_) (fun a G9 H locs cells slots ex hq I => t_out C.2.2.2.2.2.2 ⟨rfl, rfl⟩ (fun z hz => hex z hz _) I hq)
              obtain ⟨rfl, h⟩ := hq
              have h := h xG20
              refine lv_goto (tgt := 151) C.1 C.2.1 dX12_line_128 (by decide) ?_
              exact b_X12_line_151 C hex hLf G20 _ _ _ _ _ h (hth.ext (by decide) (Ext.tr _ _ _ xG1 (Ext.tr _ _ _ xG3 (Ext.tr _ _ _ xG5 (Ext.tr _ _ _ xG7 (Ext.tr _ _ _ xG9 (Ext.tr _ _ _ xG11 xG20))))))) I (hl.sub [0] rfl)
          · have h := h.2 c25
            refine l_ald_n C dX12_line_108 hl 0 rfl rfl ?_
            refine k_call Ext.tr C I (k_V (r := th) (As := []) (rest := []) (y := yX12_rule) C ⟨(hth.ext (by decide) (Ext.tr _ _ _ xG1 (Ext.tr _ _ _ xG3 (Ext.tr _ _ _ xG5 (Ext.tr _ _ _ xG7 xG9))))).ad.1, I.recv C.2.2.2.2.1 (hth.ext (by decide) (Ext.tr _ _ _ xG1 (Ext.tr _ _ _ xG3 (Ext.tr _ _ _ xG5 (Ext.tr _ _ _ xG7 xG9))))) (by decide)⟩ q969 q971 qs25 (Or.inl rfl) q972 (by decide) rfl pd_X12_rule rfl dX12_line_109) (ct_X12_rule hLf h) hl.1 dX12_line_109 [] rfl (Nat.le_of_ble_eq_true rfl) (Or.inl rfl) q972 q118 ⟨Nat.le_of_ble_eq_true rfl, Nat.le_of_ble_eq_true rfl⟩ (fun v G23 H locs cells slots xG23 hq I => ?_) (fun a G9 H locs cells slots ex hq I => t_out C.2.2.2.2.2.2 ⟨rfl, rfl⟩ (fun z hz => hex z hz _) I hq)
            obtain ⟨rfl, h⟩ := hq
            have h := h xG23
            refine lv_goto (tgt := 151) C.1 C.2.1 dX12_line_112 (by decide) ?_
            exact b_X12_line_151 C hex hLf G23 _ _ _ _ _ h (hth.ext (by decide) (Ext.tr _ _ _ xG1 (Ext.tr _ _ _ xG3 (Ext.tr _ _ _ xG5 (Ext.tr _ _ _ xG7 (Ext.tr _ _ _ xG9 xG23)))))) I (hl.sub [0] rfl)
        · have h := h.2 c28
          refine l_ald_n C dX12_line_92 hl 0 rfl rfl ?_
          refine k_call Ext.tr C I (k_V (r := th) (As := []) (rest := []) (y := yX12_thing) C ⟨(hth.ext (by decide) (Ext.tr _ _ _ xG1 (Ext.tr _ _ _ xG3 (Ext.tr _ _ _ xG5 xG7)))).ad.1, I.recv C.2.2.2.2.1 (hth.ext (by decide) (Ext.tr _ _ _ xG1 (Ext.tr _ _ _ xG3 (Ext.tr _ _ _ xG5 xG7)))) (by decide)⟩ q885 q887 qs21 (Or.inl rfl) q888 (by decide) rfl pd_X12_thing rfl dX12_line_93) (ct_X12_thing hLf h) hl.1 dX12_line_93 [] rfl (Nat.le_of_ble_eq_true rfl) (Or.inl rfl) q888 q118 ⟨Nat.le_of_ble_eq_true rfl, Nat.le_of_ble_eq_true rfl⟩ (fun v G26 H locs cells slots xG26 hq I => ?_) (fun a G9 H locs cells slots ex hq I => t_out C.2.2.2.2.2.2 ⟨rfl, rfl⟩ (fun z hz => hex z hz _) I hq)
          obtain ⟨rfl, h⟩ := hq
          have h := h xG26
          refine lv_goto (tgt := 151) C.1 C.2.1 dX12_line_96 (by decide) ?_
          exact b_X12_line_151 C hex hLf G26 _ _ _ _ _ h (hth.ext (by decide) (Ext.tr _ _ _ xG1 (Ext.tr _ _ _ xG3 (Ext.tr _ _ _ xG5 (Ext.tr _ _ _ xG7 xG26))))) I (hl.sub [0] rfl)
      · have h := h.2 c31
        refine l_ald_n C dX12_line_41 hl 0 rfl rfl ?_
        refine l_ald_n C dX12_line_42 hl 0 rfl rfl ?_
        refine g_R C I fl_X12_18_9 (by decide) (by decide) (hth.ext (by decide) (Ext.tr _ _ _ xG1 (Ext.tr _ _ _ xG3 xG5))) dX12_line_43 ?_
        obtain ⟨ho29, h⟩ := h
        refine g_I C I fl_X12_198_2 (by decide) (by decide) ho29 dX12_line_46 ?_
        refine lv_bipush (v := 6) C.1 C.2.1 dX12_line_49 (by decide) ?_
        refine lv_icmp_ge (tgt := 58) C.1 C.2.1 dX12_line_51 (by decide) (fun c30 => ?_) (fun c30 => ?_)
        · have h := h.1 c30
          refine lv_iconst (v := 0) C.1 C.2.1 dX12_line_58 (by decide) ?_
          exact b_X12_line_59 C hex hLf ((0 : Int32)) G5 _ _ _ _ _ h (hth.ext (by decide) (Ext.tr _ _ _ xG1 (Ext.tr _ _ _ xG3 xG5))) I (hl.sub [0] rfl)
        · have h := h.2 c30
          refine lv_iconst (v := 1) C.1 C.2.1 dX12_line_54 (by decide) ?_
          refine lv_goto (tgt := 59) C.1 C.2.1 dX12_line_55 (by decide) ?_
          exact b_X12_line_59 C hex hLf ((1 : Int32)) G5 _ _ _ _ _ h (hth.ext (by decide) (Ext.tr _ _ _ xG1 (Ext.tr _ _ _ xG3 xG5))) I (hl.sub [0] rfl)
    · have h := h.2 c34
      refine l_ald_n C dX12_line_25 hl 0 rfl rfl ?_
      refine k_call Ext.tr C I (k_V (r := th) (As := []) (rest := []) (y := yX12_near) C ⟨(hth.ext (by decide) (Ext.tr _ _ _ xG1 xG3)).ad.1, I.recv C.2.2.2.2.1 (hth.ext (by decide) (Ext.tr _ _ _ xG1 xG3)) (by decide)⟩ q871 q873 qs18 (Or.inl rfl) q874 (by decide) rfl pd_X12_near rfl dX12_line_26) (ct_X12_near hLf h) hl.1 dX12_line_26 [] rfl (Nat.le_of_ble_eq_true rfl) (Or.inl rfl) q874 q118 ⟨Nat.le_of_ble_eq_true rfl, Nat.le_of_ble_eq_true rfl⟩ (fun v G32 H locs cells slots xG32 hq I => ?_) (fun a G9 H locs cells slots ex hq I => t_out C.2.2.2.2.2.2 ⟨rfl, rfl⟩ (fun z hz => hex z hz _) I hq)
      obtain ⟨rfl, h⟩ := hq
      have h := h xG32
      refine lv_goto (tgt := 151) C.1 C.2.1 dX12_line_29 (by decide) ?_
      exact b_X12_line_151 C hex hLf G32 _ _ _ _ _ h (hth.ext (by decide) (Ext.tr _ _ _ xG1 (Ext.tr _ _ _ xG3 xG32))) I (hl.sub [0] rfl)
  · have h := h.2 c37
    refine l_ald_n C dX12_line_9 hl 0 rfl rfl ?_
    refine k_call Ext.tr C I (k_V (r := th) (As := []) (rest := []) (y := yX12_places) C ⟨(hth.ext (by decide) xG1).ad.1, I.recv C.2.2.2.2.1 (hth.ext (by decide) xG1) (by decide)⟩ q826 q828 qs13 (Or.inl rfl) q829 (by decide) rfl pd_X12_places rfl dX12_line_10) (ct_X12_places hLf h) hl.1 dX12_line_10 [] rfl (Nat.le_of_ble_eq_true rfl) (Or.inl rfl) q829 q118 ⟨Nat.le_of_ble_eq_true rfl, Nat.le_of_ble_eq_true rfl⟩ (fun v G35 H locs cells slots xG35 hq I => ?_) (fun a G9 H locs cells slots ex hq I => t_out C.2.2.2.2.2.2 ⟨rfl, rfl⟩ (fun z hz => hex z hz _) I hq)
    obtain ⟨rfl, h⟩ := hq
    have h := h xG35
    refine lv_goto (tgt := 151) C.1 C.2.1 dX12_line_13 (by decide) ?_
    exact b_X12_line_151 C hex hLf G35 _ _ _ _ _ h (hth.ext (by decide) (Ext.tr _ _ _ xG1 xG35)) I (hl.sub [0] rfl)
def w_X12_read_4 (T : Nat → ClassId) (Q : Option Nat → Hp → Prop) (E : Nat → Hp → Prop) (th : Option Nat) : Nat → Hp → Prop
  | 0 => fun _ => False
  | f4 + 1 => fun G => ((gI G (ad th) 3 = 0) → (Q (gR G (ad th) 1) G)) ∧ ((¬ gI G (ad th) 3 = 0) → (w_X12_line T (fun G1 => Ext G G1 → (w_X12_read_4 T Q E th f4) G1) E th G))
set_option maxHeartbeats 4000000 in
theorem b_X12_read_4 {G0 : Hp} {Q : Option Nat → Hp → Prop} {E : Nat → Hp → Prop} {th : Option Nat} (C : Cx p s m meth c D T Z "EndingTown$Reader" cX12_read 1 (some (.object "EndingTown$Village"))) (hex : ∀ z ∈ c.exceptionTable.toList, ∀ pc, covers z pc = false) (hLf : l.flags = flags0) : ∀ (n : Nat) (G : Hp) (H : Heap) (locs : List Loc) (cells slots : Nat) (ls : Array Slot), w_X12_read_4 T Q E th n G → isO G th 9 → HI (twd D T Z) G0 s (rmX (twd D T Z) 10 290 G0) H locs cells slots G → LH ls 1 [(0, .inr (.inl th))] → W p l e (rmX (twd D T Z) 10 290 G0) s m args below meth c H locs cells slots (MQX (twd D T Z) G0 (qR Q) E below s) (F0 m 4 ls []) := by
  intro f4
  induction f4 with
  | zero => intro G H locs cells slots ls h; exact (show False from h).elim
  | succ f4 ih =>
    intro G H locs cells slots ls h hth I hl
    have h : ((gI G (ad th) 3 = 0) → (Q (gR G (ad th) 1) G)) ∧ ((¬ gI G (ad th) 3 = 0) → (w_X12_line T (fun G1 => Ext G G1 → (w_X12_read_4 T Q E th f4) G1) E th G)) := h
    have hk4 := ih
    refine l_ald_n C dX12_read_4 hl 0 rfl rfl ?_
    refine g_I C I fl_X12_44_9 (by decide) (by decide) hth dX12_read_5 ?_
    refine lv_if_eq (tgt := 18) C.1 C.2.1 dX12_read_8 (by decide) (fun c3 => ?_) (fun c3 => ?_)
    · have h := h.1 c3
      refine l_ald_n C dX12_read_18 hl 0 rfl rfl ?_
      refine g_R C I fl_X12_18_9 (by decide) (by decide) hth dX12_read_19 ?_
      exact r_ref C.1 C.2.1 C.2.2.2.2.2.1 (Or.inl ⟨_, rfl⟩) C.2.2.2.2.2.2 ⟨rfl, rfl⟩ I dX12_read_22 ⟨_, rfl, h⟩
    · have h := h.2 c3
      refine l_ald_n C dX12_read_11 hl 0 rfl rfl ?_
      refine k_call Ext.tr C I (k_V (r := th) (As := []) (rest := []) (y := yX12_line) C ⟨hth.ad.1, I.recv C.2.2.2.2.1 hth (by decide)⟩ q771 q773 qs11 (Or.inl rfl) q774 (by decide) rfl pd_X12_line rfl dX12_read_12) (ct_X12_line hLf h) hl.1 dX12_read_12 [] rfl (Nat.le_of_ble_eq_true rfl) (Or.inl rfl) q774 q118 ⟨Nat.le_of_ble_eq_true rfl, Nat.le_of_ble_eq_true rfl⟩ (fun v G1 H locs cells slots xG1 hq I => ?_) (fun a G9 H locs cells slots ex hq I => t_out C.2.2.2.2.2.2 ⟨rfl, rfl⟩ (fun z hz => hex z hz _) I hq)
      obtain ⟨rfl, h⟩ := hq
      have h := h xG1
      refine lv_goto (tgt := 4) C.1 C.2.1 dX12_read_15 (by decide) ?_
      exact hk4 G1 _ _ _ _ _ h (hth.ext (by decide) xG1) I (hl.sub [0] rfl)
def w_X12_read (T : Nat → ClassId) (Q : Option Nat → Hp → Prop) (E : Nat → Hp → Prop) (th : Option Nat) (G : Hp) : Prop := isO G th 9 ∧ (w_X12_next T (fun G1 => Ext G G1 → ∃ n, w_X12_read_4 T Q E th n G1) th G)
theorem pd_X12_read : (parseMethodDescriptor yX12_read.desc).map (fun d => d.parameters.length) = some 0 := by decide +kernel
set_option maxHeartbeats 4000000 in
theorem ct_X12_read {l : Launch} {D : va_G} {T : Nat → ClassId} {Z : Heap} {G0 : Hp} {Q : Option Nat → Hp → Prop} {E : Nat → Hp → Prop} {th : Option Nat} (hLf : l.flags = flags0) (hw : w_X12_read T Q E th G0) : CT (twd D T Z) (Evd D T Z) l yX12_read (Cond.code yX12_read cX12_read 1 (some (.object "EndingTown$Village"))) 10 290 [va_rf th] G0 (qR Q) E := by
  refine CT.ofW (cc := cX12_read) (nL := 1) (ret := (some (.object "EndingTown$Village"))) Ext.rf (by decide) (Or.inl rfl) ?_
  intro p e s m below meth c hx hb hml hown hr hlk hnm hcb hm hc hn hE I
  have C : Cx p s m meth c D T Z "EndingTown$Reader" cX12_read 1 (some (.object "EndingTown$Village")) := ⟨hx, hb, hml, hown, hE, hr, hlk⟩
  have hex := noEx hn hm hc hcb
  refine w_entry [.inr (.inl th)] (Nat.le_of_ble_eq_true rfl) (fun ls hl => ?_)
  have hl : LH ls 1 [(0, .inr (.inl th))] := hl
  obtain ⟨hth, h⟩ := hw
  refine l_ald_n C dX12_read_0 hl 0 rfl rfl ?_
  refine k_call Ext.tr C I (k_V (r := th) (As := []) (rest := []) (y := yX12_next) C ⟨hth.ad.1, I.recv C.2.2.2.2.1 hth (by decide)⟩ q751 q752 q753 (Or.inl rfl) q754 (by decide) rfl pd_X12_next rfl dX12_read_1) (ct_X12_next h) hl.1 dX12_read_1 [] rfl (Nat.le_of_ble_eq_true rfl) (Or.inl rfl) q754 q118 ⟨Nat.le_of_ble_eq_true rfl, Nat.le_of_ble_eq_true rfl⟩ (fun v G1 H locs cells slots xG1 hq I => ?_) (fun a G9 H locs cells slots ex hq I => hq.elim)
  obtain ⟨rfl, h⟩ := hq
  have h := h xG1
  obtain ⟨n, h⟩ := h
  exact b_X12_read_4 C hex hLf n G1 _ _ _ _ _ h (hth.ext (by decide) xG1) I (hl.sub [0] rfl)
def w_X1_right (T : Nat → ClassId) (Q : Hp → Prop) (E : Nat → Hp → Prop) (p0 : Int32) (G : Hp) : Prop := (((¬ p0 = 0) → (Q G)) ∧ ((p0 = 0) → (1 ≤ gC G ∧ 6 ≤ gS G ∧ ∀ G1 : Hp, xSame (nw G 18 0 6) G1 (gZ G) → E  (gZ G) G1)))
theorem pd_X1_right : (parseMethodDescriptor yX1_right.desc).map (fun d => d.parameters.length) = some 1 := by decide +kernel
set_option maxHeartbeats 4000000 in
theorem ct_X1_right {l : Launch} {D : va_G} {T : Nat → ClassId} {Z : Heap} {G0 : Hp} {Q : Hp → Prop} {E : Nat → Hp → Prop} {p0 : Int32} (hLf : l.flags = flags0) (hw : w_X1_right T Q E p0 G0) : CT (twd D T Z) (Evd D T Z) l yX1_right (Cond.code yX1_right cX1_right 1 none) 6 100 [.int p0] G0 (qV Q) E := by
  refine CT.ofW (cc := cX1_right) (nL := 1) (ret := none) Ext.rf (by decide) (Or.inl rfl) ?_
  intro p e s m below meth c hx hb hml hown hr hlk hnm hcb hm hc hn hE I
  have C : Cx p s m meth c D T Z "EndingTown" cX1_right 1 none := ⟨hx, hb, hml, hown, hE, hr, hlk⟩
  have hex := noEx hn hm hc hcb
  refine w_entry [.inl p0] (Nat.le_of_ble_eq_true rfl) (fun ls hl => ?_)
  have hl : LH ls 1 [(0, .inl p0)] := hl
  have h := hw
  refine l_ild_n C dX1_right_0 hl 0 rfl rfl ?_
  refine lv_if_ne (tgt := 12) C.1 C.2.1 dX1_right_1 (by decide) (fun c2 => ?_) (fun c2 => ?_)
  · have h := h.1 c2
    exact r_void C.1 C.2.1 C.2.2.2.2.2.1 C.2.2.2.2.2.2 ⟨rfl, rfl⟩ I dX1_right_12 ⟨rfl, h⟩
  · have h := h.2 c2
    obtain ⟨hb1, hb2, h⟩ := h
    refine z_new0 (kd := 18) hLf C I (by decide) q643 q684 ⟨hb1, hb2⟩ dX1_right_4 dX1_right_7 dX1_right_8 hl.1 ⟨Nat.le_of_ble_eq_true rfl, Nat.le_of_ble_eq_true rfl⟩ (fun H locs cells slots G1 eG1 xG1 I => ?_)
    have h := h G1 eG1
    have hnG1 : isO G1 (some (gZ G0)) 18 := eG1.kn
    exact t_athrow C.1 C.2.1 dX1_right_11 (t_out C.2.2.2.2.2.2 ⟨rfl, rfl⟩ (fun z hz => hex z hz _) I h)
def w_X1_village_51 (T : Nat → ClassId) (Q : Int32 → Hp → Prop) (E : Nat → Hp → Prop) (th : Option Nat) (l2 : Option Nat) (t0 : Option Nat) (G : Hp) : Prop := isO G l2 9 ∧ ∀ G2 : Hp, G2 = wI G (ad th) 6 (gI G (ad l2) 4) → isO G2 (gR G2 (ad th) 7) 50 ∧ vp_in ((0 : Int32)) (gN G2 (ad (gR G2 (ad th) 7))) ∧ vp_in ((0 : Int32)) (gN G2 (ad (gR G2 (ad th) 7))) ∧ ∀ G4 : Hp, G4 = wI G2 (ad (gR G2 (ad th) 7)) ((0 : Int32)).toNatClampNeg ((gI G2 (ad (gR G2 (ad th) 7)) ((0 : Int32)).toNatClampNeg + (1 : Int32))) → isO G4 t0 10 ∧ Q (gI G4 (ad t0) 6) G4
set_option maxHeartbeats 4000000 in
theorem b_X1_village_51 {G0 : Hp} {Q : Int32 → Hp → Prop} {E : Nat → Hp → Prop} {th : Option Nat} (C : Cx p s m meth c D T Z "EndingTown" cX1_village 4 (some .int)) (htab : TabIs c [(40, 48, 51, 90)]) (hLf : l.flags = flags0) : ∀ (l2 : Option Nat) (t0 : Option Nat) (G : Hp) (H : Heap) (locs : List Loc) (cells slots : Nat) (ls : Array Slot), w_X1_village_51 T Q E th l2 t0 G → isO G th 1 → HI (twd D T Z) G0 s (rmX (twd D T Z) 11 310 G0) H locs cells slots G → LH ls 4 [(0, .inr (.inl th)), (2, .inr (.inl l2))] → W p l e (rmX (twd D T Z) 11 310 G0) s m args below meth c H locs cells slots (MQX (twd D T Z) G0 (qI Q) E below s) (F0 m 51 ls [va_rf t0]) := by
  intro l2 t0 G H locs cells slots ls h hth I hl
  refine l_ast_n C dX1_village_51 rfl hl (by decide) rfl (fun ls hl => ?_)
  have hl : LH ls 4 [(3, .inr (.inl t0)), (0, .inr (.inl th)), (2, .inr (.inl l2))] := hl
  refine l_ald_n C dX1_village_52 hl 1 rfl rfl ?_
  refine l_ald_n C dX1_village_53 hl 2 rfl rfl ?_
  obtain ⟨ho1, h⟩ := h
  refine g_I C I fl_X1_92_9 (by decide) (by decide) ho1 dX1_village_54 ?_
  refine P_I C I fp_X1_63_1 (fun z => by cases z) (by decide) (by decide) hth dX1_village_57 (fit_i _) (fun H locs G2 eG2 xG2 I => ?_)
  have h := h G2 eG2
  refine l_ald_n C dX1_village_60 hl 1 rfl rfl ?_
  refine g_R C I fl_X1_67_1 (by decide) (by decide) (hth.ext (by decide) xG2) dX1_village_61 ?_
  refine lv_iconst (v := 0) C.1 C.2.1 dX1_village_64 (by decide) ?_
  refine lv_dup2_11 C.1 C.2.1 dX1_village_65 rfl (cat_rf _) ?_
  obtain ⟨ho3, h⟩ := h
  obtain ⟨hi, h⟩ := h
  refine a_iald C I ho3 hi dX1_village_66 ?_
  refine lv_iconst (v := 1) C.1 C.2.1 dX1_village_67 (by decide) ?_
  refine lv_iadd C.1 C.2.1 dX1_village_68 ?_
  obtain ⟨hi, h⟩ := h
  refine A_iast C I ho3 hi dX1_village_69 (fun H locs G4 eG4 xG4 I => ?_)
  have h := h G4 eG4
  refine l_ald_n C dX1_village_70 hl 0 rfl rfl ?_
  obtain ⟨ho5, h⟩ := h
  refine g_I C I fl_X1_95_10 (by decide) (by decide) ho5 dX1_village_71 ?_
  exact r_int C.1 C.2.1 C.2.2.2.2.2.1 rfl C.2.2.2.2.2.2 ⟨rfl, rfl⟩ I dX1_village_74 ⟨_, rfl, h⟩
def w_X1_village_17 (T : Nat → ClassId) (Q : Int32 → Hp → Prop) (E : Nat → Hp → Prop) (th : Option Nat) (l1 : Int32) (t0 : Int32) (G : Hp) : Prop := w_X1_right T (fun G1 => Ext G G1 → ∀ G3 : Hp, G3 = wI G1 (ad th) 5 ((0 : Int32)) → ∀ G4 : Hp, G4 = wI G3 (ad th) 6 ((-1 : Int32)) → 1 ≤ gC G4 ∧ 10 ≤ gS G4 ∧ ∀ G5 : Hp, G5 = nw G4 9 0 10 → w_X12_init T (fun G6 => Ext G5 G6 → w_X12_read T (fun r11 G10 => Ext G6 G10 → ∀ G12 : Hp, G12 = wR G10 (ad th) 0 r11 → 1 ≤ gC G12 ∧ 3 ≤ gS G12 ∧ ∀ G13 : Hp, G13 = nw G12 16 0 3 → w_J2_init T (fun G14 => Ext G13 G14 → ∀ G16 : Hp, G16 = wR G14 (ad th) 1 ((some (gZ G12))) → ∀ G17 : Hp, G17 = wI G16 (ad th) 11 ((0 : Int32)) → ∀ G18 : Hp, G18 = wI G17 (ad th) 12 ((0 : Int32)) → ∀ G19 : Hp, G19 = wR G18 (ad th) 10 none → ∀ G20 : Hp, G20 = wR G19 (ad th) 13 none → Q ((0 : Int32)) G20) ((some (gZ G12))) G13) (fun a8 G9 => Ext G6 G9 → isO G9 (some a8) 10 ∧ (w_X1_village_51 T Q E th ((some (gZ G4))) ((some a8)) G9)) ((some (gZ G4))) G6) ((some (gZ G4))) th l1 G5) E t0 G
set_option maxHeartbeats 4000000 in
theorem b_X1_village_17 {G0 : Hp} {Q : Int32 → Hp → Prop} {E : Nat → Hp → Prop} {th : Option Nat} (C : Cx p s m meth c D T Z "EndingTown" cX1_village 4 (some .int)) (htab : TabIs c [(40, 48, 51, 90)]) (hLf : l.flags = flags0) : ∀ (l1 : Int32) (t0 : Int32) (G : Hp) (H : Heap) (locs : List Loc) (cells slots : Nat) (ls : Array Slot), w_X1_village_17 T Q E th l1 t0 G → isO G th 1 → HI (twd D T Z) G0 s (rmX (twd D T Z) 11 310 G0) H locs cells slots G → LH ls 4 [(0, .inr (.inl th)), (1, .inl l1)] → W p l e (rmX (twd D T Z) 11 310 G0) s m args below meth c H locs cells slots (MQX (twd D T Z) G0 (qI Q) E below s) (F0 m 17 ls [.int t0]) := by
  intro l1 t0 G H locs cells slots ls h hth I hl
  refine k_call Ext.tr C I (k_S (As := [.int t0]) (rest := []) (y := yX1_right) C q640 q641 q100 (Or.inl rfl) q642 (by decide) rfl pd_X1_right rfl dX1_village_17) (ct_X1_right hLf h) hl.1 dX1_village_17 [] rfl (Nat.le_of_ble_eq_true rfl) (Or.inl rfl) q642 q100 ⟨Nat.le_of_ble_eq_true rfl, Nat.le_of_ble_eq_true rfl⟩ (fun v G1 H locs cells slots xG1 hq I => ?_) (fun a G9 H locs cells slots ex hq I => t_out C.2.2.2.2.2.2 ⟨rfl, rfl⟩ (htab.out (by decide)) I hq)
  obtain ⟨rfl, h⟩ := hq
  have h := h xG1
  refine l_ald_n C dX1_village_20 hl 0 rfl rfl ?_
  refine lv_iconst (v := 0) C.1 C.2.1 dX1_village_21 (by decide) ?_
  refine P_I C I fp_X1_74_1 (fun z => by cases z) (by decide) (by decide) (hth.ext (by decide) xG1) dX1_village_22 (fit_i _) (fun H locs G3 eG3 xG3 I => ?_)
  have h := h G3 eG3
  refine l_ald_n C dX1_village_25 hl 0 rfl rfl ?_
  refine lv_iconst (v := (-1)) C.1 C.2.1 dX1_village_26 (by decide) ?_
  refine P_I C I fp_X1_63_1 (fun z => by cases z) (by decide) (by decide) (hth.ext (by decide) (Ext.tr _ _ _ xG1 xG3)) dX1_village_27 (fit_i _) (fun H locs G4 eG4 xG4 I => ?_)
  have h := h G4 eG4
  obtain ⟨hb1, hb2, h⟩ := h
  refine N_obj (kd := 9) C I (by decide) q707 ⟨hb1, hb2⟩ dX1_village_30 (fun H cells slots G5 eG5 xG5 I => ?_)
  have h := h G5 eG5
  have hnG5 : isO G5 (some (gZ G4)) 9 := ⟨_, rfl, by rw [eG5]; exact gK_nw⟩
  refine lv_dup C.1 C.2.1 dX1_village_33 (cat_rf _) ?_
  refine l_ald_n C dX1_village_34 hl 0 rfl rfl ?_
  refine l_ild_n C dX1_village_35 hl 1 rfl rfl ?_
  refine k_call Ext.tr C I (k_I (r := (some (gZ G4))) (As := [va_rf th, .int l1]) (rest := [va_rf ((some (gZ G4)))]) (y := yX12_init) C hnG5.ad.1 rfl q709 q710 q711 (by decide) rfl pd_X12_init rfl dX1_village_36) (ct_X12_init h) hl.1 dX1_village_36 [.inr (.inl ((some (gZ G4))))] rfl (Nat.le_of_ble_eq_true rfl) (Or.inl rfl) q711 q118 ⟨Nat.le_of_ble_eq_true rfl, Nat.le_of_ble_eq_true rfl⟩ (fun v G6 H locs cells slots xG6 hq I => ?_) (fun a G9 H locs cells slots ex hq I => hq.elim)
  obtain ⟨rfl, h⟩ := hq
  have h := h xG6
  refine l_ast_n C dX1_village_39 rfl hl (by decide) rfl (fun ls hl => ?_)
  have hl : LH ls 4 [(2, .inr (.inl ((some (gZ G4))))), (0, .inr (.inl th)), (1, .inl l1)] := hl
  refine l_ald_n C dX1_village_40 hl 1 rfl rfl ?_
  refine l_ald_n C dX1_village_41 hl 0 rfl rfl ?_
  refine k_call Ext.tr C I (k_V (r := (some (gZ G4))) (As := []) (rest := [va_rf th]) (y := yX12_read) C ⟨(hnG5.ext (by decide) xG6).ad.1, I.recv C.2.2.2.2.1 (hnG5.ext (by decide) xG6) (by decide)⟩ q747 q748 q749 (Or.inl rfl) q750 (by decide) rfl pd_X12_read rfl dX1_village_42) (ct_X12_read hLf h) hl.1 dX1_village_42 [.inr (.inl th)] rfl (Nat.le_of_ble_eq_true rfl) (Or.inl rfl) q750 q118 ⟨Nat.le_of_ble_eq_true rfl, Nat.le_of_ble_eq_true rfl⟩ (fun v G10 H locs cells slots xG10 hq I => ?_) (fun a8 G9 H locs cells slots xG9 hq I => ?_)
  · obtain ⟨r11, rfl, h⟩ := hq
    have h := h xG10
    refine P_R C I fp_X1_16_1 (fun z => by cases z) (by decide) (by decide) (hth.ext (by decide) (Ext.tr _ _ _ xG1 (Ext.tr _ _ _ xG3 (Ext.tr _ _ _ xG4 (Ext.tr _ _ _ xG5 (Ext.tr _ _ _ xG6 xG10)))))) dX1_village_45 (fun x => fit_o x) (fun H locs G12 eG12 xG12 I => ?_)
    have h := h G12 eG12
    refine lv_goto (tgt := 75) C.1 C.2.1 dX1_village_48 (by decide) ?_
    refine l_ald_n C dX1_village_75 hl 1 rfl rfl ?_
    obtain ⟨hb1, hb2, h⟩ := h
    refine N_obj (kd := 16) C I (by decide) q235 ⟨hb1, hb2⟩ dX1_village_76 (fun H cells slots G13 eG13 xG13 I => ?_)
    have h := h G13 eG13
    have hnG13 : isO G13 (some (gZ G12)) 16 := ⟨_, rfl, by rw [eG13]; exact gK_nw⟩
    refine lv_dup C.1 C.2.1 dX1_village_79 (cat_rf _) ?_
    refine k_call Ext.tr C I (k_I (r := (some (gZ G12))) (As := []) (rest := [va_rf ((some (gZ G12))), va_rf th]) (y := yJ2_init) C hnG13.ad.1 rfl q236 q153 q154 (by decide) rfl pd_J2_init rfl dX1_village_80) (ct_J2_init h) hl.1 dX1_village_80 [.inr (.inl ((some (gZ G12)))), .inr (.inl th)] rfl (Nat.le_of_ble_eq_true rfl) (Or.inl rfl) q154 q104 ⟨Nat.le_of_ble_eq_true rfl, Nat.le_of_ble_eq_true rfl⟩ (fun v G14 H locs cells slots xG14 hq I => ?_) (fun a G9 H locs cells slots ex hq I => hq.elim)
    obtain ⟨rfl, h⟩ := hq
    have h := h xG14
    refine P_R C I fp_X1_25_1 (fun z => by cases z) (by decide) (by decide) (hth.ext (by decide) (Ext.tr _ _ _ xG1 (Ext.tr _ _ _ xG3 (Ext.tr _ _ _ xG4 (Ext.tr _ _ _ xG5 (Ext.tr _ _ _ xG6 (Ext.tr _ _ _ xG10 (Ext.tr _ _ _ xG12 (Ext.tr _ _ _ xG13 xG14))))))))) dX1_village_83 (fun x => fit_o x) (fun H locs G16 eG16 xG16 I => ?_)
    have h := h G16 eG16
    refine l_ald_n C dX1_village_86 hl 1 rfl rfl ?_
    refine lv_iconst (v := 0) C.1 C.2.1 dX1_village_87 (by decide) ?_
    refine P_I C I fp_X1_98_1 (fun z => by cases z) (by decide) (by decide) (hth.ext (by decide) (Ext.tr _ _ _ xG1 (Ext.tr _ _ _ xG3 (Ext.tr _ _ _ xG4 (Ext.tr _ _ _ xG5 (Ext.tr _ _ _ xG6 (Ext.tr _ _ _ xG10 (Ext.tr _ _ _ xG12 (Ext.tr _ _ _ xG13 (Ext.tr _ _ _ xG14 xG16)))))))))) dX1_village_88 (fit_i _) (fun H locs G17 eG17 xG17 I => ?_)
    have h := h G17 eG17
    refine l_ald_n C dX1_village_91 hl 1 rfl rfl ?_
    refine lv_iconst (v := 0) C.1 C.2.1 dX1_village_92 (by decide) ?_
    refine P_I C I fp_X1_101_1 (fun z => by cases z) (by decide) (by decide) (hth.ext (by decide) (Ext.tr _ _ _ xG1 (Ext.tr _ _ _ xG3 (Ext.tr _ _ _ xG4 (Ext.tr _ _ _ xG5 (Ext.tr _ _ _ xG6 (Ext.tr _ _ _ xG10 (Ext.tr _ _ _ xG12 (Ext.tr _ _ _ xG13 (Ext.tr _ _ _ xG14 (Ext.tr _ _ _ xG16 xG17))))))))))) dX1_village_93 (fit_i _) (fun H locs G18 eG18 xG18 I => ?_)
    have h := h G18 eG18
    refine l_ald_n C dX1_village_96 hl 1 rfl rfl ?_
    refine l_null C dX1_village_97 ?_
    refine P_R C I fp_X1_104_1 (fun z => by cases z) (by decide) (by decide) (hth.ext (by decide) (Ext.tr _ _ _ xG1 (Ext.tr _ _ _ xG3 (Ext.tr _ _ _ xG4 (Ext.tr _ _ _ xG5 (Ext.tr _ _ _ xG6 (Ext.tr _ _ _ xG10 (Ext.tr _ _ _ xG12 (Ext.tr _ _ _ xG13 (Ext.tr _ _ _ xG14 (Ext.tr _ _ _ xG16 (Ext.tr _ _ _ xG17 xG18)))))))))))) dX1_village_98 (fun x => fit_a x) (fun H locs G19 eG19 xG19 I => ?_)
    have h := h G19 eG19
    refine l_ald_n C dX1_village_101 hl 1 rfl rfl ?_
    refine l_null C dX1_village_102 ?_
    refine P_R C I fp_X1_107_1 (fun z => by cases z) (by decide) (by decide) (hth.ext (by decide) (Ext.tr _ _ _ xG1 (Ext.tr _ _ _ xG3 (Ext.tr _ _ _ xG4 (Ext.tr _ _ _ xG5 (Ext.tr _ _ _ xG6 (Ext.tr _ _ _ xG10 (Ext.tr _ _ _ xG12 (Ext.tr _ _ _ xG13 (Ext.tr _ _ _ xG14 (Ext.tr _ _ _ xG16 (Ext.tr _ _ _ xG17 (Ext.tr _ _ _ xG18 xG19))))))))))))) dX1_village_103 (fun x => fit_o x) (fun H locs G20 eG20 xG20 I => ?_)
    have h := h G20 eG20
    refine lv_iconst (v := 0) C.1 C.2.1 dX1_village_106 (by decide) ?_
    exact r_int C.1 C.2.1 C.2.2.2.2.2.1 rfl C.2.2.2.2.2.2 ⟨rfl, rfl⟩ I dX1_village_107 ⟨_, rfl, h⟩
  · have hq := hq xG9
    obtain ⟨ho9, h⟩ := hq
    refine h_catch (kd := 10) C I ho9 (by decide) htab q639 (by decide) (by decide) ?_
    exact b_X1_village_51 C htab hLf ((some (gZ G4))) ((some a8)) G9 _ _ _ _ _ h (hth.ext (by decide) (Ext.tr _ _ _ xG1 (Ext.tr _ _ _ xG3 (Ext.tr _ _ _ xG4 (Ext.tr _ _ _ xG5 (Ext.tr _ _ _ xG6 xG9)))))) I (hl.sub [1, 0] rfl)
def w_X1_village_16 (T : Nat → ClassId) (Q : Int32 → Hp → Prop) (E : Nat → Hp → Prop) (th : Option Nat) (l1 : Int32) (G : Hp) : Prop := w_X1_village_17 T Q E th l1 ((0 : Int32)) G
set_option maxHeartbeats 4000000 in
theorem b_X1_village_16 {G0 : Hp} {Q : Int32 → Hp → Prop} {E : Nat → Hp → Prop} {th : Option Nat} (C : Cx p s m meth c D T Z "EndingTown" cX1_village 4 (some .int)) (htab : TabIs c [(40, 48, 51, 90)]) (hLf : l.flags = flags0) : ∀ (l1 : Int32) (G : Hp) (H : Heap) (locs : List Loc) (cells slots : Nat) (ls : Array Slot), w_X1_village_16 T Q E th l1 G → isO G th 1 → HI (twd D T Z) G0 s (rmX (twd D T Z) 11 310 G0) H locs cells slots G → LH ls 4 [(0, .inr (.inl th)), (1, .inl l1)] → W p l e (rmX (twd D T Z) 11 310 G0) s m args below meth c H locs cells slots (MQX (twd D T Z) G0 (qI Q) E below s) (F0 m 16 ls []) := by
  intro l1 G H locs cells slots ls h hth I hl
  refine lv_iconst (v := 0) C.1 C.2.1 dX1_village_16 (by decide) ?_
  exact b_X1_village_17 C htab hLf l1 ((0 : Int32)) G _ _ _ _ _ h hth I (hl.sub [0, 1] rfl)
def w_X1_village (T : Nat → ClassId) (Q : Int32 → Hp → Prop) (E : Nat → Hp → Prop) (th : Option Nat) (p0 : Int32) (G : Hp) : Prop := isO G th 1 ∧ (((p0 < 0) → (w_X1_village_16 T Q E th p0 G)) ∧ ((¬ p0 < 0) → (((gI G (ad th) 5 < p0) → (w_X1_village_16 T Q E th p0 G)) ∧ ((¬ gI G (ad th) 5 < p0) → (w_X1_village_17 T Q E th p0 ((1 : Int32)) G)))))
theorem pd_X1_village : (parseMethodDescriptor yX1_village.desc).map (fun d => d.parameters.length) = some 1 := by decide +kernel
set_option maxHeartbeats 4000000 in
theorem ct_X1_village {l : Launch} {D : va_G} {T : Nat → ClassId} {Z : Heap} {G0 : Hp} {Q : Int32 → Hp → Prop} {E : Nat → Hp → Prop} {th : Option Nat} {p0 : Int32} (hLf : l.flags = flags0) (hw : w_X1_village T Q E th p0 G0) : CT (twd D T Z) (Evd D T Z) l yX1_village (Cond.codeWith yX1_village cX1_village 4 (some .int) [(40, 48, 51, 90)]) 11 310 [va_rf th, .int p0] G0 (qI Q) E := by
  refine CT.ofW (cc := cX1_village) (nL := 4) (ret := (some .int)) Ext.rf (by decide) (Or.inr ⟨_, rfl⟩) ?_
  intro p e s m below meth c hx hb hml hown hr hlk hnm hcb hm hc hn hE I
  have C : Cx p s m meth c D T Z "EndingTown" cX1_village 4 (some .int) := ⟨hx, hb, hml, hown, hE, hr, hlk⟩
  have htab := tabOf hn hm hc hcb
  refine w_entry [.inr (.inl th), .inl p0] (Nat.le_of_ble_eq_true rfl) (fun ls hl => ?_)
  have hl : LH ls 4 [(0, .inr (.inl th)), (1, .inl p0)] := hl
  obtain ⟨hth, h⟩ := hw
  refine l_ild_n C dX1_village_0 hl 1 rfl rfl ?_
  refine lv_if_lt (tgt := 16) C.1 C.2.1 dX1_village_1 (by decide) (fun c2 => ?_) (fun c2 => ?_)
  · have h := h.1 c2
    exact b_X1_village_16 C htab hLf p0 G0 _ _ _ _ _ h hth I (hl.sub [0, 1] rfl)
  · have h := h.2 c2
    refine l_ild_n C dX1_village_4 hl 1 rfl rfl ?_
    refine l_ald_n C dX1_village_5 hl 0 rfl rfl ?_
    refine g_I C I fl_X1_74_1 (by decide) (by decide) hth dX1_village_6 ?_
    refine lv_icmp_gt (tgt := 16) C.1 C.2.1 dX1_village_9 (by decide) (fun c1 => ?_) (fun c1 => ?_)
    · have h := h.1 c1
      exact b_X1_village_16 C htab hLf p0 G0 _ _ _ _ _ h hth I (hl.sub [0, 1] rfl)
    · have h := h.2 c1
      refine lv_iconst (v := 1) C.1 C.2.1 dX1_village_12 (by decide) ?_
      refine lv_goto (tgt := 17) C.1 C.2.1 dX1_village_13 (by decide) ?_
      exact b_X1_village_17 C htab hLf p0 ((1 : Int32)) G0 _ _ _ _ _ h hth I (hl.sub [0, 1] rfl)
def w_X1_count_147 (T : Nat → ClassId) (Q : Int32 → Hp → Prop) (E : Nat → Hp → Prop) (th : Option Nat) (l1 : Int32) (G : Hp) : Prop := isO G (gR G (ad th) 7) 50 ∧ vp_in ((l1 - (8 : Int32))) (gN G (ad (gR G (ad th) 7))) ∧ Q (gI G (ad (gR G (ad th) 7)) ((l1 - (8 : Int32))).toNatClampNeg) G
set_option maxHeartbeats 4000000 in
theorem b_X1_count_147 {G0 : Hp} {Q : Int32 → Hp → Prop} {E : Nat → Hp → Prop} {th : Option Nat} (C : Cx p s m meth c D T Z "EndingTown" cX1_count 2 (some .int)) (hex : ∀ z ∈ c.exceptionTable.toList, ∀ pc, covers z pc = false) (hLf : l.flags = flags0) : ∀ (l1 : Int32) (G : Hp) (H : Heap) (locs : List Loc) (cells slots : Nat) (ls : Array Slot), w_X1_count_147 T Q E th l1 G → isO G th 1 → HI (twd D T Z) G0 s (rmX (twd D T Z) 6 100 G0) H locs cells slots G → LH ls 2 [(0, .inr (.inl th)), (1, .inl l1)] → W p l e (rmX (twd D T Z) 6 100 G0) s m args below meth c H locs cells slots (MQX (twd D T Z) G0 (qI Q) E below s) (F0 m 147 ls []) := by
  intro l1 G H locs cells slots ls h hth I hl
  refine l_ald_n C dX1_count_147 hl 0 rfl rfl ?_
  refine g_R C I fl_X1_67_1 (by decide) (by decide) hth dX1_count_148 ?_
  refine l_ild_n C dX1_count_151 hl 1 rfl rfl ?_
  refine lv_bipush (v := 8) C.1 C.2.1 dX1_count_152 (by decide) ?_
  refine lv_isub C.1 C.2.1 dX1_count_154 ?_
  obtain ⟨ho1, h⟩ := h
  obtain ⟨hi, h⟩ := h
  refine a_iald C I ho1 hi dX1_count_155 ?_
  exact r_int C.1 C.2.1 C.2.2.2.2.2.1 rfl C.2.2.2.2.2.2 ⟨rfl, rfl⟩ I dX1_count_156 ⟨_, rfl, h⟩
def w_X1_count (T : Nat → ClassId) (Q : Int32 → Hp → Prop) (E : Nat → Hp → Prop) (th : Option Nat) (p0 : Int32) (G : Hp) : Prop := isO G th 1 ∧ ((p0 = 0 → (isO G (gR G (ad th) 0) 2 ∧ isO G (gR G (ad (gR G (ad th) 0)) 0) 16 ∧ w_J2_size T (fun r3 G2 => Ext G G2 → Q r3 G2) (gR G (ad (gR G (ad th) 0)) 0) G)) ∧ (p0 = 1 → (isO G (gR G (ad th) 0) 2 ∧ isO G (gR G (ad (gR G (ad th) 0)) 2) 16 ∧ w_J2_size T (fun r7 G6 => Ext G G6 → Q r7 G6) (gR G (ad (gR G (ad th) 0)) 2) G)) ∧ (p0 = 2 → (isO G (gR G (ad th) 0) 2 ∧ Q (gI G (ad (gR G (ad th) 0)) 9) G)) ∧ (p0 = 3 → (isO G (gR G (ad th) 0) 2 ∧ Q (gI G (ad (gR G (ad th) 0)) 10) G)) ∧ (p0 = 4 → (isO G (gR G (ad th) 0) 2 ∧ isO G (gR G (ad (gR G (ad th) 0)) 3) 16 ∧ w_J2_size T (fun r13 G12 => Ext G G12 → Q r13 G12) (gR G (ad (gR G (ad th) 0)) 3) G)) ∧ (p0 = 5 → (isO G (gR G (ad th) 0) 2 ∧ isO G (gR G (ad (gR G (ad th) 0)) 4) 16 ∧ w_J2_size T (fun r17 G16 => Ext G G16 → Q r17 G16) (gR G (ad (gR G (ad th) 0)) 4) G)) ∧ (p0 = 6 → (isO G (gR G (ad th) 1) 16 ∧ w_J2_size T (fun r20 G19 => Ext G G19 → Q r20 G19) (gR G (ad th) 1) G)) ∧ (p0 = 7 → (Q (gI G (ad th) 5) G)) ∧ (p0 = 8 → (w_X1_count_147 T Q E th p0 G)) ∧ (p0 = 9 → (w_X1_count_147 T Q E th p0 G)) ∧ (p0 = 10 → (w_X1_count_147 T Q E th p0 G)) ∧ (p0 = 11 → (w_J15_bitCount T (fun r23 G22 => Ext G G22 → Q r23 G22) (gI G (ad th) 12) G)) ∧ (¬ p0 = 0 → ¬ p0 = 1 → ¬ p0 = 2 → ¬ p0 = 3 → ¬ p0 = 4 → ¬ p0 = 5 → ¬ p0 = 6 → ¬ p0 = 7 → ¬ p0 = 8 → ¬ p0 = 9 → ¬ p0 = 10 → ¬ p0 = 11 → (1 ≤ gC G ∧ 6 ≤ gS G ∧ ∀ G24 : Hp, xSame (nw G 17 0 6) G24 (gZ G) → E  (gZ G) G24)))
theorem pd_X1_count : (parseMethodDescriptor yX1_count.desc).map (fun d => d.parameters.length) = some 1 := by decide +kernel
set_option maxHeartbeats 4000000 in
theorem ct_X1_count {l : Launch} {D : va_G} {T : Nat → ClassId} {Z : Heap} {G0 : Hp} {Q : Int32 → Hp → Prop} {E : Nat → Hp → Prop} {th : Option Nat} {p0 : Int32} (hLf : l.flags = flags0) (hw : w_X1_count T Q E th p0 G0) : CT (twd D T Z) (Evd D T Z) l yX1_count (Cond.code yX1_count cX1_count 2 (some .int)) 6 100 [va_rf th, .int p0] G0 (qI Q) E := by
  refine CT.ofW (cc := cX1_count) (nL := 2) (ret := (some .int)) Ext.rf (by decide) (Or.inl rfl) ?_
  intro p e s m below meth c hx hb hml hown hr hlk hnm hcb hm hc hn hE I
  have C : Cx p s m meth c D T Z "EndingTown" cX1_count 2 (some .int) := ⟨hx, hb, hml, hown, hE, hr, hlk⟩
  have hex := noEx hn hm hc hcb
  refine w_entry [.inr (.inl th), .inl p0] (Nat.le_of_ble_eq_true rfl) (fun ls hl => ?_)
  have hl : LH ls 2 [(0, .inr (.inl th)), (1, .inl p0)] := hl
  obtain ⟨hth, h⟩ := hw
  refine l_ild_n C dX1_count_0 hl 1 rfl rfl ?_
  by_cases t0 : p0 = 0
  · have h := h.1 t0
    refine lv_tableIn (off := 63) (tgt := 64) C.1 C.2.1 dX1_count_1 (by rw [t0]; decide) (by rw [t0]; decide) (by rw [t0]; rfl) (by decide) ?_
    refine l_ald_n C dX1_count_64 hl 0 rfl rfl ?_
    refine g_R C I fl_X1_16_1 (by decide) (by decide) hth dX1_count_65 ?_
    obtain ⟨ho1, h⟩ := h
    refine g_R C I fl_X1_110_2 (by decide) (by decide) ho1 dX1_count_68 ?_
    obtain ⟨ho4, h⟩ := h
    refine k_call Ext.tr C I (k_F (kd := 16) (r := gR G0 (ad (gR G0 (ad th) 0)) 0) (As := []) (rest := []) (y := yJ2_size) (x := ⟨"java/util/List", "size", "()I"⟩) C (by decide) ⟨ho4.ad.1, I.recv C.2.2.2.2.1 ho4 (by decide)⟩ q424 (by decide) q426 q425 q430 q428 q417 q427 q429 rfl pd_J2_size rfl dX1_count_71) (ct_J2_size h) hl.1 dX1_count_71 [] rfl (Nat.le_of_ble_eq_true rfl) (Or.inl rfl) q431 q104 ⟨Nat.le_of_ble_eq_true rfl, Nat.le_of_ble_eq_true rfl⟩ (fun v G2 H locs cells slots xG2 hq I => ?_) (fun a G9 H locs cells slots ex hq I => hq.elim)
    obtain ⟨r3, rfl, h⟩ := hq
    have h := h xG2
    exact r_int C.1 C.2.1 C.2.2.2.2.2.1 rfl C.2.2.2.2.2.2 ⟨rfl, rfl⟩ I dX1_count_76 ⟨_, rfl, h⟩
  by_cases t1 : p0 = 1
  · have h := h.2.1 t1
    refine lv_tableIn (off := 76) (tgt := 77) C.1 C.2.1 dX1_count_1 (by rw [t1]; decide) (by rw [t1]; decide) (by rw [t1]; rfl) (by decide) ?_
    refine l_ald_n C dX1_count_77 hl 0 rfl rfl ?_
    refine g_R C I fl_X1_16_1 (by decide) (by decide) hth dX1_count_78 ?_
    obtain ⟨ho5, h⟩ := h
    refine g_R C I fl_X1_119_2 (by decide) (by decide) ho5 dX1_count_81 ?_
    obtain ⟨ho8, h⟩ := h
    refine k_call Ext.tr C I (k_F (kd := 16) (r := gR G0 (ad (gR G0 (ad th) 0)) 2) (As := []) (rest := []) (y := yJ2_size) (x := ⟨"java/util/List", "size", "()I"⟩) C (by decide) ⟨ho8.ad.1, I.recv C.2.2.2.2.1 ho8 (by decide)⟩ q424 (by decide) q426 q425 q430 q428 q417 q427 q429 rfl pd_J2_size rfl dX1_count_84) (ct_J2_size h) hl.1 dX1_count_84 [] rfl (Nat.le_of_ble_eq_true rfl) (Or.inl rfl) q431 q104 ⟨Nat.le_of_ble_eq_true rfl, Nat.le_of_ble_eq_true rfl⟩ (fun v G6 H locs cells slots xG6 hq I => ?_) (fun a G9 H locs cells slots ex hq I => hq.elim)
    obtain ⟨r7, rfl, h⟩ := hq
    have h := h xG6
    exact r_int C.1 C.2.1 C.2.2.2.2.2.1 rfl C.2.2.2.2.2.2 ⟨rfl, rfl⟩ I dX1_count_89 ⟨_, rfl, h⟩
  by_cases t2 : p0 = 2
  · have h := h.2.2.1 t2
    refine lv_tableIn (off := 89) (tgt := 90) C.1 C.2.1 dX1_count_1 (by rw [t2]; decide) (by rw [t2]; decide) (by rw [t2]; rfl) (by decide) ?_
    refine l_ald_n C dX1_count_90 hl 0 rfl rfl ?_
    refine g_R C I fl_X1_16_1 (by decide) (by decide) hth dX1_count_91 ?_
    obtain ⟨ho9, h⟩ := h
    refine g_I C I fl_X1_122_2 (by decide) (by decide) ho9 dX1_count_94 ?_
    exact r_int C.1 C.2.1 C.2.2.2.2.2.1 rfl C.2.2.2.2.2.2 ⟨rfl, rfl⟩ I dX1_count_97 ⟨_, rfl, h⟩
  by_cases t3 : p0 = 3
  · have h := h.2.2.2.1 t3
    refine lv_tableIn (off := 97) (tgt := 98) C.1 C.2.1 dX1_count_1 (by rw [t3]; decide) (by rw [t3]; decide) (by rw [t3]; rfl) (by decide) ?_
    refine l_ald_n C dX1_count_98 hl 0 rfl rfl ?_
    refine g_R C I fl_X1_16_1 (by decide) (by decide) hth dX1_count_99 ?_
    obtain ⟨ho10, h⟩ := h
    refine g_I C I fl_X1_125_2 (by decide) (by decide) ho10 dX1_count_102 ?_
    exact r_int C.1 C.2.1 C.2.2.2.2.2.1 rfl C.2.2.2.2.2.2 ⟨rfl, rfl⟩ I dX1_count_105 ⟨_, rfl, h⟩
  by_cases t4 : p0 = 4
  · have h := h.2.2.2.2.1 t4
    refine lv_tableIn (off := 105) (tgt := 106) C.1 C.2.1 dX1_count_1 (by rw [t4]; decide) (by rw [t4]; decide) (by rw [t4]; rfl) (by decide) ?_
    refine l_ald_n C dX1_count_106 hl 0 rfl rfl ?_
    refine g_R C I fl_X1_16_1 (by decide) (by decide) hth dX1_count_107 ?_
    obtain ⟨ho11, h⟩ := h
    refine g_R C I fl_X1_128_2 (by decide) (by decide) ho11 dX1_count_110 ?_
    obtain ⟨ho14, h⟩ := h
    refine k_call Ext.tr C I (k_F (kd := 16) (r := gR G0 (ad (gR G0 (ad th) 0)) 3) (As := []) (rest := []) (y := yJ2_size) (x := ⟨"java/util/List", "size", "()I"⟩) C (by decide) ⟨ho14.ad.1, I.recv C.2.2.2.2.1 ho14 (by decide)⟩ q424 (by decide) q426 q425 q430 q428 q417 q427 q429 rfl pd_J2_size rfl dX1_count_113) (ct_J2_size h) hl.1 dX1_count_113 [] rfl (Nat.le_of_ble_eq_true rfl) (Or.inl rfl) q431 q104 ⟨Nat.le_of_ble_eq_true rfl, Nat.le_of_ble_eq_true rfl⟩ (fun v G12 H locs cells slots xG12 hq I => ?_) (fun a G9 H locs cells slots ex hq I => hq.elim)
    obtain ⟨r13, rfl, h⟩ := hq
    have h := h xG12
    exact r_int C.1 C.2.1 C.2.2.2.2.2.1 rfl C.2.2.2.2.2.2 ⟨rfl, rfl⟩ I dX1_count_118 ⟨_, rfl, h⟩
  by_cases t5 : p0 = 5
  · have h := h.2.2.2.2.2.1 t5
    refine lv_tableIn (off := 118) (tgt := 119) C.1 C.2.1 dX1_count_1 (by rw [t5]; decide) (by rw [t5]; decide) (by rw [t5]; rfl) (by decide) ?_
    refine l_ald_n C dX1_count_119 hl 0 rfl rfl ?_
    refine g_R C I fl_X1_16_1 (by decide) (by decide) hth dX1_count_120 ?_
    obtain ⟨ho15, h⟩ := h
    refine g_R C I fl_X1_131_2 (by decide) (by decide) ho15 dX1_count_123 ?_
    obtain ⟨ho18, h⟩ := h
    refine k_call Ext.tr C I (k_F (kd := 16) (r := gR G0 (ad (gR G0 (ad th) 0)) 4) (As := []) (rest := []) (y := yJ2_size) (x := ⟨"java/util/List", "size", "()I"⟩) C (by decide) ⟨ho18.ad.1, I.recv C.2.2.2.2.1 ho18 (by decide)⟩ q424 (by decide) q426 q425 q430 q428 q417 q427 q429 rfl pd_J2_size rfl dX1_count_126) (ct_J2_size h) hl.1 dX1_count_126 [] rfl (Nat.le_of_ble_eq_true rfl) (Or.inl rfl) q431 q104 ⟨Nat.le_of_ble_eq_true rfl, Nat.le_of_ble_eq_true rfl⟩ (fun v G16 H locs cells slots xG16 hq I => ?_) (fun a G9 H locs cells slots ex hq I => hq.elim)
    obtain ⟨r17, rfl, h⟩ := hq
    have h := h xG16
    exact r_int C.1 C.2.1 C.2.2.2.2.2.1 rfl C.2.2.2.2.2.2 ⟨rfl, rfl⟩ I dX1_count_131 ⟨_, rfl, h⟩
  by_cases t6 : p0 = 6
  · have h := h.2.2.2.2.2.2.1 t6
    refine lv_tableIn (off := 131) (tgt := 132) C.1 C.2.1 dX1_count_1 (by rw [t6]; decide) (by rw [t6]; decide) (by rw [t6]; rfl) (by decide) ?_
    refine l_ald_n C dX1_count_132 hl 0 rfl rfl ?_
    refine g_R C I fl_X1_25_1 (by decide) (by decide) hth dX1_count_133 ?_
    obtain ⟨ho21, h⟩ := h
    refine k_call Ext.tr C I (k_F (kd := 16) (r := gR G0 (ad th) 1) (As := []) (rest := []) (y := yJ2_size) (x := ⟨"java/util/List", "size", "()I"⟩) C (by decide) ⟨ho21.ad.1, I.recv C.2.2.2.2.1 ho21 (by decide)⟩ q424 (by decide) q426 q425 q430 q428 q417 q427 q429 rfl pd_J2_size rfl dX1_count_136) (ct_J2_size h) hl.1 dX1_count_136 [] rfl (Nat.le_of_ble_eq_true rfl) (Or.inl rfl) q431 q104 ⟨Nat.le_of_ble_eq_true rfl, Nat.le_of_ble_eq_true rfl⟩ (fun v G19 H locs cells slots xG19 hq I => ?_) (fun a G9 H locs cells slots ex hq I => hq.elim)
    obtain ⟨r20, rfl, h⟩ := hq
    have h := h xG19
    exact r_int C.1 C.2.1 C.2.2.2.2.2.1 rfl C.2.2.2.2.2.2 ⟨rfl, rfl⟩ I dX1_count_141 ⟨_, rfl, h⟩
  by_cases t7 : p0 = 7
  · have h := h.2.2.2.2.2.2.2.1 t7
    refine lv_tableIn (off := 141) (tgt := 142) C.1 C.2.1 dX1_count_1 (by rw [t7]; decide) (by rw [t7]; decide) (by rw [t7]; rfl) (by decide) ?_
    refine l_ald_n C dX1_count_142 hl 0 rfl rfl ?_
    refine g_I C I fl_X1_74_1 (by decide) (by decide) hth dX1_count_143 ?_
    exact r_int C.1 C.2.1 C.2.2.2.2.2.1 rfl C.2.2.2.2.2.2 ⟨rfl, rfl⟩ I dX1_count_146 ⟨_, rfl, h⟩
  by_cases t8 : p0 = 8
  · have h := h.2.2.2.2.2.2.2.2.1 t8
    refine lv_tableIn (off := 146) (tgt := 147) C.1 C.2.1 dX1_count_1 (by rw [t8]; decide) (by rw [t8]; decide) (by rw [t8]; rfl) (by decide) ?_
    exact b_X1_count_147 C hex hLf p0 G0 _ _ _ _ _ h hth I (hl.sub [0, 1] rfl)
  by_cases t9 : p0 = 9
  · have h := h.2.2.2.2.2.2.2.2.2.1 t9
    refine lv_tableIn (off := 146) (tgt := 147) C.1 C.2.1 dX1_count_1 (by rw [t9]; decide) (by rw [t9]; decide) (by rw [t9]; rfl) (by decide) ?_
    exact b_X1_count_147 C hex hLf p0 G0 _ _ _ _ _ h hth I (hl.sub [0, 1] rfl)
  by_cases t10 : p0 = 10
  · have h := h.2.2.2.2.2.2.2.2.2.2.1 t10
    refine lv_tableIn (off := 146) (tgt := 147) C.1 C.2.1 dX1_count_1 (by rw [t10]; decide) (by rw [t10]; decide) (by rw [t10]; rfl) (by decide) ?_
    exact b_X1_count_147 C hex hLf p0 G0 _ _ _ _ _ h hth I (hl.sub [0, 1] rfl)
  by_cases t11 : p0 = 11
  · have h := h.2.2.2.2.2.2.2.2.2.2.2.1 t11
    refine lv_tableIn (off := 156) (tgt := 157) C.1 C.2.1 dX1_count_1 (by rw [t11]; decide) (by rw [t11]; decide) (by rw [t11]; rfl) (by decide) ?_
    refine l_ald_n C dX1_count_157 hl 0 rfl rfl ?_
    refine g_I C I fl_X1_101_1 (by decide) (by decide) hth dX1_count_158 ?_
    refine k_call Ext.tr C I (k_S (As := [.int (gI G0 (ad th) 12)]) (rest := []) (y := yJ15_bitCount) C q458 q459 q133 (Or.inl rfl) q460 (by decide) rfl pd_J15_bitCount rfl dX1_count_161) (ct_J15_bitCount h) hl.1 dX1_count_161 [] rfl (Nat.le_of_ble_eq_true rfl) (Or.inl rfl) q460 q133 ⟨Nat.le_of_ble_eq_true rfl, Nat.le_of_ble_eq_true rfl⟩ (fun v G22 H locs cells slots xG22 hq I => ?_) (fun a G9 H locs cells slots ex hq I => hq.elim)
    obtain ⟨r23, rfl, h⟩ := hq
    have h := h xG22
    exact r_int C.1 C.2.1 C.2.2.2.2.2.1 rfl C.2.2.2.2.2.2 ⟨rfl, rfl⟩ I dX1_count_164 ⟨_, rfl, h⟩
  have h := h.2.2.2.2.2.2.2.2.2.2.2.2 t0 t1 t2 t3 t4 t5 t6 t7 t8 t9 t10 t11
  refine lv_tableOut (tgt := 165) C.1 C.2.1 dX1_count_1 (sw_out (n := 12) (fun j hj => by match j, hj with | 0, _ => exact t0 | 1, _ => exact t1 | 2, _ => exact t2 | 3, _ => exact t3 | 4, _ => exact t4 | 5, _ => exact t5 | 6, _ => exact t6 | 7, _ => exact t7 | 8, _ => exact t8 | 9, _ => exact t9 | 10, _ => exact t10 | 11, _ => exact t11 | j + 12, hj => exact absurd hj (by omega)) (by decide)) (by decide) ?_
  obtain ⟨hb1, hb2, h⟩ := h
  refine z_new0 (kd := 17) hLf C I (by decide) q1067 q1076 ⟨hb1, hb2⟩ dX1_count_165 dX1_count_168 dX1_count_169 hl.1 ⟨Nat.le_of_ble_eq_true rfl, Nat.le_of_ble_eq_true rfl⟩ (fun H locs cells slots G24 eG24 xG24 I => ?_)
  have h := h G24 eG24
  have hnG24 : isO G24 (some (gZ G0)) 17 := eG24.kn
  exact t_athrow C.1 C.2.1 dX1_count_172 (t_out C.2.2.2.2.2.2 ⟨rfl, rfl⟩ (fun z hz => hex z hz _) I h)
def w_X1_found (T : Nat → ClassId) (Q : Hp → Prop) (E : Nat → Hp → Prop) (p0 : Int32) (G : Hp) : Prop := (((¬ p0 = 0) → (Q G)) ∧ ((p0 = 0) → (1 ≤ gC G ∧ 6 ≤ gS G ∧ ∀ G1 : Hp, xSame (nw G 17 0 6) G1 (gZ G) → E  (gZ G) G1)))
theorem pd_X1_found : (parseMethodDescriptor yX1_found.desc).map (fun d => d.parameters.length) = some 1 := by decide +kernel
set_option maxHeartbeats 4000000 in
theorem ct_X1_found {l : Launch} {D : va_G} {T : Nat → ClassId} {Z : Heap} {G0 : Hp} {Q : Hp → Prop} {E : Nat → Hp → Prop} {p0 : Int32} (hLf : l.flags = flags0) (hw : w_X1_found T Q E p0 G0) : CT (twd D T Z) (Evd D T Z) l yX1_found (Cond.code yX1_found cX1_found 1 none) 6 100 [.int p0] G0 (qV Q) E := by
  refine CT.ofW (cc := cX1_found) (nL := 1) (ret := none) Ext.rf (by decide) (Or.inl rfl) ?_
  intro p e s m below meth c hx hb hml hown hr hlk hnm hcb hm hc hn hE I
  have C : Cx p s m meth c D T Z "EndingTown" cX1_found 1 none := ⟨hx, hb, hml, hown, hE, hr, hlk⟩
  have hex := noEx hn hm hc hcb
  refine w_entry [.inl p0] (Nat.le_of_ble_eq_true rfl) (fun ls hl => ?_)
  have hl : LH ls 1 [(0, .inl p0)] := hl
  have h := hw
  refine l_ild_n C dX1_found_0 hl 0 rfl rfl ?_
  refine lv_if_ne (tgt := 12) C.1 C.2.1 dX1_found_1 (by decide) (fun c2 => ?_) (fun c2 => ?_)
  · have h := h.1 c2
    exact r_void C.1 C.2.1 C.2.2.2.2.2.1 C.2.2.2.2.2.2 ⟨rfl, rfl⟩ I dX1_found_12 ⟨rfl, h⟩
  · have h := h.2 c2
    obtain ⟨hb1, hb2, h⟩ := h
    refine z_new0 (kd := 17) hLf C I (by decide) q1067 q1076 ⟨hb1, hb2⟩ dX1_found_4 dX1_found_7 dX1_found_8 hl.1 ⟨Nat.le_of_ble_eq_true rfl, Nat.le_of_ble_eq_true rfl⟩ (fun H locs cells slots G1 eG1 xG1 I => ?_)
    have h := h G1 eG1
    have hnG1 : isO G1 (some (gZ G0)) 17 := eG1.kn
    exact t_athrow C.1 C.2.1 dX1_found_11 (t_out C.2.2.2.2.2.2 ⟨rfl, rfl⟩ (fun z hz => hex z hz _) I h)
def w_X1_aPerson (T : Nat → ClassId) (Q : Hp → Prop) (E : Nat → Hp → Prop) (th : Option Nat) (p0 : Int32) (G : Hp) : Prop := isO G th 1 ∧ (isO G (gR G (ad th) 0) 2 ∧ w_X1_in T (fun r3 G2 => Ext G G2 → w_X1_found T (fun G4 => Ext G2 G4 → Q G4) E r3 G2) p0 ((0 : Int32)) ((gI G (ad (gR G (ad th) 0)) 10 - (1 : Int32))) G)
theorem pd_X1_aPerson : (parseMethodDescriptor yX1_aPerson.desc).map (fun d => d.parameters.length) = some 1 := by decide +kernel
set_option maxHeartbeats 4000000 in
theorem ct_X1_aPerson {l : Launch} {D : va_G} {T : Nat → ClassId} {Z : Heap} {G0 : Hp} {Q : Hp → Prop} {E : Nat → Hp → Prop} {th : Option Nat} {p0 : Int32} (hLf : l.flags = flags0) (hw : w_X1_aPerson T Q E th p0 G0) : CT (twd D T Z) (Evd D T Z) l yX1_aPerson (Cond.code yX1_aPerson cX1_aPerson 2 none) 7 120 [va_rf th, .int p0] G0 (qV Q) E := by
  refine CT.ofW (cc := cX1_aPerson) (nL := 2) (ret := none) Ext.rf (by decide) (Or.inl rfl) ?_
  intro p e s m below meth c hx hb hml hown hr hlk hnm hcb hm hc hn hE I
  have C : Cx p s m meth c D T Z "EndingTown" cX1_aPerson 2 none := ⟨hx, hb, hml, hown, hE, hr, hlk⟩
  have hex := noEx hn hm hc hcb
  refine w_entry [.inr (.inl th), .inl p0] (Nat.le_of_ble_eq_true rfl) (fun ls hl => ?_)
  have hl : LH ls 2 [(0, .inr (.inl th)), (1, .inl p0)] := hl
  obtain ⟨hth, h⟩ := hw
  refine l_ild_n C dX1_aPerson_0 hl 1 rfl rfl ?_
  refine lv_iconst (v := 0) C.1 C.2.1 dX1_aPerson_1 (by decide) ?_
  refine l_ald_n C dX1_aPerson_2 hl 0 rfl rfl ?_
  refine g_R C I fl_X1_16_1 (by decide) (by decide) hth dX1_aPerson_3 ?_
  obtain ⟨ho1, h⟩ := h
  refine g_I C I fl_X1_125_2 (by decide) (by decide) ho1 dX1_aPerson_6 ?_
  refine lv_iconst (v := 1) C.1 C.2.1 dX1_aPerson_9 (by decide) ?_
  refine lv_isub C.1 C.2.1 dX1_aPerson_10 ?_
  refine k_call Ext.tr C I (k_S (As := [.int p0, .int ((0 : Int32)), .int ((gI G0 (ad (gR G0 (ad th) 0)) 10 - (1 : Int32)))]) (rest := []) (y := yX1_in) C q1093 q764 q100 (Or.inl rfl) q765 (by decide) rfl pd_X1_in rfl dX1_aPerson_11) (ct_X1_in h) hl.1 dX1_aPerson_11 [] rfl (Nat.le_of_ble_eq_true rfl) (Or.inl rfl) q765 q100 ⟨Nat.le_of_ble_eq_true rfl, Nat.le_of_ble_eq_true rfl⟩ (fun v G2 H locs cells slots xG2 hq I => ?_) (fun a G9 H locs cells slots ex hq I => hq.elim)
  obtain ⟨r3, rfl, h⟩ := hq
  have h := h xG2
  refine k_call Ext.tr C I (k_S (As := [.int r3]) (rest := []) (y := yX1_found) C q1094 q1095 q100 (Or.inl rfl) q1096 (by decide) rfl pd_X1_found rfl dX1_aPerson_14) (ct_X1_found hLf h) hl.1 dX1_aPerson_14 [] rfl (Nat.le_of_ble_eq_true rfl) (Or.inl rfl) q1096 q100 ⟨Nat.le_of_ble_eq_true rfl, Nat.le_of_ble_eq_true rfl⟩ (fun v G4 H locs cells slots xG4 hq I => ?_) (fun a G9 H locs cells slots ex hq I => t_out C.2.2.2.2.2.2 ⟨rfl, rfl⟩ (fun z hz => hex z hz _) I hq)
  obtain ⟨rfl, h⟩ := hq
  have h := h xG4
  exact r_void C.1 C.2.1 C.2.2.2.2.2.1 C.2.2.2.2.2.2 ⟨rfl, rfl⟩ I dX1_aPerson_17 ⟨rfl, h⟩
def w_X1_anHour (T : Nat → ClassId) (Q : Hp → Prop) (E : Nat → Hp → Prop) (th : Option Nat) (p0 : Int32) (G : Hp) : Prop := isO G th 1 ∧ (w_X1_in T (fun r2 G1 => Ext G G1 → w_X1_found T (fun G3 => Ext G1 G3 → Q G3) E r2 G1) p0 ((0 : Int32)) ((23 : Int32)) G)
theorem pd_X1_anHour : (parseMethodDescriptor yX1_anHour.desc).map (fun d => d.parameters.length) = some 1 := by decide +kernel
set_option maxHeartbeats 4000000 in
theorem ct_X1_anHour {l : Launch} {D : va_G} {T : Nat → ClassId} {Z : Heap} {G0 : Hp} {Q : Hp → Prop} {E : Nat → Hp → Prop} {th : Option Nat} {p0 : Int32} (hLf : l.flags = flags0) (hw : w_X1_anHour T Q E th p0 G0) : CT (twd D T Z) (Evd D T Z) l yX1_anHour (Cond.code yX1_anHour cX1_anHour 2 none) 7 120 [va_rf th, .int p0] G0 (qV Q) E := by
  refine CT.ofW (cc := cX1_anHour) (nL := 2) (ret := none) Ext.rf (by decide) (Or.inl rfl) ?_
  intro p e s m below meth c hx hb hml hown hr hlk hnm hcb hm hc hn hE I
  have C : Cx p s m meth c D T Z "EndingTown" cX1_anHour 2 none := ⟨hx, hb, hml, hown, hE, hr, hlk⟩
  have hex := noEx hn hm hc hcb
  refine w_entry [.inr (.inl th), .inl p0] (Nat.le_of_ble_eq_true rfl) (fun ls hl => ?_)
  have hl : LH ls 2 [(0, .inr (.inl th)), (1, .inl p0)] := hl
  obtain ⟨hth, h⟩ := hw
  refine l_ild_n C dX1_anHour_0 hl 1 rfl rfl ?_
  refine lv_iconst (v := 0) C.1 C.2.1 dX1_anHour_1 (by decide) ?_
  refine lv_bipush (v := 23) C.1 C.2.1 dX1_anHour_2 (by decide) ?_
  refine k_call Ext.tr C I (k_S (As := [.int p0, .int ((0 : Int32)), .int ((23 : Int32))]) (rest := []) (y := yX1_in) C q1093 q764 q100 (Or.inl rfl) q765 (by decide) rfl pd_X1_in rfl dX1_anHour_4) (ct_X1_in h) hl.1 dX1_anHour_4 [] rfl (Nat.le_of_ble_eq_true rfl) (Or.inl rfl) q765 q100 ⟨Nat.le_of_ble_eq_true rfl, Nat.le_of_ble_eq_true rfl⟩ (fun v G1 H locs cells slots xG1 hq I => ?_) (fun a G9 H locs cells slots ex hq I => hq.elim)
  obtain ⟨r2, rfl, h⟩ := hq
  have h := h xG1
  refine k_call Ext.tr C I (k_S (As := [.int r2]) (rest := []) (y := yX1_found) C q1094 q1095 q100 (Or.inl rfl) q1096 (by decide) rfl pd_X1_found rfl dX1_anHour_7) (ct_X1_found hLf h) hl.1 dX1_anHour_7 [] rfl (Nat.le_of_ble_eq_true rfl) (Or.inl rfl) q1096 q100 ⟨Nat.le_of_ble_eq_true rfl, Nat.le_of_ble_eq_true rfl⟩ (fun v G3 H locs cells slots xG3 hq I => ?_) (fun a G9 H locs cells slots ex hq I => t_out C.2.2.2.2.2.2 ⟨rfl, rfl⟩ (fun z hz => hex z hz _) I hq)
  obtain ⟨rfl, h⟩ := hq
  have h := h xG3
  exact r_void C.1 C.2.1 C.2.2.2.2.2.1 C.2.2.2.2.2.2 ⟨rfl, rfl⟩ I dX1_anHour_10 ⟨rfl, h⟩
end GT2
