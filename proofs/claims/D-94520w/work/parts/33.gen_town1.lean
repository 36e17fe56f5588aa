/-! the town: wp and contracts, by program -/
set_option maxRecDepth 100000
section GT0
variable {p : Program} {l : Launch} {e : Env} {s : State} {m : MethodId} {args : Array Value} {below : List Frame} {meth : Method} {c : Code} {D : va_G} {T : Nat → ClassId} {Z : Heap}
def w_J0_init_k16 (T : Nat → ClassId) (Q : Hp → Prop) (th : Option Nat) (G : Hp) : Prop := isO G th 16 ∧ (Q G)
theorem pd_J0_init : (parseMethodDescriptor yJ0_init.desc).map (fun d => d.parameters.length) = some 0 := by decide +kernel
set_option maxHeartbeats 4000000 in
theorem ct_J0_init_k16 {l : Launch} {D : va_G} {T : Nat → ClassId} {Z : Heap} {G0 : Hp} {Q : Hp → Prop} {th : Option Nat} (hw : w_J0_init_k16 T Q th G0) : CT (twd D T Z) (Evd D T Z) l yJ0_init (Cond.code yJ0_init cJ0_init 1 none) 1 20 [va_rf th] G0 (qV Q) (fun _ _ => False) := by
  refine CT.ofW (cc := cJ0_init) (nL := 1) (ret := none) Ext.rf (by decide +kernel) (Or.inl rfl) ?_
  intro p e s m below meth c hx hb hml hown hr hlk hnm hcb hm hc hn hE I
  have C : Cx p s m meth c D T Z "java/util/AbstractCollection" cJ0_init 1 none := ⟨hx, hb, hml, hown, hE, hr, hlk⟩
  refine w_entry [.inr (.inl th)] (Nat.le_of_ble_eq_true rfl) (fun ls hl => ?_)
  have hl : LH ls 1 [(0, .inr (.inl th))] := hl
  obtain ⟨hth, h⟩ := hw
  refine l_ald_n C dJ0_init_0 hl 0 rfl rfl ?_
  refine k_objInit C hth.ad.1 q161 q142 q143 hl.1 dJ0_init_1 (Nat.le_of_ble_eq_true rfl) ⟨Nat.le_of_ble_eq_true rfl, Nat.le_of_ble_eq_true rfl⟩ ?_
  exact r_void C.1 C.2.1 C.2.2.2.2.2.1 C.2.2.2.2.2.2 ⟨rfl, rfl⟩ I dJ0_init_4 ⟨rfl, h⟩
def w_J1_init_k16 (T : Nat → ClassId) (Q : Hp → Prop) (th : Option Nat) (G : Hp) : Prop := isO G th 16 ∧ (w_J0_init_k16 T (fun G1 => Ext G G1 → ∀ G3 : Hp, G3 = wI G1 (ad th) 0 ((0 : Int32)) → Q G3) th G)
theorem pd_J1_init : (parseMethodDescriptor yJ1_init.desc).map (fun d => d.parameters.length) = some 0 := by decide +kernel
set_option maxHeartbeats 4000000 in
theorem ct_J1_init_k16 {l : Launch} {D : va_G} {T : Nat → ClassId} {Z : Heap} {G0 : Hp} {Q : Hp → Prop} {th : Option Nat} (hw : w_J1_init_k16 T Q th G0) : CT (twd D T Z) (Evd D T Z) l yJ1_init (Cond.code yJ1_init cJ1_init 1 none) 2 40 [va_rf th] G0 (qV Q) (fun _ _ => False) := by
  refine CT.ofW (cc := cJ1_init) (nL := 1) (ret := none) Ext.rf (by decide +kernel) (Or.inl rfl) ?_
  intro p e s m below meth c hx hb hml hown hr hlk hnm hcb hm hc hn hE I
  have C : Cx p s m meth c D T Z "java/util/AbstractList" cJ1_init 1 none := ⟨hx, hb, hml, hown, hE, hr, hlk⟩
  refine w_entry [.inr (.inl th)] (Nat.le_of_ble_eq_true rfl) (fun ls hl => ?_)
  have hl : LH ls 1 [(0, .inr (.inl th))] := hl
  obtain ⟨hth, h⟩ := hw
  refine l_ald_n C dJ1_init_0 hl 0 rfl rfl ?_
  refine k_call Ext.tr C I (k_I (r := th) (As := []) (rest := []) (y := yJ0_init) C hth.ad.1 rfl q158 q159 q160 (by decide) rfl pd_J0_init rfl dJ1_init_1) (ct_J0_init_k16 h) hl.1 dJ1_init_1 [] rfl (Nat.le_of_ble_eq_true rfl) (Or.inl rfl) q160 q102 ⟨Nat.le_of_ble_eq_true rfl, Nat.le_of_ble_eq_true rfl⟩ (fun v G1 H locs cells slots xG1 hq I => ?_) (fun a G9 H locs cells slots ex hq I => hq.elim)
  obtain ⟨rfl, h⟩ := hq
  have h := h xG1
  refine l_ald_n C dJ1_init_4 hl 0 rfl rfl ?_
  refine lv_iconst (v := 0) C.1 C.2.1 dJ1_init_5 (by decide) ?_
  refine P_I C I fp_J1_7_16 (fun z => by cases z) (by decide) (by decide) (hth.ext (by decide) xG1) dJ1_init_6 (fit_i _) (fun H locs G3 eG3 xG3 I => ?_)
  have h := h G3 eG3
  exact r_void C.1 C.2.1 C.2.2.2.2.2.1 C.2.2.2.2.2.2 ⟨rfl, rfl⟩ I dJ1_init_9 ⟨rfl, h⟩
def w_J2_init (T : Nat → ClassId) (Q : Hp → Prop) (th : Option Nat) (G : Hp) : Prop := isO G th 16 ∧ (w_J1_init_k16 T (fun G1 => Ext G G1 → ∀ G3 : Hp, G3 = wR G1 (ad th) 1 ((some (T 100))) → Q G3) th G)
theorem pd_J2_init : (parseMethodDescriptor yJ2_init.desc).map (fun d => d.parameters.length) = some 0 := by decide +kernel
set_option maxHeartbeats 4000000 in
theorem ct_J2_init {l : Launch} {D : va_G} {T : Nat → ClassId} {Z : Heap} {G0 : Hp} {Q : Hp → Prop} {th : Option Nat} (hw : w_J2_init T Q th G0) : CT (twd D T Z) (Evd D T Z) l yJ2_init (Cond.code yJ2_init cJ2_init 1 none) 3 60 [va_rf th] G0 (qV Q) (fun _ _ => False) := by
  refine CT.ofW (cc := cJ2_init) (nL := 1) (ret := none) Ext.rf (by decide +kernel) (Or.inl rfl) ?_
  intro p e s m below meth c hx hb hml hown hr hlk hnm hcb hm hc hn hE I
  have C : Cx p s m meth c D T Z "java/util/ArrayList" cJ2_init 1 none := ⟨hx, hb, hml, hown, hE, hr, hlk⟩
  refine w_entry [.inr (.inl th)] (Nat.le_of_ble_eq_true rfl) (fun ls hl => ?_)
  have hl : LH ls 1 [(0, .inr (.inl th))] := hl
  obtain ⟨hth, h⟩ := hw
  refine l_ald_n C dJ2_init_0 hl 0 rfl rfl ?_
  refine k_call Ext.tr C I (k_I (r := th) (As := []) (rest := []) (y := yJ1_init) C hth.ad.1 rfl q155 q156 q157 (by decide) rfl pd_J1_init rfl dJ2_init_1) (ct_J1_init_k16 h) hl.1 dJ2_init_1 [] rfl (Nat.le_of_ble_eq_true rfl) (Or.inl rfl) q157 q103 ⟨Nat.le_of_ble_eq_true rfl, Nat.le_of_ble_eq_true rfl⟩ (fun v G1 H locs cells slots xG1 hq I => ?_) (fun a G9 H locs cells slots ex hq I => hq.elim)
  obtain ⟨rfl, h⟩ := hq
  have h := h xG1
  refine l_ald_n C dJ2_init_4 hl 0 rfl rfl ?_
  refine z_st0 C I q162 dJ2_init_5 ?_
  refine P_R C I fp_J2_9_16 (fun z => by cases z) (by decide) (by decide) (hth.ext (by decide) xG1) dJ2_init_8 (fun x => fit_a x) (fun H locs G3 eG3 xG3 I => ?_)
  have h := h G3 eG3
  exact r_void C.1 C.2.1 C.2.2.2.2.2.1 C.2.2.2.2.2.2 ⟨rfl, rfl⟩ I dJ2_init_11 ⟨rfl, h⟩
def w_X10_init (T : Nat → ClassId) (Q : Hp → Prop) (th : Option Nat) (p0 : Option Nat) (G : Hp) : Prop := isO G th 8 ∧ (∀ G1 : Hp, G1 = wR G (ad th) 5 p0 → (¬ (20 : Int32) < 0 ∧ ((20 : Int32)).toNatClampNeg ≤ 100000 ∧ 1 ≤ gC G1 ∧ ((20 : Int32)).toNatClampNeg ≤ gS G1) ∧ ∀ G2 : Hp, G2 = nw G1 50 ((20 : Int32)).toNatClampNeg ((20 : Int32)).toNatClampNeg → ∀ G3 : Hp, G3 = wR G2 (ad th) 0 ((some (gZ G1))) → (¬ (20 : Int32) < 0 ∧ ((20 : Int32)).toNatClampNeg ≤ 100000 ∧ 1 ≤ gC G3 ∧ ((20 : Int32)).toNatClampNeg ≤ gS G3) ∧ ∀ G4 : Hp, G4 = nw G3 50 ((20 : Int32)).toNatClampNeg ((20 : Int32)).toNatClampNeg → ∀ G5 : Hp, G5 = wR G4 (ad th) 1 ((some (gZ G3))) → (¬ (20 : Int32) < 0 ∧ ((20 : Int32)).toNatClampNeg ≤ 100000 ∧ 1 ≤ gC G5 ∧ ((20 : Int32)).toNatClampNeg ≤ gS G5) ∧ ∀ G6 : Hp, G6 = nw G5 50 ((20 : Int32)).toNatClampNeg ((20 : Int32)).toNatClampNeg → ∀ G7 : Hp, G7 = wR G6 (ad th) 2 ((some (gZ G5))) → (¬ (20 : Int32) < 0 ∧ ((20 : Int32)).toNatClampNeg ≤ 100000 ∧ 1 ≤ gC G7 ∧ ((20 : Int32)).toNatClampNeg ≤ gS G7) ∧ ∀ G8 : Hp, G8 = nw G7 52 ((20 : Int32)).toNatClampNeg ((20 : Int32)).toNatClampNeg → ∀ G9 : Hp, G9 = wR G8 (ad th) 3 ((some (gZ G7))) → Q G9)
theorem pd_X10_init : (parseMethodDescriptor yX10_init.desc).map (fun d => d.parameters.length) = some 1 := by decide +kernel
set_option maxHeartbeats 4000000 in
theorem ct_X10_init {l : Launch} {D : va_G} {T : Nat → ClassId} {Z : Heap} {G0 : Hp} {Q : Hp → Prop} {th : Option Nat} {p0 : Option Nat} (hw : w_X10_init T Q th p0 G0) : CT (twd D T Z) (Evd D T Z) l yX10_init (Cond.code yX10_init cX10_init 2 none) 1 20 [va_rf th, va_rf p0] G0 (qV Q) (fun _ _ => False) := by
  refine CT.ofW (cc := cX10_init) (nL := 2) (ret := none) Ext.rf (by decide) (Or.inl rfl) ?_
  intro p e s m below meth c hx hb hml hown hr hlk hnm hcb hm hc hn hE I
  have C : Cx p s m meth c D T Z "EndingTown$Day" cX10_init 2 none := ⟨hx, hb, hml, hown, hE, hr, hlk⟩
  refine w_entry [.inr (.inl th), .inr (.inl p0)] (Nat.le_of_ble_eq_true rfl) (fun ls hl => ?_)
  have hl : LH ls 2 [(0, .inr (.inl th)), (1, .inr (.inl p0))] := hl
  obtain ⟨hth, h⟩ := hw
  refine l_ald_n C dX10_init_0 hl 0 rfl rfl ?_
  refine l_ald_n C dX10_init_1 hl 1 rfl rfl ?_
  refine P_R C I fp_X10_3_8 (fun _ => hnm) (by decide) (by decide) hth dX10_init_2 (fun x => fit_o x) (fun H locs G1 eG1 xG1 I => ?_)
  have h := h G1 eG1
  refine l_ald_n C dX10_init_5 hl 0 rfl rfl ?_
  refine k_objInit C (hth.ext (by decide) xG1).ad.1 q314 q142 q143 hl.1 dX10_init_6 (Nat.le_of_ble_eq_true rfl) ⟨Nat.le_of_ble_eq_true rfl, Nat.le_of_ble_eq_true rfl⟩ ?_
  refine l_ald_n C dX10_init_9 hl 0 rfl rfl ?_
  refine lv_bipush (v := 20) C.1 C.2.1 dX10_init_10 (by decide) ?_
  obtain ⟨hb, h⟩ := h
  refine N_arr (kd := 50) C I (by decide) rfl q234 hb dX10_init_12 (fun H cells slots G2 eG2 xG2 I => ?_)
  have h := h G2 eG2
  have hnG2 : isO G2 (some (gZ G1)) 50 := ⟨_, rfl, by rw [eG2]; exact gK_nw⟩
  refine P_R C I fp_X10_15_8 (fun _ => hnm) (by decide) (by decide) (hth.ext (by decide) (Ext.tr _ _ _ xG1 xG2)) dX10_init_14 (fun x => fit_a x) (fun H locs G3 eG3 xG3 I => ?_)
  have h := h G3 eG3
  refine l_ald_n C dX10_init_17 hl 0 rfl rfl ?_
  refine lv_bipush (v := 20) C.1 C.2.1 dX10_init_18 (by decide) ?_
  obtain ⟨hb, h⟩ := h
  refine N_arr (kd := 50) C I (by decide) rfl q234 hb dX10_init_20 (fun H cells slots G4 eG4 xG4 I => ?_)
  have h := h G4 eG4
  have hnG4 : isO G4 (some (gZ G3)) 50 := ⟨_, rfl, by rw [eG4]; exact gK_nw⟩
  refine P_R C I fp_X10_19_8 (fun _ => hnm) (by decide) (by decide) (hth.ext (by decide) (Ext.tr _ _ _ xG1 (Ext.tr _ _ _ xG2 (Ext.tr _ _ _ xG3 xG4)))) dX10_init_22 (fun x => fit_a x) (fun H locs G5 eG5 xG5 I => ?_)
  have h := h G5 eG5
  refine l_ald_n C dX10_init_25 hl 0 rfl rfl ?_
  refine lv_bipush (v := 20) C.1 C.2.1 dX10_init_26 (by decide) ?_
  obtain ⟨hb, h⟩ := h
  refine N_arr (kd := 50) C I (by decide) rfl q234 hb dX10_init_28 (fun H cells slots G6 eG6 xG6 I => ?_)
  have h := h G6 eG6
  have hnG6 : isO G6 (some (gZ G5)) 50 := ⟨_, rfl, by rw [eG6]; exact gK_nw⟩
  refine P_R C I fp_X10_22_8 (fun _ => hnm) (by decide) (by decide) (hth.ext (by decide) (Ext.tr _ _ _ xG1 (Ext.tr _ _ _ xG2 (Ext.tr _ _ _ xG3 (Ext.tr _ _ _ xG4 (Ext.tr _ _ _ xG5 xG6)))))) dX10_init_30 (fun x => fit_a x) (fun H locs G7 eG7 xG7 I => ?_)
  have h := h G7 eG7
  refine l_ald_n C dX10_init_33 hl 0 rfl rfl ?_
  refine lv_bipush (v := 20) C.1 C.2.1 dX10_init_34 (by decide) ?_
  obtain ⟨hb, h⟩ := h
  refine N_arr (kd := 52) C I (by decide) rfl q341 hb dX10_init_36 (fun H cells slots G8 eG8 xG8 I => ?_)
  have h := h G8 eG8
  have hnG8 : isO G8 (some (gZ G7)) 52 := ⟨_, rfl, by rw [eG8]; exact gK_nw⟩
  refine P_R C I fp_X10_25_8 (fun _ => hnm) (by decide) (by decide) (hth.ext (by decide) (Ext.tr _ _ _ xG1 (Ext.tr _ _ _ xG2 (Ext.tr _ _ _ xG3 (Ext.tr _ _ _ xG4 (Ext.tr _ _ _ xG5 (Ext.tr _ _ _ xG6 (Ext.tr _ _ _ xG7 xG8)))))))) dX10_init_38 (fun x => fit_a x) (fun H locs G9 eG9 xG9 I => ?_)
  have h := h G9 eG9
  exact r_void C.1 C.2.1 C.2.2.2.2.2.1 C.2.2.2.2.2.2 ⟨rfl, rfl⟩ I dX10_init_41 ⟨rfl, h⟩
def w_X2_init_113 (T : Nat → ClassId) (Q : Hp → Prop) (th : Option Nat) : Nat → Int32 → Hp → Prop
  | 0 => fun _ _ => False
  | f113 + 1 => fun l1 G => isO G (gR G (ad th) 7) 50 ∧ ((nI (gN G (ad (gR G (ad th) 7))) ≤ l1) → (Q G)) ∧ ((¬ nI (gN G (ad (gR G (ad th) 7))) ≤ l1) → (vp_in l1 (gN G (ad (gR G (ad th) 7))) ∧ ∀ G2 : Hp, G2 = wI G (ad (gR G (ad th) 7)) l1.toNatClampNeg ((500 : Int32)) → (w_X2_init_113 T Q th f113) ((l1 + 1)) G2))
set_option maxHeartbeats 4000000 in
theorem b_X2_init_113 {G0 : Hp} {Q : Hp → Prop} {th : Option Nat} (C : Cx p s m meth c D T Z "EndingTown$Village" cX2_init 2 none) (hnm : meth.name = "<init>") : ∀ (n : Nat) (l1 : Int32) (G : Hp) (H : Heap) (locs : List Loc) (cells slots : Nat) (ls : Array Slot), w_X2_init_113 T Q th n l1 G → isO G th 2 → HI (twd D T Z) G0 s (rmX (twd D T Z) 4 80 G0) H locs cells slots G → LH ls 2 [(0, .inr (.inl th)), (1, .inl l1)] → W p l e (rmX (twd D T Z) 4 80 G0) s m args below meth c H locs cells slots (MQX (twd D T Z) G0 (qV Q) (fun _ _ => False) below s) (F0 m 113 ls []) := by
  intro f113
  induction f113 with
  | zero => intro l1 G H locs cells slots ls h; exact (show False from h).elim
  | succ f113 ih =>
    intro l1 G H locs cells slots ls h hth I hl
    have h : isO G (gR G (ad th) 7) 50 ∧ ((nI (gN G (ad (gR G (ad th) 7))) ≤ l1) → (Q G)) ∧ ((¬ nI (gN G (ad (gR G (ad th) 7))) ≤ l1) → (vp_in l1 (gN G (ad (gR G (ad th) 7))) ∧ ∀ G2 : Hp, G2 = wI G (ad (gR G (ad th) 7)) l1.toNatClampNeg ((500 : Int32)) → (w_X2_init_113 T Q th f113) ((l1 + 1)) G2)) := h
    have hk113 := ih
    refine l_ild_n C dX2_init_113 hl 1 rfl rfl ?_
    refine l_ald_n C dX2_init_114 hl 0 rfl rfl ?_
    refine g_R C I fl_X2_40_2 (by decide) (by decide) hth dX2_init_115 ?_
    obtain ⟨ho1, h⟩ := h
    refine a_len C I ho1 (by decide) dX2_init_118 ?_
    refine lv_icmp_ge (tgt := 137) C.1 C.2.1 dX2_init_119 (by decide) (fun c3 => ?_) (fun c3 => ?_)
    · have h := h.1 c3
      exact r_void C.1 C.2.1 C.2.2.2.2.2.1 C.2.2.2.2.2.2 ⟨rfl, rfl⟩ I dX2_init_137 ⟨rfl, h⟩
    · have h := h.2 c3
      refine l_ald_n C dX2_init_122 hl 0 rfl rfl ?_
      refine g_R C I fl_X2_40_2 (by decide) (by decide) hth dX2_init_123 ?_
      refine l_ild_n C dX2_init_126 hl 1 rfl rfl ?_
      refine lv_sipush (v := 500) C.1 C.2.1 dX2_init_127 (by decide) ?_
      obtain ⟨hi, h⟩ := h
      refine A_iast C I ho1 hi dX2_init_130 (fun H locs G2 eG2 xG2 I => ?_)
      have h := h G2 eG2
      refine l_inc (q := 1) (v := 1) C dX2_init_131 hl rfl (by decide) (by decide) rfl (fun ls hl => ?_)
      have hl : LH ls 2 [(1, .inl ((l1 + 1))), (0, .inr (.inl th))] := hl
      refine lv_goto (tgt := 113) C.1 C.2.1 dX2_init_134 (by decide) ?_
      exact hk113 ((l1 + 1)) G2 _ _ _ _ _ h (hth.ext (by decide) xG2) I (hl.sub [1, 0] rfl)
def w_X2_init_89 (T : Nat → ClassId) (Q : Hp → Prop) (th : Option Nat) : Nat → Int32 → Hp → Prop
  | 0 => fun _ _ => False
  | f89 + 1 => fun l1 G => isO G (gR G (ad th) 6) 50 ∧ ((nI (gN G (ad (gR G (ad th) 6))) ≤ l1) → (∃ n, w_X2_init_113 T Q th n ((0 : Int32)) G)) ∧ ((¬ nI (gN G (ad (gR G (ad th) 6))) ≤ l1) → (vp_in l1 (gN G (ad (gR G (ad th) 6))) ∧ ∀ G2 : Hp, G2 = wI G (ad (gR G (ad th) 6)) l1.toNatClampNeg ((-1 : Int32)) → (w_X2_init_89 T Q th f89) ((l1 + 1)) G2))
set_option maxHeartbeats 4000000 in
theorem b_X2_init_89 {G0 : Hp} {Q : Hp → Prop} {th : Option Nat} (C : Cx p s m meth c D T Z "EndingTown$Village" cX2_init 2 none) (hnm : meth.name = "<init>") : ∀ (n : Nat) (l1 : Int32) (G : Hp) (H : Heap) (locs : List Loc) (cells slots : Nat) (ls : Array Slot), w_X2_init_89 T Q th n l1 G → isO G th 2 → HI (twd D T Z) G0 s (rmX (twd D T Z) 4 80 G0) H locs cells slots G → LH ls 2 [(0, .inr (.inl th)), (1, .inl l1)] → W p l e (rmX (twd D T Z) 4 80 G0) s m args below meth c H locs cells slots (MQX (twd D T Z) G0 (qV Q) (fun _ _ => False) below s) (F0 m 89 ls []) := by
  intro f89
  induction f89 with
  | zero => intro l1 G H locs cells slots ls h; exact (show False from h).elim
  | succ f89 ih =>
    intro l1 G H locs cells slots ls h hth I hl
    have h : isO G (gR G (ad th) 6) 50 ∧ ((nI (gN G (ad (gR G (ad th) 6))) ≤ l1) → (∃ n, w_X2_init_113 T Q th n ((0 : Int32)) G)) ∧ ((¬ nI (gN G (ad (gR G (ad th) 6))) ≤ l1) → (vp_in l1 (gN G (ad (gR G (ad th) 6))) ∧ ∀ G2 : Hp, G2 = wI G (ad (gR G (ad th) 6)) l1.toNatClampNeg ((-1 : Int32)) → (w_X2_init_89 T Q th f89) ((l1 + 1)) G2)) := h
    have hk89 := ih
    refine l_ild_n C dX2_init_89 hl 1 rfl rfl ?_
    refine l_ald_n C dX2_init_90 hl 0 rfl rfl ?_
    refine g_R C I fl_X2_37_2 (by decide) (by decide) hth dX2_init_91 ?_
    obtain ⟨ho1, h⟩ := h
    refine a_len C I ho1 (by decide) dX2_init_94 ?_
    refine lv_icmp_ge (tgt := 111) C.1 C.2.1 dX2_init_95 (by decide) (fun c3 => ?_) (fun c3 => ?_)
    · have h := h.1 c3
      refine lv_iconst (v := 0) C.1 C.2.1 dX2_init_111 (by decide) ?_
      refine l_ist_n C dX2_init_112 rfl hl (by decide) rfl (fun ls hl => ?_)
      have hl : LH ls 2 [(1, .inl ((0 : Int32))), (0, .inr (.inl th))] := hl
      obtain ⟨n, h⟩ := h
      exact b_X2_init_113 C hnm n ((0 : Int32)) G _ _ _ _ _ h hth I (hl.sub [1, 0] rfl)
    · have h := h.2 c3
      refine l_ald_n C dX2_init_98 hl 0 rfl rfl ?_
      refine g_R C I fl_X2_37_2 (by decide) (by decide) hth dX2_init_99 ?_
      refine l_ild_n C dX2_init_102 hl 1 rfl rfl ?_
      refine lv_iconst (v := (-1)) C.1 C.2.1 dX2_init_103 (by decide) ?_
      obtain ⟨hi, h⟩ := h
      refine A_iast C I ho1 hi dX2_init_104 (fun H locs G2 eG2 xG2 I => ?_)
      have h := h G2 eG2
      refine l_inc (q := 1) (v := 1) C dX2_init_105 hl rfl (by decide) (by decide) rfl (fun ls hl => ?_)
      have hl : LH ls 2 [(1, .inl ((l1 + 1))), (0, .inr (.inl th))] := hl
      refine lv_goto (tgt := 89) C.1 C.2.1 dX2_init_108 (by decide) ?_
      exact hk89 ((l1 + 1)) G2 _ _ _ _ _ h (hth.ext (by decide) xG2) I (hl.sub [1, 0] rfl)
def w_X2_init (T : Nat → ClassId) (Q : Hp → Prop) (th : Option Nat) (G : Hp) : Prop := isO G th 2 ∧ (1 ≤ gC G ∧ 3 ≤ gS G ∧ ∀ G1 : Hp, G1 = nw G 16 0 3 → w_J2_init T (fun G2 => Ext G1 G2 → ∀ G4 : Hp, G4 = wR G2 (ad th) 0 ((some (gZ G))) → (¬ (15 : Int32) < 0 ∧ ((15 : Int32)).toNatClampNeg ≤ 100000 ∧ 1 ≤ gC G4 ∧ ((15 : Int32)).toNatClampNeg ≤ gS G4) ∧ ∀ G5 : Hp, G5 = nw G4 55 ((15 : Int32)).toNatClampNeg ((15 : Int32)).toNatClampNeg → ∀ G6 : Hp, G6 = wR G5 (ad th) 1 ((some (gZ G4))) → 1 ≤ gC G6 ∧ 3 ≤ gS G6 ∧ ∀ G7 : Hp, G7 = nw G6 16 0 3 → w_J2_init T (fun G8 => Ext G7 G8 → ∀ G10 : Hp, G10 = wR G8 (ad th) 2 ((some (gZ G6))) → 1 ≤ gC G10 ∧ 3 ≤ gS G10 ∧ ∀ G11 : Hp, G11 = nw G10 16 0 3 → w_J2_init T (fun G12 => Ext G11 G12 → ∀ G14 : Hp, G14 = wR G12 (ad th) 3 ((some (gZ G10))) → 1 ≤ gC G14 ∧ 3 ≤ gS G14 ∧ ∀ G15 : Hp, G15 = nw G14 16 0 3 → w_J2_init T (fun G16 => Ext G15 G16 → ∀ G18 : Hp, G18 = wR G16 (ad th) 4 ((some (gZ G14))) → (¬ (6 : Int32) < 0 ∧ ((6 : Int32)).toNatClampNeg ≤ 100000 ∧ 1 ≤ gC G18 ∧ ((6 : Int32)).toNatClampNeg ≤ gS G18) ∧ ∀ G19 : Hp, G19 = nw G18 50 ((6 : Int32)).toNatClampNeg ((6 : Int32)).toNatClampNeg → ∀ G20 : Hp, G20 = wR G19 (ad th) 5 ((some (gZ G18))) → (¬ (144 : Int32) < 0 ∧ ((144 : Int32)).toNatClampNeg ≤ 100000 ∧ 1 ≤ gC G20 ∧ ((144 : Int32)).toNatClampNeg ≤ gS G20) ∧ ∀ G21 : Hp, G21 = nw G20 50 ((144 : Int32)).toNatClampNeg ((144 : Int32)).toNatClampNeg → ∀ G22 : Hp, G22 = wR G21 (ad th) 6 ((some (gZ G20))) → (¬ (10 : Int32) < 0 ∧ ((10 : Int32)).toNatClampNeg ≤ 100000 ∧ 1 ≤ gC G22 ∧ ((10 : Int32)).toNatClampNeg ≤ gS G22) ∧ ∀ G23 : Hp, G23 = nw G22 50 ((10 : Int32)).toNatClampNeg ((10 : Int32)).toNatClampNeg → ∀ G24 : Hp, G24 = wR G23 (ad th) 7 ((some (gZ G22))) → ∀ G25 : Hp, G25 = wI G24 (ad th) 9 ((1 : Int32)) → ∃ n, w_X2_init_89 T Q th n ((0 : Int32)) G25) ((some (gZ G14))) G15) ((some (gZ G10))) G11) ((some (gZ G6))) G7) ((some (gZ G))) G1)
theorem pd_X2_init : (parseMethodDescriptor yX2_init.desc).map (fun d => d.parameters.length) = some 0 := by decide +kernel
set_option maxHeartbeats 4000000 in
theorem ct_X2_init {l : Launch} {D : va_G} {T : Nat → ClassId} {Z : Heap} {G0 : Hp} {Q : Hp → Prop} {th : Option Nat} (hw : w_X2_init T Q th G0) : CT (twd D T Z) (Evd D T Z) l yX2_init (Cond.code yX2_init cX2_init 2 none) 4 80 [va_rf th] G0 (qV Q) (fun _ _ => False) := by
  refine CT.ofW (cc := cX2_init) (nL := 2) (ret := none) Ext.rf (by decide) (Or.inl rfl) ?_
  intro p e s m below meth c hx hb hml hown hr hlk hnm hcb hm hc hn hE I
  have C : Cx p s m meth c D T Z "EndingTown$Village" cX2_init 2 none := ⟨hx, hb, hml, hown, hE, hr, hlk⟩
  refine w_entry [.inr (.inl th)] (Nat.le_of_ble_eq_true rfl) (fun ls hl => ?_)
  have hl : LH ls 2 [(0, .inr (.inl th))] := hl
  obtain ⟨hth, h⟩ := hw
  refine l_ald_n C dX2_init_0 hl 0 rfl rfl ?_
  refine k_objInit C hth.ad.1 q149 q142 q143 hl.1 dX2_init_1 (Nat.le_of_ble_eq_true rfl) ⟨Nat.le_of_ble_eq_true rfl, Nat.le_of_ble_eq_true rfl⟩ ?_
  refine l_ald_n C dX2_init_4 hl 0 rfl rfl ?_
  obtain ⟨hb1, hb2, h⟩ := h
  refine N_obj (kd := 16) C I (by decide) q150 ⟨hb1, hb2⟩ dX2_init_5 (fun H cells slots G1 eG1 xG1 I => ?_)
  have h := h G1 eG1
  have hnG1 : isO G1 (some (gZ G0)) 16 := ⟨_, rfl, by rw [eG1]; exact gK_nw⟩
  refine lv_dup C.1 C.2.1 dX2_init_8 (cat_rf _) ?_
  refine k_call Ext.tr C I (k_I (r := (some (gZ G0))) (As := []) (rest := [va_rf ((some (gZ G0))), va_rf th]) (y := yJ2_init) C hnG1.ad.1 rfl q152 q153 q154 (by decide) rfl pd_J2_init rfl dX2_init_9) (ct_J2_init h) hl.1 dX2_init_9 [.inr (.inl ((some (gZ G0)))), .inr (.inl th)] rfl (Nat.le_of_ble_eq_true rfl) (Or.inl rfl) q154 q104 ⟨Nat.le_of_ble_eq_true rfl, Nat.le_of_ble_eq_true rfl⟩ (fun v G2 H locs cells slots xG2 hq I => ?_) (fun a G9 H locs cells slots ex hq I => hq.elim)
  obtain ⟨rfl, h⟩ := hq
  have h := h xG2
  refine P_R C I fp_X2_12_2 (fun _ => hnm) (by decide) (by decide) (hth.ext (by decide) (Ext.tr _ _ _ xG1 xG2)) dX2_init_12 (fun x => fit_o x) (fun H locs G4 eG4 xG4 I => ?_)
  have h := h G4 eG4
  refine l_ald_n C dX2_init_15 hl 0 rfl rfl ?_
  refine lv_bipush (v := 15) C.1 C.2.1 dX2_init_16 (by decide) ?_
  obtain ⟨hb, h⟩ := h
  refine N_aarr (kd := 55) C I (by decide) rfl q176 q177 hb dX2_init_18 (fun H cells slots G5 eG5 xG5 I => ?_)
  have h := h G5 eG5
  have hnG5 : isO G5 (some (gZ G4)) 55 := ⟨_, rfl, by rw [eG5]; exact gK_nw⟩
  refine P_R C I fp_X2_20_2 (fun _ => hnm) (by decide) (by decide) (hth.ext (by decide) (Ext.tr _ _ _ xG1 (Ext.tr _ _ _ xG2 (Ext.tr _ _ _ xG4 xG5)))) dX2_init_21 (fun x => fit_a x) (fun H locs G6 eG6 xG6 I => ?_)
  have h := h G6 eG6
  refine l_ald_n C dX2_init_24 hl 0 rfl rfl ?_
  obtain ⟨hb1, hb2, h⟩ := h
  refine N_obj (kd := 16) C I (by decide) q150 ⟨hb1, hb2⟩ dX2_init_25 (fun H cells slots G7 eG7 xG7 I => ?_)
  have h := h G7 eG7
  have hnG7 : isO G7 (some (gZ G6)) 16 := ⟨_, rfl, by rw [eG7]; exact gK_nw⟩
  refine lv_dup C.1 C.2.1 dX2_init_28 (cat_rf _) ?_
  refine k_call Ext.tr C I (k_I (r := (some (gZ G6))) (As := []) (rest := [va_rf ((some (gZ G6))), va_rf th]) (y := yJ2_init) C hnG7.ad.1 rfl q152 q153 q154 (by decide) rfl pd_J2_init rfl dX2_init_29) (ct_J2_init h) hl.1 dX2_init_29 [.inr (.inl ((some (gZ G6)))), .inr (.inl th)] rfl (Nat.le_of_ble_eq_true rfl) (Or.inl rfl) q154 q104 ⟨Nat.le_of_ble_eq_true rfl, Nat.le_of_ble_eq_true rfl⟩ (fun v G8 H locs cells slots xG8 hq I => ?_) (fun a G9 H locs cells slots ex hq I => hq.elim)
  obtain ⟨rfl, h⟩ := hq
  have h := h xG8
  refine P_R C I fp_X2_24_2 (fun _ => hnm) (by decide) (by decide) (hth.ext (by decide) (Ext.tr _ _ _ xG1 (Ext.tr _ _ _ xG2 (Ext.tr _ _ _ xG4 (Ext.tr _ _ _ xG5 (Ext.tr _ _ _ xG6 (Ext.tr _ _ _ xG7 xG8))))))) dX2_init_32 (fun x => fit_o x) (fun H locs G10 eG10 xG10 I => ?_)
  have h := h G10 eG10
  refine l_ald_n C dX2_init_35 hl 0 rfl rfl ?_
  obtain ⟨hb1, hb2, h⟩ := h
  refine N_obj (kd := 16) C I (by decide) q150 ⟨hb1, hb2⟩ dX2_init_36 (fun H cells slots G11 eG11 xG11 I => ?_)
  have h := h G11 eG11
  have hnG11 : isO G11 (some (gZ G10)) 16 := ⟨_, rfl, by rw [eG11]; exact gK_nw⟩
  refine lv_dup C.1 C.2.1 dX2_init_39 (cat_rf _) ?_
  refine k_call Ext.tr C I (k_I (r := (some (gZ G10))) (As := []) (rest := [va_rf ((some (gZ G10))), va_rf th]) (y := yJ2_init) C hnG11.ad.1 rfl q152 q153 q154 (by decide) rfl pd_J2_init rfl dX2_init_40) (ct_J2_init h) hl.1 dX2_init_40 [.inr (.inl ((some (gZ G10)))), .inr (.inl th)] rfl (Nat.le_of_ble_eq_true rfl) (Or.inl rfl) q154 q104 ⟨Nat.le_of_ble_eq_true rfl, Nat.le_of_ble_eq_true rfl⟩ (fun v G12 H locs cells slots xG12 hq I => ?_) (fun a G9 H locs cells slots ex hq I => hq.elim)
  obtain ⟨rfl, h⟩ := hq
  have h := h xG12
  refine P_R C I fp_X2_27_2 (fun _ => hnm) (by decide) (by decide) (hth.ext (by decide) (Ext.tr _ _ _ xG1 (Ext.tr _ _ _ xG2 (Ext.tr _ _ _ xG4 (Ext.tr _ _ _ xG5 (Ext.tr _ _ _ xG6 (Ext.tr _ _ _ xG7 (Ext.tr _ _ _ xG8 (Ext.tr _ _ _ xG10 (Ext.tr _ _ _ xG11 xG12)))))))))) dX2_init_43 (fun x => fit_o x) (fun H locs G14 eG14 xG14 I => ?_)
  have h := h G14 eG14
  refine l_ald_n C dX2_init_46 hl 0 rfl rfl ?_
  obtain ⟨hb1, hb2, h⟩ := h
  refine N_obj (kd := 16) C I (by decide) q150 ⟨hb1, hb2⟩ dX2_init_47 (fun H cells slots G15 eG15 xG15 I => ?_)
  have h := h G15 eG15
  have hnG15 : isO G15 (some (gZ G14)) 16 := ⟨_, rfl, by rw [eG15]; exact gK_nw⟩
  refine lv_dup C.1 C.2.1 dX2_init_50 (cat_rf _) ?_
  refine k_call Ext.tr C I (k_I (r := (some (gZ G14))) (As := []) (rest := [va_rf ((some (gZ G14))), va_rf th]) (y := yJ2_init) C hnG15.ad.1 rfl q152 q153 q154 (by decide) rfl pd_J2_init rfl dX2_init_51) (ct_J2_init h) hl.1 dX2_init_51 [.inr (.inl ((some (gZ G14)))), .inr (.inl th)] rfl (Nat.le_of_ble_eq_true rfl) (Or.inl rfl) q154 q104 ⟨Nat.le_of_ble_eq_true rfl, Nat.le_of_ble_eq_true rfl⟩ (fun v G16 H locs cells slots xG16 hq I => ?_) (fun a G9 H locs cells slots ex hq I => hq.elim)
  obtain ⟨rfl, h⟩ := hq
  have h := h xG16
  refine P_R C I fp_X2_30_2 (fun _ => hnm) (by decide) (by decide) (hth.ext (by decide) (Ext.tr _ _ _ xG1 (Ext.tr _ _ _ xG2 (Ext.tr _ _ _ xG4 (Ext.tr _ _ _ xG5 (Ext.tr _ _ _ xG6 (Ext.tr _ _ _ xG7 (Ext.tr _ _ _ xG8 (Ext.tr _ _ _ xG10 (Ext.tr _ _ _ xG11 (Ext.tr _ _ _ xG12 (Ext.tr _ _ _ xG14 (Ext.tr _ _ _ xG15 xG16))))))))))))) dX2_init_54 (fun x => fit_o x) (fun H locs G18 eG18 xG18 I => ?_)
  have h := h G18 eG18
  refine l_ald_n C dX2_init_57 hl 0 rfl rfl ?_
  refine lv_bipush (v := 6) C.1 C.2.1 dX2_init_58 (by decide) ?_
  obtain ⟨hb, h⟩ := h
  refine N_arr (kd := 50) C I (by decide) rfl q234 hb dX2_init_60 (fun H cells slots G19 eG19 xG19 I => ?_)
  have h := h G19 eG19
  have hnG19 : isO G19 (some (gZ G18)) 50 := ⟨_, rfl, by rw [eG19]; exact gK_nw⟩
  refine P_R C I fp_X2_33_2 (fun _ => hnm) (by decide) (by decide) (hth.ext (by decide) (Ext.tr _ _ _ xG1 (Ext.tr _ _ _ xG2 (Ext.tr _ _ _ xG4 (Ext.tr _ _ _ xG5 (Ext.tr _ _ _ xG6 (Ext.tr _ _ _ xG7 (Ext.tr _ _ _ xG8 (Ext.tr _ _ _ xG10 (Ext.tr _ _ _ xG11 (Ext.tr _ _ _ xG12 (Ext.tr _ _ _ xG14 (Ext.tr _ _ _ xG15 (Ext.tr _ _ _ xG16 (Ext.tr _ _ _ xG18 xG19))))))))))))))) dX2_init_62 (fun x => fit_a x) (fun H locs G20 eG20 xG20 I => ?_)
  have h := h G20 eG20
  refine l_ald_n C dX2_init_65 hl 0 rfl rfl ?_
  refine lv_sipush (v := 144) C.1 C.2.1 dX2_init_66 (by decide) ?_
  obtain ⟨hb, h⟩ := h
  refine N_arr (kd := 50) C I (by decide) rfl q234 hb dX2_init_69 (fun H cells slots G21 eG21 xG21 I => ?_)
  have h := h G21 eG21
  have hnG21 : isO G21 (some (gZ G20)) 50 := ⟨_, rfl, by rw [eG21]; exact gK_nw⟩
  refine P_R C I fp_X2_37_2 (fun _ => hnm) (by decide) (by decide) (hth.ext (by decide) (Ext.tr _ _ _ xG1 (Ext.tr _ _ _ xG2 (Ext.tr _ _ _ xG4 (Ext.tr _ _ _ xG5 (Ext.tr _ _ _ xG6 (Ext.tr _ _ _ xG7 (Ext.tr _ _ _ xG8 (Ext.tr _ _ _ xG10 (Ext.tr _ _ _ xG11 (Ext.tr _ _ _ xG12 (Ext.tr _ _ _ xG14 (Ext.tr _ _ _ xG15 (Ext.tr _ _ _ xG16 (Ext.tr _ _ _ xG18 (Ext.tr _ _ _ xG19 (Ext.tr _ _ _ xG20 xG21))))))))))))))))) dX2_init_71 (fun x => fit_a x) (fun H locs G22 eG22 xG22 I => ?_)
  have h := h G22 eG22
  refine l_ald_n C dX2_init_74 hl 0 rfl rfl ?_
  refine lv_bipush (v := 10) C.1 C.2.1 dX2_init_75 (by decide) ?_
  obtain ⟨hb, h⟩ := h
  refine N_arr (kd := 50) C I (by decide) rfl q234 hb dX2_init_77 (fun H cells slots G23 eG23 xG23 I => ?_)
  have h := h G23 eG23
  have hnG23 : isO G23 (some (gZ G22)) 50 := ⟨_, rfl, by rw [eG23]; exact gK_nw⟩
  refine P_R C I fp_X2_40_2 (fun _ => hnm) (by decide) (by decide) (hth.ext (by decide) (Ext.tr _ _ _ xG1 (Ext.tr _ _ _ xG2 (Ext.tr _ _ _ xG4 (Ext.tr _ _ _ xG5 (Ext.tr _ _ _ xG6 (Ext.tr _ _ _ xG7 (Ext.tr _ _ _ xG8 (Ext.tr _ _ _ xG10 (Ext.tr _ _ _ xG11 (Ext.tr _ _ _ xG12 (Ext.tr _ _ _ xG14 (Ext.tr _ _ _ xG15 (Ext.tr _ _ _ xG16 (Ext.tr _ _ _ xG18 (Ext.tr _ _ _ xG19 (Ext.tr _ _ _ xG20 (Ext.tr _ _ _ xG21 (Ext.tr _ _ _ xG22 xG23))))))))))))))))))) dX2_init_79 (fun x => fit_a x) (fun H locs G24 eG24 xG24 I => ?_)
  have h := h G24 eG24
  refine l_ald_n C dX2_init_82 hl 0 rfl rfl ?_
  refine lv_iconst (v := 1) C.1 C.2.1 dX2_init_83 (by decide) ?_
  refine P_I C I fp_X2_43_2 (fun z => by cases z) (by decide) (by decide) (hth.ext (by decide) (Ext.tr _ _ _ xG1 (Ext.tr _ _ _ xG2 (Ext.tr _ _ _ xG4 (Ext.tr _ _ _ xG5 (Ext.tr _ _ _ xG6 (Ext.tr _ _ _ xG7 (Ext.tr _ _ _ xG8 (Ext.tr _ _ _ xG10 (Ext.tr _ _ _ xG11 (Ext.tr _ _ _ xG12 (Ext.tr _ _ _ xG14 (Ext.tr _ _ _ xG15 (Ext.tr _ _ _ xG16 (Ext.tr _ _ _ xG18 (Ext.tr _ _ _ xG19 (Ext.tr _ _ _ xG20 (Ext.tr _ _ _ xG21 (Ext.tr _ _ _ xG22 (Ext.tr _ _ _ xG23 xG24)))))))))))))))))))) dX2_init_84 (fit_i _) (fun H locs G25 eG25 xG25 I => ?_)
  have h := h G25 eG25
  refine lv_iconst (v := 0) C.1 C.2.1 dX2_init_87 (by decide) ?_
  refine l_ist_n C dX2_init_88 rfl hl (by decide) rfl (fun ls hl => ?_)
  have hl : LH ls 2 [(1, .inl ((0 : Int32))), (0, .inr (.inl th))] := hl
  obtain ⟨n, h⟩ := h
  exact b_X2_init_89 C hnm n ((0 : Int32)) G25 _ _ _ _ _ h (hth.ext (by decide) (Ext.tr _ _ _ xG1 (Ext.tr _ _ _ xG2 (Ext.tr _ _ _ xG4 (Ext.tr _ _ _ xG5 (Ext.tr _ _ _ xG6 (Ext.tr _ _ _ xG7 (Ext.tr _ _ _ xG8 (Ext.tr _ _ _ xG10 (Ext.tr _ _ _ xG11 (Ext.tr _ _ _ xG12 (Ext.tr _ _ _ xG14 (Ext.tr _ _ _ xG15 (Ext.tr _ _ _ xG16 (Ext.tr _ _ _ xG18 (Ext.tr _ _ _ xG19 (Ext.tr _ _ _ xG20 (Ext.tr _ _ _ xG21 (Ext.tr _ _ _ xG22 (Ext.tr _ _ _ xG23 (Ext.tr _ _ _ xG24 xG25))))))))))))))))))))) I (hl.sub [1, 0] rfl)
def w_X3_init_k3 (T : Nat → ClassId) (Q : Hp → Prop) (th : Option Nat) (p0 : Option Nat) (G : Hp) : Prop := isO G th 3 ∧ (∀ G1 : Hp, G1 = wR G (ad th) 1 p0 → Q G1)
theorem pd_X3_init : (parseMethodDescriptor yX3_init.desc).map (fun d => d.parameters.length) = some 1 := by decide +kernel
set_option maxHeartbeats 4000000 in
theorem ct_X3_init_k3 {l : Launch} {D : va_G} {T : Nat → ClassId} {Z : Heap} {G0 : Hp} {Q : Hp → Prop} {th : Option Nat} {p0 : Option Nat} (hw : w_X3_init_k3 T Q th p0 G0) : CT (twd D T Z) (Evd D T Z) l yX3_init (Cond.code yX3_init cX3_init 2 none) 1 20 [va_rf th, va_rf p0] G0 (qV Q) (fun _ _ => False) := by
  refine CT.ofW (cc := cX3_init) (nL := 2) (ret := none) Ext.rf (by decide) (Or.inl rfl) ?_
  intro p e s m below meth c hx hb hml hown hr hlk hnm hcb hm hc hn hE I
  have C : Cx p s m meth c D T Z "EndingTown$How" cX3_init 2 none := ⟨hx, hb, hml, hown, hE, hr, hlk⟩
  refine w_entry [.inr (.inl th), .inr (.inl p0)] (Nat.le_of_ble_eq_true rfl) (fun ls hl => ?_)
  have hl : LH ls 2 [(0, .inr (.inl th)), (1, .inr (.inl p0))] := hl
  obtain ⟨hth, h⟩ := hw
  refine l_ald_n C dX3_init_0 hl 0 rfl rfl ?_
  refine l_ald_n C dX3_init_1 hl 1 rfl rfl ?_
  refine P_R C I fp_X3_1_3 (fun _ => hnm) (by decide) (by decide) hth dX3_init_2 (fun x => fit_o x) (fun H locs G1 eG1 xG1 I => ?_)
  have h := h G1 eG1
  refine l_ald_n C dX3_init_5 hl 0 rfl rfl ?_
  refine k_objInit C (hth.ext (by decide) xG1).ad.1 q250 q142 q143 hl.1 dX3_init_6 (Nat.le_of_ble_eq_true rfl) ⟨Nat.le_of_ble_eq_true rfl, Nat.le_of_ble_eq_true rfl⟩ ?_
  exact r_void C.1 C.2.1 C.2.2.2.2.2.1 C.2.2.2.2.2.2 ⟨rfl, rfl⟩ I dX3_init_9 ⟨rfl, h⟩
def w_X4_init_k3 (T : Nat → ClassId) (Q : Hp → Prop) (th : Option Nat) (p0 : Option Nat) (G : Hp) : Prop := isO G th 3 ∧ (∀ G1 : Hp, G1 = wR G (ad th) 0 p0 → w_X3_init_k3 T (fun G2 => Ext G1 G2 → Q G2) th p0 G1)
theorem pd_X4_init : (parseMethodDescriptor yX4_init.desc).map (fun d => d.parameters.length) = some 1 := by decide +kernel
set_option maxHeartbeats 4000000 in
theorem ct_X4_init_k3 {l : Launch} {D : va_G} {T : Nat → ClassId} {Z : Heap} {G0 : Hp} {Q : Hp → Prop} {th : Option Nat} {p0 : Option Nat} (hw : w_X4_init_k3 T Q th p0 G0) : CT (twd D T Z) (Evd D T Z) l yX4_init (Cond.code yX4_init cX4_init 2 none) 2 41 [va_rf th, va_rf p0] G0 (qV Q) (fun _ _ => False) := by
  refine CT.ofW (cc := cX4_init) (nL := 2) (ret := none) Ext.rf (by decide) (Or.inl rfl) ?_
  intro p e s m below meth c hx hb hml hown hr hlk hnm hcb hm hc hn hE I
  have C : Cx p s m meth c D T Z "EndingTown$Own" cX4_init 2 none := ⟨hx, hb, hml, hown, hE, hr, hlk⟩
  refine w_entry [.inr (.inl th), .inr (.inl p0)] (Nat.le_of_ble_eq_true rfl) (fun ls hl => ?_)
  have hl : LH ls 2 [(0, .inr (.inl th)), (1, .inr (.inl p0))] := hl
  obtain ⟨hth, h⟩ := hw
  refine l_ald_n C dX4_init_0 hl 0 rfl rfl ?_
  refine l_ald_n C dX4_init_1 hl 1 rfl rfl ?_
  refine P_R C I fp_X4_1_3 (fun _ => hnm) (by decide) (by decide) hth dX4_init_2 (fun x => fit_o x) (fun H locs G1 eG1 xG1 I => ?_)
  have h := h G1 eG1
  refine l_ald_n C dX4_init_5 hl 0 rfl rfl ?_
  refine l_ald_n C dX4_init_6 hl 1 rfl rfl ?_
  refine k_call Ext.tr C I (k_IN (r := th) (As := [va_rf p0]) (rest := []) (y := yX3_init) C (hth.ext (by decide) xG1).ad.1 rfl q247 q248 q249 (by decide) rfl pd_X3_init rfl dX4_init_7) (ct_X3_init_k3 h) hl.1 dX4_init_7 [] rfl (Nat.le_of_ble_eq_true rfl) (Or.inl rfl) q249 q105 ⟨Nat.le_of_ble_eq_true rfl, Nat.le_of_ble_eq_true rfl⟩ (fun v G2 H locs cells slots xG2 hq I => ?_) (fun a G9 H locs cells slots ex hq I => hq.elim)
  obtain ⟨rfl, h⟩ := hq
  have h := h xG2
  exact r_void C.1 C.2.1 C.2.2.2.2.2.1 C.2.2.2.2.2.2 ⟨rfl, rfl⟩ I dX4_init_10 ⟨rfl, h⟩
def w_X5_init (T : Nat → ClassId) (Q : Hp → Prop) (th : Option Nat) (p0 : Option Nat) (G : Hp) : Prop := isO G th 3 ∧ (∀ G1 : Hp, G1 = wR G (ad th) 2 p0 → w_X4_init_k3 T (fun G2 => Ext G1 G2 → Q G2) th p0 G1)
theorem pd_X5_init : (parseMethodDescriptor yX5_init.desc).map (fun d => d.parameters.length) = some 1 := by decide +kernel
set_option maxHeartbeats 4000000 in
theorem ct_X5_init {l : Launch} {D : va_G} {T : Nat → ClassId} {Z : Heap} {G0 : Hp} {Q : Hp → Prop} {th : Option Nat} {p0 : Option Nat} (hw : w_X5_init T Q th p0 G0) : CT (twd D T Z) (Evd D T Z) l yX5_init (Cond.code yX5_init cX5_init 2 none) 3 62 [va_rf th, va_rf p0] G0 (qV Q) (fun _ _ => False) := by
  refine CT.ofW (cc := cX5_init) (nL := 2) (ret := none) Ext.rf (by decide) (Or.inl rfl) ?_
  intro p e s m below meth c hx hb hml hown hr hlk hnm hcb hm hc hn hE I
  have C : Cx p s m meth c D T Z "EndingTown$Seen" cX5_init 2 none := ⟨hx, hb, hml, hown, hE, hr, hlk⟩
  refine w_entry [.inr (.inl th), .inr (.inl p0)] (Nat.le_of_ble_eq_true rfl) (fun ls hl => ?_)
  have hl : LH ls 2 [(0, .inr (.inl th)), (1, .inr (.inl p0))] := hl
  obtain ⟨hth, h⟩ := hw
  refine l_ald_n C dX5_init_0 hl 0 rfl rfl ?_
  refine l_ald_n C dX5_init_1 hl 1 rfl rfl ?_
  refine P_R C I fp_X5_1_3 (fun _ => hnm) (by decide) (by decide) hth dX5_init_2 (fun x => fit_o x) (fun H locs G1 eG1 xG1 I => ?_)
  have h := h G1 eG1
  refine l_ald_n C dX5_init_5 hl 0 rfl rfl ?_
  refine l_ald_n C dX5_init_6 hl 1 rfl rfl ?_
  refine k_call Ext.tr C I (k_IN (r := th) (As := [va_rf p0]) (rest := []) (y := yX4_init) C (hth.ext (by decide) xG1).ad.1 rfl q244 q245 q246 (by decide) rfl pd_X4_init rfl dX5_init_7) (ct_X4_init_k3 h) hl.1 dX5_init_7 [] rfl (Nat.le_of_ble_eq_true rfl) (Or.inl rfl) q246 q106 ⟨Nat.le_of_ble_eq_true rfl, Nat.le_of_ble_eq_true rfl⟩ (fun v G2 H locs cells slots xG2 hq I => ?_) (fun a G9 H locs cells slots ex hq I => hq.elim)
  obtain ⟨rfl, h⟩ := hq
  have h := h xG2
  exact r_void C.1 C.2.1 C.2.2.2.2.2.1 C.2.2.2.2.2.2 ⟨rfl, rfl⟩ I dX5_init_10 ⟨rfl, h⟩
def w_X3_init_k4 (T : Nat → ClassId) (Q : Hp → Prop) (th : Option Nat) (p0 : Option Nat) (G : Hp) : Prop := isO G th 4 ∧ (∀ G1 : Hp, G1 = wR G (ad th) 1 p0 → Q G1)
set_option maxHeartbeats 4000000 in
theorem ct_X3_init_k4 {l : Launch} {D : va_G} {T : Nat → ClassId} {Z : Heap} {G0 : Hp} {Q : Hp → Prop} {th : Option Nat} {p0 : Option Nat} (hw : w_X3_init_k4 T Q th p0 G0) : CT (twd D T Z) (Evd D T Z) l yX3_init (Cond.code yX3_init cX3_init 2 none) 1 20 [va_rf th, va_rf p0] G0 (qV Q) (fun _ _ => False) := by
  refine CT.ofW (cc := cX3_init) (nL := 2) (ret := none) Ext.rf (by decide) (Or.inl rfl) ?_
  intro p e s m below meth c hx hb hml hown hr hlk hnm hcb hm hc hn hE I
  have C : Cx p s m meth c D T Z "EndingTown$How" cX3_init 2 none := ⟨hx, hb, hml, hown, hE, hr, hlk⟩
  refine w_entry [.inr (.inl th), .inr (.inl p0)] (Nat.le_of_ble_eq_true rfl) (fun ls hl => ?_)
  have hl : LH ls 2 [(0, .inr (.inl th)), (1, .inr (.inl p0))] := hl
  obtain ⟨hth, h⟩ := hw
  refine l_ald_n C dX3_init_0 hl 0 rfl rfl ?_
  refine l_ald_n C dX3_init_1 hl 1 rfl rfl ?_
  refine P_R C I fp_X3_1_4 (fun _ => hnm) (by decide) (by decide) hth dX3_init_2 (fun x => fit_o x) (fun H locs G1 eG1 xG1 I => ?_)
  have h := h G1 eG1
  refine l_ald_n C dX3_init_5 hl 0 rfl rfl ?_
  refine k_objInit C (hth.ext (by decide) xG1).ad.1 q250 q142 q143 hl.1 dX3_init_6 (Nat.le_of_ble_eq_true rfl) ⟨Nat.le_of_ble_eq_true rfl, Nat.le_of_ble_eq_true rfl⟩ ?_
  exact r_void C.1 C.2.1 C.2.2.2.2.2.1 C.2.2.2.2.2.2 ⟨rfl, rfl⟩ I dX3_init_9 ⟨rfl, h⟩
def w_X4_init_k4 (T : Nat → ClassId) (Q : Hp → Prop) (th : Option Nat) (p0 : Option Nat) (G : Hp) : Prop := isO G th 4 ∧ (∀ G1 : Hp, G1 = wR G (ad th) 0 p0 → w_X3_init_k4 T (fun G2 => Ext G1 G2 → Q G2) th p0 G1)
set_option maxHeartbeats 4000000 in
theorem ct_X4_init_k4 {l : Launch} {D : va_G} {T : Nat → ClassId} {Z : Heap} {G0 : Hp} {Q : Hp → Prop} {th : Option Nat} {p0 : Option Nat} (hw : w_X4_init_k4 T Q th p0 G0) : CT (twd D T Z) (Evd D T Z) l yX4_init (Cond.code yX4_init cX4_init 2 none) 2 41 [va_rf th, va_rf p0] G0 (qV Q) (fun _ _ => False) := by
  refine CT.ofW (cc := cX4_init) (nL := 2) (ret := none) Ext.rf (by decide) (Or.inl rfl) ?_
  intro p e s m below meth c hx hb hml hown hr hlk hnm hcb hm hc hn hE I
  have C : Cx p s m meth c D T Z "EndingTown$Own" cX4_init 2 none := ⟨hx, hb, hml, hown, hE, hr, hlk⟩
  refine w_entry [.inr (.inl th), .inr (.inl p0)] (Nat.le_of_ble_eq_true rfl) (fun ls hl => ?_)
  have hl : LH ls 2 [(0, .inr (.inl th)), (1, .inr (.inl p0))] := hl
  obtain ⟨hth, h⟩ := hw
  refine l_ald_n C dX4_init_0 hl 0 rfl rfl ?_
  refine l_ald_n C dX4_init_1 hl 1 rfl rfl ?_
  refine P_R C I fp_X4_1_4 (fun _ => hnm) (by decide) (by decide) hth dX4_init_2 (fun x => fit_o x) (fun H locs G1 eG1 xG1 I => ?_)
  have h := h G1 eG1
  refine l_ald_n C dX4_init_5 hl 0 rfl rfl ?_
  refine l_ald_n C dX4_init_6 hl 1 rfl rfl ?_
  refine k_call Ext.tr C I (k_IN (r := th) (As := [va_rf p0]) (rest := []) (y := yX3_init) C (hth.ext (by decide) xG1).ad.1 rfl q247 q248 q249 (by decide) rfl pd_X3_init rfl dX4_init_7) (ct_X3_init_k4 h) hl.1 dX4_init_7 [] rfl (Nat.le_of_ble_eq_true rfl) (Or.inl rfl) q249 q105 ⟨Nat.le_of_ble_eq_true rfl, Nat.le_of_ble_eq_true rfl⟩ (fun v G2 H locs cells slots xG2 hq I => ?_) (fun a G9 H locs cells slots ex hq I => hq.elim)
  obtain ⟨rfl, h⟩ := hq
  have h := h xG2
  exact r_void C.1 C.2.1 C.2.2.2.2.2.1 C.2.2.2.2.2.2 ⟨rfl, rfl⟩ I dX4_init_10 ⟨rfl, h⟩
def w_X6_init (T : Nat → ClassId) (Q : Hp → Prop) (th : Option Nat) (p0 : Option Nat) (G : Hp) : Prop := isO G th 4 ∧ (∀ G1 : Hp, G1 = wR G (ad th) 2 p0 → w_X4_init_k4 T (fun G2 => Ext G1 G2 → Q G2) th p0 G1)
theorem pd_X6_init : (parseMethodDescriptor yX6_init.desc).map (fun d => d.parameters.length) = some 1 := by decide +kernel
set_option maxHeartbeats 4000000 in
theorem ct_X6_init {l : Launch} {D : va_G} {T : Nat → ClassId} {Z : Heap} {G0 : Hp} {Q : Hp → Prop} {th : Option Nat} {p0 : Option Nat} (hw : w_X6_init T Q th p0 G0) : CT (twd D T Z) (Evd D T Z) l yX6_init (Cond.code yX6_init cX6_init 2 none) 3 62 [va_rf th, va_rf p0] G0 (qV Q) (fun _ _ => False) := by
  refine CT.ofW (cc := cX6_init) (nL := 2) (ret := none) Ext.rf (by decide) (Or.inl rfl) ?_
  intro p e s m below meth c hx hb hml hown hr hlk hnm hcb hm hc hn hE I
  have C : Cx p s m meth c D T Z "EndingTown$Heard" cX6_init 2 none := ⟨hx, hb, hml, hown, hE, hr, hlk⟩
  refine w_entry [.inr (.inl th), .inr (.inl p0)] (Nat.le_of_ble_eq_true rfl) (fun ls hl => ?_)
  have hl : LH ls 2 [(0, .inr (.inl th)), (1, .inr (.inl p0))] := hl
  obtain ⟨hth, h⟩ := hw
  refine l_ald_n C dX6_init_0 hl 0 rfl rfl ?_
  refine l_ald_n C dX6_init_1 hl 1 rfl rfl ?_
  refine P_R C I fp_X6_1_4 (fun _ => hnm) (by decide) (by decide) hth dX6_init_2 (fun x => fit_o x) (fun H locs G1 eG1 xG1 I => ?_)
  have h := h G1 eG1
  refine l_ald_n C dX6_init_5 hl 0 rfl rfl ?_
  refine l_ald_n C dX6_init_6 hl 1 rfl rfl ?_
  refine k_call Ext.tr C I (k_IN (r := th) (As := [va_rf p0]) (rest := []) (y := yX4_init) C (hth.ext (by decide) xG1).ad.1 rfl q266 q245 q246 (by decide) rfl pd_X4_init rfl dX6_init_7) (ct_X4_init_k4 h) hl.1 dX6_init_7 [] rfl (Nat.le_of_ble_eq_true rfl) (Or.inl rfl) q246 q106 ⟨Nat.le_of_ble_eq_true rfl, Nat.le_of_ble_eq_true rfl⟩ (fun v G2 H locs cells slots xG2 hq I => ?_) (fun a G9 H locs cells slots ex hq I => hq.elim)
  obtain ⟨rfl, h⟩ := hq
  have h := h xG2
  exact r_void C.1 C.2.1 C.2.2.2.2.2.1 C.2.2.2.2.2.2 ⟨rfl, rfl⟩ I dX6_init_10 ⟨rfl, h⟩
def w_X3_init_k5 (T : Nat → ClassId) (Q : Hp → Prop) (th : Option Nat) (p0 : Option Nat) (G : Hp) : Prop := isO G th 5 ∧ (∀ G1 : Hp, G1 = wR G (ad th) 0 p0 → Q G1)
set_option maxHeartbeats 4000000 in
theorem ct_X3_init_k5 {l : Launch} {D : va_G} {T : Nat → ClassId} {Z : Heap} {G0 : Hp} {Q : Hp → Prop} {th : Option Nat} {p0 : Option Nat} (hw : w_X3_init_k5 T Q th p0 G0) : CT (twd D T Z) (Evd D T Z) l yX3_init (Cond.code yX3_init cX3_init 2 none) 1 20 [va_rf th, va_rf p0] G0 (qV Q) (fun _ _ => False) := by
  refine CT.ofW (cc := cX3_init) (nL := 2) (ret := none) Ext.rf (by decide) (Or.inl rfl) ?_
  intro p e s m below meth c hx hb hml hown hr hlk hnm hcb hm hc hn hE I
  have C : Cx p s m meth c D T Z "EndingTown$How" cX3_init 2 none := ⟨hx, hb, hml, hown, hE, hr, hlk⟩
  refine w_entry [.inr (.inl th), .inr (.inl p0)] (Nat.le_of_ble_eq_true rfl) (fun ls hl => ?_)
  have hl : LH ls 2 [(0, .inr (.inl th)), (1, .inr (.inl p0))] := hl
  obtain ⟨hth, h⟩ := hw
  refine l_ald_n C dX3_init_0 hl 0 rfl rfl ?_
  refine l_ald_n C dX3_init_1 hl 1 rfl rfl ?_
  refine P_R C I fp_X3_1_5 (fun _ => hnm) (by decide) (by decide) hth dX3_init_2 (fun x => fit_o x) (fun H locs G1 eG1 xG1 I => ?_)
  have h := h G1 eG1
  refine l_ald_n C dX3_init_5 hl 0 rfl rfl ?_
  refine k_objInit C (hth.ext (by decide) xG1).ad.1 q250 q142 q143 hl.1 dX3_init_6 (Nat.le_of_ble_eq_true rfl) ⟨Nat.le_of_ble_eq_true rfl, Nat.le_of_ble_eq_true rfl⟩ ?_
  exact r_void C.1 C.2.1 C.2.2.2.2.2.1 C.2.2.2.2.2.2 ⟨rfl, rfl⟩ I dX3_init_9 ⟨rfl, h⟩
def w_X7_init (T : Nat → ClassId) (Q : Hp → Prop) (th : Option Nat) (p0 : Option Nat) (G : Hp) : Prop := isO G th 5 ∧ (∀ G1 : Hp, G1 = wR G (ad th) 1 p0 → w_X3_init_k5 T (fun G2 => Ext G1 G2 → Q G2) th p0 G1)
theorem pd_X7_init : (parseMethodDescriptor yX7_init.desc).map (fun d => d.parameters.length) = some 1 := by decide +kernel
set_option maxHeartbeats 4000000 in
theorem ct_X7_init {l : Launch} {D : va_G} {T : Nat → ClassId} {Z : Heap} {G0 : Hp} {Q : Hp → Prop} {th : Option Nat} {p0 : Option Nat} (hw : w_X7_init T Q th p0 G0) : CT (twd D T Z) (Evd D T Z) l yX7_init (Cond.code yX7_init cX7_init 2 none) 2 41 [va_rf th, va_rf p0] G0 (qV Q) (fun _ _ => False) := by
  refine CT.ofW (cc := cX7_init) (nL := 2) (ret := none) Ext.rf (by decide) (Or.inl rfl) ?_
  intro p e s m below meth c hx hb hml hown hr hlk hnm hcb hm hc hn hE I
  have C : Cx p s m meth c D T Z "EndingTown$Told" cX7_init 2 none := ⟨hx, hb, hml, hown, hE, hr, hlk⟩
  refine w_entry [.inr (.inl th), .inr (.inl p0)] (Nat.le_of_ble_eq_true rfl) (fun ls hl => ?_)
  have hl : LH ls 2 [(0, .inr (.inl th)), (1, .inr (.inl p0))] := hl
  obtain ⟨hth, h⟩ := hw
  refine l_ald_n C dX7_init_0 hl 0 rfl rfl ?_
  refine l_ald_n C dX7_init_1 hl 1 rfl rfl ?_
  refine P_R C I fp_X7_1_5 (fun _ => hnm) (by decide) (by decide) hth dX7_init_2 (fun x => fit_o x) (fun H locs G1 eG1 xG1 I => ?_)
  have h := h G1 eG1
  refine l_ald_n C dX7_init_5 hl 0 rfl rfl ?_
  refine l_ald_n C dX7_init_6 hl 1 rfl rfl ?_
  refine k_call Ext.tr C I (k_IN (r := th) (As := [va_rf p0]) (rest := []) (y := yX3_init) C (hth.ext (by decide) xG1).ad.1 rfl q278 q248 q249 (by decide) rfl pd_X3_init rfl dX7_init_7) (ct_X3_init_k5 h) hl.1 dX7_init_7 [] rfl (Nat.le_of_ble_eq_true rfl) (Or.inl rfl) q249 q105 ⟨Nat.le_of_ble_eq_true rfl, Nat.le_of_ble_eq_true rfl⟩ (fun v G2 H locs cells slots xG2 hq I => ?_) (fun a G9 H locs cells slots ex hq I => hq.elim)
  obtain ⟨rfl, h⟩ := hq
  have h := h xG2
  exact r_void C.1 C.2.1 C.2.2.2.2.2.1 C.2.2.2.2.2.2 ⟨rfl, rfl⟩ I dX7_init_10 ⟨rfl, h⟩
def w_X3_init_k6 (T : Nat → ClassId) (Q : Hp → Prop) (th : Option Nat) (p0 : Option Nat) (G : Hp) : Prop := isO G th 6 ∧ (∀ G1 : Hp, G1 = wR G (ad th) 0 p0 → Q G1)
set_option maxHeartbeats 4000000 in
theorem ct_X3_init_k6 {l : Launch} {D : va_G} {T : Nat → ClassId} {Z : Heap} {G0 : Hp} {Q : Hp → Prop} {th : Option Nat} {p0 : Option Nat} (hw : w_X3_init_k6 T Q th p0 G0) : CT (twd D T Z) (Evd D T Z) l yX3_init (Cond.code yX3_init cX3_init 2 none) 1 20 [va_rf th, va_rf p0] G0 (qV Q) (fun _ _ => False) := by
  refine CT.ofW (cc := cX3_init) (nL := 2) (ret := none) Ext.rf (by decide) (Or.inl rfl) ?_
  intro p e s m below meth c hx hb hml hown hr hlk hnm hcb hm hc hn hE I
  have C : Cx p s m meth c D T Z "EndingTown$How" cX3_init 2 none := ⟨hx, hb, hml, hown, hE, hr, hlk⟩
  refine w_entry [.inr (.inl th), .inr (.inl p0)] (Nat.le_of_ble_eq_true rfl) (fun ls hl => ?_)
  have hl : LH ls 2 [(0, .inr (.inl th)), (1, .inr (.inl p0))] := hl
  obtain ⟨hth, h⟩ := hw
  refine l_ald_n C dX3_init_0 hl 0 rfl rfl ?_
  refine l_ald_n C dX3_init_1 hl 1 rfl rfl ?_
  refine P_R C I fp_X3_1_6 (fun _ => hnm) (by decide) (by decide) hth dX3_init_2 (fun x => fit_o x) (fun H locs G1 eG1 xG1 I => ?_)
  have h := h G1 eG1
  refine l_ald_n C dX3_init_5 hl 0 rfl rfl ?_
  refine k_objInit C (hth.ext (by decide) xG1).ad.1 q250 q142 q143 hl.1 dX3_init_6 (Nat.le_of_ble_eq_true rfl) ⟨Nat.le_of_ble_eq_true rfl, Nat.le_of_ble_eq_true rfl⟩ ?_
  exact r_void C.1 C.2.1 C.2.2.2.2.2.1 C.2.2.2.2.2.2 ⟨rfl, rfl⟩ I dX3_init_9 ⟨rfl, h⟩
def w_X8_init (T : Nat → ClassId) (Q : Hp → Prop) (th : Option Nat) (p0 : Option Nat) (G : Hp) : Prop := isO G th 6 ∧ (∀ G1 : Hp, G1 = wR G (ad th) 2 p0 → w_X3_init_k6 T (fun G2 => Ext G1 G2 → (¬ (8 : Int32) < 0 ∧ ((8 : Int32)).toNatClampNeg ≤ 100000 ∧ 1 ≤ gC G2 ∧ ((8 : Int32)).toNatClampNeg ≤ gS G2) ∧ ∀ G4 : Hp, G4 = nw G2 50 ((8 : Int32)).toNatClampNeg ((8 : Int32)).toNatClampNeg → ∀ G5 : Hp, G5 = wR G4 (ad th) 1 ((some (gZ G2))) → Q G5) th p0 G1)
theorem pd_X8_init : (parseMethodDescriptor yX8_init.desc).map (fun d => d.parameters.length) = some 1 := by decide +kernel
set_option maxHeartbeats 4000000 in
theorem ct_X8_init {l : Launch} {D : va_G} {T : Nat → ClassId} {Z : Heap} {G0 : Hp} {Q : Hp → Prop} {th : Option Nat} {p0 : Option Nat} (hw : w_X8_init T Q th p0 G0) : CT (twd D T Z) (Evd D T Z) l yX8_init (Cond.code yX8_init cX8_init 2 none) 2 41 [va_rf th, va_rf p0] G0 (qV Q) (fun _ _ => False) := by
  refine CT.ofW (cc := cX8_init) (nL := 2) (ret := none) Ext.rf (by decide) (Or.inl rfl) ?_
  intro p e s m below meth c hx hb hml hown hr hlk hnm hcb hm hc hn hE I
  have C : Cx p s m meth c D T Z "EndingTown$Worked" cX8_init 2 none := ⟨hx, hb, hml, hown, hE, hr, hlk⟩
  refine w_entry [.inr (.inl th), .inr (.inl p0)] (Nat.le_of_ble_eq_true rfl) (fun ls hl => ?_)
  have hl : LH ls 2 [(0, .inr (.inl th)), (1, .inr (.inl p0))] := hl
  obtain ⟨hth, h⟩ := hw
  refine l_ald_n C dX8_init_0 hl 0 rfl rfl ?_
  refine l_ald_n C dX8_init_1 hl 1 rfl rfl ?_
  refine P_R C I fp_X8_3_6 (fun _ => hnm) (by decide) (by decide) hth dX8_init_2 (fun x => fit_o x) (fun H locs G1 eG1 xG1 I => ?_)
  have h := h G1 eG1
  refine l_ald_n C dX8_init_5 hl 0 rfl rfl ?_
  refine l_ald_n C dX8_init_6 hl 1 rfl rfl ?_
  refine k_call Ext.tr C I (k_IN (r := th) (As := [va_rf p0]) (rest := []) (y := yX3_init) C (hth.ext (by decide) xG1).ad.1 rfl q289 q248 q249 (by decide) rfl pd_X3_init rfl dX8_init_7) (ct_X3_init_k6 h) hl.1 dX8_init_7 [] rfl (Nat.le_of_ble_eq_true rfl) (Or.inl rfl) q249 q105 ⟨Nat.le_of_ble_eq_true rfl, Nat.le_of_ble_eq_true rfl⟩ (fun v G2 H locs cells slots xG2 hq I => ?_) (fun a G9 H locs cells slots ex hq I => hq.elim)
  obtain ⟨rfl, h⟩ := hq
  have h := h xG2
  refine l_ald_n C dX8_init_10 hl 0 rfl rfl ?_
  refine lv_bipush (v := 8) C.1 C.2.1 dX8_init_11 (by decide) ?_
  obtain ⟨hb, h⟩ := h
  refine N_arr (kd := 50) C I (by decide) rfl q234 hb dX8_init_13 (fun H cells slots G4 eG4 xG4 I => ?_)
  have h := h G4 eG4
  have hnG4 : isO G4 (some (gZ G2)) 50 := ⟨_, rfl, by rw [eG4]; exact gK_nw⟩
  refine P_R C I fp_X8_15_6 (fun _ => hnm) (by decide) (by decide) (hth.ext (by decide) (Ext.tr _ _ _ xG1 (Ext.tr _ _ _ xG2 xG4))) dX8_init_15 (fun x => fit_a x) (fun H locs G5 eG5 xG5 I => ?_)
  have h := h G5 eG5
  exact r_void C.1 C.2.1 C.2.2.2.2.2.1 C.2.2.2.2.2.2 ⟨rfl, rfl⟩ I dX8_init_18 ⟨rfl, h⟩
def w_X3_init_k7 (T : Nat → ClassId) (Q : Hp → Prop) (th : Option Nat) (p0 : Option Nat) (G : Hp) : Prop := isO G th 7 ∧ (∀ G1 : Hp, G1 = wR G (ad th) 0 p0 → Q G1)
set_option maxHeartbeats 4000000 in
theorem ct_X3_init_k7 {l : Launch} {D : va_G} {T : Nat → ClassId} {Z : Heap} {G0 : Hp} {Q : Hp → Prop} {th : Option Nat} {p0 : Option Nat} (hw : w_X3_init_k7 T Q th p0 G0) : CT (twd D T Z) (Evd D T Z) l yX3_init (Cond.code yX3_init cX3_init 2 none) 1 20 [va_rf th, va_rf p0] G0 (qV Q) (fun _ _ => False) := by
  refine CT.ofW (cc := cX3_init) (nL := 2) (ret := none) Ext.rf (by decide) (Or.inl rfl) ?_
  intro p e s m below meth c hx hb hml hown hr hlk hnm hcb hm hc hn hE I
  have C : Cx p s m meth c D T Z "EndingTown$How" cX3_init 2 none := ⟨hx, hb, hml, hown, hE, hr, hlk⟩
  refine w_entry [.inr (.inl th), .inr (.inl p0)] (Nat.le_of_ble_eq_true rfl) (fun ls hl => ?_)
  have hl : LH ls 2 [(0, .inr (.inl th)), (1, .inr (.inl p0))] := hl
  obtain ⟨hth, h⟩ := hw
  refine l_ald_n C dX3_init_0 hl 0 rfl rfl ?_
  refine l_ald_n C dX3_init_1 hl 1 rfl rfl ?_
  refine P_R C I fp_X3_1_7 (fun _ => hnm) (by decide) (by decide) hth dX3_init_2 (fun x => fit_o x) (fun H locs G1 eG1 xG1 I => ?_)
  have h := h G1 eG1
  refine l_ald_n C dX3_init_5 hl 0 rfl rfl ?_
  refine k_objInit C (hth.ext (by decide) xG1).ad.1 q250 q142 q143 hl.1 dX3_init_6 (Nat.le_of_ble_eq_true rfl) ⟨Nat.le_of_ble_eq_true rfl, Nat.le_of_ble_eq_true rfl⟩ ?_
  exact r_void C.1 C.2.1 C.2.2.2.2.2.1 C.2.2.2.2.2.2 ⟨rfl, rfl⟩ I dX3_init_9 ⟨rfl, h⟩
def w_X9_init (T : Nat → ClassId) (Q : Hp → Prop) (th : Option Nat) (p0 : Option Nat) (G : Hp) : Prop := isO G th 7 ∧ (∀ G1 : Hp, G1 = wR G (ad th) 1 p0 → w_X3_init_k7 T (fun G2 => Ext G1 G2 → Q G2) th p0 G1)
theorem pd_X9_init : (parseMethodDescriptor yX9_init.desc).map (fun d => d.parameters.length) = some 1 := by decide +kernel
set_option maxHeartbeats 4000000 in
theorem ct_X9_init {l : Launch} {D : va_G} {T : Nat → ClassId} {Z : Heap} {G0 : Hp} {Q : Hp → Prop} {th : Option Nat} {p0 : Option Nat} (hw : w_X9_init T Q th p0 G0) : CT (twd D T Z) (Evd D T Z) l yX9_init (Cond.code yX9_init cX9_init 2 none) 2 41 [va_rf th, va_rf p0] G0 (qV Q) (fun _ _ => False) := by
  refine CT.ofW (cc := cX9_init) (nL := 2) (ret := none) Ext.rf (by decide) (Or.inl rfl) ?_
  intro p e s m below meth c hx hb hml hown hr hlk hnm hcb hm hc hn hE I
  have C : Cx p s m meth c D T Z "EndingTown$Dreamt" cX9_init 2 none := ⟨hx, hb, hml, hown, hE, hr, hlk⟩
  refine w_entry [.inr (.inl th), .inr (.inl p0)] (Nat.le_of_ble_eq_true rfl) (fun ls hl => ?_)
  have hl : LH ls 2 [(0, .inr (.inl th)), (1, .inr (.inl p0))] := hl
  obtain ⟨hth, h⟩ := hw
  refine l_ald_n C dX9_init_0 hl 0 rfl rfl ?_
  refine l_ald_n C dX9_init_1 hl 1 rfl rfl ?_
  refine P_R C I fp_X9_1_7 (fun _ => hnm) (by decide) (by decide) hth dX9_init_2 (fun x => fit_o x) (fun H locs G1 eG1 xG1 I => ?_)
  have h := h G1 eG1
  refine l_ald_n C dX9_init_5 hl 0 rfl rfl ?_
  refine l_ald_n C dX9_init_6 hl 1 rfl rfl ?_
  refine k_call Ext.tr C I (k_IN (r := th) (As := [va_rf p0]) (rest := []) (y := yX3_init) C (hth.ext (by decide) xG1).ad.1 rfl q303 q248 q249 (by decide) rfl pd_X3_init rfl dX9_init_7) (ct_X3_init_k7 h) hl.1 dX9_init_7 [] rfl (Nat.le_of_ble_eq_true rfl) (Or.inl rfl) q249 q105 ⟨Nat.le_of_ble_eq_true rfl, Nat.le_of_ble_eq_true rfl⟩ (fun v G2 H locs cells slots xG2 hq I => ?_) (fun a G9 H locs cells slots ex hq I => hq.elim)
  obtain ⟨rfl, h⟩ := hq
  have h := h xG2
  exact r_void C.1 C.2.1 C.2.2.2.2.2.1 C.2.2.2.2.2.2 ⟨rfl, rfl⟩ I dX9_init_10 ⟨rfl, h⟩
def w_X1_init (T : Nat → ClassId) (Q : Hp → Prop) (th : Option Nat) (G : Hp) : Prop := isO G th 1 ∧ (1 ≤ gC G ∧ 11 ≤ gS G ∧ ∀ G1 : Hp, G1 = nw G 2 0 11 → w_X2_init T (fun G2 => Ext G1 G2 → ∀ G4 : Hp, G4 = wR G2 (ad th) 0 ((some (gZ G))) → 1 ≤ gC G4 ∧ 3 ≤ gS G4 ∧ ∀ G5 : Hp, G5 = nw G4 16 0 3 → w_J2_init T (fun G6 => Ext G5 G6 → ∀ G8 : Hp, G8 = wR G6 (ad th) 1 ((some (gZ G4))) → (¬ (5 : Int32) < 0 ∧ ((5 : Int32)).toNatClampNeg ≤ 100000 ∧ 1 ≤ gC G8 ∧ ((5 : Int32)).toNatClampNeg ≤ gS G8) ∧ ∀ G9 : Hp, G9 = nw G8 56 ((5 : Int32)).toNatClampNeg ((5 : Int32)).toNatClampNeg → 1 ≤ gC G9 ∧ 3 ≤ gS G9 ∧ ∀ G10 : Hp, G10 = nw G9 3 0 3 → w_X5_init T (fun G11 => Ext G10 G11 → vp_in ((0 : Int32)) (gN G11 (ad ((some (gZ G8))))) ∧ okA G11 56 ((some (gZ G9))) ∧ ∀ G13 : Hp, G13 = wR G11 (ad ((some (gZ G8)))) ((0 : Int32)).toNatClampNeg ((some (gZ G9))) → 1 ≤ gC G13 ∧ 3 ≤ gS G13 ∧ ∀ G14 : Hp, G14 = nw G13 4 0 3 → w_X6_init T (fun G15 => Ext G14 G15 → vp_in ((1 : Int32)) (gN G15 (ad ((some (gZ G8))))) ∧ okA G15 56 ((some (gZ G13))) ∧ ∀ G17 : Hp, G17 = wR G15 (ad ((some (gZ G8)))) ((1 : Int32)).toNatClampNeg ((some (gZ G13))) → 1 ≤ gC G17 ∧ 2 ≤ gS G17 ∧ ∀ G18 : Hp, G18 = nw G17 5 0 2 → w_X7_init T (fun G19 => Ext G18 G19 → vp_in ((2 : Int32)) (gN G19 (ad ((some (gZ G8))))) ∧ okA G19 56 ((some (gZ G17))) ∧ ∀ G21 : Hp, G21 = wR G19 (ad ((some (gZ G8)))) ((2 : Int32)).toNatClampNeg ((some (gZ G17))) → 1 ≤ gC G21 ∧ 3 ≤ gS G21 ∧ ∀ G22 : Hp, G22 = nw G21 6 0 3 → w_X8_init T (fun G23 => Ext G22 G23 → vp_in ((3 : Int32)) (gN G23 (ad ((some (gZ G8))))) ∧ okA G23 56 ((some (gZ G21))) ∧ ∀ G25 : Hp, G25 = wR G23 (ad ((some (gZ G8)))) ((3 : Int32)).toNatClampNeg ((some (gZ G21))) → 1 ≤ gC G25 ∧ 2 ≤ gS G25 ∧ ∀ G26 : Hp, G26 = nw G25 7 0 2 → w_X9_init T (fun G27 => Ext G26 G27 → vp_in ((4 : Int32)) (gN G27 (ad ((some (gZ G8))))) ∧ okA G27 56 ((some (gZ G25))) ∧ ∀ G29 : Hp, G29 = wR G27 (ad ((some (gZ G8)))) ((4 : Int32)).toNatClampNeg ((some (gZ G25))) → ∀ G30 : Hp, G30 = wR G29 (ad th) 2 ((some (gZ G8))) → 1 ≤ gC G30 ∧ 6 ≤ gS G30 ∧ ∀ G31 : Hp, G31 = nw G30 8 0 6 → w_X10_init T (fun G32 => Ext G31 G32 → ∀ G34 : Hp, G34 = wR G32 (ad th) 3 ((some (gZ G30))) → (¬ (800 : Int32) < 0 ∧ ((800 : Int32)).toNatClampNeg ≤ 100000 ∧ 1 ≤ gC G34 ∧ ((800 : Int32)).toNatClampNeg ≤ gS G34) ∧ ∀ G35 : Hp, G35 = nw G34 51 ((800 : Int32)).toNatClampNeg ((800 : Int32)).toNatClampNeg → ∀ G36 : Hp, G36 = wR G35 (ad th) 4 ((some (gZ G34))) → ∀ G37 : Hp, G37 = wI G36 (ad th) 6 ((-1 : Int32)) → (¬ (3 : Int32) < 0 ∧ ((3 : Int32)).toNatClampNeg ≤ 100000 ∧ 1 ≤ gC G37 ∧ ((3 : Int32)).toNatClampNeg ≤ gS G37) ∧ ∀ G38 : Hp, G38 = nw G37 50 ((3 : Int32)).toNatClampNeg ((3 : Int32)).toNatClampNeg → ∀ G39 : Hp, G39 = wR G38 (ad th) 7 ((some (gZ G37))) → (¬ (180 : Int32) < 0 ∧ ((180 : Int32)).toNatClampNeg ≤ 100000 ∧ 1 ≤ gC G39 ∧ ((180 : Int32)).toNatClampNeg ≤ gS G39) ∧ ∀ G40 : Hp, G40 = nw G39 50 ((180 : Int32)).toNatClampNeg ((180 : Int32)).toNatClampNeg → ∀ G41 : Hp, G41 = wR G40 (ad th) 8 ((some (gZ G39))) → Q G41) ((some (gZ G30))) th G31) ((some (gZ G25))) th G26) ((some (gZ G21))) th G22) ((some (gZ G17))) th G18) ((some (gZ G13))) th G14) ((some (gZ G9))) th G10) ((some (gZ G4))) G5) ((some (gZ G))) G1)
theorem pd_X1_init : (parseMethodDescriptor yX1_init.desc).map (fun d => d.parameters.length) = some 0 := by decide +kernel
set_option maxHeartbeats 4000000 in
theorem ct_X1_init {l : Launch} {D : va_G} {T : Nat → ClassId} {Z : Heap} {G0 : Hp} {Q : Hp → Prop} {th : Option Nat} (hw : w_X1_init T Q th G0) : CT (twd D T Z) (Evd D T Z) l yX1_init (Cond.code yX1_init cX1_init 1 none) 5 101 [va_rf th] G0 (qV Q) (fun _ _ => False) := by
  refine CT.ofW (cc := cX1_init) (nL := 1) (ret := none) Ext.rf (by decide) (Or.inl rfl) ?_
  intro p e s m below meth c hx hb hml hown hr hlk hnm hcb hm hc hn hE I
  have C : Cx p s m meth c D T Z "EndingTown" cX1_init 1 none := ⟨hx, hb, hml, hown, hE, hr, hlk⟩
  refine w_entry [.inr (.inl th)] (Nat.le_of_ble_eq_true rfl) (fun ls hl => ?_)
  have hl : LH ls 1 [(0, .inr (.inl th))] := hl
  obtain ⟨hth, h⟩ := hw
  refine l_ald_n C dX1_init_0 hl 0 rfl rfl ?_
  refine k_objInit C hth.ad.1 q141 q142 q143 hl.1 dX1_init_1 (Nat.le_of_ble_eq_true rfl) ⟨Nat.le_of_ble_eq_true rfl, Nat.le_of_ble_eq_true rfl⟩ ?_
  refine l_ald_n C dX1_init_4 hl 0 rfl rfl ?_
  obtain ⟨hb1, hb2, h⟩ := h
  refine N_obj (kd := 2) C I (by decide) q144 ⟨hb1, hb2⟩ dX1_init_5 (fun H cells slots G1 eG1 xG1 I => ?_)
  have h := h G1 eG1
  have hnG1 : isO G1 (some (gZ G0)) 2 := ⟨_, rfl, by rw [eG1]; exact gK_nw⟩
  refine lv_dup C.1 C.2.1 dX1_init_8 (cat_rf _) ?_
  refine k_call Ext.tr C I (k_I (r := (some (gZ G0))) (As := []) (rest := [va_rf ((some (gZ G0))), va_rf th]) (y := yX2_init) C hnG1.ad.1 rfl q146 q147 q148 (by decide) rfl pd_X2_init rfl dX1_init_9) (ct_X2_init h) hl.1 dX1_init_9 [.inr (.inl ((some (gZ G0)))), .inr (.inl th)] rfl (Nat.le_of_ble_eq_true rfl) (Or.inl rfl) q148 q101 ⟨Nat.le_of_ble_eq_true rfl, Nat.le_of_ble_eq_true rfl⟩ (fun v G2 H locs cells slots xG2 hq I => ?_) (fun a G9 H locs cells slots ex hq I => hq.elim)
  obtain ⟨rfl, h⟩ := hq
  have h := h xG2
  refine P_R C I fp_X1_16_1 (fun z => by cases z) (by decide) (by decide) (hth.ext (by decide) (Ext.tr _ _ _ xG1 xG2)) dX1_init_12 (fun x => fit_o x) (fun H locs G4 eG4 xG4 I => ?_)
  have h := h G4 eG4
  refine l_ald_n C dX1_init_15 hl 0 rfl rfl ?_
  obtain ⟨hb1, hb2, h⟩ := h
  refine N_obj (kd := 16) C I (by decide) q235 ⟨hb1, hb2⟩ dX1_init_16 (fun H cells slots G5 eG5 xG5 I => ?_)
  have h := h G5 eG5
  have hnG5 : isO G5 (some (gZ G4)) 16 := ⟨_, rfl, by rw [eG5]; exact gK_nw⟩
  refine lv_dup C.1 C.2.1 dX1_init_19 (cat_rf _) ?_
  refine k_call Ext.tr C I (k_I (r := (some (gZ G4))) (As := []) (rest := [va_rf ((some (gZ G4))), va_rf th]) (y := yJ2_init) C hnG5.ad.1 rfl q236 q153 q154 (by decide) rfl pd_J2_init rfl dX1_init_20) (ct_J2_init h) hl.1 dX1_init_20 [.inr (.inl ((some (gZ G4)))), .inr (.inl th)] rfl (Nat.le_of_ble_eq_true rfl) (Or.inl rfl) q154 q104 ⟨Nat.le_of_ble_eq_true rfl, Nat.le_of_ble_eq_true rfl⟩ (fun v G6 H locs cells slots xG6 hq I => ?_) (fun a G9 H locs cells slots ex hq I => hq.elim)
  obtain ⟨rfl, h⟩ := hq
  have h := h xG6
  refine P_R C I fp_X1_25_1 (fun z => by cases z) (by decide) (by decide) (hth.ext (by decide) (Ext.tr _ _ _ xG1 (Ext.tr _ _ _ xG2 (Ext.tr _ _ _ xG4 (Ext.tr _ _ _ xG5 xG6))))) dX1_init_23 (fun x => fit_o x) (fun H locs G8 eG8 xG8 I => ?_)
  have h := h G8 eG8
  refine l_ald_n C dX1_init_26 hl 0 rfl rfl ?_
  refine lv_iconst (v := 5) C.1 C.2.1 dX1_init_27 (by decide) ?_
  obtain ⟨hb, h⟩ := h
  refine N_aarr (kd := 56) C I (by decide) rfl q237 q238 hb dX1_init_28 (fun H cells slots G9 eG9 xG9 I => ?_)
  have h := h G9 eG9
  have hnG9 : isO G9 (some (gZ G8)) 56 := ⟨_, rfl, by rw [eG9]; exact gK_nw⟩
  refine lv_dup C.1 C.2.1 dX1_init_31 (cat_rf _) ?_
  refine lv_iconst (v := 0) C.1 C.2.1 dX1_init_32 (by decide) ?_
  obtain ⟨hb1, hb2, h⟩ := h
  refine N_obj (kd := 3) C I (by decide) q239 ⟨hb1, hb2⟩ dX1_init_33 (fun H cells slots G10 eG10 xG10 I => ?_)
  have h := h G10 eG10
  have hnG10 : isO G10 (some (gZ G9)) 3 := ⟨_, rfl, by rw [eG10]; exact gK_nw⟩
  refine lv_dup C.1 C.2.1 dX1_init_36 (cat_rf _) ?_
  refine l_ald_n C dX1_init_37 hl 0 rfl rfl ?_
  refine k_call Ext.tr C I (k_IN (r := (some (gZ G9))) (As := [va_rf th]) (rest := [va_rf ((some (gZ G9))), .int ((0 : Int32)), va_rf ((some (gZ G8))), va_rf ((some (gZ G8))), va_rf th]) (y := yX5_init) C hnG10.ad.1 rfl q241 q242 q243 (by decide) rfl pd_X5_init rfl dX1_init_38) (ct_X5_init h) hl.1 dX1_init_38 [.inr (.inl ((some (gZ G9)))), .inl ((0 : Int32)), .inr (.inl ((some (gZ G8)))), .inr (.inl ((some (gZ G8)))), .inr (.inl th)] rfl (Nat.le_of_ble_eq_true rfl) (Or.inl rfl) q243 q107 ⟨Nat.le_of_ble_eq_true rfl, Nat.le_of_ble_eq_true rfl⟩ (fun v G11 H locs cells slots xG11 hq I => ?_) (fun a G9 H locs cells slots ex hq I => hq.elim)
  obtain ⟨rfl, h⟩ := hq
  have h := h xG11
  obtain ⟨hi, h⟩ := h
  obtain ⟨hok, h⟩ := h
  refine A_aast C I (hnG9.ext (by decide) (Ext.tr _ _ _ xG10 xG11)) (by decide) rfl hok hi dX1_init_41 (fun H locs G13 eG13 xG13 I => ?_)
  have h := h G13 eG13
  refine lv_dup C.1 C.2.1 dX1_init_42 (cat_rf _) ?_
  refine lv_iconst (v := 1) C.1 C.2.1 dX1_init_43 (by decide) ?_
  obtain ⟨hb1, hb2, h⟩ := h
  refine N_obj (kd := 4) C I (by decide) q261 ⟨hb1, hb2⟩ dX1_init_44 (fun H cells slots G14 eG14 xG14 I => ?_)
  have h := h G14 eG14
  have hnG14 : isO G14 (some (gZ G13)) 4 := ⟨_, rfl, by rw [eG14]; exact gK_nw⟩
  refine lv_dup C.1 C.2.1 dX1_init_47 (cat_rf _) ?_
  refine l_ald_n C dX1_init_48 hl 0 rfl rfl ?_
  refine k_call Ext.tr C I (k_IN (r := (some (gZ G13))) (As := [va_rf th]) (rest := [va_rf ((some (gZ G13))), .int ((1 : Int32)), va_rf ((some (gZ G8))), va_rf ((some (gZ G8))), va_rf th]) (y := yX6_init) C hnG14.ad.1 rfl q263 q264 q265 (by decide) rfl pd_X6_init rfl dX1_init_49) (ct_X6_init h) hl.1 dX1_init_49 [.inr (.inl ((some (gZ G13)))), .inl ((1 : Int32)), .inr (.inl ((some (gZ G8)))), .inr (.inl ((some (gZ G8)))), .inr (.inl th)] rfl (Nat.le_of_ble_eq_true rfl) (Or.inl rfl) q265 q108 ⟨Nat.le_of_ble_eq_true rfl, Nat.le_of_ble_eq_true rfl⟩ (fun v G15 H locs cells slots xG15 hq I => ?_) (fun a G9 H locs cells slots ex hq I => hq.elim)
  obtain ⟨rfl, h⟩ := hq
  have h := h xG15
  obtain ⟨hi, h⟩ := h
  obtain ⟨hok, h⟩ := h
  refine A_aast C I (hnG9.ext (by decide) (Ext.tr _ _ _ xG10 (Ext.tr _ _ _ xG11 (Ext.tr _ _ _ xG13 (Ext.tr _ _ _ xG14 xG15))))) (by decide) rfl hok hi dX1_init_52 (fun H locs G17 eG17 xG17 I => ?_)
  have h := h G17 eG17
  refine lv_dup C.1 C.2.1 dX1_init_53 (cat_rf _) ?_
  refine lv_iconst (v := 2) C.1 C.2.1 dX1_init_54 (by decide) ?_
  obtain ⟨hb1, hb2, h⟩ := h
  refine N_obj (kd := 5) C I (by decide) q273 ⟨hb1, hb2⟩ dX1_init_55 (fun H cells slots G18 eG18 xG18 I => ?_)
  have h := h G18 eG18
  have hnG18 : isO G18 (some (gZ G17)) 5 := ⟨_, rfl, by rw [eG18]; exact gK_nw⟩
  refine lv_dup C.1 C.2.1 dX1_init_58 (cat_rf _) ?_
  refine l_ald_n C dX1_init_59 hl 0 rfl rfl ?_
  refine k_call Ext.tr C I (k_IN (r := (some (gZ G17))) (As := [va_rf th]) (rest := [va_rf ((some (gZ G17))), .int ((2 : Int32)), va_rf ((some (gZ G8))), va_rf ((some (gZ G8))), va_rf th]) (y := yX7_init) C hnG18.ad.1 rfl q275 q276 q277 (by decide) rfl pd_X7_init rfl dX1_init_60) (ct_X7_init h) hl.1 dX1_init_60 [.inr (.inl ((some (gZ G17)))), .inl ((2 : Int32)), .inr (.inl ((some (gZ G8)))), .inr (.inl ((some (gZ G8)))), .inr (.inl th)] rfl (Nat.le_of_ble_eq_true rfl) (Or.inl rfl) q277 q109 ⟨Nat.le_of_ble_eq_true rfl, Nat.le_of_ble_eq_true rfl⟩ (fun v G19 H locs cells slots xG19 hq I => ?_) (fun a G9 H locs cells slots ex hq I => hq.elim)
  obtain ⟨rfl, h⟩ := hq
  have h := h xG19
  obtain ⟨hi, h⟩ := h
  obtain ⟨hok, h⟩ := h
  refine A_aast C I (hnG9.ext (by decide) (Ext.tr _ _ _ xG10 (Ext.tr _ _ _ xG11 (Ext.tr _ _ _ xG13 (Ext.tr _ _ _ xG14 (Ext.tr _ _ _ xG15 (Ext.tr _ _ _ xG17 (Ext.tr _ _ _ xG18 xG19)))))))) (by decide) rfl hok hi dX1_init_63 (fun H locs G21 eG21 xG21 I => ?_)
  have h := h G21 eG21
  refine lv_dup C.1 C.2.1 dX1_init_64 (cat_rf _) ?_
  refine lv_iconst (v := 3) C.1 C.2.1 dX1_init_65 (by decide) ?_
  obtain ⟨hb1, hb2, h⟩ := h
  refine N_obj (kd := 6) C I (by decide) q284 ⟨hb1, hb2⟩ dX1_init_66 (fun H cells slots G22 eG22 xG22 I => ?_)
  have h := h G22 eG22
  have hnG22 : isO G22 (some (gZ G21)) 6 := ⟨_, rfl, by rw [eG22]; exact gK_nw⟩
  refine lv_dup C.1 C.2.1 dX1_init_69 (cat_rf _) ?_
  refine l_ald_n C dX1_init_70 hl 0 rfl rfl ?_
  refine k_call Ext.tr C I (k_IN (r := (some (gZ G21))) (As := [va_rf th]) (rest := [va_rf ((some (gZ G21))), .int ((3 : Int32)), va_rf ((some (gZ G8))), va_rf ((some (gZ G8))), va_rf th]) (y := yX8_init) C hnG22.ad.1 rfl q286 q287 q288 (by decide) rfl pd_X8_init rfl dX1_init_71) (ct_X8_init h) hl.1 dX1_init_71 [.inr (.inl ((some (gZ G21)))), .inl ((3 : Int32)), .inr (.inl ((some (gZ G8)))), .inr (.inl ((some (gZ G8)))), .inr (.inl th)] rfl (Nat.le_of_ble_eq_true rfl) (Or.inl rfl) q288 q110 ⟨Nat.le_of_ble_eq_true rfl, Nat.le_of_ble_eq_true rfl⟩ (fun v G23 H locs cells slots xG23 hq I => ?_) (fun a G9 H locs cells slots ex hq I => hq.elim)
  obtain ⟨rfl, h⟩ := hq
  have h := h xG23
  obtain ⟨hi, h⟩ := h
  obtain ⟨hok, h⟩ := h
  refine A_aast C I (hnG9.ext (by decide) (Ext.tr _ _ _ xG10 (Ext.tr _ _ _ xG11 (Ext.tr _ _ _ xG13 (Ext.tr _ _ _ xG14 (Ext.tr _ _ _ xG15 (Ext.tr _ _ _ xG17 (Ext.tr _ _ _ xG18 (Ext.tr _ _ _ xG19 (Ext.tr _ _ _ xG21 (Ext.tr _ _ _ xG22 xG23))))))))))) (by decide) rfl hok hi dX1_init_74 (fun H locs G25 eG25 xG25 I => ?_)
  have h := h G25 eG25
  refine lv_dup C.1 C.2.1 dX1_init_75 (cat_rf _) ?_
  refine lv_iconst (v := 4) C.1 C.2.1 dX1_init_76 (by decide) ?_
  obtain ⟨hb1, hb2, h⟩ := h
  refine N_obj (kd := 7) C I (by decide) q298 ⟨hb1, hb2⟩ dX1_init_77 (fun H cells slots G26 eG26 xG26 I => ?_)
  have h := h G26 eG26
  have hnG26 : isO G26 (some (gZ G25)) 7 := ⟨_, rfl, by rw [eG26]; exact gK_nw⟩
  refine lv_dup C.1 C.2.1 dX1_init_80 (cat_rf _) ?_
  refine l_ald_n C dX1_init_81 hl 0 rfl rfl ?_
  refine k_call Ext.tr C I (k_IN (r := (some (gZ G25))) (As := [va_rf th]) (rest := [va_rf ((some (gZ G25))), .int ((4 : Int32)), va_rf ((some (gZ G8))), va_rf ((some (gZ G8))), va_rf th]) (y := yX9_init) C hnG26.ad.1 rfl q300 q301 q302 (by decide) rfl pd_X9_init rfl dX1_init_82) (ct_X9_init h) hl.1 dX1_init_82 [.inr (.inl ((some (gZ G25)))), .inl ((4 : Int32)), .inr (.inl ((some (gZ G8)))), .inr (.inl ((some (gZ G8)))), .inr (.inl th)] rfl (Nat.le_of_ble_eq_true rfl) (Or.inl rfl) q302 q111 ⟨Nat.le_of_ble_eq_true rfl, Nat.le_of_ble_eq_true rfl⟩ (fun v G27 H locs cells slots xG27 hq I => ?_) (fun a G9 H locs cells slots ex hq I => hq.elim)
  obtain ⟨rfl, h⟩ := hq
  have h := h xG27
  obtain ⟨hi, h⟩ := h
  obtain ⟨hok, h⟩ := h
  refine A_aast C I (hnG9.ext (by decide) (Ext.tr _ _ _ xG10 (Ext.tr _ _ _ xG11 (Ext.tr _ _ _ xG13 (Ext.tr _ _ _ xG14 (Ext.tr _ _ _ xG15 (Ext.tr _ _ _ xG17 (Ext.tr _ _ _ xG18 (Ext.tr _ _ _ xG19 (Ext.tr _ _ _ xG21 (Ext.tr _ _ _ xG22 (Ext.tr _ _ _ xG23 (Ext.tr _ _ _ xG25 (Ext.tr _ _ _ xG26 xG27)))))))))))))) (by decide) rfl hok hi dX1_init_85 (fun H locs G29 eG29 xG29 I => ?_)
  have h := h G29 eG29
  refine P_R C I fp_X1_48_1 (fun _ => hnm) (by decide) (by decide) (hth.ext (by decide) (Ext.tr _ _ _ xG1 (Ext.tr _ _ _ xG2 (Ext.tr _ _ _ xG4 (Ext.tr _ _ _ xG5 (Ext.tr _ _ _ xG6 (Ext.tr _ _ _ xG8 (Ext.tr _ _ _ xG9 (Ext.tr _ _ _ xG10 (Ext.tr _ _ _ xG11 (Ext.tr _ _ _ xG13 (Ext.tr _ _ _ xG14 (Ext.tr _ _ _ xG15 (Ext.tr _ _ _ xG17 (Ext.tr _ _ _ xG18 (Ext.tr _ _ _ xG19 (Ext.tr _ _ _ xG21 (Ext.tr _ _ _ xG22 (Ext.tr _ _ _ xG23 (Ext.tr _ _ _ xG25 (Ext.tr _ _ _ xG26 (Ext.tr _ _ _ xG27 xG29)))))))))))))))))))))) dX1_init_86 (fun x => fit_a x) (fun H locs G30 eG30 xG30 I => ?_)
  have h := h G30 eG30
  refine l_ald_n C dX1_init_89 hl 0 rfl rfl ?_
  obtain ⟨hb1, hb2, h⟩ := h
  refine N_obj (kd := 8) C I (by decide) q309 ⟨hb1, hb2⟩ dX1_init_90 (fun H cells slots G31 eG31 xG31 I => ?_)
  have h := h G31 eG31
  have hnG31 : isO G31 (some (gZ G30)) 8 := ⟨_, rfl, by rw [eG31]; exact gK_nw⟩
  refine lv_dup C.1 C.2.1 dX1_init_93 (cat_rf _) ?_
  refine l_ald_n C dX1_init_94 hl 0 rfl rfl ?_
  refine k_call Ext.tr C I (k_IN (r := (some (gZ G30))) (As := [va_rf th]) (rest := [va_rf ((some (gZ G30))), va_rf th]) (y := yX10_init) C hnG31.ad.1 rfl q311 q312 q313 (by decide) rfl pd_X10_init rfl dX1_init_95) (ct_X10_init h) hl.1 dX1_init_95 [.inr (.inl ((some (gZ G30)))), .inr (.inl th)] rfl (Nat.le_of_ble_eq_true rfl) (Or.inl rfl) q313 q112 ⟨Nat.le_of_ble_eq_true rfl, Nat.le_of_ble_eq_true rfl⟩ (fun v G32 H locs cells slots xG32 hq I => ?_) (fun a G9 H locs cells slots ex hq I => hq.elim)
  obtain ⟨rfl, h⟩ := hq
  have h := h xG32
  refine P_R C I fp_X1_55_1 (fun _ => hnm) (by decide) (by decide) (hth.ext (by decide) (Ext.tr _ _ _ xG1 (Ext.tr _ _ _ xG2 (Ext.tr _ _ _ xG4 (Ext.tr _ _ _ xG5 (Ext.tr _ _ _ xG6 (Ext.tr _ _ _ xG8 (Ext.tr _ _ _ xG9 (Ext.tr _ _ _ xG10 (Ext.tr _ _ _ xG11 (Ext.tr _ _ _ xG13 (Ext.tr _ _ _ xG14 (Ext.tr _ _ _ xG15 (Ext.tr _ _ _ xG17 (Ext.tr _ _ _ xG18 (Ext.tr _ _ _ xG19 (Ext.tr _ _ _ xG21 (Ext.tr _ _ _ xG22 (Ext.tr _ _ _ xG23 (Ext.tr _ _ _ xG25 (Ext.tr _ _ _ xG26 (Ext.tr _ _ _ xG27 (Ext.tr _ _ _ xG29 (Ext.tr _ _ _ xG30 (Ext.tr _ _ _ xG31 xG32))))))))))))))))))))))))) dX1_init_98 (fun x => fit_o x) (fun H locs G34 eG34 xG34 I => ?_)
  have h := h G34 eG34
  refine l_ald_n C dX1_init_101 hl 0 rfl rfl ?_
  refine lv_sipush (v := 800) C.1 C.2.1 dX1_init_102 (by decide) ?_
  obtain ⟨hb, h⟩ := h
  refine N_arr (kd := 51) C I (by decide) rfl q400 hb dX1_init_105 (fun H cells slots G35 eG35 xG35 I => ?_)
  have h := h G35 eG35
  have hnG35 : isO G35 (some (gZ G34)) 51 := ⟨_, rfl, by rw [eG35]; exact gK_nw⟩
  refine P_R C I fp_X1_59_1 (fun _ => hnm) (by decide) (by decide) (hth.ext (by decide) (Ext.tr _ _ _ xG1 (Ext.tr _ _ _ xG2 (Ext.tr _ _ _ xG4 (Ext.tr _ _ _ xG5 (Ext.tr _ _ _ xG6 (Ext.tr _ _ _ xG8 (Ext.tr _ _ _ xG9 (Ext.tr _ _ _ xG10 (Ext.tr _ _ _ xG11 (Ext.tr _ _ _ xG13 (Ext.tr _ _ _ xG14 (Ext.tr _ _ _ xG15 (Ext.tr _ _ _ xG17 (Ext.tr _ _ _ xG18 (Ext.tr _ _ _ xG19 (Ext.tr _ _ _ xG21 (Ext.tr _ _ _ xG22 (Ext.tr _ _ _ xG23 (Ext.tr _ _ _ xG25 (Ext.tr _ _ _ xG26 (Ext.tr _ _ _ xG27 (Ext.tr _ _ _ xG29 (Ext.tr _ _ _ xG30 (Ext.tr _ _ _ xG31 (Ext.tr _ _ _ xG32 (Ext.tr _ _ _ xG34 xG35))))))))))))))))))))))))))) dX1_init_107 (fun x => fit_a x) (fun H locs G36 eG36 xG36 I => ?_)
  have h := h G36 eG36
  refine l_ald_n C dX1_init_110 hl 0 rfl rfl ?_
  refine lv_iconst (v := (-1)) C.1 C.2.1 dX1_init_111 (by decide) ?_
  refine P_I C I fp_X1_63_1 (fun z => by cases z) (by decide) (by decide) (hth.ext (by decide) (Ext.tr _ _ _ xG1 (Ext.tr _ _ _ xG2 (Ext.tr _ _ _ xG4 (Ext.tr _ _ _ xG5 (Ext.tr _ _ _ xG6 (Ext.tr _ _ _ xG8 (Ext.tr _ _ _ xG9 (Ext.tr _ _ _ xG10 (Ext.tr _ _ _ xG11 (Ext.tr _ _ _ xG13 (Ext.tr _ _ _ xG14 (Ext.tr _ _ _ xG15 (Ext.tr _ _ _ xG17 (Ext.tr _ _ _ xG18 (Ext.tr _ _ _ xG19 (Ext.tr _ _ _ xG21 (Ext.tr _ _ _ xG22 (Ext.tr _ _ _ xG23 (Ext.tr _ _ _ xG25 (Ext.tr _ _ _ xG26 (Ext.tr _ _ _ xG27 (Ext.tr _ _ _ xG29 (Ext.tr _ _ _ xG30 (Ext.tr _ _ _ xG31 (Ext.tr _ _ _ xG32 (Ext.tr _ _ _ xG34 (Ext.tr _ _ _ xG35 xG36)))))))))))))))))))))))))))) dX1_init_112 (fit_i _) (fun H locs G37 eG37 xG37 I => ?_)
  have h := h G37 eG37
  refine l_ald_n C dX1_init_115 hl 0 rfl rfl ?_
  refine lv_iconst (v := 3) C.1 C.2.1 dX1_init_116 (by decide) ?_
  obtain ⟨hb, h⟩ := h
  refine N_arr (kd := 50) C I (by decide) rfl q234 hb dX1_init_117 (fun H cells slots G38 eG38 xG38 I => ?_)
  have h := h G38 eG38
  have hnG38 : isO G38 (some (gZ G37)) 50 := ⟨_, rfl, by rw [eG38]; exact gK_nw⟩
  refine P_R C I fp_X1_67_1 (fun _ => hnm) (by decide) (by decide) (hth.ext (by decide) (Ext.tr _ _ _ xG1 (Ext.tr _ _ _ xG2 (Ext.tr _ _ _ xG4 (Ext.tr _ _ _ xG5 (Ext.tr _ _ _ xG6 (Ext.tr _ _ _ xG8 (Ext.tr _ _ _ xG9 (Ext.tr _ _ _ xG10 (Ext.tr _ _ _ xG11 (Ext.tr _ _ _ xG13 (Ext.tr _ _ _ xG14 (Ext.tr _ _ _ xG15 (Ext.tr _ _ _ xG17 (Ext.tr _ _ _ xG18 (Ext.tr _ _ _ xG19 (Ext.tr _ _ _ xG21 (Ext.tr _ _ _ xG22 (Ext.tr _ _ _ xG23 (Ext.tr _ _ _ xG25 (Ext.tr _ _ _ xG26 (Ext.tr _ _ _ xG27 (Ext.tr _ _ _ xG29 (Ext.tr _ _ _ xG30 (Ext.tr _ _ _ xG31 (Ext.tr _ _ _ xG32 (Ext.tr _ _ _ xG34 (Ext.tr _ _ _ xG35 (Ext.tr _ _ _ xG36 (Ext.tr _ _ _ xG37 xG38)))))))))))))))))))))))))))))) dX1_init_119 (fun x => fit_a x) (fun H locs G39 eG39 xG39 I => ?_)
  have h := h G39 eG39
  refine l_ald_n C dX1_init_122 hl 0 rfl rfl ?_
  refine lv_sipush (v := 180) C.1 C.2.1 dX1_init_123 (by decide) ?_
  obtain ⟨hb, h⟩ := h
  refine N_arr (kd := 50) C I (by decide) rfl q234 hb dX1_init_126 (fun H cells slots G40 eG40 xG40 I => ?_)
  have h := h G40 eG40
  have hnG40 : isO G40 (some (gZ G39)) 50 := ⟨_, rfl, by rw [eG40]; exact gK_nw⟩
  refine P_R C I fp_X1_71_1 (fun _ => hnm) (by decide) (by decide) (hth.ext (by decide) (Ext.tr _ _ _ xG1 (Ext.tr _ _ _ xG2 (Ext.tr _ _ _ xG4 (Ext.tr _ _ _ xG5 (Ext.tr _ _ _ xG6 (Ext.tr _ _ _ xG8 (Ext.tr _ _ _ xG9 (Ext.tr _ _ _ xG10 (Ext.tr _ _ _ xG11 (Ext.tr _ _ _ xG13 (Ext.tr _ _ _ xG14 (Ext.tr _ _ _ xG15 (Ext.tr _ _ _ xG17 (Ext.tr _ _ _ xG18 (Ext.tr _ _ _ xG19 (Ext.tr _ _ _ xG21 (Ext.tr _ _ _ xG22 (Ext.tr _ _ _ xG23 (Ext.tr _ _ _ xG25 (Ext.tr _ _ _ xG26 (Ext.tr _ _ _ xG27 (Ext.tr _ _ _ xG29 (Ext.tr _ _ _ xG30 (Ext.tr _ _ _ xG31 (Ext.tr _ _ _ xG32 (Ext.tr _ _ _ xG34 (Ext.tr _ _ _ xG35 (Ext.tr _ _ _ xG36 (Ext.tr _ _ _ xG37 (Ext.tr _ _ _ xG38 (Ext.tr _ _ _ xG39 xG40)))))))))))))))))))))))))))))))) dX1_init_128 (fun x => fit_a x) (fun H locs G41 eG41 xG41 I => ?_)
  have h := h G41 eG41
  exact r_void C.1 C.2.1 C.2.2.2.2.2.1 C.2.2.2.2.2.2 ⟨rfl, rfl⟩ I dX1_init_131 ⟨rfl, h⟩
def w_X1_feed_71 (T : Nat → ClassId) (Q : Int32 → Hp → Prop) (th : Option Nat) (k18 : Int32 → Int32 → Int32 → Int32 → Int32 → Int32 → Hp → Prop) (l1 : Int32) (l2 : Int32) (l3 : Int32) (l4 : Int32) (l5 : Int32) (l6 : Int32) (t0 : Int32) (G : Hp) : Prop := isO G (gR G (ad th) 4) 51 ∧ vp_in ((gI G (ad th) 5 + l6)) (gN G (ad (gR G (ad th) 4))) ∧ ∀ G2 : Hp, G2 = wI G (ad (gR G (ad th) 4)) ((gI G (ad th) 5 + l6)).toNatClampNeg ((((t0 >>> (((24 : Int32) - ((8 : Int32) * (l6 - l6 / (4 : Int32) * (4 : Int32)))) &&& 31))).toInt8.toInt32).toInt8.toInt32) → k18 l1 l2 l3 l4 l5 ((l6 + 1)) G2
set_option maxHeartbeats 4000000 in
theorem b_X1_feed_71 {G0 : Hp} {Q : Int32 → Hp → Prop} {th : Option Nat} {k18 : Int32 → Int32 → Int32 → Int32 → Int32 → Int32 → Hp → Prop} (C : Cx p s m meth c D T Z "EndingTown" cX1_feed 8 (some .int)) (hk18 : ∀ (l1 : Int32) (l2 : Int32) (l3 : Int32) (l4 : Int32) (l5 : Int32) (l6 : Int32) (G : Hp) (H : Heap) (locs : List Loc) (cells slots : Nat) (ls : Array Slot), k18 l1 l2 l3 l4 l5 l6 G → isO G th 1 → HI (twd D T Z) G0 s (rmX (twd D T Z) 0 0 G0) H locs cells slots G → LH ls 8 [(0, .inr (.inl th)), (1, .inl l1), (2, .inl l2), (3, .inl l3), (4, .inl l4), (5, .inl l5), (6, .inl l6)] → W p l e (rmX (twd D T Z) 0 0 G0) s m args below meth c H locs cells slots (MQX (twd D T Z) G0 (qI Q) (fun _ _ => False) below s) (F0 m 18 ls [])) : ∀ (l1 : Int32) (l2 : Int32) (l3 : Int32) (l4 : Int32) (l5 : Int32) (l6 : Int32) (t0 : Int32) (G : Hp) (H : Heap) (locs : List Loc) (cells slots : Nat) (ls : Array Slot), w_X1_feed_71 T Q th k18 l1 l2 l3 l4 l5 l6 t0 G → isO G th 1 → HI (twd D T Z) G0 s (rmX (twd D T Z) 0 0 G0) H locs cells slots G → LH ls 8 [(0, .inr (.inl th)), (1, .inl l1), (2, .inl l2), (3, .inl l3), (4, .inl l4), (5, .inl l5), (6, .inl l6)] → W p l e (rmX (twd D T Z) 0 0 G0) s m args below meth c H locs cells slots (MQX (twd D T Z) G0 (qI Q) (fun _ _ => False) below s) (F0 m 71 ls [.int t0]) := by
  intro l1 l2 l3 l4 l5 l6 t0 G H locs cells slots ls h hth I hl
  refine l_ist C dX1_feed_71 hl (by decide) rfl (fun ls hl => ?_)
  have hl : LH ls 8 [(7, .inl t0), (0, .inr (.inl th)), (1, .inl l1), (2, .inl l2), (3, .inl l3), (4, .inl l4), (5, .inl l5), (6, .inl l6)] := hl
  refine l_ald_n C dX1_feed_73 hl 1 rfl rfl ?_
  refine g_R C I fl_X1_59_1 (by decide) (by decide) hth dX1_feed_74 ?_
  refine l_ald_n C dX1_feed_77 hl 1 rfl rfl ?_
  refine g_I C I fl_X1_74_1 (by decide) (by decide) hth dX1_feed_78 ?_
  refine l_ild C dX1_feed_81 hl 7 rfl ?_
  refine lv_iadd C.1 C.2.1 dX1_feed_83 ?_
  refine l_ild C dX1_feed_84 hl 0 rfl ?_
  refine lv_bipush (v := 24) C.1 C.2.1 dX1_feed_86 (by decide) ?_
  refine lv_bipush (v := 8) C.1 C.2.1 dX1_feed_88 (by decide) ?_
  refine l_ild C dX1_feed_90 hl 7 rfl ?_
  refine lv_iconst (v := 4) C.1 C.2.1 dX1_feed_92 (by decide) ?_
  refine lv_irem C.1 C.2.1 dX1_feed_93 (by decide) ?_
  refine lv_imul C.1 C.2.1 dX1_feed_94 ?_
  refine lv_isub C.1 C.2.1 dX1_feed_95 ?_
  refine lv_ishr C.1 C.2.1 dX1_feed_96 ?_
  refine lv_i2b C.1 C.2.1 dX1_feed_97 rfl ?_
  obtain ⟨ho1, h⟩ := h
  obtain ⟨hi, h⟩ := h
  refine A_bast C I ho1 hi dX1_feed_98 (fun H locs G2 eG2 xG2 I => ?_)
  have h := h G2 eG2
  refine l_inc (q := 7) (v := 1) C dX1_feed_99 hl rfl (by decide) (by decide) rfl (fun ls hl => ?_)
  have hl : LH ls 8 [(6, .inl ((l6 + 1))), (7, .inl t0), (0, .inr (.inl th)), (1, .inl l1), (2, .inl l2), (3, .inl l3), (4, .inl l4), (5, .inl l5)] := hl
  refine lv_goto (tgt := 18) C.1 C.2.1 dX1_feed_102 (by decide) ?_
  exact hk18 l1 l2 l3 l4 l5 ((l6 + 1)) G2 _ _ _ _ _ h (hth.ext (by decide) xG2) I (hl.sub [2, 3, 4, 5, 6, 7, 0] rfl)
def w_X1_feed_18 (T : Nat → ClassId) (Q : Int32 → Hp → Prop) (th : Option Nat) : Nat → Int32 → Int32 → Int32 → Int32 → Int32 → Int32 → Hp → Prop
  | 0 => fun _ _ _ _ _ _ _ => False
  | f18 + 1 => fun l1 l2 l3 l4 l5 l6 G => (((20 : Int32) ≤ l6) → (∀ G1 : Hp, G1 = wI G (ad th) 5 ((gI G (ad th) 5 + (20 : Int32))) → Q (gI G1 (ad th) 5) G1)) ∧ ((¬ (20 : Int32) ≤ l6) → ((((4 : Int32) ≤ l6) → ((((8 : Int32) ≤ l6) → ((((12 : Int32) ≤ l6) → ((((16 : Int32) ≤ l6) → (w_X1_feed_71 T Q th (w_X1_feed_18 T Q th f18) l1 l2 l3 l4 l5 l6 l5 G)) ∧ ((¬ (16 : Int32) ≤ l6) → (w_X1_feed_71 T Q th (w_X1_feed_18 T Q th f18) l1 l2 l3 l4 l5 l6 l4 G)))) ∧ ((¬ (12 : Int32) ≤ l6) → (w_X1_feed_71 T Q th (w_X1_feed_18 T Q th f18) l1 l2 l3 l4 l5 l6 l3 G)))) ∧ ((¬ (8 : Int32) ≤ l6) → (w_X1_feed_71 T Q th (w_X1_feed_18 T Q th f18) l1 l2 l3 l4 l5 l6 l2 G)))) ∧ ((¬ (4 : Int32) ≤ l6) → (w_X1_feed_71 T Q th (w_X1_feed_18 T Q th f18) l1 l2 l3 l4 l5 l6 l1 G))))
set_option maxHeartbeats 4000000 in
theorem b_X1_feed_18 {G0 : Hp} {Q : Int32 → Hp → Prop} {th : Option Nat} (C : Cx p s m meth c D T Z "EndingTown" cX1_feed 8 (some .int)) : ∀ (n : Nat) (l1 : Int32) (l2 : Int32) (l3 : Int32) (l4 : Int32) (l5 : Int32) (l6 : Int32) (G : Hp) (H : Heap) (locs : List Loc) (cells slots : Nat) (ls : Array Slot), w_X1_feed_18 T Q th n l1 l2 l3 l4 l5 l6 G → isO G th 1 → HI (twd D T Z) G0 s (rmX (twd D T Z) 0 0 G0) H locs cells slots G → LH ls 8 [(0, .inr (.inl th)), (1, .inl l1), (2, .inl l2), (3, .inl l3), (4, .inl l4), (5, .inl l5), (6, .inl l6)] → W p l e (rmX (twd D T Z) 0 0 G0) s m args below meth c H locs cells slots (MQX (twd D T Z) G0 (qI Q) (fun _ _ => False) below s) (F0 m 18 ls []) := by
  intro f18
  induction f18 with
  | zero => intro l1 l2 l3 l4 l5 l6 G H locs cells slots ls h; exact (show False from h).elim
  | succ f18 ih =>
    intro l1 l2 l3 l4 l5 l6 G H locs cells slots ls h hth I hl
    have h : (((20 : Int32) ≤ l6) → (∀ G1 : Hp, G1 = wI G (ad th) 5 ((gI G (ad th) 5 + (20 : Int32))) → Q (gI G1 (ad th) 5) G1)) ∧ ((¬ (20 : Int32) ≤ l6) → ((((4 : Int32) ≤ l6) → ((((8 : Int32) ≤ l6) → ((((12 : Int32) ≤ l6) → ((((16 : Int32) ≤ l6) → (w_X1_feed_71 T Q th (w_X1_feed_18 T Q th f18) l1 l2 l3 l4 l5 l6 l5 G)) ∧ ((¬ (16 : Int32) ≤ l6) → (w_X1_feed_71 T Q th (w_X1_feed_18 T Q th f18) l1 l2 l3 l4 l5 l6 l4 G)))) ∧ ((¬ (12 : Int32) ≤ l6) → (w_X1_feed_71 T Q th (w_X1_feed_18 T Q th f18) l1 l2 l3 l4 l5 l6 l3 G)))) ∧ ((¬ (8 : Int32) ≤ l6) → (w_X1_feed_71 T Q th (w_X1_feed_18 T Q th f18) l1 l2 l3 l4 l5 l6 l2 G)))) ∧ ((¬ (4 : Int32) ≤ l6) → (w_X1_feed_71 T Q th (w_X1_feed_18 T Q th f18) l1 l2 l3 l4 l5 l6 l1 G)))) := h
    have hk18 := ih
    refine l_ild C dX1_feed_18 hl 6 rfl ?_
    refine lv_bipush (v := 20) C.1 C.2.1 dX1_feed_20 (by decide) ?_
    refine lv_icmp_ge (tgt := 105) C.1 C.2.1 dX1_feed_22 (by decide) (fun c6 => ?_) (fun c6 => ?_)
    · have h := h.1 c6
      refine l_ald_n C dX1_feed_105 hl 0 rfl rfl ?_
      refine lv_dup C.1 C.2.1 dX1_feed_106 (cat_rf _) ?_
      refine g_I C I fl_X1_74_1 (by decide) (by decide) hth dX1_feed_107 ?_
      refine lv_bipush (v := 20) C.1 C.2.1 dX1_feed_110 (by decide) ?_
      refine lv_iadd C.1 C.2.1 dX1_feed_112 ?_
      refine P_I C I fp_X1_74_1 (fun z => by cases z) (by decide) (by decide) hth dX1_feed_113 (fit_i _) (fun H locs G1 eG1 xG1 I => ?_)
      have h := h G1 eG1
      refine l_ald_n C dX1_feed_116 hl 0 rfl rfl ?_
      refine g_I C I fl_X1_74_1 (by decide) (by decide) (hth.ext (by decide) xG1) dX1_feed_117 ?_
      exact r_int C.1 C.2.1 C.2.2.2.2.2.1 rfl C.2.2.2.2.2.2 ⟨rfl, rfl⟩ I dX1_feed_120 ⟨_, rfl, h⟩
    · have h := h.2 c6
      refine l_ild C dX1_feed_25 hl 6 rfl ?_
      refine lv_iconst (v := 4) C.1 C.2.1 dX1_feed_27 (by decide) ?_
      refine lv_icmp_ge (tgt := 35) C.1 C.2.1 dX1_feed_28 (by decide) (fun c5 => ?_) (fun c5 => ?_)
      · have h := h.1 c5
        refine l_ild C dX1_feed_35 hl 6 rfl ?_
        refine lv_bipush (v := 8) C.1 C.2.1 dX1_feed_37 (by decide) ?_
        refine lv_icmp_ge (tgt := 46) C.1 C.2.1 dX1_feed_39 (by decide) (fun c4 => ?_) (fun c4 => ?_)
        · have h := h.1 c4
          refine l_ild C dX1_feed_46 hl 6 rfl ?_
          refine lv_bipush (v := 12) C.1 C.2.1 dX1_feed_48 (by decide) ?_
          refine lv_icmp_ge (tgt := 57) C.1 C.2.1 dX1_feed_50 (by decide) (fun c3 => ?_) (fun c3 => ?_)
          · have h := h.1 c3
            refine l_ild C dX1_feed_57 hl 6 rfl ?_
            refine lv_bipush (v := 16) C.1 C.2.1 dX1_feed_59 (by decide) ?_
            refine lv_icmp_ge (tgt := 69) C.1 C.2.1 dX1_feed_61 (by decide) (fun c2 => ?_) (fun c2 => ?_)
            · have h := h.1 c2
              refine l_ild C dX1_feed_69 hl 5 rfl ?_
              exact b_X1_feed_71 C hk18 l1 l2 l3 l4 l5 l6 l5 G _ _ _ _ _ h hth I (hl.sub [0, 1, 2, 3, 4, 5, 6] rfl)
            · have h := h.2 c2
              refine l_ild C dX1_feed_64 hl 4 rfl ?_
              refine lv_goto (tgt := 71) C.1 C.2.1 dX1_feed_66 (by decide) ?_
              exact b_X1_feed_71 C hk18 l1 l2 l3 l4 l5 l6 l4 G _ _ _ _ _ h hth I (hl.sub [0, 1, 2, 3, 4, 5, 6] rfl)
          · have h := h.2 c3
            refine l_ild_n C dX1_feed_53 hl 3 rfl rfl ?_
            refine lv_goto (tgt := 71) C.1 C.2.1 dX1_feed_54 (by decide) ?_
            exact b_X1_feed_71 C hk18 l1 l2 l3 l4 l5 l6 l3 G _ _ _ _ _ h hth I (hl.sub [0, 1, 2, 3, 4, 5, 6] rfl)
        · have h := h.2 c4
          refine l_ild_n C dX1_feed_42 hl 2 rfl rfl ?_
          refine lv_goto (tgt := 71) C.1 C.2.1 dX1_feed_43 (by decide) ?_
          exact b_X1_feed_71 C hk18 l1 l2 l3 l4 l5 l6 l2 G _ _ _ _ _ h hth I (hl.sub [0, 1, 2, 3, 4, 5, 6] rfl)
      · have h := h.2 c5
        refine l_ild_n C dX1_feed_31 hl 1 rfl rfl ?_
        refine lv_goto (tgt := 71) C.1 C.2.1 dX1_feed_32 (by decide) ?_
        exact b_X1_feed_71 C hk18 l1 l2 l3 l4 l5 l6 l1 G _ _ _ _ _ h hth I (hl.sub [0, 1, 2, 3, 4, 5, 6] rfl)
def w_X1_feed (T : Nat → ClassId) (Q : Int32 → Hp → Prop) (th : Option Nat) (p0 : Int32) (p1 : Int32) (p2 : Int32) (p3 : Int32) (p4 : Int32) (G : Hp) : Prop := isO G th 1 ∧ ((((gI G (ad th) 5 + (20 : Int32)) ≤ (800 : Int32)) → (∃ n, w_X1_feed_18 T Q th n p0 p1 p2 p3 p4 ((0 : Int32)) G)) ∧ ((¬ (gI G (ad th) 5 + (20 : Int32)) ≤ (800 : Int32)) → (Q ((-1 : Int32)) G)))
theorem pd_X1_feed : (parseMethodDescriptor yX1_feed.desc).map (fun d => d.parameters.length) = some 5 := by decide +kernel
set_option maxHeartbeats 4000000 in
theorem ct_X1_feed {l : Launch} {D : va_G} {T : Nat → ClassId} {Z : Heap} {G0 : Hp} {Q : Int32 → Hp → Prop} {th : Option Nat} {p0 : Int32} {p1 : Int32} {p2 : Int32} {p3 : Int32} {p4 : Int32} (hw : w_X1_feed T Q th p0 p1 p2 p3 p4 G0) : CT (twd D T Z) (Evd D T Z) l yX1_feed (Cond.code yX1_feed cX1_feed 8 (some .int)) 0 0 [va_rf th, .int p0, .int p1, .int p2, .int p3, .int p4] G0 (qI Q) (fun _ _ => False) := by
  refine CT.ofW (cc := cX1_feed) (nL := 8) (ret := (some .int)) Ext.rf (by decide) (Or.inl rfl) ?_
  intro p e s m below meth c hx hb hml hown hr hlk hnm hcb hm hc hn hE I
  have C : Cx p s m meth c D T Z "EndingTown" cX1_feed 8 (some .int) := ⟨hx, hb, hml, hown, hE, hr, hlk⟩
  refine w_entry [.inr (.inl th), .inl p0, .inl p1, .inl p2, .inl p3, .inl p4] (Nat.le_of_ble_eq_true rfl) (fun ls hl => ?_)
  have hl : LH ls 8 [(0, .inr (.inl th)), (1, .inl p0), (2, .inl p1), (3, .inl p2), (4, .inl p3), (5, .inl p4)] := hl
  obtain ⟨hth, h⟩ := hw
  refine l_ald_n C dX1_feed_0 hl 0 rfl rfl ?_
  refine g_I C I fl_X1_74_1 (by decide) (by decide) hth dX1_feed_1 ?_
  refine lv_bipush (v := 20) C.1 C.2.1 dX1_feed_4 (by decide) ?_
  refine lv_iadd C.1 C.2.1 dX1_feed_6 ?_
  refine lv_sipush (v := 800) C.1 C.2.1 dX1_feed_7 (by decide) ?_
  refine lv_icmp_le (tgt := 15) C.1 C.2.1 dX1_feed_10 (by decide) (fun c1 => ?_) (fun c1 => ?_)
  · have h := h.1 c1
    refine lv_iconst (v := 0) C.1 C.2.1 dX1_feed_15 (by decide) ?_
    refine l_ist C dX1_feed_16 hl (by decide) rfl (fun ls hl => ?_)
    have hl : LH ls 8 [(6, .inl ((0 : Int32))), (0, .inr (.inl th)), (1, .inl p0), (2, .inl p1), (3, .inl p2), (4, .inl p3), (5, .inl p4)] := hl
    obtain ⟨n, h⟩ := h
    exact b_X1_feed_18 C n p0 p1 p2 p3 p4 ((0 : Int32)) G0 _ _ _ _ _ h hth I (hl.sub [1, 2, 3, 4, 5, 6, 0] rfl)
  · have h := h.2 c1
    refine lv_iconst (v := (-1)) C.1 C.2.1 dX1_feed_13 (by decide) ?_
    exact r_int C.1 C.2.1 C.2.2.2.2.2.1 rfl C.2.2.2.2.2.2 ⟨rfl, rfl⟩ I dX1_feed_14 ⟨_, rfl, h⟩
def w_X1_fault (T : Nat → ClassId) (Q : Int32 → Hp → Prop) (th : Option Nat) (G : Hp) : Prop := isO G th 1 ∧ (Q (gI G (ad th) 6) G)
theorem pd_X1_fault : (parseMethodDescriptor yX1_fault.desc).map (fun d => d.parameters.length) = some 0 := by decide +kernel
set_option maxHeartbeats 4000000 in
theorem ct_X1_fault {l : Launch} {D : va_G} {T : Nat → ClassId} {Z : Heap} {G0 : Hp} {Q : Int32 → Hp → Prop} {th : Option Nat} (hw : w_X1_fault T Q th G0) : CT (twd D T Z) (Evd D T Z) l yX1_fault (Cond.code yX1_fault cX1_fault 1 (some .int)) 0 0 [va_rf th] G0 (qI Q) (fun _ _ => False) := by
  refine CT.ofW (cc := cX1_fault) (nL := 1) (ret := (some .int)) Ext.rf (by decide) (Or.inl rfl) ?_
  intro p e s m below meth c hx hb hml hown hr hlk hnm hcb hm hc hn hE I
  have C : Cx p s m meth c D T Z "EndingTown" cX1_fault 1 (some .int) := ⟨hx, hb, hml, hown, hE, hr, hlk⟩
  refine w_entry [.inr (.inl th)] (Nat.le_of_ble_eq_true rfl) (fun ls hl => ?_)
  have hl : LH ls 1 [(0, .inr (.inl th))] := hl
  obtain ⟨hth, h⟩ := hw
  refine l_ald_n C dX1_fault_0 hl 0 rfl rfl ?_
  refine g_I C I fl_X1_63_1 (by decide) (by decide) hth dX1_fault_1 ?_
  exact r_int C.1 C.2.1 C.2.2.2.2.2.1 rfl C.2.2.2.2.2.2 ⟨rfl, rfl⟩ I dX1_fault_4 ⟨_, rfl, h⟩
def w_J2_isEmpty_12 (T : Nat → ClassId) (Q : Int32 → Hp → Prop) (th : Option Nat) (t0 : Int32) (G : Hp) : Prop := bz t0 ∧ Q t0 G
set_option maxHeartbeats 4000000 in
theorem b_J2_isEmpty_12 {G0 : Hp} {Q : Int32 → Hp → Prop} {th : Option Nat} (C : Cx p s m meth c D T Z "java/util/ArrayList" cJ2_isEmpty 1 (some .boolean)) : ∀ (t0 : Int32) (G : Hp) (H : Heap) (locs : List Loc) (cells slots : Nat) (ls : Array Slot), w_J2_isEmpty_12 T Q th t0 G → isO G th 16 → HI (twd D T Z) G0 s (rmX (twd D T Z) 0 0 G0) H locs cells slots G → LH ls 1 [] → W p l e (rmX (twd D T Z) 0 0 G0) s m args below meth c H locs cells slots (MQX (twd D T Z) G0 (qI Q) (fun _ _ => False) below s) (F0 m 12 ls [.int t0]) := by
  intro t0 G H locs cells slots ls h hth I hl
  exact r_int C.1 C.2.1 C.2.2.2.2.2.1 h.1.n C.2.2.2.2.2.2 ⟨rfl, rfl⟩ I dJ2_isEmpty_12 ⟨_, rfl, h.2⟩
def w_J2_isEmpty (T : Nat → ClassId) (Q : Int32 → Hp → Prop) (th : Option Nat) (G : Hp) : Prop := isO G th 16 ∧ (((¬ gI G (ad th) 2 = 0) → (w_J2_isEmpty_12 T Q th ((0 : Int32)) G)) ∧ ((gI G (ad th) 2 = 0) → (w_J2_isEmpty_12 T Q th ((1 : Int32)) G)))
theorem pd_J2_isEmpty : (parseMethodDescriptor yJ2_isEmpty.desc).map (fun d => d.parameters.length) = some 0 := by decide +kernel
set_option maxHeartbeats 4000000 in
theorem ct_J2_isEmpty {l : Launch} {D : va_G} {T : Nat → ClassId} {Z : Heap} {G0 : Hp} {Q : Int32 → Hp → Prop} {th : Option Nat} (hw : w_J2_isEmpty T Q th G0) : CT (twd D T Z) (Evd D T Z) l yJ2_isEmpty (Cond.code yJ2_isEmpty cJ2_isEmpty 1 (some .boolean)) 0 0 [va_rf th] G0 (qI Q) (fun _ _ => False) := by
  refine CT.ofW (cc := cJ2_isEmpty) (nL := 1) (ret := (some .boolean)) Ext.rf (by decide +kernel) (Or.inl rfl) ?_
  intro p e s m below meth c hx hb hml hown hr hlk hnm hcb hm hc hn hE I
  have C : Cx p s m meth c D T Z "java/util/ArrayList" cJ2_isEmpty 1 (some .boolean) := ⟨hx, hb, hml, hown, hE, hr, hlk⟩
  refine w_entry [.inr (.inl th)] (Nat.le_of_ble_eq_true rfl) (fun ls hl => ?_)
  have hl : LH ls 1 [(0, .inr (.inl th))] := hl
  obtain ⟨hth, h⟩ := hw
  refine l_ald_n C dJ2_isEmpty_0 hl 0 rfl rfl ?_
  refine g_I C I fl_J2_48_16 (by decide) (by decide) hth dJ2_isEmpty_1 ?_
  refine lv_if_ne (tgt := 11) C.1 C.2.1 dJ2_isEmpty_4 (by decide) (fun c1 => ?_) (fun c1 => ?_)
  · have h := h.1 c1
    refine lv_iconst (v := 0) C.1 C.2.1 dJ2_isEmpty_11 (by decide) ?_
    exact b_J2_isEmpty_12 C ((0 : Int32)) G0 _ _ _ _ _ h hth I (hl.sub [] rfl)
  · have h := h.2 c1
    refine lv_iconst (v := 1) C.1 C.2.1 dJ2_isEmpty_7 (by decide) ?_
    refine lv_goto (tgt := 12) C.1 C.2.1 dJ2_isEmpty_8 (by decide) ?_
    exact b_J2_isEmpty_12 C ((1 : Int32)) G0 _ _ _ _ _ h hth I (hl.sub [] rfl)
def w_J10_checkIndex_9 (T : Nat → ClassId) (Q : Int32 → Hp → Prop) (l0 : Int32) (l1 : Int32) (l2 : Option Nat) (G : Hp) : Prop := False
set_option maxHeartbeats 4000000 in
theorem b_J10_checkIndex_9 {G0 : Hp} {Q : Int32 → Hp → Prop} (C : Cx p s m meth c D T Z "jdk/internal/util/Preconditions" cJ10_checkIndex 3 (some .int)) : ∀ (l0 : Int32) (l1 : Int32) (l2 : Option Nat) (G : Hp) (H : Heap) (locs : List Loc) (cells slots : Nat) (ls : Array Slot), w_J10_checkIndex_9 T Q l0 l1 l2 G → HI (twd D T Z) G0 s (rmX (twd D T Z) 0 0 G0) H locs cells slots G → LH ls 3 [(0, .inl l0), (1, .inl l1), (2, .inr (.inl l2))] → W p l e (rmX (twd D T Z) 0 0 G0) s m args below meth c H locs cells slots (MQX (twd D T Z) G0 (qI Q) (fun _ _ => False) below s) (F0 m 9 ls []) := by
  intro l0 l1 l2 G H locs cells slots ls h I hl
  refine l_ald_n C dJ10_checkIndex_9 hl 2 rfl rfl ?_
  refine l_ild_n C dJ10_checkIndex_10 hl 0 rfl rfl ?_
  refine l_ild_n C dJ10_checkIndex_11 hl 1 rfl rfl ?_
  exact h.elim
def w_J10_checkIndex (T : Nat → ClassId) (Q : Int32 → Hp → Prop) (p0 : Int32) (p1 : Int32) (p2 : Option Nat) (G : Hp) : Prop := (((p0 < 0) → (w_J10_checkIndex_9 T Q p0 p1 p2 G)) ∧ ((¬ p0 < 0) → (((p0 < p1) → (Q p0 G)) ∧ ((¬ p0 < p1) → (w_J10_checkIndex_9 T Q p0 p1 p2 G)))))
theorem pd_J10_checkIndex : (parseMethodDescriptor yJ10_checkIndex.desc).map (fun d => d.parameters.length) = some 3 := by decide +kernel
set_option maxHeartbeats 4000000 in
theorem ct_J10_checkIndex {l : Launch} {D : va_G} {T : Nat → ClassId} {Z : Heap} {G0 : Hp} {Q : Int32 → Hp → Prop} {p0 : Int32} {p1 : Int32} {p2 : Option Nat} (hw : w_J10_checkIndex T Q p0 p1 p2 G0) : CT (twd D T Z) (Evd D T Z) l yJ10_checkIndex (Cond.code yJ10_checkIndex cJ10_checkIndex 3 (some .int)) 0 0 [.int p0, .int p1, va_rf p2] G0 (qI Q) (fun _ _ => False) := by
  refine CT.ofW (cc := cJ10_checkIndex) (nL := 3) (ret := (some .int)) Ext.rf (by decide +kernel) (Or.inl rfl) ?_
  intro p e s m below meth c hx hb hml hown hr hlk hnm hcb hm hc hn hE I
  have C : Cx p s m meth c D T Z "jdk/internal/util/Preconditions" cJ10_checkIndex 3 (some .int) := ⟨hx, hb, hml, hown, hE, hr, hlk⟩
  refine w_entry [.inl p0, .inl p1, .inr (.inl p2)] (Nat.le_of_ble_eq_true rfl) (fun ls hl => ?_)
  have hl : LH ls 3 [(0, .inl p0), (1, .inl p1), (2, .inr (.inl p2))] := hl
  have h := hw
  refine l_ild_n C dJ10_checkIndex_0 hl 0 rfl rfl ?_
  refine lv_if_lt (tgt := 9) C.1 C.2.1 dJ10_checkIndex_1 (by decide) (fun c2 => ?_) (fun c2 => ?_)
  · have h := h.1 c2
    exact b_J10_checkIndex_9 C p0 p1 p2 G0 _ _ _ _ _ h I (hl.sub [0, 1, 2] rfl)
  · have h := h.2 c2
    refine l_ild_n C dJ10_checkIndex_4 hl 0 rfl rfl ?_
    refine l_ild_n C dJ10_checkIndex_5 hl 1 rfl rfl ?_
    refine lv_icmp_lt (tgt := 16) C.1 C.2.1 dJ10_checkIndex_6 (by decide) (fun c1 => ?_) (fun c1 => ?_)
    · have h := h.1 c1
      refine l_ild_n C dJ10_checkIndex_16 hl 0 rfl rfl ?_
      exact r_int C.1 C.2.1 C.2.2.2.2.2.1 rfl C.2.2.2.2.2.2 ⟨rfl, rfl⟩ I dJ10_checkIndex_17 ⟨_, rfl, h⟩
    · have h := h.2 c1
      exact b_J10_checkIndex_9 C p0 p1 p2 G0 _ _ _ _ _ h I (hl.sub [0, 1, 2] rfl)
def w_J12_checkIndex (T : Nat → ClassId) (Q : Int32 → Hp → Prop) (p0 : Int32) (p1 : Int32) (G : Hp) : Prop := (w_J10_checkIndex T (fun r2 G1 => Ext G G1 → Q r2 G1) p0 p1 none G)
theorem pd_J12_checkIndex : (parseMethodDescriptor yJ12_checkIndex.desc).map (fun d => d.parameters.length) = some 2 := by decide +kernel
set_option maxHeartbeats 4000000 in
theorem ct_J12_checkIndex {l : Launch} {D : va_G} {T : Nat → ClassId} {Z : Heap} {G0 : Hp} {Q : Int32 → Hp → Prop} {p0 : Int32} {p1 : Int32} (hw : w_J12_checkIndex T Q p0 p1 G0) : CT (twd D T Z) (Evd D T Z) l yJ12_checkIndex (Cond.code yJ12_checkIndex cJ12_checkIndex 2 (some .int)) 1 22 [.int p0, .int p1] G0 (qI Q) (fun _ _ => False) := by
  refine CT.ofW (cc := cJ12_checkIndex) (nL := 2) (ret := (some .int)) Ext.rf (by decide +kernel) (Or.inl rfl) ?_
  intro p e s m below meth c hx hb hml hown hr hlk hnm hcb hm hc hn hE I
  have C : Cx p s m meth c D T Z "java/util/Objects" cJ12_checkIndex 2 (some .int) := ⟨hx, hb, hml, hown, hE, hr, hlk⟩
  refine w_entry [.inl p0, .inl p1] (Nat.le_of_ble_eq_true rfl) (fun ls hl => ?_)
  have hl : LH ls 2 [(0, .inl p0), (1, .inl p1)] := hl
  have h := hw
  refine l_ild_n C dJ12_checkIndex_0 hl 0 rfl rfl ?_
  refine l_ild_n C dJ12_checkIndex_1 hl 1 rfl rfl ?_
  refine l_null C dJ12_checkIndex_2 ?_
  refine k_call Ext.tr C I (k_S (As := [.int p0, .int p1, va_rf none]) (rest := []) (y := yJ10_checkIndex) C q444 q445 q122 (Or.inl rfl) q446 (by decide) rfl pd_J10_checkIndex rfl dJ12_checkIndex_3) (ct_J10_checkIndex h) hl.1 dJ12_checkIndex_3 [] rfl (Nat.le_of_ble_eq_true rfl) (Or.inl rfl) q446 q122 ⟨Nat.le_of_ble_eq_true rfl, Nat.le_of_ble_eq_true rfl⟩ (fun v G1 H locs cells slots xG1 hq I => ?_) (fun a G9 H locs cells slots ex hq I => hq.elim)
  obtain ⟨r2, rfl, h⟩ := hq
  have h := h xG1
  exact r_int C.1 C.2.1 C.2.2.2.2.2.1 rfl C.2.2.2.2.2.2 ⟨rfl, rfl⟩ I dJ12_checkIndex_6 ⟨_, rfl, h⟩
def w_J2_fastRemove_34 (T : Nat → ClassId) (Q : Hp → Prop) (th : Option Nat) (l1 : Option Nat) (l3 : Int32) (G : Hp) : Prop := ∀ G1 : Hp, G1 = wI G (ad th) 2 l3 → isO G1 l1 54 ∧ vp_in l3 (gN G1 (ad l1)) ∧ okA G1 54 none ∧ ∀ G3 : Hp, G3 = wR G1 (ad l1) l3.toNatClampNeg none → Q G3
set_option maxHeartbeats 4000000 in
theorem b_J2_fastRemove_34 {G0 : Hp} {Q : Hp → Prop} {th : Option Nat} (C : Cx p s m meth c D T Z "java/util/ArrayList" cJ2_fastRemove 4 none) : ∀ (l1 : Option Nat) (l3 : Int32) (G : Hp) (H : Heap) (locs : List Loc) (cells slots : Nat) (ls : Array Slot), w_J2_fastRemove_34 T Q th l1 l3 G → isO G th 16 → HI (twd D T Z) G0 s (rmX (twd D T Z) 0 0 G0) H locs cells slots G → LH ls 4 [(0, .inr (.inl th)), (1, .inr (.inl l1)), (3, .inl l3)] → W p l e (rmX (twd D T Z) 0 0 G0) s m args below meth c H locs cells slots (MQX (twd D T Z) G0 (qV Q) (fun _ _ => False) below s) (F0 m 34 ls []) := by
  intro l1 l3 G H locs cells slots ls h hth I hl
  refine l_ald_n C dJ2_fastRemove_34 hl 1 rfl rfl ?_
  refine l_ald_n C dJ2_fastRemove_35 hl 0 rfl rfl ?_
  refine l_ild_n C dJ2_fastRemove_36 hl 2 rfl rfl ?_
  refine lv_dup_x1 C.1 C.2.1 dJ2_fastRemove_37 rfl (cat_rf _) ?_
  refine P_I C I fp_J2_48_16 (fun z => by cases z) (by decide) (by decide) hth dJ2_fastRemove_38 (fit_i _) (fun H locs G1 eG1 xG1 I => ?_)
  have h := h G1 eG1
  refine l_null C dJ2_fastRemove_41 ?_
  obtain ⟨ho2, h⟩ := h
  obtain ⟨hi, h⟩ := h
  obtain ⟨hok, h⟩ := h
  refine A_aast C I ho2 (by decide) rfl hok hi dJ2_fastRemove_42 (fun H locs G3 eG3 xG3 I => ?_)
  have h := h G3 eG3
  exact r_void C.1 C.2.1 C.2.2.2.2.2.1 C.2.2.2.2.2.2 ⟨rfl, rfl⟩ I dJ2_fastRemove_43 ⟨rfl, h⟩
def w_J2_fastRemove (T : Nat → ClassId) (Q : Hp → Prop) (th : Option Nat) (p0 : Option Nat) (p1 : Int32) (G : Hp) : Prop := isO G th 16 ∧ (∀ G1 : Hp, G1 = wI G (ad th) 0 ((gI G (ad th) 0 + (1 : Int32))) → (((gI G1 (ad th) 2 - (1 : Int32)) ≤ p1) → (w_J2_fastRemove_34 T Q th p0 ((gI G1 (ad th) 2 - (1 : Int32))) G1)) ∧ ((¬ (gI G1 (ad th) 2 - (1 : Int32)) ≤ p1) → (False)))
theorem pd_J2_fastRemove : (parseMethodDescriptor yJ2_fastRemove.desc).map (fun d => d.parameters.length) = some 2 := by decide +kernel
set_option maxHeartbeats 4000000 in
theorem ct_J2_fastRemove {l : Launch} {D : va_G} {T : Nat → ClassId} {Z : Heap} {G0 : Hp} {Q : Hp → Prop} {th : Option Nat} {p0 : Option Nat} {p1 : Int32} (hw : w_J2_fastRemove T Q th p0 p1 G0) : CT (twd D T Z) (Evd D T Z) l yJ2_fastRemove (Cond.code yJ2_fastRemove cJ2_fastRemove 4 none) 0 0 [va_rf th, va_rf p0, .int p1] G0 (qV Q) (fun _ _ => False) := by
  refine CT.ofW (cc := cJ2_fastRemove) (nL := 4) (ret := none) Ext.rf (by decide +kernel) (Or.inl rfl) ?_
  intro p e s m below meth c hx hb hml hown hr hlk hnm hcb hm hc hn hE I
  have C : Cx p s m meth c D T Z "java/util/ArrayList" cJ2_fastRemove 4 none := ⟨hx, hb, hml, hown, hE, hr, hlk⟩
  refine w_entry [.inr (.inl th), .inr (.inl p0), .inl p1] (Nat.le_of_ble_eq_true rfl) (fun ls hl => ?_)
  have hl : LH ls 4 [(0, .inr (.inl th)), (1, .inr (.inl p0)), (2, .inl p1)] := hl
  obtain ⟨hth, h⟩ := hw
  refine l_ald_n C dJ2_fastRemove_0 hl 0 rfl rfl ?_
  refine lv_dup C.1 C.2.1 dJ2_fastRemove_1 (cat_rf _) ?_
  refine g_I C I fl_J2_63_16 (by decide) (by decide) hth dJ2_fastRemove_2 ?_
  refine lv_iconst (v := 1) C.1 C.2.1 dJ2_fastRemove_5 (by decide) ?_
  refine lv_iadd C.1 C.2.1 dJ2_fastRemove_6 ?_
  refine P_I C I fp_J2_63_16 (fun z => by cases z) (by decide) (by decide) hth dJ2_fastRemove_7 (fit_i _) (fun H locs G1 eG1 xG1 I => ?_)
  have h := h G1 eG1
  refine l_ald_n C dJ2_fastRemove_10 hl 0 rfl rfl ?_
  refine g_I C I fl_J2_48_16 (by decide) (by decide) (hth.ext (by decide) xG1) dJ2_fastRemove_11 ?_
  refine lv_iconst (v := 1) C.1 C.2.1 dJ2_fastRemove_14 (by decide) ?_
  refine lv_isub C.1 C.2.1 dJ2_fastRemove_15 ?_
  refine lv_dup C.1 C.2.1 dJ2_fastRemove_16 rfl ?_
  refine l_ist_n C dJ2_fastRemove_17 rfl hl (by decide) rfl (fun ls hl => ?_)
  have hl : LH ls 4 [(3, .inl ((gI G1 (ad th) 2 - (1 : Int32)))), (0, .inr (.inl th)), (1, .inr (.inl p0)), (2, .inl p1)] := hl
  refine l_ild_n C dJ2_fastRemove_18 hl 3 rfl rfl ?_
  refine lv_icmp_le (tgt := 34) C.1 C.2.1 dJ2_fastRemove_19 (by decide) (fun c2 => ?_) (fun c2 => ?_)
  · have h := h.1 c2
    exact b_J2_fastRemove_34 C p0 ((gI G1 (ad th) 2 - (1 : Int32))) G1 _ _ _ _ _ h (hth.ext (by decide) xG1) I (hl.sub [1, 2, 0] rfl)
  · have h := h.2 c2
    refine l_ald_n C dJ2_fastRemove_22 hl 2 rfl rfl ?_
    refine l_ild_n C dJ2_fastRemove_23 hl 3 rfl rfl ?_
    refine lv_iconst (v := 1) C.1 C.2.1 dJ2_fastRemove_24 (by decide) ?_
    refine lv_iadd C.1 C.2.1 dJ2_fastRemove_25 ?_
    refine l_ald_n C dJ2_fastRemove_26 hl 2 rfl rfl ?_
    refine l_ild_n C dJ2_fastRemove_27 hl 3 rfl rfl ?_
    refine l_ild_n C dJ2_fastRemove_28 hl 0 rfl rfl ?_
    refine l_ild_n C dJ2_fastRemove_29 hl 3 rfl rfl ?_
    refine lv_isub C.1 C.2.1 dJ2_fastRemove_30 ?_
    exact h.elim
def w_J2_remove (T : Nat → ClassId) (Q : Option Nat → Hp → Prop) (th : Option Nat) (p0 : Int32) (G : Hp) : Prop := isO G th 16 ∧ (w_J12_checkIndex T (fun r2 G1 => Ext G G1 → isO G1 (gR G1 (ad th) 1) 54 ∧ vp_in p0 (gN G1 (ad (gR G1 (ad th) 1))) ∧ w_J2_fastRemove T (fun G4 => Ext G1 G4 → Q (gR G1 (ad (gR G1 (ad th) 1)) p0.toNatClampNeg) G4) th (gR G1 (ad th) 1) p0 G1) p0 (gI G (ad th) 2) G)
theorem pd_J2_remove : (parseMethodDescriptor yJ2_remove.desc).map (fun d => d.parameters.length) = some 1 := by decide +kernel
set_option maxHeartbeats 4000000 in
theorem ct_J2_remove {l : Launch} {D : va_G} {T : Nat → ClassId} {Z : Heap} {G0 : Hp} {Q : Option Nat → Hp → Prop} {th : Option Nat} {p0 : Int32} (hw : w_J2_remove T Q th p0 G0) : CT (twd D T Z) (Evd D T Z) l yJ2_remove (Cond.code yJ2_remove cJ2_remove 4 (some (.object "java/lang/Object"))) 2 43 [va_rf th, .int p0] G0 (qR Q) (fun _ _ => False) := by
  refine CT.ofW (cc := cJ2_remove) (nL := 4) (ret := (some (.object "java/lang/Object"))) Ext.rf (by decide +kernel) (Or.inl rfl) ?_
  intro p e s m below meth c hx hb hml hown hr hlk hnm hcb hm hc hn hE I
  have C : Cx p s m meth c D T Z "java/util/ArrayList" cJ2_remove 4 (some (.object "java/lang/Object")) := ⟨hx, hb, hml, hown, hE, hr, hlk⟩
  refine w_entry [.inr (.inl th), .inl p0] (Nat.le_of_ble_eq_true rfl) (fun ls hl => ?_)
  have hl : LH ls 4 [(0, .inr (.inl th)), (1, .inl p0)] := hl
  obtain ⟨hth, h⟩ := hw
  refine l_ild_n C dJ2_remove_0 hl 1 rfl rfl ?_
  refine l_ald_n C dJ2_remove_1 hl 0 rfl rfl ?_
  refine g_I C I fl_J2_48_16 (by decide) (by decide) hth dJ2_remove_2 ?_
  refine k_call Ext.tr C I (k_S (As := [.int p0, .int (gI G0 (ad th) 2)]) (rest := []) (y := yJ12_checkIndex) C q441 q442 q126 (Or.inl rfl) q443 (by decide) rfl pd_J12_checkIndex rfl dJ2_remove_5) (ct_J12_checkIndex h) hl.1 dJ2_remove_5 [] rfl (Nat.le_of_ble_eq_true rfl) (Or.inl rfl) q443 q126 ⟨Nat.le_of_ble_eq_true rfl, Nat.le_of_ble_eq_true rfl⟩ (fun v G1 H locs cells slots xG1 hq I => ?_) (fun a G9 H locs cells slots ex hq I => hq.elim)
  obtain ⟨r2, rfl, h⟩ := hq
  have h := h xG1
  refine lv_pop C.1 C.2.1 dJ2_remove_8 rfl ?_
  refine l_ald_n C dJ2_remove_9 hl 0 rfl rfl ?_
  refine g_R C I fl_J2_9_16 (by decide) (by decide) (hth.ext (by decide) xG1) dJ2_remove_10 ?_
  refine l_ast_n C dJ2_remove_13 rfl hl (by decide) rfl (fun ls hl => ?_)
  have hl : LH ls 4 [(2, .inr (.inl (gR G1 (ad th) 1))), (0, .inr (.inl th)), (1, .inl p0)] := hl
  refine l_ald_n C dJ2_remove_14 hl 0 rfl rfl ?_
  refine l_ild_n C dJ2_remove_15 hl 2 rfl rfl ?_
  obtain ⟨ho3, h⟩ := h
  obtain ⟨hi, h⟩ := h
  refine a_aald C I ho3 (by decide) hi dJ2_remove_16 ?_
  refine l_ast_n C dJ2_remove_17 rfl hl (by decide) rfl (fun ls hl => ?_)
  have hl : LH ls 4 [(3, .inr (.inl (gR G1 (ad (gR G1 (ad th) 1)) p0.toNatClampNeg))), (2, .inr (.inl (gR G1 (ad th) 1))), (0, .inr (.inl th)), (1, .inl p0)] := hl
  refine l_ald_n C dJ2_remove_18 hl 2 rfl rfl ?_
  refine l_ald_n C dJ2_remove_19 hl 1 rfl rfl ?_
  refine l_ild_n C dJ2_remove_20 hl 3 rfl rfl ?_
  refine k_call Ext.tr C I (k_V (r := th) (As := [va_rf (gR G1 (ad th) 1), .int p0]) (rest := []) (y := yJ2_fastRemove) C ⟨(hth.ext (by decide) xG1).ad.1, I.recv C.2.2.2.2.1 (hth.ext (by decide) xG1) (by decide)⟩ q447 q449 qs0 (Or.inl rfl) q450 (by decide) rfl pd_J2_fastRemove rfl dJ2_remove_21) (ct_J2_fastRemove h) hl.1 dJ2_remove_21 [] rfl (Nat.le_of_ble_eq_true rfl) (Or.inl rfl) q450 q104 ⟨Nat.le_of_ble_eq_true rfl, Nat.le_of_ble_eq_true rfl⟩ (fun v G4 H locs cells slots xG4 hq I => ?_) (fun a G9 H locs cells slots ex hq I => hq.elim)
  obtain ⟨rfl, h⟩ := hq
  have h := h xG4
  refine l_ald_n C dJ2_remove_24 hl 0 rfl rfl ?_
  exact r_ref C.1 C.2.1 C.2.2.2.2.2.1 (Or.inl ⟨_, rfl⟩) C.2.2.2.2.2.2 ⟨rfl, rfl⟩ I dJ2_remove_25 ⟨_, rfl, h⟩
def w_J2_size (T : Nat → ClassId) (Q : Int32 → Hp → Prop) (th : Option Nat) (G : Hp) : Prop := isO G th 16 ∧ (Q (gI G (ad th) 2) G)
theorem pd_J2_size : (parseMethodDescriptor yJ2_size.desc).map (fun d => d.parameters.length) = some 0 := by decide +kernel
set_option maxHeartbeats 4000000 in
theorem ct_J2_size {l : Launch} {D : va_G} {T : Nat → ClassId} {Z : Heap} {G0 : Hp} {Q : Int32 → Hp → Prop} {th : Option Nat} (hw : w_J2_size T Q th G0) : CT (twd D T Z) (Evd D T Z) l yJ2_size (Cond.code yJ2_size cJ2_size 1 (some .int)) 0 0 [va_rf th] G0 (qI Q) (fun _ _ => False) := by
  refine CT.ofW (cc := cJ2_size) (nL := 1) (ret := (some .int)) Ext.rf (by decide +kernel) (Or.inl rfl) ?_
  intro p e s m below meth c hx hb hml hown hr hlk hnm hcb hm hc hn hE I
  have C : Cx p s m meth c D T Z "java/util/ArrayList" cJ2_size 1 (some .int) := ⟨hx, hb, hml, hown, hE, hr, hlk⟩
  refine w_entry [.inr (.inl th)] (Nat.le_of_ble_eq_true rfl) (fun ls hl => ?_)
  have hl : LH ls 1 [(0, .inr (.inl th))] := hl
  obtain ⟨hth, h⟩ := hw
  refine l_ald_n C dJ2_size_0 hl 0 rfl rfl ?_
  refine g_I C I fl_J2_48_16 (by decide) (by decide) hth dJ2_size_1 ?_
  exact r_int C.1 C.2.1 C.2.2.2.2.2.1 rfl C.2.2.2.2.2.2 ⟨rfl, rfl⟩ I dJ2_size_4 ⟨_, rfl, h⟩
def w_X1_unsay (T : Nat → ClassId) (Q : Int32 → Hp → Prop) (th : Option Nat) (G : Hp) : Prop := isO G th 1 ∧ (isO G (gR G (ad th) 1) 16 ∧ w_J2_isEmpty T (fun r2 G1 => Ext G G1 → ((r2 = 0) → (isO G1 (gR G1 (ad th) 1) 16 ∧ w_J2_size T (fun r4 G3 => Ext G1 G3 → isO G3 (gR G1 (ad th) 1) 16 ∧ w_J2_remove T (fun r6 G5 => Ext G3 G5 → isO G5 (gR G5 (ad th) 1) 16 ∧ w_J2_size T (fun r8 G7 => Ext G5 G7 → Q r8 G7) (gR G5 (ad th) 1) G5) (gR G1 (ad th) 1) ((r4 - (1 : Int32))) G3) (gR G1 (ad th) 1) G1)) ∧ ((¬ r2 = 0) → (Q ((-1 : Int32)) G1))) (gR G (ad th) 1) G)
theorem pd_X1_unsay : (parseMethodDescriptor yX1_unsay.desc).map (fun d => d.parameters.length) = some 0 := by decide +kernel
set_option maxHeartbeats 4000000 in
theorem ct_X1_unsay {l : Launch} {D : va_G} {T : Nat → ClassId} {Z : Heap} {G0 : Hp} {Q : Int32 → Hp → Prop} {th : Option Nat} (hw : w_X1_unsay T Q th G0) : CT (twd D T Z) (Evd D T Z) l yX1_unsay (Cond.code yX1_unsay cX1_unsay 1 (some .int)) 3 66 [va_rf th] G0 (qI Q) (fun _ _ => False) := by
  refine CT.ofW (cc := cX1_unsay) (nL := 1) (ret := (some .int)) Ext.rf (by decide) (Or.inl rfl) ?_
  intro p e s m below meth c hx hb hml hown hr hlk hnm hcb hm hc hn hE I
  have C : Cx p s m meth c D T Z "EndingTown" cX1_unsay 1 (some .int) := ⟨hx, hb, hml, hown, hE, hr, hlk⟩
  refine w_entry [.inr (.inl th)] (Nat.le_of_ble_eq_true rfl) (fun ls hl => ?_)
  have hl : LH ls 1 [(0, .inr (.inl th))] := hl
  obtain ⟨hth, h⟩ := hw
  refine l_ald_n C dX1_unsay_0 hl 0 rfl rfl ?_
  refine g_R C I fl_X1_25_1 (by decide) (by decide) hth dX1_unsay_1 ?_
  obtain ⟨ho13, h⟩ := h
  refine k_call Ext.tr C I (k_F (kd := 16) (r := gR G0 (ad th) 1) (As := []) (rest := []) (y := yJ2_isEmpty) (x := ⟨"java/util/List", "isEmpty", "()Z"⟩) C (by decide) ⟨ho13.ad.1, I.recv C.2.2.2.2.1 ho13 (by decide)⟩ q414 (by decide) q416 q415 q421 q419 q417 q418 q420 rfl pd_J2_isEmpty rfl dX1_unsay_4) (ct_J2_isEmpty h) hl.1 dX1_unsay_4 [] rfl (Nat.le_of_ble_eq_true rfl) (Or.inl rfl) q422 q104 ⟨Nat.le_of_ble_eq_true rfl, Nat.le_of_ble_eq_true rfl⟩ (fun v G1 H locs cells slots xG1 hq I => ?_) (fun a G9 H locs cells slots ex hq I => hq.elim)
  obtain ⟨r2, rfl, h⟩ := hq
  have h := h xG1
  refine lv_if_eq (tgt := 14) C.1 C.2.1 dX1_unsay_9 (by decide) (fun c12 => ?_) (fun c12 => ?_)
  · have h := h.1 c12
    refine l_ald_n C dX1_unsay_14 hl 0 rfl rfl ?_
    refine g_R C I fl_X1_25_1 (by decide) (by decide) (hth.ext (by decide) xG1) dX1_unsay_15 ?_
    refine l_ald_n C dX1_unsay_18 hl 0 rfl rfl ?_
    refine g_R C I fl_X1_25_1 (by decide) (by decide) (hth.ext (by decide) xG1) dX1_unsay_19 ?_
    obtain ⟨ho11, h⟩ := h
    refine k_call Ext.tr C I (k_F (kd := 16) (r := gR G1 (ad th) 1) (As := []) (rest := [va_rf (gR G1 (ad th) 1)]) (y := yJ2_size) (x := ⟨"java/util/List", "size", "()I"⟩) C (by decide) ⟨ho11.ad.1, I.recv C.2.2.2.2.1 ho11 (by decide)⟩ q424 (by decide) q426 q425 q430 q428 q417 q427 q429 rfl pd_J2_size rfl dX1_unsay_22) (ct_J2_size h) hl.1 dX1_unsay_22 [.inr (.inl (gR G1 (ad th) 1))] rfl (Nat.le_of_ble_eq_true rfl) (Or.inl rfl) q431 q104 ⟨Nat.le_of_ble_eq_true rfl, Nat.le_of_ble_eq_true rfl⟩ (fun v G3 H locs cells slots xG3 hq I => ?_) (fun a G9 H locs cells slots ex hq I => hq.elim)
    obtain ⟨r4, rfl, h⟩ := hq
    have h := h xG3
    refine lv_iconst (v := 1) C.1 C.2.1 dX1_unsay_27 (by decide) ?_
    refine lv_isub C.1 C.2.1 dX1_unsay_28 ?_
    obtain ⟨ho10, h⟩ := h
    refine k_call Ext.tr C I (k_F (kd := 16) (r := gR G1 (ad th) 1) (As := [.int ((r4 - (1 : Int32)))]) (rest := []) (y := yJ2_remove) (x := ⟨"java/util/List", "remove", "(I)Ljava/lang/Object;"⟩) C (by decide) ⟨ho10.ad.1, I.recv C.2.2.2.2.1 ho10 (by decide)⟩ q433 (by decide) q435 q434 q439 q437 q417 q436 q438 rfl pd_J2_remove rfl dX1_unsay_29) (ct_J2_remove h) hl.1 dX1_unsay_29 [] rfl (Nat.le_of_ble_eq_true rfl) (Or.inl rfl) q440 q104 ⟨Nat.le_of_ble_eq_true rfl, Nat.le_of_ble_eq_true rfl⟩ (fun v G5 H locs cells slots xG5 hq I => ?_) (fun a G9 H locs cells slots ex hq I => hq.elim)
    obtain ⟨r6, rfl, h⟩ := hq
    have h := h xG5
    refine lv_pop C.1 C.2.1 dX1_unsay_34 (cat_rf _) ?_
    refine l_ald_n C dX1_unsay_35 hl 0 rfl rfl ?_
    refine g_R C I fl_X1_25_1 (by decide) (by decide) (hth.ext (by decide) (Ext.tr _ _ _ xG1 (Ext.tr _ _ _ xG3 xG5))) dX1_unsay_36 ?_
    obtain ⟨ho9, h⟩ := h
    refine k_call Ext.tr C I (k_F (kd := 16) (r := gR G5 (ad th) 1) (As := []) (rest := []) (y := yJ2_size) (x := ⟨"java/util/List", "size", "()I"⟩) C (by decide) ⟨ho9.ad.1, I.recv C.2.2.2.2.1 ho9 (by decide)⟩ q424 (by decide) q426 q425 q430 q428 q417 q427 q429 rfl pd_J2_size rfl dX1_unsay_39) (ct_J2_size h) hl.1 dX1_unsay_39 [] rfl (Nat.le_of_ble_eq_true rfl) (Or.inl rfl) q431 q104 ⟨Nat.le_of_ble_eq_true rfl, Nat.le_of_ble_eq_true rfl⟩ (fun v G7 H locs cells slots xG7 hq I => ?_) (fun a G9 H locs cells slots ex hq I => hq.elim)
    obtain ⟨r8, rfl, h⟩ := hq
    have h := h xG7
    exact r_int C.1 C.2.1 C.2.2.2.2.2.1 rfl C.2.2.2.2.2.2 ⟨rfl, rfl⟩ I dX1_unsay_44 ⟨_, rfl, h⟩
  · have h := h.2 c12
    refine lv_iconst (v := (-1)) C.1 C.2.1 dX1_unsay_12 (by decide) ?_
    exact r_int C.1 C.2.1 C.2.2.2.2.2.1 rfl C.2.2.2.2.2.2 ⟨rfl, rfl⟩ I dX1_unsay_13 ⟨_, rfl, h⟩
def w_J15_bitCount (T : Nat → ClassId) (Q : Int32 → Hp → Prop) (p0 : Int32) (G : Hp) : Prop := (Q (((((((((p0 - ((p0.toUInt32 >>> (((1 : Int32)).toUInt32 &&& Int32.toUInt32 31)).toInt32 &&& (1431655765 : Int32))) &&& (858993459 : Int32)) + ((((p0 - ((p0.toUInt32 >>> (((1 : Int32)).toUInt32 &&& Int32.toUInt32 31)).toInt32 &&& (1431655765 : Int32)))).toUInt32 >>> (((2 : Int32)).toUInt32 &&& Int32.toUInt32 31)).toInt32 &&& (858993459 : Int32))) + (((((p0 - ((p0.toUInt32 >>> (((1 : Int32)).toUInt32 &&& Int32.toUInt32 31)).toInt32 &&& (1431655765 : Int32))) &&& (858993459 : Int32)) + ((((p0 - ((p0.toUInt32 >>> (((1 : Int32)).toUInt32 &&& Int32.toUInt32 31)).toInt32 &&& (1431655765 : Int32)))).toUInt32 >>> (((2 : Int32)).toUInt32 &&& Int32.toUInt32 31)).toInt32 &&& (858993459 : Int32)))).toUInt32 >>> (((4 : Int32)).toUInt32 &&& Int32.toUInt32 31)).toInt32) &&& (252645135 : Int32)) + (((((((p0 - ((p0.toUInt32 >>> (((1 : Int32)).toUInt32 &&& Int32.toUInt32 31)).toInt32 &&& (1431655765 : Int32))) &&& (858993459 : Int32)) + ((((p0 - ((p0.toUInt32 >>> (((1 : Int32)).toUInt32 &&& Int32.toUInt32 31)).toInt32 &&& (1431655765 : Int32)))).toUInt32 >>> (((2 : Int32)).toUInt32 &&& Int32.toUInt32 31)).toInt32 &&& (858993459 : Int32))) + (((((p0 - ((p0.toUInt32 >>> (((1 : Int32)).toUInt32 &&& Int32.toUInt32 31)).toInt32 &&& (1431655765 : Int32))) &&& (858993459 : Int32)) + ((((p0 - ((p0.toUInt32 >>> (((1 : Int32)).toUInt32 &&& Int32.toUInt32 31)).toInt32 &&& (1431655765 : Int32)))).toUInt32 >>> (((2 : Int32)).toUInt32 &&& Int32.toUInt32 31)).toInt32 &&& (858993459 : Int32)))).toUInt32 >>> (((4 : Int32)).toUInt32 &&& Int32.toUInt32 31)).toInt32) &&& (252645135 : Int32))).toUInt32 >>> (((8 : Int32)).toUInt32 &&& Int32.toUInt32 31)).toInt32) + ((((((((p0 - ((p0.toUInt32 >>> (((1 : Int32)).toUInt32 &&& Int32.toUInt32 31)).toInt32 &&& (1431655765 : Int32))) &&& (858993459 : Int32)) + ((((p0 - ((p0.toUInt32 >>> (((1 : Int32)).toUInt32 &&& Int32.toUInt32 31)).toInt32 &&& (1431655765 : Int32)))).toUInt32 >>> (((2 : Int32)).toUInt32 &&& Int32.toUInt32 31)).toInt32 &&& (858993459 : Int32))) + (((((p0 - ((p0.toUInt32 >>> (((1 : Int32)).toUInt32 &&& Int32.toUInt32 31)).toInt32 &&& (1431655765 : Int32))) &&& (858993459 : Int32)) + ((((p0 - ((p0.toUInt32 >>> (((1 : Int32)).toUInt32 &&& Int32.toUInt32 31)).toInt32 &&& (1431655765 : Int32)))).toUInt32 >>> (((2 : Int32)).toUInt32 &&& Int32.toUInt32 31)).toInt32 &&& (858993459 : Int32)))).toUInt32 >>> (((4 : Int32)).toUInt32 &&& Int32.toUInt32 31)).toInt32) &&& (252645135 : Int32)) + (((((((p0 - ((p0.toUInt32 >>> (((1 : Int32)).toUInt32 &&& Int32.toUInt32 31)).toInt32 &&& (1431655765 : Int32))) &&& (858993459 : Int32)) + ((((p0 - ((p0.toUInt32 >>> (((1 : Int32)).toUInt32 &&& Int32.toUInt32 31)).toInt32 &&& (1431655765 : Int32)))).toUInt32 >>> (((2 : Int32)).toUInt32 &&& Int32.toUInt32 31)).toInt32 &&& (858993459 : Int32))) + (((((p0 - ((p0.toUInt32 >>> (((1 : Int32)).toUInt32 &&& Int32.toUInt32 31)).toInt32 &&& (1431655765 : Int32))) &&& (858993459 : Int32)) + ((((p0 - ((p0.toUInt32 >>> (((1 : Int32)).toUInt32 &&& Int32.toUInt32 31)).toInt32 &&& (1431655765 : Int32)))).toUInt32 >>> (((2 : Int32)).toUInt32 &&& Int32.toUInt32 31)).toInt32 &&& (858993459 : Int32)))).toUInt32 >>> (((4 : Int32)).toUInt32 &&& Int32.toUInt32 31)).toInt32) &&& (252645135 : Int32))).toUInt32 >>> (((8 : Int32)).toUInt32 &&& Int32.toUInt32 31)).toInt32)).toUInt32 >>> (((16 : Int32)).toUInt32 &&& Int32.toUInt32 31)).toInt32) &&& (63 : Int32))) G)
theorem pd_J15_bitCount : (parseMethodDescriptor yJ15_bitCount.desc).map (fun d => d.parameters.length) = some 1 := by decide +kernel
set_option maxHeartbeats 4000000 in
theorem ct_J15_bitCount {l : Launch} {D : va_G} {T : Nat → ClassId} {Z : Heap} {G0 : Hp} {Q : Int32 → Hp → Prop} {p0 : Int32} (hw : w_J15_bitCount T Q p0 G0) : CT (twd D T Z) (Evd D T Z) l yJ15_bitCount (Cond.code yJ15_bitCount cJ15_bitCount 1 (some .int)) 0 0 [.int p0] G0 (qI Q) (fun _ _ => False) := by
  refine CT.ofW (cc := cJ15_bitCount) (nL := 1) (ret := (some .int)) Ext.rf (by decide +kernel) (Or.inl rfl) ?_
  intro p e s m below meth c hx hb hml hown hr hlk hnm hcb hm hc hn hE I
  have C : Cx p s m meth c D T Z "java/lang/Integer" cJ15_bitCount 1 (some .int) := ⟨hx, hb, hml, hown, hE, hr, hlk⟩
  refine w_entry [.inl p0] (Nat.le_of_ble_eq_true rfl) (fun ls hl => ?_)
  have hl : LH ls 1 [(0, .inl p0)] := hl
  have h := hw
  refine l_ild_n C dJ15_bitCount_0 hl 0 rfl rfl ?_
  refine l_ild_n C dJ15_bitCount_1 hl 0 rfl rfl ?_
  refine lv_iconst (v := 1) C.1 C.2.1 dJ15_bitCount_2 (by decide) ?_
  refine lv_iushr C.1 C.2.1 dJ15_bitCount_3 rfl ?_
  refine lv_ldcw C.1 C.2.1 C.2.2.2.1 (C.2.2.2.2.1.1.good q461 _) dJ15_bitCount_4 ?_
  refine lv_iand C.1 C.2.1 dJ15_bitCount_7 ?_
  refine lv_isub C.1 C.2.1 dJ15_bitCount_8 ?_
  refine l_ist_n C dJ15_bitCount_9 rfl hl (by decide) rfl (fun ls hl => ?_)
  have hl : LH ls 1 [(0, .inl ((p0 - ((p0.toUInt32 >>> (((1 : Int32)).toUInt32 &&& Int32.toUInt32 31)).toInt32 &&& (1431655765 : Int32)))))] := hl
  refine l_ild_n C dJ15_bitCount_10 hl 0 rfl rfl ?_
  refine lv_ldcw C.1 C.2.1 C.2.2.2.1 (C.2.2.2.2.1.1.good q462 _) dJ15_bitCount_11 ?_
  refine lv_iand C.1 C.2.1 dJ15_bitCount_14 ?_
  refine l_ild_n C dJ15_bitCount_15 hl 0 rfl rfl ?_
  refine lv_iconst (v := 2) C.1 C.2.1 dJ15_bitCount_16 (by decide) ?_
  refine lv_iushr C.1 C.2.1 dJ15_bitCount_17 rfl ?_
  refine lv_ldcw C.1 C.2.1 C.2.2.2.1 (C.2.2.2.2.1.1.good q462 _) dJ15_bitCount_18 ?_
  refine lv_iand C.1 C.2.1 dJ15_bitCount_21 ?_
  refine lv_iadd C.1 C.2.1 dJ15_bitCount_22 ?_
  refine l_ist_n C dJ15_bitCount_23 rfl hl (by decide) rfl (fun ls hl => ?_)
  have hl : LH ls 1 [(0, .inl ((((p0 - ((p0.toUInt32 >>> (((1 : Int32)).toUInt32 &&& Int32.toUInt32 31)).toInt32 &&& (1431655765 : Int32))) &&& (858993459 : Int32)) + ((((p0 - ((p0.toUInt32 >>> (((1 : Int32)).toUInt32 &&& Int32.toUInt32 31)).toInt32 &&& (1431655765 : Int32)))).toUInt32 >>> (((2 : Int32)).toUInt32 &&& Int32.toUInt32 31)).toInt32 &&& (858993459 : Int32)))))] := hl
  refine l_ild_n C dJ15_bitCount_24 hl 0 rfl rfl ?_
  refine l_ild_n C dJ15_bitCount_25 hl 0 rfl rfl ?_
  refine lv_iconst (v := 4) C.1 C.2.1 dJ15_bitCount_26 (by decide) ?_
  refine lv_iushr C.1 C.2.1 dJ15_bitCount_27 rfl ?_
  refine lv_iadd C.1 C.2.1 dJ15_bitCount_28 ?_
  refine lv_ldcw C.1 C.2.1 C.2.2.2.1 (C.2.2.2.2.1.1.good q463 _) dJ15_bitCount_29 ?_
  refine lv_iand C.1 C.2.1 dJ15_bitCount_32 ?_
  refine l_ist_n C dJ15_bitCount_33 rfl hl (by decide) rfl (fun ls hl => ?_)
  have hl : LH ls 1 [(0, .inl ((((((p0 - ((p0.toUInt32 >>> (((1 : Int32)).toUInt32 &&& Int32.toUInt32 31)).toInt32 &&& (1431655765 : Int32))) &&& (858993459 : Int32)) + ((((p0 - ((p0.toUInt32 >>> (((1 : Int32)).toUInt32 &&& Int32.toUInt32 31)).toInt32 &&& (1431655765 : Int32)))).toUInt32 >>> (((2 : Int32)).toUInt32 &&& Int32.toUInt32 31)).toInt32 &&& (858993459 : Int32))) + (((((p0 - ((p0.toUInt32 >>> (((1 : Int32)).toUInt32 &&& Int32.toUInt32 31)).toInt32 &&& (1431655765 : Int32))) &&& (858993459 : Int32)) + ((((p0 - ((p0.toUInt32 >>> (((1 : Int32)).toUInt32 &&& Int32.toUInt32 31)).toInt32 &&& (1431655765 : Int32)))).toUInt32 >>> (((2 : Int32)).toUInt32 &&& Int32.toUInt32 31)).toInt32 &&& (858993459 : Int32)))).toUInt32 >>> (((4 : Int32)).toUInt32 &&& Int32.toUInt32 31)).toInt32) &&& (252645135 : Int32))))] := hl
  refine l_ild_n C dJ15_bitCount_34 hl 0 rfl rfl ?_
  refine l_ild_n C dJ15_bitCount_35 hl 0 rfl rfl ?_
  refine lv_bipush (v := 8) C.1 C.2.1 dJ15_bitCount_36 (by decide) ?_
  refine lv_iushr C.1 C.2.1 dJ15_bitCount_38 rfl ?_
  refine lv_iadd C.1 C.2.1 dJ15_bitCount_39 ?_
  refine l_ist_n C dJ15_bitCount_40 rfl hl (by decide) rfl (fun ls hl => ?_)
  have hl : LH ls 1 [(0, .inl (((((((p0 - ((p0.toUInt32 >>> (((1 : Int32)).toUInt32 &&& Int32.toUInt32 31)).toInt32 &&& (1431655765 : Int32))) &&& (858993459 : Int32)) + ((((p0 - ((p0.toUInt32 >>> (((1 : Int32)).toUInt32 &&& Int32.toUInt32 31)).toInt32 &&& (1431655765 : Int32)))).toUInt32 >>> (((2 : Int32)).toUInt32 &&& Int32.toUInt32 31)).toInt32 &&& (858993459 : Int32))) + (((((p0 - ((p0.toUInt32 >>> (((1 : Int32)).toUInt32 &&& Int32.toUInt32 31)).toInt32 &&& (1431655765 : Int32))) &&& (858993459 : Int32)) + ((((p0 - ((p0.toUInt32 >>> (((1 : Int32)).toUInt32 &&& Int32.toUInt32 31)).toInt32 &&& (1431655765 : Int32)))).toUInt32 >>> (((2 : Int32)).toUInt32 &&& Int32.toUInt32 31)).toInt32 &&& (858993459 : Int32)))).toUInt32 >>> (((4 : Int32)).toUInt32 &&& Int32.toUInt32 31)).toInt32) &&& (252645135 : Int32)) + (((((((p0 - ((p0.toUInt32 >>> (((1 : Int32)).toUInt32 &&& Int32.toUInt32 31)).toInt32 &&& (1431655765 : Int32))) &&& (858993459 : Int32)) + ((((p0 - ((p0.toUInt32 >>> (((1 : Int32)).toUInt32 &&& Int32.toUInt32 31)).toInt32 &&& (1431655765 : Int32)))).toUInt32 >>> (((2 : Int32)).toUInt32 &&& Int32.toUInt32 31)).toInt32 &&& (858993459 : Int32))) + (((((p0 - ((p0.toUInt32 >>> (((1 : Int32)).toUInt32 &&& Int32.toUInt32 31)).toInt32 &&& (1431655765 : Int32))) &&& (858993459 : Int32)) + ((((p0 - ((p0.toUInt32 >>> (((1 : Int32)).toUInt32 &&& Int32.toUInt32 31)).toInt32 &&& (1431655765 : Int32)))).toUInt32 >>> (((2 : Int32)).toUInt32 &&& Int32.toUInt32 31)).toInt32 &&& (858993459 : Int32)))).toUInt32 >>> (((4 : Int32)).toUInt32 &&& Int32.toUInt32 31)).toInt32) &&& (252645135 : Int32))).toUInt32 >>> (((8 : Int32)).toUInt32 &&& Int32.toUInt32 31)).toInt32)))] := hl
  refine l_ild_n C dJ15_bitCount_41 hl 0 rfl rfl ?_
  refine l_ild_n C dJ15_bitCount_42 hl 0 rfl rfl ?_
  refine lv_bipush (v := 16) C.1 C.2.1 dJ15_bitCount_43 (by decide) ?_
  refine lv_iushr C.1 C.2.1 dJ15_bitCount_45 rfl ?_
  refine lv_iadd C.1 C.2.1 dJ15_bitCount_46 ?_
  refine l_ist_n C dJ15_bitCount_47 rfl hl (by decide) rfl (fun ls hl => ?_)
  have hl : LH ls 1 [(0, .inl ((((((((p0 - ((p0.toUInt32 >>> (((1 : Int32)).toUInt32 &&& Int32.toUInt32 31)).toInt32 &&& (1431655765 : Int32))) &&& (858993459 : Int32)) + ((((p0 - ((p0.toUInt32 >>> (((1 : Int32)).toUInt32 &&& Int32.toUInt32 31)).toInt32 &&& (1431655765 : Int32)))).toUInt32 >>> (((2 : Int32)).toUInt32 &&& Int32.toUInt32 31)).toInt32 &&& (858993459 : Int32))) + (((((p0 - ((p0.toUInt32 >>> (((1 : Int32)).toUInt32 &&& Int32.toUInt32 31)).toInt32 &&& (1431655765 : Int32))) &&& (858993459 : Int32)) + ((((p0 - ((p0.toUInt32 >>> (((1 : Int32)).toUInt32 &&& Int32.toUInt32 31)).toInt32 &&& (1431655765 : Int32)))).toUInt32 >>> (((2 : Int32)).toUInt32 &&& Int32.toUInt32 31)).toInt32 &&& (858993459 : Int32)))).toUInt32 >>> (((4 : Int32)).toUInt32 &&& Int32.toUInt32 31)).toInt32) &&& (252645135 : Int32)) + (((((((p0 - ((p0.toUInt32 >>> (((1 : Int32)).toUInt32 &&& Int32.toUInt32 31)).toInt32 &&& (1431655765 : Int32))) &&& (858993459 : Int32)) + ((((p0 - ((p0.toUInt32 >>> (((1 : Int32)).toUInt32 &&& Int32.toUInt32 31)).toInt32 &&& (1431655765 : Int32)))).toUInt32 >>> (((2 : Int32)).toUInt32 &&& Int32.toUInt32 31)).toInt32 &&& (858993459 : Int32))) + (((((p0 - ((p0.toUInt32 >>> (((1 : Int32)).toUInt32 &&& Int32.toUInt32 31)).toInt32 &&& (1431655765 : Int32))) &&& (858993459 : Int32)) + ((((p0 - ((p0.toUInt32 >>> (((1 : Int32)).toUInt32 &&& Int32.toUInt32 31)).toInt32 &&& (1431655765 : Int32)))).toUInt32 >>> (((2 : Int32)).toUInt32 &&& Int32.toUInt32 31)).toInt32 &&& (858993459 : Int32)))).toUInt32 >>> (((4 : Int32)).toUInt32 &&& Int32.toUInt32 31)).toInt32) &&& (252645135 : Int32))).toUInt32 >>> (((8 : Int32)).toUInt32 &&& Int32.toUInt32 31)).toInt32) + ((((((((p0 - ((p0.toUInt32 >>> (((1 : Int32)).toUInt32 &&& Int32.toUInt32 31)).toInt32 &&& (1431655765 : Int32))) &&& (858993459 : Int32)) + ((((p0 - ((p0.toUInt32 >>> (((1 : Int32)).toUInt32 &&& Int32.toUInt32 31)).toInt32 &&& (1431655765 : Int32)))).toUInt32 >>> (((2 : Int32)).toUInt32 &&& Int32.toUInt32 31)).toInt32 &&& (858993459 : Int32))) + (((((p0 - ((p0.toUInt32 >>> (((1 : Int32)).toUInt32 &&& Int32.toUInt32 31)).toInt32 &&& (1431655765 : Int32))) &&& (858993459 : Int32)) + ((((p0 - ((p0.toUInt32 >>> (((1 : Int32)).toUInt32 &&& Int32.toUInt32 31)).toInt32 &&& (1431655765 : Int32)))).toUInt32 >>> (((2 : Int32)).toUInt32 &&& Int32.toUInt32 31)).toInt32 &&& (858993459 : Int32)))).toUInt32 >>> (((4 : Int32)).toUInt32 &&& Int32.toUInt32 31)).toInt32) &&& (252645135 : Int32)) + (((((((p0 - ((p0.toUInt32 >>> (((1 : Int32)).toUInt32 &&& Int32.toUInt32 31)).toInt32 &&& (1431655765 : Int32))) &&& (858993459 : Int32)) + ((((p0 - ((p0.toUInt32 >>> (((1 : Int32)).toUInt32 &&& Int32.toUInt32 31)).toInt32 &&& (1431655765 : Int32)))).toUInt32 >>> (((2 : Int32)).toUInt32 &&& Int32.toUInt32 31)).toInt32 &&& (858993459 : Int32))) + (((((p0 - ((p0.toUInt32 >>> (((1 : Int32)).toUInt32 &&& Int32.toUInt32 31)).toInt32 &&& (1431655765 : Int32))) &&& (858993459 : Int32)) + ((((p0 - ((p0.toUInt32 >>> (((1 : Int32)).toUInt32 &&& Int32.toUInt32 31)).toInt32 &&& (1431655765 : Int32)))).toUInt32 >>> (((2 : Int32)).toUInt32 &&& Int32.toUInt32 31)).toInt32 &&& (858993459 : Int32)))).toUInt32 >>> (((4 : Int32)).toUInt32 &&& Int32.toUInt32 31)).toInt32) &&& (252645135 : Int32))).toUInt32 >>> (((8 : Int32)).toUInt32 &&& Int32.toUInt32 31)).toInt32)).toUInt32 >>> (((16 : Int32)).toUInt32 &&& Int32.toUInt32 31)).toInt32)))] := hl
  refine l_ild_n C dJ15_bitCount_48 hl 0 rfl rfl ?_
  refine lv_bipush (v := 63) C.1 C.2.1 dJ15_bitCount_49 (by decide) ?_
  refine lv_iand C.1 C.2.1 dJ15_bitCount_51 ?_
  exact r_int C.1 C.2.1 C.2.2.2.2.2.1 rfl C.2.2.2.2.2.2 ⟨rfl, rfl⟩ I dJ15_bitCount_52 ⟨_, rfl, h⟩
def w_J2_elementData (T : Nat → ClassId) (Q : Option Nat → Hp → Prop) (th : Option Nat) (p0 : Int32) (G : Hp) : Prop := isO G th 16 ∧ (isO G (gR G (ad th) 1) 54 ∧ vp_in p0 (gN G (ad (gR G (ad th) 1))) ∧ Q (gR G (ad (gR G (ad th) 1)) p0.toNatClampNeg) G)
theorem pd_J2_elementData : (parseMethodDescriptor yJ2_elementData.desc).map (fun d => d.parameters.length) = some 1 := by decide +kernel
set_option maxHeartbeats 4000000 in
theorem ct_J2_elementData {l : Launch} {D : va_G} {T : Nat → ClassId} {Z : Heap} {G0 : Hp} {Q : Option Nat → Hp → Prop} {th : Option Nat} {p0 : Int32} (hw : w_J2_elementData T Q th p0 G0) : CT (twd D T Z) (Evd D T Z) l yJ2_elementData (Cond.code yJ2_elementData cJ2_elementData 2 (some (.object "java/lang/Object"))) 0 0 [va_rf th, .int p0] G0 (qR Q) (fun _ _ => False) := by
  refine CT.ofW (cc := cJ2_elementData) (nL := 2) (ret := (some (.object "java/lang/Object"))) Ext.rf (by decide +kernel) (Or.inl rfl) ?_
  intro p e s m below meth c hx hb hml hown hr hlk hnm hcb hm hc hn hE I
  have C : Cx p s m meth c D T Z "java/util/ArrayList" cJ2_elementData 2 (some (.object "java/lang/Object")) := ⟨hx, hb, hml, hown, hE, hr, hlk⟩
  refine w_entry [.inr (.inl th), .inl p0] (Nat.le_of_ble_eq_true rfl) (fun ls hl => ?_)
  have hl : LH ls 2 [(0, .inr (.inl th)), (1, .inl p0)] := hl
  obtain ⟨hth, h⟩ := hw
  refine l_ald_n C dJ2_elementData_0 hl 0 rfl rfl ?_
  refine g_R C I fl_J2_9_16 (by decide) (by decide) hth dJ2_elementData_1 ?_
  refine l_ild_n C dJ2_elementData_4 hl 1 rfl rfl ?_
  obtain ⟨ho1, h⟩ := h
  obtain ⟨hi, h⟩ := h
  refine a_aald C I ho1 (by decide) hi dJ2_elementData_5 ?_
  exact r_ref C.1 C.2.1 C.2.2.2.2.2.1 (Or.inl ⟨_, rfl⟩) C.2.2.2.2.2.2 ⟨rfl, rfl⟩ I dJ2_elementData_6 ⟨_, rfl, h⟩
def w_J2_get (T : Nat → ClassId) (Q : Option Nat → Hp → Prop) (th : Option Nat) (p0 : Int32) (G : Hp) : Prop := isO G th 16 ∧ (w_J12_checkIndex T (fun r2 G1 => Ext G G1 → w_J2_elementData T (fun r4 G3 => Ext G1 G3 → Q r4 G3) th p0 G1) p0 (gI G (ad th) 2) G)
theorem pd_J2_get : (parseMethodDescriptor yJ2_get.desc).map (fun d => d.parameters.length) = some 1 := by decide +kernel
set_option maxHeartbeats 4000000 in
theorem ct_J2_get {l : Launch} {D : va_G} {T : Nat → ClassId} {Z : Heap} {G0 : Hp} {Q : Option Nat → Hp → Prop} {th : Option Nat} {p0 : Int32} (hw : w_J2_get T Q th p0 G0) : CT (twd D T Z) (Evd D T Z) l yJ2_get (Cond.code yJ2_get cJ2_get 2 (some (.object "java/lang/Object"))) 2 43 [va_rf th, .int p0] G0 (qR Q) (fun _ _ => False) := by
  refine CT.ofW (cc := cJ2_get) (nL := 2) (ret := (some (.object "java/lang/Object"))) Ext.rf (by decide +kernel) (Or.inl rfl) ?_
  intro p e s m below meth c hx hb hml hown hr hlk hnm hcb hm hc hn hE I
  have C : Cx p s m meth c D T Z "java/util/ArrayList" cJ2_get 2 (some (.object "java/lang/Object")) := ⟨hx, hb, hml, hown, hE, hr, hlk⟩
  refine w_entry [.inr (.inl th), .inl p0] (Nat.le_of_ble_eq_true rfl) (fun ls hl => ?_)
  have hl : LH ls 2 [(0, .inr (.inl th)), (1, .inl p0)] := hl
  obtain ⟨hth, h⟩ := hw
  refine l_ild_n C dJ2_get_0 hl 1 rfl rfl ?_
  refine l_ald_n C dJ2_get_1 hl 0 rfl rfl ?_
  refine g_I C I fl_J2_48_16 (by decide) (by decide) hth dJ2_get_2 ?_
  refine k_call Ext.tr C I (k_S (As := [.int p0, .int (gI G0 (ad th) 2)]) (rest := []) (y := yJ12_checkIndex) C q441 q442 q126 (Or.inl rfl) q443 (by decide) rfl pd_J12_checkIndex rfl dJ2_get_5) (ct_J12_checkIndex h) hl.1 dJ2_get_5 [] rfl (Nat.le_of_ble_eq_true rfl) (Or.inl rfl) q443 q126 ⟨Nat.le_of_ble_eq_true rfl, Nat.le_of_ble_eq_true rfl⟩ (fun v G1 H locs cells slots xG1 hq I => ?_) (fun a G9 H locs cells slots ex hq I => hq.elim)
  obtain ⟨r2, rfl, h⟩ := hq
  have h := h xG1
  refine lv_pop C.1 C.2.1 dJ2_get_8 rfl ?_
  refine l_ald_n C dJ2_get_9 hl 0 rfl rfl ?_
  refine l_ild_n C dJ2_get_10 hl 1 rfl rfl ?_
  refine k_call Ext.tr C I (k_V (r := th) (As := [.int p0]) (rest := []) (y := yJ2_elementData) C ⟨(hth.ext (by decide) xG1).ad.1, I.recv C.2.2.2.2.1 (hth.ext (by decide) xG1) (by decide)⟩ q483 q484 q485 (Or.inl rfl) q486 (by decide) rfl pd_J2_elementData rfl dJ2_get_11) (ct_J2_elementData h) hl.1 dJ2_get_11 [] rfl (Nat.le_of_ble_eq_true rfl) (Or.inl rfl) q486 q104 ⟨Nat.le_of_ble_eq_true rfl, Nat.le_of_ble_eq_true rfl⟩ (fun v G3 H locs cells slots xG3 hq I => ?_) (fun a G9 H locs cells slots ex hq I => hq.elim)
  obtain ⟨r4, rfl, h⟩ := hq
  have h := h xG3
  exact r_ref C.1 C.2.1 C.2.2.2.2.2.1 (Or.inl ⟨_, rfl⟩) C.2.2.2.2.2.2 ⟨rfl, rfl⟩ I dJ2_get_14 ⟨_, rfl, h⟩
def w_X10_begin_54 (T : Nat → ClassId) (Q : Option Nat → Hp → Prop) (th : Option Nat) (k2 : Int32 → Int32 → Hp → Prop) (l1 : Int32) (l2 : Int32) (t0 : Int32) (t1 : Int32) (t2 : Option Nat) (G : Hp) : Prop := isO G t2 52 ∧ vp_in t1 (gN G (ad t2)) ∧ bz t0 ∧ ∀ G2 : Hp, G2 = wI G (ad t2) t1.toNatClampNeg t0 → k2 l1 ((l2 + 1)) G2
set_option maxHeartbeats 4000000 in
theorem b_X10_begin_54 {G0 : Hp} {Q : Option Nat → Hp → Prop} {th : Option Nat} {k2 : Int32 → Int32 → Hp → Prop} (C : Cx p s m meth c D T Z "EndingTown$Day" cX10_begin 3 (some (.object "EndingTown$Day"))) (hk2 : ∀ (l1 : Int32) (l2 : Int32) (G : Hp) (H : Heap) (locs : List Loc) (cells slots : Nat) (ls : Array Slot), k2 l1 l2 G → isO G th 8 → HI (twd D T Z) G0 s (rmX (twd D T Z) 3 64 G0) H locs cells slots G → LH ls 3 [(0, .inr (.inl th)), (1, .inl l1), (2, .inl l2)] → W p l e (rmX (twd D T Z) 3 64 G0) s m args below meth c H locs cells slots (MQX (twd D T Z) G0 (qR Q) (fun _ _ => False) below s) (F0 m 2 ls [])) : ∀ (l1 : Int32) (l2 : Int32) (t0 : Int32) (t1 : Int32) (t2 : Option Nat) (G : Hp) (H : Heap) (locs : List Loc) (cells slots : Nat) (ls : Array Slot), w_X10_begin_54 T Q th k2 l1 l2 t0 t1 t2 G → isO G th 8 → HI (twd D T Z) G0 s (rmX (twd D T Z) 3 64 G0) H locs cells slots G → LH ls 3 [(0, .inr (.inl th)), (1, .inl l1), (2, .inl l2)] → W p l e (rmX (twd D T Z) 3 64 G0) s m args below meth c H locs cells slots (MQX (twd D T Z) G0 (qR Q) (fun _ _ => False) below s) (F0 m 54 ls [.int t0, .int t1, va_rf t2]) := by
  intro l1 l2 t0 t1 t2 G H locs cells slots ls h hth I hl
  obtain ⟨ho1, h⟩ := h
  obtain ⟨hi, h⟩ := h
  obtain ⟨hz, h⟩ := h
  refine A_zast C I ho1 hi hz dX10_begin_54 (fun H locs G2 eG2 xG2 I => ?_)
  have h := h G2 eG2
  refine l_inc (q := 2) (v := 1) C dX10_begin_55 hl rfl (by decide) (by decide) rfl (fun ls hl => ?_)
  have hl : LH ls 3 [(2, .inl ((l2 + 1))), (0, .inr (.inl th)), (1, .inl l1)] := hl
  refine lv_goto (tgt := 2) C.1 C.2.1 dX10_begin_58 (by decide) ?_
  exact hk2 l1 ((l2 + 1)) G2 _ _ _ _ _ h (hth.ext (by decide) xG2) I (hl.sub [1, 2, 0] rfl)
def w_X10_begin_2 (T : Nat → ClassId) (Q : Option Nat → Hp → Prop) (th : Option Nat) : Nat → Int32 → Int32 → Hp → Prop
  | 0 => fun _ _ _ => False
  | f2 + 1 => fun l1 l2 G => isO G (gR G (ad th) 5) 1 ∧ isO G (gR G (ad (gR G (ad th) 5)) 1) 16 ∧ w_J2_size T (fun r3 G2 => Ext G G2 → ((r3 ≤ l2) → (∀ G4 : Hp, G4 = wI G2 (ad th) 4 ((0 : Int32)) → Q th G4)) ∧ ((¬ r3 ≤ l2) → (isO G2 (gR G2 (ad th) 5) 1 ∧ isO G2 (gR G2 (ad (gR G2 (ad th) 5)) 1) 16 ∧ w_J2_get T (fun r7 G6 => Ext G2 G6 → (r7 = none ∨ isO G6 r7 15) ∧ isO G6 r7 15 ∧ ((¬ ((l1 >>> (gI G6 (ad r7) 0 &&& 31)) &&& (1 : Int32)) = 0) → (w_X10_begin_54 T Q th (w_X10_begin_2 T Q th f2) l1 l2 ((0 : Int32)) l2 (gR G2 (ad th) 3) G6)) ∧ ((((l1 >>> (gI G6 (ad r7) 0 &&& 31)) &&& (1 : Int32)) = 0) → (w_X10_begin_54 T Q th (w_X10_begin_2 T Q th f2) l1 l2 ((1 : Int32)) l2 (gR G2 (ad th) 3) G6))) (gR G2 (ad (gR G2 (ad th) 5)) 1) l2 G2))) (gR G (ad (gR G (ad th) 5)) 1) G
set_option maxHeartbeats 4000000 in
theorem b_X10_begin_2 {G0 : Hp} {Q : Option Nat → Hp → Prop} {th : Option Nat} (C : Cx p s m meth c D T Z "EndingTown$Day" cX10_begin 3 (some (.object "EndingTown$Day"))) : ∀ (n : Nat) (l1 : Int32) (l2 : Int32) (G : Hp) (H : Heap) (locs : List Loc) (cells slots : Nat) (ls : Array Slot), w_X10_begin_2 T Q th n l1 l2 G → isO G th 8 → HI (twd D T Z) G0 s (rmX (twd D T Z) 3 64 G0) H locs cells slots G → LH ls 3 [(0, .inr (.inl th)), (1, .inl l1), (2, .inl l2)] → W p l e (rmX (twd D T Z) 3 64 G0) s m args below meth c H locs cells slots (MQX (twd D T Z) G0 (qR Q) (fun _ _ => False) below s) (F0 m 2 ls []) := by
  intro f2
  induction f2 with
  | zero => intro l1 l2 G H locs cells slots ls h; exact (show False from h).elim
  | succ f2 ih =>
    intro l1 l2 G H locs cells slots ls h hth I hl
    have h : isO G (gR G (ad th) 5) 1 ∧ isO G (gR G (ad (gR G (ad th) 5)) 1) 16 ∧ w_J2_size T (fun r3 G2 => Ext G G2 → ((r3 ≤ l2) → (∀ G4 : Hp, G4 = wI G2 (ad th) 4 ((0 : Int32)) → Q th G4)) ∧ ((¬ r3 ≤ l2) → (isO G2 (gR G2 (ad th) 5) 1 ∧ isO G2 (gR G2 (ad (gR G2 (ad th) 5)) 1) 16 ∧ w_J2_get T (fun r7 G6 => Ext G2 G6 → (r7 = none ∨ isO G6 r7 15) ∧ isO G6 r7 15 ∧ ((¬ ((l1 >>> (gI G6 (ad r7) 0 &&& 31)) &&& (1 : Int32)) = 0) → (w_X10_begin_54 T Q th (w_X10_begin_2 T Q th f2) l1 l2 ((0 : Int32)) l2 (gR G2 (ad th) 3) G6)) ∧ ((((l1 >>> (gI G6 (ad r7) 0 &&& 31)) &&& (1 : Int32)) = 0) → (w_X10_begin_54 T Q th (w_X10_begin_2 T Q th f2) l1 l2 ((1 : Int32)) l2 (gR G2 (ad th) 3) G6))) (gR G2 (ad (gR G2 (ad th) 5)) 1) l2 G2))) (gR G (ad (gR G (ad th) 5)) 1) G := h
    have hk2 := ih
    refine l_ild_n C dX10_begin_2 hl 2 rfl rfl ?_
    refine l_ald_n C dX10_begin_3 hl 0 rfl rfl ?_
    refine g_R C I fl_X10_3_8 (by decide) (by decide) hth dX10_begin_4 ?_
    obtain ⟨ho1, h⟩ := h
    refine g_R C I fl_X10_29_1 (by decide) (by decide) ho1 dX10_begin_7 ?_
    obtain ⟨ho12, h⟩ := h
    refine k_call Ext.tr C I (k_F (kd := 16) (r := gR G (ad (gR G (ad th) 5)) 1) (As := []) (rest := [.int l2]) (y := yJ2_size) (x := ⟨"java/util/List", "size", "()I"⟩) C (by decide) ⟨ho12.ad.1, I.recv C.2.2.2.2.1 ho12 (by decide)⟩ q473 (by decide) q426 q425 q430 q428 q417 q427 q429 rfl pd_J2_size rfl dX10_begin_10) (ct_J2_size h) hl.1 dX10_begin_10 [.inl l2] rfl (Nat.le_of_ble_eq_true rfl) (Or.inl rfl) q431 q104 ⟨Nat.le_of_ble_eq_true rfl, Nat.le_of_ble_eq_true rfl⟩ (fun v G2 H locs cells slots xG2 hq I => ?_) (fun a G9 H locs cells slots ex hq I => hq.elim)
    obtain ⟨r3, rfl, h⟩ := hq
    have h := h xG2
    refine lv_icmp_ge (tgt := 61) C.1 C.2.1 dX10_begin_15 (by decide) (fun c11 => ?_) (fun c11 => ?_)
    · have h := h.1 c11
      refine l_ald_n C dX10_begin_61 hl 0 rfl rfl ?_
      refine lv_iconst (v := 0) C.1 C.2.1 dX10_begin_62 (by decide) ?_
      refine P_I C I fp_X10_49_8 (fun z => by cases z) (by decide) (by decide) (hth.ext (by decide) xG2) dX10_begin_63 (fit_i _) (fun H locs G4 eG4 xG4 I => ?_)
      have h := h G4 eG4
      refine l_ald_n C dX10_begin_66 hl 0 rfl rfl ?_
      exact r_ref C.1 C.2.1 C.2.2.2.2.2.1 (Or.inl ⟨_, rfl⟩) C.2.2.2.2.2.2 ⟨rfl, rfl⟩ I dX10_begin_67 ⟨_, rfl, h⟩
    · have h := h.2 c11
      refine l_ald_n C dX10_begin_18 hl 0 rfl rfl ?_
      refine g_R C I fl_X10_25_8 (by decide) (by decide) (hth.ext (by decide) xG2) dX10_begin_19 ?_
      refine l_ild_n C dX10_begin_22 hl 2 rfl rfl ?_
      refine l_ild_n C dX10_begin_23 hl 1 rfl rfl ?_
      refine l_ald_n C dX10_begin_24 hl 0 rfl rfl ?_
      refine g_R C I fl_X10_3_8 (by decide) (by decide) (hth.ext (by decide) xG2) dX10_begin_25 ?_
      obtain ⟨ho5, h⟩ := h
      refine g_R C I fl_X10_29_1 (by decide) (by decide) ho5 dX10_begin_28 ?_
      refine l_ild_n C dX10_begin_31 hl 2 rfl rfl ?_
      obtain ⟨ho10, h⟩ := h
      refine k_call Ext.tr C I (k_F (kd := 16) (r := gR G2 (ad (gR G2 (ad th) 5)) 1) (As := [.int l2]) (rest := [.int l1, .int l2, va_rf (gR G2 (ad th) 3)]) (y := yJ2_get) (x := ⟨"java/util/List", "get", "(I)Ljava/lang/Object;"⟩) C (by decide) ⟨ho10.ad.1, I.recv C.2.2.2.2.1 ho10 (by decide)⟩ q475 (by decide) q477 q476 q481 q479 q417 q478 q480 rfl pd_J2_get rfl dX10_begin_32) (ct_J2_get h) hl.1 dX10_begin_32 [.inl l1, .inl l2, .inr (.inl (gR G2 (ad th) 3))] rfl (Nat.le_of_ble_eq_true rfl) (Or.inl rfl) q482 q104 ⟨Nat.le_of_ble_eq_true rfl, Nat.le_of_ble_eq_true rfl⟩ (fun v G6 H locs cells slots xG6 hq I => ?_) (fun a G9 H locs cells slots ex hq I => hq.elim)
      obtain ⟨r7, rfl, h⟩ := hq
      have h := h xG6
      obtain ⟨hcc, h⟩ := h
      refine c_cast (kd := 15) C I (by decide) q487 hcc dX10_begin_37 ?_
      obtain ⟨ho8, h⟩ := h
      refine g_I C I fl_X10_45_15 (by decide) (by decide) ho8 dX10_begin_40 ?_
      refine lv_ishr C.1 C.2.1 dX10_begin_43 ?_
      refine lv_iconst (v := 1) C.1 C.2.1 dX10_begin_44 (by decide) ?_
      refine lv_iand C.1 C.2.1 dX10_begin_45 ?_
      refine lv_if_ne (tgt := 53) C.1 C.2.1 dX10_begin_46 (by decide) (fun c9 => ?_) (fun c9 => ?_)
      · have h := h.1 c9
        refine lv_iconst (v := 0) C.1 C.2.1 dX10_begin_53 (by decide) ?_
        exact b_X10_begin_54 C hk2 l1 l2 ((0 : Int32)) l2 (gR G2 (ad th) 3) G6 _ _ _ _ _ h (hth.ext (by decide) (Ext.tr _ _ _ xG2 xG6)) I (hl.sub [0, 1, 2] rfl)
      · have h := h.2 c9
        refine lv_iconst (v := 1) C.1 C.2.1 dX10_begin_49 (by decide) ?_
        refine lv_goto (tgt := 54) C.1 C.2.1 dX10_begin_50 (by decide) ?_
        exact b_X10_begin_54 C hk2 l1 l2 ((1 : Int32)) l2 (gR G2 (ad th) 3) G6 _ _ _ _ _ h (hth.ext (by decide) (Ext.tr _ _ _ xG2 xG6)) I (hl.sub [0, 1, 2] rfl)
def w_X10_begin (T : Nat → ClassId) (Q : Option Nat → Hp → Prop) (th : Option Nat) (p0 : Int32) (G : Hp) : Prop := isO G th 8 ∧ (∃ n, w_X10_begin_2 T Q th n p0 ((0 : Int32)) G)
theorem pd_X10_begin : (parseMethodDescriptor yX10_begin.desc).map (fun d => d.parameters.length) = some 1 := by decide +kernel
set_option maxHeartbeats 4000000 in
theorem ct_X10_begin {l : Launch} {D : va_G} {T : Nat → ClassId} {Z : Heap} {G0 : Hp} {Q : Option Nat → Hp → Prop} {th : Option Nat} {p0 : Int32} (hw : w_X10_begin T Q th p0 G0) : CT (twd D T Z) (Evd D T Z) l yX10_begin (Cond.code yX10_begin cX10_begin 3 (some (.object "EndingTown$Day"))) 3 64 [va_rf th, .int p0] G0 (qR Q) (fun _ _ => False) := by
  refine CT.ofW (cc := cX10_begin) (nL := 3) (ret := (some (.object "EndingTown$Day"))) Ext.rf (by decide) (Or.inl rfl) ?_
  intro p e s m below meth c hx hb hml hown hr hlk hnm hcb hm hc hn hE I
  have C : Cx p s m meth c D T Z "EndingTown$Day" cX10_begin 3 (some (.object "EndingTown$Day")) := ⟨hx, hb, hml, hown, hE, hr, hlk⟩
  refine w_entry [.inr (.inl th), .inl p0] (Nat.le_of_ble_eq_true rfl) (fun ls hl => ?_)
  have hl : LH ls 3 [(0, .inr (.inl th)), (1, .inl p0)] := hl
  obtain ⟨hth, h⟩ := hw
  refine lv_iconst (v := 0) C.1 C.2.1 dX10_begin_0 (by decide) ?_
  refine l_ist_n C dX10_begin_1 rfl hl (by decide) rfl (fun ls hl => ?_)
  have hl : LH ls 3 [(2, .inl ((0 : Int32))), (0, .inr (.inl th)), (1, .inl p0)] := hl
  obtain ⟨n, h⟩ := h
  exact b_X10_begin_2 C n p0 ((0 : Int32)) G0 _ _ _ _ _ h hth I (hl.sub [1, 2, 0] rfl)
def w_X2_where_2 (T : Nat → ClassId) (Q : Int32 → Hp → Prop) (th : Option Nat) : Nat → Int32 → Int32 → Hp → Prop
  | 0 => fun _ _ _ => False
  | f2 + 1 => fun l1 l3 G => ((l3 < 0) → (Q ((0 : Int32)) G)) ∧ ((¬ l3 < 0) → (isO G (gR G (ad th) 6) 50 ∧ vp_in ((((24 : Int32) * l1) + l3)) (gN G (ad (gR G (ad th) 6))) ∧ ((gI G (ad (gR G (ad th) 6)) ((((24 : Int32) * l1) + l3)).toNatClampNeg = (-1 : Int32)) → ((w_X2_where_2 T Q th f2) l1 ((l3 + (-1))) G)) ∧ ((¬ gI G (ad (gR G (ad th) 6)) ((((24 : Int32) * l1) + l3)).toNatClampNeg = (-1 : Int32)) → (vp_in ((((24 : Int32) * l1) + l3)) (gN G (ad (gR G (ad th) 6))) ∧ Q (gI G (ad (gR G (ad th) 6)) ((((24 : Int32) * l1) + l3)).toNatClampNeg) G))))
set_option maxHeartbeats 4000000 in
theorem b_X2_where_2 {G0 : Hp} {Q : Int32 → Hp → Prop} {th : Option Nat} (C : Cx p s m meth c D T Z "EndingTown$Village" cX2_where 4 (some .int)) : ∀ (n : Nat) (l1 : Int32) (l3 : Int32) (G : Hp) (H : Heap) (locs : List Loc) (cells slots : Nat) (ls : Array Slot), w_X2_where_2 T Q th n l1 l3 G → isO G th 2 → HI (twd D T Z) G0 s (rmX (twd D T Z) 0 0 G0) H locs cells slots G → LH ls 4 [(0, .inr (.inl th)), (1, .inl l1), (3, .inl l3)] → W p l e (rmX (twd D T Z) 0 0 G0) s m args below meth c H locs cells slots (MQX (twd D T Z) G0 (qI Q) (fun _ _ => False) below s) (F0 m 2 ls []) := by
  intro f2
  induction f2 with
  | zero => intro l1 l3 G H locs cells slots ls h; exact (show False from h).elim
  | succ f2 ih =>
    intro l1 l3 G H locs cells slots ls h hth I hl
    have h : ((l3 < 0) → (Q ((0 : Int32)) G)) ∧ ((¬ l3 < 0) → (isO G (gR G (ad th) 6) 50 ∧ vp_in ((((24 : Int32) * l1) + l3)) (gN G (ad (gR G (ad th) 6))) ∧ ((gI G (ad (gR G (ad th) 6)) ((((24 : Int32) * l1) + l3)).toNatClampNeg = (-1 : Int32)) → ((w_X2_where_2 T Q th f2) l1 ((l3 + (-1))) G)) ∧ ((¬ gI G (ad (gR G (ad th) 6)) ((((24 : Int32) * l1) + l3)).toNatClampNeg = (-1 : Int32)) → (vp_in ((((24 : Int32) * l1) + l3)) (gN G (ad (gR G (ad th) 6))) ∧ Q (gI G (ad (gR G (ad th) 6)) ((((24 : Int32) * l1) + l3)).toNatClampNeg) G)))) := h
    have hk2 := ih
    refine l_ild_n C dX2_where_2 hl 2 rfl rfl ?_
    refine lv_if_lt (tgt := 39) C.1 C.2.1 dX2_where_3 (by decide) (fun c3 => ?_) (fun c3 => ?_)
    · have h := h.1 c3
      refine lv_iconst (v := 0) C.1 C.2.1 dX2_where_39 (by decide) ?_
      exact r_int C.1 C.2.1 C.2.2.2.2.2.1 rfl C.2.2.2.2.2.2 ⟨rfl, rfl⟩ I dX2_where_40 ⟨_, rfl, h⟩
    · have h := h.2 c3
      refine l_ald_n C dX2_where_6 hl 0 rfl rfl ?_
      refine g_R C I fl_X2_37_2 (by decide) (by decide) hth dX2_where_7 ?_
      refine lv_bipush (v := 24) C.1 C.2.1 dX2_where_10 (by decide) ?_
      refine l_ild_n C dX2_where_12 hl 1 rfl rfl ?_
      refine lv_imul C.1 C.2.1 dX2_where_13 ?_
      refine l_ild_n C dX2_where_14 hl 2 rfl rfl ?_
      refine lv_iadd C.1 C.2.1 dX2_where_15 ?_
      obtain ⟨ho1, h⟩ := h
      obtain ⟨hi, h⟩ := h
      refine a_iald C I ho1 hi dX2_where_16 ?_
      refine lv_iconst (v := (-1)) C.1 C.2.1 dX2_where_17 (by decide) ?_
      refine lv_icmp_eq (tgt := 33) C.1 C.2.1 dX2_where_18 (by decide) (fun c2 => ?_) (fun c2 => ?_)
      · have h := h.1 c2
        refine l_inc (q := 2) (v := (-1)) C dX2_where_33 hl rfl (by decide) (by decide) rfl (fun ls hl => ?_)
        have hl : LH ls 4 [(3, .inl ((l3 + (-1)))), (0, .inr (.inl th)), (1, .inl l1)] := hl
        refine lv_goto (tgt := 2) C.1 C.2.1 dX2_where_36 (by decide) ?_
        exact hk2 l1 ((l3 + (-1))) G _ _ _ _ _ h hth I (hl.sub [1, 2, 0] rfl)
      · have h := h.2 c2
        refine l_ald_n C dX2_where_21 hl 0 rfl rfl ?_
        refine g_R C I fl_X2_37_2 (by decide) (by decide) hth dX2_where_22 ?_
        refine lv_bipush (v := 24) C.1 C.2.1 dX2_where_25 (by decide) ?_
        refine l_ild_n C dX2_where_27 hl 1 rfl rfl ?_
        refine lv_imul C.1 C.2.1 dX2_where_28 ?_
        refine l_ild_n C dX2_where_29 hl 2 rfl rfl ?_
        refine lv_iadd C.1 C.2.1 dX2_where_30 ?_
        obtain ⟨hi, h⟩ := h
        refine a_iald C I ho1 hi dX2_where_31 ?_
        exact r_int C.1 C.2.1 C.2.2.2.2.2.1 rfl C.2.2.2.2.2.2 ⟨rfl, rfl⟩ I dX2_where_32 ⟨_, rfl, h⟩
def w_X2_where (T : Nat → ClassId) (Q : Int32 → Hp → Prop) (th : Option Nat) (p0 : Int32) (p1 : Int32) (G : Hp) : Prop := isO G th 2 ∧ (∃ n, w_X2_where_2 T Q th n p0 p1 G)
theorem pd_X2_where : (parseMethodDescriptor yX2_where.desc).map (fun d => d.parameters.length) = some 2 := by decide +kernel
set_option maxHeartbeats 4000000 in
theorem ct_X2_where {l : Launch} {D : va_G} {T : Nat → ClassId} {Z : Heap} {G0 : Hp} {Q : Int32 → Hp → Prop} {th : Option Nat} {p0 : Int32} {p1 : Int32} (hw : w_X2_where T Q th p0 p1 G0) : CT (twd D T Z) (Evd D T Z) l yX2_where (Cond.code yX2_where cX2_where 4 (some .int)) 0 0 [va_rf th, .int p0, .int p1] G0 (qI Q) (fun _ _ => False) := by
  refine CT.ofW (cc := cX2_where) (nL := 4) (ret := (some .int)) Ext.rf (by decide) (Or.inl rfl) ?_
  intro p e s m below meth c hx hb hml hown hr hlk hnm hcb hm hc hn hE I
  have C : Cx p s m meth c D T Z "EndingTown$Village" cX2_where 4 (some .int) := ⟨hx, hb, hml, hown, hE, hr, hlk⟩
  refine w_entry [.inr (.inl th), .inl p0, .inl p1] (Nat.le_of_ble_eq_true rfl) (fun ls hl => ?_)
  have hl : LH ls 4 [(0, .inr (.inl th)), (1, .inl p0), (2, .inl p1)] := hl
  obtain ⟨hth, h⟩ := hw
  refine l_ild_n C dX2_where_0 hl 2 rfl rfl ?_
  refine l_ist_n C dX2_where_1 rfl hl (by decide) rfl (fun ls hl => ?_)
  have hl : LH ls 4 [(3, .inl p1), (0, .inr (.inl th)), (1, .inl p0), (2, .inl p1)] := hl
  obtain ⟨n, h⟩ := h
  exact b_X2_where_2 C n p0 p1 G0 _ _ _ _ _ h hth I (hl.sub [1, 2, 0] rfl)
def w_X5_round_70 (T : Nat → ClassId) (Q : Int32 → Hp → Prop) (th : Option Nat) (t0 : Int32) (G : Hp) : Prop := Q t0 G
set_option maxHeartbeats 4000000 in
theorem b_X5_round_70 {G0 : Hp} {Q : Int32 → Hp → Prop} {th : Option Nat} (C : Cx p s m meth c D T Z "EndingTown$Seen" cX5_round 7 (some .int)) : ∀ (t0 : Int32) (G : Hp) (H : Heap) (locs : List Loc) (cells slots : Nat) (ls : Array Slot), w_X5_round_70 T Q th t0 G → isO G th 3 → HI (twd D T Z) G0 s (rmX (twd D T Z) 3 64 G0) H locs cells slots G → LH ls 7 [] → W p l e (rmX (twd D T Z) 3 64 G0) s m args below meth c H locs cells slots (MQX (twd D T Z) G0 (qI Q) (fun _ _ => False) below s) (F0 m 70 ls [.int t0]) := by
  intro t0 G H locs cells slots ls h hth I hl
  exact r_int C.1 C.2.1 C.2.2.2.2.2.1 rfl C.2.2.2.2.2.2 ⟨rfl, rfl⟩ I dX5_round_70 ⟨_, rfl, h⟩
def w_X5_round_69 (T : Nat → ClassId) (Q : Int32 → Hp → Prop) (th : Option Nat) (G : Hp) : Prop := w_X5_round_70 T Q th ((0 : Int32)) G
set_option maxHeartbeats 4000000 in
theorem b_X5_round_69 {G0 : Hp} {Q : Int32 → Hp → Prop} {th : Option Nat} (C : Cx p s m meth c D T Z "EndingTown$Seen" cX5_round 7 (some .int)) : ∀ (G : Hp) (H : Heap) (locs : List Loc) (cells slots : Nat) (ls : Array Slot), w_X5_round_69 T Q th G → isO G th 3 → HI (twd D T Z) G0 s (rmX (twd D T Z) 3 64 G0) H locs cells slots G → LH ls 7 [] → W p l e (rmX (twd D T Z) 3 64 G0) s m args below meth c H locs cells slots (MQX (twd D T Z) G0 (qI Q) (fun _ _ => False) below s) (F0 m 69 ls []) := by
  intro G H locs cells slots ls h hth I hl
  refine lv_iconst (v := 0) C.1 C.2.1 dX5_round_69 (by decide) ?_
  exact b_X5_round_70 C ((0 : Int32)) G _ _ _ _ _ h hth I (hl.sub [] rfl)
def w_X5_round (T : Nat → ClassId) (Q : Int32 → Hp → Prop) (th : Option Nat) (p0 : Option Nat) (p1 : Int32) (p2 : Int32) (p3 : Int32) (p4 : Int32) (G : Hp) : Prop := isO G th 3 ∧ (isO G (gR G (ad th) 2) 1 ∧ isO G (gR G (ad (gR G (ad th) 2)) 0) 2 ∧ isO G (gR G (ad (gR G (ad (gR G (ad th) 2)) 0)) 3) 16 ∧ w_J2_get T (fun r4 G3 => Ext G G3 → (r4 = none ∨ isO G3 r4 11) ∧ isO G3 r4 11 ∧ ((p2 < gI G3 (ad r4) 2) → (w_X5_round_69 T Q th G3)) ∧ ((¬ p2 < gI G3 (ad r4) 2) → (isO G3 (gR G3 (ad th) 2) 1 ∧ isO G3 (gR G3 (ad (gR G3 (ad th) 2)) 0) 2 ∧ w_X2_where T (fun r8 G7 => Ext G3 G7 → ((¬ r8 = gI G7 (ad r4) 1) → (w_X5_round_69 T Q th G7)) ∧ ((r8 = gI G7 (ad r4) 1) → (((¬ gI G7 (ad r4) 4 = p4) → (w_X5_round_69 T Q th G7)) ∧ ((gI G7 (ad r4) 4 = p4) → (w_X5_round_70 T Q th ((1 : Int32)) G7))))) (gR G3 (ad (gR G3 (ad th) 2)) 0) p1 (gI G3 (ad r4) 2) G3))) (gR G (ad (gR G (ad (gR G (ad th) 2)) 0)) 3) p3 G)
theorem pd_X5_round : (parseMethodDescriptor yX5_round.desc).map (fun d => d.parameters.length) = some 5 := by decide +kernel
set_option maxHeartbeats 4000000 in
theorem ct_X5_round {l : Launch} {D : va_G} {T : Nat → ClassId} {Z : Heap} {G0 : Hp} {Q : Int32 → Hp → Prop} {th : Option Nat} {p0 : Option Nat} {p1 : Int32} {p2 : Int32} {p3 : Int32} {p4 : Int32} (hw : w_X5_round T Q th p0 p1 p2 p3 p4 G0) : CT (twd D T Z) (Evd D T Z) l yX5_round (Cond.code yX5_round cX5_round 7 (some .int)) 3 64 [va_rf th, va_rf p0, .int p1, .int p2, .int p3, .int p4] G0 (qI Q) (fun _ _ => False) := by
  refine CT.ofW (cc := cX5_round) (nL := 7) (ret := (some .int)) Ext.rf (by decide) (Or.inl rfl) ?_
  intro p e s m below meth c hx hb hml hown hr hlk hnm hcb hm hc hn hE I
  have C : Cx p s m meth c D T Z "EndingTown$Seen" cX5_round 7 (some .int) := ⟨hx, hb, hml, hown, hE, hr, hlk⟩
  refine w_entry [.inr (.inl th), .inr (.inl p0), .inl p1, .inl p2, .inl p3, .inl p4] (Nat.le_of_ble_eq_true rfl) (fun ls hl => ?_)
  have hl : LH ls 7 [(0, .inr (.inl th)), (1, .inr (.inl p0)), (2, .inl p1), (3, .inl p2), (4, .inl p3), (5, .inl p4)] := hl
  obtain ⟨hth, h⟩ := hw
  refine l_ald_n C dX5_round_0 hl 0 rfl rfl ?_
  refine g_R C I fl_X5_1_3 (by decide) (by decide) hth dX5_round_1 ?_
  obtain ⟨ho1, h⟩ := h
  refine g_R C I fl_X5_13_1 (by decide) (by decide) ho1 dX5_round_4 ?_
  obtain ⟨ho2, h⟩ := h
  refine g_R C I fl_X5_19_2 (by decide) (by decide) ho2 dX5_round_7 ?_
  refine l_ild C dX5_round_10 hl 4 rfl ?_
  obtain ⟨ho13, h⟩ := h
  refine k_call Ext.tr C I (k_F (kd := 16) (r := gR G0 (ad (gR G0 (ad (gR G0 (ad th) 2)) 0)) 3) (As := [.int p3]) (rest := []) (y := yJ2_get) (x := ⟨"java/util/List", "get", "(I)Ljava/lang/Object;"⟩) C (by decide) ⟨ho13.ad.1, I.recv C.2.2.2.2.1 ho13 (by decide)⟩ q516 (by decide) q477 q476 q481 q479 q417 q478 q480 rfl pd_J2_get rfl dX5_round_12) (ct_J2_get h) hl.1 dX5_round_12 [] rfl (Nat.le_of_ble_eq_true rfl) (Or.inl rfl) q482 q104 ⟨Nat.le_of_ble_eq_true rfl, Nat.le_of_ble_eq_true rfl⟩ (fun v G3 H locs cells slots xG3 hq I => ?_) (fun a G9 H locs cells slots ex hq I => hq.elim)
  obtain ⟨r4, rfl, h⟩ := hq
  have h := h xG3
  obtain ⟨hcc, h⟩ := h
  refine c_cast (kd := 11) C I (by decide) q517 hcc dX5_round_17 ?_
  refine l_ast C dX5_round_20 hl (by decide) rfl (fun ls hl => ?_)
  have hl : LH ls 7 [(6, .inr (.inl r4)), (0, .inr (.inl th)), (1, .inr (.inl p0)), (2, .inl p1), (3, .inl p2), (4, .inl p3), (5, .inl p4)] := hl
  refine l_ald C dX5_round_22 hl 0 rfl ?_
  obtain ⟨ho5, h⟩ := h
  refine g_I C I fl_X5_33_11 (by decide) (by decide) ho5 dX5_round_24 ?_
  refine l_ild_n C dX5_round_27 hl 4 rfl rfl ?_
  refine lv_icmp_gt (tgt := 69) C.1 C.2.1 dX5_round_28 (by decide) (fun c12 => ?_) (fun c12 => ?_)
  · have h := h.1 c12
    exact b_X5_round_69 C G3 _ _ _ _ _ h (hth.ext (by decide) xG3) I (hl.sub [] rfl)
  · have h := h.2 c12
    refine l_ald_n C dX5_round_31 hl 1 rfl rfl ?_
    refine g_R C I fl_X5_1_3 (by decide) (by decide) (hth.ext (by decide) xG3) dX5_round_32 ?_
    obtain ⟨ho6, h⟩ := h
    refine g_R C I fl_X5_13_1 (by decide) (by decide) ho6 dX5_round_35 ?_
    refine l_ild_n C dX5_round_38 hl 3 rfl rfl ?_
    refine l_ald C dX5_round_39 hl 0 rfl ?_
    refine g_I C I fl_X5_33_11 (by decide) (by decide) ho5 dX5_round_41 ?_
    obtain ⟨ho11, h⟩ := h
    refine k_call Ext.tr C I (k_V (r := gR G3 (ad (gR G3 (ad th) 2)) 0) (As := [.int p1, .int (gI G3 (ad r4) 2)]) (rest := []) (y := yX2_where) C ⟨ho11.ad.1, I.recv C.2.2.2.2.1 ho11 (by decide)⟩ q518 q509 q510 (Or.inl rfl) q511 (by decide) rfl pd_X2_where rfl dX5_round_44) (ct_X2_where h) hl.1 dX5_round_44 [] rfl (Nat.le_of_ble_eq_true rfl) (Or.inl rfl) q511 q101 ⟨Nat.le_of_ble_eq_true rfl, Nat.le_of_ble_eq_true rfl⟩ (fun v G7 H locs cells slots xG7 hq I => ?_) (fun a G9 H locs cells slots ex hq I => hq.elim)
    obtain ⟨r8, rfl, h⟩ := hq
    have h := h xG7
    refine l_ald C dX5_round_47 hl 0 rfl ?_
    refine g_I C I fl_X5_41_11 (by decide) (by decide) (ho5.ext (by decide) xG7) dX5_round_49 ?_
    refine lv_icmp_ne (tgt := 69) C.1 C.2.1 dX5_round_52 (by decide) (fun c10 => ?_) (fun c10 => ?_)
    · have h := h.1 c10
      exact b_X5_round_69 C G7 _ _ _ _ _ h (hth.ext (by decide) (Ext.tr _ _ _ xG3 xG7)) I (hl.sub [] rfl)
    · have h := h.2 c10
      refine l_ald C dX5_round_55 hl 0 rfl ?_
      refine g_I C I fl_X5_44_11 (by decide) (by decide) (ho5.ext (by decide) xG7) dX5_round_57 ?_
      refine l_ild C dX5_round_60 hl 6 rfl ?_
      refine lv_icmp_ne (tgt := 69) C.1 C.2.1 dX5_round_62 (by decide) (fun c9 => ?_) (fun c9 => ?_)
      · have h := h.1 c9
        exact b_X5_round_69 C G7 _ _ _ _ _ h (hth.ext (by decide) (Ext.tr _ _ _ xG3 xG7)) I (hl.sub [] rfl)
      · have h := h.2 c9
        refine lv_iconst (v := 1) C.1 C.2.1 dX5_round_65 (by decide) ?_
        refine lv_goto (tgt := 70) C.1 C.2.1 dX5_round_66 (by decide) ?_
        exact b_X5_round_70 C ((1 : Int32)) G7 _ _ _ _ _ h (hth.ext (by decide) (Ext.tr _ _ _ xG3 xG7)) I (hl.sub [] rfl)
def w_X6_round_96 (T : Nat → ClassId) (Q : Int32 → Hp → Prop) (th : Option Nat) (t0 : Int32) (G : Hp) : Prop := Q t0 G
set_option maxHeartbeats 4000000 in
theorem b_X6_round_96 {G0 : Hp} {Q : Int32 → Hp → Prop} {th : Option Nat} (C : Cx p s m meth c D T Z "EndingTown$Heard" cX6_round 7 (some .int)) : ∀ (t0 : Int32) (G : Hp) (H : Heap) (locs : List Loc) (cells slots : Nat) (ls : Array Slot), w_X6_round_96 T Q th t0 G → isO G th 4 → HI (twd D T Z) G0 s (rmX (twd D T Z) 3 64 G0) H locs cells slots G → LH ls 7 [] → W p l e (rmX (twd D T Z) 3 64 G0) s m args below meth c H locs cells slots (MQX (twd D T Z) G0 (qI Q) (fun _ _ => False) below s) (F0 m 96 ls [.int t0]) := by
  intro t0 G H locs cells slots ls h hth I hl
  exact r_int C.1 C.2.1 C.2.2.2.2.2.1 rfl C.2.2.2.2.2.2 ⟨rfl, rfl⟩ I dX6_round_96 ⟨_, rfl, h⟩
def w_X6_round_95 (T : Nat → ClassId) (Q : Int32 → Hp → Prop) (th : Option Nat) (G : Hp) : Prop := w_X6_round_96 T Q th ((0 : Int32)) G
set_option maxHeartbeats 4000000 in
theorem b_X6_round_95 {G0 : Hp} {Q : Int32 → Hp → Prop} {th : Option Nat} (C : Cx p s m meth c D T Z "EndingTown$Heard" cX6_round 7 (some .int)) : ∀ (G : Hp) (H : Heap) (locs : List Loc) (cells slots : Nat) (ls : Array Slot), w_X6_round_95 T Q th G → isO G th 4 → HI (twd D T Z) G0 s (rmX (twd D T Z) 3 64 G0) H locs cells slots G → LH ls 7 [] → W p l e (rmX (twd D T Z) 3 64 G0) s m args below meth c H locs cells slots (MQX (twd D T Z) G0 (qI Q) (fun _ _ => False) below s) (F0 m 95 ls []) := by
  intro G H locs cells slots ls h hth I hl
  refine lv_iconst (v := 0) C.1 C.2.1 dX6_round_95 (by decide) ?_
  exact b_X6_round_96 C ((0 : Int32)) G _ _ _ _ _ h hth I (hl.sub [] rfl)
def w_X6_round (T : Nat → ClassId) (Q : Int32 → Hp → Prop) (th : Option Nat) (p0 : Option Nat) (p1 : Int32) (p2 : Int32) (p3 : Int32) (p4 : Int32) (G : Hp) : Prop := isO G th 4 ∧ (isO G (gR G (ad th) 2) 1 ∧ isO G (gR G (ad (gR G (ad th) 2)) 0) 2 ∧ isO G (gR G (ad (gR G (ad (gR G (ad th) 2)) 0)) 3) 16 ∧ w_J2_get T (fun r4 G3 => Ext G G3 → (r4 = none ∨ isO G3 r4 11) ∧ ((¬ p4 = 0) → (w_X6_round_95 T Q th G3)) ∧ ((p4 = 0) → (isO G3 r4 11 ∧ ((gI G3 (ad r4) 3 = 0) → (w_X6_round_95 T Q th G3)) ∧ ((¬ gI G3 (ad r4) 3 = 0) → (((¬ gI G3 (ad r4) 4 = 0) → (w_X6_round_95 T Q th G3)) ∧ ((gI G3 (ad r4) 4 = 0) → (((p2 < gI G3 (ad r4) 2) → (w_X6_round_95 T Q th G3)) ∧ ((¬ p2 < gI G3 (ad r4) 2) → (isO G3 (gR G3 (ad th) 2) 1 ∧ isO G3 (gR G3 (ad (gR G3 (ad th) 2)) 0) 2 ∧ isO G3 (gR G3 (ad (gR G3 (ad (gR G3 (ad th) 2)) 0)) 5) 50 ∧ vp_in (gI G3 (ad r4) 1) (gN G3 (ad (gR G3 (ad (gR G3 (ad (gR G3 (ad th) 2)) 0)) 5))) ∧ w_X2_where T (fun r10 G9 => Ext G3 G9 → ((¬ ((gI G3 (ad (gR G3 (ad (gR G3 (ad (gR G3 (ad th) 2)) 0)) 5)) (gI G3 (ad r4) 1).toNatClampNeg >>> (r10 &&& 31)) &&& (1 : Int32)) = (1 : Int32)) → (w_X6_round_95 T Q th G9)) ∧ ((((gI G3 (ad (gR G3 (ad (gR G3 (ad (gR G3 (ad th) 2)) 0)) 5)) (gI G3 (ad r4) 1).toNatClampNeg >>> (r10 &&& 31)) &&& (1 : Int32)) = (1 : Int32)) → (w_X6_round_96 T Q th ((1 : Int32)) G9))) (gR G3 (ad (gR G3 (ad th) 2)) 0) p1 (gI G3 (ad r4) 2) G3))))))))) (gR G (ad (gR G (ad (gR G (ad th) 2)) 0)) 3) p3 G)
theorem pd_X6_round : (parseMethodDescriptor yX6_round.desc).map (fun d => d.parameters.length) = some 5 := by decide +kernel
set_option maxHeartbeats 4000000 in
theorem ct_X6_round {l : Launch} {D : va_G} {T : Nat → ClassId} {Z : Heap} {G0 : Hp} {Q : Int32 → Hp → Prop} {th : Option Nat} {p0 : Option Nat} {p1 : Int32} {p2 : Int32} {p3 : Int32} {p4 : Int32} (hw : w_X6_round T Q th p0 p1 p2 p3 p4 G0) : CT (twd D T Z) (Evd D T Z) l yX6_round (Cond.code yX6_round cX6_round 7 (some .int)) 3 64 [va_rf th, va_rf p0, .int p1, .int p2, .int p3, .int p4] G0 (qI Q) (fun _ _ => False) := by
  refine CT.ofW (cc := cX6_round) (nL := 7) (ret := (some .int)) Ext.rf (by decide) (Or.inl rfl) ?_
  intro p e s m below meth c hx hb hml hown hr hlk hnm hcb hm hc hn hE I
  have C : Cx p s m meth c D T Z "EndingTown$Heard" cX6_round 7 (some .int) := ⟨hx, hb, hml, hown, hE, hr, hlk⟩
  refine w_entry [.inr (.inl th), .inr (.inl p0), .inl p1, .inl p2, .inl p3, .inl p4] (Nat.le_of_ble_eq_true rfl) (fun ls hl => ?_)
  have hl : LH ls 7 [(0, .inr (.inl th)), (1, .inr (.inl p0)), (2, .inl p1), (3, .inl p2), (4, .inl p3), (5, .inl p4)] := hl
  obtain ⟨hth, h⟩ := hw
  refine l_ald_n C dX6_round_0 hl 0 rfl rfl ?_
  refine g_R C I fl_X6_1_4 (by decide) (by decide) hth dX6_round_1 ?_
  obtain ⟨ho1, h⟩ := h
  refine g_R C I fl_X6_13_1 (by decide) (by decide) ho1 dX6_round_4 ?_
  obtain ⟨ho2, h⟩ := h
  refine g_R C I fl_X6_19_2 (by decide) (by decide) ho2 dX6_round_7 ?_
  refine l_ild C dX6_round_10 hl 4 rfl ?_
  obtain ⟨ho16, h⟩ := h
  refine k_call Ext.tr C I (k_F (kd := 16) (r := gR G0 (ad (gR G0 (ad (gR G0 (ad th) 2)) 0)) 3) (As := [.int p3]) (rest := []) (y := yJ2_get) (x := ⟨"java/util/List", "get", "(I)Ljava/lang/Object;"⟩) C (by decide) ⟨ho16.ad.1, I.recv C.2.2.2.2.1 ho16 (by decide)⟩ q506 (by decide) q477 q476 q481 q479 q417 q478 q480 rfl pd_J2_get rfl dX6_round_12) (ct_J2_get h) hl.1 dX6_round_12 [] rfl (Nat.le_of_ble_eq_true rfl) (Or.inl rfl) q482 q104 ⟨Nat.le_of_ble_eq_true rfl, Nat.le_of_ble_eq_true rfl⟩ (fun v G3 H locs cells slots xG3 hq I => ?_) (fun a G9 H locs cells slots ex hq I => hq.elim)
  obtain ⟨r4, rfl, h⟩ := hq
  have h := h xG3
  obtain ⟨hcc, h⟩ := h
  refine c_cast (kd := 11) C I (by decide) q507 hcc dX6_round_17 ?_
  refine l_ast C dX6_round_20 hl (by decide) rfl (fun ls hl => ?_)
  have hl : LH ls 7 [(6, .inr (.inl r4)), (0, .inr (.inl th)), (1, .inr (.inl p0)), (2, .inl p1), (3, .inl p2), (4, .inl p3), (5, .inl p4)] := hl
  refine l_ild C dX6_round_22 hl 6 rfl ?_
  refine lv_if_ne (tgt := 95) C.1 C.2.1 dX6_round_24 (by decide) (fun c15 => ?_) (fun c15 => ?_)
  · have h := h.1 c15
    exact b_X6_round_95 C G3 _ _ _ _ _ h (hth.ext (by decide) xG3) I (hl.sub [] rfl)
  · have h := h.2 c15
    refine l_ald C dX6_round_27 hl 0 rfl ?_
    obtain ⟨ho5, h⟩ := h
    refine g_I C I fl_X6_33_11 (by decide) (by decide) ho5 dX6_round_29 ?_
    refine lv_if_eq (tgt := 95) C.1 C.2.1 dX6_round_32 (by decide) (fun c14 => ?_) (fun c14 => ?_)
    · have h := h.1 c14
      exact b_X6_round_95 C G3 _ _ _ _ _ h (hth.ext (by decide) xG3) I (hl.sub [] rfl)
    · have h := h.2 c14
      refine l_ald C dX6_round_35 hl 0 rfl ?_
      refine g_I C I fl_X6_37_11 (by decide) (by decide) ho5 dX6_round_37 ?_
      refine lv_if_ne (tgt := 95) C.1 C.2.1 dX6_round_40 (by decide) (fun c13 => ?_) (fun c13 => ?_)
      · have h := h.1 c13
        exact b_X6_round_95 C G3 _ _ _ _ _ h (hth.ext (by decide) xG3) I (hl.sub [] rfl)
      · have h := h.2 c13
        refine l_ald C dX6_round_43 hl 0 rfl ?_
        refine g_I C I fl_X6_40_11 (by decide) (by decide) ho5 dX6_round_45 ?_
        refine l_ild_n C dX6_round_48 hl 4 rfl rfl ?_
        refine lv_icmp_gt (tgt := 95) C.1 C.2.1 dX6_round_49 (by decide) (fun c12 => ?_) (fun c12 => ?_)
        · have h := h.1 c12
          exact b_X6_round_95 C G3 _ _ _ _ _ h (hth.ext (by decide) xG3) I (hl.sub [] rfl)
        · have h := h.2 c12
          refine l_ald_n C dX6_round_52 hl 1 rfl rfl ?_
          refine g_R C I fl_X6_1_4 (by decide) (by decide) (hth.ext (by decide) xG3) dX6_round_53 ?_
          obtain ⟨ho6, h⟩ := h
          refine g_R C I fl_X6_13_1 (by decide) (by decide) ho6 dX6_round_56 ?_
          obtain ⟨ho7, h⟩ := h
          refine g_R C I fl_X6_44_2 (by decide) (by decide) ho7 dX6_round_59 ?_
          refine l_ald C dX6_round_62 hl 0 rfl ?_
          refine g_I C I fl_X6_48_11 (by decide) (by decide) ho5 dX6_round_64 ?_
          obtain ⟨ho8, h⟩ := h
          obtain ⟨hi, h⟩ := h
          refine a_iald C I ho8 hi dX6_round_67 ?_
          refine l_ald_n C dX6_round_68 hl 1 rfl rfl ?_
          refine g_R C I fl_X6_1_4 (by decide) (by decide) (hth.ext (by decide) xG3) dX6_round_69 ?_
          refine g_R C I fl_X6_13_1 (by decide) (by decide) ho6 dX6_round_72 ?_
          refine l_ild_n C dX6_round_75 hl 3 rfl rfl ?_
          refine l_ald C dX6_round_76 hl 0 rfl ?_
          refine g_I C I fl_X6_40_11 (by decide) (by decide) ho5 dX6_round_78 ?_
          refine k_call Ext.tr C I (k_V (r := gR G3 (ad (gR G3 (ad th) 2)) 0) (As := [.int p1, .int (gI G3 (ad r4) 2)]) (rest := [.int (gI G3 (ad (gR G3 (ad (gR G3 (ad (gR G3 (ad th) 2)) 0)) 5)) (gI G3 (ad r4) 1).toNatClampNeg)]) (y := yX2_where) C ⟨ho7.ad.1, I.recv C.2.2.2.2.1 ho7 (by decide)⟩ q508 q509 q510 (Or.inl rfl) q511 (by decide) rfl pd_X2_where rfl dX6_round_81) (ct_X2_where h) hl.1 dX6_round_81 [.inl (gI G3 (ad (gR G3 (ad (gR G3 (ad (gR G3 (ad th) 2)) 0)) 5)) (gI G3 (ad r4) 1).toNatClampNeg)] rfl (Nat.le_of_ble_eq_true rfl) (Or.inl rfl) q511 q101 ⟨Nat.le_of_ble_eq_true rfl, Nat.le_of_ble_eq_true rfl⟩ (fun v G9 H locs cells slots xG9 hq I => ?_) (fun a G9 H locs cells slots ex hq I => hq.elim)
          obtain ⟨r10, rfl, h⟩ := hq
          have h := h xG9
          refine lv_ishr C.1 C.2.1 dX6_round_84 ?_
          refine lv_iconst (v := 1) C.1 C.2.1 dX6_round_85 (by decide) ?_
          refine lv_iand C.1 C.2.1 dX6_round_86 ?_
          refine lv_iconst (v := 1) C.1 C.2.1 dX6_round_87 (by decide) ?_
          refine lv_icmp_ne (tgt := 95) C.1 C.2.1 dX6_round_88 (by decide) (fun c11 => ?_) (fun c11 => ?_)
          · have h := h.1 c11
            exact b_X6_round_95 C G9 _ _ _ _ _ h (hth.ext (by decide) (Ext.tr _ _ _ xG3 xG9)) I (hl.sub [] rfl)
          · have h := h.2 c11
            refine lv_iconst (v := 1) C.1 C.2.1 dX6_round_91 (by decide) ?_
            refine lv_goto (tgt := 96) C.1 C.2.1 dX6_round_92 (by decide) ?_
            exact b_X6_round_96 C ((1 : Int32)) G9 _ _ _ _ _ h (hth.ext (by decide) (Ext.tr _ _ _ xG3 xG9)) I (hl.sub [] rfl)
def w_X10_tells_33 (T : Nat → ClassId) (Q : Int32 → Hp → Prop) (th : Option Nat) (t0 : Int32) (G : Hp) : Prop := bz t0 ∧ Q t0 G
set_option maxHeartbeats 4000000 in
theorem b_X10_tells_33 {G0 : Hp} {Q : Int32 → Hp → Prop} {th : Option Nat} (C : Cx p s m meth c D T Z "EndingTown$Day" cX10_tells 2 (some .boolean)) : ∀ (t0 : Int32) (G : Hp) (H : Heap) (locs : List Loc) (cells slots : Nat) (ls : Array Slot), w_X10_tells_33 T Q th t0 G → isO G th 8 → HI (twd D T Z) G0 s (rmX (twd D T Z) 0 0 G0) H locs cells slots G → LH ls 2 [] → W p l e (rmX (twd D T Z) 0 0 G0) s m args below meth c H locs cells slots (MQX (twd D T Z) G0 (qI Q) (fun _ _ => False) below s) (F0 m 33 ls [.int t0]) := by
  intro t0 G H locs cells slots ls h hth I hl
  exact r_int C.1 C.2.1 C.2.2.2.2.2.1 h.1.n C.2.2.2.2.2.2 ⟨rfl, rfl⟩ I dX10_tells_33 ⟨_, rfl, h.2⟩
def w_X10_tells_32 (T : Nat → ClassId) (Q : Int32 → Hp → Prop) (th : Option Nat) (G : Hp) : Prop := w_X10_tells_33 T Q th ((0 : Int32)) G
set_option maxHeartbeats 4000000 in
theorem b_X10_tells_32 {G0 : Hp} {Q : Int32 → Hp → Prop} {th : Option Nat} (C : Cx p s m meth c D T Z "EndingTown$Day" cX10_tells 2 (some .boolean)) : ∀ (G : Hp) (H : Heap) (locs : List Loc) (cells slots : Nat) (ls : Array Slot), w_X10_tells_32 T Q th G → isO G th 8 → HI (twd D T Z) G0 s (rmX (twd D T Z) 0 0 G0) H locs cells slots G → LH ls 2 [] → W p l e (rmX (twd D T Z) 0 0 G0) s m args below meth c H locs cells slots (MQX (twd D T Z) G0 (qI Q) (fun _ _ => False) below s) (F0 m 32 ls []) := by
  intro G H locs cells slots ls h hth I hl
  refine lv_iconst (v := 0) C.1 C.2.1 dX10_tells_32 (by decide) ?_
  exact b_X10_tells_33 C ((0 : Int32)) G _ _ _ _ _ h hth I (hl.sub [] rfl)
def w_X10_tells (T : Nat → ClassId) (Q : Int32 → Hp → Prop) (th : Option Nat) (p0 : Int32) (G : Hp) : Prop := isO G th 8 ∧ (isO G (gR G (ad th) 3) 52 ∧ vp_in p0 (gN G (ad (gR G (ad th) 3))) ∧ ((gI G (ad (gR G (ad th) 3)) p0.toNatClampNeg = 0) → (w_X10_tells_32 T Q th G)) ∧ ((¬ gI G (ad (gR G (ad th) 3)) p0.toNatClampNeg = 0) → (isO G (gR G (ad th) 0) 50 ∧ vp_in p0 (gN G (ad (gR G (ad th) 0))) ∧ ((gI G (ad (gR G (ad th) 0)) p0.toNatClampNeg ≤ 0) → (w_X10_tells_32 T Q th G)) ∧ ((¬ gI G (ad (gR G (ad th) 0)) p0.toNatClampNeg ≤ 0) → (isO G (gR G (ad th) 1) 50 ∧ vp_in p0 (gN G (ad (gR G (ad th) 1))) ∧ ((gI G (ad (gR G (ad th) 1)) p0.toNatClampNeg = (4 : Int32)) → (w_X10_tells_32 T Q th G)) ∧ ((¬ gI G (ad (gR G (ad th) 1)) p0.toNatClampNeg = (4 : Int32)) → (w_X10_tells_33 T Q th ((1 : Int32)) G)))))))
theorem pd_X10_tells : (parseMethodDescriptor yX10_tells.desc).map (fun d => d.parameters.length) = some 1 := by decide +kernel
set_option maxHeartbeats 4000000 in
theorem ct_X10_tells {l : Launch} {D : va_G} {T : Nat → ClassId} {Z : Heap} {G0 : Hp} {Q : Int32 → Hp → Prop} {th : Option Nat} {p0 : Int32} (hw : w_X10_tells T Q th p0 G0) : CT (twd D T Z) (Evd D T Z) l yX10_tells (Cond.code yX10_tells cX10_tells 2 (some .boolean)) 0 0 [va_rf th, .int p0] G0 (qI Q) (fun _ _ => False) := by
  refine CT.ofW (cc := cX10_tells) (nL := 2) (ret := (some .boolean)) Ext.rf (by decide) (Or.inl rfl) ?_
  intro p e s m below meth c hx hb hml hown hr hlk hnm hcb hm hc hn hE I
  have C : Cx p s m meth c D T Z "EndingTown$Day" cX10_tells 2 (some .boolean) := ⟨hx, hb, hml, hown, hE, hr, hlk⟩
  refine w_entry [.inr (.inl th), .inl p0] (Nat.le_of_ble_eq_true rfl) (fun ls hl => ?_)
  have hl : LH ls 2 [(0, .inr (.inl th)), (1, .inl p0)] := hl
  obtain ⟨hth, h⟩ := hw
  refine l_ald_n C dX10_tells_0 hl 0 rfl rfl ?_
  refine g_R C I fl_X10_25_8 (by decide) (by decide) hth dX10_tells_1 ?_
  refine l_ild_n C dX10_tells_4 hl 1 rfl rfl ?_
  obtain ⟨ho1, h⟩ := h
  obtain ⟨hi, h⟩ := h
  refine a_zald C I ho1 hi dX10_tells_5 ?_
  refine lv_if_eq (tgt := 32) C.1 C.2.1 dX10_tells_6 (by decide) (fun c6 => ?_) (fun c6 => ?_)
  · have h := h.1 c6
    exact b_X10_tells_32 C G0 _ _ _ _ _ h hth I (hl.sub [] rfl)
  · have h := h.2 c6
    refine l_ald_n C dX10_tells_9 hl 0 rfl rfl ?_
    refine g_R C I fl_X10_15_8 (by decide) (by decide) hth dX10_tells_10 ?_
    refine l_ild_n C dX10_tells_13 hl 1 rfl rfl ?_
    obtain ⟨ho2, h⟩ := h
    obtain ⟨hi, h⟩ := h
    refine a_iald C I ho2 hi dX10_tells_14 ?_
    refine lv_if_le (tgt := 32) C.1 C.2.1 dX10_tells_15 (by decide) (fun c5 => ?_) (fun c5 => ?_)
    · have h := h.1 c5
      exact b_X10_tells_32 C G0 _ _ _ _ _ h hth I (hl.sub [] rfl)
    · have h := h.2 c5
      refine l_ald_n C dX10_tells_18 hl 0 rfl rfl ?_
      refine g_R C I fl_X10_19_8 (by decide) (by decide) hth dX10_tells_19 ?_
      refine l_ild_n C dX10_tells_22 hl 1 rfl rfl ?_
      obtain ⟨ho3, h⟩ := h
      obtain ⟨hi, h⟩ := h
      refine a_iald C I ho3 hi dX10_tells_23 ?_
      refine lv_iconst (v := 4) C.1 C.2.1 dX10_tells_24 (by decide) ?_
      refine lv_icmp_eq (tgt := 32) C.1 C.2.1 dX10_tells_25 (by decide) (fun c4 => ?_) (fun c4 => ?_)
      · have h := h.1 c4
        exact b_X10_tells_32 C G0 _ _ _ _ _ h hth I (hl.sub [] rfl)
      · have h := h.2 c4
        refine lv_iconst (v := 1) C.1 C.2.1 dX10_tells_28 (by decide) ?_
        refine lv_goto (tgt := 33) C.1 C.2.1 dX10_tells_29 (by decide) ?_
        exact b_X10_tells_33 C ((1 : Int32)) G0 _ _ _ _ _ h hth I (hl.sub [] rfl)
def w_X7_tells_109 (T : Nat → ClassId) (Q : Int32 → Hp → Prop) (th : Option Nat) (t0 : Int32) (G : Hp) : Prop := bz t0 ∧ Q t0 G
set_option maxHeartbeats 4000000 in
theorem b_X7_tells_109 {G0 : Hp} {Q : Int32 → Hp → Prop} {th : Option Nat} (C : Cx p s m meth c D T Z "EndingTown$Told" cX7_tells 8 (some .boolean)) : ∀ (t0 : Int32) (G : Hp) (H : Heap) (locs : List Loc) (cells slots : Nat) (ls : Array Slot), w_X7_tells_109 T Q th t0 G → isO G th 5 → HI (twd D T Z) G0 s (rmX (twd D T Z) 3 64 G0) H locs cells slots G → LH ls 8 [] → W p l e (rmX (twd D T Z) 3 64 G0) s m args below meth c H locs cells slots (MQX (twd D T Z) G0 (qI Q) (fun _ _ => False) below s) (F0 m 109 ls [.int t0]) := by
  intro t0 G H locs cells slots ls h hth I hl
  exact r_int C.1 C.2.1 C.2.2.2.2.2.1 h.1.n C.2.2.2.2.2.2 ⟨rfl, rfl⟩ I dX7_tells_109 ⟨_, rfl, h.2⟩
def w_X7_tells_108 (T : Nat → ClassId) (Q : Int32 → Hp → Prop) (th : Option Nat) (G : Hp) : Prop := w_X7_tells_109 T Q th ((0 : Int32)) G
set_option maxHeartbeats 4000000 in
theorem b_X7_tells_108 {G0 : Hp} {Q : Int32 → Hp → Prop} {th : Option Nat} (C : Cx p s m meth c D T Z "EndingTown$Told" cX7_tells 8 (some .boolean)) : ∀ (G : Hp) (H : Heap) (locs : List Loc) (cells slots : Nat) (ls : Array Slot), w_X7_tells_108 T Q th G → isO G th 5 → HI (twd D T Z) G0 s (rmX (twd D T Z) 3 64 G0) H locs cells slots G → LH ls 8 [] → W p l e (rmX (twd D T Z) 3 64 G0) s m args below meth c H locs cells slots (MQX (twd D T Z) G0 (qI Q) (fun _ _ => False) below s) (F0 m 108 ls []) := by
  intro G H locs cells slots ls h hth I hl
  refine lv_iconst (v := 0) C.1 C.2.1 dX7_tells_108 (by decide) ?_
  exact b_X7_tells_109 C ((0 : Int32)) G _ _ _ _ _ h hth I (hl.sub [] rfl)
def w_X7_tells (T : Nat → ClassId) (Q : Int32 → Hp → Prop) (th : Option Nat) (p0 : Option Nat) (p1 : Int32) (p2 : Int32) (p3 : Int32) (p4 : Int32) (p5 : Int32) (G : Hp) : Prop := isO G th 5 ∧ (isO G (gR G (ad th) 1) 1 ∧ isO G (gR G (ad (gR G (ad th) 1)) 1) 16 ∧ w_J2_get T (fun r3 G2 => Ext G G2 → (r3 = none ∨ isO G2 r3 15) ∧ isO G2 p0 8 ∧ w_X10_tells T (fun r5 G4 => Ext G2 G4 → ((r5 = 0) → (w_X7_tells_108 T Q th G4)) ∧ ((¬ r5 = 0) → (isO G4 r3 15 ∧ ((gI G4 (ad r3) 0 = p2) → (w_X7_tells_108 T Q th G4)) ∧ ((¬ gI G4 (ad r3) 0 = p2) → (((¬ gI G4 (ad r3) 2 = p4) → (w_X7_tells_108 T Q th G4)) ∧ ((gI G4 (ad r3) 2 = p4) → (((¬ gI G4 (ad r3) 4 = p5) → (w_X7_tells_108 T Q th G4)) ∧ ((gI G4 (ad r3) 4 = p5) → (((p3 < gI G4 (ad r3) 1) → (w_X7_tells_108 T Q th G4)) ∧ ((¬ p3 < gI G4 (ad r3) 1) → (isO G4 (gR G4 (ad th) 1) 1 ∧ isO G4 (gR G4 (ad (gR G4 (ad th) 1)) 0) 2 ∧ w_X2_where T (fun r9 G8 => Ext G4 G8 → isO G8 (gR G8 (ad th) 1) 1 ∧ isO G8 (gR G8 (ad (gR G8 (ad th) 1)) 0) 2 ∧ w_X2_where T (fun r12 G11 => Ext G8 G11 → ((¬ r9 = r12) → (w_X7_tells_108 T Q th G11)) ∧ ((r9 = r12) → (w_X7_tells_109 T Q th ((1 : Int32)) G11))) (gR G8 (ad (gR G8 (ad th) 1)) 0) (gI G8 (ad r3) 0) (gI G8 (ad r3) 1) G8) (gR G4 (ad (gR G4 (ad th) 1)) 0) p2 (gI G4 (ad r3) 1) G4))))))))))) p0 p1 G2) (gR G (ad (gR G (ad th) 1)) 1) p1 G)
theorem pd_X7_tells : (parseMethodDescriptor yX7_tells.desc).map (fun d => d.parameters.length) = some 6 := by decide +kernel
set_option maxHeartbeats 4000000 in
theorem ct_X7_tells {l : Launch} {D : va_G} {T : Nat → ClassId} {Z : Heap} {G0 : Hp} {Q : Int32 → Hp → Prop} {th : Option Nat} {p0 : Option Nat} {p1 : Int32} {p2 : Int32} {p3 : Int32} {p4 : Int32} {p5 : Int32} (hw : w_X7_tells T Q th p0 p1 p2 p3 p4 p5 G0) : CT (twd D T Z) (Evd D T Z) l yX7_tells (Cond.code yX7_tells cX7_tells 8 (some .boolean)) 3 64 [va_rf th, va_rf p0, .int p1, .int p2, .int p3, .int p4, .int p5] G0 (qI Q) (fun _ _ => False) := by
  refine CT.ofW (cc := cX7_tells) (nL := 8) (ret := (some .boolean)) Ext.rf (by decide) (Or.inl rfl) ?_
  intro p e s m below meth c hx hb hml hown hr hlk hnm hcb hm hc hn hE I
  have C : Cx p s m meth c D T Z "EndingTown$Told" cX7_tells 8 (some .boolean) := ⟨hx, hb, hml, hown, hE, hr, hlk⟩
  refine w_entry [.inr (.inl th), .inr (.inl p0), .inl p1, .inl p2, .inl p3, .inl p4, .inl p5] (Nat.le_of_ble_eq_true rfl) (fun ls hl => ?_)
  have hl : LH ls 8 [(0, .inr (.inl th)), (1, .inr (.inl p0)), (2, .inl p1), (3, .inl p2), (4, .inl p3), (5, .inl p4), (6, .inl p5)] := hl
  obtain ⟨hth, h⟩ := hw
  refine l_ald_n C dX7_tells_0 hl 0 rfl rfl ?_
  refine g_R C I fl_X7_1_5 (by decide) (by decide) hth dX7_tells_1 ?_
  obtain ⟨ho1, h⟩ := h
  refine g_R C I fl_X7_13_1 (by decide) (by decide) ho1 dX7_tells_4 ?_
  refine l_ild_n C dX7_tells_7 hl 2 rfl rfl ?_
  obtain ⟨ho22, h⟩ := h
  refine k_call Ext.tr C I (k_F (kd := 16) (r := gR G0 (ad (gR G0 (ad th) 1)) 1) (As := [.int p1]) (rest := []) (y := yJ2_get) (x := ⟨"java/util/List", "get", "(I)Ljava/lang/Object;"⟩) C (by decide) ⟨ho22.ad.1, I.recv C.2.2.2.2.1 ho22 (by decide)⟩ q529 (by decide) q477 q476 q481 q479 q417 q478 q480 rfl pd_J2_get rfl dX7_tells_8) (ct_J2_get h) hl.1 dX7_tells_8 [] rfl (Nat.le_of_ble_eq_true rfl) (Or.inl rfl) q482 q104 ⟨Nat.le_of_ble_eq_true rfl, Nat.le_of_ble_eq_true rfl⟩ (fun v G2 H locs cells slots xG2 hq I => ?_) (fun a G9 H locs cells slots ex hq I => hq.elim)
  obtain ⟨r3, rfl, h⟩ := hq
  have h := h xG2
  obtain ⟨hcc, h⟩ := h
  refine c_cast (kd := 15) C I (by decide) q530 hcc dX7_tells_13 ?_
  refine l_ast C dX7_tells_16 hl (by decide) rfl (fun ls hl => ?_)
  have hl : LH ls 8 [(7, .inr (.inl r3)), (0, .inr (.inl th)), (1, .inr (.inl p0)), (2, .inl p1), (3, .inl p2), (4, .inl p3), (5, .inl p4), (6, .inl p5)] := hl
  refine l_ald_n C dX7_tells_18 hl 2 rfl rfl ?_
  refine l_ild_n C dX7_tells_19 hl 3 rfl rfl ?_
  obtain ⟨ho21, h⟩ := h
  refine k_call Ext.tr C I (k_V (r := p0) (As := [.int p1]) (rest := []) (y := yX10_tells) C ⟨ho21.ad.1, I.recv C.2.2.2.2.1 ho21 (by decide)⟩ q531 q532 q533 (Or.inl rfl) q534 (by decide) rfl pd_X10_tells rfl dX7_tells_20) (ct_X10_tells h) hl.1 dX7_tells_20 [] rfl (Nat.le_of_ble_eq_true rfl) (Or.inl rfl) q534 q112 ⟨Nat.le_of_ble_eq_true rfl, Nat.le_of_ble_eq_true rfl⟩ (fun v G4 H locs cells slots xG4 hq I => ?_) (fun a G9 H locs cells slots ex hq I => hq.elim)
  obtain ⟨r5, rfl, h⟩ := hq
  have h := h xG4
  refine lv_if_eq (tgt := 108) C.1 C.2.1 dX7_tells_23 (by decide) (fun c20 => ?_) (fun c20 => ?_)
  · have h := h.1 c20
    exact b_X7_tells_108 C G4 _ _ _ _ _ h (hth.ext (by decide) (Ext.tr _ _ _ xG2 xG4)) I (hl.sub [] rfl)
  · have h := h.2 c20
    refine l_ald C dX7_tells_26 hl 0 rfl ?_
    obtain ⟨ho6, h⟩ := h
    refine g_I C I fl_X7_33_15 (by decide) (by decide) ho6 dX7_tells_28 ?_
    refine l_ild_n C dX7_tells_31 hl 4 rfl rfl ?_
    refine lv_icmp_eq (tgt := 108) C.1 C.2.1 dX7_tells_32 (by decide) (fun c19 => ?_) (fun c19 => ?_)
    · have h := h.1 c19
      exact b_X7_tells_108 C G4 _ _ _ _ _ h (hth.ext (by decide) (Ext.tr _ _ _ xG2 xG4)) I (hl.sub [] rfl)
    · have h := h.2 c19
      refine l_ald C dX7_tells_35 hl 0 rfl ?_
      refine g_I C I fl_X7_37_15 (by decide) (by decide) ho6 dX7_tells_37 ?_
      refine l_ild C dX7_tells_40 hl 6 rfl ?_
      refine lv_icmp_ne (tgt := 108) C.1 C.2.1 dX7_tells_42 (by decide) (fun c18 => ?_) (fun c18 => ?_)
      · have h := h.1 c18
        exact b_X7_tells_108 C G4 _ _ _ _ _ h (hth.ext (by decide) (Ext.tr _ _ _ xG2 xG4)) I (hl.sub [] rfl)
      · have h := h.2 c18
        refine l_ald C dX7_tells_45 hl 0 rfl ?_
        refine g_I C I fl_X7_40_15 (by decide) (by decide) ho6 dX7_tells_47 ?_
        refine l_ild C dX7_tells_50 hl 7 rfl ?_
        refine lv_icmp_ne (tgt := 108) C.1 C.2.1 dX7_tells_52 (by decide) (fun c17 => ?_) (fun c17 => ?_)
        · have h := h.1 c17
          exact b_X7_tells_108 C G4 _ _ _ _ _ h (hth.ext (by decide) (Ext.tr _ _ _ xG2 xG4)) I (hl.sub [] rfl)
        · have h := h.2 c17
          refine l_ald C dX7_tells_55 hl 0 rfl ?_
          refine g_I C I fl_X7_44_15 (by decide) (by decide) ho6 dX7_tells_57 ?_
          refine l_ild C dX7_tells_60 hl 5 rfl ?_
          refine lv_icmp_gt (tgt := 108) C.1 C.2.1 dX7_tells_62 (by decide) (fun c16 => ?_) (fun c16 => ?_)
          · have h := h.1 c16
            exact b_X7_tells_108 C G4 _ _ _ _ _ h (hth.ext (by decide) (Ext.tr _ _ _ xG2 xG4)) I (hl.sub [] rfl)
          · have h := h.2 c16
            refine l_ald_n C dX7_tells_65 hl 1 rfl rfl ?_
            refine g_R C I fl_X7_1_5 (by decide) (by decide) (hth.ext (by decide) (Ext.tr _ _ _ xG2 xG4)) dX7_tells_66 ?_
            obtain ⟨ho7, h⟩ := h
            refine g_R C I fl_X7_47_1 (by decide) (by decide) ho7 dX7_tells_69 ?_
            refine l_ild_n C dX7_tells_72 hl 4 rfl rfl ?_
            refine l_ald C dX7_tells_73 hl 0 rfl ?_
            refine g_I C I fl_X7_44_15 (by decide) (by decide) ho6 dX7_tells_75 ?_
            obtain ⟨ho15, h⟩ := h
            refine k_call Ext.tr C I (k_V (r := gR G4 (ad (gR G4 (ad th) 1)) 0) (As := [.int p2, .int (gI G4 (ad r3) 1)]) (rest := []) (y := yX2_where) C ⟨ho15.ad.1, I.recv C.2.2.2.2.1 ho15 (by decide)⟩ q535 q509 q510 (Or.inl rfl) q511 (by decide) rfl pd_X2_where rfl dX7_tells_78) (ct_X2_where h) hl.1 dX7_tells_78 [] rfl (Nat.le_of_ble_eq_true rfl) (Or.inl rfl) q511 q101 ⟨Nat.le_of_ble_eq_true rfl, Nat.le_of_ble_eq_true rfl⟩ (fun v G8 H locs cells slots xG8 hq I => ?_) (fun a G9 H locs cells slots ex hq I => hq.elim)
            obtain ⟨r9, rfl, h⟩ := hq
            have h := h xG8
            refine l_ald_n C dX7_tells_81 hl 1 rfl rfl ?_
            refine g_R C I fl_X7_1_5 (by decide) (by decide) (hth.ext (by decide) (Ext.tr _ _ _ xG2 (Ext.tr _ _ _ xG4 xG8))) dX7_tells_82 ?_
            obtain ⟨ho10, h⟩ := h
            refine g_R C I fl_X7_47_1 (by decide) (by decide) ho10 dX7_tells_85 ?_
            refine l_ald C dX7_tells_88 hl 0 rfl ?_
            refine g_I C I fl_X7_33_15 (by decide) (by decide) (ho6.ext (by decide) xG8) dX7_tells_90 ?_
            refine l_ald C dX7_tells_93 hl 0 rfl ?_
            refine g_I C I fl_X7_44_15 (by decide) (by decide) (ho6.ext (by decide) xG8) dX7_tells_95 ?_
            obtain ⟨ho14, h⟩ := h
            refine k_call Ext.tr C I (k_V (r := gR G8 (ad (gR G8 (ad th) 1)) 0) (As := [.int (gI G8 (ad r3) 0), .int (gI G8 (ad r3) 1)]) (rest := [.int r9]) (y := yX2_where) C ⟨ho14.ad.1, I.recv C.2.2.2.2.1 ho14 (by decide)⟩ q535 q509 q510 (Or.inl rfl) q511 (by decide) rfl pd_X2_where rfl dX7_tells_98) (ct_X2_where h) hl.1 dX7_tells_98 [.inl r9] rfl (Nat.le_of_ble_eq_true rfl) (Or.inl rfl) q511 q101 ⟨Nat.le_of_ble_eq_true rfl, Nat.le_of_ble_eq_true rfl⟩ (fun v G11 H locs cells slots xG11 hq I => ?_) (fun a G9 H locs cells slots ex hq I => hq.elim)
            obtain ⟨r12, rfl, h⟩ := hq
            have h := h xG11
            refine lv_icmp_ne (tgt := 108) C.1 C.2.1 dX7_tells_101 (by decide) (fun c13 => ?_) (fun c13 => ?_)
            · have h := h.1 c13
              exact b_X7_tells_108 C G11 _ _ _ _ _ h (hth.ext (by decide) (Ext.tr _ _ _ xG2 (Ext.tr _ _ _ xG4 (Ext.tr _ _ _ xG8 xG11)))) I (hl.sub [] rfl)
            · have h := h.2 c13
              refine lv_iconst (v := 1) C.1 C.2.1 dX7_tells_104 (by decide) ?_
              refine lv_goto (tgt := 109) C.1 C.2.1 dX7_tells_105 (by decide) ?_
              exact b_X7_tells_109 C ((1 : Int32)) G11 _ _ _ _ _ h (hth.ext (by decide) (Ext.tr _ _ _ xG2 (Ext.tr _ _ _ xG4 (Ext.tr _ _ _ xG8 xG11)))) I (hl.sub [] rfl)
def w_X7_round_65 (T : Nat → ClassId) (Q : Int32 → Hp → Prop) (th : Option Nat) (k6 : Option Nat → Int32 → Int32 → Int32 → Int32 → Int32 → Int32 → Hp → Prop) (l1 : Option Nat) (l2 : Int32) (l3 : Int32) (l4 : Int32) (l5 : Int32) (l6 : Int32) (l7 : Int32) (G : Hp) : Prop := k6 l1 l2 l3 l4 l5 l6 ((l7 + 1)) G
set_option maxHeartbeats 4000000 in
theorem b_X7_round_65 {G0 : Hp} {Q : Int32 → Hp → Prop} {th : Option Nat} {k6 : Option Nat → Int32 → Int32 → Int32 → Int32 → Int32 → Int32 → Hp → Prop} (C : Cx p s m meth c D T Z "EndingTown$Told" cX7_round 8 (some .int)) (hk6 : ∀ (l1 : Option Nat) (l2 : Int32) (l3 : Int32) (l4 : Int32) (l5 : Int32) (l6 : Int32) (l7 : Int32) (G : Hp) (H : Heap) (locs : List Loc) (cells slots : Nat) (ls : Array Slot), k6 l1 l2 l3 l4 l5 l6 l7 G → isO G th 5 → HI (twd D T Z) G0 s (rmX (twd D T Z) 4 91 G0) H locs cells slots G → LH ls 8 [(0, .inr (.inl th)), (1, .inr (.inl l1)), (2, .inl l2), (3, .inl l3), (4, .inl l4), (5, .inl l5), (6, .inl l6), (7, .inl l7)] → W p l e (rmX (twd D T Z) 4 91 G0) s m args below meth c H locs cells slots (MQX (twd D T Z) G0 (qI Q) (fun _ _ => False) below s) (F0 m 6 ls [])) : ∀ (l1 : Option Nat) (l2 : Int32) (l3 : Int32) (l4 : Int32) (l5 : Int32) (l6 : Int32) (l7 : Int32) (G : Hp) (H : Heap) (locs : List Loc) (cells slots : Nat) (ls : Array Slot), w_X7_round_65 T Q th k6 l1 l2 l3 l4 l5 l6 l7 G → isO G th 5 → HI (twd D T Z) G0 s (rmX (twd D T Z) 4 91 G0) H locs cells slots G → LH ls 8 [(0, .inr (.inl th)), (1, .inr (.inl l1)), (2, .inl l2), (3, .inl l3), (4, .inl l4), (5, .inl l5), (6, .inl l6), (7, .inl l7)] → W p l e (rmX (twd D T Z) 4 91 G0) s m args below meth c H locs cells slots (MQX (twd D T Z) G0 (qI Q) (fun _ _ => False) below s) (F0 m 65 ls []) := by
  intro l1 l2 l3 l4 l5 l6 l7 G H locs cells slots ls h hth I hl
  refine l_inc (q := 7) (v := 1) C dX7_round_65 hl rfl (by decide) (by decide) rfl (fun ls hl => ?_)
  have hl : LH ls 8 [(7, .inl ((l7 + 1))), (0, .inr (.inl th)), (1, .inr (.inl l1)), (2, .inl l2), (3, .inl l3), (4, .inl l4), (5, .inl l5), (6, .inl l6)] := hl
  refine lv_goto (tgt := 6) C.1 C.2.1 dX7_round_68 (by decide) ?_
  exact hk6 l1 l2 l3 l4 l5 l6 ((l7 + 1)) G _ _ _ _ _ h hth I (hl.sub [1, 2, 3, 4, 5, 6, 7, 0] rfl)
def w_X7_round_56 (T : Nat → ClassId) (Q : Int32 → Hp → Prop) (th : Option Nat) (k6 : Option Nat → Int32 → Int32 → Int32 → Int32 → Int32 → Int32 → Hp → Prop) (l1 : Option Nat) (l2 : Int32) (l3 : Int32) (l4 : Int32) (l5 : Int32) (l7 : Int32) (G : Hp) : Prop := isO G l1 8 ∧ isO G (gR G (ad l1) 0) 50 ∧ vp_in l7 (gN G (ad (gR G (ad l1) 0))) ∧ w_X7_round_65 T Q th k6 l1 l2 l3 l4 l5 (gI G (ad (gR G (ad l1) 0)) l7.toNatClampNeg) l7 G
set_option maxHeartbeats 4000000 in
theorem b_X7_round_56 {G0 : Hp} {Q : Int32 → Hp → Prop} {th : Option Nat} {k6 : Option Nat → Int32 → Int32 → Int32 → Int32 → Int32 → Int32 → Hp → Prop} (C : Cx p s m meth c D T Z "EndingTown$Told" cX7_round 8 (some .int)) (hk6 : ∀ (l1 : Option Nat) (l2 : Int32) (l3 : Int32) (l4 : Int32) (l5 : Int32) (l6 : Int32) (l7 : Int32) (G : Hp) (H : Heap) (locs : List Loc) (cells slots : Nat) (ls : Array Slot), k6 l1 l2 l3 l4 l5 l6 l7 G → isO G th 5 → HI (twd D T Z) G0 s (rmX (twd D T Z) 4 91 G0) H locs cells slots G → LH ls 8 [(0, .inr (.inl th)), (1, .inr (.inl l1)), (2, .inl l2), (3, .inl l3), (4, .inl l4), (5, .inl l5), (6, .inl l6), (7, .inl l7)] → W p l e (rmX (twd D T Z) 4 91 G0) s m args below meth c H locs cells slots (MQX (twd D T Z) G0 (qI Q) (fun _ _ => False) below s) (F0 m 6 ls [])) : ∀ (l1 : Option Nat) (l2 : Int32) (l3 : Int32) (l4 : Int32) (l5 : Int32) (l7 : Int32) (G : Hp) (H : Heap) (locs : List Loc) (cells slots : Nat) (ls : Array Slot), w_X7_round_56 T Q th k6 l1 l2 l3 l4 l5 l7 G → isO G th 5 → HI (twd D T Z) G0 s (rmX (twd D T Z) 4 91 G0) H locs cells slots G → LH ls 8 [(0, .inr (.inl th)), (1, .inr (.inl l1)), (2, .inl l2), (3, .inl l3), (4, .inl l4), (5, .inl l5), (7, .inl l7)] → W p l e (rmX (twd D T Z) 4 91 G0) s m args below meth c H locs cells slots (MQX (twd D T Z) G0 (qI Q) (fun _ _ => False) below s) (F0 m 56 ls []) := by
  intro l1 l2 l3 l4 l5 l7 G H locs cells slots ls h hth I hl
  refine l_ald_n C dX7_round_56 hl 1 rfl rfl ?_
  obtain ⟨ho1, h⟩ := h
  refine g_R C I fl_X7_64_8 (by decide) (by decide) ho1 dX7_round_57 ?_
  refine l_ild C dX7_round_60 hl 6 rfl ?_
  obtain ⟨ho2, h⟩ := h
  obtain ⟨hi, h⟩ := h
  refine a_iald C I ho2 hi dX7_round_62 ?_
  refine l_ist C dX7_round_63 hl (by decide) rfl (fun ls hl => ?_)
  have hl : LH ls 8 [(6, .inl (gI G (ad (gR G (ad l1) 0)) l7.toNatClampNeg)), (0, .inr (.inl th)), (1, .inr (.inl l1)), (2, .inl l2), (3, .inl l3), (4, .inl l4), (5, .inl l5), (7, .inl l7)] := hl
  exact b_X7_round_65 C hk6 l1 l2 l3 l4 l5 (gI G (ad (gR G (ad l1) 0)) l7.toNatClampNeg) l7 G _ _ _ _ _ h hth I (hl.sub [1, 2, 3, 4, 5, 6, 0, 7] rfl)
def w_X7_round_84 (T : Nat → ClassId) (Q : Int32 → Hp → Prop) (th : Option Nat) (t0 : Int32) (G : Hp) : Prop := Q t0 G
set_option maxHeartbeats 4000000 in
theorem b_X7_round_84 {G0 : Hp} {Q : Int32 → Hp → Prop} {th : Option Nat} (C : Cx p s m meth c D T Z "EndingTown$Told" cX7_round 8 (some .int)) : ∀ (t0 : Int32) (G : Hp) (H : Heap) (locs : List Loc) (cells slots : Nat) (ls : Array Slot), w_X7_round_84 T Q th t0 G → isO G th 5 → HI (twd D T Z) G0 s (rmX (twd D T Z) 4 91 G0) H locs cells slots G → LH ls 8 [] → W p l e (rmX (twd D T Z) 4 91 G0) s m args below meth c H locs cells slots (MQX (twd D T Z) G0 (qI Q) (fun _ _ => False) below s) (F0 m 84 ls [.int t0]) := by
  intro t0 G H locs cells slots ls h hth I hl
  exact r_int C.1 C.2.1 C.2.2.2.2.2.1 rfl C.2.2.2.2.2.2 ⟨rfl, rfl⟩ I dX7_round_84 ⟨_, rfl, h⟩
def w_X7_round_6 (T : Nat → ClassId) (Q : Int32 → Hp → Prop) (th : Option Nat) : Nat → Option Nat → Int32 → Int32 → Int32 → Int32 → Int32 → Int32 → Hp → Prop
  | 0 => fun _ _ _ _ _ _ _ _ => False
  | f6 + 1 => fun l1 l2 l3 l4 l5 l6 l7 G => isO G (gR G (ad th) 1) 1 ∧ isO G (gR G (ad (gR G (ad th) 1)) 1) 16 ∧ w_J2_size T (fun r3 G2 => Ext G G2 → ((r3 ≤ l7) → (((¬ l6 = 0) → (w_X7_round_84 T Q th ((l6 + (1 : Int32))) G2)) ∧ ((l6 = 0) → (w_X7_round_84 T Q th ((0 : Int32)) G2)))) ∧ ((¬ r3 ≤ l7) → (w_X7_tells T (fun r6 G5 => Ext G2 G5 → ((r6 = 0) → (w_X7_round_65 T Q th (w_X7_round_6 T Q th f6) l1 l2 l3 l4 l5 l6 l7 G5)) ∧ ((¬ r6 = 0) → (((l6 = 0) → (w_X7_round_56 T Q th (w_X7_round_6 T Q th f6) l1 l2 l3 l4 l5 l7 G5)) ∧ ((¬ l6 = 0) → (isO G5 l1 8 ∧ isO G5 (gR G5 (ad l1) 0) 50 ∧ vp_in l7 (gN G5 (ad (gR G5 (ad l1) 0))) ∧ ((l6 ≤ gI G5 (ad (gR G5 (ad l1) 0)) l7.toNatClampNeg) → (w_X7_round_65 T Q th (w_X7_round_6 T Q th f6) l1 l2 l3 l4 l5 l6 l7 G5)) ∧ ((¬ l6 ≤ gI G5 (ad (gR G5 (ad l1) 0)) l7.toNatClampNeg) → (w_X7_round_56 T Q th (w_X7_round_6 T Q th f6) l1 l2 l3 l4 l5 l7 G5))))))) th l1 l7 l2 l3 l4 l5 G2))) (gR G (ad (gR G (ad th) 1)) 1) G
set_option maxHeartbeats 4000000 in
theorem b_X7_round_6 {G0 : Hp} {Q : Int32 → Hp → Prop} {th : Option Nat} (C : Cx p s m meth c D T Z "EndingTown$Told" cX7_round 8 (some .int)) : ∀ (n : Nat) (l1 : Option Nat) (l2 : Int32) (l3 : Int32) (l4 : Int32) (l5 : Int32) (l6 : Int32) (l7 : Int32) (G : Hp) (H : Heap) (locs : List Loc) (cells slots : Nat) (ls : Array Slot), w_X7_round_6 T Q th n l1 l2 l3 l4 l5 l6 l7 G → isO G th 5 → HI (twd D T Z) G0 s (rmX (twd D T Z) 4 91 G0) H locs cells slots G → LH ls 8 [(0, .inr (.inl th)), (1, .inr (.inl l1)), (2, .inl l2), (3, .inl l3), (4, .inl l4), (5, .inl l5), (6, .inl l6), (7, .inl l7)] → W p l e (rmX (twd D T Z) 4 91 G0) s m args below meth c H locs cells slots (MQX (twd D T Z) G0 (qI Q) (fun _ _ => False) below s) (F0 m 6 ls []) := by
  intro f6
  induction f6 with
  | zero => intro l1 l2 l3 l4 l5 l6 l7 G H locs cells slots ls h; exact (show False from h).elim
  | succ f6 ih =>
    intro l1 l2 l3 l4 l5 l6 l7 G H locs cells slots ls h hth I hl
    have h : isO G (gR G (ad th) 1) 1 ∧ isO G (gR G (ad (gR G (ad th) 1)) 1) 16 ∧ w_J2_size T (fun r3 G2 => Ext G G2 → ((r3 ≤ l7) → (((¬ l6 = 0) → (w_X7_round_84 T Q th ((l6 + (1 : Int32))) G2)) ∧ ((l6 = 0) → (w_X7_round_84 T Q th ((0 : Int32)) G2)))) ∧ ((¬ r3 ≤ l7) → (w_X7_tells T (fun r6 G5 => Ext G2 G5 → ((r6 = 0) → (w_X7_round_65 T Q th (w_X7_round_6 T Q th f6) l1 l2 l3 l4 l5 l6 l7 G5)) ∧ ((¬ r6 = 0) → (((l6 = 0) → (w_X7_round_56 T Q th (w_X7_round_6 T Q th f6) l1 l2 l3 l4 l5 l7 G5)) ∧ ((¬ l6 = 0) → (isO G5 l1 8 ∧ isO G5 (gR G5 (ad l1) 0) 50 ∧ vp_in l7 (gN G5 (ad (gR G5 (ad l1) 0))) ∧ ((l6 ≤ gI G5 (ad (gR G5 (ad l1) 0)) l7.toNatClampNeg) → (w_X7_round_65 T Q th (w_X7_round_6 T Q th f6) l1 l2 l3 l4 l5 l6 l7 G5)) ∧ ((¬ l6 ≤ gI G5 (ad (gR G5 (ad l1) 0)) l7.toNatClampNeg) → (w_X7_round_56 T Q th (w_X7_round_6 T Q th f6) l1 l2 l3 l4 l5 l7 G5))))))) th l1 l7 l2 l3 l4 l5 G2))) (gR G (ad (gR G (ad th) 1)) 1) G := h
    have hk6 := ih
    refine l_ild C dX7_round_6 hl 7 rfl ?_
    refine l_ald_n C dX7_round_8 hl 0 rfl rfl ?_
    refine g_R C I fl_X7_1_5 (by decide) (by decide) hth dX7_round_9 ?_
    obtain ⟨ho1, h⟩ := h
    refine g_R C I fl_X7_13_1 (by decide) (by decide) ho1 dX7_round_12 ?_
    obtain ⟨ho13, h⟩ := h
    refine k_call Ext.tr C I (k_F (kd := 16) (r := gR G (ad (gR G (ad th) 1)) 1) (As := []) (rest := [.int l7]) (y := yJ2_size) (x := ⟨"java/util/List", "size", "()I"⟩) C (by decide) ⟨ho13.ad.1, I.recv C.2.2.2.2.1 ho13 (by decide)⟩ q523 (by decide) q426 q425 q430 q428 q417 q427 q429 rfl pd_J2_size rfl dX7_round_15) (ct_J2_size h) hl.1 dX7_round_15 [.inl l7] rfl (Nat.le_of_ble_eq_true rfl) (Or.inl rfl) q431 q104 ⟨Nat.le_of_ble_eq_true rfl, Nat.le_of_ble_eq_true rfl⟩ (fun v G2 H locs cells slots xG2 hq I => ?_) (fun a G9 H locs cells slots ex hq I => hq.elim)
    obtain ⟨r3, rfl, h⟩ := hq
    have h := h xG2
    refine lv_icmp_ge (tgt := 71) C.1 C.2.1 dX7_round_20 (by decide) (fun c12 => ?_) (fun c12 => ?_)
    · have h := h.1 c12
      refine l_ild C dX7_round_71 hl 6 rfl ?_
      refine lv_if_ne (tgt := 80) C.1 C.2.1 dX7_round_73 (by decide) (fun c4 => ?_) (fun c4 => ?_)
      · have h := h.1 c4
        refine l_ild C dX7_round_80 hl 6 rfl ?_
        refine lv_iconst (v := 1) C.1 C.2.1 dX7_round_82 (by decide) ?_
        refine lv_iadd C.1 C.2.1 dX7_round_83 ?_
        exact b_X7_round_84 C ((l6 + (1 : Int32))) G2 _ _ _ _ _ h (hth.ext (by decide) xG2) I (hl.sub [] rfl)
      · have h := h.2 c4
        refine lv_iconst (v := 0) C.1 C.2.1 dX7_round_76 (by decide) ?_
        refine lv_goto (tgt := 84) C.1 C.2.1 dX7_round_77 (by decide) ?_
        exact b_X7_round_84 C ((0 : Int32)) G2 _ _ _ _ _ h (hth.ext (by decide) xG2) I (hl.sub [] rfl)
    · have h := h.2 c12
      refine l_ald_n C dX7_round_23 hl 0 rfl rfl ?_
      refine l_ald_n C dX7_round_24 hl 1 rfl rfl ?_
      refine l_ild C dX7_round_25 hl 7 rfl ?_
      refine l_ild_n C dX7_round_27 hl 2 rfl rfl ?_
      refine l_ild_n C dX7_round_28 hl 3 rfl rfl ?_
      refine l_ild C dX7_round_29 hl 4 rfl ?_
      refine l_ild C dX7_round_31 hl 5 rfl ?_
      refine k_call Ext.tr C I (k_V (r := th) (As := [va_rf l1, .int l7, .int l2, .int l3, .int l4, .int l5]) (rest := []) (y := yX7_tells) C ⟨(hth.ext (by decide) xG2).ad.1, I.recv C.2.2.2.2.1 (hth.ext (by decide) xG2) (by decide)⟩ q524 q526 qs3 (Or.inl rfl) q527 (by decide) rfl pd_X7_tells rfl dX7_round_33) (ct_X7_tells h) hl.1 dX7_round_33 [] rfl (Nat.le_of_ble_eq_true rfl) (Or.inl rfl) q527 q109 ⟨Nat.le_of_ble_eq_true rfl, Nat.le_of_ble_eq_true rfl⟩ (fun v G5 H locs cells slots xG5 hq I => ?_) (fun a G9 H locs cells slots ex hq I => hq.elim)
      obtain ⟨r6, rfl, h⟩ := hq
      have h := h xG5
      refine lv_if_eq (tgt := 65) C.1 C.2.1 dX7_round_36 (by decide) (fun c11 => ?_) (fun c11 => ?_)
      · have h := h.1 c11
        exact b_X7_round_65 C hk6 l1 l2 l3 l4 l5 l6 l7 G5 _ _ _ _ _ h (hth.ext (by decide) (Ext.tr _ _ _ xG2 xG5)) I (hl.sub [0, 1, 2, 3, 4, 5, 6, 7] rfl)
      · have h := h.2 c11
        refine l_ild C dX7_round_39 hl 6 rfl ?_
        refine lv_if_eq (tgt := 56) C.1 C.2.1 dX7_round_41 (by decide) (fun c10 => ?_) (fun c10 => ?_)
        · have h := h.1 c10
          exact b_X7_round_56 C hk6 l1 l2 l3 l4 l5 l7 G5 _ _ _ _ _ h (hth.ext (by decide) (Ext.tr _ _ _ xG2 xG5)) I (hl.sub [0, 1, 2, 3, 4, 5, 7] rfl)
        · have h := h.2 c10
          refine l_ald_n C dX7_round_44 hl 1 rfl rfl ?_
          obtain ⟨ho7, h⟩ := h
          refine g_R C I fl_X7_64_8 (by decide) (by decide) ho7 dX7_round_45 ?_
          refine l_ild C dX7_round_48 hl 7 rfl ?_
          obtain ⟨ho8, h⟩ := h
          obtain ⟨hi, h⟩ := h
          refine a_iald C I ho8 hi dX7_round_50 ?_
          refine l_ild C dX7_round_51 hl 6 rfl ?_
          refine lv_icmp_ge (tgt := 65) C.1 C.2.1 dX7_round_53 (by decide) (fun c9 => ?_) (fun c9 => ?_)
          · have h := h.1 c9
            exact b_X7_round_65 C hk6 l1 l2 l3 l4 l5 l6 l7 G5 _ _ _ _ _ h (hth.ext (by decide) (Ext.tr _ _ _ xG2 xG5)) I (hl.sub [0, 1, 2, 3, 4, 5, 6, 7] rfl)
          · have h := h.2 c9
            exact b_X7_round_56 C hk6 l1 l2 l3 l4 l5 l7 G5 _ _ _ _ _ h (hth.ext (by decide) (Ext.tr _ _ _ xG2 xG5)) I (hl.sub [0, 1, 2, 3, 4, 5, 7] rfl)
def w_X7_round (T : Nat → ClassId) (Q : Int32 → Hp → Prop) (th : Option Nat) (p0 : Option Nat) (p1 : Int32) (p2 : Int32) (p3 : Int32) (p4 : Int32) (G : Hp) : Prop := isO G th 5 ∧ (∃ n, w_X7_round_6 T Q th n p0 p1 p2 p3 p4 ((0 : Int32)) ((0 : Int32)) G)
theorem pd_X7_round : (parseMethodDescriptor yX7_round.desc).map (fun d => d.parameters.length) = some 5 := by decide +kernel
set_option maxHeartbeats 4000000 in
theorem ct_X7_round {l : Launch} {D : va_G} {T : Nat → ClassId} {Z : Heap} {G0 : Hp} {Q : Int32 → Hp → Prop} {th : Option Nat} {p0 : Option Nat} {p1 : Int32} {p2 : Int32} {p3 : Int32} {p4 : Int32} (hw : w_X7_round T Q th p0 p1 p2 p3 p4 G0) : CT (twd D T Z) (Evd D T Z) l yX7_round (Cond.code yX7_round cX7_round 8 (some .int)) 4 91 [va_rf th, va_rf p0, .int p1, .int p2, .int p3, .int p4] G0 (qI Q) (fun _ _ => False) := by
  refine CT.ofW (cc := cX7_round) (nL := 8) (ret := (some .int)) Ext.rf (by decide) (Or.inl rfl) ?_
  intro p e s m below meth c hx hb hml hown hr hlk hnm hcb hm hc hn hE I
  have C : Cx p s m meth c D T Z "EndingTown$Told" cX7_round 8 (some .int) := ⟨hx, hb, hml, hown, hE, hr, hlk⟩
  refine w_entry [.inr (.inl th), .inr (.inl p0), .inl p1, .inl p2, .inl p3, .inl p4] (Nat.le_of_ble_eq_true rfl) (fun ls hl => ?_)
  have hl : LH ls 8 [(0, .inr (.inl th)), (1, .inr (.inl p0)), (2, .inl p1), (3, .inl p2), (4, .inl p3), (5, .inl p4)] := hl
  obtain ⟨hth, h⟩ := hw
  refine lv_iconst (v := 0) C.1 C.2.1 dX7_round_0 (by decide) ?_
  refine l_ist C dX7_round_1 hl (by decide) rfl (fun ls hl => ?_)
  have hl : LH ls 8 [(6, .inl ((0 : Int32))), (0, .inr (.inl th)), (1, .inr (.inl p0)), (2, .inl p1), (3, .inl p2), (4, .inl p3), (5, .inl p4)] := hl
  refine lv_iconst (v := 0) C.1 C.2.1 dX7_round_3 (by decide) ?_
  refine l_ist C dX7_round_4 hl (by decide) rfl (fun ls hl => ?_)
  have hl : LH ls 8 [(7, .inl ((0 : Int32))), (6, .inl ((0 : Int32))), (0, .inr (.inl th)), (1, .inr (.inl p0)), (2, .inl p1), (3, .inl p2), (4, .inl p3), (5, .inl p4)] := hl
  obtain ⟨n, h⟩ := h
  exact b_X7_round_6 C n p0 p1 p2 p3 p4 ((0 : Int32)) ((0 : Int32)) G0 _ _ _ _ _ h hth I (hl.sub [2, 3, 4, 5, 6, 7, 1, 0] rfl)
def w_J7_max_10 (T : Nat → ClassId) (Q : Int32 → Hp → Prop) (t0 : Int32) (G : Hp) : Prop := Q t0 G
set_option maxHeartbeats 4000000 in
theorem b_J7_max_10 {G0 : Hp} {Q : Int32 → Hp → Prop} (C : Cx p s m meth c D T Z "java/lang/Math" cJ7_max 2 (some .int)) : ∀ (t0 : Int32) (G : Hp) (H : Heap) (locs : List Loc) (cells slots : Nat) (ls : Array Slot), w_J7_max_10 T Q t0 G → HI (twd D T Z) G0 s (rmX (twd D T Z) 0 0 G0) H locs cells slots G → LH ls 2 [] → W p l e (rmX (twd D T Z) 0 0 G0) s m args below meth c H locs cells slots (MQX (twd D T Z) G0 (qI Q) (fun _ _ => False) below s) (F0 m 10 ls [.int t0]) := by
  intro t0 G H locs cells slots ls h I hl
  exact r_int C.1 C.2.1 C.2.2.2.2.2.1 rfl C.2.2.2.2.2.2 ⟨rfl, rfl⟩ I dJ7_max_10 ⟨_, rfl, h⟩
def w_J7_max (T : Nat → ClassId) (Q : Int32 → Hp → Prop) (p0 : Int32) (p1 : Int32) (G : Hp) : Prop := (((p0 < p1) → (w_J7_max_10 T Q p1 G)) ∧ ((¬ p0 < p1) → (w_J7_max_10 T Q p0 G)))
theorem pd_J7_max : (parseMethodDescriptor yJ7_max.desc).map (fun d => d.parameters.length) = some 2 := by decide +kernel
set_option maxHeartbeats 4000000 in
theorem ct_J7_max {l : Launch} {D : va_G} {T : Nat → ClassId} {Z : Heap} {G0 : Hp} {Q : Int32 → Hp → Prop} {p0 : Int32} {p1 : Int32} (hw : w_J7_max T Q p0 p1 G0) : CT (twd D T Z) (Evd D T Z) l yJ7_max (Cond.code yJ7_max cJ7_max 2 (some .int)) 0 0 [.int p0, .int p1] G0 (qI Q) (fun _ _ => False) := by
  refine CT.ofW (cc := cJ7_max) (nL := 2) (ret := (some .int)) Ext.rf (by decide +kernel) (Or.inl rfl) ?_
  intro p e s m below meth c hx hb hml hown hr hlk hnm hcb hm hc hn hE I
  have C : Cx p s m meth c D T Z "java/lang/Math" cJ7_max 2 (some .int) := ⟨hx, hb, hml, hown, hE, hr, hlk⟩
  refine w_entry [.inl p0, .inl p1] (Nat.le_of_ble_eq_true rfl) (fun ls hl => ?_)
  have hl : LH ls 2 [(0, .inl p0), (1, .inl p1)] := hl
  have h := hw
  refine l_ild_n C dJ7_max_0 hl 0 rfl rfl ?_
  refine l_ild_n C dJ7_max_1 hl 1 rfl rfl ?_
  refine lv_icmp_lt (tgt := 9) C.1 C.2.1 dJ7_max_2 (by decide) (fun c1 => ?_) (fun c1 => ?_)
  · have h := h.1 c1
    refine l_ild_n C dJ7_max_9 hl 1 rfl rfl ?_
    exact b_J7_max_10 C p1 G0 _ _ _ _ _ h I (hl.sub [] rfl)
  · have h := h.2 c1
    refine l_ild_n C dJ7_max_5 hl 0 rfl rfl ?_
    refine lv_goto (tgt := 10) C.1 C.2.1 dJ7_max_6 (by decide) ?_
    exact b_J7_max_10 C p0 G0 _ _ _ _ _ h I (hl.sub [] rfl)
def w_X8_ruleRound_4 (T : Nat → ClassId) (Q : Int32 → Hp → Prop) (th : Option Nat) : Nat → Option Nat → Int32 → Int32 → Hp → Prop
  | 0 => fun _ _ _ _ => False
  | f4 + 1 => fun l1 l2 l3 G => isO G l1 12 ∧ ((gI G (ad l1) 2 ≤ l3) → (Q ((l2 + (1 : Int32))) G)) ∧ ((¬ gI G (ad l1) 2 ≤ l3) → (isO G (gR G (ad l1) 0) 50 ∧ vp_in l3 (gN G (ad (gR G (ad l1) 0))) ∧ isO G (gR G (ad th) 1) 50 ∧ vp_in (gI G (ad (gR G (ad l1) 0)) l3.toNatClampNeg) (gN G (ad (gR G (ad th) 1))) ∧ ((¬ gI G (ad (gR G (ad th) 1)) (gI G (ad (gR G (ad l1) 0)) l3.toNatClampNeg).toNatClampNeg = 0) → (vp_in l3 (gN G (ad (gR G (ad l1) 0))) ∧ vp_in (gI G (ad (gR G (ad l1) 0)) l3.toNatClampNeg) (gN G (ad (gR G (ad th) 1))) ∧ w_J7_max T (fun r5 G4 => Ext G G4 → (w_X8_ruleRound_4 T Q th f4) l1 r5 ((l3 + 1)) G4) l2 (gI G (ad (gR G (ad th) 1)) (gI G (ad (gR G (ad l1) 0)) l3.toNatClampNeg).toNatClampNeg) G)) ∧ ((gI G (ad (gR G (ad th) 1)) (gI G (ad (gR G (ad l1) 0)) l3.toNatClampNeg).toNatClampNeg = 0) → (Q ((0 : Int32)) G))))
set_option maxHeartbeats 4000000 in
theorem b_X8_ruleRound_4 {G0 : Hp} {Q : Int32 → Hp → Prop} {th : Option Nat} (C : Cx p s m meth c D T Z "EndingTown$Worked" cX8_ruleRound 4 (some .int)) : ∀ (n : Nat) (l1 : Option Nat) (l2 : Int32) (l3 : Int32) (G : Hp) (H : Heap) (locs : List Loc) (cells slots : Nat) (ls : Array Slot), w_X8_ruleRound_4 T Q th n l1 l2 l3 G → isO G th 6 → HI (twd D T Z) G0 s (rmX (twd D T Z) 1 21 G0) H locs cells slots G → LH ls 4 [(0, .inr (.inl th)), (1, .inr (.inl l1)), (2, .inl l2), (3, .inl l3)] → W p l e (rmX (twd D T Z) 1 21 G0) s m args below meth c H locs cells slots (MQX (twd D T Z) G0 (qI Q) (fun _ _ => False) below s) (F0 m 4 ls []) := by
  intro f4
  induction f4 with
  | zero => intro l1 l2 l3 G H locs cells slots ls h; exact (show False from h).elim
  | succ f4 ih =>
    intro l1 l2 l3 G H locs cells slots ls h hth I hl
    have h : isO G l1 12 ∧ ((gI G (ad l1) 2 ≤ l3) → (Q ((l2 + (1 : Int32))) G)) ∧ ((¬ gI G (ad l1) 2 ≤ l3) → (isO G (gR G (ad l1) 0) 50 ∧ vp_in l3 (gN G (ad (gR G (ad l1) 0))) ∧ isO G (gR G (ad th) 1) 50 ∧ vp_in (gI G (ad (gR G (ad l1) 0)) l3.toNatClampNeg) (gN G (ad (gR G (ad th) 1))) ∧ ((¬ gI G (ad (gR G (ad th) 1)) (gI G (ad (gR G (ad l1) 0)) l3.toNatClampNeg).toNatClampNeg = 0) → (vp_in l3 (gN G (ad (gR G (ad l1) 0))) ∧ vp_in (gI G (ad (gR G (ad l1) 0)) l3.toNatClampNeg) (gN G (ad (gR G (ad th) 1))) ∧ w_J7_max T (fun r5 G4 => Ext G G4 → (w_X8_ruleRound_4 T Q th f4) l1 r5 ((l3 + 1)) G4) l2 (gI G (ad (gR G (ad th) 1)) (gI G (ad (gR G (ad l1) 0)) l3.toNatClampNeg).toNatClampNeg) G)) ∧ ((gI G (ad (gR G (ad th) 1)) (gI G (ad (gR G (ad l1) 0)) l3.toNatClampNeg).toNatClampNeg = 0) → (Q ((0 : Int32)) G)))) := h
    have hk4 := ih
    refine l_ild_n C dX8_ruleRound_4 hl 3 rfl rfl ?_
    refine l_ald_n C dX8_ruleRound_5 hl 1 rfl rfl ?_
    obtain ⟨ho1, h⟩ := h
    refine g_I C I fl_X8_60_12 (by decide) (by decide) ho1 dX8_ruleRound_6 ?_
    refine lv_icmp_ge (tgt := 50) C.1 C.2.1 dX8_ruleRound_9 (by decide) (fun c7 => ?_) (fun c7 => ?_)
    · have h := h.1 c7
      refine l_ild_n C dX8_ruleRound_50 hl 2 rfl rfl ?_
      refine lv_iconst (v := 1) C.1 C.2.1 dX8_ruleRound_51 (by decide) ?_
      refine lv_iadd C.1 C.2.1 dX8_ruleRound_52 ?_
      exact r_int C.1 C.2.1 C.2.2.2.2.2.1 rfl C.2.2.2.2.2.2 ⟨rfl, rfl⟩ I dX8_ruleRound_53 ⟨_, rfl, h⟩
    · have h := h.2 c7
      refine l_ald_n C dX8_ruleRound_12 hl 0 rfl rfl ?_
      refine g_R C I fl_X8_15_6 (by decide) (by decide) hth dX8_ruleRound_13 ?_
      refine l_ald_n C dX8_ruleRound_16 hl 1 rfl rfl ?_
      refine g_R C I fl_X8_63_12 (by decide) (by decide) ho1 dX8_ruleRound_17 ?_
      refine l_ild_n C dX8_ruleRound_20 hl 3 rfl rfl ?_
      obtain ⟨ho2, h⟩ := h
      obtain ⟨hi, h⟩ := h
      refine a_iald C I ho2 hi dX8_ruleRound_21 ?_
      obtain ⟨ho3, h⟩ := h
      obtain ⟨hi, h⟩ := h
      refine a_iald C I ho3 hi dX8_ruleRound_22 ?_
      refine lv_if_ne (tgt := 28) C.1 C.2.1 dX8_ruleRound_23 (by decide) (fun c6 => ?_) (fun c6 => ?_)
      · have h := h.1 c6
        refine l_ild_n C dX8_ruleRound_28 hl 2 rfl rfl ?_
        refine l_ald_n C dX8_ruleRound_29 hl 0 rfl rfl ?_
        refine g_R C I fl_X8_15_6 (by decide) (by decide) hth dX8_ruleRound_30 ?_
        refine l_ald_n C dX8_ruleRound_33 hl 1 rfl rfl ?_
        refine g_R C I fl_X8_63_12 (by decide) (by decide) ho1 dX8_ruleRound_34 ?_
        refine l_ild_n C dX8_ruleRound_37 hl 3 rfl rfl ?_
        obtain ⟨hi, h⟩ := h
        refine a_iald C I ho2 hi dX8_ruleRound_38 ?_
        obtain ⟨hi, h⟩ := h
        refine a_iald C I ho3 hi dX8_ruleRound_39 ?_
        refine k_call Ext.tr C I (k_S (As := [.int l2, .int (gI G (ad (gR G (ad th) 1)) (gI G (ad (gR G (ad l1) 0)) l3.toNatClampNeg).toNatClampNeg)]) (rest := []) (y := yJ7_max) C q553 q554 q119 (Or.inl rfl) q555 (by decide) rfl pd_J7_max rfl dX8_ruleRound_40) (ct_J7_max h) hl.1 dX8_ruleRound_40 [] rfl (Nat.le_of_ble_eq_true rfl) (Or.inl rfl) q555 q119 ⟨Nat.le_of_ble_eq_true rfl, Nat.le_of_ble_eq_true rfl⟩ (fun v G4 H locs cells slots xG4 hq I => ?_) (fun a G9 H locs cells slots ex hq I => hq.elim)
        obtain ⟨r5, rfl, h⟩ := hq
        have h := h xG4
        refine l_ist_n C dX8_ruleRound_43 rfl hl (by decide) rfl (fun ls hl => ?_)
        have hl : LH ls 4 [(2, .inl r5), (0, .inr (.inl th)), (1, .inr (.inl l1)), (3, .inl l3)] := hl
        refine l_inc (q := 3) (v := 1) C dX8_ruleRound_44 hl rfl (by decide) (by decide) rfl (fun ls hl => ?_)
        have hl : LH ls 4 [(3, .inl ((l3 + 1))), (2, .inl r5), (0, .inr (.inl th)), (1, .inr (.inl l1))] := hl
        refine lv_goto (tgt := 4) C.1 C.2.1 dX8_ruleRound_47 (by decide) ?_
        exact hk4 l1 r5 ((l3 + 1)) G4 _ _ _ _ _ h (hth.ext (by decide) xG4) I (hl.sub [2, 3, 1, 0] rfl)
      · have h := h.2 c6
        refine lv_iconst (v := 0) C.1 C.2.1 dX8_ruleRound_26 (by decide) ?_
        exact r_int C.1 C.2.1 C.2.2.2.2.2.1 rfl C.2.2.2.2.2.2 ⟨rfl, rfl⟩ I dX8_ruleRound_27 ⟨_, rfl, h⟩
def w_X8_ruleRound (T : Nat → ClassId) (Q : Int32 → Hp → Prop) (th : Option Nat) (p0 : Option Nat) (G : Hp) : Prop := isO G th 6 ∧ (∃ n, w_X8_ruleRound_4 T Q th n p0 ((0 : Int32)) ((0 : Int32)) G)
theorem pd_X8_ruleRound : (parseMethodDescriptor yX8_ruleRound.desc).map (fun d => d.parameters.length) = some 1 := by decide +kernel
set_option maxHeartbeats 4000000 in
theorem ct_X8_ruleRound {l : Launch} {D : va_G} {T : Nat → ClassId} {Z : Heap} {G0 : Hp} {Q : Int32 → Hp → Prop} {th : Option Nat} {p0 : Option Nat} (hw : w_X8_ruleRound T Q th p0 G0) : CT (twd D T Z) (Evd D T Z) l yX8_ruleRound (Cond.code yX8_ruleRound cX8_ruleRound 4 (some .int)) 1 21 [va_rf th, va_rf p0] G0 (qI Q) (fun _ _ => False) := by
  refine CT.ofW (cc := cX8_ruleRound) (nL := 4) (ret := (some .int)) Ext.rf (by decide) (Or.inl rfl) ?_
  intro p e s m below meth c hx hb hml hown hr hlk hnm hcb hm hc hn hE I
  have C : Cx p s m meth c D T Z "EndingTown$Worked" cX8_ruleRound 4 (some .int) := ⟨hx, hb, hml, hown, hE, hr, hlk⟩
  refine w_entry [.inr (.inl th), .inr (.inl p0)] (Nat.le_of_ble_eq_true rfl) (fun ls hl => ?_)
  have hl : LH ls 4 [(0, .inr (.inl th)), (1, .inr (.inl p0))] := hl
  obtain ⟨hth, h⟩ := hw
  refine lv_iconst (v := 0) C.1 C.2.1 dX8_ruleRound_0 (by decide) ?_
  refine l_ist_n C dX8_ruleRound_1 rfl hl (by decide) rfl (fun ls hl => ?_)
  have hl : LH ls 4 [(2, .inl ((0 : Int32))), (0, .inr (.inl th)), (1, .inr (.inl p0))] := hl
  refine lv_iconst (v := 0) C.1 C.2.1 dX8_ruleRound_2 (by decide) ?_
  refine l_ist_n C dX8_ruleRound_3 rfl hl (by decide) rfl (fun ls hl => ?_)
  have hl : LH ls 4 [(3, .inl ((0 : Int32))), (2, .inl ((0 : Int32))), (0, .inr (.inl th)), (1, .inr (.inl p0))] := hl
  obtain ⟨n, h⟩ := h
  exact b_X8_ruleRound_4 C n p0 ((0 : Int32)) ((0 : Int32)) G0 _ _ _ _ _ h hth I (hl.sub [2, 3, 1, 0] rfl)
def w_X8_tell_101 (T : Nat → ClassId) (Q : Hp → Prop) (th : Option Nat) (k20 : Option Nat → Int32 → Int32 → Int32 → Int32 → Hp → Prop) (k38 : Option Nat → Int32 → Int32 → Int32 → Int32 → Int32 → Hp → Prop) (l1 : Option Nat) (l2 : Int32) (l3 : Int32) (l4 : Int32) (l5 : Int32) (l6 : Int32) (G : Hp) : Prop := k38 l1 l2 l3 l4 l5 ((l6 + 1)) G
set_option maxHeartbeats 4000000 in
theorem b_X8_tell_101 {G0 : Hp} {Q : Hp → Prop} {th : Option Nat} {k20 : Option Nat → Int32 → Int32 → Int32 → Int32 → Hp → Prop} {k38 : Option Nat → Int32 → Int32 → Int32 → Int32 → Int32 → Hp → Prop} (C : Cx p s m meth c D T Z "EndingTown$Worked" cX8_tell 9 none) (hk20 : ∀ (l1 : Option Nat) (l2 : Int32) (l3 : Int32) (l4 : Int32) (l5 : Int32) (G : Hp) (H : Heap) (locs : List Loc) (cells slots : Nat) (ls : Array Slot), k20 l1 l2 l3 l4 l5 G → isO G th 6 → HI (twd D T Z) G0 s (rmX (twd D T Z) 5 118 G0) H locs cells slots G → LH ls 9 [(0, .inr (.inl th)), (1, .inr (.inl l1)), (2, .inl l2), (3, .inl l3), (4, .inl l4), (5, .inl l5)] → W p l e (rmX (twd D T Z) 5 118 G0) s m args below meth c H locs cells slots (MQX (twd D T Z) G0 (qV Q) (fun _ _ => False) below s) (F0 m 20 ls [])) (hk38 : ∀ (l1 : Option Nat) (l2 : Int32) (l3 : Int32) (l4 : Int32) (l5 : Int32) (l6 : Int32) (G : Hp) (H : Heap) (locs : List Loc) (cells slots : Nat) (ls : Array Slot), k38 l1 l2 l3 l4 l5 l6 G → isO G th 6 → HI (twd D T Z) G0 s (rmX (twd D T Z) 5 118 G0) H locs cells slots G → LH ls 9 [(0, .inr (.inl th)), (1, .inr (.inl l1)), (2, .inl l2), (3, .inl l3), (4, .inl l4), (5, .inl l5), (6, .inl l6)] → W p l e (rmX (twd D T Z) 5 118 G0) s m args below meth c H locs cells slots (MQX (twd D T Z) G0 (qV Q) (fun _ _ => False) below s) (F0 m 38 ls [])) : ∀ (l1 : Option Nat) (l2 : Int32) (l3 : Int32) (l4 : Int32) (l5 : Int32) (l6 : Int32) (G : Hp) (H : Heap) (locs : List Loc) (cells slots : Nat) (ls : Array Slot), w_X8_tell_101 T Q th k20 k38 l1 l2 l3 l4 l5 l6 G → isO G th 6 → HI (twd D T Z) G0 s (rmX (twd D T Z) 5 118 G0) H locs cells slots G → LH ls 9 [(0, .inr (.inl th)), (1, .inr (.inl l1)), (2, .inl l2), (3, .inl l3), (4, .inl l4), (5, .inl l5), (6, .inl l6)] → W p l e (rmX (twd D T Z) 5 118 G0) s m args below meth c H locs cells slots (MQX (twd D T Z) G0 (qV Q) (fun _ _ => False) below s) (F0 m 101 ls []) := by
  intro l1 l2 l3 l4 l5 l6 G H locs cells slots ls h hth I hl
  refine l_inc (q := 6) (v := 1) C dX8_tell_101 hl rfl (by decide) (by decide) rfl (fun ls hl => ?_)
  have hl : LH ls 9 [(6, .inl ((l6 + 1))), (0, .inr (.inl th)), (1, .inr (.inl l1)), (2, .inl l2), (3, .inl l3), (4, .inl l4), (5, .inl l5)] := hl
  refine lv_goto (tgt := 38) C.1 C.2.1 dX8_tell_104 (by decide) ?_
  exact hk38 l1 l2 l3 l4 l5 ((l6 + 1)) G _ _ _ _ _ h hth I (hl.sub [1, 2, 3, 4, 5, 6, 0] rfl)
def w_X8_tell_92 (T : Nat → ClassId) (Q : Hp → Prop) (th : Option Nat) (k20 : Option Nat → Int32 → Int32 → Int32 → Int32 → Hp → Prop) (k38 : Option Nat → Int32 → Int32 → Int32 → Int32 → Int32 → Hp → Prop) (l1 : Option Nat) (l2 : Int32) (l3 : Int32) (l4 : Int32) (l5 : Int32) (l6 : Int32) (l7 : Int32) (G : Hp) : Prop := isO G (gR G (ad th) 1) 50 ∧ vp_in l5 (gN G (ad (gR G (ad th) 1))) ∧ ∀ G2 : Hp, G2 = wI G (ad (gR G (ad th) 1)) l5.toNatClampNeg l7 → w_X8_tell_101 T Q th k20 k38 l1 l2 l3 l4 l5 l6 G2
set_option maxHeartbeats 4000000 in
theorem b_X8_tell_92 {G0 : Hp} {Q : Hp → Prop} {th : Option Nat} {k20 : Option Nat → Int32 → Int32 → Int32 → Int32 → Hp → Prop} {k38 : Option Nat → Int32 → Int32 → Int32 → Int32 → Int32 → Hp → Prop} (C : Cx p s m meth c D T Z "EndingTown$Worked" cX8_tell 9 none) (hk20 : ∀ (l1 : Option Nat) (l2 : Int32) (l3 : Int32) (l4 : Int32) (l5 : Int32) (G : Hp) (H : Heap) (locs : List Loc) (cells slots : Nat) (ls : Array Slot), k20 l1 l2 l3 l4 l5 G → isO G th 6 → HI (twd D T Z) G0 s (rmX (twd D T Z) 5 118 G0) H locs cells slots G → LH ls 9 [(0, .inr (.inl th)), (1, .inr (.inl l1)), (2, .inl l2), (3, .inl l3), (4, .inl l4), (5, .inl l5)] → W p l e (rmX (twd D T Z) 5 118 G0) s m args below meth c H locs cells slots (MQX (twd D T Z) G0 (qV Q) (fun _ _ => False) below s) (F0 m 20 ls [])) (hk38 : ∀ (l1 : Option Nat) (l2 : Int32) (l3 : Int32) (l4 : Int32) (l5 : Int32) (l6 : Int32) (G : Hp) (H : Heap) (locs : List Loc) (cells slots : Nat) (ls : Array Slot), k38 l1 l2 l3 l4 l5 l6 G → isO G th 6 → HI (twd D T Z) G0 s (rmX (twd D T Z) 5 118 G0) H locs cells slots G → LH ls 9 [(0, .inr (.inl th)), (1, .inr (.inl l1)), (2, .inl l2), (3, .inl l3), (4, .inl l4), (5, .inl l5), (6, .inl l6)] → W p l e (rmX (twd D T Z) 5 118 G0) s m args below meth c H locs cells slots (MQX (twd D T Z) G0 (qV Q) (fun _ _ => False) below s) (F0 m 38 ls [])) : ∀ (l1 : Option Nat) (l2 : Int32) (l3 : Int32) (l4 : Int32) (l5 : Int32) (l6 : Int32) (l7 : Int32) (G : Hp) (H : Heap) (locs : List Loc) (cells slots : Nat) (ls : Array Slot), w_X8_tell_92 T Q th k20 k38 l1 l2 l3 l4 l5 l6 l7 G → isO G th 6 → HI (twd D T Z) G0 s (rmX (twd D T Z) 5 118 G0) H locs cells slots G → LH ls 9 [(0, .inr (.inl th)), (1, .inr (.inl l1)), (2, .inl l2), (3, .inl l3), (4, .inl l4), (5, .inl l5), (6, .inl l6), (7, .inl l7)] → W p l e (rmX (twd D T Z) 5 118 G0) s m args below meth c H locs cells slots (MQX (twd D T Z) G0 (qV Q) (fun _ _ => False) below s) (F0 m 92 ls []) := by
  intro l1 l2 l3 l4 l5 l6 l7 G H locs cells slots ls h hth I hl
  refine l_ald_n C dX8_tell_92 hl 0 rfl rfl ?_
  refine g_R C I fl_X8_15_6 (by decide) (by decide) hth dX8_tell_93 ?_
  refine l_ild C dX8_tell_96 hl 5 rfl ?_
  refine l_ild C dX8_tell_98 hl 7 rfl ?_
  obtain ⟨ho1, h⟩ := h
  obtain ⟨hi, h⟩ := h
  refine A_iast C I ho1 hi dX8_tell_100 (fun H locs G2 eG2 xG2 I => ?_)
  have h := h G2 eG2
  exact b_X8_tell_101 C hk20 hk38 l1 l2 l3 l4 l5 l6 G2 _ _ _ _ _ h (hth.ext (by decide) xG2) I (hl.sub [0, 1, 2, 3, 4, 5, 6] rfl)
def w_X8_tell_38 (T : Nat → ClassId) (Q : Hp → Prop) (th : Option Nat) (k20 : Option Nat → Int32 → Int32 → Int32 → Int32 → Hp → Prop) : Nat → Option Nat → Int32 → Int32 → Int32 → Int32 → Int32 → Hp → Prop
  | 0 => fun _ _ _ _ _ _ _ => False
  | f38 + 1 => fun l1 l2 l3 l4 l5 l6 G => (((2 : Int32) < l6) → (k20 l1 l2 l3 l4 ((l5 + 1)) G)) ∧ ((¬ (2 : Int32) < l6) → (isO G (gR G (ad th) 2) 1 ∧ isO G (gR G (ad (gR G (ad th) 2)) 2) 56 ∧ vp_in l6 (gN G (ad (gR G (ad (gR G (ad th) 2)) 2))) ∧ (isO G (gR G (ad (gR G (ad (gR G (ad th) 2)) 2)) l6.toNatClampNeg) 3 ∨ isO G (gR G (ad (gR G (ad (gR G (ad th) 2)) 2)) l6.toNatClampNeg) 4 ∨ isO G (gR G (ad (gR G (ad (gR G (ad th) 2)) 2)) l6.toNatClampNeg) 5) ∧ (isO G (gR G (ad (gR G (ad (gR G (ad th) 2)) 2)) l6.toNatClampNeg) 3 → w_X5_round T (fun r4 G3 => Ext G G3 → ((r4 ≤ 0) → (w_X8_tell_101 T Q th k20 (w_X8_tell_38 T Q th k20 f38) l1 l2 l3 l4 l5 l6 G3)) ∧ ((¬ r4 ≤ 0) → (isO G3 (gR G3 (ad th) 1) 50 ∧ vp_in l5 (gN G3 (ad (gR G3 (ad th) 1))) ∧ ((gI G3 (ad (gR G3 (ad th) 1)) l5.toNatClampNeg = 0) → (w_X8_tell_92 T Q th k20 (w_X8_tell_38 T Q th k20 f38) l1 l2 l3 l4 l5 l6 r4 G3)) ∧ ((¬ gI G3 (ad (gR G3 (ad th) 1)) l5.toNatClampNeg = 0) → (vp_in l5 (gN G3 (ad (gR G3 (ad th) 1))) ∧ ((gI G3 (ad (gR G3 (ad th) 1)) l5.toNatClampNeg ≤ r4) → (w_X8_tell_101 T Q th k20 (w_X8_tell_38 T Q th k20 f38) l1 l2 l3 l4 l5 l6 G3)) ∧ ((¬ gI G3 (ad (gR G3 (ad th) 1)) l5.toNatClampNeg ≤ r4) → (w_X8_tell_92 T Q th k20 (w_X8_tell_38 T Q th k20 f38) l1 l2 l3 l4 l5 l6 r4 G3))))))) (gR G (ad (gR G (ad (gR G (ad th) 2)) 2)) l6.toNatClampNeg) l1 l2 l3 l5 ((0 : Int32)) G) ∧ (isO G (gR G (ad (gR G (ad (gR G (ad th) 2)) 2)) l6.toNatClampNeg) 4 → w_X6_round T (fun r4 G3 => Ext G G3 → ((r4 ≤ 0) → (w_X8_tell_101 T Q th k20 (w_X8_tell_38 T Q th k20 f38) l1 l2 l3 l4 l5 l6 G3)) ∧ ((¬ r4 ≤ 0) → (isO G3 (gR G3 (ad th) 1) 50 ∧ vp_in l5 (gN G3 (ad (gR G3 (ad th) 1))) ∧ ((gI G3 (ad (gR G3 (ad th) 1)) l5.toNatClampNeg = 0) → (w_X8_tell_92 T Q th k20 (w_X8_tell_38 T Q th k20 f38) l1 l2 l3 l4 l5 l6 r4 G3)) ∧ ((¬ gI G3 (ad (gR G3 (ad th) 1)) l5.toNatClampNeg = 0) → (vp_in l5 (gN G3 (ad (gR G3 (ad th) 1))) ∧ ((gI G3 (ad (gR G3 (ad th) 1)) l5.toNatClampNeg ≤ r4) → (w_X8_tell_101 T Q th k20 (w_X8_tell_38 T Q th k20 f38) l1 l2 l3 l4 l5 l6 G3)) ∧ ((¬ gI G3 (ad (gR G3 (ad th) 1)) l5.toNatClampNeg ≤ r4) → (w_X8_tell_92 T Q th k20 (w_X8_tell_38 T Q th k20 f38) l1 l2 l3 l4 l5 l6 r4 G3))))))) (gR G (ad (gR G (ad (gR G (ad th) 2)) 2)) l6.toNatClampNeg) l1 l2 l3 l5 ((0 : Int32)) G) ∧ (isO G (gR G (ad (gR G (ad (gR G (ad th) 2)) 2)) l6.toNatClampNeg) 5 → w_X7_round T (fun r4 G3 => Ext G G3 → ((r4 ≤ 0) → (w_X8_tell_101 T Q th k20 (w_X8_tell_38 T Q th k20 f38) l1 l2 l3 l4 l5 l6 G3)) ∧ ((¬ r4 ≤ 0) → (isO G3 (gR G3 (ad th) 1) 50 ∧ vp_in l5 (gN G3 (ad (gR G3 (ad th) 1))) ∧ ((gI G3 (ad (gR G3 (ad th) 1)) l5.toNatClampNeg = 0) → (w_X8_tell_92 T Q th k20 (w_X8_tell_38 T Q th k20 f38) l1 l2 l3 l4 l5 l6 r4 G3)) ∧ ((¬ gI G3 (ad (gR G3 (ad th) 1)) l5.toNatClampNeg = 0) → (vp_in l5 (gN G3 (ad (gR G3 (ad th) 1))) ∧ ((gI G3 (ad (gR G3 (ad th) 1)) l5.toNatClampNeg ≤ r4) → (w_X8_tell_101 T Q th k20 (w_X8_tell_38 T Q th k20 f38) l1 l2 l3 l4 l5 l6 G3)) ∧ ((¬ gI G3 (ad (gR G3 (ad th) 1)) l5.toNatClampNeg ≤ r4) → (w_X8_tell_92 T Q th k20 (w_X8_tell_38 T Q th k20 f38) l1 l2 l3 l4 l5 l6 r4 G3))))))) (gR G (ad (gR G (ad (gR G (ad th) 2)) 2)) l6.toNatClampNeg) l1 l2 l3 l5 ((0 : Int32)) G)))
set_option maxHeartbeats 4000000 in
theorem b_X8_tell_38 {G0 : Hp} {Q : Hp → Prop} {th : Option Nat} {k20 : Option Nat → Int32 → Int32 → Int32 → Int32 → Hp → Prop} (C : Cx p s m meth c D T Z "EndingTown$Worked" cX8_tell 9 none) (hk20 : ∀ (l1 : Option Nat) (l2 : Int32) (l3 : Int32) (l4 : Int32) (l5 : Int32) (G : Hp) (H : Heap) (locs : List Loc) (cells slots : Nat) (ls : Array Slot), k20 l1 l2 l3 l4 l5 G → isO G th 6 → HI (twd D T Z) G0 s (rmX (twd D T Z) 5 118 G0) H locs cells slots G → LH ls 9 [(0, .inr (.inl th)), (1, .inr (.inl l1)), (2, .inl l2), (3, .inl l3), (4, .inl l4), (5, .inl l5)] → W p l e (rmX (twd D T Z) 5 118 G0) s m args below meth c H locs cells slots (MQX (twd D T Z) G0 (qV Q) (fun _ _ => False) below s) (F0 m 20 ls [])) : ∀ (n : Nat) (l1 : Option Nat) (l2 : Int32) (l3 : Int32) (l4 : Int32) (l5 : Int32) (l6 : Int32) (G : Hp) (H : Heap) (locs : List Loc) (cells slots : Nat) (ls : Array Slot), w_X8_tell_38 T Q th k20 n l1 l2 l3 l4 l5 l6 G → isO G th 6 → HI (twd D T Z) G0 s (rmX (twd D T Z) 5 118 G0) H locs cells slots G → LH ls 9 [(0, .inr (.inl th)), (1, .inr (.inl l1)), (2, .inl l2), (3, .inl l3), (4, .inl l4), (5, .inl l5), (6, .inl l6)] → W p l e (rmX (twd D T Z) 5 118 G0) s m args below meth c H locs cells slots (MQX (twd D T Z) G0 (qV Q) (fun _ _ => False) below s) (F0 m 38 ls []) := by
  intro f38
  induction f38 with
  | zero => intro l1 l2 l3 l4 l5 l6 G H locs cells slots ls h; exact (show False from h).elim
  | succ f38 ih =>
    intro l1 l2 l3 l4 l5 l6 G H locs cells slots ls h hth I hl
    have h : (((2 : Int32) < l6) → (k20 l1 l2 l3 l4 ((l5 + 1)) G)) ∧ ((¬ (2 : Int32) < l6) → (isO G (gR G (ad th) 2) 1 ∧ isO G (gR G (ad (gR G (ad th) 2)) 2) 56 ∧ vp_in l6 (gN G (ad (gR G (ad (gR G (ad th) 2)) 2))) ∧ (isO G (gR G (ad (gR G (ad (gR G (ad th) 2)) 2)) l6.toNatClampNeg) 3 ∨ isO G (gR G (ad (gR G (ad (gR G (ad th) 2)) 2)) l6.toNatClampNeg) 4 ∨ isO G (gR G (ad (gR G (ad (gR G (ad th) 2)) 2)) l6.toNatClampNeg) 5) ∧ (isO G (gR G (ad (gR G (ad (gR G (ad th) 2)) 2)) l6.toNatClampNeg) 3 → w_X5_round T (fun r4 G3 => Ext G G3 → ((r4 ≤ 0) → (w_X8_tell_101 T Q th k20 (w_X8_tell_38 T Q th k20 f38) l1 l2 l3 l4 l5 l6 G3)) ∧ ((¬ r4 ≤ 0) → (isO G3 (gR G3 (ad th) 1) 50 ∧ vp_in l5 (gN G3 (ad (gR G3 (ad th) 1))) ∧ ((gI G3 (ad (gR G3 (ad th) 1)) l5.toNatClampNeg = 0) → (w_X8_tell_92 T Q th k20 (w_X8_tell_38 T Q th k20 f38) l1 l2 l3 l4 l5 l6 r4 G3)) ∧ ((¬ gI G3 (ad (gR G3 (ad th) 1)) l5.toNatClampNeg = 0) → (vp_in l5 (gN G3 (ad (gR G3 (ad th) 1))) ∧ ((gI G3 (ad (gR G3 (ad th) 1)) l5.toNatClampNeg ≤ r4) → (w_X8_tell_101 T Q th k20 (w_X8_tell_38 T Q th k20 f38) l1 l2 l3 l4 l5 l6 G3)) ∧ ((¬ gI G3 (ad (gR G3 (ad th) 1)) l5.toNatClampNeg ≤ r4) → (w_X8_tell_92 T Q th k20 (w_X8_tell_38 T Q th k20 f38) l1 l2 l3 l4 l5 l6 r4 G3))))))) (gR G (ad (gR G (ad (gR G (ad th) 2)) 2)) l6.toNatClampNeg) l1 l2 l3 l5 ((0 : Int32)) G) ∧ (isO G (gR G (ad (gR G (ad (gR G (ad th) 2)) 2)) l6.toNatClampNeg) 4 → w_X6_round T (fun r4 G3 => Ext G G3 → ((r4 ≤ 0) → (w_X8_tell_101 T Q th k20 (w_X8_tell_38 T Q th k20 f38) l1 l2 l3 l4 l5 l6 G3)) ∧ ((¬ r4 ≤ 0) → (isO G3 (gR G3 (ad th) 1) 50 ∧ vp_in l5 (gN G3 (ad (gR G3 (ad th) 1))) ∧ ((gI G3 (ad (gR G3 (ad th) 1)) l5.toNatClampNeg = 0) → (w_X8_tell_92 T Q th k20 (w_X8_tell_38 T Q th k20 f38) l1 l2 l3 l4 l5 l6 r4 G3)) ∧ ((¬ gI G3 (ad (gR G3 (ad th) 1)) l5.toNatClampNeg = 0) → (vp_in l5 (gN G3 (ad (gR G3 (ad th) 1))) ∧ ((gI G3 (ad (gR G3 (ad th) 1)) l5.toNatClampNeg ≤ r4) → (w_X8_tell_101 T Q th k20 (w_X8_tell_38 T Q th k20 f38) l1 l2 l3 l4 l5 l6 G3)) ∧ ((¬ gI G3 (ad (gR G3 (ad th) 1)) l5.toNatClampNeg ≤ r4) → (w_X8_tell_92 T Q th k20 (w_X8_tell_38 T Q th k20 f38) l1 l2 l3 l4 l5 l6 r4 G3))))))) (gR G (ad (gR G (ad (gR G (ad th) 2)) 2)) l6.toNatClampNeg) l1 l2 l3 l5 ((0 : Int32)) G) ∧ (isO G (gR G (ad (gR G (ad (gR G (ad th) 2)) 2)) l6.toNatClampNeg) 5 → w_X7_round T (fun r4 G3 => Ext G G3 → ((r4 ≤ 0) → (w_X8_tell_101 T Q th k20 (w_X8_tell_38 T Q th k20 f38) l1 l2 l3 l4 l5 l6 G3)) ∧ ((¬ r4 ≤ 0) → (isO G3 (gR G3 (ad th) 1) 50 ∧ vp_in l5 (gN G3 (ad (gR G3 (ad th) 1))) ∧ ((gI G3 (ad (gR G3 (ad th) 1)) l5.toNatClampNeg = 0) → (w_X8_tell_92 T Q th k20 (w_X8_tell_38 T Q th k20 f38) l1 l2 l3 l4 l5 l6 r4 G3)) ∧ ((¬ gI G3 (ad (gR G3 (ad th) 1)) l5.toNatClampNeg = 0) → (vp_in l5 (gN G3 (ad (gR G3 (ad th) 1))) ∧ ((gI G3 (ad (gR G3 (ad th) 1)) l5.toNatClampNeg ≤ r4) → (w_X8_tell_101 T Q th k20 (w_X8_tell_38 T Q th k20 f38) l1 l2 l3 l4 l5 l6 G3)) ∧ ((¬ gI G3 (ad (gR G3 (ad th) 1)) l5.toNatClampNeg ≤ r4) → (w_X8_tell_92 T Q th k20 (w_X8_tell_38 T Q th k20 f38) l1 l2 l3 l4 l5 l6 r4 G3))))))) (gR G (ad (gR G (ad (gR G (ad th) 2)) 2)) l6.toNatClampNeg) l1 l2 l3 l5 ((0 : Int32)) G))) := h
    have hk38 := ih
    refine l_ild C dX8_tell_38 hl 6 rfl ?_
    refine lv_iconst (v := 2) C.1 C.2.1 dX8_tell_40 (by decide) ?_
    refine lv_icmp_gt (tgt := 107) C.1 C.2.1 dX8_tell_41 (by decide) (fun c9 => ?_) (fun c9 => ?_)
    · have h := h.1 c9
      refine l_inc (q := 5) (v := 1) C dX8_tell_107 hl rfl (by decide) (by decide) rfl (fun ls hl => ?_)
      have hl : LH ls 9 [(5, .inl ((l5 + 1))), (0, .inr (.inl th)), (1, .inr (.inl l1)), (2, .inl l2), (3, .inl l3), (4, .inl l4), (6, .inl l6)] := hl
      refine lv_goto (tgt := 20) C.1 C.2.1 dX8_tell_110 (by decide) ?_
      exact hk20 l1 l2 l3 l4 ((l5 + 1)) G _ _ _ _ _ h hth I (hl.sub [1, 2, 3, 4, 5, 0] rfl)
    · have h := h.2 c9
      refine l_ald_n C dX8_tell_44 hl 0 rfl rfl ?_
      refine g_R C I fl_X8_3_6 (by decide) (by decide) hth dX8_tell_45 ?_
      obtain ⟨ho1, h⟩ := h
      refine g_R C I fl_X8_35_1 (by decide) (by decide) ho1 dX8_tell_48 ?_
      refine l_ild C dX8_tell_51 hl 6 rfl ?_
      obtain ⟨ho2, h⟩ := h
      obtain ⟨hi, h⟩ := h
      refine a_aald C I ho2 (by decide) hi dX8_tell_53 ?_
      refine l_ald_n C dX8_tell_54 hl 1 rfl rfl ?_
      refine l_ild_n C dX8_tell_55 hl 2 rfl rfl ?_
      refine l_ild_n C dX8_tell_56 hl 3 rfl rfl ?_
      refine l_ild C dX8_tell_57 hl 5 rfl ?_
      refine lv_iconst (v := 0) C.1 C.2.1 dX8_tell_59 (by decide) ?_
      have kk : ∀ (v : Option Value) (G3 : Hp) (H : Heap) (locs : List Loc) (cells slots : Nat), Ext G G3 → (qI (fun r4 G3 => Ext G G3 → ((r4 ≤ 0) → (w_X8_tell_101 T Q th k20 (w_X8_tell_38 T Q th k20 f38) l1 l2 l3 l4 l5 l6 G3)) ∧ ((¬ r4 ≤ 0) → (isO G3 (gR G3 (ad th) 1) 50 ∧ vp_in l5 (gN G3 (ad (gR G3 (ad th) 1))) ∧ ((gI G3 (ad (gR G3 (ad th) 1)) l5.toNatClampNeg = 0) → (w_X8_tell_92 T Q th k20 (w_X8_tell_38 T Q th k20 f38) l1 l2 l3 l4 l5 l6 r4 G3)) ∧ ((¬ gI G3 (ad (gR G3 (ad th) 1)) l5.toNatClampNeg = 0) → (vp_in l5 (gN G3 (ad (gR G3 (ad th) 1))) ∧ ((gI G3 (ad (gR G3 (ad th) 1)) l5.toNatClampNeg ≤ r4) → (w_X8_tell_101 T Q th k20 (w_X8_tell_38 T Q th k20 f38) l1 l2 l3 l4 l5 l6 G3)) ∧ ((¬ gI G3 (ad (gR G3 (ad th) 1)) l5.toNatClampNeg ≤ r4) → (w_X8_tell_92 T Q th k20 (w_X8_tell_38 T Q th k20 f38) l1 l2 l3 l4 l5 l6 r4 G3)))))))) v G3 → HI (twd D T Z) G0 s (rmX (twd D T Z) 5 118 G0) H locs cells slots G3 → W p l e (rmX (twd D T Z) 5 118 G0) s m args below meth c H locs cells slots (MQX (twd D T Z) G0 (qV Q) (fun _ _ => False) below s) (F0 m 63 ls (v.toList ++ [])) := by
        intro v G3 H locs cells slots xG3 hq I
        obtain ⟨r4, rfl, h⟩ := hq
        have h := h xG3
        refine l_ist C dX8_tell_63 hl (by decide) rfl (fun ls hl => ?_)
        have hl : LH ls 9 [(7, .inl r4), (0, .inr (.inl th)), (1, .inr (.inl l1)), (2, .inl l2), (3, .inl l3), (4, .inl l4), (5, .inl l5), (6, .inl l6)] := hl
        refine l_ild C dX8_tell_65 hl 0 rfl ?_
        refine lv_if_le (tgt := 101) C.1 C.2.1 dX8_tell_67 (by decide) (fun c8 => ?_) (fun c8 => ?_)
        · have h := h.1 c8
          exact b_X8_tell_101 C hk20 hk38 l1 l2 l3 l4 l5 l6 G3 _ _ _ _ _ h (hth.ext (by decide) xG3) I (hl.sub [1, 2, 3, 4, 5, 6, 7] rfl)
        · have h := h.2 c8
          refine l_ald_n C dX8_tell_70 hl 1 rfl rfl ?_
          refine g_R C I fl_X8_15_6 (by decide) (by decide) (hth.ext (by decide) xG3) dX8_tell_71 ?_
          refine l_ild C dX8_tell_74 hl 6 rfl ?_
          obtain ⟨ho5, h⟩ := h
          obtain ⟨hi, h⟩ := h
          refine a_iald C I ho5 hi dX8_tell_76 ?_
          refine lv_if_eq (tgt := 92) C.1 C.2.1 dX8_tell_77 (by decide) (fun c7 => ?_) (fun c7 => ?_)
          · have h := h.1 c7
            exact b_X8_tell_92 C hk20 hk38 l1 l2 l3 l4 l5 l6 r4 G3 _ _ _ _ _ h (hth.ext (by decide) xG3) I (hl.sub [1, 2, 3, 4, 5, 6, 7, 0] rfl)
          · have h := h.2 c7
            refine l_ild C dX8_tell_80 hl 0 rfl ?_
            refine l_ald_n C dX8_tell_82 hl 1 rfl rfl ?_
            refine g_R C I fl_X8_15_6 (by decide) (by decide) (hth.ext (by decide) xG3) dX8_tell_83 ?_
            refine l_ild C dX8_tell_86 hl 6 rfl ?_
            obtain ⟨hi, h⟩ := h
            refine a_iald C I ho5 hi dX8_tell_88 ?_
            refine lv_icmp_ge (tgt := 101) C.1 C.2.1 dX8_tell_89 (by decide) (fun c6 => ?_) (fun c6 => ?_)
            · have h := h.1 c6
              exact b_X8_tell_101 C hk20 hk38 l1 l2 l3 l4 l5 l6 G3 _ _ _ _ _ h (hth.ext (by decide) xG3) I (hl.sub [1, 2, 3, 4, 5, 6, 7] rfl)
            · have h := h.2 c6
              exact b_X8_tell_92 C hk20 hk38 l1 l2 l3 l4 l5 l6 r4 G3 _ _ _ _ _ h (hth.ext (by decide) xG3) I (hl.sub [1, 2, 3, 4, 5, 6, 7, 0] rfl)
      obtain ⟨hd, h⟩ := h
      rcases hd with ho3 | ho4 | ho5
      · have h := h.1 ho3
        refine k_call Ext.tr C I (k_U (r := gR G (ad (gR G (ad (gR G (ad th) 2)) 2)) l6.toNatClampNeg) (As := [va_rf l1, .int l2, .int l3, .int l5, .int ((0 : Int32))]) (rest := []) (y := yX5_round) (x := ⟨"EndingTown$How", "round", "(LEndingTown$Day;IIIZ)I"⟩) (owner := "EndingTown$How") C ⟨ho3.ad.1, I.recv C.2.2.2.2.1 ho3 (by decide)⟩ q545 q498 q497 (by decide) q512 q513 rfl pd_X5_round rfl dX8_tell_60) (ct_X5_round h) hl.1 dX8_tell_60 [] rfl (Nat.le_of_ble_eq_true rfl) (Or.inl rfl) q514 q107 ⟨Nat.le_of_ble_eq_true rfl, Nat.le_of_ble_eq_true rfl⟩ (fun v G3 H locs cells slots xG3 hq I => kk v G3 H locs cells slots xG3 hq I) (fun a G9 H locs cells slots ex hq I => hq.elim)
      · have h := h.2.1 ho4
        refine k_call Ext.tr C I (k_U (r := gR G (ad (gR G (ad (gR G (ad th) 2)) 2)) l6.toNatClampNeg) (As := [va_rf l1, .int l2, .int l3, .int l5, .int ((0 : Int32))]) (rest := []) (y := yX6_round) (x := ⟨"EndingTown$How", "round", "(LEndingTown$Day;IIIZ)I"⟩) (owner := "EndingTown$How") C ⟨ho4.ad.1, I.recv C.2.2.2.2.1 ho4 (by decide)⟩ q545 q498 q497 (by decide) q502 q503 rfl pd_X6_round rfl dX8_tell_60) (ct_X6_round h) hl.1 dX8_tell_60 [] rfl (Nat.le_of_ble_eq_true rfl) (Or.inl rfl) q504 q108 ⟨Nat.le_of_ble_eq_true rfl, Nat.le_of_ble_eq_true rfl⟩ (fun v G3 H locs cells slots xG3 hq I => kk v G3 H locs cells slots xG3 hq I) (fun a G9 H locs cells slots ex hq I => hq.elim)
      · have h := h.2.2 ho5
        refine k_call Ext.tr C I (k_U (r := gR G (ad (gR G (ad (gR G (ad th) 2)) 2)) l6.toNatClampNeg) (As := [va_rf l1, .int l2, .int l3, .int l5, .int ((0 : Int32))]) (rest := []) (y := yX7_round) (x := ⟨"EndingTown$How", "round", "(LEndingTown$Day;IIIZ)I"⟩) (owner := "EndingTown$How") C ⟨ho5.ad.1, I.recv C.2.2.2.2.1 ho5 (by decide)⟩ q545 q498 q497 (by decide) q519 q520 rfl pd_X7_round rfl dX8_tell_60) (ct_X7_round h) hl.1 dX8_tell_60 [] rfl (Nat.le_of_ble_eq_true rfl) (Or.inl rfl) q521 q109 ⟨Nat.le_of_ble_eq_true rfl, Nat.le_of_ble_eq_true rfl⟩ (fun v G3 H locs cells slots xG3 hq I => kk v G3 H locs cells slots xG3 hq I) (fun a G9 H locs cells slots ex hq I => hq.elim)
def w_X8_tell_221 (T : Nat → ClassId) (Q : Hp → Prop) (th : Option Nat) (k116 : Int32 → Int32 → Hp → Prop) (k126 : Int32 → Int32 → Int32 → Hp → Prop) (l4 : Int32) (l5 : Int32) (l6 : Int32) (G : Hp) : Prop := k126 l4 l5 ((l6 + 1)) G
set_option maxHeartbeats 4000000 in
theorem b_X8_tell_221 {G0 : Hp} {Q : Hp → Prop} {th : Option Nat} {k116 : Int32 → Int32 → Hp → Prop} {k126 : Int32 → Int32 → Int32 → Hp → Prop} (C : Cx p s m meth c D T Z "EndingTown$Worked" cX8_tell 9 none) (hk116 : ∀ (l4 : Int32) (l5 : Int32) (G : Hp) (H : Heap) (locs : List Loc) (cells slots : Nat) (ls : Array Slot), k116 l4 l5 G → isO G th 6 → HI (twd D T Z) G0 s (rmX (twd D T Z) 5 118 G0) H locs cells slots G → LH ls 9 [(0, .inr (.inl th)), (4, .inl l4), (5, .inl l5)] → W p l e (rmX (twd D T Z) 5 118 G0) s m args below meth c H locs cells slots (MQX (twd D T Z) G0 (qV Q) (fun _ _ => False) below s) (F0 m 116 ls [])) (hk126 : ∀ (l4 : Int32) (l5 : Int32) (l6 : Int32) (G : Hp) (H : Heap) (locs : List Loc) (cells slots : Nat) (ls : Array Slot), k126 l4 l5 l6 G → isO G th 6 → HI (twd D T Z) G0 s (rmX (twd D T Z) 5 118 G0) H locs cells slots G → LH ls 9 [(0, .inr (.inl th)), (4, .inl l4), (5, .inl l5), (6, .inl l6)] → W p l e (rmX (twd D T Z) 5 118 G0) s m args below meth c H locs cells slots (MQX (twd D T Z) G0 (qV Q) (fun _ _ => False) below s) (F0 m 126 ls [])) : ∀ (l4 : Int32) (l5 : Int32) (l6 : Int32) (G : Hp) (H : Heap) (locs : List Loc) (cells slots : Nat) (ls : Array Slot), w_X8_tell_221 T Q th k116 k126 l4 l5 l6 G → isO G th 6 → HI (twd D T Z) G0 s (rmX (twd D T Z) 5 118 G0) H locs cells slots G → LH ls 9 [(0, .inr (.inl th)), (4, .inl l4), (5, .inl l5), (6, .inl l6)] → W p l e (rmX (twd D T Z) 5 118 G0) s m args below meth c H locs cells slots (MQX (twd D T Z) G0 (qV Q) (fun _ _ => False) below s) (F0 m 221 ls []) := by
  intro l4 l5 l6 G H locs cells slots ls h hth I hl
  refine l_inc (q := 3) (v := 1) C dX8_tell_221 hl rfl (by decide) (by decide) rfl (fun ls hl => ?_)
  have hl : LH ls 9 [(6, .inl ((l6 + 1))), (0, .inr (.inl th)), (4, .inl l4), (5, .inl l5)] := hl
  refine lv_goto (tgt := 126) C.1 C.2.1 dX8_tell_224 (by decide) ?_
  exact hk126 l4 l5 ((l6 + 1)) G _ _ _ _ _ h hth I (hl.sub [1, 2, 3, 0] rfl)
def w_X8_tell_209 (T : Nat → ClassId) (Q : Hp → Prop) (th : Option Nat) (k116 : Int32 → Int32 → Hp → Prop) (k126 : Int32 → Int32 → Int32 → Hp → Prop) (l4 : Int32) (l5 : Int32) (l6 : Int32) (l7 : Option Nat) (l8 : Int32) (G : Hp) : Prop := isO G l7 12 ∧ isO G (gR G (ad th) 1) 50 ∧ vp_in (gI G (ad l7) 1) (gN G (ad (gR G (ad th) 1))) ∧ ∀ G3 : Hp, G3 = wI G (ad (gR G (ad th) 1)) (gI G (ad l7) 1).toNatClampNeg l8 → w_X8_tell_221 T Q th k116 k126 l4 l5 l6 G3
set_option maxHeartbeats 4000000 in
theorem b_X8_tell_209 {G0 : Hp} {Q : Hp → Prop} {th : Option Nat} {k116 : Int32 → Int32 → Hp → Prop} {k126 : Int32 → Int32 → Int32 → Hp → Prop} (C : Cx p s m meth c D T Z "EndingTown$Worked" cX8_tell 9 none) (hk116 : ∀ (l4 : Int32) (l5 : Int32) (G : Hp) (H : Heap) (locs : List Loc) (cells slots : Nat) (ls : Array Slot), k116 l4 l5 G → isO G th 6 → HI (twd D T Z) G0 s (rmX (twd D T Z) 5 118 G0) H locs cells slots G → LH ls 9 [(0, .inr (.inl th)), (4, .inl l4), (5, .inl l5)] → W p l e (rmX (twd D T Z) 5 118 G0) s m args below meth c H locs cells slots (MQX (twd D T Z) G0 (qV Q) (fun _ _ => False) below s) (F0 m 116 ls [])) (hk126 : ∀ (l4 : Int32) (l5 : Int32) (l6 : Int32) (G : Hp) (H : Heap) (locs : List Loc) (cells slots : Nat) (ls : Array Slot), k126 l4 l5 l6 G → isO G th 6 → HI (twd D T Z) G0 s (rmX (twd D T Z) 5 118 G0) H locs cells slots G → LH ls 9 [(0, .inr (.inl th)), (4, .inl l4), (5, .inl l5), (6, .inl l6)] → W p l e (rmX (twd D T Z) 5 118 G0) s m args below meth c H locs cells slots (MQX (twd D T Z) G0 (qV Q) (fun _ _ => False) below s) (F0 m 126 ls [])) : ∀ (l4 : Int32) (l5 : Int32) (l6 : Int32) (l7 : Option Nat) (l8 : Int32) (G : Hp) (H : Heap) (locs : List Loc) (cells slots : Nat) (ls : Array Slot), w_X8_tell_209 T Q th k116 k126 l4 l5 l6 l7 l8 G → isO G th 6 → HI (twd D T Z) G0 s (rmX (twd D T Z) 5 118 G0) H locs cells slots G → LH ls 9 [(0, .inr (.inl th)), (4, .inl l4), (5, .inl l5), (6, .inl l6), (7, .inr (.inl l7)), (8, .inl l8)] → W p l e (rmX (twd D T Z) 5 118 G0) s m args below meth c H locs cells slots (MQX (twd D T Z) G0 (qV Q) (fun _ _ => False) below s) (F0 m 209 ls []) := by
  intro l4 l5 l6 l7 l8 G H locs cells slots ls h hth I hl
  refine l_ald_n C dX8_tell_209 hl 0 rfl rfl ?_
  refine g_R C I fl_X8_15_6 (by decide) (by decide) hth dX8_tell_210 ?_
  refine l_ald C dX8_tell_213 hl 4 rfl ?_
  obtain ⟨ho1, h⟩ := h
  refine g_I C I fl_X8_56_12 (by decide) (by decide) ho1 dX8_tell_215 ?_
  refine l_ild C dX8_tell_218 hl 5 rfl ?_
  obtain ⟨ho2, h⟩ := h
  obtain ⟨hi, h⟩ := h
  refine A_iast C I ho2 hi dX8_tell_220 (fun H locs G3 eG3 xG3 I => ?_)
  have h := h G3 eG3
  exact b_X8_tell_221 C hk116 hk126 l4 l5 l6 G3 _ _ _ _ _ h (hth.ext (by decide) xG3) I (hl.sub [0, 1, 2, 3] rfl)
def w_X8_tell_126 (T : Nat → ClassId) (Q : Hp → Prop) (th : Option Nat) (k116 : Int32 → Int32 → Hp → Prop) : Nat → Int32 → Int32 → Int32 → Hp → Prop
  | 0 => fun _ _ _ _ => False
  | f126 + 1 => fun l4 l5 l6 G => isO G (gR G (ad th) 2) 1 ∧ isO G (gR G (ad (gR G (ad th) 2)) 0) 2 ∧ isO G (gR G (ad (gR G (ad (gR G (ad th) 2)) 0)) 4) 16 ∧ w_J2_size T (fun r4 G3 => Ext G G3 → ((r4 ≤ l6) → (k116 l4 ((l5 + 1)) G3)) ∧ ((¬ r4 ≤ l6) → (isO G3 (gR G3 (ad th) 2) 1 ∧ isO G3 (gR G3 (ad (gR G3 (ad th) 2)) 0) 2 ∧ isO G3 (gR G3 (ad (gR G3 (ad (gR G3 (ad th) 2)) 0)) 4) 16 ∧ w_J2_get T (fun r8 G7 => Ext G3 G7 → (r8 = none ∨ isO G7 r8 12) ∧ w_X8_ruleRound T (fun r10 G9 => Ext G7 G9 → ((r10 ≤ 0) → (w_X8_tell_221 T Q th k116 (w_X8_tell_126 T Q th k116 f126) l4 l5 l6 G9)) ∧ ((¬ r10 ≤ 0) → (isO G9 r8 12 ∧ isO G9 (gR G9 (ad th) 1) 50 ∧ vp_in (gI G9 (ad r8) 1) (gN G9 (ad (gR G9 (ad th) 1))) ∧ ((gI G9 (ad (gR G9 (ad th) 1)) (gI G9 (ad r8) 1).toNatClampNeg = 0) → (w_X8_tell_209 T Q th k116 (w_X8_tell_126 T Q th k116 f126) l4 l5 l6 r8 r10 G9)) ∧ ((¬ gI G9 (ad (gR G9 (ad th) 1)) (gI G9 (ad r8) 1).toNatClampNeg = 0) → (vp_in (gI G9 (ad r8) 1) (gN G9 (ad (gR G9 (ad th) 1))) ∧ ((gI G9 (ad (gR G9 (ad th) 1)) (gI G9 (ad r8) 1).toNatClampNeg ≤ r10) → (w_X8_tell_221 T Q th k116 (w_X8_tell_126 T Q th k116 f126) l4 l5 l6 G9)) ∧ ((¬ gI G9 (ad (gR G9 (ad th) 1)) (gI G9 (ad r8) 1).toNatClampNeg ≤ r10) → (w_X8_tell_209 T Q th k116 (w_X8_tell_126 T Q th k116 f126) l4 l5 l6 r8 r10 G9))))))) th r8 G7) (gR G3 (ad (gR G3 (ad (gR G3 (ad th) 2)) 0)) 4) l6 G3))) (gR G (ad (gR G (ad (gR G (ad th) 2)) 0)) 4) G
set_option maxHeartbeats 4000000 in
theorem b_X8_tell_126 {G0 : Hp} {Q : Hp → Prop} {th : Option Nat} {k116 : Int32 → Int32 → Hp → Prop} (C : Cx p s m meth c D T Z "EndingTown$Worked" cX8_tell 9 none) (hk116 : ∀ (l4 : Int32) (l5 : Int32) (G : Hp) (H : Heap) (locs : List Loc) (cells slots : Nat) (ls : Array Slot), k116 l4 l5 G → isO G th 6 → HI (twd D T Z) G0 s (rmX (twd D T Z) 5 118 G0) H locs cells slots G → LH ls 9 [(0, .inr (.inl th)), (4, .inl l4), (5, .inl l5)] → W p l e (rmX (twd D T Z) 5 118 G0) s m args below meth c H locs cells slots (MQX (twd D T Z) G0 (qV Q) (fun _ _ => False) below s) (F0 m 116 ls [])) : ∀ (n : Nat) (l4 : Int32) (l5 : Int32) (l6 : Int32) (G : Hp) (H : Heap) (locs : List Loc) (cells slots : Nat) (ls : Array Slot), w_X8_tell_126 T Q th k116 n l4 l5 l6 G → isO G th 6 → HI (twd D T Z) G0 s (rmX (twd D T Z) 5 118 G0) H locs cells slots G → LH ls 9 [(0, .inr (.inl th)), (4, .inl l4), (5, .inl l5), (6, .inl l6)] → W p l e (rmX (twd D T Z) 5 118 G0) s m args below meth c H locs cells slots (MQX (twd D T Z) G0 (qV Q) (fun _ _ => False) below s) (F0 m 126 ls []) := by
  intro f126
  induction f126 with
  | zero => intro l4 l5 l6 G H locs cells slots ls h; exact (show False from h).elim
  | succ f126 ih =>
    intro l4 l5 l6 G H locs cells slots ls h hth I hl
    have h : isO G (gR G (ad th) 2) 1 ∧ isO G (gR G (ad (gR G (ad th) 2)) 0) 2 ∧ isO G (gR G (ad (gR G (ad (gR G (ad th) 2)) 0)) 4) 16 ∧ w_J2_size T (fun r4 G3 => Ext G G3 → ((r4 ≤ l6) → (k116 l4 ((l5 + 1)) G3)) ∧ ((¬ r4 ≤ l6) → (isO G3 (gR G3 (ad th) 2) 1 ∧ isO G3 (gR G3 (ad (gR G3 (ad th) 2)) 0) 2 ∧ isO G3 (gR G3 (ad (gR G3 (ad (gR G3 (ad th) 2)) 0)) 4) 16 ∧ w_J2_get T (fun r8 G7 => Ext G3 G7 → (r8 = none ∨ isO G7 r8 12) ∧ w_X8_ruleRound T (fun r10 G9 => Ext G7 G9 → ((r10 ≤ 0) → (w_X8_tell_221 T Q th k116 (w_X8_tell_126 T Q th k116 f126) l4 l5 l6 G9)) ∧ ((¬ r10 ≤ 0) → (isO G9 r8 12 ∧ isO G9 (gR G9 (ad th) 1) 50 ∧ vp_in (gI G9 (ad r8) 1) (gN G9 (ad (gR G9 (ad th) 1))) ∧ ((gI G9 (ad (gR G9 (ad th) 1)) (gI G9 (ad r8) 1).toNatClampNeg = 0) → (w_X8_tell_209 T Q th k116 (w_X8_tell_126 T Q th k116 f126) l4 l5 l6 r8 r10 G9)) ∧ ((¬ gI G9 (ad (gR G9 (ad th) 1)) (gI G9 (ad r8) 1).toNatClampNeg = 0) → (vp_in (gI G9 (ad r8) 1) (gN G9 (ad (gR G9 (ad th) 1))) ∧ ((gI G9 (ad (gR G9 (ad th) 1)) (gI G9 (ad r8) 1).toNatClampNeg ≤ r10) → (w_X8_tell_221 T Q th k116 (w_X8_tell_126 T Q th k116 f126) l4 l5 l6 G9)) ∧ ((¬ gI G9 (ad (gR G9 (ad th) 1)) (gI G9 (ad r8) 1).toNatClampNeg ≤ r10) → (w_X8_tell_209 T Q th k116 (w_X8_tell_126 T Q th k116 f126) l4 l5 l6 r8 r10 G9))))))) th r8 G7) (gR G3 (ad (gR G3 (ad (gR G3 (ad th) 2)) 0)) 4) l6 G3))) (gR G (ad (gR G (ad (gR G (ad th) 2)) 0)) 4) G := h
    have hk126 := ih
    refine l_ild C dX8_tell_126 hl 3 rfl ?_
    refine l_ald_n C dX8_tell_128 hl 0 rfl rfl ?_
    refine g_R C I fl_X8_3_6 (by decide) (by decide) hth dX8_tell_129 ?_
    obtain ⟨ho1, h⟩ := h
    refine g_R C I fl_X8_19_1 (by decide) (by decide) ho1 dX8_tell_132 ?_
    obtain ⟨ho2, h⟩ := h
    refine g_R C I fl_X8_43_2 (by decide) (by decide) ho2 dX8_tell_135 ?_
    obtain ⟨ho18, h⟩ := h
    refine k_call Ext.tr C I (k_F (kd := 16) (r := gR G (ad (gR G (ad (gR G (ad th) 2)) 0)) 4) (As := []) (rest := [.int l6]) (y := yJ2_size) (x := ⟨"java/util/List", "size", "()I"⟩) C (by decide) ⟨ho18.ad.1, I.recv C.2.2.2.2.1 ho18 (by decide)⟩ q544 (by decide) q426 q425 q430 q428 q417 q427 q429 rfl pd_J2_size rfl dX8_tell_138) (ct_J2_size h) hl.1 dX8_tell_138 [.inl l6] rfl (Nat.le_of_ble_eq_true rfl) (Or.inl rfl) q431 q104 ⟨Nat.le_of_ble_eq_true rfl, Nat.le_of_ble_eq_true rfl⟩ (fun v G3 H locs cells slots xG3 hq I => ?_) (fun a G9 H locs cells slots ex hq I => hq.elim)
    obtain ⟨r4, rfl, h⟩ := hq
    have h := h xG3
    refine lv_icmp_ge (tgt := 227) C.1 C.2.1 dX8_tell_143 (by decide) (fun c17 => ?_) (fun c17 => ?_)
    · have h := h.1 c17
      refine l_inc (q := 2) (v := 1) C dX8_tell_227 hl rfl (by decide) (by decide) rfl (fun ls hl => ?_)
      have hl : LH ls 9 [(5, .inl ((l5 + 1))), (0, .inr (.inl th)), (4, .inl l4), (6, .inl l6)] := hl
      refine lv_goto (tgt := 116) C.1 C.2.1 dX8_tell_230 (by decide) ?_
      exact hk116 l4 ((l5 + 1)) G3 _ _ _ _ _ h (hth.ext (by decide) xG3) I (hl.sub [1, 2, 0] rfl)
    · have h := h.2 c17
      refine l_ald_n C dX8_tell_146 hl 0 rfl rfl ?_
      refine g_R C I fl_X8_3_6 (by decide) (by decide) (hth.ext (by decide) xG3) dX8_tell_147 ?_
      obtain ⟨ho5, h⟩ := h
      refine g_R C I fl_X8_19_1 (by decide) (by decide) ho5 dX8_tell_150 ?_
      obtain ⟨ho6, h⟩ := h
      refine g_R C I fl_X8_43_2 (by decide) (by decide) ho6 dX8_tell_153 ?_
      refine l_ild C dX8_tell_156 hl 3 rfl ?_
      obtain ⟨ho16, h⟩ := h
      refine k_call Ext.tr C I (k_F (kd := 16) (r := gR G3 (ad (gR G3 (ad (gR G3 (ad th) 2)) 0)) 4) (As := [.int l6]) (rest := []) (y := yJ2_get) (x := ⟨"java/util/List", "get", "(I)Ljava/lang/Object;"⟩) C (by decide) ⟨ho16.ad.1, I.recv C.2.2.2.2.1 ho16 (by decide)⟩ q547 (by decide) q477 q476 q481 q479 q417 q478 q480 rfl pd_J2_get rfl dX8_tell_158) (ct_J2_get h) hl.1 dX8_tell_158 [] rfl (Nat.le_of_ble_eq_true rfl) (Or.inl rfl) q482 q104 ⟨Nat.le_of_ble_eq_true rfl, Nat.le_of_ble_eq_true rfl⟩ (fun v G7 H locs cells slots xG7 hq I => ?_) (fun a G9 H locs cells slots ex hq I => hq.elim)
      obtain ⟨r8, rfl, h⟩ := hq
      have h := h xG7
      obtain ⟨hcc, h⟩ := h
      refine c_cast (kd := 12) C I (by decide) q548 hcc dX8_tell_163 ?_
      refine l_ast C dX8_tell_166 hl (by decide) rfl (fun ls hl => ?_)
      have hl : LH ls 9 [(7, .inr (.inl r8)), (0, .inr (.inl th)), (4, .inl l4), (5, .inl l5), (6, .inl l6)] := hl
      refine l_ald_n C dX8_tell_168 hl 1 rfl rfl ?_
      refine l_ald C dX8_tell_169 hl 0 rfl ?_
      refine k_call Ext.tr C I (k_V (r := th) (As := [va_rf r8]) (rest := []) (y := yX8_ruleRound) C ⟨(hth.ext (by decide) (Ext.tr _ _ _ xG3 xG7)).ad.1, I.recv C.2.2.2.2.1 (hth.ext (by decide) (Ext.tr _ _ _ xG3 xG7)) (by decide)⟩ q549 q551 qs5 (Or.inl rfl) q552 (by decide) rfl pd_X8_ruleRound rfl dX8_tell_171) (ct_X8_ruleRound h) hl.1 dX8_tell_171 [] rfl (Nat.le_of_ble_eq_true rfl) (Or.inl rfl) q552 q110 ⟨Nat.le_of_ble_eq_true rfl, Nat.le_of_ble_eq_true rfl⟩ (fun v G9 H locs cells slots xG9 hq I => ?_) (fun a G9 H locs cells slots ex hq I => hq.elim)
      obtain ⟨r10, rfl, h⟩ := hq
      have h := h xG9
      refine l_ist C dX8_tell_174 hl (by decide) rfl (fun ls hl => ?_)
      have hl : LH ls 9 [(8, .inl r10), (7, .inr (.inl r8)), (0, .inr (.inl th)), (4, .inl l4), (5, .inl l5), (6, .inl l6)] := hl
      refine l_ild C dX8_tell_176 hl 0 rfl ?_
      refine lv_if_le (tgt := 221) C.1 C.2.1 dX8_tell_178 (by decide) (fun c15 => ?_) (fun c15 => ?_)
      · have h := h.1 c15
        exact b_X8_tell_221 C hk116 hk126 l4 l5 l6 G9 _ _ _ _ _ h (hth.ext (by decide) (Ext.tr _ _ _ xG3 (Ext.tr _ _ _ xG7 xG9))) I (hl.sub [2, 3, 4, 5] rfl)
      · have h := h.2 c15
        refine l_ald_n C dX8_tell_181 hl 2 rfl rfl ?_
        refine g_R C I fl_X8_15_6 (by decide) (by decide) (hth.ext (by decide) (Ext.tr _ _ _ xG3 (Ext.tr _ _ _ xG7 xG9))) dX8_tell_182 ?_
        refine l_ald C dX8_tell_185 hl 1 rfl ?_
        obtain ⟨ho11, h⟩ := h
        refine g_I C I fl_X8_56_12 (by decide) (by decide) ho11 dX8_tell_187 ?_
        obtain ⟨ho12, h⟩ := h
        obtain ⟨hi, h⟩ := h
        refine a_iald C I ho12 hi dX8_tell_190 ?_
        refine lv_if_eq (tgt := 209) C.1 C.2.1 dX8_tell_191 (by decide) (fun c14 => ?_) (fun c14 => ?_)
        · have h := h.1 c14
          exact b_X8_tell_209 C hk116 hk126 l4 l5 l6 r8 r10 G9 _ _ _ _ _ h (hth.ext (by decide) (Ext.tr _ _ _ xG3 (Ext.tr _ _ _ xG7 xG9))) I (hl.sub [2, 3, 4, 5, 1, 0] rfl)
        · have h := h.2 c14
          refine l_ild C dX8_tell_194 hl 0 rfl ?_
          refine l_ald_n C dX8_tell_196 hl 2 rfl rfl ?_
          refine g_R C I fl_X8_15_6 (by decide) (by decide) (hth.ext (by decide) (Ext.tr _ _ _ xG3 (Ext.tr _ _ _ xG7 xG9))) dX8_tell_197 ?_
          refine l_ald C dX8_tell_200 hl 1 rfl ?_
          refine g_I C I fl_X8_56_12 (by decide) (by decide) ho11 dX8_tell_202 ?_
          obtain ⟨hi, h⟩ := h
          refine a_iald C I ho12 hi dX8_tell_205 ?_
          refine lv_icmp_ge (tgt := 221) C.1 C.2.1 dX8_tell_206 (by decide) (fun c13 => ?_) (fun c13 => ?_)
          · have h := h.1 c13
            exact b_X8_tell_221 C hk116 hk126 l4 l5 l6 G9 _ _ _ _ _ h (hth.ext (by decide) (Ext.tr _ _ _ xG3 (Ext.tr _ _ _ xG7 xG9))) I (hl.sub [2, 3, 4, 5] rfl)
          · have h := h.2 c13
            exact b_X8_tell_209 C hk116 hk126 l4 l5 l6 r8 r10 G9 _ _ _ _ _ h (hth.ext (by decide) (Ext.tr _ _ _ xG3 (Ext.tr _ _ _ xG7 xG9))) I (hl.sub [2, 3, 4, 5, 1, 0] rfl)
def w_X8_tell_116 (T : Nat → ClassId) (Q : Hp → Prop) (th : Option Nat) : Nat → Int32 → Int32 → Hp → Prop
  | 0 => fun _ _ _ => False
  | f116 + 1 => fun l4 l5 G => ((l4 ≤ l5) → (Q G)) ∧ ((¬ l4 ≤ l5) → (∃ n, w_X8_tell_126 T Q th (w_X8_tell_116 T Q th f116) n l4 l5 ((0 : Int32)) G))
set_option maxHeartbeats 4000000 in
theorem b_X8_tell_116 {G0 : Hp} {Q : Hp → Prop} {th : Option Nat} (C : Cx p s m meth c D T Z "EndingTown$Worked" cX8_tell 9 none) : ∀ (n : Nat) (l4 : Int32) (l5 : Int32) (G : Hp) (H : Heap) (locs : List Loc) (cells slots : Nat) (ls : Array Slot), w_X8_tell_116 T Q th n l4 l5 G → isO G th 6 → HI (twd D T Z) G0 s (rmX (twd D T Z) 5 118 G0) H locs cells slots G → LH ls 9 [(0, .inr (.inl th)), (4, .inl l4), (5, .inl l5)] → W p l e (rmX (twd D T Z) 5 118 G0) s m args below meth c H locs cells slots (MQX (twd D T Z) G0 (qV Q) (fun _ _ => False) below s) (F0 m 116 ls []) := by
  intro f116
  induction f116 with
  | zero => intro l4 l5 G H locs cells slots ls h; exact (show False from h).elim
  | succ f116 ih =>
    intro l4 l5 G H locs cells slots ls h hth I hl
    have h : ((l4 ≤ l5) → (Q G)) ∧ ((¬ l4 ≤ l5) → (∃ n, w_X8_tell_126 T Q th (w_X8_tell_116 T Q th f116) n l4 l5 ((0 : Int32)) G)) := h
    have hk116 := ih
    refine l_ild C dX8_tell_116 hl 2 rfl ?_
    refine l_ild C dX8_tell_118 hl 1 rfl ?_
    refine lv_icmp_ge (tgt := 233) C.1 C.2.1 dX8_tell_120 (by decide) (fun c1 => ?_) (fun c1 => ?_)
    · have h := h.1 c1
      exact r_void C.1 C.2.1 C.2.2.2.2.2.1 C.2.2.2.2.2.2 ⟨rfl, rfl⟩ I dX8_tell_233 ⟨rfl, h⟩
    · have h := h.2 c1
      refine lv_iconst (v := 0) C.1 C.2.1 dX8_tell_123 (by decide) ?_
      refine l_ist C dX8_tell_124 hl (by decide) rfl (fun ls hl => ?_)
      have hl : LH ls 9 [(6, .inl ((0 : Int32))), (0, .inr (.inl th)), (4, .inl l4), (5, .inl l5)] := hl
      obtain ⟨n, h⟩ := h
      exact b_X8_tell_126 C hk116 n l4 l5 ((0 : Int32)) G _ _ _ _ _ h hth I (hl.sub [1, 2, 3, 0] rfl)
def w_X8_tell_20 (T : Nat → ClassId) (Q : Hp → Prop) (th : Option Nat) : Nat → Option Nat → Int32 → Int32 → Int32 → Int32 → Hp → Prop
  | 0 => fun _ _ _ _ _ _ => False
  | f20 + 1 => fun l1 l2 l3 l4 l5 G => ((l4 ≤ l5) → (∃ n, w_X8_tell_116 T Q th n l4 ((0 : Int32)) G)) ∧ ((¬ l4 ≤ l5) → (isO G (gR G (ad th) 1) 50 ∧ vp_in l5 (gN G (ad (gR G (ad th) 1))) ∧ ∀ G2 : Hp, G2 = wI G (ad (gR G (ad th) 1)) l5.toNatClampNeg ((0 : Int32)) → ∃ n, w_X8_tell_38 T Q th (w_X8_tell_20 T Q th f20) n l1 l2 l3 l4 l5 ((0 : Int32)) G2))
set_option maxHeartbeats 4000000 in
theorem b_X8_tell_20 {G0 : Hp} {Q : Hp → Prop} {th : Option Nat} (C : Cx p s m meth c D T Z "EndingTown$Worked" cX8_tell 9 none) : ∀ (n : Nat) (l1 : Option Nat) (l2 : Int32) (l3 : Int32) (l4 : Int32) (l5 : Int32) (G : Hp) (H : Heap) (locs : List Loc) (cells slots : Nat) (ls : Array Slot), w_X8_tell_20 T Q th n l1 l2 l3 l4 l5 G → isO G th 6 → HI (twd D T Z) G0 s (rmX (twd D T Z) 5 118 G0) H locs cells slots G → LH ls 9 [(0, .inr (.inl th)), (1, .inr (.inl l1)), (2, .inl l2), (3, .inl l3), (4, .inl l4), (5, .inl l5)] → W p l e (rmX (twd D T Z) 5 118 G0) s m args below meth c H locs cells slots (MQX (twd D T Z) G0 (qV Q) (fun _ _ => False) below s) (F0 m 20 ls []) := by
  intro f20
  induction f20 with
  | zero => intro l1 l2 l3 l4 l5 G H locs cells slots ls h; exact (show False from h).elim
  | succ f20 ih =>
    intro l1 l2 l3 l4 l5 G H locs cells slots ls h hth I hl
    have h : ((l4 ≤ l5) → (∃ n, w_X8_tell_116 T Q th n l4 ((0 : Int32)) G)) ∧ ((¬ l4 ≤ l5) → (isO G (gR G (ad th) 1) 50 ∧ vp_in l5 (gN G (ad (gR G (ad th) 1))) ∧ ∀ G2 : Hp, G2 = wI G (ad (gR G (ad th) 1)) l5.toNatClampNeg ((0 : Int32)) → ∃ n, w_X8_tell_38 T Q th (w_X8_tell_20 T Q th f20) n l1 l2 l3 l4 l5 ((0 : Int32)) G2)) := h
    have hk20 := ih
    refine l_ild C dX8_tell_20 hl 5 rfl ?_
    refine l_ild C dX8_tell_22 hl 4 rfl ?_
    refine lv_icmp_ge (tgt := 113) C.1 C.2.1 dX8_tell_24 (by decide) (fun c3 => ?_) (fun c3 => ?_)
    · have h := h.1 c3
      refine lv_iconst (v := 0) C.1 C.2.1 dX8_tell_113 (by decide) ?_
      refine l_ist C dX8_tell_114 hl (by decide) rfl (fun ls hl => ?_)
      have hl : LH ls 9 [(5, .inl ((0 : Int32))), (0, .inr (.inl th)), (1, .inr (.inl l1)), (2, .inl l2), (3, .inl l3), (4, .inl l4)] := hl
      obtain ⟨n, h⟩ := h
      exact b_X8_tell_116 C n l4 ((0 : Int32)) G _ _ _ _ _ h hth I (hl.sub [1, 5, 0] rfl)
    · have h := h.2 c3
      refine l_ald_n C dX8_tell_27 hl 0 rfl rfl ?_
      refine g_R C I fl_X8_15_6 (by decide) (by decide) hth dX8_tell_28 ?_
      refine l_ild C dX8_tell_31 hl 5 rfl ?_
      refine lv_iconst (v := 0) C.1 C.2.1 dX8_tell_33 (by decide) ?_
      obtain ⟨ho1, h⟩ := h
      obtain ⟨hi, h⟩ := h
      refine A_iast C I ho1 hi dX8_tell_34 (fun H locs G2 eG2 xG2 I => ?_)
      have h := h G2 eG2
      refine lv_iconst (v := 0) C.1 C.2.1 dX8_tell_35 (by decide) ?_
      refine l_ist C dX8_tell_36 hl (by decide) rfl (fun ls hl => ?_)
      have hl : LH ls 9 [(6, .inl ((0 : Int32))), (0, .inr (.inl th)), (1, .inr (.inl l1)), (2, .inl l2), (3, .inl l3), (4, .inl l4), (5, .inl l5)] := hl
      obtain ⟨n, h⟩ := h
      exact b_X8_tell_38 C hk20 n l1 l2 l3 l4 l5 ((0 : Int32)) G2 _ _ _ _ _ h (hth.ext (by decide) xG2) I (hl.sub [1, 2, 3, 4, 5, 6, 0] rfl)
def w_X8_tell (T : Nat → ClassId) (Q : Hp → Prop) (th : Option Nat) (p0 : Option Nat) (p1 : Int32) (p2 : Int32) (G : Hp) : Prop := isO G th 6 ∧ (isO G (gR G (ad th) 2) 1 ∧ isO G (gR G (ad (gR G (ad th) 2)) 0) 2 ∧ isO G (gR G (ad (gR G (ad (gR G (ad th) 2)) 0)) 3) 16 ∧ w_J2_size T (fun r4 G3 => Ext G G3 → ∃ n, w_X8_tell_20 T Q th n p0 p1 p2 r4 ((0 : Int32)) G3) (gR G (ad (gR G (ad (gR G (ad th) 2)) 0)) 3) G)
theorem pd_X8_tell : (parseMethodDescriptor yX8_tell.desc).map (fun d => d.parameters.length) = some 3 := by decide +kernel
set_option maxHeartbeats 4000000 in
theorem ct_X8_tell {l : Launch} {D : va_G} {T : Nat → ClassId} {Z : Heap} {G0 : Hp} {Q : Hp → Prop} {th : Option Nat} {p0 : Option Nat} {p1 : Int32} {p2 : Int32} (hw : w_X8_tell T Q th p0 p1 p2 G0) : CT (twd D T Z) (Evd D T Z) l yX8_tell (Cond.code yX8_tell cX8_tell 9 none) 5 118 [va_rf th, va_rf p0, .int p1, .int p2] G0 (qV Q) (fun _ _ => False) := by
  refine CT.ofW (cc := cX8_tell) (nL := 9) (ret := none) Ext.rf (by decide) (Or.inl rfl) ?_
  intro p e s m below meth c hx hb hml hown hr hlk hnm hcb hm hc hn hE I
  have C : Cx p s m meth c D T Z "EndingTown$Worked" cX8_tell 9 none := ⟨hx, hb, hml, hown, hE, hr, hlk⟩
  refine w_entry [.inr (.inl th), .inr (.inl p0), .inl p1, .inl p2] (Nat.le_of_ble_eq_true rfl) (fun ls hl => ?_)
  have hl : LH ls 9 [(0, .inr (.inl th)), (1, .inr (.inl p0)), (2, .inl p1), (3, .inl p2)] := hl
  obtain ⟨hth, h⟩ := hw
  refine l_ald_n C dX8_tell_0 hl 0 rfl rfl ?_
  refine g_R C I fl_X8_3_6 (by decide) (by decide) hth dX8_tell_1 ?_
  obtain ⟨ho1, h⟩ := h
  refine g_R C I fl_X8_19_1 (by decide) (by decide) ho1 dX8_tell_4 ?_
  obtain ⟨ho2, h⟩ := h
  refine g_R C I fl_X8_23_2 (by decide) (by decide) ho2 dX8_tell_7 ?_
  obtain ⟨ho5, h⟩ := h
  refine k_call Ext.tr C I (k_F (kd := 16) (r := gR G0 (ad (gR G0 (ad (gR G0 (ad th) 2)) 0)) 3) (As := []) (rest := []) (y := yJ2_size) (x := ⟨"java/util/List", "size", "()I"⟩) C (by decide) ⟨ho5.ad.1, I.recv C.2.2.2.2.1 ho5 (by decide)⟩ q544 (by decide) q426 q425 q430 q428 q417 q427 q429 rfl pd_J2_size rfl dX8_tell_10) (ct_J2_size h) hl.1 dX8_tell_10 [] rfl (Nat.le_of_ble_eq_true rfl) (Or.inl rfl) q431 q104 ⟨Nat.le_of_ble_eq_true rfl, Nat.le_of_ble_eq_true rfl⟩ (fun v G3 H locs cells slots xG3 hq I => ?_) (fun a G9 H locs cells slots ex hq I => hq.elim)
  obtain ⟨r4, rfl, h⟩ := hq
  have h := h xG3
  refine l_ist C dX8_tell_15 hl (by decide) rfl (fun ls hl => ?_)
  have hl : LH ls 9 [(4, .inl r4), (0, .inr (.inl th)), (1, .inr (.inl p0)), (2, .inl p1), (3, .inl p2)] := hl
  refine lv_iconst (v := 0) C.1 C.2.1 dX8_tell_17 (by decide) ?_
  refine l_ist C dX8_tell_18 hl (by decide) rfl (fun ls hl => ?_)
  have hl : LH ls 9 [(5, .inl ((0 : Int32))), (4, .inl r4), (0, .inr (.inl th)), (1, .inr (.inl p0)), (2, .inl p1), (3, .inl p2)] := hl
  obtain ⟨n, h⟩ := h
  exact b_X8_tell_20 C n p0 p1 p2 r4 ((0 : Int32)) G3 _ _ _ _ _ h (hth.ext (by decide) xG3) I (hl.sub [2, 3, 4, 5, 1, 0] rfl)
end GT0
