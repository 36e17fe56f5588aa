/-! the town: wp and contracts, by program -/
set_option maxRecDepth 100000
section GT3
variable {p : Program} {l : Launch} {e : Env} {s : State} {m : MethodId} {args : Array Value} {below : List Frame} {meth : Method} {c : Code} {D : va_G} {T : Nat → ClassId} {Z : Heap}
def w_X1_where (T : Nat → ClassId) (Q : Int32 → Hp → Prop) (E : Nat → Hp → Prop) (th : Option Nat) (p0 : Int32) (p1 : Int32) (G : Hp) : Prop := isO G th 1 ∧ (w_X1_aPerson T (fun G1 => Ext G G1 → w_X1_anHour T (fun G3 => Ext G1 G3 → isO G3 (gR G3 (ad th) 0) 2 ∧ w_X2_where T (fun r6 G5 => Ext G3 G5 → Q r6 G5) (gR G3 (ad th) 0) p0 p1 G3) E th p1 G1) E th p0 G)
theorem pd_X1_where : (parseMethodDescriptor yX1_where.desc).map (fun d => d.parameters.length) = some 2 := by decide +kernel
set_option maxHeartbeats 4000000 in
theorem ct_X1_where {l : Launch} {D : va_G} {T : Nat → ClassId} {Z : Heap} {G0 : Hp} {Q : Int32 → Hp → Prop} {E : Nat → Hp → Prop} {th : Option Nat} {p0 : Int32} {p1 : Int32} (hLf : l.flags = flags0) (hw : w_X1_where T Q E th p0 p1 G0) : CT (twd D T Z) (Evd D T Z) l yX1_where (Cond.code yX1_where cX1_where 3 (some .int)) 8 141 [va_rf th, .int p0, .int p1] G0 (qI Q) E := by
  refine CT.ofW (cc := cX1_where) (nL := 3) (ret := (some .int)) Ext.rf (by decide) (Or.inl rfl) ?_
  intro p e s m below meth c hx hb hml hown hr hlk hnm hcb hm hc hn hE I
  have C : Cx p s m meth c D T Z "EndingTown" cX1_where 3 (some .int) := ⟨hx, hb, hml, hown, hE, hr, hlk⟩
  have hex := noEx hn hm hc hcb
  refine w_entry [.inr (.inl th), .inl p0, .inl p1] (Nat.le_of_ble_eq_true rfl) (fun ls hl => ?_)
  have hl : LH ls 3 [(0, .inr (.inl th)), (1, .inl p0), (2, .inl p1)] := hl
  obtain ⟨hth, h⟩ := hw
  refine l_ald_n C dX1_where_0 hl 0 rfl rfl ?_
  refine l_ild_n C dX1_where_1 hl 1 rfl rfl ?_
  refine k_call Ext.tr C I (k_V (r := th) (As := [.int p0]) (rest := []) (y := yX1_aPerson) C ⟨hth.ad.1, I.recv C.2.2.2.2.1 hth (by decide)⟩ q1089 q1091 qs32 (Or.inl rfl) q1092 (by decide) rfl pd_X1_aPerson rfl dX1_where_2) (ct_X1_aPerson hLf h) hl.1 dX1_where_2 [] rfl (Nat.le_of_ble_eq_true rfl) (Or.inl rfl) q1092 q100 ⟨Nat.le_of_ble_eq_true rfl, Nat.le_of_ble_eq_true rfl⟩ (fun v G1 H locs cells slots xG1 hq I => ?_) (fun a G9 H locs cells slots ex hq I => t_out C.2.2.2.2.2.2 ⟨rfl, rfl⟩ (fun z hz => hex z hz _) I hq)
  obtain ⟨rfl, h⟩ := hq
  have h := h xG1
  refine l_ald_n C dX1_where_5 hl 0 rfl rfl ?_
  refine l_ild_n C dX1_where_6 hl 2 rfl rfl ?_
  refine k_call Ext.tr C I (k_V (r := th) (As := [.int p1]) (rest := []) (y := yX1_anHour) C ⟨(hth.ext (by decide) xG1).ad.1, I.recv C.2.2.2.2.1 (hth.ext (by decide) xG1) (by decide)⟩ q1097 q1099 qs33 (Or.inl rfl) q1100 (by decide) rfl pd_X1_anHour rfl dX1_where_7) (ct_X1_anHour hLf h) hl.1 dX1_where_7 [] rfl (Nat.le_of_ble_eq_true rfl) (Or.inl rfl) q1100 q100 ⟨Nat.le_of_ble_eq_true rfl, Nat.le_of_ble_eq_true rfl⟩ (fun v G3 H locs cells slots xG3 hq I => ?_) (fun a G9 H locs cells slots ex hq I => t_out C.2.2.2.2.2.2 ⟨rfl, rfl⟩ (fun z hz => hex z hz _) I hq)
  obtain ⟨rfl, h⟩ := hq
  have h := h xG3
  refine l_ald_n C dX1_where_10 hl 0 rfl rfl ?_
  refine g_R C I fl_X1_16_1 (by decide) (by decide) (hth.ext (by decide) (Ext.tr _ _ _ xG1 xG3)) dX1_where_11 ?_
  refine l_ild_n C dX1_where_14 hl 1 rfl rfl ?_
  refine l_ild_n C dX1_where_15 hl 2 rfl rfl ?_
  obtain ⟨ho7, h⟩ := h
  refine k_call Ext.tr C I (k_V (r := gR G3 (ad th) 0) (As := [.int p0, .int p1]) (rest := []) (y := yX2_where) C ⟨ho7.ad.1, I.recv C.2.2.2.2.1 ho7 (by decide)⟩ q1101 q509 q510 (Or.inl rfl) q511 (by decide) rfl pd_X2_where rfl dX1_where_16) (ct_X2_where h) hl.1 dX1_where_16 [] rfl (Nat.le_of_ble_eq_true rfl) (Or.inl rfl) q511 q101 ⟨Nat.le_of_ble_eq_true rfl, Nat.le_of_ble_eq_true rfl⟩ (fun v G5 H locs cells slots xG5 hq I => ?_) (fun a G9 H locs cells slots ex hq I => hq.elim)
  obtain ⟨r6, rfl, h⟩ := hq
  have h := h xG5
  exact r_int C.1 C.2.1 C.2.2.2.2.2.1 rfl C.2.2.2.2.2.2 ⟨rfl, rfl⟩ I dX1_where_19 ⟨_, rfl, h⟩
def w_X1_aThing (T : Nat → ClassId) (Q : Hp → Prop) (E : Nat → Hp → Prop) (th : Option Nat) (p0 : Int32) (G : Hp) : Prop := isO G th 1 ∧ (isO G (gR G (ad th) 0) 2 ∧ isO G (gR G (ad (gR G (ad th) 0)) 3) 16 ∧ w_J2_size T (fun r3 G2 => Ext G G2 → w_X1_in T (fun r5 G4 => Ext G2 G4 → w_X1_found T (fun G6 => Ext G4 G6 → Q G6) E r5 G4) p0 ((0 : Int32)) ((r3 - (1 : Int32))) G2) (gR G (ad (gR G (ad th) 0)) 3) G)
theorem pd_X1_aThing : (parseMethodDescriptor yX1_aThing.desc).map (fun d => d.parameters.length) = some 1 := by decide +kernel
set_option maxHeartbeats 4000000 in
theorem ct_X1_aThing {l : Launch} {D : va_G} {T : Nat → ClassId} {Z : Heap} {G0 : Hp} {Q : Hp → Prop} {E : Nat → Hp → Prop} {th : Option Nat} {p0 : Int32} (hLf : l.flags = flags0) (hw : w_X1_aThing T Q E th p0 G0) : CT (twd D T Z) (Evd D T Z) l yX1_aThing (Cond.code yX1_aThing cX1_aThing 2 none) 7 120 [va_rf th, .int p0] G0 (qV Q) E := by
  refine CT.ofW (cc := cX1_aThing) (nL := 2) (ret := none) Ext.rf (by decide) (Or.inl rfl) ?_
  intro p e s m below meth c hx hb hml hown hr hlk hnm hcb hm hc hn hE I
  have C : Cx p s m meth c D T Z "EndingTown" cX1_aThing 2 none := ⟨hx, hb, hml, hown, hE, hr, hlk⟩
  have hex := noEx hn hm hc hcb
  refine w_entry [.inr (.inl th), .inl p0] (Nat.le_of_ble_eq_true rfl) (fun ls hl => ?_)
  have hl : LH ls 2 [(0, .inr (.inl th)), (1, .inl p0)] := hl
  obtain ⟨hth, h⟩ := hw
  refine l_ild_n C dX1_aThing_0 hl 1 rfl rfl ?_
  refine lv_iconst (v := 0) C.1 C.2.1 dX1_aThing_1 (by decide) ?_
  refine l_ald_n C dX1_aThing_2 hl 0 rfl rfl ?_
  refine g_R C I fl_X1_16_1 (by decide) (by decide) hth dX1_aThing_3 ?_
  obtain ⟨ho1, h⟩ := h
  refine g_R C I fl_X1_128_2 (by decide) (by decide) ho1 dX1_aThing_6 ?_
  obtain ⟨ho8, h⟩ := h
  refine k_call Ext.tr C I (k_F (kd := 16) (r := gR G0 (ad (gR G0 (ad th) 0)) 3) (As := []) (rest := [.int ((0 : Int32)), .int p0]) (y := yJ2_size) (x := ⟨"java/util/List", "size", "()I"⟩) C (by decide) ⟨ho8.ad.1, I.recv C.2.2.2.2.1 ho8 (by decide)⟩ q424 (by decide) q426 q425 q430 q428 q417 q427 q429 rfl pd_J2_size rfl dX1_aThing_9) (ct_J2_size h) hl.1 dX1_aThing_9 [.inl ((0 : Int32)), .inl p0] rfl (Nat.le_of_ble_eq_true rfl) (Or.inl rfl) q431 q104 ⟨Nat.le_of_ble_eq_true rfl, Nat.le_of_ble_eq_true rfl⟩ (fun v G2 H locs cells slots xG2 hq I => ?_) (fun a G9 H locs cells slots ex hq I => hq.elim)
  obtain ⟨r3, rfl, h⟩ := hq
  have h := h xG2
  refine lv_iconst (v := 1) C.1 C.2.1 dX1_aThing_14 (by decide) ?_
  refine lv_isub C.1 C.2.1 dX1_aThing_15 ?_
  refine k_call Ext.tr C I (k_S (As := [.int p0, .int ((0 : Int32)), .int ((r3 - (1 : Int32)))]) (rest := []) (y := yX1_in) C q1093 q764 q100 (Or.inl rfl) q765 (by decide) rfl pd_X1_in rfl dX1_aThing_16) (ct_X1_in h) hl.1 dX1_aThing_16 [] rfl (Nat.le_of_ble_eq_true rfl) (Or.inl rfl) q765 q100 ⟨Nat.le_of_ble_eq_true rfl, Nat.le_of_ble_eq_true rfl⟩ (fun v G4 H locs cells slots xG4 hq I => ?_) (fun a G9 H locs cells slots ex hq I => hq.elim)
  obtain ⟨r5, rfl, h⟩ := hq
  have h := h xG4
  refine k_call Ext.tr C I (k_S (As := [.int r5]) (rest := []) (y := yX1_found) C q1094 q1095 q100 (Or.inl rfl) q1096 (by decide) rfl pd_X1_found rfl dX1_aThing_19) (ct_X1_found hLf h) hl.1 dX1_aThing_19 [] rfl (Nat.le_of_ble_eq_true rfl) (Or.inl rfl) q1096 q100 ⟨Nat.le_of_ble_eq_true rfl, Nat.le_of_ble_eq_true rfl⟩ (fun v G6 H locs cells slots xG6 hq I => ?_) (fun a G9 H locs cells slots ex hq I => t_out C.2.2.2.2.2.2 ⟨rfl, rfl⟩ (fun z hz => hex z hz _) I hq)
  obtain ⟨rfl, h⟩ := hq
  have h := h xG6
  exact r_void C.1 C.2.1 C.2.2.2.2.2.1 C.2.2.2.2.2.2 ⟨rfl, rfl⟩ I dX1_aThing_22 ⟨rfl, h⟩
def w_X1_thing_83 (T : Nat → ClassId) (Q : Int32 → Hp → Prop) (E : Nat → Hp → Prop) (th : Option Nat) (t0 : Int32) (G : Hp) : Prop := Q t0 G
set_option maxHeartbeats 4000000 in
theorem b_X1_thing_83 {G0 : Hp} {Q : Int32 → Hp → Prop} {E : Nat → Hp → Prop} {th : Option Nat} (C : Cx p s m meth c D T Z "EndingTown" cX1_thing 4 (some .int)) (hex : ∀ z ∈ c.exceptionTable.toList, ∀ pc, covers z pc = false) (hLf : l.flags = flags0) : ∀ (t0 : Int32) (G : Hp) (H : Heap) (locs : List Loc) (cells slots : Nat) (ls : Array Slot), w_X1_thing_83 T Q E th t0 G → isO G th 1 → HI (twd D T Z) G0 s (rmX (twd D T Z) 8 141 G0) H locs cells slots G → LH ls 4 [] → W p l e (rmX (twd D T Z) 8 141 G0) s m args below meth c H locs cells slots (MQX (twd D T Z) G0 (qI Q) E below s) (F0 m 83 ls [.int t0]) := by
  intro t0 G H locs cells slots ls h hth I hl
  exact r_int C.1 C.2.1 C.2.2.2.2.2.1 rfl C.2.2.2.2.2.2 ⟨rfl, rfl⟩ I dX1_thing_83 ⟨_, rfl, h⟩
def w_X1_thing_96 (T : Nat → ClassId) (Q : Int32 → Hp → Prop) (E : Nat → Hp → Prop) (th : Option Nat) (t0 : Int32) (G : Hp) : Prop := Q t0 G
set_option maxHeartbeats 4000000 in
theorem b_X1_thing_96 {G0 : Hp} {Q : Int32 → Hp → Prop} {E : Nat → Hp → Prop} {th : Option Nat} (C : Cx p s m meth c D T Z "EndingTown" cX1_thing 4 (some .int)) (hex : ∀ z ∈ c.exceptionTable.toList, ∀ pc, covers z pc = false) (hLf : l.flags = flags0) : ∀ (t0 : Int32) (G : Hp) (H : Heap) (locs : List Loc) (cells slots : Nat) (ls : Array Slot), w_X1_thing_96 T Q E th t0 G → isO G th 1 → HI (twd D T Z) G0 s (rmX (twd D T Z) 8 141 G0) H locs cells slots G → LH ls 4 [] → W p l e (rmX (twd D T Z) 8 141 G0) s m args below meth c H locs cells slots (MQX (twd D T Z) G0 (qI Q) E below s) (F0 m 96 ls [.int t0]) := by
  intro t0 G H locs cells slots ls h hth I hl
  exact r_int C.1 C.2.1 C.2.2.2.2.2.1 rfl C.2.2.2.2.2.2 ⟨rfl, rfl⟩ I dX1_thing_96 ⟨_, rfl, h⟩
def w_X1_thing (T : Nat → ClassId) (Q : Int32 → Hp → Prop) (E : Nat → Hp → Prop) (th : Option Nat) (p0 : Int32) (p1 : Int32) (G : Hp) : Prop := isO G th 1 ∧ (w_X1_aThing T (fun G1 => Ext G G1 → isO G1 (gR G1 (ad th) 0) 2 ∧ isO G1 (gR G1 (ad (gR G1 (ad th) 0)) 3) 16 ∧ w_J2_get T (fun r5 G4 => Ext G1 G4 → (r5 = none ∨ isO G4 r5 11) ∧ (p1 = 0 → (isO G4 r5 11 ∧ Q (gI G4 (ad r5) 0) G4)) ∧ (p1 = 1 → (isO G4 r5 11 ∧ Q (gI G4 (ad r5) 1) G4)) ∧ (p1 = 2 → (isO G4 r5 11 ∧ Q (gI G4 (ad r5) 2) G4)) ∧ (p1 = 3 → (isO G4 r5 11 ∧ ((gI G4 (ad r5) 3 = 0) → (w_X1_thing_83 T Q E th ((0 : Int32)) G4)) ∧ ((¬ gI G4 (ad r5) 3 = 0) → (w_X1_thing_83 T Q E th ((1 : Int32)) G4)))) ∧ (p1 = 4 → (isO G4 r5 11 ∧ ((gI G4 (ad r5) 4 = 0) → (w_X1_thing_96 T Q E th ((0 : Int32)) G4)) ∧ ((¬ gI G4 (ad r5) 4 = 0) → (w_X1_thing_96 T Q E th ((1 : Int32)) G4)))) ∧ (¬ p1 = 0 → ¬ p1 = 1 → ¬ p1 = 2 → ¬ p1 = 3 → ¬ p1 = 4 → (1 ≤ gC G4 ∧ 6 ≤ gS G4 ∧ ∀ G13 : Hp, xSame (nw G4 17 0 6) G13 (gZ G4) → E  (gZ G4) G13))) (gR G1 (ad (gR G1 (ad th) 0)) 3) p0 G1) E th p0 G)
theorem pd_X1_thing : (parseMethodDescriptor yX1_thing.desc).map (fun d => d.parameters.length) = some 2 := by decide +kernel
set_option maxHeartbeats 4000000 in
theorem ct_X1_thing {l : Launch} {D : va_G} {T : Nat → ClassId} {Z : Heap} {G0 : Hp} {Q : Int32 → Hp → Prop} {E : Nat → Hp → Prop} {th : Option Nat} {p0 : Int32} {p1 : Int32} (hLf : l.flags = flags0) (hw : w_X1_thing T Q E th p0 p1 G0) : CT (twd D T Z) (Evd D T Z) l yX1_thing (Cond.code yX1_thing cX1_thing 4 (some .int)) 8 141 [va_rf th, .int p0, .int p1] G0 (qI Q) E := by
  refine CT.ofW (cc := cX1_thing) (nL := 4) (ret := (some .int)) Ext.rf (by decide) (Or.inl rfl) ?_
  intro p e s m below meth c hx hb hml hown hr hlk hnm hcb hm hc hn hE I
  have C : Cx p s m meth c D T Z "EndingTown" cX1_thing 4 (some .int) := ⟨hx, hb, hml, hown, hE, hr, hlk⟩
  have hex := noEx hn hm hc hcb
  refine w_entry [.inr (.inl th), .inl p0, .inl p1] (Nat.le_of_ble_eq_true rfl) (fun ls hl => ?_)
  have hl : LH ls 4 [(0, .inr (.inl th)), (1, .inl p0), (2, .inl p1)] := hl
  obtain ⟨hth, h⟩ := hw
  refine l_ald_n C dX1_thing_0 hl 0 rfl rfl ?_
  refine l_ild_n C dX1_thing_1 hl 1 rfl rfl ?_
  refine k_call Ext.tr C I (k_V (r := th) (As := [.int p0]) (rest := []) (y := yX1_aThing) C ⟨hth.ad.1, I.recv C.2.2.2.2.1 hth (by decide)⟩ q1109 q1111 qs34 (Or.inl rfl) q1112 (by decide) rfl pd_X1_aThing rfl dX1_thing_2) (ct_X1_aThing hLf h) hl.1 dX1_thing_2 [] rfl (Nat.le_of_ble_eq_true rfl) (Or.inl rfl) q1112 q100 ⟨Nat.le_of_ble_eq_true rfl, Nat.le_of_ble_eq_true rfl⟩ (fun v G1 H locs cells slots xG1 hq I => ?_) (fun a G9 H locs cells slots ex hq I => t_out C.2.2.2.2.2.2 ⟨rfl, rfl⟩ (fun z hz => hex z hz _) I hq)
  obtain ⟨rfl, h⟩ := hq
  have h := h xG1
  refine l_ald_n C dX1_thing_5 hl 0 rfl rfl ?_
  refine g_R C I fl_X1_16_1 (by decide) (by decide) (hth.ext (by decide) xG1) dX1_thing_6 ?_
  obtain ⟨ho3, h⟩ := h
  refine g_R C I fl_X1_128_2 (by decide) (by decide) ho3 dX1_thing_9 ?_
  refine l_ild_n C dX1_thing_12 hl 1 rfl rfl ?_
  obtain ⟨ho14, h⟩ := h
  refine k_call Ext.tr C I (k_F (kd := 16) (r := gR G1 (ad (gR G1 (ad th) 0)) 3) (As := [.int p0]) (rest := []) (y := yJ2_get) (x := ⟨"java/util/List", "get", "(I)Ljava/lang/Object;"⟩) C (by decide) ⟨ho14.ad.1, I.recv C.2.2.2.2.1 ho14 (by decide)⟩ q561 (by decide) q477 q476 q481 q479 q417 q478 q480 rfl pd_J2_get rfl dX1_thing_13) (ct_J2_get h) hl.1 dX1_thing_13 [] rfl (Nat.le_of_ble_eq_true rfl) (Or.inl rfl) q482 q104 ⟨Nat.le_of_ble_eq_true rfl, Nat.le_of_ble_eq_true rfl⟩ (fun v G4 H locs cells slots xG4 hq I => ?_) (fun a G9 H locs cells slots ex hq I => hq.elim)
  obtain ⟨r5, rfl, h⟩ := hq
  have h := h xG4
  obtain ⟨hcc, h⟩ := h
  refine c_cast (kd := 11) C I (by decide) q1113 hcc dX1_thing_18 ?_
  refine l_ast_n C dX1_thing_21 rfl hl (by decide) rfl (fun ls hl => ?_)
  have hl : LH ls 4 [(3, .inr (.inl r5)), (0, .inr (.inl th)), (1, .inl p0), (2, .inl p1)] := hl
  refine l_ild_n C dX1_thing_22 hl 3 rfl rfl ?_
  by_cases t0 : p1 = 0
  · have h := h.1 t0
    refine lv_tableIn (off := 33) (tgt := 56) C.1 C.2.1 dX1_thing_23 (by rw [t0]; decide) (by rw [t0]; decide) (by rw [t0]; rfl) (by decide) ?_
    refine l_ald_n C dX1_thing_56 hl 0 rfl rfl ?_
    obtain ⟨ho6, h⟩ := h
    refine g_I C I fl_X1_167_11 (by decide) (by decide) ho6 dX1_thing_57 ?_
    exact r_int C.1 C.2.1 C.2.2.2.2.2.1 rfl C.2.2.2.2.2.2 ⟨rfl, rfl⟩ I dX1_thing_60 ⟨_, rfl, h⟩
  by_cases t1 : p1 = 1
  · have h := h.2.1 t1
    refine lv_tableIn (off := 38) (tgt := 61) C.1 C.2.1 dX1_thing_23 (by rw [t1]; decide) (by rw [t1]; decide) (by rw [t1]; rfl) (by decide) ?_
    refine l_ald_n C dX1_thing_61 hl 0 rfl rfl ?_
    obtain ⟨ho7, h⟩ := h
    refine g_I C I fl_X1_170_11 (by decide) (by decide) ho7 dX1_thing_62 ?_
    exact r_int C.1 C.2.1 C.2.2.2.2.2.1 rfl C.2.2.2.2.2.2 ⟨rfl, rfl⟩ I dX1_thing_65 ⟨_, rfl, h⟩
  by_cases t2 : p1 = 2
  · have h := h.2.2.1 t2
    refine lv_tableIn (off := 43) (tgt := 66) C.1 C.2.1 dX1_thing_23 (by rw [t2]; decide) (by rw [t2]; decide) (by rw [t2]; rfl) (by decide) ?_
    refine l_ald_n C dX1_thing_66 hl 0 rfl rfl ?_
    obtain ⟨ho8, h⟩ := h
    refine g_I C I fl_X1_173_11 (by decide) (by decide) ho8 dX1_thing_67 ?_
    exact r_int C.1 C.2.1 C.2.2.2.2.2.1 rfl C.2.2.2.2.2.2 ⟨rfl, rfl⟩ I dX1_thing_70 ⟨_, rfl, h⟩
  by_cases t3 : p1 = 3
  · have h := h.2.2.2.1 t3
    refine lv_tableIn (off := 48) (tgt := 71) C.1 C.2.1 dX1_thing_23 (by rw [t3]; decide) (by rw [t3]; decide) (by rw [t3]; rfl) (by decide) ?_
    refine l_ald_n C dX1_thing_71 hl 0 rfl rfl ?_
    obtain ⟨ho9, h⟩ := h
    refine g_I C I fl_X1_176_11 (by decide) (by decide) ho9 dX1_thing_72 ?_
    refine lv_if_eq (tgt := 82) C.1 C.2.1 dX1_thing_75 (by decide) (fun c10 => ?_) (fun c10 => ?_)
    · have h := h.1 c10
      refine lv_iconst (v := 0) C.1 C.2.1 dX1_thing_82 (by decide) ?_
      exact b_X1_thing_83 C hex hLf ((0 : Int32)) G4 _ _ _ _ _ h (hth.ext (by decide) (Ext.tr _ _ _ xG1 xG4)) I (hl.sub [] rfl)
    · have h := h.2 c10
      refine lv_iconst (v := 1) C.1 C.2.1 dX1_thing_78 (by decide) ?_
      refine lv_goto (tgt := 83) C.1 C.2.1 dX1_thing_79 (by decide) ?_
      exact b_X1_thing_83 C hex hLf ((1 : Int32)) G4 _ _ _ _ _ h (hth.ext (by decide) (Ext.tr _ _ _ xG1 xG4)) I (hl.sub [] rfl)
  by_cases t4 : p1 = 4
  · have h := h.2.2.2.2.1 t4
    refine lv_tableIn (off := 61) (tgt := 84) C.1 C.2.1 dX1_thing_23 (by rw [t4]; decide) (by rw [t4]; decide) (by rw [t4]; rfl) (by decide) ?_
    refine l_ald_n C dX1_thing_84 hl 0 rfl rfl ?_
    obtain ⟨ho11, h⟩ := h
    refine g_I C I fl_X1_180_11 (by decide) (by decide) ho11 dX1_thing_85 ?_
    refine lv_if_eq (tgt := 95) C.1 C.2.1 dX1_thing_88 (by decide) (fun c12 => ?_) (fun c12 => ?_)
    · have h := h.1 c12
      refine lv_iconst (v := 0) C.1 C.2.1 dX1_thing_95 (by decide) ?_
      exact b_X1_thing_96 C hex hLf ((0 : Int32)) G4 _ _ _ _ _ h (hth.ext (by decide) (Ext.tr _ _ _ xG1 xG4)) I (hl.sub [] rfl)
    · have h := h.2 c12
      refine lv_iconst (v := 1) C.1 C.2.1 dX1_thing_91 (by decide) ?_
      refine lv_goto (tgt := 96) C.1 C.2.1 dX1_thing_92 (by decide) ?_
      exact b_X1_thing_96 C hex hLf ((1 : Int32)) G4 _ _ _ _ _ h (hth.ext (by decide) (Ext.tr _ _ _ xG1 xG4)) I (hl.sub [] rfl)
  have h := h.2.2.2.2.2 t0 t1 t2 t3 t4
  refine lv_tableOut (tgt := 97) C.1 C.2.1 dX1_thing_23 (sw_out (n := 5) (fun j hj => by match j, hj with | 0, _ => exact t0 | 1, _ => exact t1 | 2, _ => exact t2 | 3, _ => exact t3 | 4, _ => exact t4 | j + 5, hj => exact absurd hj (by omega)) (by decide)) (by decide) ?_
  obtain ⟨hb1, hb2, h⟩ := h
  refine z_new0 (kd := 17) hLf C I (by decide) q1067 q1076 ⟨hb1, hb2⟩ dX1_thing_97 dX1_thing_100 dX1_thing_101 hl.1 ⟨Nat.le_of_ble_eq_true rfl, Nat.le_of_ble_eq_true rfl⟩ (fun H locs cells slots G13 eG13 xG13 I => ?_)
  have h := h G13 eG13
  have hnG13 : isO G13 (some (gZ G4)) 17 := eG13.kn
  exact t_athrow C.1 C.2.1 dX1_thing_104 (t_out C.2.2.2.2.2.2 ⟨rfl, rfl⟩ (fun z hz => hex z hz _) I h)
def w_X16_begins_17 (T : Nat → ClassId) (Q : Int32 → Hp → Prop) (th : Option Nat) : Nat → Option Nat → Int32 → Hp → Prop
  | 0 => fun _ _ _ => False
  | f17 + 1 => fun l1 l2 G => isO G (gR G (ad th) 0) 51 ∧ ((nI (gN G (ad (gR G (ad th) 0))) ≤ l2) → (Q (1 : Int32) G)) ∧ ((¬ nI (gN G (ad (gR G (ad th) 0))) ≤ l2) → (vp_in l2 (gN G (ad (gR G (ad th) 0))) ∧ isO G l1 13 ∧ isO G (gR G (ad l1) 0) 51 ∧ vp_in l2 (gN G (ad (gR G (ad l1) 0))) ∧ ((gI G (ad (gR G (ad th) 0)) l2.toNatClampNeg = gI G (ad (gR G (ad l1) 0)) l2.toNatClampNeg) → ((w_X16_begins_17 T Q th f17) l1 ((l2 + 1)) G)) ∧ ((¬ gI G (ad (gR G (ad th) 0)) l2.toNatClampNeg = gI G (ad (gR G (ad l1) 0)) l2.toNatClampNeg) → (Q (0 : Int32) G))))
set_option maxHeartbeats 4000000 in
theorem b_X16_begins_17 {G0 : Hp} {Q : Int32 → Hp → Prop} {th : Option Nat} (C : Cx p s m meth c D T Z "EndingTown$Letters" cX16_begins 3 (some .boolean)) : ∀ (n : Nat) (l1 : Option Nat) (l2 : Int32) (G : Hp) (H : Heap) (locs : List Loc) (cells slots : Nat) (ls : Array Slot), w_X16_begins_17 T Q th n l1 l2 G → isO G th 13 → HI (twd D T Z) G0 s (rmX (twd D T Z) 0 0 G0) H locs cells slots G → LH ls 3 [(0, .inr (.inl th)), (1, .inr (.inl l1)), (2, .inl l2)] → W p l e (rmX (twd D T Z) 0 0 G0) s m args below meth c H locs cells slots (MQX (twd D T Z) G0 (qI Q) (fun _ _ => False) below s) (F0 m 17 ls []) := by
  intro f17
  induction f17 with
  | zero => intro l1 l2 G H locs cells slots ls h; exact (show False from h).elim
  | succ f17 ih =>
    intro l1 l2 G H locs cells slots ls h hth I hl
    have h : isO G (gR G (ad th) 0) 51 ∧ ((nI (gN G (ad (gR G (ad th) 0))) ≤ l2) → (Q (1 : Int32) G)) ∧ ((¬ nI (gN G (ad (gR G (ad th) 0))) ≤ l2) → (vp_in l2 (gN G (ad (gR G (ad th) 0))) ∧ isO G l1 13 ∧ isO G (gR G (ad l1) 0) 51 ∧ vp_in l2 (gN G (ad (gR G (ad l1) 0))) ∧ ((gI G (ad (gR G (ad th) 0)) l2.toNatClampNeg = gI G (ad (gR G (ad l1) 0)) l2.toNatClampNeg) → ((w_X16_begins_17 T Q th f17) l1 ((l2 + 1)) G)) ∧ ((¬ gI G (ad (gR G (ad th) 0)) l2.toNatClampNeg = gI G (ad (gR G (ad l1) 0)) l2.toNatClampNeg) → (Q (0 : Int32) G)))) := h
    have hk17 := ih
    refine l_ild_n C dX16_begins_17 hl 2 rfl rfl ?_
    refine l_ald_n C dX16_begins_18 hl 0 rfl rfl ?_
    refine g_R C I fl_X16_7_13 (by decide) (by decide) hth dX16_begins_19 ?_
    obtain ⟨ho1, h⟩ := h
    refine a_len C I ho1 (by decide) dX16_begins_22 ?_
    refine lv_icmp_ge (tgt := 49) C.1 C.2.1 dX16_begins_23 (by decide) (fun c5 => ?_) (fun c5 => ?_)
    · have h := h.1 c5
      refine lv_iconst (v := 1) C.1 C.2.1 dX16_begins_49 (by decide) ?_
      exact r_int C.1 C.2.1 C.2.2.2.2.2.1 rfl C.2.2.2.2.2.2 ⟨rfl, rfl⟩ I dX16_begins_50 ⟨_, rfl, h⟩
    · have h := h.2 c5
      refine l_ald_n C dX16_begins_26 hl 0 rfl rfl ?_
      refine g_R C I fl_X16_7_13 (by decide) (by decide) hth dX16_begins_27 ?_
      refine l_ild_n C dX16_begins_30 hl 2 rfl rfl ?_
      obtain ⟨hi, h⟩ := h
      refine a_bald C I ho1 hi dX16_begins_31 ?_
      refine l_ald_n C dX16_begins_32 hl 1 rfl rfl ?_
      obtain ⟨ho2, h⟩ := h
      refine g_R C I fl_X16_7_13 (by decide) (by decide) ho2 dX16_begins_33 ?_
      refine l_ild_n C dX16_begins_36 hl 2 rfl rfl ?_
      obtain ⟨ho3, h⟩ := h
      obtain ⟨hi, h⟩ := h
      refine a_bald C I ho3 hi dX16_begins_37 ?_
      refine lv_icmp_eq (tgt := 43) C.1 C.2.1 dX16_begins_38 (by decide) (fun c4 => ?_) (fun c4 => ?_)
      · have h := h.1 c4
        refine l_inc (q := 2) (v := 1) C dX16_begins_43 hl rfl (by decide) (by decide) rfl (fun ls hl => ?_)
        have hl : LH ls 3 [(2, .inl ((l2 + 1))), (0, .inr (.inl th)), (1, .inr (.inl l1))] := hl
        refine lv_goto (tgt := 17) C.1 C.2.1 dX16_begins_46 (by decide) ?_
        exact hk17 l1 ((l2 + 1)) G _ _ _ _ _ h hth I (hl.sub [1, 2, 0] rfl)
      · have h := h.2 c4
        refine lv_iconst (v := 0) C.1 C.2.1 dX16_begins_41 (by decide) ?_
        exact r_int C.1 C.2.1 C.2.2.2.2.2.1 rfl C.2.2.2.2.2.2 ⟨rfl, rfl⟩ I dX16_begins_42 ⟨_, rfl, h⟩
def w_X16_begins (T : Nat → ClassId) (Q : Int32 → Hp → Prop) (th : Option Nat) (p0 : Option Nat) (G : Hp) : Prop := isO G th 13 ∧ (isO G (gR G (ad th) 0) 51 ∧ isO G p0 13 ∧ isO G (gR G (ad p0) 0) 51 ∧ ((nI (gN G (ad (gR G (ad th) 0))) ≤ nI (gN G (ad (gR G (ad p0) 0)))) → (∃ n, w_X16_begins_17 T Q th n p0 ((0 : Int32)) G)) ∧ ((¬ nI (gN G (ad (gR G (ad th) 0))) ≤ nI (gN G (ad (gR G (ad p0) 0)))) → (Q (0 : Int32) G)))
theorem pd_X16_begins : (parseMethodDescriptor yX16_begins.desc).map (fun d => d.parameters.length) = some 1 := by decide +kernel
set_option maxHeartbeats 4000000 in
theorem ct_X16_begins {l : Launch} {D : va_G} {T : Nat → ClassId} {Z : Heap} {G0 : Hp} {Q : Int32 → Hp → Prop} {th : Option Nat} {p0 : Option Nat} (hw : w_X16_begins T Q th p0 G0) : CT (twd D T Z) (Evd D T Z) l yX16_begins (Cond.code yX16_begins cX16_begins 3 (some .boolean)) 0 0 [va_rf th, va_rf p0] G0 (qI Q) (fun _ _ => False) := by
  refine CT.ofW (cc := cX16_begins) (nL := 3) (ret := (some .boolean)) Ext.rf (by decide) (Or.inl rfl) ?_
  intro p e s m below meth c hx hb hml hown hr hlk hnm hcb hm hc hn hE I
  have C : Cx p s m meth c D T Z "EndingTown$Letters" cX16_begins 3 (some .boolean) := ⟨hx, hb, hml, hown, hE, hr, hlk⟩
  refine w_entry [.inr (.inl th), .inr (.inl p0)] (Nat.le_of_ble_eq_true rfl) (fun ls hl => ?_)
  have hl : LH ls 3 [(0, .inr (.inl th)), (1, .inr (.inl p0))] := hl
  obtain ⟨hth, h⟩ := hw
  refine l_ald_n C dX16_begins_0 hl 0 rfl rfl ?_
  refine g_R C I fl_X16_7_13 (by decide) (by decide) hth dX16_begins_1 ?_
  obtain ⟨ho1, h⟩ := h
  refine a_len C I ho1 (by decide) dX16_begins_4 ?_
  refine l_ald_n C dX16_begins_5 hl 1 rfl rfl ?_
  obtain ⟨ho2, h⟩ := h
  refine g_R C I fl_X16_7_13 (by decide) (by decide) ho2 dX16_begins_6 ?_
  obtain ⟨ho3, h⟩ := h
  refine a_len C I ho3 (by decide) dX16_begins_9 ?_
  refine lv_icmp_le (tgt := 15) C.1 C.2.1 dX16_begins_10 (by decide) (fun c4 => ?_) (fun c4 => ?_)
  · have h := h.1 c4
    refine lv_iconst (v := 0) C.1 C.2.1 dX16_begins_15 (by decide) ?_
    refine l_ist_n C dX16_begins_16 rfl hl (by decide) rfl (fun ls hl => ?_)
    have hl : LH ls 3 [(2, .inl ((0 : Int32))), (0, .inr (.inl th)), (1, .inr (.inl p0))] := hl
    obtain ⟨n, h⟩ := h
    exact b_X16_begins_17 C n p0 ((0 : Int32)) G0 _ _ _ _ _ h hth I (hl.sub [1, 2, 0] rfl)
  · have h := h.2 c4
    refine lv_iconst (v := 0) C.1 C.2.1 dX16_begins_13 (by decide) ?_
    exact r_int C.1 C.2.1 C.2.2.2.2.2.1 rfl C.2.2.2.2.2.2 ⟨rfl, rfl⟩ I dX16_begins_14 ⟨_, rfl, h⟩
def w_X16_ends_17 (T : Nat → ClassId) (Q : Int32 → Hp → Prop) (th : Option Nat) : Nat → Option Nat → Int32 → Hp → Prop
  | 0 => fun _ _ _ => False
  | f17 + 1 => fun l1 l2 G => isO G (gR G (ad th) 0) 51 ∧ ((nI (gN G (ad (gR G (ad th) 0))) ≤ l2) → (Q (1 : Int32) G)) ∧ ((¬ nI (gN G (ad (gR G (ad th) 0))) ≤ l2) → (vp_in l2 (gN G (ad (gR G (ad th) 0))) ∧ isO G l1 13 ∧ isO G (gR G (ad l1) 0) 51 ∧ vp_in (((nI (gN G (ad (gR G (ad l1) 0))) - nI (gN G (ad (gR G (ad th) 0)))) + l2)) (gN G (ad (gR G (ad l1) 0))) ∧ ((gI G (ad (gR G (ad th) 0)) l2.toNatClampNeg = gI G (ad (gR G (ad l1) 0)) (((nI (gN G (ad (gR G (ad l1) 0))) - nI (gN G (ad (gR G (ad th) 0)))) + l2)).toNatClampNeg) → ((w_X16_ends_17 T Q th f17) l1 ((l2 + 1)) G)) ∧ ((¬ gI G (ad (gR G (ad th) 0)) l2.toNatClampNeg = gI G (ad (gR G (ad l1) 0)) (((nI (gN G (ad (gR G (ad l1) 0))) - nI (gN G (ad (gR G (ad th) 0)))) + l2)).toNatClampNeg) → (Q (0 : Int32) G))))
set_option maxHeartbeats 4000000 in
theorem b_X16_ends_17 {G0 : Hp} {Q : Int32 → Hp → Prop} {th : Option Nat} (C : Cx p s m meth c D T Z "EndingTown$Letters" cX16_ends 3 (some .boolean)) : ∀ (n : Nat) (l1 : Option Nat) (l2 : Int32) (G : Hp) (H : Heap) (locs : List Loc) (cells slots : Nat) (ls : Array Slot), w_X16_ends_17 T Q th n l1 l2 G → isO G th 13 → HI (twd D T Z) G0 s (rmX (twd D T Z) 0 0 G0) H locs cells slots G → LH ls 3 [(0, .inr (.inl th)), (1, .inr (.inl l1)), (2, .inl l2)] → W p l e (rmX (twd D T Z) 0 0 G0) s m args below meth c H locs cells slots (MQX (twd D T Z) G0 (qI Q) (fun _ _ => False) below s) (F0 m 17 ls []) := by
  intro f17
  induction f17 with
  | zero => intro l1 l2 G H locs cells slots ls h; exact (show False from h).elim
  | succ f17 ih =>
    intro l1 l2 G H locs cells slots ls h hth I hl
    have h : isO G (gR G (ad th) 0) 51 ∧ ((nI (gN G (ad (gR G (ad th) 0))) ≤ l2) → (Q (1 : Int32) G)) ∧ ((¬ nI (gN G (ad (gR G (ad th) 0))) ≤ l2) → (vp_in l2 (gN G (ad (gR G (ad th) 0))) ∧ isO G l1 13 ∧ isO G (gR G (ad l1) 0) 51 ∧ vp_in (((nI (gN G (ad (gR G (ad l1) 0))) - nI (gN G (ad (gR G (ad th) 0)))) + l2)) (gN G (ad (gR G (ad l1) 0))) ∧ ((gI G (ad (gR G (ad th) 0)) l2.toNatClampNeg = gI G (ad (gR G (ad l1) 0)) (((nI (gN G (ad (gR G (ad l1) 0))) - nI (gN G (ad (gR G (ad th) 0)))) + l2)).toNatClampNeg) → ((w_X16_ends_17 T Q th f17) l1 ((l2 + 1)) G)) ∧ ((¬ gI G (ad (gR G (ad th) 0)) l2.toNatClampNeg = gI G (ad (gR G (ad l1) 0)) (((nI (gN G (ad (gR G (ad l1) 0))) - nI (gN G (ad (gR G (ad th) 0)))) + l2)).toNatClampNeg) → (Q (0 : Int32) G)))) := h
    have hk17 := ih
    refine l_ild_n C dX16_ends_17 hl 2 rfl rfl ?_
    refine l_ald_n C dX16_ends_18 hl 0 rfl rfl ?_
    refine g_R C I fl_X16_7_13 (by decide) (by decide) hth dX16_ends_19 ?_
    obtain ⟨ho1, h⟩ := h
    refine a_len C I ho1 (by decide) dX16_ends_22 ?_
    refine lv_icmp_ge (tgt := 61) C.1 C.2.1 dX16_ends_23 (by decide) (fun c5 => ?_) (fun c5 => ?_)
    · have h := h.1 c5
      refine lv_iconst (v := 1) C.1 C.2.1 dX16_ends_61 (by decide) ?_
      exact r_int C.1 C.2.1 C.2.2.2.2.2.1 rfl C.2.2.2.2.2.2 ⟨rfl, rfl⟩ I dX16_ends_62 ⟨_, rfl, h⟩
    · have h := h.2 c5
      refine l_ald_n C dX16_ends_26 hl 0 rfl rfl ?_
      refine g_R C I fl_X16_7_13 (by decide) (by decide) hth dX16_ends_27 ?_
      refine l_ild_n C dX16_ends_30 hl 2 rfl rfl ?_
      obtain ⟨hi, h⟩ := h
      refine a_bald C I ho1 hi dX16_ends_31 ?_
      refine l_ald_n C dX16_ends_32 hl 1 rfl rfl ?_
      obtain ⟨ho2, h⟩ := h
      refine g_R C I fl_X16_7_13 (by decide) (by decide) ho2 dX16_ends_33 ?_
      refine l_ald_n C dX16_ends_36 hl 1 rfl rfl ?_
      refine g_R C I fl_X16_7_13 (by decide) (by decide) ho2 dX16_ends_37 ?_
      obtain ⟨ho3, h⟩ := h
      refine a_len C I ho3 (by decide) dX16_ends_40 ?_
      refine l_ald_n C dX16_ends_41 hl 0 rfl rfl ?_
      refine g_R C I fl_X16_7_13 (by decide) (by decide) hth dX16_ends_42 ?_
      refine a_len C I ho1 (by decide) dX16_ends_45 ?_
      refine lv_isub C.1 C.2.1 dX16_ends_46 ?_
      refine l_ild_n C dX16_ends_47 hl 2 rfl rfl ?_
      refine lv_iadd C.1 C.2.1 dX16_ends_48 ?_
      obtain ⟨hi, h⟩ := h
      refine a_bald C I ho3 hi dX16_ends_49 ?_
      refine lv_icmp_eq (tgt := 55) C.1 C.2.1 dX16_ends_50 (by decide) (fun c4 => ?_) (fun c4 => ?_)
      · have h := h.1 c4
        refine l_inc (q := 2) (v := 1) C dX16_ends_55 hl rfl (by decide) (by decide) rfl (fun ls hl => ?_)
        have hl : LH ls 3 [(2, .inl ((l2 + 1))), (0, .inr (.inl th)), (1, .inr (.inl l1))] := hl
        refine lv_goto (tgt := 17) C.1 C.2.1 dX16_ends_58 (by decide) ?_
        exact hk17 l1 ((l2 + 1)) G _ _ _ _ _ h hth I (hl.sub [1, 2, 0] rfl)
      · have h := h.2 c4
        refine lv_iconst (v := 0) C.1 C.2.1 dX16_ends_53 (by decide) ?_
        exact r_int C.1 C.2.1 C.2.2.2.2.2.1 rfl C.2.2.2.2.2.2 ⟨rfl, rfl⟩ I dX16_ends_54 ⟨_, rfl, h⟩
def w_X16_ends (T : Nat → ClassId) (Q : Int32 → Hp → Prop) (th : Option Nat) (p0 : Option Nat) (G : Hp) : Prop := isO G th 13 ∧ (isO G (gR G (ad th) 0) 51 ∧ isO G p0 13 ∧ isO G (gR G (ad p0) 0) 51 ∧ ((nI (gN G (ad (gR G (ad th) 0))) ≤ nI (gN G (ad (gR G (ad p0) 0)))) → (∃ n, w_X16_ends_17 T Q th n p0 ((0 : Int32)) G)) ∧ ((¬ nI (gN G (ad (gR G (ad th) 0))) ≤ nI (gN G (ad (gR G (ad p0) 0)))) → (Q (0 : Int32) G)))
theorem pd_X16_ends : (parseMethodDescriptor yX16_ends.desc).map (fun d => d.parameters.length) = some 1 := by decide +kernel
set_option maxHeartbeats 4000000 in
theorem ct_X16_ends {l : Launch} {D : va_G} {T : Nat → ClassId} {Z : Heap} {G0 : Hp} {Q : Int32 → Hp → Prop} {th : Option Nat} {p0 : Option Nat} (hw : w_X16_ends T Q th p0 G0) : CT (twd D T Z) (Evd D T Z) l yX16_ends (Cond.code yX16_ends cX16_ends 3 (some .boolean)) 0 0 [va_rf th, va_rf p0] G0 (qI Q) (fun _ _ => False) := by
  refine CT.ofW (cc := cX16_ends) (nL := 3) (ret := (some .boolean)) Ext.rf (by decide) (Or.inl rfl) ?_
  intro p e s m below meth c hx hb hml hown hr hlk hnm hcb hm hc hn hE I
  have C : Cx p s m meth c D T Z "EndingTown$Letters" cX16_ends 3 (some .boolean) := ⟨hx, hb, hml, hown, hE, hr, hlk⟩
  refine w_entry [.inr (.inl th), .inr (.inl p0)] (Nat.le_of_ble_eq_true rfl) (fun ls hl => ?_)
  have hl : LH ls 3 [(0, .inr (.inl th)), (1, .inr (.inl p0))] := hl
  obtain ⟨hth, h⟩ := hw
  refine l_ald_n C dX16_ends_0 hl 0 rfl rfl ?_
  refine g_R C I fl_X16_7_13 (by decide) (by decide) hth dX16_ends_1 ?_
  obtain ⟨ho1, h⟩ := h
  refine a_len C I ho1 (by decide) dX16_ends_4 ?_
  refine l_ald_n C dX16_ends_5 hl 1 rfl rfl ?_
  obtain ⟨ho2, h⟩ := h
  refine g_R C I fl_X16_7_13 (by decide) (by decide) ho2 dX16_ends_6 ?_
  obtain ⟨ho3, h⟩ := h
  refine a_len C I ho3 (by decide) dX16_ends_9 ?_
  refine lv_icmp_le (tgt := 15) C.1 C.2.1 dX16_ends_10 (by decide) (fun c4 => ?_) (fun c4 => ?_)
  · have h := h.1 c4
    refine lv_iconst (v := 0) C.1 C.2.1 dX16_ends_15 (by decide) ?_
    refine l_ist_n C dX16_ends_16 rfl hl (by decide) rfl (fun ls hl => ?_)
    have hl : LH ls 3 [(2, .inl ((0 : Int32))), (0, .inr (.inl th)), (1, .inr (.inl p0))] := hl
    obtain ⟨n, h⟩ := h
    exact b_X16_ends_17 C n p0 ((0 : Int32)) G0 _ _ _ _ _ h hth I (hl.sub [1, 2, 0] rfl)
  · have h := h.2 c4
    refine lv_iconst (v := 0) C.1 C.2.1 dX16_ends_13 (by decide) ?_
    exact r_int C.1 C.2.1 C.2.2.2.2.2.1 rfl C.2.2.2.2.2.2 ⟨rfl, rfl⟩ I dX16_ends_14 ⟨_, rfl, h⟩
def w_X16_init_2 (T : Nat → ClassId) (Q : Hp → Prop) (th : Option Nat) (p0 : Int32) (G : Hp) : Prop := isO G th 13 ∧ ((¬ p0 < 0 ∧ p0.toNatClampNeg ≤ 100000 ∧ 1 ≤ gC G ∧ p0.toNatClampNeg ≤ gS G) ∧ ∀ G1 : Hp, G1 = nw G 51 p0.toNatClampNeg p0.toNatClampNeg → ∀ G2 : Hp, G2 = wR G1 (ad th) 0 ((some (gZ G))) → Q G2)
theorem pd_X16_init_2 : (parseMethodDescriptor yX16_init_2.desc).map (fun d => d.parameters.length) = some 1 := by decide +kernel
set_option maxHeartbeats 4000000 in
theorem ct_X16_init_2 {l : Launch} {D : va_G} {T : Nat → ClassId} {Z : Heap} {G0 : Hp} {Q : Hp → Prop} {th : Option Nat} {p0 : Int32} (hw : w_X16_init_2 T Q th p0 G0) : CT (twd D T Z) (Evd D T Z) l yX16_init_2 (Cond.code yX16_init_2 cX16_init_2 2 none) 1 20 [va_rf th, .int p0] G0 (qV Q) (fun _ _ => False) := by
  refine CT.ofW (cc := cX16_init_2) (nL := 2) (ret := none) Ext.rf (by decide) (Or.inl rfl) ?_
  intro p e s m below meth c hx hb hml hown hr hlk hnm hcb hm hc hn hE I
  have C : Cx p s m meth c D T Z "EndingTown$Letters" cX16_init_2 2 none := ⟨hx, hb, hml, hown, hE, hr, hlk⟩
  refine w_entry [.inr (.inl th), .inl p0] (Nat.le_of_ble_eq_true rfl) (fun ls hl => ?_)
  have hl : LH ls 2 [(0, .inr (.inl th)), (1, .inl p0)] := hl
  obtain ⟨hth, h⟩ := hw
  refine l_ald_n C dX16_init_2_0 hl 0 rfl rfl ?_
  refine k_objInit C hth.ad.1 q1022 q142 q143 hl.1 dX16_init_2_1 (Nat.le_of_ble_eq_true rfl) ⟨Nat.le_of_ble_eq_true rfl, Nat.le_of_ble_eq_true rfl⟩ ?_
  refine l_ald_n C dX16_init_2_4 hl 0 rfl rfl ?_
  refine l_ild_n C dX16_init_2_5 hl 1 rfl rfl ?_
  obtain ⟨hb, h⟩ := h
  refine N_arr (kd := 51) C I (by decide) rfl q400 hb dX16_init_2_6 (fun H cells slots G1 eG1 xG1 I => ?_)
  have h := h G1 eG1
  have hnG1 : isO G1 (some (gZ G0)) 51 := ⟨_, rfl, by rw [eG1]; exact gK_nw⟩
  refine P_R C I fp_X16_7_13 (fun _ => hnm) (by decide) (by decide) (hth.ext (by decide) xG1) dX16_init_2_8 (fun x => fit_a x) (fun H locs G2 eG2 xG2 I => ?_)
  have h := h G2 eG2
  exact r_void C.1 C.2.1 C.2.2.2.2.2.1 C.2.2.2.2.2.2 ⟨rfl, rfl⟩ I dX16_init_2_11 ⟨rfl, h⟩
def w_X16_lay_3 (T : Nat → ClassId) (Q : Int32 → Hp → Prop) (th : Option Nat) : Nat → Option Nat → Int32 → Int32 → Int32 → Int32 → Hp → Prop
  | 0 => fun _ _ _ _ _ _ => False
  | f3 + 1 => fun l1 l2 l3 l4 l5 G => ((l4 ≤ l5) → (Q (((l2 + l4) - l3)) G)) ∧ ((¬ l4 ≤ l5) → (isO G l1 13 ∧ isO G (gR G (ad th) 0) 51 ∧ vp_in l5 (gN G (ad (gR G (ad th) 0))) ∧ isO G (gR G (ad l1) 0) 51 ∧ vp_in (((l2 + l5) - l3)) (gN G (ad (gR G (ad l1) 0))) ∧ ∀ G4 : Hp, G4 = wI G (ad (gR G (ad l1) 0)) (((l2 + l5) - l3)).toNatClampNeg ((gI G (ad (gR G (ad th) 0)) l5.toNatClampNeg).toInt8.toInt32) → (w_X16_lay_3 T Q th f3) l1 l2 l3 l4 ((l5 + 1)) G4))
set_option maxHeartbeats 4000000 in
theorem b_X16_lay_3 {G0 : Hp} {Q : Int32 → Hp → Prop} {th : Option Nat} (C : Cx p s m meth c D T Z "EndingTown$Letters" cX16_lay 6 (some .int)) : ∀ (n : Nat) (l1 : Option Nat) (l2 : Int32) (l3 : Int32) (l4 : Int32) (l5 : Int32) (G : Hp) (H : Heap) (locs : List Loc) (cells slots : Nat) (ls : Array Slot), w_X16_lay_3 T Q th n l1 l2 l3 l4 l5 G → isO G th 13 → HI (twd D T Z) G0 s (rmX (twd D T Z) 0 0 G0) H locs cells slots G → LH ls 6 [(0, .inr (.inl th)), (1, .inr (.inl l1)), (2, .inl l2), (3, .inl l3), (4, .inl l4), (5, .inl l5)] → W p l e (rmX (twd D T Z) 0 0 G0) s m args below meth c H locs cells slots (MQX (twd D T Z) G0 (qI Q) (fun _ _ => False) below s) (F0 m 3 ls []) := by
  intro f3
  induction f3 with
  | zero => intro l1 l2 l3 l4 l5 G H locs cells slots ls h; exact (show False from h).elim
  | succ f3 ih =>
    intro l1 l2 l3 l4 l5 G H locs cells slots ls h hth I hl
    have h : ((l4 ≤ l5) → (Q (((l2 + l4) - l3)) G)) ∧ ((¬ l4 ≤ l5) → (isO G l1 13 ∧ isO G (gR G (ad th) 0) 51 ∧ vp_in l5 (gN G (ad (gR G (ad th) 0))) ∧ isO G (gR G (ad l1) 0) 51 ∧ vp_in (((l2 + l5) - l3)) (gN G (ad (gR G (ad l1) 0))) ∧ ∀ G4 : Hp, G4 = wI G (ad (gR G (ad l1) 0)) (((l2 + l5) - l3)).toNatClampNeg ((gI G (ad (gR G (ad th) 0)) l5.toNatClampNeg).toInt8.toInt32) → (w_X16_lay_3 T Q th f3) l1 l2 l3 l4 ((l5 + 1)) G4)) := h
    have hk3 := ih
    refine l_ild C dX16_lay_3 hl 5 rfl ?_
    refine l_ild C dX16_lay_5 hl 4 rfl ?_
    refine lv_icmp_ge (tgt := 34) C.1 C.2.1 dX16_lay_7 (by decide) (fun c5 => ?_) (fun c5 => ?_)
    · have h := h.1 c5
      refine l_ild_n C dX16_lay_34 hl 2 rfl rfl ?_
      refine l_ild C dX16_lay_35 hl 4 rfl ?_
      refine lv_iadd C.1 C.2.1 dX16_lay_37 ?_
      refine l_ild_n C dX16_lay_38 hl 3 rfl rfl ?_
      refine lv_isub C.1 C.2.1 dX16_lay_39 ?_
      exact r_int C.1 C.2.1 C.2.2.2.2.2.1 rfl C.2.2.2.2.2.2 ⟨rfl, rfl⟩ I dX16_lay_40 ⟨_, rfl, h⟩
    · have h := h.2 c5
      refine l_ald_n C dX16_lay_10 hl 1 rfl rfl ?_
      obtain ⟨ho1, h⟩ := h
      refine g_R C I fl_X16_7_13 (by decide) (by decide) ho1 dX16_lay_11 ?_
      refine l_ild_n C dX16_lay_14 hl 2 rfl rfl ?_
      refine l_ild C dX16_lay_15 hl 5 rfl ?_
      refine lv_iadd C.1 C.2.1 dX16_lay_17 ?_
      refine l_ild_n C dX16_lay_18 hl 3 rfl rfl ?_
      refine lv_isub C.1 C.2.1 dX16_lay_19 ?_
      refine l_ald_n C dX16_lay_20 hl 0 rfl rfl ?_
      refine g_R C I fl_X16_7_13 (by decide) (by decide) hth dX16_lay_21 ?_
      refine l_ild C dX16_lay_24 hl 5 rfl ?_
      obtain ⟨ho2, h⟩ := h
      obtain ⟨hi, h⟩ := h
      refine a_bald C I ho2 hi dX16_lay_26 ?_
      obtain ⟨ho3, h⟩ := h
      obtain ⟨hi, h⟩ := h
      refine A_bast C I ho3 hi dX16_lay_27 (fun H locs G4 eG4 xG4 I => ?_)
      have h := h G4 eG4
      refine l_inc (q := 5) (v := 1) C dX16_lay_28 hl rfl (by decide) (by decide) rfl (fun ls hl => ?_)
      have hl : LH ls 6 [(5, .inl ((l5 + 1))), (0, .inr (.inl th)), (1, .inr (.inl l1)), (2, .inl l2), (3, .inl l3), (4, .inl l4)] := hl
      refine lv_goto (tgt := 3) C.1 C.2.1 dX16_lay_31 (by decide) ?_
      exact hk3 l1 l2 l3 l4 ((l5 + 1)) G4 _ _ _ _ _ h (hth.ext (by decide) xG4) I (hl.sub [1, 2, 3, 4, 5, 0] rfl)
def w_X16_lay (T : Nat → ClassId) (Q : Int32 → Hp → Prop) (th : Option Nat) (p0 : Option Nat) (p1 : Int32) (p2 : Int32) (p3 : Int32) (G : Hp) : Prop := isO G th 13 ∧ (∃ n, w_X16_lay_3 T Q th n p0 p1 p2 p3 p2 G)
theorem pd_X16_lay : (parseMethodDescriptor yX16_lay.desc).map (fun d => d.parameters.length) = some 4 := by decide +kernel
set_option maxHeartbeats 4000000 in
theorem ct_X16_lay {l : Launch} {D : va_G} {T : Nat → ClassId} {Z : Heap} {G0 : Hp} {Q : Int32 → Hp → Prop} {th : Option Nat} {p0 : Option Nat} {p1 : Int32} {p2 : Int32} {p3 : Int32} (hw : w_X16_lay T Q th p0 p1 p2 p3 G0) : CT (twd D T Z) (Evd D T Z) l yX16_lay (Cond.code yX16_lay cX16_lay 6 (some .int)) 0 0 [va_rf th, va_rf p0, .int p1, .int p2, .int p3] G0 (qI Q) (fun _ _ => False) := by
  refine CT.ofW (cc := cX16_lay) (nL := 6) (ret := (some .int)) Ext.rf (by decide) (Or.inl rfl) ?_
  intro p e s m below meth c hx hb hml hown hr hlk hnm hcb hm hc hn hE I
  have C : Cx p s m meth c D T Z "EndingTown$Letters" cX16_lay 6 (some .int) := ⟨hx, hb, hml, hown, hE, hr, hlk⟩
  refine w_entry [.inr (.inl th), .inr (.inl p0), .inl p1, .inl p2, .inl p3] (Nat.le_of_ble_eq_true rfl) (fun ls hl => ?_)
  have hl : LH ls 6 [(0, .inr (.inl th)), (1, .inr (.inl p0)), (2, .inl p1), (3, .inl p2), (4, .inl p3)] := hl
  obtain ⟨hth, h⟩ := hw
  refine l_ild_n C dX16_lay_0 hl 3 rfl rfl ?_
  refine l_ist C dX16_lay_1 hl (by decide) rfl (fun ls hl => ?_)
  have hl : LH ls 6 [(5, .inl p2), (0, .inr (.inl th)), (1, .inr (.inl p0)), (2, .inl p1), (3, .inl p2), (4, .inl p3)] := hl
  obtain ⟨n, h⟩ := h
  exact b_X16_lay_3 C n p0 p1 p2 p3 p2 G0 _ _ _ _ _ h hth I (hl.sub [1, 2, 3, 4, 5, 0] rfl)
def w_X2_word_125 (T : Nat → ClassId) (Q : Option Nat → Hp → Prop) (th : Option Nat) (k40 : Option Nat → Option Nat → Option Nat → Int32 → Hp → Prop) (l4 : Option Nat) (l5 : Option Nat) (l6 : Option Nat) (l7 : Int32) (G : Hp) : Prop := k40 l4 l5 l6 ((l7 + 1)) G
set_option maxHeartbeats 4000000 in
theorem b_X2_word_125 {G0 : Hp} {Q : Option Nat → Hp → Prop} {th : Option Nat} {k40 : Option Nat → Option Nat → Option Nat → Int32 → Hp → Prop} (C : Cx p s m meth c D T Z "EndingTown$Village" cX2_word 11 (some (.object "EndingTown$Letters"))) (hk40 : ∀ (l4 : Option Nat) (l5 : Option Nat) (l6 : Option Nat) (l7 : Int32) (G : Hp) (H : Heap) (locs : List Loc) (cells slots : Nat) (ls : Array Slot), k40 l4 l5 l6 l7 G → isO G th 2 → HI (twd D T Z) G0 s (rmX (twd D T Z) 3 64 G0) H locs cells slots G → LH ls 11 [(0, .inr (.inl th)), (4, .inr (.inl l4)), (5, .inr (.inl l5)), (6, .inr (.inl l6)), (7, .inl l7)] → W p l e (rmX (twd D T Z) 3 64 G0) s m args below meth c H locs cells slots (MQX (twd D T Z) G0 (qR Q) (fun _ _ => False) below s) (F0 m 40 ls [])) : ∀ (l4 : Option Nat) (l5 : Option Nat) (l6 : Option Nat) (l7 : Int32) (G : Hp) (H : Heap) (locs : List Loc) (cells slots : Nat) (ls : Array Slot), w_X2_word_125 T Q th k40 l4 l5 l6 l7 G → isO G th 2 → HI (twd D T Z) G0 s (rmX (twd D T Z) 3 64 G0) H locs cells slots G → LH ls 11 [(0, .inr (.inl th)), (4, .inr (.inl l4)), (5, .inr (.inl l5)), (6, .inr (.inl l6)), (7, .inl l7)] → W p l e (rmX (twd D T Z) 3 64 G0) s m args below meth c H locs cells slots (MQX (twd D T Z) G0 (qR Q) (fun _ _ => False) below s) (F0 m 125 ls []) := by
  intro l4 l5 l6 l7 G H locs cells slots ls h hth I hl
  refine l_inc (q := 4) (v := 1) C dX2_word_125 hl rfl (by decide) (by decide) rfl (fun ls hl => ?_)
  have hl : LH ls 11 [(7, .inl ((l7 + 1))), (0, .inr (.inl th)), (4, .inr (.inl l4)), (5, .inr (.inl l5)), (6, .inr (.inl l6))] := hl
  refine lv_goto (tgt := 40) C.1 C.2.1 dX2_word_128 (by decide) ?_
  exact hk40 l4 l5 l6 ((l7 + 1)) G _ _ _ _ _ h hth I (hl.sub [1, 2, 3, 4, 0] rfl)
def w_X2_word_267 (T : Nat → ClassId) (Q : Option Nat → Hp → Prop) (th : Option Nat) (l5 : Option Nat) (l8 : Int32) (l9 : Option Nat) (l10 : Int32) (G : Hp) : Prop := isO G l5 13 ∧ isO G (gR G (ad l5) 0) 51 ∧ w_X16_lay T (fun r4 G3 => Ext G G3 → Q l9 G3) l5 l9 l10 l8 (nI (gN G (ad (gR G (ad l5) 0)))) G
set_option maxHeartbeats 4000000 in
theorem b_X2_word_267 {G0 : Hp} {Q : Option Nat → Hp → Prop} {th : Option Nat} (C : Cx p s m meth c D T Z "EndingTown$Village" cX2_word 11 (some (.object "EndingTown$Letters"))) : ∀ (l5 : Option Nat) (l8 : Int32) (l9 : Option Nat) (l10 : Int32) (G : Hp) (H : Heap) (locs : List Loc) (cells slots : Nat) (ls : Array Slot), w_X2_word_267 T Q th l5 l8 l9 l10 G → isO G th 2 → HI (twd D T Z) G0 s (rmX (twd D T Z) 3 64 G0) H locs cells slots G → LH ls 11 [(5, .inr (.inl l5)), (8, .inl l8), (9, .inr (.inl l9)), (10, .inl l10)] → W p l e (rmX (twd D T Z) 3 64 G0) s m args below meth c H locs cells slots (MQX (twd D T Z) G0 (qR Q) (fun _ _ => False) below s) (F0 m 267 ls []) := by
  intro l5 l8 l9 l10 G H locs cells slots ls h hth I hl
  refine l_ald C dX2_word_267 hl 0 rfl ?_
  refine l_ald C dX2_word_269 hl 2 rfl ?_
  refine l_ild C dX2_word_271 hl 3 rfl ?_
  refine l_ild C dX2_word_273 hl 1 rfl ?_
  refine l_ald C dX2_word_275 hl 0 rfl ?_
  obtain ⟨ho1, h⟩ := h
  refine g_R C I fl_X2_76_13 (by decide) (by decide) ho1 dX2_word_277 ?_
  obtain ⟨ho2, h⟩ := h
  refine a_len C I ho2 (by decide) dX2_word_280 ?_
  refine k_call Ext.tr C I (k_V (r := l5) (As := [va_rf l9, .int l10, .int l8, .int (nI (gN G (ad (gR G (ad l5) 0))))]) (rest := []) (y := yX16_lay) C ⟨ho1.ad.1, I.recv C.2.2.2.2.1 ho1 (by decide)⟩ q1137 q1138 q1139 (Or.inl rfl) q1140 (by decide) rfl pd_X16_lay rfl dX2_word_281) (ct_X16_lay h) hl.1 dX2_word_281 [] rfl (Nat.le_of_ble_eq_true rfl) (Or.inl rfl) q1140 q131 ⟨Nat.le_of_ble_eq_true rfl, Nat.le_of_ble_eq_true rfl⟩ (fun v G3 H locs cells slots xG3 hq I => ?_) (fun a G9 H locs cells slots ex hq I => hq.elim)
  obtain ⟨r4, rfl, h⟩ := hq
  have h := h xG3
  refine lv_pop C.1 C.2.1 dX2_word_284 rfl ?_
  refine l_ald C dX2_word_285 hl 2 rfl ?_
  exact r_ref C.1 C.2.1 C.2.2.2.2.2.1 (Or.inl ⟨_, rfl⟩) C.2.2.2.2.2.2 ⟨rfl, rfl⟩ I dX2_word_287 ⟨_, rfl, h⟩
def w_X2_word_202 (T : Nat → ClassId) (Q : Option Nat → Hp → Prop) (th : Option Nat) (l4 : Option Nat) (l5 : Option Nat) (l6 : Option Nat) (l7 : Int32) (l8 : Int32) (t0 : Int32) (t1 : Int32) (t2 : Option Nat) (t3 : Option Nat) (G : Hp) : Prop := isO G l5 13 ∧ isO G (gR G (ad l5) 0) 51 ∧ isO G t2 13 ∧ w_X16_init_2 T (fun G3 => Ext G G3 → isO G3 l4 13 ∧ isO G3 (gR G3 (ad l4) 0) 51 ∧ w_X16_lay T (fun r8 G7 => Ext G3 G7 → ((l6 = none) → (w_X2_word_267 T Q th l5 l8 t3 r8 G7)) ∧ ((¬ l6 = none) → (isO G7 l6 14 ∧ isO G7 (gR G7 (ad l6) 2) 13 ∧ isO G7 (gR G7 (ad (gR G7 (ad l6) 2)) 0) 51 ∧ w_X16_lay T (fun r13 G12 => Ext G7 G12 → w_X2_word_267 T Q th l5 l8 t3 r13 G12) (gR G7 (ad l6) 2) t3 r8 ((0 : Int32)) (nI (gN G7 (ad (gR G7 (ad (gR G7 (ad l6) 2)) 0)))) G7))) l4 t3 ((0 : Int32)) ((0 : Int32)) ((nI (gN G3 (ad (gR G3 (ad l4) 0))) - l7)) G3) t2 ((((t1 + t0) + nI (gN G (ad (gR G (ad l5) 0)))) - l8)) G
set_option maxHeartbeats 4000000 in
theorem b_X2_word_202 {G0 : Hp} {Q : Option Nat → Hp → Prop} {th : Option Nat} (C : Cx p s m meth c D T Z "EndingTown$Village" cX2_word 11 (some (.object "EndingTown$Letters"))) : ∀ (l4 : Option Nat) (l5 : Option Nat) (l6 : Option Nat) (l7 : Int32) (l8 : Int32) (t0 : Int32) (t1 : Int32) (t2 : Option Nat) (t3 : Option Nat) (G : Hp) (H : Heap) (locs : List Loc) (cells slots : Nat) (ls : Array Slot), w_X2_word_202 T Q th l4 l5 l6 l7 l8 t0 t1 t2 t3 G → isO G th 2 → HI (twd D T Z) G0 s (rmX (twd D T Z) 3 64 G0) H locs cells slots G → LH ls 11 [(4, .inr (.inl l4)), (5, .inr (.inl l5)), (6, .inr (.inl l6)), (7, .inl l7), (8, .inl l8)] → W p l e (rmX (twd D T Z) 3 64 G0) s m args below meth c H locs cells slots (MQX (twd D T Z) G0 (qR Q) (fun _ _ => False) below s) (F0 m 202 ls [.int t0, .int t1, va_rf t2, va_rf t3]) := by
  intro l4 l5 l6 l7 l8 t0 t1 t2 t3 G H locs cells slots ls h hth I hl
  refine lv_iadd C.1 C.2.1 dX2_word_202 ?_
  refine l_ald C dX2_word_203 hl 1 rfl ?_
  obtain ⟨ho1, h⟩ := h
  refine g_R C I fl_X2_76_13 (by decide) (by decide) ho1 dX2_word_205 ?_
  obtain ⟨ho2, h⟩ := h
  refine a_len C I ho2 (by decide) dX2_word_208 ?_
  refine lv_iadd C.1 C.2.1 dX2_word_209 ?_
  refine l_ild C dX2_word_210 hl 4 rfl ?_
  refine lv_isub C.1 C.2.1 dX2_word_212 ?_
  obtain ⟨ho15, h⟩ := h
  refine k_call Ext.tr C I (k_I (r := t2) (As := [.int ((((t1 + t0) + nI (gN G (ad (gR G (ad l5) 0)))) - l8))]) (rest := [va_rf t3]) (y := yX16_init_2) C ho15.ad.1 rfl q1134 q1135 q1136 (by decide) rfl pd_X16_init_2 rfl dX2_word_213) (ct_X16_init_2 h) hl.1 dX2_word_213 [.inr (.inl t3)] rfl (Nat.le_of_ble_eq_true rfl) (Or.inl rfl) q1136 q131 ⟨Nat.le_of_ble_eq_true rfl, Nat.le_of_ble_eq_true rfl⟩ (fun v G3 H locs cells slots xG3 hq I => ?_) (fun a G9 H locs cells slots ex hq I => hq.elim)
  obtain ⟨rfl, h⟩ := hq
  have h := h xG3
  refine l_ast C dX2_word_216 hl (by decide) rfl (fun ls hl => ?_)
  have hl : LH ls 11 [(9, .inr (.inl t3)), (4, .inr (.inl l4)), (5, .inr (.inl l5)), (6, .inr (.inl l6)), (7, .inl l7), (8, .inl l8)] := hl
  refine l_ald C dX2_word_218 hl 1 rfl ?_
  refine l_ald C dX2_word_220 hl 0 rfl ?_
  refine lv_iconst (v := 0) C.1 C.2.1 dX2_word_222 (by decide) ?_
  refine lv_iconst (v := 0) C.1 C.2.1 dX2_word_223 (by decide) ?_
  refine l_ald C dX2_word_224 hl 1 rfl ?_
  obtain ⟨ho5, h⟩ := h
  refine g_R C I fl_X2_76_13 (by decide) (by decide) ho5 dX2_word_226 ?_
  obtain ⟨ho6, h⟩ := h
  refine a_len C I ho6 (by decide) dX2_word_229 ?_
  refine l_ild C dX2_word_230 hl 4 rfl ?_
  refine lv_isub C.1 C.2.1 dX2_word_232 ?_
  refine k_call Ext.tr C I (k_V (r := l4) (As := [va_rf t3, .int ((0 : Int32)), .int ((0 : Int32)), .int ((nI (gN G3 (ad (gR G3 (ad l4) 0))) - l7))]) (rest := []) (y := yX16_lay) C ⟨ho5.ad.1, I.recv C.2.2.2.2.1 ho5 (by decide)⟩ q1137 q1138 q1139 (Or.inl rfl) q1140 (by decide) rfl pd_X16_lay rfl dX2_word_233) (ct_X16_lay h) hl.1 dX2_word_233 [] rfl (Nat.le_of_ble_eq_true rfl) (Or.inl rfl) q1140 q131 ⟨Nat.le_of_ble_eq_true rfl, Nat.le_of_ble_eq_true rfl⟩ (fun v G7 H locs cells slots xG7 hq I => ?_) (fun a G9 H locs cells slots ex hq I => hq.elim)
  obtain ⟨r8, rfl, h⟩ := hq
  have h := h xG7
  refine l_ist C dX2_word_236 hl (by decide) rfl (fun ls hl => ?_)
  have hl : LH ls 11 [(10, .inl r8), (9, .inr (.inl t3)), (4, .inr (.inl l4)), (5, .inr (.inl l5)), (6, .inr (.inl l6)), (7, .inl l7), (8, .inl l8)] := hl
  refine l_ald C dX2_word_238 hl 4 rfl ?_
  refine l_ifnull (tgt := 267) C dX2_word_240 (by decide) (fun c14 => ?_) (fun c14 => ?_)
  · have h := h.1 c14
    exact b_X2_word_267 C l5 l8 t3 r8 G7 _ _ _ _ _ h (hth.ext (by decide) (Ext.tr _ _ _ xG3 xG7)) I (hl.sub [3, 6, 1, 0] rfl)
  · have h := h.2 c14
    refine l_ald C dX2_word_243 hl 4 rfl ?_
    obtain ⟨ho9, h⟩ := h
    refine g_R C I fl_X2_80_14 (by decide) (by decide) ho9 dX2_word_245 ?_
    refine l_ald C dX2_word_248 hl 1 rfl ?_
    refine l_ild C dX2_word_250 hl 0 rfl ?_
    refine lv_iconst (v := 0) C.1 C.2.1 dX2_word_252 (by decide) ?_
    refine l_ald C dX2_word_253 hl 4 rfl ?_
    refine g_R C I fl_X2_80_14 (by decide) (by decide) ho9 dX2_word_255 ?_
    obtain ⟨ho10, h⟩ := h
    refine g_R C I fl_X2_76_13 (by decide) (by decide) ho10 dX2_word_258 ?_
    obtain ⟨ho11, h⟩ := h
    refine a_len C I ho11 (by decide) dX2_word_261 ?_
    refine k_call Ext.tr C I (k_V (r := gR G7 (ad l6) 2) (As := [va_rf t3, .int r8, .int ((0 : Int32)), .int (nI (gN G7 (ad (gR G7 (ad (gR G7 (ad l6) 2)) 0))))]) (rest := []) (y := yX16_lay) C ⟨ho10.ad.1, I.recv C.2.2.2.2.1 ho10 (by decide)⟩ q1137 q1138 q1139 (Or.inl rfl) q1140 (by decide) rfl pd_X16_lay rfl dX2_word_262) (ct_X16_lay h) hl.1 dX2_word_262 [] rfl (Nat.le_of_ble_eq_true rfl) (Or.inl rfl) q1140 q131 ⟨Nat.le_of_ble_eq_true rfl, Nat.le_of_ble_eq_true rfl⟩ (fun v G12 H locs cells slots xG12 hq I => ?_) (fun a G9 H locs cells slots ex hq I => hq.elim)
    obtain ⟨r13, rfl, h⟩ := hq
    have h := h xG12
    refine l_ist C dX2_word_265 hl (by decide) rfl (fun ls hl => ?_)
    have hl : LH ls 11 [(10, .inl r13), (9, .inr (.inl t3)), (4, .inr (.inl l4)), (5, .inr (.inl l5)), (6, .inr (.inl l6)), (7, .inl l7), (8, .inl l8)] := hl
    exact b_X2_word_267 C l5 l8 t3 r13 G12 _ _ _ _ _ h (hth.ext (by decide) (Ext.tr _ _ _ xG3 (Ext.tr _ _ _ xG7 xG12))) I (hl.sub [3, 6, 1, 0] rfl)
def w_X2_word_169 (T : Nat → ClassId) (Q : Option Nat → Hp → Prop) (th : Option Nat) (l4 : Option Nat) (l5 : Option Nat) (l6 : Option Nat) (l7 : Int32) (t0 : Int32) (G : Hp) : Prop := 1 ≤ gC G ∧ 1 ≤ gS G ∧ ∀ G1 : Hp, G1 = nw G 13 0 1 → isO G1 l4 13 ∧ isO G1 (gR G1 (ad l4) 0) 51 ∧ ((¬ l6 = none) → (isO G1 l6 14 ∧ isO G1 (gR G1 (ad l6) 2) 13 ∧ isO G1 (gR G1 (ad (gR G1 (ad l6) 2)) 0) 51 ∧ w_X2_word_202 T Q th l4 l5 l6 l7 t0 (nI (gN G1 (ad (gR G1 (ad (gR G1 (ad l6) 2)) 0)))) ((nI (gN G1 (ad (gR G1 (ad l4) 0))) - l7)) ((some (gZ G))) ((some (gZ G))) G1)) ∧ ((l6 = none) → (w_X2_word_202 T Q th l4 l5 l6 l7 t0 ((0 : Int32)) ((nI (gN G1 (ad (gR G1 (ad l4) 0))) - l7)) ((some (gZ G))) ((some (gZ G))) G1))
set_option maxHeartbeats 4000000 in
theorem b_X2_word_169 {G0 : Hp} {Q : Option Nat → Hp → Prop} {th : Option Nat} (C : Cx p s m meth c D T Z "EndingTown$Village" cX2_word 11 (some (.object "EndingTown$Letters"))) : ∀ (l4 : Option Nat) (l5 : Option Nat) (l6 : Option Nat) (l7 : Int32) (t0 : Int32) (G : Hp) (H : Heap) (locs : List Loc) (cells slots : Nat) (ls : Array Slot), w_X2_word_169 T Q th l4 l5 l6 l7 t0 G → isO G th 2 → HI (twd D T Z) G0 s (rmX (twd D T Z) 3 64 G0) H locs cells slots G → LH ls 11 [(4, .inr (.inl l4)), (5, .inr (.inl l5)), (6, .inr (.inl l6)), (7, .inl l7)] → W p l e (rmX (twd D T Z) 3 64 G0) s m args below meth c H locs cells slots (MQX (twd D T Z) G0 (qR Q) (fun _ _ => False) below s) (F0 m 169 ls [.int t0]) := by
  intro l4 l5 l6 l7 t0 G H locs cells slots ls h hth I hl
  refine l_ist C dX2_word_169 hl (by decide) rfl (fun ls hl => ?_)
  have hl : LH ls 11 [(8, .inl t0), (4, .inr (.inl l4)), (5, .inr (.inl l5)), (6, .inr (.inl l6)), (7, .inl l7)] := hl
  obtain ⟨hb1, hb2, h⟩ := h
  refine N_obj (kd := 13) C I (by decide) q176 ⟨hb1, hb2⟩ dX2_word_171 (fun H cells slots G1 eG1 xG1 I => ?_)
  have h := h G1 eG1
  have hnG1 : isO G1 (some (gZ G)) 13 := ⟨_, rfl, by rw [eG1]; exact gK_nw⟩
  refine lv_dup C.1 C.2.1 dX2_word_174 (cat_rf _) ?_
  refine l_ald C dX2_word_175 hl 1 rfl ?_
  obtain ⟨ho2, h⟩ := h
  refine g_R C I fl_X2_76_13 (by decide) (by decide) ho2 dX2_word_177 ?_
  obtain ⟨ho3, h⟩ := h
  refine a_len C I ho3 (by decide) dX2_word_180 ?_
  refine l_ild C dX2_word_181 hl 4 rfl ?_
  refine lv_isub C.1 C.2.1 dX2_word_183 ?_
  refine l_ald C dX2_word_184 hl 3 rfl ?_
  refine l_ifnonnull (tgt := 193) C dX2_word_186 (by decide) (fun c7 => ?_) (fun c7 => ?_)
  · have h := h.1 c7
    refine l_ald C dX2_word_193 hl 3 rfl ?_
    obtain ⟨ho4, h⟩ := h
    refine g_R C I fl_X2_80_14 (by decide) (by decide) ho4 dX2_word_195 ?_
    obtain ⟨ho5, h⟩ := h
    refine g_R C I fl_X2_76_13 (by decide) (by decide) ho5 dX2_word_198 ?_
    obtain ⟨ho6, h⟩ := h
    refine a_len C I ho6 (by decide) dX2_word_201 ?_
    exact b_X2_word_202 C l4 l5 l6 l7 t0 (nI (gN G1 (ad (gR G1 (ad (gR G1 (ad l6) 2)) 0)))) ((nI (gN G1 (ad (gR G1 (ad l4) 0))) - l7)) ((some (gZ G))) ((some (gZ G))) G1 _ _ _ _ _ h (hth.ext (by decide) xG1) I (hl.sub [1, 2, 3, 4, 0] rfl)
  · have h := h.2 c7
    refine lv_iconst (v := 0) C.1 C.2.1 dX2_word_189 (by decide) ?_
    refine lv_goto (tgt := 202) C.1 C.2.1 dX2_word_190 (by decide) ?_
    exact b_X2_word_202 C l4 l5 l6 l7 t0 ((0 : Int32)) ((nI (gN G1 (ad (gR G1 (ad l4) 0))) - l7)) ((some (gZ G))) ((some (gZ G))) G1 _ _ _ _ _ h (hth.ext (by decide) xG1) I (hl.sub [1, 2, 3, 4, 0] rfl)
def w_X2_word_149 (T : Nat → ClassId) (Q : Option Nat → Hp → Prop) (th : Option Nat) (l4 : Option Nat) (l5 : Option Nat) (l6 : Option Nat) (t0 : Int32) (G : Hp) : Prop := ((¬ l6 = none) → (isO G l6 14 ∧ isO G (gR G (ad l6) 1) 13 ∧ isO G (gR G (ad (gR G (ad l6) 1)) 0) 51 ∧ w_X2_word_169 T Q th l4 l5 l6 t0 (nI (gN G (ad (gR G (ad (gR G (ad l6) 1)) 0)))) G)) ∧ ((l6 = none) → (w_X2_word_169 T Q th l4 l5 l6 t0 ((0 : Int32)) G))
set_option maxHeartbeats 4000000 in
theorem b_X2_word_149 {G0 : Hp} {Q : Option Nat → Hp → Prop} {th : Option Nat} (C : Cx p s m meth c D T Z "EndingTown$Village" cX2_word 11 (some (.object "EndingTown$Letters"))) : ∀ (l4 : Option Nat) (l5 : Option Nat) (l6 : Option Nat) (t0 : Int32) (G : Hp) (H : Heap) (locs : List Loc) (cells slots : Nat) (ls : Array Slot), w_X2_word_149 T Q th l4 l5 l6 t0 G → isO G th 2 → HI (twd D T Z) G0 s (rmX (twd D T Z) 3 64 G0) H locs cells slots G → LH ls 11 [(4, .inr (.inl l4)), (5, .inr (.inl l5)), (6, .inr (.inl l6))] → W p l e (rmX (twd D T Z) 3 64 G0) s m args below meth c H locs cells slots (MQX (twd D T Z) G0 (qR Q) (fun _ _ => False) below s) (F0 m 149 ls [.int t0]) := by
  intro l4 l5 l6 t0 G H locs cells slots ls h hth I hl
  refine l_ist C dX2_word_149 hl (by decide) rfl (fun ls hl => ?_)
  have hl : LH ls 11 [(7, .inl t0), (4, .inr (.inl l4)), (5, .inr (.inl l5)), (6, .inr (.inl l6))] := hl
  refine l_ald C dX2_word_151 hl 3 rfl ?_
  refine l_ifnonnull (tgt := 160) C dX2_word_153 (by decide) (fun c4 => ?_) (fun c4 => ?_)
  · have h := h.1 c4
    refine l_ald C dX2_word_160 hl 3 rfl ?_
    obtain ⟨ho1, h⟩ := h
    refine g_R C I fl_X2_71_14 (by decide) (by decide) ho1 dX2_word_162 ?_
    obtain ⟨ho2, h⟩ := h
    refine g_R C I fl_X2_76_13 (by decide) (by decide) ho2 dX2_word_165 ?_
    obtain ⟨ho3, h⟩ := h
    refine a_len C I ho3 (by decide) dX2_word_168 ?_
    exact b_X2_word_169 C l4 l5 l6 t0 (nI (gN G (ad (gR G (ad (gR G (ad l6) 1)) 0)))) G _ _ _ _ _ h hth I (hl.sub [1, 2, 3, 0] rfl)
  · have h := h.2 c4
    refine lv_iconst (v := 0) C.1 C.2.1 dX2_word_156 (by decide) ?_
    refine lv_goto (tgt := 169) C.1 C.2.1 dX2_word_157 (by decide) ?_
    exact b_X2_word_169 C l4 l5 l6 t0 ((0 : Int32)) G _ _ _ _ _ h hth I (hl.sub [1, 2, 3, 0] rfl)
def w_X2_word_131 (T : Nat → ClassId) (Q : Option Nat → Hp → Prop) (th : Option Nat) (l4 : Option Nat) (l5 : Option Nat) (l6 : Option Nat) (G : Hp) : Prop := ((¬ l6 = none) → (isO G l6 14 ∧ isO G (gR G (ad l6) 0) 13 ∧ isO G (gR G (ad (gR G (ad l6) 0)) 0) 51 ∧ w_X2_word_149 T Q th l4 l5 l6 (nI (gN G (ad (gR G (ad (gR G (ad l6) 0)) 0)))) G)) ∧ ((l6 = none) → (w_X2_word_149 T Q th l4 l5 l6 ((0 : Int32)) G))
set_option maxHeartbeats 4000000 in
theorem b_X2_word_131 {G0 : Hp} {Q : Option Nat → Hp → Prop} {th : Option Nat} (C : Cx p s m meth c D T Z "EndingTown$Village" cX2_word 11 (some (.object "EndingTown$Letters"))) : ∀ (l4 : Option Nat) (l5 : Option Nat) (l6 : Option Nat) (G : Hp) (H : Heap) (locs : List Loc) (cells slots : Nat) (ls : Array Slot), w_X2_word_131 T Q th l4 l5 l6 G → isO G th 2 → HI (twd D T Z) G0 s (rmX (twd D T Z) 3 64 G0) H locs cells slots G → LH ls 11 [(4, .inr (.inl l4)), (5, .inr (.inl l5)), (6, .inr (.inl l6))] → W p l e (rmX (twd D T Z) 3 64 G0) s m args below meth c H locs cells slots (MQX (twd D T Z) G0 (qR Q) (fun _ _ => False) below s) (F0 m 131 ls []) := by
  intro l4 l5 l6 G H locs cells slots ls h hth I hl
  refine l_ald C dX2_word_131 hl 2 rfl ?_
  refine l_ifnonnull (tgt := 140) C dX2_word_133 (by decide) (fun c4 => ?_) (fun c4 => ?_)
  · have h := h.1 c4
    refine l_ald C dX2_word_140 hl 2 rfl ?_
    obtain ⟨ho1, h⟩ := h
    refine g_R C I fl_X2_64_14 (by decide) (by decide) ho1 dX2_word_142 ?_
    obtain ⟨ho2, h⟩ := h
    refine g_R C I fl_X2_76_13 (by decide) (by decide) ho2 dX2_word_145 ?_
    obtain ⟨ho3, h⟩ := h
    refine a_len C I ho3 (by decide) dX2_word_148 ?_
    exact b_X2_word_149 C l4 l5 l6 (nI (gN G (ad (gR G (ad (gR G (ad l6) 0)) 0)))) G _ _ _ _ _ h hth I (hl.sub [0, 1, 2] rfl)
  · have h := h.2 c4
    refine lv_iconst (v := 0) C.1 C.2.1 dX2_word_136 (by decide) ?_
    refine lv_goto (tgt := 149) C.1 C.2.1 dX2_word_137 (by decide) ?_
    exact b_X2_word_149 C l4 l5 l6 ((0 : Int32)) G _ _ _ _ _ h hth I (hl.sub [0, 1, 2] rfl)
def w_X2_word_40 (T : Nat → ClassId) (Q : Option Nat → Hp → Prop) (th : Option Nat) : Nat → Option Nat → Option Nat → Option Nat → Int32 → Hp → Prop
  | 0 => fun _ _ _ _ _ => False
  | f40 + 1 => fun l4 l5 l6 l7 G => isO G (gR G (ad th) 2) 16 ∧ w_J2_size T (fun r2 G1 => Ext G G1 → ((r2 ≤ l7) → (w_X2_word_131 T Q th l4 l5 l6 G1)) ∧ ((¬ r2 ≤ l7) → (((¬ l6 = none) → (w_X2_word_131 T Q th l4 l5 l6 G1)) ∧ ((l6 = none) → (isO G1 (gR G1 (ad th) 2) 16 ∧ w_J2_get T (fun r4 G3 => Ext G1 G3 → (r4 = none ∨ isO G3 r4 14) ∧ isO G3 r4 14 ∧ isO G3 (gR G3 (ad r4) 0) 13 ∧ w_X16_ends T (fun r7 G6 => Ext G3 G6 → ((r7 = 0) → (w_X2_word_125 T Q th (w_X2_word_40 T Q th f40) l4 l5 l6 l7 G6)) ∧ ((¬ r7 = 0) → (isO G6 (gR G6 (ad th) 2) 16 ∧ w_J2_get T (fun r9 G8 => Ext G6 G8 → (r9 = none ∨ isO G8 r9 14) ∧ isO G8 r9 14 ∧ isO G8 (gR G8 (ad r9) 1) 13 ∧ w_X16_begins T (fun r12 G11 => Ext G8 G11 → ((r12 = 0) → (w_X2_word_125 T Q th (w_X2_word_40 T Q th f40) l4 l5 l6 l7 G11)) ∧ ((¬ r12 = 0) → (isO G11 (gR G11 (ad th) 2) 16 ∧ w_J2_get T (fun r14 G13 => Ext G11 G13 → (r14 = none ∨ isO G13 r14 14) ∧ w_X2_word_125 T Q th (w_X2_word_40 T Q th f40) l4 l5 r14 l7 G13) (gR G11 (ad th) 2) l7 G11))) (gR G8 (ad r9) 1) l5 G8) (gR G6 (ad th) 2) l7 G6))) (gR G3 (ad r4) 0) l4 G3) (gR G1 (ad th) 2) l7 G1))))) (gR G (ad th) 2) G
set_option maxHeartbeats 4000000 in
theorem b_X2_word_40 {G0 : Hp} {Q : Option Nat → Hp → Prop} {th : Option Nat} (C : Cx p s m meth c D T Z "EndingTown$Village" cX2_word 11 (some (.object "EndingTown$Letters"))) : ∀ (n : Nat) (l4 : Option Nat) (l5 : Option Nat) (l6 : Option Nat) (l7 : Int32) (G : Hp) (H : Heap) (locs : List Loc) (cells slots : Nat) (ls : Array Slot), w_X2_word_40 T Q th n l4 l5 l6 l7 G → isO G th 2 → HI (twd D T Z) G0 s (rmX (twd D T Z) 3 64 G0) H locs cells slots G → LH ls 11 [(0, .inr (.inl th)), (4, .inr (.inl l4)), (5, .inr (.inl l5)), (6, .inr (.inl l6)), (7, .inl l7)] → W p l e (rmX (twd D T Z) 3 64 G0) s m args below meth c H locs cells slots (MQX (twd D T Z) G0 (qR Q) (fun _ _ => False) below s) (F0 m 40 ls []) := by
  intro f40
  induction f40 with
  | zero => intro l4 l5 l6 l7 G H locs cells slots ls h; exact (show False from h).elim
  | succ f40 ih =>
    intro l4 l5 l6 l7 G H locs cells slots ls h hth I hl
    have h : isO G (gR G (ad th) 2) 16 ∧ w_J2_size T (fun r2 G1 => Ext G G1 → ((r2 ≤ l7) → (w_X2_word_131 T Q th l4 l5 l6 G1)) ∧ ((¬ r2 ≤ l7) → (((¬ l6 = none) → (w_X2_word_131 T Q th l4 l5 l6 G1)) ∧ ((l6 = none) → (isO G1 (gR G1 (ad th) 2) 16 ∧ w_J2_get T (fun r4 G3 => Ext G1 G3 → (r4 = none ∨ isO G3 r4 14) ∧ isO G3 r4 14 ∧ isO G3 (gR G3 (ad r4) 0) 13 ∧ w_X16_ends T (fun r7 G6 => Ext G3 G6 → ((r7 = 0) → (w_X2_word_125 T Q th (w_X2_word_40 T Q th f40) l4 l5 l6 l7 G6)) ∧ ((¬ r7 = 0) → (isO G6 (gR G6 (ad th) 2) 16 ∧ w_J2_get T (fun r9 G8 => Ext G6 G8 → (r9 = none ∨ isO G8 r9 14) ∧ isO G8 r9 14 ∧ isO G8 (gR G8 (ad r9) 1) 13 ∧ w_X16_begins T (fun r12 G11 => Ext G8 G11 → ((r12 = 0) → (w_X2_word_125 T Q th (w_X2_word_40 T Q th f40) l4 l5 l6 l7 G11)) ∧ ((¬ r12 = 0) → (isO G11 (gR G11 (ad th) 2) 16 ∧ w_J2_get T (fun r14 G13 => Ext G11 G13 → (r14 = none ∨ isO G13 r14 14) ∧ w_X2_word_125 T Q th (w_X2_word_40 T Q th f40) l4 l5 r14 l7 G13) (gR G11 (ad th) 2) l7 G11))) (gR G8 (ad r9) 1) l5 G8) (gR G6 (ad th) 2) l7 G6))) (gR G3 (ad r4) 0) l4 G3) (gR G1 (ad th) 2) l7 G1))))) (gR G (ad th) 2) G := h
    have hk40 := ih
    refine l_ild C dX2_word_40 hl 4 rfl ?_
    refine l_ald_n C dX2_word_42 hl 0 rfl rfl ?_
    refine g_R C I fl_X2_24_2 (by decide) (by decide) hth dX2_word_43 ?_
    obtain ⟨ho24, h⟩ := h
    refine k_call Ext.tr C I (k_F (kd := 16) (r := gR G (ad th) 2) (As := []) (rest := [.int l7]) (y := yJ2_size) (x := ⟨"java/util/List", "size", "()I"⟩) C (by decide) ⟨ho24.ad.1, I.recv C.2.2.2.2.1 ho24 (by decide)⟩ q931 (by decide) q426 q425 q430 q428 q417 q427 q429 rfl pd_J2_size rfl dX2_word_46) (ct_J2_size h) hl.1 dX2_word_46 [.inl l7] rfl (Nat.le_of_ble_eq_true rfl) (Or.inl rfl) q431 q104 ⟨Nat.le_of_ble_eq_true rfl, Nat.le_of_ble_eq_true rfl⟩ (fun v G1 H locs cells slots xG1 hq I => ?_) (fun a G9 H locs cells slots ex hq I => hq.elim)
    obtain ⟨r2, rfl, h⟩ := hq
    have h := h xG1
    refine lv_icmp_ge (tgt := 131) C.1 C.2.1 dX2_word_51 (by decide) (fun c23 => ?_) (fun c23 => ?_)
    · have h := h.1 c23
      exact b_X2_word_131 C l4 l5 l6 G1 _ _ _ _ _ h (hth.ext (by decide) xG1) I (hl.sub [1, 2, 3] rfl)
    · have h := h.2 c23
      refine l_ald C dX2_word_54 hl 3 rfl ?_
      refine l_ifnonnull (tgt := 131) C dX2_word_56 (by decide) (fun c22 => ?_) (fun c22 => ?_)
      · have h := h.1 c22
        exact b_X2_word_131 C l4 l5 l6 G1 _ _ _ _ _ h (hth.ext (by decide) xG1) I (hl.sub [1, 2, 3] rfl)
      · have h := h.2 c22
        refine l_ald_n C dX2_word_59 hl 0 rfl rfl ?_
        refine g_R C I fl_X2_24_2 (by decide) (by decide) (hth.ext (by decide) xG1) dX2_word_60 ?_
        refine l_ild C dX2_word_63 hl 4 rfl ?_
        obtain ⟨ho21, h⟩ := h
        refine k_call Ext.tr C I (k_F (kd := 16) (r := gR G1 (ad th) 2) (As := [.int l7]) (rest := []) (y := yJ2_get) (x := ⟨"java/util/List", "get", "(I)Ljava/lang/Object;"⟩) C (by decide) ⟨ho21.ad.1, I.recv C.2.2.2.2.1 ho21 (by decide)⟩ q933 (by decide) q477 q476 q481 q479 q417 q478 q480 rfl pd_J2_get rfl dX2_word_65) (ct_J2_get h) hl.1 dX2_word_65 [] rfl (Nat.le_of_ble_eq_true rfl) (Or.inl rfl) q482 q104 ⟨Nat.le_of_ble_eq_true rfl, Nat.le_of_ble_eq_true rfl⟩ (fun v G3 H locs cells slots xG3 hq I => ?_) (fun a G9 H locs cells slots ex hq I => hq.elim)
        obtain ⟨r4, rfl, h⟩ := hq
        have h := h xG3
        obtain ⟨hcc, h⟩ := h
        refine c_cast (kd := 14) C I (by decide) q1125 hcc dX2_word_70 ?_
        obtain ⟨ho5, h⟩ := h
        refine g_R C I fl_X2_64_14 (by decide) (by decide) ho5 dX2_word_73 ?_
        refine l_ald C dX2_word_76 hl 1 rfl ?_
        obtain ⟨ho20, h⟩ := h
        refine k_call Ext.tr C I (k_V (r := gR G3 (ad r4) 0) (As := [va_rf l4]) (rest := []) (y := yX16_ends) C ⟨ho20.ad.1, I.recv C.2.2.2.2.1 ho20 (by decide)⟩ q1126 q1127 q1128 (Or.inl rfl) q1129 (by decide) rfl pd_X16_ends rfl dX2_word_78) (ct_X16_ends h) hl.1 dX2_word_78 [] rfl (Nat.le_of_ble_eq_true rfl) (Or.inl rfl) q1129 q131 ⟨Nat.le_of_ble_eq_true rfl, Nat.le_of_ble_eq_true rfl⟩ (fun v G6 H locs cells slots xG6 hq I => ?_) (fun a G9 H locs cells slots ex hq I => hq.elim)
        obtain ⟨r7, rfl, h⟩ := hq
        have h := h xG6
        refine lv_if_eq (tgt := 125) C.1 C.2.1 dX2_word_81 (by decide) (fun c19 => ?_) (fun c19 => ?_)
        · have h := h.1 c19
          exact b_X2_word_125 C hk40 l4 l5 l6 l7 G6 _ _ _ _ _ h (hth.ext (by decide) (Ext.tr _ _ _ xG1 (Ext.tr _ _ _ xG3 xG6))) I (hl.sub [0, 1, 2, 3, 4] rfl)
        · have h := h.2 c19
          refine l_ald_n C dX2_word_84 hl 0 rfl rfl ?_
          refine g_R C I fl_X2_24_2 (by decide) (by decide) (hth.ext (by decide) (Ext.tr _ _ _ xG1 (Ext.tr _ _ _ xG3 xG6))) dX2_word_85 ?_
          refine l_ild C dX2_word_88 hl 4 rfl ?_
          obtain ⟨ho18, h⟩ := h
          refine k_call Ext.tr C I (k_F (kd := 16) (r := gR G6 (ad th) 2) (As := [.int l7]) (rest := []) (y := yJ2_get) (x := ⟨"java/util/List", "get", "(I)Ljava/lang/Object;"⟩) C (by decide) ⟨ho18.ad.1, I.recv C.2.2.2.2.1 ho18 (by decide)⟩ q933 (by decide) q477 q476 q481 q479 q417 q478 q480 rfl pd_J2_get rfl dX2_word_90) (ct_J2_get h) hl.1 dX2_word_90 [] rfl (Nat.le_of_ble_eq_true rfl) (Or.inl rfl) q482 q104 ⟨Nat.le_of_ble_eq_true rfl, Nat.le_of_ble_eq_true rfl⟩ (fun v G8 H locs cells slots xG8 hq I => ?_) (fun a G9 H locs cells slots ex hq I => hq.elim)
          obtain ⟨r9, rfl, h⟩ := hq
          have h := h xG8
          obtain ⟨hcc, h⟩ := h
          refine c_cast (kd := 14) C I (by decide) q1125 hcc dX2_word_95 ?_
          obtain ⟨ho10, h⟩ := h
          refine g_R C I fl_X2_71_14 (by decide) (by decide) ho10 dX2_word_98 ?_
          refine l_ald C dX2_word_101 hl 2 rfl ?_
          obtain ⟨ho17, h⟩ := h
          refine k_call Ext.tr C I (k_V (r := gR G8 (ad r9) 1) (As := [va_rf l5]) (rest := []) (y := yX16_begins) C ⟨ho17.ad.1, I.recv C.2.2.2.2.1 ho17 (by decide)⟩ q1130 q1131 q1132 (Or.inl rfl) q1133 (by decide) rfl pd_X16_begins rfl dX2_word_103) (ct_X16_begins h) hl.1 dX2_word_103 [] rfl (Nat.le_of_ble_eq_true rfl) (Or.inl rfl) q1133 q131 ⟨Nat.le_of_ble_eq_true rfl, Nat.le_of_ble_eq_true rfl⟩ (fun v G11 H locs cells slots xG11 hq I => ?_) (fun a G9 H locs cells slots ex hq I => hq.elim)
          obtain ⟨r12, rfl, h⟩ := hq
          have h := h xG11
          refine lv_if_eq (tgt := 125) C.1 C.2.1 dX2_word_106 (by decide) (fun c16 => ?_) (fun c16 => ?_)
          · have h := h.1 c16
            exact b_X2_word_125 C hk40 l4 l5 l6 l7 G11 _ _ _ _ _ h (hth.ext (by decide) (Ext.tr _ _ _ xG1 (Ext.tr _ _ _ xG3 (Ext.tr _ _ _ xG6 (Ext.tr _ _ _ xG8 xG11))))) I (hl.sub [0, 1, 2, 3, 4] rfl)
          · have h := h.2 c16
            refine l_ald_n C dX2_word_109 hl 0 rfl rfl ?_
            refine g_R C I fl_X2_24_2 (by decide) (by decide) (hth.ext (by decide) (Ext.tr _ _ _ xG1 (Ext.tr _ _ _ xG3 (Ext.tr _ _ _ xG6 (Ext.tr _ _ _ xG8 xG11))))) dX2_word_110 ?_
            refine l_ild C dX2_word_113 hl 4 rfl ?_
            obtain ⟨ho15, h⟩ := h
            refine k_call Ext.tr C I (k_F (kd := 16) (r := gR G11 (ad th) 2) (As := [.int l7]) (rest := []) (y := yJ2_get) (x := ⟨"java/util/List", "get", "(I)Ljava/lang/Object;"⟩) C (by decide) ⟨ho15.ad.1, I.recv C.2.2.2.2.1 ho15 (by decide)⟩ q933 (by decide) q477 q476 q481 q479 q417 q478 q480 rfl pd_J2_get rfl dX2_word_115) (ct_J2_get h) hl.1 dX2_word_115 [] rfl (Nat.le_of_ble_eq_true rfl) (Or.inl rfl) q482 q104 ⟨Nat.le_of_ble_eq_true rfl, Nat.le_of_ble_eq_true rfl⟩ (fun v G13 H locs cells slots xG13 hq I => ?_) (fun a G9 H locs cells slots ex hq I => hq.elim)
            obtain ⟨r14, rfl, h⟩ := hq
            have h := h xG13
            obtain ⟨hcc, h⟩ := h
            refine c_cast (kd := 14) C I (by decide) q1125 hcc dX2_word_120 ?_
            refine l_ast C dX2_word_123 hl (by decide) rfl (fun ls hl => ?_)
            have hl : LH ls 11 [(6, .inr (.inl r14)), (0, .inr (.inl th)), (4, .inr (.inl l4)), (5, .inr (.inl l5)), (7, .inl l7)] := hl
            exact b_X2_word_125 C hk40 l4 l5 r14 l7 G13 _ _ _ _ _ h (hth.ext (by decide) (Ext.tr _ _ _ xG1 (Ext.tr _ _ _ xG3 (Ext.tr _ _ _ xG6 (Ext.tr _ _ _ xG8 (Ext.tr _ _ _ xG11 xG13)))))) I (hl.sub [1, 2, 3, 0, 4] rfl)
def w_X2_word (T : Nat → ClassId) (Q : Option Nat → Hp → Prop) (th : Option Nat) (p0 : Int32) (p1 : Int32) (p2 : Int32) (G : Hp) : Prop := isO G th 2 ∧ (isO G (gR G (ad th) 0) 16 ∧ w_J2_get T (fun r2 G1 => Ext G G1 → (r2 = none ∨ isO G1 r2 13) ∧ isO G1 (gR G1 (ad th) 1) 55 ∧ vp_in ((((5 : Int32) * p1) + p2)) (gN G1 (ad (gR G1 (ad th) 1))) ∧ ((¬ gR G1 (ad (gR G1 (ad th) 1)) ((((5 : Int32) * p1) + p2)).toNatClampNeg = none) → (∃ n, w_X2_word_40 T Q th n r2 (gR G1 (ad (gR G1 (ad th) 1)) ((((5 : Int32) * p1) + p2)).toNatClampNeg) none ((0 : Int32)) G1)) ∧ ((gR G1 (ad (gR G1 (ad th) 1)) ((((5 : Int32) * p1) + p2)).toNatClampNeg = none) → (Q none G1))) (gR G (ad th) 0) p0 G)
theorem pd_X2_word : (parseMethodDescriptor yX2_word.desc).map (fun d => d.parameters.length) = some 3 := by decide +kernel
set_option maxHeartbeats 4000000 in
theorem ct_X2_word {l : Launch} {D : va_G} {T : Nat → ClassId} {Z : Heap} {G0 : Hp} {Q : Option Nat → Hp → Prop} {th : Option Nat} {p0 : Int32} {p1 : Int32} {p2 : Int32} (hw : w_X2_word T Q th p0 p1 p2 G0) : CT (twd D T Z) (Evd D T Z) l yX2_word (Cond.code yX2_word cX2_word 11 (some (.object "EndingTown$Letters"))) 3 64 [va_rf th, .int p0, .int p1, .int p2] G0 (qR Q) (fun _ _ => False) := by
  refine CT.ofW (cc := cX2_word) (nL := 11) (ret := (some (.object "EndingTown$Letters"))) Ext.rf (by decide) (Or.inl rfl) ?_
  intro p e s m below meth c hx hb hml hown hr hlk hnm hcb hm hc hn hE I
  have C : Cx p s m meth c D T Z "EndingTown$Village" cX2_word 11 (some (.object "EndingTown$Letters")) := ⟨hx, hb, hml, hown, hE, hr, hlk⟩
  refine w_entry [.inr (.inl th), .inl p0, .inl p1, .inl p2] (Nat.le_of_ble_eq_true rfl) (fun ls hl => ?_)
  have hl : LH ls 11 [(0, .inr (.inl th)), (1, .inl p0), (2, .inl p1), (3, .inl p2)] := hl
  obtain ⟨hth, h⟩ := hw
  refine l_ald_n C dX2_word_0 hl 0 rfl rfl ?_
  refine g_R C I fl_X2_12_2 (by decide) (by decide) hth dX2_word_1 ?_
  refine l_ild_n C dX2_word_4 hl 1 rfl rfl ?_
  obtain ⟨ho5, h⟩ := h
  refine k_call Ext.tr C I (k_F (kd := 16) (r := gR G0 (ad th) 0) (As := [.int p0]) (rest := []) (y := yJ2_get) (x := ⟨"java/util/List", "get", "(I)Ljava/lang/Object;"⟩) C (by decide) ⟨ho5.ad.1, I.recv C.2.2.2.2.1 ho5 (by decide)⟩ q933 (by decide) q477 q476 q481 q479 q417 q478 q480 rfl pd_J2_get rfl dX2_word_5) (ct_J2_get h) hl.1 dX2_word_5 [] rfl (Nat.le_of_ble_eq_true rfl) (Or.inl rfl) q482 q104 ⟨Nat.le_of_ble_eq_true rfl, Nat.le_of_ble_eq_true rfl⟩ (fun v G1 H locs cells slots xG1 hq I => ?_) (fun a G9 H locs cells slots ex hq I => hq.elim)
  obtain ⟨r2, rfl, h⟩ := hq
  have h := h xG1
  obtain ⟨hcc, h⟩ := h
  refine c_cast (kd := 13) C I (by decide) q176 hcc dX2_word_10 ?_
  refine l_ast C dX2_word_13 hl (by decide) rfl (fun ls hl => ?_)
  have hl : LH ls 11 [(4, .inr (.inl r2)), (0, .inr (.inl th)), (1, .inl p0), (2, .inl p1), (3, .inl p2)] := hl
  refine l_ald_n C dX2_word_15 hl 1 rfl rfl ?_
  refine g_R C I fl_X2_20_2 (by decide) (by decide) (hth.ext (by decide) xG1) dX2_word_16 ?_
  refine lv_iconst (v := 5) C.1 C.2.1 dX2_word_19 (by decide) ?_
  refine l_ild_n C dX2_word_20 hl 3 rfl rfl ?_
  refine lv_imul C.1 C.2.1 dX2_word_21 ?_
  refine l_ild_n C dX2_word_22 hl 4 rfl rfl ?_
  refine lv_iadd C.1 C.2.1 dX2_word_23 ?_
  obtain ⟨ho3, h⟩ := h
  obtain ⟨hi, h⟩ := h
  refine a_aald C I ho3 (by decide) hi dX2_word_24 ?_
  refine l_ast C dX2_word_25 hl (by decide) rfl (fun ls hl => ?_)
  have hl : LH ls 11 [(5, .inr (.inl (gR G1 (ad (gR G1 (ad th) 1)) ((((5 : Int32) * p1) + p2)).toNatClampNeg))), (4, .inr (.inl r2)), (0, .inr (.inl th)), (1, .inl p0), (2, .inl p1), (3, .inl p2)] := hl
  refine l_ald C dX2_word_27 hl 0 rfl ?_
  refine l_ifnonnull (tgt := 34) C dX2_word_29 (by decide) (fun c4 => ?_) (fun c4 => ?_)
  · have h := h.1 c4
    refine l_null C dX2_word_34 ?_
    refine l_ast C dX2_word_35 hl (by decide) rfl (fun ls hl => ?_)
    have hl : LH ls 11 [(6, .inr (.inl none)), (5, .inr (.inl (gR G1 (ad (gR G1 (ad th) 1)) ((((5 : Int32) * p1) + p2)).toNatClampNeg))), (4, .inr (.inl r2)), (0, .inr (.inl th)), (1, .inl p0), (2, .inl p1), (3, .inl p2)] := hl
    refine lv_iconst (v := 0) C.1 C.2.1 dX2_word_37 (by decide) ?_
    refine l_ist C dX2_word_38 hl (by decide) rfl (fun ls hl => ?_)
    have hl : LH ls 11 [(7, .inl ((0 : Int32))), (6, .inr (.inl none)), (5, .inr (.inl (gR G1 (ad (gR G1 (ad th) 1)) ((((5 : Int32) * p1) + p2)).toNatClampNeg))), (4, .inr (.inl r2)), (0, .inr (.inl th)), (1, .inl p0), (2, .inl p1), (3, .inl p2)] := hl
    obtain ⟨n, h⟩ := h
    exact b_X2_word_40 C n r2 (gR G1 (ad (gR G1 (ad th) 1)) ((((5 : Int32) * p1) + p2)).toNatClampNeg) none ((0 : Int32)) G1 _ _ _ _ _ h (hth.ext (by decide) xG1) I (hl.sub [4, 3, 2, 1, 0] rfl)
  · have h := h.2 c4
    refine l_null C dX2_word_32 ?_
    exact r_ref C.1 C.2.1 C.2.2.2.2.2.1 (Or.inl ⟨_, rfl⟩) C.2.2.2.2.2.2 ⟨rfl, rfl⟩ I dX2_word_33 ⟨_, rfl, h⟩
def w_X1_word_81 (T : Nat → ClassId) (Q : Int32 → Hp → Prop) (E : Nat → Hp → Prop) (th : Option Nat) (t0 : Int32) (G : Hp) : Prop := Q t0 G
set_option maxHeartbeats 4000000 in
theorem b_X1_word_81 {G0 : Hp} {Q : Int32 → Hp → Prop} {E : Nat → Hp → Prop} {th : Option Nat} (C : Cx p s m meth c D T Z "EndingTown" cX1_word 6 (some .int)) (hex : ∀ z ∈ c.exceptionTable.toList, ∀ pc, covers z pc = false) (hLf : l.flags = flags0) : ∀ (t0 : Int32) (G : Hp) (H : Heap) (locs : List Loc) (cells slots : Nat) (ls : Array Slot), w_X1_word_81 T Q E th t0 G → isO G th 1 → HI (twd D T Z) G0 s (rmX (twd D T Z) 7 120 G0) H locs cells slots G → LH ls 6 [] → W p l e (rmX (twd D T Z) 7 120 G0) s m args below meth c H locs cells slots (MQX (twd D T Z) G0 (qI Q) E below s) (F0 m 81 ls [.int t0]) := by
  intro t0 G H locs cells slots ls h hth I hl
  exact r_int C.1 C.2.1 C.2.2.2.2.2.1 rfl C.2.2.2.2.2.2 ⟨rfl, rfl⟩ I dX1_word_81 ⟨_, rfl, h⟩
def w_X1_word_109 (T : Nat → ClassId) (Q : Int32 → Hp → Prop) (E : Nat → Hp → Prop) (th : Option Nat) (l4 : Int32) (l5 : Option Nat) (t0 : Int32) (G : Hp) : Prop := w_X1_found T (fun G1 => Ext G G1 → isO G1 l5 13 ∧ isO G1 (gR G1 (ad l5) 0) 51 ∧ vp_in l4 (gN G1 (ad (gR G1 (ad l5) 0))) ∧ Q (gI G1 (ad (gR G1 (ad l5) 0)) l4.toNatClampNeg) G1) E t0 G
set_option maxHeartbeats 4000000 in
theorem b_X1_word_109 {G0 : Hp} {Q : Int32 → Hp → Prop} {E : Nat → Hp → Prop} {th : Option Nat} (C : Cx p s m meth c D T Z "EndingTown" cX1_word 6 (some .int)) (hex : ∀ z ∈ c.exceptionTable.toList, ∀ pc, covers z pc = false) (hLf : l.flags = flags0) : ∀ (l4 : Int32) (l5 : Option Nat) (t0 : Int32) (G : Hp) (H : Heap) (locs : List Loc) (cells slots : Nat) (ls : Array Slot), w_X1_word_109 T Q E th l4 l5 t0 G → isO G th 1 → HI (twd D T Z) G0 s (rmX (twd D T Z) 7 120 G0) H locs cells slots G → LH ls 6 [(4, .inl l4), (5, .inr (.inl l5))] → W p l e (rmX (twd D T Z) 7 120 G0) s m args below meth c H locs cells slots (MQX (twd D T Z) G0 (qI Q) E below s) (F0 m 109 ls [.int t0]) := by
  intro l4 l5 t0 G H locs cells slots ls h hth I hl
  refine k_call Ext.tr C I (k_S (As := [.int t0]) (rest := []) (y := yX1_found) C q1094 q1095 q100 (Or.inl rfl) q1096 (by decide) rfl pd_X1_found rfl dX1_word_109) (ct_X1_found hLf h) hl.1 dX1_word_109 [] rfl (Nat.le_of_ble_eq_true rfl) (Or.inl rfl) q1096 q100 ⟨Nat.le_of_ble_eq_true rfl, Nat.le_of_ble_eq_true rfl⟩ (fun v G1 H locs cells slots xG1 hq I => ?_) (fun a G9 H locs cells slots ex hq I => t_out C.2.2.2.2.2.2 ⟨rfl, rfl⟩ (fun z hz => hex z hz _) I hq)
  obtain ⟨rfl, h⟩ := hq
  have h := h xG1
  refine l_ald C dX1_word_112 hl 1 rfl ?_
  obtain ⟨ho3, h⟩ := h
  refine g_R C I fl_X1_187_13 (by decide) (by decide) ho3 dX1_word_114 ?_
  refine l_ild C dX1_word_117 hl 0 rfl ?_
  obtain ⟨ho4, h⟩ := h
  obtain ⟨hi, h⟩ := h
  refine a_bald C I ho4 hi dX1_word_119 ?_
  exact r_int C.1 C.2.1 C.2.2.2.2.2.1 rfl C.2.2.2.2.2.2 ⟨rfl, rfl⟩ I dX1_word_120 ⟨_, rfl, h⟩
def w_X1_word_108 (T : Nat → ClassId) (Q : Int32 → Hp → Prop) (E : Nat → Hp → Prop) (th : Option Nat) (l4 : Int32) (l5 : Option Nat) (G : Hp) : Prop := w_X1_word_109 T Q E th l4 l5 ((0 : Int32)) G
set_option maxHeartbeats 4000000 in
theorem b_X1_word_108 {G0 : Hp} {Q : Int32 → Hp → Prop} {E : Nat → Hp → Prop} {th : Option Nat} (C : Cx p s m meth c D T Z "EndingTown" cX1_word 6 (some .int)) (hex : ∀ z ∈ c.exceptionTable.toList, ∀ pc, covers z pc = false) (hLf : l.flags = flags0) : ∀ (l4 : Int32) (l5 : Option Nat) (G : Hp) (H : Heap) (locs : List Loc) (cells slots : Nat) (ls : Array Slot), w_X1_word_108 T Q E th l4 l5 G → isO G th 1 → HI (twd D T Z) G0 s (rmX (twd D T Z) 7 120 G0) H locs cells slots G → LH ls 6 [(4, .inl l4), (5, .inr (.inl l5))] → W p l e (rmX (twd D T Z) 7 120 G0) s m args below meth c H locs cells slots (MQX (twd D T Z) G0 (qI Q) E below s) (F0 m 108 ls []) := by
  intro l4 l5 G H locs cells slots ls h hth I hl
  refine lv_iconst (v := 0) C.1 C.2.1 dX1_word_108 (by decide) ?_
  exact b_X1_word_109 C hex hLf l4 l5 ((0 : Int32)) G _ _ _ _ _ h hth I (hl.sub [0, 1] rfl)
def w_X1_word_45 (T : Nat → ClassId) (Q : Int32 → Hp → Prop) (E : Nat → Hp → Prop) (th : Option Nat) (l1 : Int32) (l2 : Int32) (l3 : Int32) (l4 : Int32) (t0 : Int32) (G : Hp) : Prop := w_X1_found T (fun G1 => Ext G G1 → isO G1 (gR G1 (ad th) 0) 2 ∧ w_X2_word T (fun r4 G3 => Ext G1 G3 → ((¬ l4 = (-1 : Int32)) → (((r4 = none) → (w_X1_word_108 T Q E th l4 r4 G3)) ∧ ((¬ r4 = none) → (isO G3 r4 13 ∧ isO G3 (gR G3 (ad r4) 0) 51 ∧ w_X1_in T (fun r8 G7 => Ext G3 G7 → ((r8 = 0) → (w_X1_word_108 T Q E th l4 r4 G7)) ∧ ((¬ r8 = 0) → (w_X1_word_109 T Q E th l4 r4 ((1 : Int32)) G7))) l4 ((0 : Int32)) ((nI (gN G3 (ad (gR G3 (ad r4) 0))) - (1 : Int32))) G3)))) ∧ ((l4 = (-1 : Int32)) → (((¬ r4 = none) → (isO G3 r4 13 ∧ isO G3 (gR G3 (ad r4) 0) 51 ∧ w_X1_word_81 T Q E th (nI (gN G3 (ad (gR G3 (ad r4) 0)))) G3)) ∧ ((r4 = none) → (w_X1_word_81 T Q E th ((0 : Int32)) G3))))) (gR G1 (ad th) 0) l1 l2 l3 G1) E t0 G
set_option maxHeartbeats 4000000 in
theorem b_X1_word_45 {G0 : Hp} {Q : Int32 → Hp → Prop} {E : Nat → Hp → Prop} {th : Option Nat} (C : Cx p s m meth c D T Z "EndingTown" cX1_word 6 (some .int)) (hex : ∀ z ∈ c.exceptionTable.toList, ∀ pc, covers z pc = false) (hLf : l.flags = flags0) : ∀ (l1 : Int32) (l2 : Int32) (l3 : Int32) (l4 : Int32) (t0 : Int32) (G : Hp) (H : Heap) (locs : List Loc) (cells slots : Nat) (ls : Array Slot), w_X1_word_45 T Q E th l1 l2 l3 l4 t0 G → isO G th 1 → HI (twd D T Z) G0 s (rmX (twd D T Z) 7 120 G0) H locs cells slots G → LH ls 6 [(0, .inr (.inl th)), (1, .inl l1), (2, .inl l2), (3, .inl l3), (4, .inl l4)] → W p l e (rmX (twd D T Z) 7 120 G0) s m args below meth c H locs cells slots (MQX (twd D T Z) G0 (qI Q) E below s) (F0 m 45 ls [.int t0]) := by
  intro l1 l2 l3 l4 t0 G H locs cells slots ls h hth I hl
  refine k_call Ext.tr C I (k_S (As := [.int t0]) (rest := []) (y := yX1_found) C q1094 q1095 q100 (Or.inl rfl) q1096 (by decide) rfl pd_X1_found rfl dX1_word_45) (ct_X1_found hLf h) hl.1 dX1_word_45 [] rfl (Nat.le_of_ble_eq_true rfl) (Or.inl rfl) q1096 q100 ⟨Nat.le_of_ble_eq_true rfl, Nat.le_of_ble_eq_true rfl⟩ (fun v G1 H locs cells slots xG1 hq I => ?_) (fun a G9 H locs cells slots ex hq I => t_out C.2.2.2.2.2.2 ⟨rfl, rfl⟩ (fun z hz => hex z hz _) I hq)
  obtain ⟨rfl, h⟩ := hq
  have h := h xG1
  refine l_ald_n C dX1_word_48 hl 0 rfl rfl ?_
  refine g_R C I fl_X1_16_1 (by decide) (by decide) (hth.ext (by decide) xG1) dX1_word_49 ?_
  refine l_ild_n C dX1_word_52 hl 1 rfl rfl ?_
  refine l_ild_n C dX1_word_53 hl 2 rfl rfl ?_
  refine l_ild_n C dX1_word_54 hl 3 rfl rfl ?_
  obtain ⟨ho15, h⟩ := h
  refine k_call Ext.tr C I (k_V (r := gR G1 (ad th) 0) (As := [.int l1, .int l2, .int l3]) (rest := []) (y := yX2_word) C ⟨ho15.ad.1, I.recv C.2.2.2.2.1 ho15 (by decide)⟩ q1121 q1122 q1123 (Or.inl rfl) q1124 (by decide) rfl pd_X2_word rfl dX1_word_55) (ct_X2_word h) hl.1 dX1_word_55 [] rfl (Nat.le_of_ble_eq_true rfl) (Or.inl rfl) q1124 q101 ⟨Nat.le_of_ble_eq_true rfl, Nat.le_of_ble_eq_true rfl⟩ (fun v G3 H locs cells slots xG3 hq I => ?_) (fun a G9 H locs cells slots ex hq I => hq.elim)
  obtain ⟨r4, rfl, h⟩ := hq
  have h := h xG3
  refine l_ast C dX1_word_58 hl (by decide) rfl (fun ls hl => ?_)
  have hl : LH ls 6 [(5, .inr (.inl r4)), (0, .inr (.inl th)), (1, .inl l1), (2, .inl l2), (3, .inl l3), (4, .inl l4)] := hl
  refine l_ild C dX1_word_60 hl 5 rfl ?_
  refine lv_iconst (v := (-1)) C.1 C.2.1 dX1_word_62 (by decide) ?_
  refine lv_icmp_ne (tgt := 82) C.1 C.2.1 dX1_word_63 (by decide) (fun c14 => ?_) (fun c14 => ?_)
  · have h := h.1 c14
    refine l_ald C dX1_word_82 hl 0 rfl ?_
    refine l_ifnull (tgt := 108) C dX1_word_84 (by decide) (fun c10 => ?_) (fun c10 => ?_)
    · have h := h.1 c10
      exact b_X1_word_108 C hex hLf l4 r4 G3 _ _ _ _ _ h (hth.ext (by decide) (Ext.tr _ _ _ xG1 xG3)) I (hl.sub [5, 0] rfl)
    · have h := h.2 c10
      refine l_ild C dX1_word_87 hl 5 rfl ?_
      refine lv_iconst (v := 0) C.1 C.2.1 dX1_word_89 (by decide) ?_
      refine l_ald C dX1_word_90 hl 0 rfl ?_
      obtain ⟨ho5, h⟩ := h
      refine g_R C I fl_X1_187_13 (by decide) (by decide) ho5 dX1_word_92 ?_
      obtain ⟨ho6, h⟩ := h
      refine a_len C I ho6 (by decide) dX1_word_95 ?_
      refine lv_iconst (v := 1) C.1 C.2.1 dX1_word_96 (by decide) ?_
      refine lv_isub C.1 C.2.1 dX1_word_97 ?_
      refine k_call Ext.tr C I (k_S (As := [.int l4, .int ((0 : Int32)), .int ((nI (gN G3 (ad (gR G3 (ad r4) 0))) - (1 : Int32)))]) (rest := []) (y := yX1_in) C q1093 q764 q100 (Or.inl rfl) q765 (by decide) rfl pd_X1_in rfl dX1_word_98) (ct_X1_in h) hl.1 dX1_word_98 [] rfl (Nat.le_of_ble_eq_true rfl) (Or.inl rfl) q765 q100 ⟨Nat.le_of_ble_eq_true rfl, Nat.le_of_ble_eq_true rfl⟩ (fun v G7 H locs cells slots xG7 hq I => ?_) (fun a G9 H locs cells slots ex hq I => hq.elim)
      obtain ⟨r8, rfl, h⟩ := hq
      have h := h xG7
      refine lv_if_eq (tgt := 108) C.1 C.2.1 dX1_word_101 (by decide) (fun c9 => ?_) (fun c9 => ?_)
      · have h := h.1 c9
        exact b_X1_word_108 C hex hLf l4 r4 G7 _ _ _ _ _ h (hth.ext (by decide) (Ext.tr _ _ _ xG1 (Ext.tr _ _ _ xG3 xG7))) I (hl.sub [5, 0] rfl)
      · have h := h.2 c9
        refine lv_iconst (v := 1) C.1 C.2.1 dX1_word_104 (by decide) ?_
        refine lv_goto (tgt := 109) C.1 C.2.1 dX1_word_105 (by decide) ?_
        exact b_X1_word_109 C hex hLf l4 r4 ((1 : Int32)) G7 _ _ _ _ _ h (hth.ext (by decide) (Ext.tr _ _ _ xG1 (Ext.tr _ _ _ xG3 xG7))) I (hl.sub [5, 0] rfl)
  · have h := h.2 c14
    refine l_ald C dX1_word_66 hl 0 rfl ?_
    refine l_ifnonnull (tgt := 75) C dX1_word_68 (by decide) (fun c13 => ?_) (fun c13 => ?_)
    · have h := h.1 c13
      refine l_ald C dX1_word_75 hl 0 rfl ?_
      obtain ⟨ho11, h⟩ := h
      refine g_R C I fl_X1_187_13 (by decide) (by decide) ho11 dX1_word_77 ?_
      obtain ⟨ho12, h⟩ := h
      refine a_len C I ho12 (by decide) dX1_word_80 ?_
      exact b_X1_word_81 C hex hLf (nI (gN G3 (ad (gR G3 (ad r4) 0)))) G3 _ _ _ _ _ h (hth.ext (by decide) (Ext.tr _ _ _ xG1 xG3)) I (hl.sub [] rfl)
    · have h := h.2 c13
      refine lv_iconst (v := 0) C.1 C.2.1 dX1_word_71 (by decide) ?_
      refine lv_goto (tgt := 81) C.1 C.2.1 dX1_word_72 (by decide) ?_
      exact b_X1_word_81 C hex hLf ((0 : Int32)) G3 _ _ _ _ _ h (hth.ext (by decide) (Ext.tr _ _ _ xG1 xG3)) I (hl.sub [] rfl)
def w_X1_word_44 (T : Nat → ClassId) (Q : Int32 → Hp → Prop) (E : Nat → Hp → Prop) (th : Option Nat) (l1 : Int32) (l2 : Int32) (l3 : Int32) (l4 : Int32) (G : Hp) : Prop := w_X1_word_45 T Q E th l1 l2 l3 l4 ((0 : Int32)) G
set_option maxHeartbeats 4000000 in
theorem b_X1_word_44 {G0 : Hp} {Q : Int32 → Hp → Prop} {E : Nat → Hp → Prop} {th : Option Nat} (C : Cx p s m meth c D T Z "EndingTown" cX1_word 6 (some .int)) (hex : ∀ z ∈ c.exceptionTable.toList, ∀ pc, covers z pc = false) (hLf : l.flags = flags0) : ∀ (l1 : Int32) (l2 : Int32) (l3 : Int32) (l4 : Int32) (G : Hp) (H : Heap) (locs : List Loc) (cells slots : Nat) (ls : Array Slot), w_X1_word_44 T Q E th l1 l2 l3 l4 G → isO G th 1 → HI (twd D T Z) G0 s (rmX (twd D T Z) 7 120 G0) H locs cells slots G → LH ls 6 [(0, .inr (.inl th)), (1, .inl l1), (2, .inl l2), (3, .inl l3), (4, .inl l4)] → W p l e (rmX (twd D T Z) 7 120 G0) s m args below meth c H locs cells slots (MQX (twd D T Z) G0 (qI Q) E below s) (F0 m 44 ls []) := by
  intro l1 l2 l3 l4 G H locs cells slots ls h hth I hl
  refine lv_iconst (v := 0) C.1 C.2.1 dX1_word_44 (by decide) ?_
  exact b_X1_word_45 C hex hLf l1 l2 l3 l4 ((0 : Int32)) G _ _ _ _ _ h hth I (hl.sub [0, 1, 2, 3, 4] rfl)
def w_X1_word (T : Nat → ClassId) (Q : Int32 → Hp → Prop) (E : Nat → Hp → Prop) (th : Option Nat) (p0 : Int32) (p1 : Int32) (p2 : Int32) (p3 : Int32) (G : Hp) : Prop := isO G th 1 ∧ (isO G (gR G (ad th) 0) 2 ∧ isO G (gR G (ad (gR G (ad th) 0)) 0) 16 ∧ w_J2_size T (fun r3 G2 => Ext G G2 → w_X1_in T (fun r5 G4 => Ext G2 G4 → ((r5 = 0) → (w_X1_word_44 T Q E th p0 p1 p2 p3 G4)) ∧ ((¬ r5 = 0) → (w_X1_in T (fun r7 G6 => Ext G4 G6 → ((r7 = 0) → (w_X1_word_44 T Q E th p0 p1 p2 p3 G6)) ∧ ((¬ r7 = 0) → (w_X1_in T (fun r9 G8 => Ext G6 G8 → ((r9 = 0) → (w_X1_word_44 T Q E th p0 p1 p2 p3 G8)) ∧ ((¬ r9 = 0) → (w_X1_word_45 T Q E th p0 p1 p2 p3 ((1 : Int32)) G8))) p2 ((0 : Int32)) ((4 : Int32)) G6))) p1 ((0 : Int32)) ((2 : Int32)) G4))) p0 ((0 : Int32)) ((r3 - (1 : Int32))) G2) (gR G (ad (gR G (ad th) 0)) 0) G)
theorem pd_X1_word : (parseMethodDescriptor yX1_word.desc).map (fun d => d.parameters.length) = some 4 := by decide +kernel
set_option maxHeartbeats 4000000 in
theorem ct_X1_word {l : Launch} {D : va_G} {T : Nat → ClassId} {Z : Heap} {G0 : Hp} {Q : Int32 → Hp → Prop} {E : Nat → Hp → Prop} {th : Option Nat} {p0 : Int32} {p1 : Int32} {p2 : Int32} {p3 : Int32} (hLf : l.flags = flags0) (hw : w_X1_word T Q E th p0 p1 p2 p3 G0) : CT (twd D T Z) (Evd D T Z) l yX1_word (Cond.code yX1_word cX1_word 6 (some .int)) 7 120 [va_rf th, .int p0, .int p1, .int p2, .int p3] G0 (qI Q) E := by
  refine CT.ofW (cc := cX1_word) (nL := 6) (ret := (some .int)) Ext.rf (by decide) (Or.inl rfl) ?_
  intro p e s m below meth c hx hb hml hown hr hlk hnm hcb hm hc hn hE I
  have C : Cx p s m meth c D T Z "EndingTown" cX1_word 6 (some .int) := ⟨hx, hb, hml, hown, hE, hr, hlk⟩
  have hex := noEx hn hm hc hcb
  refine w_entry [.inr (.inl th), .inl p0, .inl p1, .inl p2, .inl p3] (Nat.le_of_ble_eq_true rfl) (fun ls hl => ?_)
  have hl : LH ls 6 [(0, .inr (.inl th)), (1, .inl p0), (2, .inl p1), (3, .inl p2), (4, .inl p3)] := hl
  obtain ⟨hth, h⟩ := hw
  refine l_ild_n C dX1_word_0 hl 1 rfl rfl ?_
  refine lv_iconst (v := 0) C.1 C.2.1 dX1_word_1 (by decide) ?_
  refine l_ald_n C dX1_word_2 hl 0 rfl rfl ?_
  refine g_R C I fl_X1_16_1 (by decide) (by decide) hth dX1_word_3 ?_
  obtain ⟨ho1, h⟩ := h
  refine g_R C I fl_X1_110_2 (by decide) (by decide) ho1 dX1_word_6 ?_
  obtain ⟨ho13, h⟩ := h
  refine k_call Ext.tr C I (k_F (kd := 16) (r := gR G0 (ad (gR G0 (ad th) 0)) 0) (As := []) (rest := [.int ((0 : Int32)), .int p0]) (y := yJ2_size) (x := ⟨"java/util/List", "size", "()I"⟩) C (by decide) ⟨ho13.ad.1, I.recv C.2.2.2.2.1 ho13 (by decide)⟩ q424 (by decide) q426 q425 q430 q428 q417 q427 q429 rfl pd_J2_size rfl dX1_word_9) (ct_J2_size h) hl.1 dX1_word_9 [.inl ((0 : Int32)), .inl p0] rfl (Nat.le_of_ble_eq_true rfl) (Or.inl rfl) q431 q104 ⟨Nat.le_of_ble_eq_true rfl, Nat.le_of_ble_eq_true rfl⟩ (fun v G2 H locs cells slots xG2 hq I => ?_) (fun a G9 H locs cells slots ex hq I => hq.elim)
  obtain ⟨r3, rfl, h⟩ := hq
  have h := h xG2
  refine lv_iconst (v := 1) C.1 C.2.1 dX1_word_14 (by decide) ?_
  refine lv_isub C.1 C.2.1 dX1_word_15 ?_
  refine k_call Ext.tr C I (k_S (As := [.int p0, .int ((0 : Int32)), .int ((r3 - (1 : Int32)))]) (rest := []) (y := yX1_in) C q1093 q764 q100 (Or.inl rfl) q765 (by decide) rfl pd_X1_in rfl dX1_word_16) (ct_X1_in h) hl.1 dX1_word_16 [] rfl (Nat.le_of_ble_eq_true rfl) (Or.inl rfl) q765 q100 ⟨Nat.le_of_ble_eq_true rfl, Nat.le_of_ble_eq_true rfl⟩ (fun v G4 H locs cells slots xG4 hq I => ?_) (fun a G9 H locs cells slots ex hq I => hq.elim)
  obtain ⟨r5, rfl, h⟩ := hq
  have h := h xG4
  refine lv_if_eq (tgt := 44) C.1 C.2.1 dX1_word_19 (by decide) (fun c12 => ?_) (fun c12 => ?_)
  · have h := h.1 c12
    exact b_X1_word_44 C hex hLf p0 p1 p2 p3 G4 _ _ _ _ _ h (hth.ext (by decide) (Ext.tr _ _ _ xG2 xG4)) I (hl.sub [0, 1, 2, 3, 4] rfl)
  · have h := h.2 c12
    refine l_ild_n C dX1_word_22 hl 2 rfl rfl ?_
    refine lv_iconst (v := 0) C.1 C.2.1 dX1_word_23 (by decide) ?_
    refine lv_iconst (v := 2) C.1 C.2.1 dX1_word_24 (by decide) ?_
    refine k_call Ext.tr C I (k_S (As := [.int p1, .int ((0 : Int32)), .int ((2 : Int32))]) (rest := []) (y := yX1_in) C q1093 q764 q100 (Or.inl rfl) q765 (by decide) rfl pd_X1_in rfl dX1_word_25) (ct_X1_in h) hl.1 dX1_word_25 [] rfl (Nat.le_of_ble_eq_true rfl) (Or.inl rfl) q765 q100 ⟨Nat.le_of_ble_eq_true rfl, Nat.le_of_ble_eq_true rfl⟩ (fun v G6 H locs cells slots xG6 hq I => ?_) (fun a G9 H locs cells slots ex hq I => hq.elim)
    obtain ⟨r7, rfl, h⟩ := hq
    have h := h xG6
    refine lv_if_eq (tgt := 44) C.1 C.2.1 dX1_word_28 (by decide) (fun c11 => ?_) (fun c11 => ?_)
    · have h := h.1 c11
      exact b_X1_word_44 C hex hLf p0 p1 p2 p3 G6 _ _ _ _ _ h (hth.ext (by decide) (Ext.tr _ _ _ xG2 (Ext.tr _ _ _ xG4 xG6))) I (hl.sub [0, 1, 2, 3, 4] rfl)
    · have h := h.2 c11
      refine l_ild_n C dX1_word_31 hl 3 rfl rfl ?_
      refine lv_iconst (v := 0) C.1 C.2.1 dX1_word_32 (by decide) ?_
      refine lv_iconst (v := 4) C.1 C.2.1 dX1_word_33 (by decide) ?_
      refine k_call Ext.tr C I (k_S (As := [.int p2, .int ((0 : Int32)), .int ((4 : Int32))]) (rest := []) (y := yX1_in) C q1093 q764 q100 (Or.inl rfl) q765 (by decide) rfl pd_X1_in rfl dX1_word_34) (ct_X1_in h) hl.1 dX1_word_34 [] rfl (Nat.le_of_ble_eq_true rfl) (Or.inl rfl) q765 q100 ⟨Nat.le_of_ble_eq_true rfl, Nat.le_of_ble_eq_true rfl⟩ (fun v G8 H locs cells slots xG8 hq I => ?_) (fun a G9 H locs cells slots ex hq I => hq.elim)
      obtain ⟨r9, rfl, h⟩ := hq
      have h := h xG8
      refine lv_if_eq (tgt := 44) C.1 C.2.1 dX1_word_37 (by decide) (fun c10 => ?_) (fun c10 => ?_)
      · have h := h.1 c10
        exact b_X1_word_44 C hex hLf p0 p1 p2 p3 G8 _ _ _ _ _ h (hth.ext (by decide) (Ext.tr _ _ _ xG2 (Ext.tr _ _ _ xG4 (Ext.tr _ _ _ xG6 xG8)))) I (hl.sub [0, 1, 2, 3, 4] rfl)
      · have h := h.2 c10
        refine lv_iconst (v := 1) C.1 C.2.1 dX1_word_40 (by decide) ?_
        refine lv_goto (tgt := 45) C.1 C.2.1 dX1_word_41 (by decide) ?_
        exact b_X1_word_45 C hex hLf p0 p1 p2 p3 ((1 : Int32)) G8 _ _ _ _ _ h (hth.ext (by decide) (Ext.tr _ _ _ xG2 (Ext.tr _ _ _ xG4 (Ext.tr _ _ _ xG6 xG8)))) I (hl.sub [0, 1, 2, 3, 4] rfl)
def w_X16_is_26 (T : Nat → ClassId) (Q : Int32 → Hp → Prop) (th : Option Nat) (t0 : Int32) (G : Hp) : Prop := bz t0 ∧ Q t0 G
set_option maxHeartbeats 4000000 in
theorem b_X16_is_26 {G0 : Hp} {Q : Int32 → Hp → Prop} {th : Option Nat} (C : Cx p s m meth c D T Z "EndingTown$Letters" cX16_is 2 (some .boolean)) : ∀ (t0 : Int32) (G : Hp) (H : Heap) (locs : List Loc) (cells slots : Nat) (ls : Array Slot), w_X16_is_26 T Q th t0 G → isO G th 13 → HI (twd D T Z) G0 s (rmX (twd D T Z) 1 22 G0) H locs cells slots G → LH ls 2 [] → W p l e (rmX (twd D T Z) 1 22 G0) s m args below meth c H locs cells slots (MQX (twd D T Z) G0 (qI Q) (fun _ _ => False) below s) (F0 m 26 ls [.int t0]) := by
  intro t0 G H locs cells slots ls h hth I hl
  exact r_int C.1 C.2.1 C.2.2.2.2.2.1 h.1.n C.2.2.2.2.2.2 ⟨rfl, rfl⟩ I dX16_is_26 ⟨_, rfl, h.2⟩
def w_X16_is_25 (T : Nat → ClassId) (Q : Int32 → Hp → Prop) (th : Option Nat) (G : Hp) : Prop := w_X16_is_26 T Q th ((0 : Int32)) G
set_option maxHeartbeats 4000000 in
theorem b_X16_is_25 {G0 : Hp} {Q : Int32 → Hp → Prop} {th : Option Nat} (C : Cx p s m meth c D T Z "EndingTown$Letters" cX16_is 2 (some .boolean)) : ∀ (G : Hp) (H : Heap) (locs : List Loc) (cells slots : Nat) (ls : Array Slot), w_X16_is_25 T Q th G → isO G th 13 → HI (twd D T Z) G0 s (rmX (twd D T Z) 1 22 G0) H locs cells slots G → LH ls 2 [] → W p l e (rmX (twd D T Z) 1 22 G0) s m args below meth c H locs cells slots (MQX (twd D T Z) G0 (qI Q) (fun _ _ => False) below s) (F0 m 25 ls []) := by
  intro G H locs cells slots ls h hth I hl
  refine lv_iconst (v := 0) C.1 C.2.1 dX16_is_25 (by decide) ?_
  exact b_X16_is_26 C ((0 : Int32)) G _ _ _ _ _ h hth I (hl.sub [] rfl)
def w_X16_is (T : Nat → ClassId) (Q : Int32 → Hp → Prop) (th : Option Nat) (p0 : Option Nat) (G : Hp) : Prop := isO G th 13 ∧ (isO G (gR G (ad th) 0) 51 ∧ isO G p0 13 ∧ isO G (gR G (ad p0) 0) 51 ∧ ((¬ nI (gN G (ad (gR G (ad th) 0))) = nI (gN G (ad (gR G (ad p0) 0)))) → (w_X16_is_25 T Q th G)) ∧ ((nI (gN G (ad (gR G (ad th) 0))) = nI (gN G (ad (gR G (ad p0) 0)))) → (w_X16_begins T (fun r5 G4 => Ext G G4 → ((r5 = 0) → (w_X16_is_25 T Q th G4)) ∧ ((¬ r5 = 0) → (w_X16_is_26 T Q th ((1 : Int32)) G4))) th p0 G)))
theorem pd_X16_is : (parseMethodDescriptor yX16_is.desc).map (fun d => d.parameters.length) = some 1 := by decide +kernel
set_option maxHeartbeats 4000000 in
theorem ct_X16_is {l : Launch} {D : va_G} {T : Nat → ClassId} {Z : Heap} {G0 : Hp} {Q : Int32 → Hp → Prop} {th : Option Nat} {p0 : Option Nat} (hw : w_X16_is T Q th p0 G0) : CT (twd D T Z) (Evd D T Z) l yX16_is (Cond.code yX16_is cX16_is 2 (some .boolean)) 1 22 [va_rf th, va_rf p0] G0 (qI Q) (fun _ _ => False) := by
  refine CT.ofW (cc := cX16_is) (nL := 2) (ret := (some .boolean)) Ext.rf (by decide) (Or.inl rfl) ?_
  intro p e s m below meth c hx hb hml hown hr hlk hnm hcb hm hc hn hE I
  have C : Cx p s m meth c D T Z "EndingTown$Letters" cX16_is 2 (some .boolean) := ⟨hx, hb, hml, hown, hE, hr, hlk⟩
  refine w_entry [.inr (.inl th), .inr (.inl p0)] (Nat.le_of_ble_eq_true rfl) (fun ls hl => ?_)
  have hl : LH ls 2 [(0, .inr (.inl th)), (1, .inr (.inl p0))] := hl
  obtain ⟨hth, h⟩ := hw
  refine l_ald_n C dX16_is_0 hl 0 rfl rfl ?_
  refine g_R C I fl_X16_7_13 (by decide) (by decide) hth dX16_is_1 ?_
  obtain ⟨ho1, h⟩ := h
  refine a_len C I ho1 (by decide) dX16_is_4 ?_
  refine l_ald_n C dX16_is_5 hl 1 rfl rfl ?_
  obtain ⟨ho2, h⟩ := h
  refine g_R C I fl_X16_7_13 (by decide) (by decide) ho2 dX16_is_6 ?_
  obtain ⟨ho3, h⟩ := h
  refine a_len C I ho3 (by decide) dX16_is_9 ?_
  refine lv_icmp_ne (tgt := 25) C.1 C.2.1 dX16_is_10 (by decide) (fun c7 => ?_) (fun c7 => ?_)
  · have h := h.1 c7
    exact b_X16_is_25 C G0 _ _ _ _ _ h hth I (hl.sub [] rfl)
  · have h := h.2 c7
    refine l_ald_n C dX16_is_13 hl 0 rfl rfl ?_
    refine l_ald_n C dX16_is_14 hl 1 rfl rfl ?_
    refine k_call Ext.tr C I (k_V (r := th) (As := [va_rf p0]) (rest := []) (y := yX16_begins) C ⟨hth.ad.1, I.recv C.2.2.2.2.1 hth (by decide)⟩ q1158 q1131 q1132 (Or.inl rfl) q1133 (by decide) rfl pd_X16_begins rfl dX16_is_15) (ct_X16_begins h) hl.1 dX16_is_15 [] rfl (Nat.le_of_ble_eq_true rfl) (Or.inl rfl) q1133 q131 ⟨Nat.le_of_ble_eq_true rfl, Nat.le_of_ble_eq_true rfl⟩ (fun v G4 H locs cells slots xG4 hq I => ?_) (fun a G9 H locs cells slots ex hq I => hq.elim)
    obtain ⟨r5, rfl, h⟩ := hq
    have h := h xG4
    refine lv_if_eq (tgt := 25) C.1 C.2.1 dX16_is_18 (by decide) (fun c6 => ?_) (fun c6 => ?_)
    · have h := h.1 c6
      exact b_X16_is_25 C G4 _ _ _ _ _ h (hth.ext (by decide) xG4) I (hl.sub [] rfl)
    · have h := h.2 c6
      refine lv_iconst (v := 1) C.1 C.2.1 dX16_is_21 (by decide) ?_
      refine lv_goto (tgt := 26) C.1 C.2.1 dX16_is_22 (by decide) ?_
      exact b_X16_is_26 C ((1 : Int32)) G4 _ _ _ _ _ h (hth.ext (by decide) xG4) I (hl.sub [] rfl)
def w_X1_waysOf_82 (T : Nat → ClassId) (Q : Int32 → Hp → Prop) (th : Option Nat) (k5 : Option Nat → Option Nat → Int32 → Int32 → Hp → Prop) (k25 : Option Nat → Option Nat → Int32 → Int32 → Int32 → Hp → Prop) (l1 : Option Nat) (l2 : Option Nat) (l3 : Int32) (l4 : Int32) (l5 : Int32) (G : Hp) : Prop := k25 l1 l2 l3 l4 ((l5 + 1)) G
set_option maxHeartbeats 4000000 in
theorem b_X1_waysOf_82 {G0 : Hp} {Q : Int32 → Hp → Prop} {th : Option Nat} {k5 : Option Nat → Option Nat → Int32 → Int32 → Hp → Prop} {k25 : Option Nat → Option Nat → Int32 → Int32 → Int32 → Hp → Prop} (C : Cx p s m meth c D T Z "EndingTown" cX1_waysOf 7 (some .int)) (hk5 : ∀ (l1 : Option Nat) (l2 : Option Nat) (l3 : Int32) (l4 : Int32) (G : Hp) (H : Heap) (locs : List Loc) (cells slots : Nat) (ls : Array Slot), k5 l1 l2 l3 l4 G → isO G th 1 → HI (twd D T Z) G0 s (rmX (twd D T Z) 4 94 G0) H locs cells slots G → LH ls 7 [(0, .inr (.inl th)), (1, .inr (.inl l1)), (2, .inr (.inl l2)), (3, .inl l3), (4, .inl l4)] → W p l e (rmX (twd D T Z) 4 94 G0) s m args below meth c H locs cells slots (MQX (twd D T Z) G0 (qI Q) (fun _ _ => False) below s) (F0 m 5 ls [])) (hk25 : ∀ (l1 : Option Nat) (l2 : Option Nat) (l3 : Int32) (l4 : Int32) (l5 : Int32) (G : Hp) (H : Heap) (locs : List Loc) (cells slots : Nat) (ls : Array Slot), k25 l1 l2 l3 l4 l5 G → isO G th 1 → HI (twd D T Z) G0 s (rmX (twd D T Z) 4 94 G0) H locs cells slots G → LH ls 7 [(0, .inr (.inl th)), (1, .inr (.inl l1)), (2, .inr (.inl l2)), (3, .inl l3), (4, .inl l4), (5, .inl l5)] → W p l e (rmX (twd D T Z) 4 94 G0) s m args below meth c H locs cells slots (MQX (twd D T Z) G0 (qI Q) (fun _ _ => False) below s) (F0 m 25 ls [])) : ∀ (l1 : Option Nat) (l2 : Option Nat) (l3 : Int32) (l4 : Int32) (l5 : Int32) (G : Hp) (H : Heap) (locs : List Loc) (cells slots : Nat) (ls : Array Slot), w_X1_waysOf_82 T Q th k5 k25 l1 l2 l3 l4 l5 G → isO G th 1 → HI (twd D T Z) G0 s (rmX (twd D T Z) 4 94 G0) H locs cells slots G → LH ls 7 [(0, .inr (.inl th)), (1, .inr (.inl l1)), (2, .inr (.inl l2)), (3, .inl l3), (4, .inl l4), (5, .inl l5)] → W p l e (rmX (twd D T Z) 4 94 G0) s m args below meth c H locs cells slots (MQX (twd D T Z) G0 (qI Q) (fun _ _ => False) below s) (F0 m 82 ls []) := by
  intro l1 l2 l3 l4 l5 G H locs cells slots ls h hth I hl
  refine l_inc (q := 5) (v := 1) C dX1_waysOf_82 hl rfl (by decide) (by decide) rfl (fun ls hl => ?_)
  have hl : LH ls 7 [(5, .inl ((l5 + 1))), (0, .inr (.inl th)), (1, .inr (.inl l1)), (2, .inr (.inl l2)), (3, .inl l3), (4, .inl l4)] := hl
  refine lv_goto (tgt := 25) C.1 C.2.1 dX1_waysOf_85 (by decide) ?_
  exact hk25 l1 l2 l3 l4 ((l5 + 1)) G _ _ _ _ _ h hth I (hl.sub [1, 2, 3, 4, 5, 0] rfl)
def w_X1_waysOf_25 (T : Nat → ClassId) (Q : Int32 → Hp → Prop) (th : Option Nat) (k5 : Option Nat → Option Nat → Int32 → Int32 → Hp → Prop) : Nat → Option Nat → Option Nat → Int32 → Int32 → Int32 → Hp → Prop
  | 0 => fun _ _ _ _ _ _ => False
  | f25 + 1 => fun l1 l2 l3 l4 l5 G => (((15 : Int32) ≤ l5) → (k5 l1 l2 l3 ((l4 + 1)) G)) ∧ ((¬ (15 : Int32) ≤ l5) → (isO G (gR G (ad th) 0) 2 ∧ w_X2_word T (fun r2 G1 => Ext G G1 → ((r2 = none) → (w_X1_waysOf_82 T Q th k5 (w_X1_waysOf_25 T Q th k5 f25) l1 l2 l3 l4 l5 G1)) ∧ ((¬ r2 = none) → (isO G1 r2 13 ∧ w_X16_is T (fun r4 G3 => Ext G1 G3 → ((¬ r4 = 0) → (isO G3 l2 50 ∧ vp_in l3 (gN G3 (ad l2)) ∧ ∀ G6 : Hp, G6 = wI G3 (ad l2) l3.toNatClampNeg ((((15 : Int32) * l4) + l5)) → w_X1_waysOf_82 T Q th k5 (w_X1_waysOf_25 T Q th k5 f25) l1 l2 ((l3 + 1)) l4 l5 G6)) ∧ ((r4 = 0) → (w_X1_waysOf_82 T Q th k5 (w_X1_waysOf_25 T Q th k5 f25) l1 l2 l3 l4 l5 G3))) r2 l1 G1))) (gR G (ad th) 0) l4 ((l5 / (5 : Int32))) ((l5 - l5 / (5 : Int32) * (5 : Int32))) G))
set_option maxHeartbeats 4000000 in
theorem b_X1_waysOf_25 {G0 : Hp} {Q : Int32 → Hp → Prop} {th : Option Nat} {k5 : Option Nat → Option Nat → Int32 → Int32 → Hp → Prop} (C : Cx p s m meth c D T Z "EndingTown" cX1_waysOf 7 (some .int)) (hk5 : ∀ (l1 : Option Nat) (l2 : Option Nat) (l3 : Int32) (l4 : Int32) (G : Hp) (H : Heap) (locs : List Loc) (cells slots : Nat) (ls : Array Slot), k5 l1 l2 l3 l4 G → isO G th 1 → HI (twd D T Z) G0 s (rmX (twd D T Z) 4 94 G0) H locs cells slots G → LH ls 7 [(0, .inr (.inl th)), (1, .inr (.inl l1)), (2, .inr (.inl l2)), (3, .inl l3), (4, .inl l4)] → W p l e (rmX (twd D T Z) 4 94 G0) s m args below meth c H locs cells slots (MQX (twd D T Z) G0 (qI Q) (fun _ _ => False) below s) (F0 m 5 ls [])) : ∀ (n : Nat) (l1 : Option Nat) (l2 : Option Nat) (l3 : Int32) (l4 : Int32) (l5 : Int32) (G : Hp) (H : Heap) (locs : List Loc) (cells slots : Nat) (ls : Array Slot), w_X1_waysOf_25 T Q th k5 n l1 l2 l3 l4 l5 G → isO G th 1 → HI (twd D T Z) G0 s (rmX (twd D T Z) 4 94 G0) H locs cells slots G → LH ls 7 [(0, .inr (.inl th)), (1, .inr (.inl l1)), (2, .inr (.inl l2)), (3, .inl l3), (4, .inl l4), (5, .inl l5)] → W p l e (rmX (twd D T Z) 4 94 G0) s m args below meth c H locs cells slots (MQX (twd D T Z) G0 (qI Q) (fun _ _ => False) below s) (F0 m 25 ls []) := by
  intro f25
  induction f25 with
  | zero => intro l1 l2 l3 l4 l5 G H locs cells slots ls h; exact (show False from h).elim
  | succ f25 ih =>
    intro l1 l2 l3 l4 l5 G H locs cells slots ls h hth I hl
    have h : (((15 : Int32) ≤ l5) → (k5 l1 l2 l3 ((l4 + 1)) G)) ∧ ((¬ (15 : Int32) ≤ l5) → (isO G (gR G (ad th) 0) 2 ∧ w_X2_word T (fun r2 G1 => Ext G G1 → ((r2 = none) → (w_X1_waysOf_82 T Q th k5 (w_X1_waysOf_25 T Q th k5 f25) l1 l2 l3 l4 l5 G1)) ∧ ((¬ r2 = none) → (isO G1 r2 13 ∧ w_X16_is T (fun r4 G3 => Ext G1 G3 → ((¬ r4 = 0) → (isO G3 l2 50 ∧ vp_in l3 (gN G3 (ad l2)) ∧ ∀ G6 : Hp, G6 = wI G3 (ad l2) l3.toNatClampNeg ((((15 : Int32) * l4) + l5)) → w_X1_waysOf_82 T Q th k5 (w_X1_waysOf_25 T Q th k5 f25) l1 l2 ((l3 + 1)) l4 l5 G6)) ∧ ((r4 = 0) → (w_X1_waysOf_82 T Q th k5 (w_X1_waysOf_25 T Q th k5 f25) l1 l2 l3 l4 l5 G3))) r2 l1 G1))) (gR G (ad th) 0) l4 ((l5 / (5 : Int32))) ((l5 - l5 / (5 : Int32) * (5 : Int32))) G)) := h
    have hk25 := ih
    refine l_ild C dX1_waysOf_25 hl 5 rfl ?_
    refine lv_bipush (v := 15) C.1 C.2.1 dX1_waysOf_27 (by decide) ?_
    refine lv_icmp_ge (tgt := 88) C.1 C.2.1 dX1_waysOf_29 (by decide) (fun c11 => ?_) (fun c11 => ?_)
    · have h := h.1 c11
      refine l_inc (q := 4) (v := 1) C dX1_waysOf_88 hl rfl (by decide) (by decide) rfl (fun ls hl => ?_)
      have hl : LH ls 7 [(4, .inl ((l4 + 1))), (0, .inr (.inl th)), (1, .inr (.inl l1)), (2, .inr (.inl l2)), (3, .inl l3), (5, .inl l5)] := hl
      refine lv_goto (tgt := 5) C.1 C.2.1 dX1_waysOf_91 (by decide) ?_
      exact hk5 l1 l2 l3 ((l4 + 1)) G _ _ _ _ _ h hth I (hl.sub [1, 2, 3, 4, 0] rfl)
    · have h := h.2 c11
      refine l_ald_n C dX1_waysOf_32 hl 0 rfl rfl ?_
      refine g_R C I fl_X1_16_1 (by decide) (by decide) hth dX1_waysOf_33 ?_
      refine l_ild C dX1_waysOf_36 hl 4 rfl ?_
      refine l_ild C dX1_waysOf_38 hl 5 rfl ?_
      refine lv_iconst (v := 5) C.1 C.2.1 dX1_waysOf_40 (by decide) ?_
      refine lv_idiv C.1 C.2.1 dX1_waysOf_41 (by decide) ?_
      refine l_ild C dX1_waysOf_42 hl 5 rfl ?_
      refine lv_iconst (v := 5) C.1 C.2.1 dX1_waysOf_44 (by decide) ?_
      refine lv_irem C.1 C.2.1 dX1_waysOf_45 (by decide) ?_
      obtain ⟨ho10, h⟩ := h
      refine k_call Ext.tr C I (k_V (r := gR G (ad th) 0) (As := [.int l4, .int ((l5 / (5 : Int32))), .int ((l5 - l5 / (5 : Int32) * (5 : Int32)))]) (rest := []) (y := yX2_word) C ⟨ho10.ad.1, I.recv C.2.2.2.2.1 ho10 (by decide)⟩ q1121 q1122 q1123 (Or.inl rfl) q1124 (by decide) rfl pd_X2_word rfl dX1_waysOf_46) (ct_X2_word h) hl.1 dX1_waysOf_46 [] rfl (Nat.le_of_ble_eq_true rfl) (Or.inl rfl) q1124 q101 ⟨Nat.le_of_ble_eq_true rfl, Nat.le_of_ble_eq_true rfl⟩ (fun v G1 H locs cells slots xG1 hq I => ?_) (fun a G9 H locs cells slots ex hq I => hq.elim)
      obtain ⟨r2, rfl, h⟩ := hq
      have h := h xG1
      refine l_ast C dX1_waysOf_49 hl (by decide) rfl (fun ls hl => ?_)
      have hl : LH ls 7 [(6, .inr (.inl r2)), (0, .inr (.inl th)), (1, .inr (.inl l1)), (2, .inr (.inl l2)), (3, .inl l3), (4, .inl l4), (5, .inl l5)] := hl
      refine l_ald C dX1_waysOf_51 hl 0 rfl ?_
      refine l_ifnull (tgt := 82) C dX1_waysOf_53 (by decide) (fun c9 => ?_) (fun c9 => ?_)
      · have h := h.1 c9
        exact b_X1_waysOf_82 C hk5 hk25 l1 l2 l3 l4 l5 G1 _ _ _ _ _ h (hth.ext (by decide) xG1) I (hl.sub [1, 2, 3, 4, 5, 6] rfl)
      · have h := h.2 c9
        refine l_ald C dX1_waysOf_56 hl 0 rfl ?_
        refine l_ald_n C dX1_waysOf_58 hl 2 rfl rfl ?_
        obtain ⟨ho8, h⟩ := h
        refine k_call Ext.tr C I (k_V (r := r2) (As := [va_rf l1]) (rest := []) (y := yX16_is) C ⟨ho8.ad.1, I.recv C.2.2.2.2.1 ho8 (by decide)⟩ q1154 q1155 q1156 (Or.inl rfl) q1157 (by decide) rfl pd_X16_is rfl dX1_waysOf_59) (ct_X16_is h) hl.1 dX1_waysOf_59 [] rfl (Nat.le_of_ble_eq_true rfl) (Or.inl rfl) q1157 q131 ⟨Nat.le_of_ble_eq_true rfl, Nat.le_of_ble_eq_true rfl⟩ (fun v G3 H locs cells slots xG3 hq I => ?_) (fun a G9 H locs cells slots ex hq I => hq.elim)
        obtain ⟨r4, rfl, h⟩ := hq
        have h := h xG3
        refine lv_if_ne (tgt := 68) C.1 C.2.1 dX1_waysOf_62 (by decide) (fun c7 => ?_) (fun c7 => ?_)
        · have h := h.1 c7
          refine l_ald_n C dX1_waysOf_68 hl 3 rfl rfl ?_
          refine l_ild_n C dX1_waysOf_69 hl 4 rfl rfl ?_
          refine lv_bipush (v := 15) C.1 C.2.1 dX1_waysOf_70 (by decide) ?_
          refine l_ild C dX1_waysOf_72 hl 5 rfl ?_
          refine lv_imul C.1 C.2.1 dX1_waysOf_74 ?_
          refine l_ild C dX1_waysOf_75 hl 6 rfl ?_
          refine lv_iadd C.1 C.2.1 dX1_waysOf_77 ?_
          obtain ⟨ho5, h⟩ := h
          obtain ⟨hi, h⟩ := h
          refine A_iast C I ho5 hi dX1_waysOf_78 (fun H locs G6 eG6 xG6 I => ?_)
          have h := h G6 eG6
          refine l_inc (q := 4) (v := 1) C dX1_waysOf_79 hl rfl (by decide) (by decide) rfl (fun ls hl => ?_)
          have hl : LH ls 7 [(3, .inl ((l3 + 1))), (6, .inr (.inl r2)), (0, .inr (.inl th)), (1, .inr (.inl l1)), (2, .inr (.inl l2)), (4, .inl l4), (5, .inl l5)] := hl
          exact b_X1_waysOf_82 C hk5 hk25 l1 l2 ((l3 + 1)) l4 l5 G6 _ _ _ _ _ h (hth.ext (by decide) (Ext.tr _ _ _ xG1 (Ext.tr _ _ _ xG3 xG6))) I (hl.sub [2, 3, 4, 0, 5, 6] rfl)
        · have h := h.2 c7
          refine lv_goto (tgt := 82) C.1 C.2.1 dX1_waysOf_65 (by decide) ?_
          exact b_X1_waysOf_82 C hk5 hk25 l1 l2 l3 l4 l5 G3 _ _ _ _ _ h (hth.ext (by decide) (Ext.tr _ _ _ xG1 xG3)) I (hl.sub [1, 2, 3, 4, 5, 6] rfl)
def w_X1_waysOf_5 (T : Nat → ClassId) (Q : Int32 → Hp → Prop) (th : Option Nat) : Nat → Option Nat → Option Nat → Int32 → Int32 → Hp → Prop
  | 0 => fun _ _ _ _ _ => False
  | f5 + 1 => fun l1 l2 l3 l4 G => isO G (gR G (ad th) 0) 2 ∧ isO G (gR G (ad (gR G (ad th) 0)) 0) 16 ∧ w_J2_size T (fun r3 G2 => Ext G G2 → ((r3 ≤ l4) → (Q l3 G2)) ∧ ((¬ r3 ≤ l4) → (∃ n, w_X1_waysOf_25 T Q th (w_X1_waysOf_5 T Q th f5) n l1 l2 l3 l4 ((0 : Int32)) G2))) (gR G (ad (gR G (ad th) 0)) 0) G
set_option maxHeartbeats 4000000 in
theorem b_X1_waysOf_5 {G0 : Hp} {Q : Int32 → Hp → Prop} {th : Option Nat} (C : Cx p s m meth c D T Z "EndingTown" cX1_waysOf 7 (some .int)) : ∀ (n : Nat) (l1 : Option Nat) (l2 : Option Nat) (l3 : Int32) (l4 : Int32) (G : Hp) (H : Heap) (locs : List Loc) (cells slots : Nat) (ls : Array Slot), w_X1_waysOf_5 T Q th n l1 l2 l3 l4 G → isO G th 1 → HI (twd D T Z) G0 s (rmX (twd D T Z) 4 94 G0) H locs cells slots G → LH ls 7 [(0, .inr (.inl th)), (1, .inr (.inl l1)), (2, .inr (.inl l2)), (3, .inl l3), (4, .inl l4)] → W p l e (rmX (twd D T Z) 4 94 G0) s m args below meth c H locs cells slots (MQX (twd D T Z) G0 (qI Q) (fun _ _ => False) below s) (F0 m 5 ls []) := by
  intro f5
  induction f5 with
  | zero => intro l1 l2 l3 l4 G H locs cells slots ls h; exact (show False from h).elim
  | succ f5 ih =>
    intro l1 l2 l3 l4 G H locs cells slots ls h hth I hl
    have h : isO G (gR G (ad th) 0) 2 ∧ isO G (gR G (ad (gR G (ad th) 0)) 0) 16 ∧ w_J2_size T (fun r3 G2 => Ext G G2 → ((r3 ≤ l4) → (Q l3 G2)) ∧ ((¬ r3 ≤ l4) → (∃ n, w_X1_waysOf_25 T Q th (w_X1_waysOf_5 T Q th f5) n l1 l2 l3 l4 ((0 : Int32)) G2))) (gR G (ad (gR G (ad th) 0)) 0) G := h
    have hk5 := ih
    refine l_ild C dX1_waysOf_5 hl 4 rfl ?_
    refine l_ald_n C dX1_waysOf_7 hl 0 rfl rfl ?_
    refine g_R C I fl_X1_16_1 (by decide) (by decide) hth dX1_waysOf_8 ?_
    obtain ⟨ho1, h⟩ := h
    refine g_R C I fl_X1_110_2 (by decide) (by decide) ho1 dX1_waysOf_11 ?_
    obtain ⟨ho5, h⟩ := h
    refine k_call Ext.tr C I (k_F (kd := 16) (r := gR G (ad (gR G (ad th) 0)) 0) (As := []) (rest := [.int l4]) (y := yJ2_size) (x := ⟨"java/util/List", "size", "()I"⟩) C (by decide) ⟨ho5.ad.1, I.recv C.2.2.2.2.1 ho5 (by decide)⟩ q424 (by decide) q426 q425 q430 q428 q417 q427 q429 rfl pd_J2_size rfl dX1_waysOf_14) (ct_J2_size h) hl.1 dX1_waysOf_14 [.inl l4] rfl (Nat.le_of_ble_eq_true rfl) (Or.inl rfl) q431 q104 ⟨Nat.le_of_ble_eq_true rfl, Nat.le_of_ble_eq_true rfl⟩ (fun v G2 H locs cells slots xG2 hq I => ?_) (fun a G9 H locs cells slots ex hq I => hq.elim)
    obtain ⟨r3, rfl, h⟩ := hq
    have h := h xG2
    refine lv_icmp_ge (tgt := 94) C.1 C.2.1 dX1_waysOf_19 (by decide) (fun c4 => ?_) (fun c4 => ?_)
    · have h := h.1 c4
      refine l_ild_n C dX1_waysOf_94 hl 3 rfl rfl ?_
      exact r_int C.1 C.2.1 C.2.2.2.2.2.1 rfl C.2.2.2.2.2.2 ⟨rfl, rfl⟩ I dX1_waysOf_95 ⟨_, rfl, h⟩
    · have h := h.2 c4
      refine lv_iconst (v := 0) C.1 C.2.1 dX1_waysOf_22 (by decide) ?_
      refine l_ist C dX1_waysOf_23 hl (by decide) rfl (fun ls hl => ?_)
      have hl : LH ls 7 [(5, .inl ((0 : Int32))), (0, .inr (.inl th)), (1, .inr (.inl l1)), (2, .inr (.inl l2)), (3, .inl l3), (4, .inl l4)] := hl
      obtain ⟨n, h⟩ := h
      exact b_X1_waysOf_25 C hk5 n l1 l2 l3 l4 ((0 : Int32)) G2 _ _ _ _ _ h (hth.ext (by decide) xG2) I (hl.sub [1, 2, 3, 4, 5, 0] rfl)
def w_X1_waysOf (T : Nat → ClassId) (Q : Int32 → Hp → Prop) (th : Option Nat) (p0 : Option Nat) (p1 : Option Nat) (G : Hp) : Prop := isO G th 1 ∧ (∃ n, w_X1_waysOf_5 T Q th n p0 p1 ((0 : Int32)) ((0 : Int32)) G)
theorem pd_X1_waysOf : (parseMethodDescriptor yX1_waysOf.desc).map (fun d => d.parameters.length) = some 2 := by decide +kernel
set_option maxHeartbeats 4000000 in
theorem ct_X1_waysOf {l : Launch} {D : va_G} {T : Nat → ClassId} {Z : Heap} {G0 : Hp} {Q : Int32 → Hp → Prop} {th : Option Nat} {p0 : Option Nat} {p1 : Option Nat} (hw : w_X1_waysOf T Q th p0 p1 G0) : CT (twd D T Z) (Evd D T Z) l yX1_waysOf (Cond.code yX1_waysOf cX1_waysOf 7 (some .int)) 4 94 [va_rf th, va_rf p0, va_rf p1] G0 (qI Q) (fun _ _ => False) := by
  refine CT.ofW (cc := cX1_waysOf) (nL := 7) (ret := (some .int)) Ext.rf (by decide) (Or.inl rfl) ?_
  intro p e s m below meth c hx hb hml hown hr hlk hnm hcb hm hc hn hE I
  have C : Cx p s m meth c D T Z "EndingTown" cX1_waysOf 7 (some .int) := ⟨hx, hb, hml, hown, hE, hr, hlk⟩
  refine w_entry [.inr (.inl th), .inr (.inl p0), .inr (.inl p1)] (Nat.le_of_ble_eq_true rfl) (fun ls hl => ?_)
  have hl : LH ls 7 [(0, .inr (.inl th)), (1, .inr (.inl p0)), (2, .inr (.inl p1))] := hl
  obtain ⟨hth, h⟩ := hw
  refine lv_iconst (v := 0) C.1 C.2.1 dX1_waysOf_0 (by decide) ?_
  refine l_ist_n C dX1_waysOf_1 rfl hl (by decide) rfl (fun ls hl => ?_)
  have hl : LH ls 7 [(3, .inl ((0 : Int32))), (0, .inr (.inl th)), (1, .inr (.inl p0)), (2, .inr (.inl p1))] := hl
  refine lv_iconst (v := 0) C.1 C.2.1 dX1_waysOf_2 (by decide) ?_
  refine l_ist C dX1_waysOf_3 hl (by decide) rfl (fun ls hl => ?_)
  have hl : LH ls 7 [(4, .inl ((0 : Int32))), (3, .inl ((0 : Int32))), (0, .inr (.inl th)), (1, .inr (.inl p0)), (2, .inr (.inl p1))] := hl
  obtain ⟨n, h⟩ := h
  exact b_X1_waysOf_5 C n p0 p1 ((0 : Int32)) ((0 : Int32)) G0 _ _ _ _ _ h hth I (hl.sub [2, 3, 4, 1, 0] rfl)
def w_X1_apart_99 (T : Nat → ClassId) (Q : Int32 → Hp → Prop) (E : Nat → Hp → Prop) (th : Option Nat) (t0 : Int32) (G : Hp) : Prop := ∀ G1 : Hp, G1 = wI G (ad th) 9 t0 → Q (gI G1 (ad th) 9) G1
set_option maxHeartbeats 4000000 in
theorem b_X1_apart_99 {G0 : Hp} {Q : Int32 → Hp → Prop} {E : Nat → Hp → Prop} {th : Option Nat} (C : Cx p s m meth c D T Z "EndingTown" cX1_apart 5 (some .int)) (hex : ∀ z ∈ c.exceptionTable.toList, ∀ pc, covers z pc = false) (hLf : l.flags = flags0) : ∀ (t0 : Int32) (G : Hp) (H : Heap) (locs : List Loc) (cells slots : Nat) (ls : Array Slot), w_X1_apart_99 T Q E th t0 G → isO G th 1 → HI (twd D T Z) G0 s (rmX (twd D T Z) 7 120 G0) H locs cells slots G → LH ls 5 [(0, .inr (.inl th))] → W p l e (rmX (twd D T Z) 7 120 G0) s m args below meth c H locs cells slots (MQX (twd D T Z) G0 (qI Q) E below s) (F0 m 99 ls [.int t0, va_rf th]) := by
  intro t0 G H locs cells slots ls h hth I hl
  refine P_I C I fp_X1_203_1 (fun z => by cases z) (by decide) (by decide) hth dX1_apart_99 (fit_i _) (fun H locs G1 eG1 xG1 I => ?_)
  have h := h G1 eG1
  refine l_ald_n C dX1_apart_102 hl 0 rfl rfl ?_
  refine g_I C I fl_X1_203_1 (by decide) (by decide) (hth.ext (by decide) xG1) dX1_apart_103 ?_
  exact r_int C.1 C.2.1 C.2.2.2.2.2.1 rfl C.2.2.2.2.2.2 ⟨rfl, rfl⟩ I dX1_apart_106 ⟨_, rfl, h⟩
def w_X1_apart_52 (T : Nat → ClassId) (Q : Int32 → Hp → Prop) (E : Nat → Hp → Prop) (th : Option Nat) : Nat → Int32 → Option Nat → Int32 → Int32 → Hp → Prop
  | 0 => fun _ _ _ _ _ => False
  | f52 + 1 => fun l1 l2 l3 l4 G => ((l1 ≤ l4) → (((l3 = 0) → (w_X1_apart_99 T Q E th ((0 : Int32)) G)) ∧ ((¬ l3 = 0) → (w_X1_waysOf T (fun r2 G1 => Ext G G1 → w_X1_apart_99 T Q E th r2 G1) th l2 (gR G (ad th) 8) G)))) ∧ ((¬ l1 ≤ l4) → (isO G l2 13 ∧ isO G (gR G (ad l2) 0) 51 ∧ vp_in l4 (gN G (ad (gR G (ad l2) 0))) ∧ w_X1_in T (fun r7 G6 => Ext G G6 → (w_X1_apart_52 T Q E th f52) l1 l2 ((l3 &&& r7)) ((l4 + 1)) G6) (gI G (ad (gR G (ad l2) 0)) l4.toNatClampNeg) ((97 : Int32)) ((122 : Int32)) G))
set_option maxHeartbeats 4000000 in
theorem b_X1_apart_52 {G0 : Hp} {Q : Int32 → Hp → Prop} {E : Nat → Hp → Prop} {th : Option Nat} (C : Cx p s m meth c D T Z "EndingTown" cX1_apart 5 (some .int)) (hex : ∀ z ∈ c.exceptionTable.toList, ∀ pc, covers z pc = false) (hLf : l.flags = flags0) : ∀ (n : Nat) (l1 : Int32) (l2 : Option Nat) (l3 : Int32) (l4 : Int32) (G : Hp) (H : Heap) (locs : List Loc) (cells slots : Nat) (ls : Array Slot), w_X1_apart_52 T Q E th n l1 l2 l3 l4 G → isO G th 1 → HI (twd D T Z) G0 s (rmX (twd D T Z) 7 120 G0) H locs cells slots G → LH ls 5 [(0, .inr (.inl th)), (1, .inl l1), (2, .inr (.inl l2)), (3, .inl l3), (4, .inl l4)] → W p l e (rmX (twd D T Z) 7 120 G0) s m args below meth c H locs cells slots (MQX (twd D T Z) G0 (qI Q) E below s) (F0 m 52 ls []) := by
  intro f52
  induction f52 with
  | zero => intro l1 l2 l3 l4 G H locs cells slots ls h; exact (show False from h).elim
  | succ f52 ih =>
    intro l1 l2 l3 l4 G H locs cells slots ls h hth I hl
    have h : ((l1 ≤ l4) → (((l3 = 0) → (w_X1_apart_99 T Q E th ((0 : Int32)) G)) ∧ ((¬ l3 = 0) → (w_X1_waysOf T (fun r2 G1 => Ext G G1 → w_X1_apart_99 T Q E th r2 G1) th l2 (gR G (ad th) 8) G)))) ∧ ((¬ l1 ≤ l4) → (isO G l2 13 ∧ isO G (gR G (ad l2) 0) 51 ∧ vp_in l4 (gN G (ad (gR G (ad l2) 0))) ∧ w_X1_in T (fun r7 G6 => Ext G G6 → (w_X1_apart_52 T Q E th f52) l1 l2 ((l3 &&& r7)) ((l4 + 1)) G6) (gI G (ad (gR G (ad l2) 0)) l4.toNatClampNeg) ((97 : Int32)) ((122 : Int32)) G)) := h
    have hk52 := ih
    refine l_ild C dX1_apart_52 hl 4 rfl ?_
    refine l_ild_n C dX1_apart_54 hl 1 rfl rfl ?_
    refine lv_icmp_ge (tgt := 81) C.1 C.2.1 dX1_apart_55 (by decide) (fun c8 => ?_) (fun c8 => ?_)
    · have h := h.1 c8
      refine l_ald_n C dX1_apart_81 hl 0 rfl rfl ?_
      refine l_ild_n C dX1_apart_82 hl 3 rfl rfl ?_
      refine lv_if_eq (tgt := 98) C.1 C.2.1 dX1_apart_83 (by decide) (fun c3 => ?_) (fun c3 => ?_)
      · have h := h.1 c3
        refine lv_iconst (v := 0) C.1 C.2.1 dX1_apart_98 (by decide) ?_
        exact b_X1_apart_99 C hex hLf ((0 : Int32)) G _ _ _ _ _ h hth I (hl.sub [0] rfl)
      · have h := h.2 c3
        refine l_ald_n C dX1_apart_86 hl 0 rfl rfl ?_
        refine l_ald_n C dX1_apart_87 hl 2 rfl rfl ?_
        refine l_ald_n C dX1_apart_88 hl 0 rfl rfl ?_
        refine g_R C I fl_X1_71_1 (by decide) (by decide) hth dX1_apart_89 ?_
        refine k_call Ext.tr C I (k_V (r := th) (As := [va_rf l2, va_rf (gR G (ad th) 8)]) (rest := [va_rf th]) (y := yX1_waysOf) C ⟨hth.ad.1, I.recv C.2.2.2.2.1 hth (by decide)⟩ q1150 q1152 qs35 (Or.inl rfl) q1153 (by decide) rfl pd_X1_waysOf rfl dX1_apart_92) (ct_X1_waysOf h) hl.1 dX1_apart_92 [.inr (.inl th)] rfl (Nat.le_of_ble_eq_true rfl) (Or.inl rfl) q1153 q100 ⟨Nat.le_of_ble_eq_true rfl, Nat.le_of_ble_eq_true rfl⟩ (fun v G1 H locs cells slots xG1 hq I => ?_) (fun a G9 H locs cells slots ex hq I => hq.elim)
        obtain ⟨r2, rfl, h⟩ := hq
        have h := h xG1
        refine lv_goto (tgt := 99) C.1 C.2.1 dX1_apart_95 (by decide) ?_
        exact b_X1_apart_99 C hex hLf r2 G1 _ _ _ _ _ h (hth.ext (by decide) xG1) I (hl.sub [0] rfl)
    · have h := h.2 c8
      refine l_ild_n C dX1_apart_58 hl 3 rfl rfl ?_
      refine l_ald_n C dX1_apart_59 hl 2 rfl rfl ?_
      obtain ⟨ho4, h⟩ := h
      refine g_R C I fl_X1_187_13 (by decide) (by decide) ho4 dX1_apart_60 ?_
      refine l_ild C dX1_apart_63 hl 4 rfl ?_
      obtain ⟨ho5, h⟩ := h
      obtain ⟨hi, h⟩ := h
      refine a_bald C I ho5 hi dX1_apart_65 ?_
      refine lv_bipush (v := 97) C.1 C.2.1 dX1_apart_66 (by decide) ?_
      refine lv_bipush (v := 122) C.1 C.2.1 dX1_apart_68 (by decide) ?_
      refine k_call Ext.tr C I (k_S (As := [.int (gI G (ad (gR G (ad l2) 0)) l4.toNatClampNeg), .int ((97 : Int32)), .int ((122 : Int32))]) (rest := [.int l3]) (y := yX1_in) C q1093 q764 q100 (Or.inl rfl) q765 (by decide) rfl pd_X1_in rfl dX1_apart_70) (ct_X1_in h) hl.1 dX1_apart_70 [.inl l3] rfl (Nat.le_of_ble_eq_true rfl) (Or.inl rfl) q765 q100 ⟨Nat.le_of_ble_eq_true rfl, Nat.le_of_ble_eq_true rfl⟩ (fun v G6 H locs cells slots xG6 hq I => ?_) (fun a G9 H locs cells slots ex hq I => hq.elim)
      obtain ⟨r7, rfl, h⟩ := hq
      have h := h xG6
      refine lv_iand C.1 C.2.1 dX1_apart_73 ?_
      refine l_ist_n C dX1_apart_74 rfl hl (by decide) rfl (fun ls hl => ?_)
      have hl : LH ls 5 [(3, .inl ((l3 &&& r7))), (0, .inr (.inl th)), (1, .inl l1), (2, .inr (.inl l2)), (4, .inl l4)] := hl
      refine l_inc (q := 4) (v := 1) C dX1_apart_75 hl rfl (by decide) (by decide) rfl (fun ls hl => ?_)
      have hl : LH ls 5 [(4, .inl ((l4 + 1))), (3, .inl ((l3 &&& r7))), (0, .inr (.inl th)), (1, .inl l1), (2, .inr (.inl l2))] := hl
      refine lv_goto (tgt := 52) C.1 C.2.1 dX1_apart_78 (by decide) ?_
      exact hk52 l1 l2 ((l3 &&& r7)) ((l4 + 1)) G6 _ _ _ _ _ h (hth.ext (by decide) xG6) I (hl.sub [2, 3, 4, 1, 0] rfl)
def w_X1_apart_48 (T : Nat → ClassId) (Q : Int32 → Hp → Prop) (E : Nat → Hp → Prop) (th : Option Nat) (l1 : Int32) (l2 : Option Nat) (t0 : Int32) (G : Hp) : Prop := ∃ n, w_X1_apart_52 T Q E th n l1 l2 t0 ((0 : Int32)) G
set_option maxHeartbeats 4000000 in
theorem b_X1_apart_48 {G0 : Hp} {Q : Int32 → Hp → Prop} {E : Nat → Hp → Prop} {th : Option Nat} (C : Cx p s m meth c D T Z "EndingTown" cX1_apart 5 (some .int)) (hex : ∀ z ∈ c.exceptionTable.toList, ∀ pc, covers z pc = false) (hLf : l.flags = flags0) : ∀ (l1 : Int32) (l2 : Option Nat) (t0 : Int32) (G : Hp) (H : Heap) (locs : List Loc) (cells slots : Nat) (ls : Array Slot), w_X1_apart_48 T Q E th l1 l2 t0 G → isO G th 1 → HI (twd D T Z) G0 s (rmX (twd D T Z) 7 120 G0) H locs cells slots G → LH ls 5 [(0, .inr (.inl th)), (1, .inl l1), (2, .inr (.inl l2))] → W p l e (rmX (twd D T Z) 7 120 G0) s m args below meth c H locs cells slots (MQX (twd D T Z) G0 (qI Q) E below s) (F0 m 48 ls [.int t0]) := by
  intro l1 l2 t0 G H locs cells slots ls h hth I hl
  refine l_ist_n C dX1_apart_48 rfl hl (by decide) rfl (fun ls hl => ?_)
  have hl : LH ls 5 [(3, .inl t0), (0, .inr (.inl th)), (1, .inl l1), (2, .inr (.inl l2))] := hl
  refine lv_iconst (v := 0) C.1 C.2.1 dX1_apart_49 (by decide) ?_
  refine l_ist C dX1_apart_50 hl (by decide) rfl (fun ls hl => ?_)
  have hl : LH ls 5 [(4, .inl ((0 : Int32))), (3, .inl t0), (0, .inr (.inl th)), (1, .inl l1), (2, .inr (.inl l2))] := hl
  obtain ⟨n, h⟩ := h
  exact b_X1_apart_52 C hex hLf n l1 l2 t0 ((0 : Int32)) G _ _ _ _ _ h hth I (hl.sub [2, 3, 4, 1, 0] rfl)
def w_X1_apart_17 (T : Nat → ClassId) (Q : Int32 → Hp → Prop) (E : Nat → Hp → Prop) (th : Option Nat) (l1 : Int32) (t0 : Int32) (G : Hp) : Prop := w_X1_right T (fun G1 => Ext G G1 → ∀ G3 : Hp, G3 = wI G1 (ad th) 5 ((0 : Int32)) → 1 ≤ gC G3 ∧ 1 ≤ gS G3 ∧ ∀ G4 : Hp, G4 = nw G3 13 0 1 → w_X16_init T (fun G5 => Ext G4 G5 → ((l1 ≤ 0) → (w_X1_apart_48 T Q E th l1 ((some (gZ G3))) ((0 : Int32)) G5)) ∧ ((¬ l1 ≤ 0) → (w_X1_apart_48 T Q E th l1 ((some (gZ G3))) ((1 : Int32)) G5))) ((some (gZ G3))) (gR G4 (ad th) 4) ((0 : Int32)) l1 G4) E t0 G
set_option maxHeartbeats 4000000 in
theorem b_X1_apart_17 {G0 : Hp} {Q : Int32 → Hp → Prop} {E : Nat → Hp → Prop} {th : Option Nat} (C : Cx p s m meth c D T Z "EndingTown" cX1_apart 5 (some .int)) (hex : ∀ z ∈ c.exceptionTable.toList, ∀ pc, covers z pc = false) (hLf : l.flags = flags0) : ∀ (l1 : Int32) (t0 : Int32) (G : Hp) (H : Heap) (locs : List Loc) (cells slots : Nat) (ls : Array Slot), w_X1_apart_17 T Q E th l1 t0 G → isO G th 1 → HI (twd D T Z) G0 s (rmX (twd D T Z) 7 120 G0) H locs cells slots G → LH ls 5 [(0, .inr (.inl th)), (1, .inl l1)] → W p l e (rmX (twd D T Z) 7 120 G0) s m args below meth c H locs cells slots (MQX (twd D T Z) G0 (qI Q) E below s) (F0 m 17 ls [.int t0]) := by
  intro l1 t0 G H locs cells slots ls h hth I hl
  refine k_call Ext.tr C I (k_S (As := [.int t0]) (rest := []) (y := yX1_right) C q640 q641 q100 (Or.inl rfl) q642 (by decide) rfl pd_X1_right rfl dX1_apart_17) (ct_X1_right hLf h) hl.1 dX1_apart_17 [] rfl (Nat.le_of_ble_eq_true rfl) (Or.inl rfl) q642 q100 ⟨Nat.le_of_ble_eq_true rfl, Nat.le_of_ble_eq_true rfl⟩ (fun v G1 H locs cells slots xG1 hq I => ?_) (fun a G9 H locs cells slots ex hq I => t_out C.2.2.2.2.2.2 ⟨rfl, rfl⟩ (fun z hz => hex z hz _) I hq)
  obtain ⟨rfl, h⟩ := hq
  have h := h xG1
  refine l_ald_n C dX1_apart_20 hl 0 rfl rfl ?_
  refine lv_iconst (v := 0) C.1 C.2.1 dX1_apart_21 (by decide) ?_
  refine P_I C I fp_X1_74_1 (fun z => by cases z) (by decide) (by decide) (hth.ext (by decide) xG1) dX1_apart_22 (fit_i _) (fun H locs G3 eG3 xG3 I => ?_)
  have h := h G3 eG3
  obtain ⟨hb1, hb2, h⟩ := h
  refine N_obj (kd := 13) C I (by decide) q1148 ⟨hb1, hb2⟩ dX1_apart_25 (fun H cells slots G4 eG4 xG4 I => ?_)
  have h := h G4 eG4
  have hnG4 : isO G4 (some (gZ G3)) 13 := ⟨_, rfl, by rw [eG4]; exact gK_nw⟩
  refine lv_dup C.1 C.2.1 dX1_apart_28 (cat_rf _) ?_
  refine l_ald_n C dX1_apart_29 hl 0 rfl rfl ?_
  refine g_R C I fl_X1_59_1 (by decide) (by decide) (hth.ext (by decide) (Ext.tr _ _ _ xG1 (Ext.tr _ _ _ xG3 xG4))) dX1_apart_30 ?_
  refine lv_iconst (v := 0) C.1 C.2.1 dX1_apart_33 (by decide) ?_
  refine l_ild_n C dX1_apart_34 hl 1 rfl rfl ?_
  refine k_call Ext.tr C I (k_I (r := (some (gZ G3))) (As := [va_rf (gR G4 (ad th) 4), .int ((0 : Int32)), .int l1]) (rest := [va_rf ((some (gZ G3)))]) (y := yX16_init) C hnG4.ad.1 rfl q1149 q1020 q1021 (by decide) rfl pd_X16_init rfl dX1_apart_35) (ct_X16_init h) hl.1 dX1_apart_35 [.inr (.inl ((some (gZ G3))))] rfl (Nat.le_of_ble_eq_true rfl) (Or.inl rfl) q1021 q131 ⟨Nat.le_of_ble_eq_true rfl, Nat.le_of_ble_eq_true rfl⟩ (fun v G5 H locs cells slots xG5 hq I => ?_) (fun a G9 H locs cells slots ex hq I => hq.elim)
  obtain ⟨rfl, h⟩ := hq
  have h := h xG5
  refine l_ast_n C dX1_apart_38 rfl hl (by decide) rfl (fun ls hl => ?_)
  have hl : LH ls 5 [(2, .inr (.inl ((some (gZ G3))))), (0, .inr (.inl th)), (1, .inl l1)] := hl
  refine l_ild_n C dX1_apart_39 hl 2 rfl rfl ?_
  refine lv_if_le (tgt := 47) C.1 C.2.1 dX1_apart_40 (by decide) (fun c7 => ?_) (fun c7 => ?_)
  · have h := h.1 c7
    refine lv_iconst (v := 0) C.1 C.2.1 dX1_apart_47 (by decide) ?_
    exact b_X1_apart_48 C hex hLf l1 ((some (gZ G3))) ((0 : Int32)) G5 _ _ _ _ _ h (hth.ext (by decide) (Ext.tr _ _ _ xG1 (Ext.tr _ _ _ xG3 (Ext.tr _ _ _ xG4 xG5)))) I (hl.sub [1, 2, 0] rfl)
  · have h := h.2 c7
    refine lv_iconst (v := 1) C.1 C.2.1 dX1_apart_43 (by decide) ?_
    refine lv_goto (tgt := 48) C.1 C.2.1 dX1_apart_44 (by decide) ?_
    exact b_X1_apart_48 C hex hLf l1 ((some (gZ G3))) ((1 : Int32)) G5 _ _ _ _ _ h (hth.ext (by decide) (Ext.tr _ _ _ xG1 (Ext.tr _ _ _ xG3 (Ext.tr _ _ _ xG4 xG5)))) I (hl.sub [1, 2, 0] rfl)
def w_X1_apart_16 (T : Nat → ClassId) (Q : Int32 → Hp → Prop) (E : Nat → Hp → Prop) (th : Option Nat) (l1 : Int32) (G : Hp) : Prop := w_X1_apart_17 T Q E th l1 ((0 : Int32)) G
set_option maxHeartbeats 4000000 in
theorem b_X1_apart_16 {G0 : Hp} {Q : Int32 → Hp → Prop} {E : Nat → Hp → Prop} {th : Option Nat} (C : Cx p s m meth c D T Z "EndingTown" cX1_apart 5 (some .int)) (hex : ∀ z ∈ c.exceptionTable.toList, ∀ pc, covers z pc = false) (hLf : l.flags = flags0) : ∀ (l1 : Int32) (G : Hp) (H : Heap) (locs : List Loc) (cells slots : Nat) (ls : Array Slot), w_X1_apart_16 T Q E th l1 G → isO G th 1 → HI (twd D T Z) G0 s (rmX (twd D T Z) 7 120 G0) H locs cells slots G → LH ls 5 [(0, .inr (.inl th)), (1, .inl l1)] → W p l e (rmX (twd D T Z) 7 120 G0) s m args below meth c H locs cells slots (MQX (twd D T Z) G0 (qI Q) E below s) (F0 m 16 ls []) := by
  intro l1 G H locs cells slots ls h hth I hl
  refine lv_iconst (v := 0) C.1 C.2.1 dX1_apart_16 (by decide) ?_
  exact b_X1_apart_17 C hex hLf l1 ((0 : Int32)) G _ _ _ _ _ h hth I (hl.sub [0, 1] rfl)
def w_X1_apart (T : Nat → ClassId) (Q : Int32 → Hp → Prop) (E : Nat → Hp → Prop) (th : Option Nat) (p0 : Int32) (G : Hp) : Prop := isO G th 1 ∧ (((p0 < 0) → (w_X1_apart_16 T Q E th p0 G)) ∧ ((¬ p0 < 0) → (((gI G (ad th) 5 < p0) → (w_X1_apart_16 T Q E th p0 G)) ∧ ((¬ gI G (ad th) 5 < p0) → (w_X1_apart_17 T Q E th p0 ((1 : Int32)) G)))))
theorem pd_X1_apart : (parseMethodDescriptor yX1_apart.desc).map (fun d => d.parameters.length) = some 1 := by decide +kernel
set_option maxHeartbeats 4000000 in
theorem ct_X1_apart {l : Launch} {D : va_G} {T : Nat → ClassId} {Z : Heap} {G0 : Hp} {Q : Int32 → Hp → Prop} {E : Nat → Hp → Prop} {th : Option Nat} {p0 : Int32} (hLf : l.flags = flags0) (hw : w_X1_apart T Q E th p0 G0) : CT (twd D T Z) (Evd D T Z) l yX1_apart (Cond.code yX1_apart cX1_apart 5 (some .int)) 7 120 [va_rf th, .int p0] G0 (qI Q) E := by
  refine CT.ofW (cc := cX1_apart) (nL := 5) (ret := (some .int)) Ext.rf (by decide) (Or.inl rfl) ?_
  intro p e s m below meth c hx hb hml hown hr hlk hnm hcb hm hc hn hE I
  have C : Cx p s m meth c D T Z "EndingTown" cX1_apart 5 (some .int) := ⟨hx, hb, hml, hown, hE, hr, hlk⟩
  have hex := noEx hn hm hc hcb
  refine w_entry [.inr (.inl th), .inl p0] (Nat.le_of_ble_eq_true rfl) (fun ls hl => ?_)
  have hl : LH ls 5 [(0, .inr (.inl th)), (1, .inl p0)] := hl
  obtain ⟨hth, h⟩ := hw
  refine l_ild_n C dX1_apart_0 hl 1 rfl rfl ?_
  refine lv_if_lt (tgt := 16) C.1 C.2.1 dX1_apart_1 (by decide) (fun c2 => ?_) (fun c2 => ?_)
  · have h := h.1 c2
    exact b_X1_apart_16 C hex hLf p0 G0 _ _ _ _ _ h hth I (hl.sub [0, 1] rfl)
  · have h := h.2 c2
    refine l_ild_n C dX1_apart_4 hl 1 rfl rfl ?_
    refine l_ald_n C dX1_apart_5 hl 0 rfl rfl ?_
    refine g_I C I fl_X1_74_1 (by decide) (by decide) hth dX1_apart_6 ?_
    refine lv_icmp_gt (tgt := 16) C.1 C.2.1 dX1_apart_9 (by decide) (fun c1 => ?_) (fun c1 => ?_)
    · have h := h.1 c1
      exact b_X1_apart_16 C hex hLf p0 G0 _ _ _ _ _ h hth I (hl.sub [0, 1] rfl)
    · have h := h.2 c1
      refine lv_iconst (v := 1) C.1 C.2.1 dX1_apart_12 (by decide) ?_
      refine lv_goto (tgt := 17) C.1 C.2.1 dX1_apart_13 (by decide) ?_
      exact b_X1_apart_17 C hex hLf p0 ((1 : Int32)) G0 _ _ _ _ _ h hth I (hl.sub [0, 1] rfl)
def w_X1_way (T : Nat → ClassId) (Q : Int32 → Hp → Prop) (E : Nat → Hp → Prop) (th : Option Nat) (p0 : Int32) (G : Hp) : Prop := isO G th 1 ∧ (w_X1_in T (fun r2 G1 => Ext G G1 → w_X1_found T (fun G3 => Ext G1 G3 → isO G3 (gR G3 (ad th) 8) 50 ∧ vp_in p0 (gN G3 (ad (gR G3 (ad th) 8))) ∧ Q (gI G3 (ad (gR G3 (ad th) 8)) p0.toNatClampNeg) G3) E r2 G1) p0 ((0 : Int32)) ((gI G (ad th) 9 - (1 : Int32))) G)
theorem pd_X1_way : (parseMethodDescriptor yX1_way.desc).map (fun d => d.parameters.length) = some 1 := by decide +kernel
set_option maxHeartbeats 4000000 in
theorem ct_X1_way {l : Launch} {D : va_G} {T : Nat → ClassId} {Z : Heap} {G0 : Hp} {Q : Int32 → Hp → Prop} {E : Nat → Hp → Prop} {th : Option Nat} {p0 : Int32} (hLf : l.flags = flags0) (hw : w_X1_way T Q E th p0 G0) : CT (twd D T Z) (Evd D T Z) l yX1_way (Cond.code yX1_way cX1_way 2 (some .int)) 7 120 [va_rf th, .int p0] G0 (qI Q) E := by
  refine CT.ofW (cc := cX1_way) (nL := 2) (ret := (some .int)) Ext.rf (by decide) (Or.inl rfl) ?_
  intro p e s m below meth c hx hb hml hown hr hlk hnm hcb hm hc hn hE I
  have C : Cx p s m meth c D T Z "EndingTown" cX1_way 2 (some .int) := ⟨hx, hb, hml, hown, hE, hr, hlk⟩
  have hex := noEx hn hm hc hcb
  refine w_entry [.inr (.inl th), .inl p0] (Nat.le_of_ble_eq_true rfl) (fun ls hl => ?_)
  have hl : LH ls 2 [(0, .inr (.inl th)), (1, .inl p0)] := hl
  obtain ⟨hth, h⟩ := hw
  refine l_ild_n C dX1_way_0 hl 1 rfl rfl ?_
  refine lv_iconst (v := 0) C.1 C.2.1 dX1_way_1 (by decide) ?_
  refine l_ald_n C dX1_way_2 hl 0 rfl rfl ?_
  refine g_I C I fl_X1_203_1 (by decide) (by decide) hth dX1_way_3 ?_
  refine lv_iconst (v := 1) C.1 C.2.1 dX1_way_6 (by decide) ?_
  refine lv_isub C.1 C.2.1 dX1_way_7 ?_
  refine k_call Ext.tr C I (k_S (As := [.int p0, .int ((0 : Int32)), .int ((gI G0 (ad th) 9 - (1 : Int32)))]) (rest := []) (y := yX1_in) C q1093 q764 q100 (Or.inl rfl) q765 (by decide) rfl pd_X1_in rfl dX1_way_8) (ct_X1_in h) hl.1 dX1_way_8 [] rfl (Nat.le_of_ble_eq_true rfl) (Or.inl rfl) q765 q100 ⟨Nat.le_of_ble_eq_true rfl, Nat.le_of_ble_eq_true rfl⟩ (fun v G1 H locs cells slots xG1 hq I => ?_) (fun a G9 H locs cells slots ex hq I => hq.elim)
  obtain ⟨r2, rfl, h⟩ := hq
  have h := h xG1
  refine k_call Ext.tr C I (k_S (As := [.int r2]) (rest := []) (y := yX1_found) C q1094 q1095 q100 (Or.inl rfl) q1096 (by decide) rfl pd_X1_found rfl dX1_way_11) (ct_X1_found hLf h) hl.1 dX1_way_11 [] rfl (Nat.le_of_ble_eq_true rfl) (Or.inl rfl) q1096 q100 ⟨Nat.le_of_ble_eq_true rfl, Nat.le_of_ble_eq_true rfl⟩ (fun v G3 H locs cells slots xG3 hq I => ?_) (fun a G9 H locs cells slots ex hq I => t_out C.2.2.2.2.2.2 ⟨rfl, rfl⟩ (fun z hz => hex z hz _) I hq)
  obtain ⟨rfl, h⟩ := hq
  have h := h xG3
  refine l_ald_n C dX1_way_14 hl 0 rfl rfl ?_
  refine g_R C I fl_X1_71_1 (by decide) (by decide) (hth.ext (by decide) (Ext.tr _ _ _ xG1 xG3)) dX1_way_15 ?_
  refine l_ild_n C dX1_way_18 hl 1 rfl rfl ?_
  obtain ⟨ho5, h⟩ := h
  obtain ⟨hi, h⟩ := h
  refine a_iald C I ho5 hi dX1_way_19 ?_
  exact r_int C.1 C.2.1 C.2.2.2.2.2.1 rfl C.2.2.2.2.2.2 ⟨rfl, rfl⟩ I dX1_way_20 ⟨_, rfl, h⟩
def w_X18_init (T : Nat → ClassId) (Q : Hp → Prop) (th : Option Nat) (p0 : Int32) (p1 : Int32) (p2 : Int32) (p3 : Int32) (p4 : Int32) (G : Hp) : Prop := isO G th 15 ∧ (∀ G1 : Hp, G1 = wI G (ad th) 0 p0 → ∀ G2 : Hp, G2 = wI G1 (ad th) 1 p1 → ∀ G3 : Hp, G3 = wI G2 (ad th) 2 p2 → ∀ G4 : Hp, G4 = wI G3 (ad th) 3 p3 → bz p4 ∧ ∀ G5 : Hp, G5 = wI G4 (ad th) 4 p4 → Q G5)
theorem pd_X18_init : (parseMethodDescriptor yX18_init.desc).map (fun d => d.parameters.length) = some 5 := by decide +kernel
set_option maxHeartbeats 4000000 in
theorem ct_X18_init {l : Launch} {D : va_G} {T : Nat → ClassId} {Z : Heap} {G0 : Hp} {Q : Hp → Prop} {th : Option Nat} {p0 : Int32} {p1 : Int32} {p2 : Int32} {p3 : Int32} {p4 : Int32} (hw : w_X18_init T Q th p0 p1 p2 p3 p4 G0) : CT (twd D T Z) (Evd D T Z) l yX18_init (Cond.code yX18_init cX18_init 6 none) 1 20 [va_rf th, .int p0, .int p1, .int p2, .int p3, .int p4] G0 (qV Q) (fun _ _ => False) := by
  refine CT.ofW (cc := cX18_init) (nL := 6) (ret := none) Ext.rf (by decide) (Or.inl rfl) ?_
  intro p e s m below meth c hx hb hml hown hr hlk hnm hcb hm hc hn hE I
  have C : Cx p s m meth c D T Z "EndingTown$Saying" cX18_init 6 none := ⟨hx, hb, hml, hown, hE, hr, hlk⟩
  refine w_entry [.inr (.inl th), .inl p0, .inl p1, .inl p2, .inl p3, .inl p4] (Nat.le_of_ble_eq_true rfl) (fun ls hl => ?_)
  have hl : LH ls 6 [(0, .inr (.inl th)), (1, .inl p0), (2, .inl p1), (3, .inl p2), (4, .inl p3), (5, .inl p4)] := hl
  obtain ⟨hth, h⟩ := hw
  refine l_ald_n C dX18_init_0 hl 0 rfl rfl ?_
  refine k_objInit C hth.ad.1 q1177 q142 q143 hl.1 dX18_init_1 (Nat.le_of_ble_eq_true rfl) ⟨Nat.le_of_ble_eq_true rfl, Nat.le_of_ble_eq_true rfl⟩ ?_
  refine l_ald_n C dX18_init_4 hl 0 rfl rfl ?_
  refine l_ild_n C dX18_init_5 hl 1 rfl rfl ?_
  refine P_I C I fp_X18_7_15 (fun _ => hnm) (by decide) (by decide) hth dX18_init_6 (fit_i _) (fun H locs G1 eG1 xG1 I => ?_)
  have h := h G1 eG1
  refine l_ald_n C dX18_init_9 hl 0 rfl rfl ?_
  refine l_ild_n C dX18_init_10 hl 2 rfl rfl ?_
  refine P_I C I fp_X18_13_15 (fun _ => hnm) (by decide) (by decide) (hth.ext (by decide) xG1) dX18_init_11 (fit_i _) (fun H locs G2 eG2 xG2 I => ?_)
  have h := h G2 eG2
  refine l_ald_n C dX18_init_14 hl 0 rfl rfl ?_
  refine l_ild_n C dX18_init_15 hl 3 rfl rfl ?_
  refine P_I C I fp_X18_16_15 (fun _ => hnm) (by decide) (by decide) (hth.ext (by decide) (Ext.tr _ _ _ xG1 xG2)) dX18_init_16 (fit_i _) (fun H locs G3 eG3 xG3 I => ?_)
  have h := h G3 eG3
  refine l_ald_n C dX18_init_19 hl 0 rfl rfl ?_
  refine l_ild C dX18_init_20 hl 4 rfl ?_
  refine P_I C I fp_X18_19_15 (fun _ => hnm) (by decide) (by decide) (hth.ext (by decide) (Ext.tr _ _ _ xG1 (Ext.tr _ _ _ xG2 xG3))) dX18_init_22 (fit_i _) (fun H locs G4 eG4 xG4 I => ?_)
  have h := h G4 eG4
  refine l_ald_n C dX18_init_25 hl 0 rfl rfl ?_
  refine l_ild C dX18_init_26 hl 5 rfl ?_
  obtain ⟨hz, h⟩ := h
  refine P_I C I fp_X18_22_15 (fun _ => hnm) (by decide) (by decide) (hth.ext (by decide) (Ext.tr _ _ _ xG1 (Ext.tr _ _ _ xG2 (Ext.tr _ _ _ xG3 xG4)))) dX18_init_28 (fit_z hz) (fun H locs G5 eG5 xG5 I => ?_)
  have h := h G5 eG5
  exact r_void C.1 C.2.1 C.2.2.2.2.2.1 C.2.2.2.2.2.2 ⟨rfl, rfl⟩ I dX18_init_31 ⟨rfl, h⟩
def w_X1_refuse (T : Nat → ClassId) (Q : Int32 → Hp → Prop) (th : Option Nat) (G : Hp) : Prop := isO G th 1 ∧ (isO G (gR G (ad th) 7) 50 ∧ vp_in ((1 : Int32)) (gN G (ad (gR G (ad th) 7))) ∧ vp_in ((1 : Int32)) (gN G (ad (gR G (ad th) 7))) ∧ ∀ G2 : Hp, G2 = wI G (ad (gR G (ad th) 7)) ((1 : Int32)).toNatClampNeg ((gI G (ad (gR G (ad th) 7)) ((1 : Int32)).toNatClampNeg + (1 : Int32))) → Q ((-1 : Int32)) G2)
theorem pd_X1_refuse : (parseMethodDescriptor yX1_refuse.desc).map (fun d => d.parameters.length) = some 0 := by decide +kernel
set_option maxHeartbeats 4000000 in
theorem ct_X1_refuse {l : Launch} {D : va_G} {T : Nat → ClassId} {Z : Heap} {G0 : Hp} {Q : Int32 → Hp → Prop} {th : Option Nat} (hw : w_X1_refuse T Q th G0) : CT (twd D T Z) (Evd D T Z) l yX1_refuse (Cond.code yX1_refuse cX1_refuse 1 (some .int)) 0 0 [va_rf th] G0 (qI Q) (fun _ _ => False) := by
  refine CT.ofW (cc := cX1_refuse) (nL := 1) (ret := (some .int)) Ext.rf (by decide) (Or.inl rfl) ?_
  intro p e s m below meth c hx hb hml hown hr hlk hnm hcb hm hc hn hE I
  have C : Cx p s m meth c D T Z "EndingTown" cX1_refuse 1 (some .int) := ⟨hx, hb, hml, hown, hE, hr, hlk⟩
  refine w_entry [.inr (.inl th)] (Nat.le_of_ble_eq_true rfl) (fun ls hl => ?_)
  have hl : LH ls 1 [(0, .inr (.inl th))] := hl
  obtain ⟨hth, h⟩ := hw
  refine l_ald_n C dX1_refuse_0 hl 0 rfl rfl ?_
  refine g_R C I fl_X1_67_1 (by decide) (by decide) hth dX1_refuse_1 ?_
  refine lv_iconst (v := 1) C.1 C.2.1 dX1_refuse_4 (by decide) ?_
  refine lv_dup2_11 C.1 C.2.1 dX1_refuse_5 rfl (cat_rf _) ?_
  obtain ⟨ho1, h⟩ := h
  obtain ⟨hi, h⟩ := h
  refine a_iald C I ho1 hi dX1_refuse_6 ?_
  refine lv_iconst (v := 1) C.1 C.2.1 dX1_refuse_7 (by decide) ?_
  refine lv_iadd C.1 C.2.1 dX1_refuse_8 ?_
  obtain ⟨hi, h⟩ := h
  refine A_iast C I ho1 hi dX1_refuse_9 (fun H locs G2 eG2 xG2 I => ?_)
  have h := h G2 eG2
  refine lv_iconst (v := (-1)) C.1 C.2.1 dX1_refuse_10 (by decide) ?_
  exact r_int C.1 C.2.1 C.2.2.2.2.2.1 rfl C.2.2.2.2.2.2 ⟨rfl, rfl⟩ I dX1_refuse_11 ⟨_, rfl, h⟩
def w_X1_add (T : Nat → ClassId) (Q : Int32 → Hp → Prop) (th : Option Nat) (p0 : Option Nat) (G : Hp) : Prop := isO G th 1 ∧ (isO G (gR G (ad th) 1) 16 ∧ w_J2_size T (fun r2 G1 => Ext G G1 → ((¬ r2 = (20 : Int32)) → (isO G1 (gR G1 (ad th) 1) 16 ∧ w_J2_add T (fun r4 G3 => Ext G1 G3 → isO G3 (gR G3 (ad th) 1) 16 ∧ w_J2_size T (fun r6 G5 => Ext G3 G5 → Q r6 G5) (gR G3 (ad th) 1) G3) (gR G1 (ad th) 1) p0 G1)) ∧ ((r2 = (20 : Int32)) → (w_X1_refuse T (fun r10 G9 => Ext G1 G9 → Q r10 G9) th G1))) (gR G (ad th) 1) G)
theorem pd_X1_add : (parseMethodDescriptor yX1_add.desc).map (fun d => d.parameters.length) = some 1 := by decide +kernel
set_option maxHeartbeats 4000000 in
theorem ct_X1_add {l : Launch} {D : va_G} {T : Nat → ClassId} {Z : Heap} {G0 : Hp} {Q : Int32 → Hp → Prop} {th : Option Nat} {p0 : Option Nat} (hw : w_X1_add T Q th p0 G0) : CT (twd D T Z) (Evd D T Z) l yX1_add (Cond.code yX1_add cX1_add 2 (some .int)) 7 228 [va_rf th, va_rf p0] G0 (qI Q) (fun _ _ => False) := by
  refine CT.ofW (cc := cX1_add) (nL := 2) (ret := (some .int)) Ext.rf (by decide) (Or.inl rfl) ?_
  intro p e s m below meth c hx hb hml hown hr hlk hnm hcb hm hc hn hE I
  have C : Cx p s m meth c D T Z "EndingTown" cX1_add 2 (some .int) := ⟨hx, hb, hml, hown, hE, hr, hlk⟩
  refine w_entry [.inr (.inl th), .inr (.inl p0)] (Nat.le_of_ble_eq_true rfl) (fun ls hl => ?_)
  have hl : LH ls 2 [(0, .inr (.inl th)), (1, .inr (.inl p0))] := hl
  obtain ⟨hth, h⟩ := hw
  refine l_ald_n C dX1_add_0 hl 0 rfl rfl ?_
  refine g_R C I fl_X1_25_1 (by decide) (by decide) hth dX1_add_1 ?_
  obtain ⟨ho12, h⟩ := h
  refine k_call Ext.tr C I (k_F (kd := 16) (r := gR G0 (ad th) 1) (As := []) (rest := []) (y := yJ2_size) (x := ⟨"java/util/List", "size", "()I"⟩) C (by decide) ⟨ho12.ad.1, I.recv C.2.2.2.2.1 ho12 (by decide)⟩ q424 (by decide) q426 q425 q430 q428 q417 q427 q429 rfl pd_J2_size rfl dX1_add_4) (ct_J2_size h) hl.1 dX1_add_4 [] rfl (Nat.le_of_ble_eq_true rfl) (Or.inl rfl) q431 q104 ⟨Nat.le_of_ble_eq_true rfl, Nat.le_of_ble_eq_true rfl⟩ (fun v G1 H locs cells slots xG1 hq I => ?_) (fun a G9 H locs cells slots ex hq I => hq.elim)
  obtain ⟨r2, rfl, h⟩ := hq
  have h := h xG1
  refine lv_bipush (v := 20) C.1 C.2.1 dX1_add_9 (by decide) ?_
  refine lv_icmp_ne (tgt := 19) C.1 C.2.1 dX1_add_11 (by decide) (fun c11 => ?_) (fun c11 => ?_)
  · have h := h.1 c11
    refine l_ald_n C dX1_add_19 hl 0 rfl rfl ?_
    refine g_R C I fl_X1_25_1 (by decide) (by decide) (hth.ext (by decide) xG1) dX1_add_20 ?_
    refine l_ald_n C dX1_add_23 hl 1 rfl rfl ?_
    obtain ⟨ho8, h⟩ := h
    refine k_call Ext.tr C I (k_F (kd := 16) (r := gR G1 (ad th) 1) (As := [va_rf p0]) (rest := []) (y := yJ2_add) (x := ⟨"java/util/List", "add", "(Ljava/lang/Object;)Z"⟩) C (by decide) ⟨ho8.ad.1, I.recv C.2.2.2.2.1 ho8 (by decide)⟩ q1217 (by decide) q940 q939 q944 q942 q417 q941 q943 rfl pd_J2_add rfl dX1_add_24) (ct_J2_add h) hl.1 dX1_add_24 [] rfl (Nat.le_of_ble_eq_true rfl) (Or.inl rfl) q945 q104 ⟨Nat.le_of_ble_eq_true rfl, Nat.le_of_ble_eq_true rfl⟩ (fun v G3 H locs cells slots xG3 hq I => ?_) (fun a G9 H locs cells slots ex hq I => hq.elim)
    obtain ⟨r4, rfl, h⟩ := hq
    have h := h xG3
    refine lv_pop C.1 C.2.1 dX1_add_29 rfl ?_
    refine l_ald_n C dX1_add_30 hl 0 rfl rfl ?_
    refine g_R C I fl_X1_25_1 (by decide) (by decide) (hth.ext (by decide) (Ext.tr _ _ _ xG1 xG3)) dX1_add_31 ?_
    obtain ⟨ho7, h⟩ := h
    refine k_call Ext.tr C I (k_F (kd := 16) (r := gR G3 (ad th) 1) (As := []) (rest := []) (y := yJ2_size) (x := ⟨"java/util/List", "size", "()I"⟩) C (by decide) ⟨ho7.ad.1, I.recv C.2.2.2.2.1 ho7 (by decide)⟩ q424 (by decide) q426 q425 q430 q428 q417 q427 q429 rfl pd_J2_size rfl dX1_add_34) (ct_J2_size h) hl.1 dX1_add_34 [] rfl (Nat.le_of_ble_eq_true rfl) (Or.inl rfl) q431 q104 ⟨Nat.le_of_ble_eq_true rfl, Nat.le_of_ble_eq_true rfl⟩ (fun v G5 H locs cells slots xG5 hq I => ?_) (fun a G9 H locs cells slots ex hq I => hq.elim)
    obtain ⟨r6, rfl, h⟩ := hq
    have h := h xG5
    exact r_int C.1 C.2.1 C.2.2.2.2.2.1 rfl C.2.2.2.2.2.2 ⟨rfl, rfl⟩ I dX1_add_39 ⟨_, rfl, h⟩
  · have h := h.2 c11
    refine l_ald_n C dX1_add_14 hl 0 rfl rfl ?_
    refine k_call Ext.tr C I (k_V (r := th) (As := []) (rest := []) (y := yX1_refuse) C ⟨(hth.ext (by decide) xG1).ad.1, I.recv C.2.2.2.2.1 (hth.ext (by decide) xG1) (by decide)⟩ q1212 q1214 qs37 (Or.inl rfl) q1215 (by decide) rfl pd_X1_refuse rfl dX1_add_15) (ct_X1_refuse h) hl.1 dX1_add_15 [] rfl (Nat.le_of_ble_eq_true rfl) (Or.inl rfl) q1215 q100 ⟨Nat.le_of_ble_eq_true rfl, Nat.le_of_ble_eq_true rfl⟩ (fun v G9 H locs cells slots xG9 hq I => ?_) (fun a G9 H locs cells slots ex hq I => hq.elim)
    obtain ⟨r10, rfl, h⟩ := hq
    have h := h xG9
    exact r_int C.1 C.2.1 C.2.2.2.2.2.1 rfl C.2.2.2.2.2.2 ⟨rfl, rfl⟩ I dX1_add_18 ⟨_, rfl, h⟩
def w_X1_say_50 (T : Nat → ClassId) (Q : Int32 → Hp → Prop) (E : Nat → Hp → Prop) (th : Option Nat) (t0 : Int32) (G : Hp) : Prop := Q t0 G
set_option maxHeartbeats 4000000 in
theorem b_X1_say_50 {G0 : Hp} {Q : Int32 → Hp → Prop} {E : Nat → Hp → Prop} {th : Option Nat} (C : Cx p s m meth c D T Z "EndingTown" cX1_say 6 (some .int)) (hex : ∀ z ∈ c.exceptionTable.toList, ∀ pc, covers z pc = false) (hLf : l.flags = flags0) : ∀ (t0 : Int32) (G : Hp) (H : Heap) (locs : List Loc) (cells slots : Nat) (ls : Array Slot), w_X1_say_50 T Q E th t0 G → isO G th 1 → HI (twd D T Z) G0 s (rmX (twd D T Z) 8 249 G0) H locs cells slots G → LH ls 6 [] → W p l e (rmX (twd D T Z) 8 249 G0) s m args below meth c H locs cells slots (MQX (twd D T Z) G0 (qI Q) E below s) (F0 m 50 ls [.int t0]) := by
  intro t0 G H locs cells slots ls h hth I hl
  exact r_int C.1 C.2.1 C.2.2.2.2.2.1 rfl C.2.2.2.2.2.2 ⟨rfl, rfl⟩ I dX1_say_50 ⟨_, rfl, h⟩
def w_X1_say (T : Nat → ClassId) (Q : Int32 → Hp → Prop) (E : Nat → Hp → Prop) (th : Option Nat) (p0 : Int32) (p1 : Int32) (p2 : Int32) (p3 : Int32) (p4 : Int32) (G : Hp) : Prop := isO G th 1 ∧ (w_X1_aPerson T (fun G1 => Ext G G1 → w_X1_anHour T (fun G3 => Ext G1 G3 → w_X1_aThing T (fun G5 => Ext G3 G5 → w_X1_in T (fun r8 G7 => Ext G5 G7 → ((r8 = 0) → (w_X1_refuse T (fun r10 G9 => Ext G7 G9 → w_X1_say_50 T Q E th r10 G9) th G7)) ∧ ((¬ r8 = 0) → (1 ≤ gC G7 ∧ 5 ≤ gS G7 ∧ ∀ G11 : Hp, G11 = nw G7 15 0 5 → w_X18_init T (fun G12 => Ext G11 G12 → w_X1_add T (fun r15 G14 => Ext G12 G14 → w_X1_say_50 T Q E th r15 G14) th ((some (gZ G7))) G12) ((some (gZ G7))) p0 p1 p2 p3 p4 G11))) p3 ((0 : Int32)) ((4 : Int32)) G5) E th p2 G3) E th p1 G1) E th p0 G)
theorem pd_X1_say : (parseMethodDescriptor yX1_say.desc).map (fun d => d.parameters.length) = some 5 := by decide +kernel
set_option maxHeartbeats 4000000 in
theorem ct_X1_say {l : Launch} {D : va_G} {T : Nat → ClassId} {Z : Heap} {G0 : Hp} {Q : Int32 → Hp → Prop} {E : Nat → Hp → Prop} {th : Option Nat} {p0 : Int32} {p1 : Int32} {p2 : Int32} {p3 : Int32} {p4 : Int32} (hLf : l.flags = flags0) (hw : w_X1_say T Q E th p0 p1 p2 p3 p4 G0) : CT (twd D T Z) (Evd D T Z) l yX1_say (Cond.code yX1_say cX1_say 6 (some .int)) 8 249 [va_rf th, .int p0, .int p1, .int p2, .int p3, .int p4] G0 (qI Q) E := by
  refine CT.ofW (cc := cX1_say) (nL := 6) (ret := (some .int)) Ext.rf (by decide) (Or.inl rfl) ?_
  intro p e s m below meth c hx hb hml hown hr hlk hnm hcb hm hc hn hE I
  have C : Cx p s m meth c D T Z "EndingTown" cX1_say 6 (some .int) := ⟨hx, hb, hml, hown, hE, hr, hlk⟩
  have hex := noEx hn hm hc hcb
  refine w_entry [.inr (.inl th), .inl p0, .inl p1, .inl p2, .inl p3, .inl p4] (Nat.le_of_ble_eq_true rfl) (fun ls hl => ?_)
  have hl : LH ls 6 [(0, .inr (.inl th)), (1, .inl p0), (2, .inl p1), (3, .inl p2), (4, .inl p3), (5, .inl p4)] := hl
  obtain ⟨hth, h⟩ := hw
  refine l_ald_n C dX1_say_0 hl 0 rfl rfl ?_
  refine l_ild_n C dX1_say_1 hl 1 rfl rfl ?_
  refine k_call Ext.tr C I (k_V (r := th) (As := [.int p0]) (rest := []) (y := yX1_aPerson) C ⟨hth.ad.1, I.recv C.2.2.2.2.1 hth (by decide)⟩ q1089 q1091 qs32 (Or.inl rfl) q1092 (by decide) rfl pd_X1_aPerson rfl dX1_say_2) (ct_X1_aPerson hLf h) hl.1 dX1_say_2 [] rfl (Nat.le_of_ble_eq_true rfl) (Or.inl rfl) q1092 q100 ⟨Nat.le_of_ble_eq_true rfl, Nat.le_of_ble_eq_true rfl⟩ (fun v G1 H locs cells slots xG1 hq I => ?_) (fun a G9 H locs cells slots ex hq I => t_out C.2.2.2.2.2.2 ⟨rfl, rfl⟩ (fun z hz => hex z hz _) I hq)
  obtain ⟨rfl, h⟩ := hq
  have h := h xG1
  refine l_ald_n C dX1_say_5 hl 0 rfl rfl ?_
  refine l_ild_n C dX1_say_6 hl 2 rfl rfl ?_
  refine k_call Ext.tr C I (k_V (r := th) (As := [.int p1]) (rest := []) (y := yX1_anHour) C ⟨(hth.ext (by decide) xG1).ad.1, I.recv C.2.2.2.2.1 (hth.ext (by decide) xG1) (by decide)⟩ q1097 q1099 qs33 (Or.inl rfl) q1100 (by decide) rfl pd_X1_anHour rfl dX1_say_7) (ct_X1_anHour hLf h) hl.1 dX1_say_7 [] rfl (Nat.le_of_ble_eq_true rfl) (Or.inl rfl) q1100 q100 ⟨Nat.le_of_ble_eq_true rfl, Nat.le_of_ble_eq_true rfl⟩ (fun v G3 H locs cells slots xG3 hq I => ?_) (fun a G9 H locs cells slots ex hq I => t_out C.2.2.2.2.2.2 ⟨rfl, rfl⟩ (fun z hz => hex z hz _) I hq)
  obtain ⟨rfl, h⟩ := hq
  have h := h xG3
  refine l_ald_n C dX1_say_10 hl 0 rfl rfl ?_
  refine l_ild_n C dX1_say_11 hl 3 rfl rfl ?_
  refine k_call Ext.tr C I (k_V (r := th) (As := [.int p2]) (rest := []) (y := yX1_aThing) C ⟨(hth.ext (by decide) (Ext.tr _ _ _ xG1 xG3)).ad.1, I.recv C.2.2.2.2.1 (hth.ext (by decide) (Ext.tr _ _ _ xG1 xG3)) (by decide)⟩ q1109 q1111 qs34 (Or.inl rfl) q1112 (by decide) rfl pd_X1_aThing rfl dX1_say_12) (ct_X1_aThing hLf h) hl.1 dX1_say_12 [] rfl (Nat.le_of_ble_eq_true rfl) (Or.inl rfl) q1112 q100 ⟨Nat.le_of_ble_eq_true rfl, Nat.le_of_ble_eq_true rfl⟩ (fun v G5 H locs cells slots xG5 hq I => ?_) (fun a G9 H locs cells slots ex hq I => t_out C.2.2.2.2.2.2 ⟨rfl, rfl⟩ (fun z hz => hex z hz _) I hq)
  obtain ⟨rfl, h⟩ := hq
  have h := h xG5
  refine l_ild C dX1_say_15 hl 4 rfl ?_
  refine lv_iconst (v := 0) C.1 C.2.1 dX1_say_17 (by decide) ?_
  refine lv_iconst (v := 4) C.1 C.2.1 dX1_say_18 (by decide) ?_
  refine k_call Ext.tr C I (k_S (As := [.int p3, .int ((0 : Int32)), .int ((4 : Int32))]) (rest := []) (y := yX1_in) C q1093 q764 q100 (Or.inl rfl) q765 (by decide) rfl pd_X1_in rfl dX1_say_19) (ct_X1_in h) hl.1 dX1_say_19 [] rfl (Nat.le_of_ble_eq_true rfl) (Or.inl rfl) q765 q100 ⟨Nat.le_of_ble_eq_true rfl, Nat.le_of_ble_eq_true rfl⟩ (fun v G7 H locs cells slots xG7 hq I => ?_) (fun a G9 H locs cells slots ex hq I => hq.elim)
  obtain ⟨r8, rfl, h⟩ := hq
  have h := h xG7
  refine lv_if_eq (tgt := 46) C.1 C.2.1 dX1_say_22 (by decide) (fun c16 => ?_) (fun c16 => ?_)
  · have h := h.1 c16
    refine l_ald_n C dX1_say_46 hl 0 rfl rfl ?_
    refine k_call Ext.tr C I (k_V (r := th) (As := []) (rest := []) (y := yX1_refuse) C ⟨(hth.ext (by decide) (Ext.tr _ _ _ xG1 (Ext.tr _ _ _ xG3 (Ext.tr _ _ _ xG5 xG7)))).ad.1, I.recv C.2.2.2.2.1 (hth.ext (by decide) (Ext.tr _ _ _ xG1 (Ext.tr _ _ _ xG3 (Ext.tr _ _ _ xG5 xG7)))) (by decide)⟩ q1212 q1214 qs37 (Or.inl rfl) q1215 (by decide) rfl pd_X1_refuse rfl dX1_say_47) (ct_X1_refuse h) hl.1 dX1_say_47 [] rfl (Nat.le_of_ble_eq_true rfl) (Or.inl rfl) q1215 q100 ⟨Nat.le_of_ble_eq_true rfl, Nat.le_of_ble_eq_true rfl⟩ (fun v G9 H locs cells slots xG9 hq I => ?_) (fun a G9 H locs cells slots ex hq I => hq.elim)
    obtain ⟨r10, rfl, h⟩ := hq
    have h := h xG9
    exact b_X1_say_50 C hex hLf r10 G9 _ _ _ _ _ h (hth.ext (by decide) (Ext.tr _ _ _ xG1 (Ext.tr _ _ _ xG3 (Ext.tr _ _ _ xG5 (Ext.tr _ _ _ xG7 xG9))))) I (hl.sub [] rfl)
  · have h := h.2 c16
    refine l_ald_n C dX1_say_25 hl 0 rfl rfl ?_
    obtain ⟨hb1, hb2, h⟩ := h
    refine N_obj (kd := 15) C I (by decide) q562 ⟨hb1, hb2⟩ dX1_say_26 (fun H cells slots G11 eG11 xG11 I => ?_)
    have h := h G11 eG11
    have hnG11 : isO G11 (some (gZ G7)) 15 := ⟨_, rfl, by rw [eG11]; exact gK_nw⟩
    refine lv_dup C.1 C.2.1 dX1_say_29 (cat_rf _) ?_
    refine l_ild_n C dX1_say_30 hl 1 rfl rfl ?_
    refine l_ild_n C dX1_say_31 hl 2 rfl rfl ?_
    refine l_ild_n C dX1_say_32 hl 3 rfl rfl ?_
    refine l_ild C dX1_say_33 hl 4 rfl ?_
    refine l_ild C dX1_say_35 hl 5 rfl ?_
    refine k_call Ext.tr C I (k_I (r := (some (gZ G7))) (As := [.int p0, .int p1, .int p2, .int p3, .int p4]) (rest := [va_rf ((some (gZ G7))), va_rf th]) (y := yX18_init) C hnG11.ad.1 rfl q1174 q1175 q1176 (by decide) rfl pd_X18_init rfl dX1_say_37) (ct_X18_init h) hl.1 dX1_say_37 [.inr (.inl ((some (gZ G7)))), .inr (.inl th)] rfl (Nat.le_of_ble_eq_true rfl) (Or.inl rfl) q1176 q135 ⟨Nat.le_of_ble_eq_true rfl, Nat.le_of_ble_eq_true rfl⟩ (fun v G12 H locs cells slots xG12 hq I => ?_) (fun a G9 H locs cells slots ex hq I => hq.elim)
    obtain ⟨rfl, h⟩ := hq
    have h := h xG12
    refine k_call Ext.tr C I (k_V (r := th) (As := [va_rf ((some (gZ G7)))]) (rest := []) (y := yX1_add) C ⟨(hth.ext (by decide) (Ext.tr _ _ _ xG1 (Ext.tr _ _ _ xG3 (Ext.tr _ _ _ xG5 (Ext.tr _ _ _ xG7 (Ext.tr _ _ _ xG11 xG12)))))).ad.1, I.recv C.2.2.2.2.1 (hth.ext (by decide) (Ext.tr _ _ _ xG1 (Ext.tr _ _ _ xG3 (Ext.tr _ _ _ xG5 (Ext.tr _ _ _ xG7 (Ext.tr _ _ _ xG11 xG12)))))) (by decide)⟩ q1208 q1210 qs36 (Or.inl rfl) q1211 (by decide) rfl pd_X1_add rfl dX1_say_40) (ct_X1_add h) hl.1 dX1_say_40 [] rfl (Nat.le_of_ble_eq_true rfl) (Or.inl rfl) q1211 q100 ⟨Nat.le_of_ble_eq_true rfl, Nat.le_of_ble_eq_true rfl⟩ (fun v G14 H locs cells slots xG14 hq I => ?_) (fun a G9 H locs cells slots ex hq I => hq.elim)
    obtain ⟨r15, rfl, h⟩ := hq
    have h := h xG14
    refine lv_goto (tgt := 50) C.1 C.2.1 dX1_say_43 (by decide) ?_
    exact b_X1_say_50 C hex hLf r15 G14 _ _ _ _ _ h (hth.ext (by decide) (Ext.tr _ _ _ xG1 (Ext.tr _ _ _ xG3 (Ext.tr _ _ _ xG5 (Ext.tr _ _ _ xG7 (Ext.tr _ _ _ xG11 (Ext.tr _ _ _ xG12 xG14))))))) I (hl.sub [] rfl)
def w_X12_words_92 (T : Nat → ClassId) (Q : Option Nat → Hp → Prop) (th : Option Nat) (t0 : Option Nat) (G : Hp) : Prop := Q t0 G
set_option maxHeartbeats 4000000 in
theorem b_X12_words_92 {G0 : Hp} {Q : Option Nat → Hp → Prop} {th : Option Nat} (C : Cx p s m meth c D T Z "EndingTown$Reader" cX12_words 2 (some (.object "java/util/List"))) : ∀ (t0 : Option Nat) (G : Hp) (H : Heap) (locs : List Loc) (cells slots : Nat) (ls : Array Slot), w_X12_words_92 T Q th t0 G → isO G th 9 → HI (twd D T Z) G0 s (rmX (twd D T Z) 7 228 G0) H locs cells slots G → LH ls 2 [] → W p l e (rmX (twd D T Z) 7 228 G0) s m args below meth c H locs cells slots (MQX (twd D T Z) G0 (qR Q) (fun _ _ => False) below s) (F0 m 92 ls [va_rf t0]) := by
  intro t0 G H locs cells slots ls h hth I hl
  exact r_ref C.1 C.2.1 C.2.2.2.2.2.1 (Or.inl ⟨_, rfl⟩) C.2.2.2.2.2.2 ⟨rfl, rfl⟩ I dX12_words_92 ⟨_, rfl, h⟩
def w_X12_words_91 (T : Nat → ClassId) (Q : Option Nat → Hp → Prop) (th : Option Nat) (G : Hp) : Prop := w_X12_words_92 T Q th none G
set_option maxHeartbeats 4000000 in
theorem b_X12_words_91 {G0 : Hp} {Q : Option Nat → Hp → Prop} {th : Option Nat} (C : Cx p s m meth c D T Z "EndingTown$Reader" cX12_words 2 (some (.object "java/util/List"))) : ∀ (G : Hp) (H : Heap) (locs : List Loc) (cells slots : Nat) (ls : Array Slot), w_X12_words_91 T Q th G → isO G th 9 → HI (twd D T Z) G0 s (rmX (twd D T Z) 7 228 G0) H locs cells slots G → LH ls 2 [] → W p l e (rmX (twd D T Z) 7 228 G0) s m args below meth c H locs cells slots (MQX (twd D T Z) G0 (qR Q) (fun _ _ => False) below s) (F0 m 91 ls []) := by
  intro G H locs cells slots ls h hth I hl
  refine l_null C dX12_words_91 ?_
  exact b_X12_words_92 C none G _ _ _ _ _ h hth I (hl.sub [] rfl)
def w_X12_words_66 (T : Nat → ClassId) (Q : Option Nat → Hp → Prop) (th : Option Nat) (l1 : Option Nat) (G : Hp) : Prop := ((¬ gI G (ad th) 3 = 0) → (w_X12_words_91 T Q th G)) ∧ ((gI G (ad th) 3 = 0) → (isO G l1 16 ∧ w_J2_size T (fun r2 G1 => Ext G G1 → w_X1_in T (fun r4 G3 => Ext G1 G3 → ((r4 = 0) → (w_X12_words_91 T Q th G3)) ∧ ((¬ r4 = 0) → (w_X12_words_92 T Q th l1 G3))) r2 ((1 : Int32)) ((2 : Int32)) G1) l1 G))
set_option maxHeartbeats 4000000 in
theorem b_X12_words_66 {G0 : Hp} {Q : Option Nat → Hp → Prop} {th : Option Nat} (C : Cx p s m meth c D T Z "EndingTown$Reader" cX12_words 2 (some (.object "java/util/List"))) : ∀ (l1 : Option Nat) (G : Hp) (H : Heap) (locs : List Loc) (cells slots : Nat) (ls : Array Slot), w_X12_words_66 T Q th l1 G → isO G th 9 → HI (twd D T Z) G0 s (rmX (twd D T Z) 7 228 G0) H locs cells slots G → LH ls 2 [(0, .inr (.inl th)), (1, .inr (.inl l1))] → W p l e (rmX (twd D T Z) 7 228 G0) s m args below meth c H locs cells slots (MQX (twd D T Z) G0 (qR Q) (fun _ _ => False) below s) (F0 m 66 ls []) := by
  intro l1 G H locs cells slots ls h hth I hl
  refine l_ald_n C dX12_words_66 hl 0 rfl rfl ?_
  refine g_I C I fl_X12_44_9 (by decide) (by decide) hth dX12_words_67 ?_
  refine lv_if_ne (tgt := 91) C.1 C.2.1 dX12_words_70 (by decide) (fun c7 => ?_) (fun c7 => ?_)
  · have h := h.1 c7
    exact b_X12_words_91 C G _ _ _ _ _ h hth I (hl.sub [] rfl)
  · have h := h.2 c7
    refine l_ald_n C dX12_words_73 hl 1 rfl rfl ?_
    obtain ⟨ho6, h⟩ := h
    refine k_call Ext.tr C I (k_F (kd := 16) (r := l1) (As := []) (rest := []) (y := yJ2_size) (x := ⟨"java/util/List", "size", "()I"⟩) C (by decide) ⟨ho6.ad.1, I.recv C.2.2.2.2.1 ho6 (by decide)⟩ q890 (by decide) q426 q425 q430 q428 q417 q427 q429 rfl pd_J2_size rfl dX12_words_74) (ct_J2_size h) hl.1 dX12_words_74 [] rfl (Nat.le_of_ble_eq_true rfl) (Or.inl rfl) q431 q104 ⟨Nat.le_of_ble_eq_true rfl, Nat.le_of_ble_eq_true rfl⟩ (fun v G1 H locs cells slots xG1 hq I => ?_) (fun a G9 H locs cells slots ex hq I => hq.elim)
    obtain ⟨r2, rfl, h⟩ := hq
    have h := h xG1
    refine lv_iconst (v := 1) C.1 C.2.1 dX12_words_79 (by decide) ?_
    refine lv_iconst (v := 2) C.1 C.2.1 dX12_words_80 (by decide) ?_
    refine k_call Ext.tr C I (k_SN (As := [.int r2, .int ((1 : Int32)), .int ((2 : Int32))]) (rest := []) (y := yX1_in) C q763 q764 q100 (Or.inl rfl) q765 (by decide) rfl pd_X1_in rfl dX12_words_81) (ct_X1_in h) hl.1 dX12_words_81 [] rfl (Nat.le_of_ble_eq_true rfl) (Or.inl rfl) q765 q100 ⟨Nat.le_of_ble_eq_true rfl, Nat.le_of_ble_eq_true rfl⟩ (fun v G3 H locs cells slots xG3 hq I => ?_) (fun a G9 H locs cells slots ex hq I => hq.elim)
    obtain ⟨r4, rfl, h⟩ := hq
    have h := h xG3
    refine lv_if_eq (tgt := 91) C.1 C.2.1 dX12_words_84 (by decide) (fun c5 => ?_) (fun c5 => ?_)
    · have h := h.1 c5
      exact b_X12_words_91 C G3 _ _ _ _ _ h (hth.ext (by decide) (Ext.tr _ _ _ xG1 xG3)) I (hl.sub [] rfl)
    · have h := h.2 c5
      refine l_ald_n C dX12_words_87 hl 1 rfl rfl ?_
      refine lv_goto (tgt := 92) C.1 C.2.1 dX12_words_88 (by decide) ?_
      exact b_X12_words_92 C l1 G3 _ _ _ _ _ h (hth.ext (by decide) (Ext.tr _ _ _ xG1 xG3)) I (hl.sub [] rfl)
def w_X12_words_12 (T : Nat → ClassId) (Q : Option Nat → Hp → Prop) (th : Option Nat) : Nat → Option Nat → Hp → Prop
  | 0 => fun _ _ => False
  | f12 + 1 => fun l1 G => ((¬ gI G (ad th) 3 = (1 : Int32)) → (w_X12_words_66 T Q th l1 G)) ∧ ((gI G (ad th) 3 = (1 : Int32)) → (isO G l1 16 ∧ w_J2_size T (fun r2 G1 => Ext G G1 → (((3 : Int32) ≤ r2) → (w_X12_words_66 T Q th l1 G1)) ∧ ((¬ (3 : Int32) ≤ r2) → (1 ≤ gC G1 ∧ 1 ≤ gS G1 ∧ ∀ G3 : Hp, G3 = nw G1 13 0 1 → isO G3 (gR G3 (ad th) 9) 1 ∧ w_X16_init T (fun G5 => Ext G3 G5 → isO G5 l1 16 ∧ w_J2_add T (fun r8 G7 => Ext G5 G7 → w_X12_next T (fun G9 => Ext G7 G9 → (w_X12_words_12 T Q th f12) l1 G9) th G7) l1 ((some (gZ G1))) G5) ((some (gZ G1))) (gR G3 (ad (gR G3 (ad th) 9)) 4) (gI G3 (ad th) 4) (gI G3 (ad th) 5) G3))) l1 G))
set_option maxHeartbeats 4000000 in
theorem b_X12_words_12 {G0 : Hp} {Q : Option Nat → Hp → Prop} {th : Option Nat} (C : Cx p s m meth c D T Z "EndingTown$Reader" cX12_words 2 (some (.object "java/util/List"))) : ∀ (n : Nat) (l1 : Option Nat) (G : Hp) (H : Heap) (locs : List Loc) (cells slots : Nat) (ls : Array Slot), w_X12_words_12 T Q th n l1 G → isO G th 9 → HI (twd D T Z) G0 s (rmX (twd D T Z) 7 228 G0) H locs cells slots G → LH ls 2 [(0, .inr (.inl th)), (1, .inr (.inl l1))] → W p l e (rmX (twd D T Z) 7 228 G0) s m args below meth c H locs cells slots (MQX (twd D T Z) G0 (qR Q) (fun _ _ => False) below s) (F0 m 12 ls []) := by
  intro f12
  induction f12 with
  | zero => intro l1 G H locs cells slots ls h; exact (show False from h).elim
  | succ f12 ih =>
    intro l1 G H locs cells slots ls h hth I hl
    have h : ((¬ gI G (ad th) 3 = (1 : Int32)) → (w_X12_words_66 T Q th l1 G)) ∧ ((gI G (ad th) 3 = (1 : Int32)) → (isO G l1 16 ∧ w_J2_size T (fun r2 G1 => Ext G G1 → (((3 : Int32) ≤ r2) → (w_X12_words_66 T Q th l1 G1)) ∧ ((¬ (3 : Int32) ≤ r2) → (1 ≤ gC G1 ∧ 1 ≤ gS G1 ∧ ∀ G3 : Hp, G3 = nw G1 13 0 1 → isO G3 (gR G3 (ad th) 9) 1 ∧ w_X16_init T (fun G5 => Ext G3 G5 → isO G5 l1 16 ∧ w_J2_add T (fun r8 G7 => Ext G5 G7 → w_X12_next T (fun G9 => Ext G7 G9 → (w_X12_words_12 T Q th f12) l1 G9) th G7) l1 ((some (gZ G1))) G5) ((some (gZ G1))) (gR G3 (ad (gR G3 (ad th) 9)) 4) (gI G3 (ad th) 4) (gI G3 (ad th) 5) G3))) l1 G)) := h
    have hk12 := ih
    refine l_ald_n C dX12_words_12 hl 0 rfl rfl ?_
    refine g_I C I fl_X12_44_9 (by decide) (by decide) hth dX12_words_13 ?_
    refine lv_iconst (v := 1) C.1 C.2.1 dX12_words_16 (by decide) ?_
    refine lv_icmp_ne (tgt := 66) C.1 C.2.1 dX12_words_17 (by decide) (fun c14 => ?_) (fun c14 => ?_)
    · have h := h.1 c14
      exact b_X12_words_66 C l1 G _ _ _ _ _ h hth I (hl.sub [0, 1] rfl)
    · have h := h.2 c14
      refine l_ald_n C dX12_words_20 hl 1 rfl rfl ?_
      obtain ⟨ho13, h⟩ := h
      refine k_call Ext.tr C I (k_F (kd := 16) (r := l1) (As := []) (rest := []) (y := yJ2_size) (x := ⟨"java/util/List", "size", "()I"⟩) C (by decide) ⟨ho13.ad.1, I.recv C.2.2.2.2.1 ho13 (by decide)⟩ q890 (by decide) q426 q425 q430 q428 q417 q427 q429 rfl pd_J2_size rfl dX12_words_21) (ct_J2_size h) hl.1 dX12_words_21 [] rfl (Nat.le_of_ble_eq_true rfl) (Or.inl rfl) q431 q104 ⟨Nat.le_of_ble_eq_true rfl, Nat.le_of_ble_eq_true rfl⟩ (fun v G1 H locs cells slots xG1 hq I => ?_) (fun a G9 H locs cells slots ex hq I => hq.elim)
      obtain ⟨r2, rfl, h⟩ := hq
      have h := h xG1
      refine lv_iconst (v := 3) C.1 C.2.1 dX12_words_26 (by decide) ?_
      refine lv_icmp_ge (tgt := 66) C.1 C.2.1 dX12_words_27 (by decide) (fun c12 => ?_) (fun c12 => ?_)
      · have h := h.1 c12
        exact b_X12_words_66 C l1 G1 _ _ _ _ _ h (hth.ext (by decide) xG1) I (hl.sub [0, 1] rfl)
      · have h := h.2 c12
        refine l_ald_n C dX12_words_30 hl 1 rfl rfl ?_
        obtain ⟨hb1, hb2, h⟩ := h
        refine N_obj (kd := 13) C I (by decide) q1017 ⟨hb1, hb2⟩ dX12_words_31 (fun H cells slots G3 eG3 xG3 I => ?_)
        have h := h G3 eG3
        have hnG3 : isO G3 (some (gZ G1)) 13 := ⟨_, rfl, by rw [eG3]; exact gK_nw⟩
        refine lv_dup C.1 C.2.1 dX12_words_34 (cat_rf _) ?_
        refine l_ald_n C dX12_words_35 hl 0 rfl rfl ?_
        refine g_R C I fl_X12_3_9 (by decide) (by decide) (hth.ext (by decide) (Ext.tr _ _ _ xG1 xG3)) dX12_words_36 ?_
        obtain ⟨ho4, h⟩ := h
        refine g_R C I fl_X12_29_1 (by decide) (by decide) ho4 dX12_words_39 ?_
        refine l_ald_n C dX12_words_42 hl 0 rfl rfl ?_
        refine g_I C I fl_X12_41_9 (by decide) (by decide) (hth.ext (by decide) (Ext.tr _ _ _ xG1 xG3)) dX12_words_43 ?_
        refine l_ald_n C dX12_words_46 hl 0 rfl rfl ?_
        refine g_I C I fl_X12_63_9 (by decide) (by decide) (hth.ext (by decide) (Ext.tr _ _ _ xG1 xG3)) dX12_words_47 ?_
        refine k_call Ext.tr C I (k_I (r := (some (gZ G1))) (As := [va_rf (gR G3 (ad (gR G3 (ad th) 9)) 4), .int (gI G3 (ad th) 4), .int (gI G3 (ad th) 5)]) (rest := [va_rf ((some (gZ G1))), va_rf l1]) (y := yX16_init) C hnG3.ad.1 rfl q1019 q1020 q1021 (by decide) rfl pd_X16_init rfl dX12_words_50) (ct_X16_init h) hl.1 dX12_words_50 [.inr (.inl ((some (gZ G1)))), .inr (.inl l1)] rfl (Nat.le_of_ble_eq_true rfl) (Or.inl rfl) q1021 q131 ⟨Nat.le_of_ble_eq_true rfl, Nat.le_of_ble_eq_true rfl⟩ (fun v G5 H locs cells slots xG5 hq I => ?_) (fun a G9 H locs cells slots ex hq I => hq.elim)
        obtain ⟨rfl, h⟩ := hq
        have h := h xG5
        obtain ⟨ho11, h⟩ := h
        refine k_call Ext.tr C I (k_F (kd := 16) (r := l1) (As := [va_rf ((some (gZ G1)))]) (rest := []) (y := yJ2_add) (x := ⟨"java/util/List", "add", "(Ljava/lang/Object;)Z"⟩) C (by decide) ⟨ho11.ad.1, I.recv C.2.2.2.2.1 ho11 (by decide)⟩ q938 (by decide) q940 q939 q944 q942 q417 q941 q943 rfl pd_J2_add rfl dX12_words_53) (ct_J2_add h) hl.1 dX12_words_53 [] rfl (Nat.le_of_ble_eq_true rfl) (Or.inl rfl) q945 q104 ⟨Nat.le_of_ble_eq_true rfl, Nat.le_of_ble_eq_true rfl⟩ (fun v G7 H locs cells slots xG7 hq I => ?_) (fun a G9 H locs cells slots ex hq I => hq.elim)
        obtain ⟨r8, rfl, h⟩ := hq
        have h := h xG7
        refine lv_pop C.1 C.2.1 dX12_words_58 rfl ?_
        refine l_ald_n C dX12_words_59 hl 0 rfl rfl ?_
        refine k_call Ext.tr C I (k_V (r := th) (As := []) (rest := []) (y := yX12_next) C ⟨(hth.ext (by decide) (Ext.tr _ _ _ xG1 (Ext.tr _ _ _ xG3 (Ext.tr _ _ _ xG5 xG7)))).ad.1, I.recv C.2.2.2.2.1 (hth.ext (by decide) (Ext.tr _ _ _ xG1 (Ext.tr _ _ _ xG3 (Ext.tr _ _ _ xG5 xG7)))) (by decide)⟩ q751 q752 q753 (Or.inl rfl) q754 (by decide) rfl pd_X12_next rfl dX12_words_60) (ct_X12_next h) hl.1 dX12_words_60 [] rfl (Nat.le_of_ble_eq_true rfl) (Or.inl rfl) q754 q118 ⟨Nat.le_of_ble_eq_true rfl, Nat.le_of_ble_eq_true rfl⟩ (fun v G9 H locs cells slots xG9 hq I => ?_) (fun a G9 H locs cells slots ex hq I => hq.elim)
        obtain ⟨rfl, h⟩ := hq
        have h := h xG9
        refine lv_goto (tgt := 12) C.1 C.2.1 dX12_words_63 (by decide) ?_
        exact hk12 l1 G9 _ _ _ _ _ h (hth.ext (by decide) (Ext.tr _ _ _ xG1 (Ext.tr _ _ _ xG3 (Ext.tr _ _ _ xG5 (Ext.tr _ _ _ xG7 xG9))))) I (hl.sub [0, 1] rfl)
def w_X12_words (T : Nat → ClassId) (Q : Option Nat → Hp → Prop) (th : Option Nat) (G : Hp) : Prop := isO G th 9 ∧ (1 ≤ gC G ∧ 3 ≤ gS G ∧ ∀ G1 : Hp, G1 = nw G 16 0 3 → w_J2_init T (fun G2 => Ext G1 G2 → w_X12_next T (fun G4 => Ext G2 G4 → ∃ n, w_X12_words_12 T Q th n ((some (gZ G))) G4) th G2) ((some (gZ G))) G1)
theorem pd_X12_words : (parseMethodDescriptor yX12_words.desc).map (fun d => d.parameters.length) = some 0 := by decide +kernel
set_option maxHeartbeats 4000000 in
theorem ct_X12_words {l : Launch} {D : va_G} {T : Nat → ClassId} {Z : Heap} {G0 : Hp} {Q : Option Nat → Hp → Prop} {th : Option Nat} (hw : w_X12_words T Q th G0) : CT (twd D T Z) (Evd D T Z) l yX12_words (Cond.code yX12_words cX12_words 2 (some (.object "java/util/List"))) 7 228 [va_rf th] G0 (qR Q) (fun _ _ => False) := by
  refine CT.ofW (cc := cX12_words) (nL := 2) (ret := (some (.object "java/util/List"))) Ext.rf (by decide) (Or.inl rfl) ?_
  intro p e s m below meth c hx hb hml hown hr hlk hnm hcb hm hc hn hE I
  have C : Cx p s m meth c D T Z "EndingTown$Reader" cX12_words 2 (some (.object "java/util/List")) := ⟨hx, hb, hml, hown, hE, hr, hlk⟩
  refine w_entry [.inr (.inl th)] (Nat.le_of_ble_eq_true rfl) (fun ls hl => ?_)
  have hl : LH ls 2 [(0, .inr (.inl th))] := hl
  obtain ⟨hth, h⟩ := hw
  obtain ⟨hb1, hb2, h⟩ := h
  refine N_obj (kd := 16) C I (by decide) q1229 ⟨hb1, hb2⟩ dX12_words_0 (fun H cells slots G1 eG1 xG1 I => ?_)
  have h := h G1 eG1
  have hnG1 : isO G1 (some (gZ G0)) 16 := ⟨_, rfl, by rw [eG1]; exact gK_nw⟩
  refine lv_dup C.1 C.2.1 dX12_words_3 (cat_rf _) ?_
  refine k_call Ext.tr C I (k_I (r := (some (gZ G0))) (As := []) (rest := [va_rf ((some (gZ G0)))]) (y := yJ2_init) C hnG1.ad.1 rfl q1230 q153 q154 (by decide) rfl pd_J2_init rfl dX12_words_4) (ct_J2_init h) hl.1 dX12_words_4 [.inr (.inl ((some (gZ G0))))] rfl (Nat.le_of_ble_eq_true rfl) (Or.inl rfl) q154 q104 ⟨Nat.le_of_ble_eq_true rfl, Nat.le_of_ble_eq_true rfl⟩ (fun v G2 H locs cells slots xG2 hq I => ?_) (fun a G9 H locs cells slots ex hq I => hq.elim)
  obtain ⟨rfl, h⟩ := hq
  have h := h xG2
  refine l_ast_n C dX12_words_7 rfl hl (by decide) rfl (fun ls hl => ?_)
  have hl : LH ls 2 [(1, .inr (.inl ((some (gZ G0))))), (0, .inr (.inl th))] := hl
  refine l_ald_n C dX12_words_8 hl 1 rfl rfl ?_
  refine k_call Ext.tr C I (k_V (r := th) (As := []) (rest := []) (y := yX12_next) C ⟨(hth.ext (by decide) (Ext.tr _ _ _ xG1 xG2)).ad.1, I.recv C.2.2.2.2.1 (hth.ext (by decide) (Ext.tr _ _ _ xG1 xG2)) (by decide)⟩ q751 q752 q753 (Or.inl rfl) q754 (by decide) rfl pd_X12_next rfl dX12_words_9) (ct_X12_next h) hl.1 dX12_words_9 [] rfl (Nat.le_of_ble_eq_true rfl) (Or.inl rfl) q754 q118 ⟨Nat.le_of_ble_eq_true rfl, Nat.le_of_ble_eq_true rfl⟩ (fun v G4 H locs cells slots xG4 hq I => ?_) (fun a G9 H locs cells slots ex hq I => hq.elim)
  obtain ⟨rfl, h⟩ := hq
  have h := h xG4
  obtain ⟨n, h⟩ := h
  exact b_X12_words_12 C n ((some (gZ G0))) G4 _ _ _ _ _ h (hth.ext (by decide) (Ext.tr _ _ _ xG1 (Ext.tr _ _ _ xG2 xG4))) I (hl.sub [1, 0] rfl)
def w_X1_utter_116 (T : Nat → ClassId) (Q : Int32 → Hp → Prop) (E : Nat → Hp → Prop) (th : Option Nat) (G : Hp) : Prop := w_X1_refuse T (fun r2 G1 => Ext G G1 → Q r2 G1) th G
set_option maxHeartbeats 4000000 in
theorem b_X1_utter_116 {G0 : Hp} {Q : Int32 → Hp → Prop} {E : Nat → Hp → Prop} {th : Option Nat} (C : Cx p s m meth c D T Z "EndingTown" cX1_utter 9 (some .int)) (hex : ∀ z ∈ c.exceptionTable.toList, ∀ pc, covers z pc = false) (hLf : l.flags = flags0) : ∀ (G : Hp) (H : Heap) (locs : List Loc) (cells slots : Nat) (ls : Array Slot), w_X1_utter_116 T Q E th G → isO G th 1 → HI (twd D T Z) G0 s (rmX (twd D T Z) 8 249 G0) H locs cells slots G → LH ls 9 [(0, .inr (.inl th))] → W p l e (rmX (twd D T Z) 8 249 G0) s m args below meth c H locs cells slots (MQX (twd D T Z) G0 (qI Q) E below s) (F0 m 116 ls []) := by
  intro G H locs cells slots ls h hth I hl
  refine l_ald_n C dX1_utter_116 hl 0 rfl rfl ?_
  refine k_call Ext.tr C I (k_V (r := th) (As := []) (rest := []) (y := yX1_refuse) C ⟨hth.ad.1, I.recv C.2.2.2.2.1 hth (by decide)⟩ q1212 q1214 qs37 (Or.inl rfl) q1215 (by decide) rfl pd_X1_refuse rfl dX1_utter_117) (ct_X1_refuse h) hl.1 dX1_utter_117 [] rfl (Nat.le_of_ble_eq_true rfl) (Or.inl rfl) q1215 q100 ⟨Nat.le_of_ble_eq_true rfl, Nat.le_of_ble_eq_true rfl⟩ (fun v G1 H locs cells slots xG1 hq I => ?_) (fun a G9 H locs cells slots ex hq I => hq.elim)
  obtain ⟨r2, rfl, h⟩ := hq
  have h := h xG1
  exact r_int C.1 C.2.1 C.2.2.2.2.2.1 rfl C.2.2.2.2.2.2 ⟨rfl, rfl⟩ I dX1_utter_120 ⟨_, rfl, h⟩
def w_X1_utter_199 (T : Nat → ClassId) (Q : Int32 → Hp → Prop) (E : Nat → Hp → Prop) (th : Option Nat) (G : Hp) : Prop := w_X1_refuse T (fun r2 G1 => Ext G G1 → Q r2 G1) th G
set_option maxHeartbeats 4000000 in
theorem b_X1_utter_199 {G0 : Hp} {Q : Int32 → Hp → Prop} {E : Nat → Hp → Prop} {th : Option Nat} (C : Cx p s m meth c D T Z "EndingTown" cX1_utter 9 (some .int)) (hex : ∀ z ∈ c.exceptionTable.toList, ∀ pc, covers z pc = false) (hLf : l.flags = flags0) : ∀ (G : Hp) (H : Heap) (locs : List Loc) (cells slots : Nat) (ls : Array Slot), w_X1_utter_199 T Q E th G → isO G th 1 → HI (twd D T Z) G0 s (rmX (twd D T Z) 8 249 G0) H locs cells slots G → LH ls 9 [(0, .inr (.inl th))] → W p l e (rmX (twd D T Z) 8 249 G0) s m args below meth c H locs cells slots (MQX (twd D T Z) G0 (qI Q) E below s) (F0 m 199 ls []) := by
  intro G H locs cells slots ls h hth I hl
  refine l_ald_n C dX1_utter_199 hl 0 rfl rfl ?_
  refine k_call Ext.tr C I (k_V (r := th) (As := []) (rest := []) (y := yX1_refuse) C ⟨hth.ad.1, I.recv C.2.2.2.2.1 hth (by decide)⟩ q1212 q1214 qs37 (Or.inl rfl) q1215 (by decide) rfl pd_X1_refuse rfl dX1_utter_200) (ct_X1_refuse h) hl.1 dX1_utter_200 [] rfl (Nat.le_of_ble_eq_true rfl) (Or.inl rfl) q1215 q100 ⟨Nat.le_of_ble_eq_true rfl, Nat.le_of_ble_eq_true rfl⟩ (fun v G1 H locs cells slots xG1 hq I => ?_) (fun a G9 H locs cells slots ex hq I => hq.elim)
  obtain ⟨r2, rfl, h⟩ := hq
  have h := h xG1
  exact r_int C.1 C.2.1 C.2.2.2.2.2.1 rfl C.2.2.2.2.2.2 ⟨rfl, rfl⟩ I dX1_utter_203 ⟨_, rfl, h⟩
def w_X1_utter_179 (T : Nat → ClassId) (Q : Int32 → Hp → Prop) (E : Nat → Hp → Prop) (th : Option Nat) (l1 : Int32) (l2 : Int32) (l5 : Int32) (l6 : Option Nat) (t0 : Int32) (G : Hp) : Prop := ((t0 = (-1 : Int32)) → (w_X1_utter_199 T Q E th G)) ∧ ((¬ t0 = (-1 : Int32)) → (isO G l6 50 ∧ vp_in ((0 : Int32)) (gN G (ad l6)) ∧ ((((gI G (ad l6) ((0 : Int32)).toNatClampNeg / (5 : Int32)) - (gI G (ad l6) ((0 : Int32)).toNatClampNeg / (5 : Int32)) / (3 : Int32) * (3 : Int32)) = (2 : Int32)) → (1 ≤ gC G ∧ 5 ≤ gS G ∧ ∀ G2 : Hp, G2 = nw G 15 0 5 → vp_in ((0 : Int32)) (gN G2 (ad l6)) ∧ w_X18_init T (fun G3 => Ext G2 G3 → w_X1_add T (fun r6 G5 => Ext G3 G5 → Q r6 G5) th ((some (gZ G))) G3) ((some (gZ G))) l1 l2 t0 ((gI G2 (ad l6) ((0 : Int32)).toNatClampNeg - gI G2 (ad l6) ((0 : Int32)).toNatClampNeg / (5 : Int32) * (5 : Int32))) l5 G2)) ∧ ((¬ ((gI G (ad l6) ((0 : Int32)).toNatClampNeg / (5 : Int32)) - (gI G (ad l6) ((0 : Int32)).toNatClampNeg / (5 : Int32)) / (3 : Int32) * (3 : Int32)) = (2 : Int32)) → (w_X1_utter_199 T Q E th G))))
set_option maxHeartbeats 4000000 in
theorem b_X1_utter_179 {G0 : Hp} {Q : Int32 → Hp → Prop} {E : Nat → Hp → Prop} {th : Option Nat} (C : Cx p s m meth c D T Z "EndingTown" cX1_utter 9 (some .int)) (hex : ∀ z ∈ c.exceptionTable.toList, ∀ pc, covers z pc = false) (hLf : l.flags = flags0) : ∀ (l1 : Int32) (l2 : Int32) (l5 : Int32) (l6 : Option Nat) (t0 : Int32) (G : Hp) (H : Heap) (locs : List Loc) (cells slots : Nat) (ls : Array Slot), w_X1_utter_179 T Q E th l1 l2 l5 l6 t0 G → isO G th 1 → HI (twd D T Z) G0 s (rmX (twd D T Z) 8 249 G0) H locs cells slots G → LH ls 9 [(0, .inr (.inl th)), (1, .inl l1), (2, .inl l2), (5, .inl l5), (6, .inr (.inl l6))] → W p l e (rmX (twd D T Z) 8 249 G0) s m args below meth c H locs cells slots (MQX (twd D T Z) G0 (qI Q) E below s) (F0 m 179 ls [.int t0]) := by
  intro l1 l2 l5 l6 t0 G H locs cells slots ls h hth I hl
  refine l_ist C dX1_utter_179 hl (by decide) rfl (fun ls hl => ?_)
  have hl : LH ls 9 [(8, .inl t0), (0, .inr (.inl th)), (1, .inl l1), (2, .inl l2), (5, .inl l5), (6, .inr (.inl l6))] := hl
  refine l_ild C dX1_utter_181 hl 0 rfl ?_
  refine lv_iconst (v := (-1)) C.1 C.2.1 dX1_utter_183 (by decide) ?_
  refine lv_icmp_eq (tgt := 199) C.1 C.2.1 dX1_utter_184 (by decide) (fun c8 => ?_) (fun c8 => ?_)
  · have h := h.1 c8
    exact b_X1_utter_199 C hex hLf G _ _ _ _ _ h hth I (hl.sub [1] rfl)
  · have h := h.2 c8
    refine l_ald C dX1_utter_187 hl 5 rfl ?_
    refine lv_iconst (v := 0) C.1 C.2.1 dX1_utter_189 (by decide) ?_
    obtain ⟨ho1, h⟩ := h
    obtain ⟨hi, h⟩ := h
    refine a_iald C I ho1 hi dX1_utter_190 ?_
    refine lv_iconst (v := 5) C.1 C.2.1 dX1_utter_191 (by decide) ?_
    refine lv_idiv C.1 C.2.1 dX1_utter_192 (by decide) ?_
    refine lv_iconst (v := 3) C.1 C.2.1 dX1_utter_193 (by decide) ?_
    refine lv_irem C.1 C.2.1 dX1_utter_194 (by decide) ?_
    refine lv_iconst (v := 2) C.1 C.2.1 dX1_utter_195 (by decide) ?_
    refine lv_icmp_eq (tgt := 204) C.1 C.2.1 dX1_utter_196 (by decide) (fun c7 => ?_) (fun c7 => ?_)
    · have h := h.1 c7
      refine l_ald_n C dX1_utter_204 hl 1 rfl rfl ?_
      obtain ⟨hb1, hb2, h⟩ := h
      refine N_obj (kd := 15) C I (by decide) q562 ⟨hb1, hb2⟩ dX1_utter_205 (fun H cells slots G2 eG2 xG2 I => ?_)
      have h := h G2 eG2
      have hnG2 : isO G2 (some (gZ G)) 15 := ⟨_, rfl, by rw [eG2]; exact gK_nw⟩
      refine lv_dup C.1 C.2.1 dX1_utter_208 (cat_rf _) ?_
      refine l_ild_n C dX1_utter_209 hl 2 rfl rfl ?_
      refine l_ild_n C dX1_utter_210 hl 3 rfl rfl ?_
      refine l_ild C dX1_utter_211 hl 0 rfl ?_
      refine l_ald C dX1_utter_213 hl 5 rfl ?_
      refine lv_iconst (v := 0) C.1 C.2.1 dX1_utter_215 (by decide) ?_
      obtain ⟨hi, h⟩ := h
      refine a_iald C I (ho1.ext (by decide) xG2) hi dX1_utter_216 ?_
      refine lv_iconst (v := 5) C.1 C.2.1 dX1_utter_217 (by decide) ?_
      refine lv_irem C.1 C.2.1 dX1_utter_218 (by decide) ?_
      refine l_ild C dX1_utter_219 hl 4 rfl ?_
      refine k_call Ext.tr C I (k_I (r := (some (gZ G))) (As := [.int l1, .int l2, .int t0, .int ((gI G2 (ad l6) ((0 : Int32)).toNatClampNeg - gI G2 (ad l6) ((0 : Int32)).toNatClampNeg / (5 : Int32) * (5 : Int32))), .int l5]) (rest := [va_rf ((some (gZ G))), va_rf th]) (y := yX18_init) C hnG2.ad.1 rfl q1174 q1175 q1176 (by decide) rfl pd_X18_init rfl dX1_utter_221) (ct_X18_init h) hl.1 dX1_utter_221 [.inr (.inl ((some (gZ G)))), .inr (.inl th)] rfl (Nat.le_of_ble_eq_true rfl) (Or.inl rfl) q1176 q135 ⟨Nat.le_of_ble_eq_true rfl, Nat.le_of_ble_eq_true rfl⟩ (fun v G3 H locs cells slots xG3 hq I => ?_) (fun a G9 H locs cells slots ex hq I => hq.elim)
      obtain ⟨rfl, h⟩ := hq
      have h := h xG3
      refine k_call Ext.tr C I (k_V (r := th) (As := [va_rf ((some (gZ G)))]) (rest := []) (y := yX1_add) C ⟨(hth.ext (by decide) (Ext.tr _ _ _ xG2 xG3)).ad.1, I.recv C.2.2.2.2.1 (hth.ext (by decide) (Ext.tr _ _ _ xG2 xG3)) (by decide)⟩ q1208 q1210 qs36 (Or.inl rfl) q1211 (by decide) rfl pd_X1_add rfl dX1_utter_224) (ct_X1_add h) hl.1 dX1_utter_224 [] rfl (Nat.le_of_ble_eq_true rfl) (Or.inl rfl) q1211 q100 ⟨Nat.le_of_ble_eq_true rfl, Nat.le_of_ble_eq_true rfl⟩ (fun v G5 H locs cells slots xG5 hq I => ?_) (fun a G9 H locs cells slots ex hq I => hq.elim)
      obtain ⟨r6, rfl, h⟩ := hq
      have h := h xG5
      exact r_int C.1 C.2.1 C.2.2.2.2.2.1 rfl C.2.2.2.2.2.2 ⟨rfl, rfl⟩ I dX1_utter_227 ⟨_, rfl, h⟩
    · have h := h.2 c7
      exact b_X1_utter_199 C hex hLf G _ _ _ _ _ h hth I (hl.sub [1] rfl)
def w_X1_utter_121 (T : Nat → ClassId) (Q : Int32 → Hp → Prop) (E : Nat → Hp → Prop) (th : Option Nat) (l1 : Int32) (l2 : Int32) (l4 : Option Nat) (l5 : Int32) (G : Hp) : Prop := (¬ (180 : Int32) < 0 ∧ ((180 : Int32)).toNatClampNeg ≤ 100000 ∧ 1 ≤ gC G ∧ ((180 : Int32)).toNatClampNeg ≤ gS G) ∧ ∀ G1 : Hp, G1 = nw G 50 ((180 : Int32)).toNatClampNeg ((180 : Int32)).toNatClampNeg → isO G1 l4 16 ∧ w_J2_size T (fun r3 G2 => Ext G1 G2 → isO G2 l4 16 ∧ w_J2_get T (fun r5 G4 => Ext G2 G4 → (r5 = none ∨ isO G4 r5 13) ∧ w_X1_waysOf T (fun r7 G6 => Ext G4 G6 → ((¬ r7 = (1 : Int32)) → (w_X1_utter_179 T Q E th l1 l2 l5 ((some (gZ G))) ((-1 : Int32)) G6)) ∧ ((r7 = (1 : Int32)) → (vp_in ((0 : Int32)) (gN G6 (ad ((some (gZ G))))) ∧ isO G6 (gR G6 (ad th) 0) 2 ∧ w_X2_thingOf T (fun r9 G8 => Ext G6 G8 → w_X1_utter_179 T Q E th l1 l2 l5 ((some (gZ G))) r9 G8) (gR G6 (ad th) 0) ((gI G6 (ad ((some (gZ G)))) ((0 : Int32)).toNatClampNeg / (15 : Int32))) G6))) th r5 ((some (gZ G))) G4) l4 ((r3 - (1 : Int32))) G2) l4 G1
set_option maxHeartbeats 4000000 in
theorem b_X1_utter_121 {G0 : Hp} {Q : Int32 → Hp → Prop} {E : Nat → Hp → Prop} {th : Option Nat} (C : Cx p s m meth c D T Z "EndingTown" cX1_utter 9 (some .int)) (hex : ∀ z ∈ c.exceptionTable.toList, ∀ pc, covers z pc = false) (hLf : l.flags = flags0) : ∀ (l1 : Int32) (l2 : Int32) (l4 : Option Nat) (l5 : Int32) (G : Hp) (H : Heap) (locs : List Loc) (cells slots : Nat) (ls : Array Slot), w_X1_utter_121 T Q E th l1 l2 l4 l5 G → isO G th 1 → HI (twd D T Z) G0 s (rmX (twd D T Z) 8 249 G0) H locs cells slots G → LH ls 9 [(0, .inr (.inl th)), (1, .inl l1), (2, .inl l2), (4, .inr (.inl l4)), (5, .inl l5)] → W p l e (rmX (twd D T Z) 8 249 G0) s m args below meth c H locs cells slots (MQX (twd D T Z) G0 (qI Q) E below s) (F0 m 121 ls []) := by
  intro l1 l2 l4 l5 G H locs cells slots ls h hth I hl
  refine lv_sipush (v := 180) C.1 C.2.1 dX1_utter_121 (by decide) ?_
  obtain ⟨hb, h⟩ := h
  refine N_arr (kd := 50) C I (by decide) rfl q234 hb dX1_utter_124 (fun H cells slots G1 eG1 xG1 I => ?_)
  have h := h G1 eG1
  have hnG1 : isO G1 (some (gZ G)) 50 := ⟨_, rfl, by rw [eG1]; exact gK_nw⟩
  refine l_ast C dX1_utter_126 hl (by decide) rfl (fun ls hl => ?_)
  have hl : LH ls 9 [(6, .inr (.inl ((some (gZ G))))), (0, .inr (.inl th)), (1, .inl l1), (2, .inl l2), (4, .inr (.inl l4)), (5, .inl l5)] := hl
  refine l_ald_n C dX1_utter_128 hl 1 rfl rfl ?_
  refine l_ald C dX1_utter_129 hl 4 rfl ?_
  refine l_ald C dX1_utter_131 hl 4 rfl ?_
  obtain ⟨ho13, h⟩ := h
  refine k_call Ext.tr C I (k_F (kd := 16) (r := l4) (As := []) (rest := [va_rf l4, va_rf th]) (y := yJ2_size) (x := ⟨"java/util/List", "size", "()I"⟩) C (by decide) ⟨ho13.ad.1, I.recv C.2.2.2.2.1 ho13 (by decide)⟩ q424 (by decide) q426 q425 q430 q428 q417 q427 q429 rfl pd_J2_size rfl dX1_utter_133) (ct_J2_size h) hl.1 dX1_utter_133 [.inr (.inl l4), .inr (.inl th)] rfl (Nat.le_of_ble_eq_true rfl) (Or.inl rfl) q431 q104 ⟨Nat.le_of_ble_eq_true rfl, Nat.le_of_ble_eq_true rfl⟩ (fun v G2 H locs cells slots xG2 hq I => ?_) (fun a G9 H locs cells slots ex hq I => hq.elim)
  obtain ⟨r3, rfl, h⟩ := hq
  have h := h xG2
  refine lv_iconst (v := 1) C.1 C.2.1 dX1_utter_138 (by decide) ?_
  refine lv_isub C.1 C.2.1 dX1_utter_139 ?_
  obtain ⟨ho12, h⟩ := h
  refine k_call Ext.tr C I (k_F (kd := 16) (r := l4) (As := [.int ((r3 - (1 : Int32)))]) (rest := [va_rf th]) (y := yJ2_get) (x := ⟨"java/util/List", "get", "(I)Ljava/lang/Object;"⟩) C (by decide) ⟨ho12.ad.1, I.recv C.2.2.2.2.1 ho12 (by decide)⟩ q561 (by decide) q477 q476 q481 q479 q417 q478 q480 rfl pd_J2_get rfl dX1_utter_140) (ct_J2_get h) hl.1 dX1_utter_140 [.inr (.inl th)] rfl (Nat.le_of_ble_eq_true rfl) (Or.inl rfl) q482 q104 ⟨Nat.le_of_ble_eq_true rfl, Nat.le_of_ble_eq_true rfl⟩ (fun v G4 H locs cells slots xG4 hq I => ?_) (fun a G9 H locs cells slots ex hq I => hq.elim)
  obtain ⟨r5, rfl, h⟩ := hq
  have h := h xG4
  obtain ⟨hcc, h⟩ := h
  refine c_cast (kd := 13) C I (by decide) q1148 hcc dX1_utter_145 ?_
  refine l_ald C dX1_utter_148 hl 0 rfl ?_
  refine k_call Ext.tr C I (k_V (r := th) (As := [va_rf r5, va_rf ((some (gZ G)))]) (rest := []) (y := yX1_waysOf) C ⟨(hth.ext (by decide) (Ext.tr _ _ _ xG1 (Ext.tr _ _ _ xG2 xG4))).ad.1, I.recv C.2.2.2.2.1 (hth.ext (by decide) (Ext.tr _ _ _ xG1 (Ext.tr _ _ _ xG2 xG4))) (by decide)⟩ q1150 q1152 qs35 (Or.inl rfl) q1153 (by decide) rfl pd_X1_waysOf rfl dX1_utter_150) (ct_X1_waysOf h) hl.1 dX1_utter_150 [] rfl (Nat.le_of_ble_eq_true rfl) (Or.inl rfl) q1153 q100 ⟨Nat.le_of_ble_eq_true rfl, Nat.le_of_ble_eq_true rfl⟩ (fun v G6 H locs cells slots xG6 hq I => ?_) (fun a G9 H locs cells slots ex hq I => hq.elim)
  obtain ⟨r7, rfl, h⟩ := hq
  have h := h xG6
  refine l_ist C dX1_utter_153 hl (by decide) rfl (fun ls hl => ?_)
  have hl : LH ls 9 [(7, .inl r7), (6, .inr (.inl ((some (gZ G))))), (0, .inr (.inl th)), (1, .inl l1), (2, .inl l2), (4, .inr (.inl l4)), (5, .inl l5)] := hl
  refine l_ild C dX1_utter_155 hl 0 rfl ?_
  refine lv_iconst (v := 1) C.1 C.2.1 dX1_utter_157 (by decide) ?_
  refine lv_icmp_ne (tgt := 178) C.1 C.2.1 dX1_utter_158 (by decide) (fun c11 => ?_) (fun c11 => ?_)
  · have h := h.1 c11
    refine lv_iconst (v := (-1)) C.1 C.2.1 dX1_utter_178 (by decide) ?_
    exact b_X1_utter_179 C hex hLf l1 l2 l5 ((some (gZ G))) ((-1 : Int32)) G6 _ _ _ _ _ h (hth.ext (by decide) (Ext.tr _ _ _ xG1 (Ext.tr _ _ _ xG2 (Ext.tr _ _ _ xG4 xG6)))) I (hl.sub [2, 3, 4, 6, 1] rfl)
  · have h := h.2 c11
    refine l_ald_n C dX1_utter_161 hl 2 rfl rfl ?_
    refine g_R C I fl_X1_16_1 (by decide) (by decide) (hth.ext (by decide) (Ext.tr _ _ _ xG1 (Ext.tr _ _ _ xG2 (Ext.tr _ _ _ xG4 xG6)))) dX1_utter_162 ?_
    refine l_ald C dX1_utter_165 hl 1 rfl ?_
    refine lv_iconst (v := 0) C.1 C.2.1 dX1_utter_167 (by decide) ?_
    obtain ⟨hi, h⟩ := h
    refine a_iald C I (hnG1.ext (by decide) (Ext.tr _ _ _ xG2 (Ext.tr _ _ _ xG4 xG6))) hi dX1_utter_168 ?_
    refine lv_bipush (v := 15) C.1 C.2.1 dX1_utter_169 (by decide) ?_
    refine lv_idiv C.1 C.2.1 dX1_utter_171 (by decide) ?_
    obtain ⟨ho10, h⟩ := h
    refine k_call Ext.tr C I (k_V (r := gR G6 (ad th) 0) (As := [.int ((gI G6 (ad ((some (gZ G)))) ((0 : Int32)).toNatClampNeg / (15 : Int32)))]) (rest := []) (y := yX2_thingOf) C ⟨ho10.ad.1, I.recv C.2.2.2.2.1 ho10 (by decide)⟩ q1231 q927 q928 (Or.inl rfl) q929 (by decide) rfl pd_X2_thingOf rfl dX1_utter_172) (ct_X2_thingOf h) hl.1 dX1_utter_172 [] rfl (Nat.le_of_ble_eq_true rfl) (Or.inl rfl) q929 q101 ⟨Nat.le_of_ble_eq_true rfl, Nat.le_of_ble_eq_true rfl⟩ (fun v G8 H locs cells slots xG8 hq I => ?_) (fun a G9 H locs cells slots ex hq I => hq.elim)
    obtain ⟨r9, rfl, h⟩ := hq
    have h := h xG8
    refine lv_goto (tgt := 179) C.1 C.2.1 dX1_utter_175 (by decide) ?_
    exact b_X1_utter_179 C hex hLf l1 l2 l5 ((some (gZ G))) r9 G8 _ _ _ _ _ h (hth.ext (by decide) (Ext.tr _ _ _ xG1 (Ext.tr _ _ _ xG2 (Ext.tr _ _ _ xG4 (Ext.tr _ _ _ xG6 xG8))))) I (hl.sub [2, 3, 4, 6, 1] rfl)
def w_X1_utter_75 (T : Nat → ClassId) (Q : Int32 → Hp → Prop) (E : Nat → Hp → Prop) (th : Option Nat) (l1 : Int32) (l2 : Int32) (l4 : Option Nat) (t0 : Int32) (G : Hp) : Prop := ((t0 = 0) → (w_X1_utter_121 T Q E th l1 l2 l4 t0 G)) ∧ ((¬ t0 = 0) → (isO G (gR G (ad th) 0) 2 ∧ ((gR G (ad (gR G (ad th) 0)) 8 = none) → (w_X1_utter_116 T Q E th G)) ∧ ((¬ gR G (ad (gR G (ad th) 0)) 8 = none) → (isO G l4 16 ∧ w_J2_get T (fun r3 G2 => Ext G G2 → (r3 = none ∨ isO G2 r3 13) ∧ isO G2 (gR G (ad (gR G (ad th) 0)) 8) 13 ∧ w_X16_is T (fun r5 G4 => Ext G2 G4 → ((¬ r5 = 0) → (w_X1_utter_121 T Q E th l1 l2 l4 t0 G4)) ∧ ((r5 = 0) → (w_X1_utter_116 T Q E th G4))) (gR G (ad (gR G (ad th) 0)) 8) r3 G2) l4 ((0 : Int32)) G))))
set_option maxHeartbeats 4000000 in
theorem b_X1_utter_75 {G0 : Hp} {Q : Int32 → Hp → Prop} {E : Nat → Hp → Prop} {th : Option Nat} (C : Cx p s m meth c D T Z "EndingTown" cX1_utter 9 (some .int)) (hex : ∀ z ∈ c.exceptionTable.toList, ∀ pc, covers z pc = false) (hLf : l.flags = flags0) : ∀ (l1 : Int32) (l2 : Int32) (l4 : Option Nat) (t0 : Int32) (G : Hp) (H : Heap) (locs : List Loc) (cells slots : Nat) (ls : Array Slot), w_X1_utter_75 T Q E th l1 l2 l4 t0 G → isO G th 1 → HI (twd D T Z) G0 s (rmX (twd D T Z) 8 249 G0) H locs cells slots G → LH ls 9 [(0, .inr (.inl th)), (1, .inl l1), (2, .inl l2), (4, .inr (.inl l4))] → W p l e (rmX (twd D T Z) 8 249 G0) s m args below meth c H locs cells slots (MQX (twd D T Z) G0 (qI Q) E below s) (F0 m 75 ls [.int t0]) := by
  intro l1 l2 l4 t0 G H locs cells slots ls h hth I hl
  refine l_ist C dX1_utter_75 hl (by decide) rfl (fun ls hl => ?_)
  have hl : LH ls 9 [(5, .inl t0), (0, .inr (.inl th)), (1, .inl l1), (2, .inl l2), (4, .inr (.inl l4))] := hl
  refine l_ild C dX1_utter_77 hl 0 rfl ?_
  refine lv_if_eq (tgt := 121) C.1 C.2.1 dX1_utter_79 (by decide) (fun c10 => ?_) (fun c10 => ?_)
  · have h := h.1 c10
    exact b_X1_utter_121 C hex hLf l1 l2 l4 t0 G _ _ _ _ _ h hth I (hl.sub [1, 2, 3, 4, 0] rfl)
  · have h := h.2 c10
    refine l_ald_n C dX1_utter_82 hl 1 rfl rfl ?_
    refine g_R C I fl_X1_16_1 (by decide) (by decide) hth dX1_utter_83 ?_
    obtain ⟨ho1, h⟩ := h
    refine g_R C I fl_X1_225_2 (by decide) (by decide) ho1 dX1_utter_86 ?_
    refine l_ifnull (tgt := 116) C dX1_utter_89 (by decide) (fun c9 => ?_) (fun c9 => ?_)
    · have h := h.1 c9
      exact b_X1_utter_116 C hex hLf G _ _ _ _ _ h hth I (hl.sub [1] rfl)
    · have h := h.2 c9
      refine l_ald_n C dX1_utter_92 hl 1 rfl rfl ?_
      refine g_R C I fl_X1_16_1 (by decide) (by decide) hth dX1_utter_93 ?_
      refine g_R C I fl_X1_225_2 (by decide) (by decide) ho1 dX1_utter_96 ?_
      refine l_ald C dX1_utter_99 hl 4 rfl ?_
      refine lv_iconst (v := 0) C.1 C.2.1 dX1_utter_101 (by decide) ?_
      obtain ⟨ho8, h⟩ := h
      refine k_call Ext.tr C I (k_F (kd := 16) (r := l4) (As := [.int ((0 : Int32))]) (rest := [va_rf (gR G (ad (gR G (ad th) 0)) 8)]) (y := yJ2_get) (x := ⟨"java/util/List", "get", "(I)Ljava/lang/Object;"⟩) C (by decide) ⟨ho8.ad.1, I.recv C.2.2.2.2.1 ho8 (by decide)⟩ q561 (by decide) q477 q476 q481 q479 q417 q478 q480 rfl pd_J2_get rfl dX1_utter_102) (ct_J2_get h) hl.1 dX1_utter_102 [.inr (.inl (gR G (ad (gR G (ad th) 0)) 8))] rfl (Nat.le_of_ble_eq_true rfl) (Or.inl rfl) q482 q104 ⟨Nat.le_of_ble_eq_true rfl, Nat.le_of_ble_eq_true rfl⟩ (fun v G2 H locs cells slots xG2 hq I => ?_) (fun a G9 H locs cells slots ex hq I => hq.elim)
      obtain ⟨r3, rfl, h⟩ := hq
      have h := h xG2
      obtain ⟨hcc, h⟩ := h
      refine c_cast (kd := 13) C I (by decide) q1148 hcc dX1_utter_107 ?_
      obtain ⟨ho7, h⟩ := h
      refine k_call Ext.tr C I (k_V (r := gR G (ad (gR G (ad th) 0)) 8) (As := [va_rf r3]) (rest := []) (y := yX16_is) C ⟨ho7.ad.1, I.recv C.2.2.2.2.1 ho7 (by decide)⟩ q1154 q1155 q1156 (Or.inl rfl) q1157 (by decide) rfl pd_X16_is rfl dX1_utter_110) (ct_X16_is h) hl.1 dX1_utter_110 [] rfl (Nat.le_of_ble_eq_true rfl) (Or.inl rfl) q1157 q131 ⟨Nat.le_of_ble_eq_true rfl, Nat.le_of_ble_eq_true rfl⟩ (fun v G4 H locs cells slots xG4 hq I => ?_) (fun a G9 H locs cells slots ex hq I => hq.elim)
      obtain ⟨r5, rfl, h⟩ := hq
      have h := h xG4
      refine lv_if_ne (tgt := 121) C.1 C.2.1 dX1_utter_113 (by decide) (fun c6 => ?_) (fun c6 => ?_)
      · have h := h.1 c6
        exact b_X1_utter_121 C hex hLf l1 l2 l4 t0 G4 _ _ _ _ _ h (hth.ext (by decide) (Ext.tr _ _ _ xG2 xG4)) I (hl.sub [1, 2, 3, 4, 0] rfl)
      · have h := h.2 c6
        exact b_X1_utter_116 C hex hLf G4 _ _ _ _ _ h (hth.ext (by decide) (Ext.tr _ _ _ xG2 xG4)) I (hl.sub [1] rfl)
def w_X1_utter_27 (T : Nat → ClassId) (Q : Int32 → Hp → Prop) (E : Nat → Hp → Prop) (th : Option Nat) (l1 : Int32) (l2 : Int32) (l3 : Int32) (t0 : Int32) (G : Hp) : Prop := w_X1_right T (fun G1 => Ext G G1 → ∀ G3 : Hp, G3 = wI G1 (ad th) 5 ((0 : Int32)) → 1 ≤ gC G3 ∧ 10 ≤ gS G3 ∧ ∀ G4 : Hp, G4 = nw G3 9 0 10 → w_X12_init T (fun G5 => Ext G4 G5 → w_X12_words T (fun r8 G7 => Ext G5 G7 → ((¬ r8 = none) → (isO G7 r8 16 ∧ w_J2_size T (fun r10 G9 => Ext G7 G9 → ((¬ r10 = (2 : Int32)) → (w_X1_utter_75 T Q E th l1 l2 r8 ((0 : Int32)) G9)) ∧ ((r10 = (2 : Int32)) → (w_X1_utter_75 T Q E th l1 l2 r8 ((1 : Int32)) G9))) r8 G7)) ∧ ((r8 = none) → (w_X1_refuse T (fun r14 G13 => Ext G7 G13 → Q r14 G13) th G7))) ((some (gZ G3))) G5) ((some (gZ G3))) th l3 G4) E t0 G
set_option maxHeartbeats 4000000 in
theorem b_X1_utter_27 {G0 : Hp} {Q : Int32 → Hp → Prop} {E : Nat → Hp → Prop} {th : Option Nat} (C : Cx p s m meth c D T Z "EndingTown" cX1_utter 9 (some .int)) (hex : ∀ z ∈ c.exceptionTable.toList, ∀ pc, covers z pc = false) (hLf : l.flags = flags0) : ∀ (l1 : Int32) (l2 : Int32) (l3 : Int32) (t0 : Int32) (G : Hp) (H : Heap) (locs : List Loc) (cells slots : Nat) (ls : Array Slot), w_X1_utter_27 T Q E th l1 l2 l3 t0 G → isO G th 1 → HI (twd D T Z) G0 s (rmX (twd D T Z) 8 249 G0) H locs cells slots G → LH ls 9 [(0, .inr (.inl th)), (1, .inl l1), (2, .inl l2), (3, .inl l3)] → W p l e (rmX (twd D T Z) 8 249 G0) s m args below meth c H locs cells slots (MQX (twd D T Z) G0 (qI Q) E below s) (F0 m 27 ls [.int t0]) := by
  intro l1 l2 l3 t0 G H locs cells slots ls h hth I hl
  refine k_call Ext.tr C I (k_S (As := [.int t0]) (rest := []) (y := yX1_right) C q640 q641 q100 (Or.inl rfl) q642 (by decide) rfl pd_X1_right rfl dX1_utter_27) (ct_X1_right hLf h) hl.1 dX1_utter_27 [] rfl (Nat.le_of_ble_eq_true rfl) (Or.inl rfl) q642 q100 ⟨Nat.le_of_ble_eq_true rfl, Nat.le_of_ble_eq_true rfl⟩ (fun v G1 H locs cells slots xG1 hq I => ?_) (fun a G9 H locs cells slots ex hq I => t_out C.2.2.2.2.2.2 ⟨rfl, rfl⟩ (fun z hz => hex z hz _) I hq)
  obtain ⟨rfl, h⟩ := hq
  have h := h xG1
  refine l_ald_n C dX1_utter_30 hl 0 rfl rfl ?_
  refine lv_iconst (v := 0) C.1 C.2.1 dX1_utter_31 (by decide) ?_
  refine P_I C I fp_X1_74_1 (fun z => by cases z) (by decide) (by decide) (hth.ext (by decide) xG1) dX1_utter_32 (fit_i _) (fun H locs G3 eG3 xG3 I => ?_)
  have h := h G3 eG3
  obtain ⟨hb1, hb2, h⟩ := h
  refine N_obj (kd := 9) C I (by decide) q707 ⟨hb1, hb2⟩ dX1_utter_35 (fun H cells slots G4 eG4 xG4 I => ?_)
  have h := h G4 eG4
  have hnG4 : isO G4 (some (gZ G3)) 9 := ⟨_, rfl, by rw [eG4]; exact gK_nw⟩
  refine lv_dup C.1 C.2.1 dX1_utter_38 (cat_rf _) ?_
  refine l_ald_n C dX1_utter_39 hl 0 rfl rfl ?_
  refine l_ild_n C dX1_utter_40 hl 3 rfl rfl ?_
  refine k_call Ext.tr C I (k_I (r := (some (gZ G3))) (As := [va_rf th, .int l3]) (rest := [va_rf ((some (gZ G3)))]) (y := yX12_init) C hnG4.ad.1 rfl q709 q710 q711 (by decide) rfl pd_X12_init rfl dX1_utter_41) (ct_X12_init h) hl.1 dX1_utter_41 [.inr (.inl ((some (gZ G3))))] rfl (Nat.le_of_ble_eq_true rfl) (Or.inl rfl) q711 q118 ⟨Nat.le_of_ble_eq_true rfl, Nat.le_of_ble_eq_true rfl⟩ (fun v G5 H locs cells slots xG5 hq I => ?_) (fun a G9 H locs cells slots ex hq I => hq.elim)
  obtain ⟨rfl, h⟩ := hq
  have h := h xG5
  refine k_call Ext.tr C I (k_V (r := (some (gZ G3))) (As := []) (rest := []) (y := yX12_words) C ⟨(hnG4.ext (by decide) xG5).ad.1, I.recv C.2.2.2.2.1 (hnG4.ext (by decide) xG5) (by decide)⟩ q1225 q1226 q1227 (Or.inl rfl) q1228 (by decide) rfl pd_X12_words rfl dX1_utter_44) (ct_X12_words h) hl.1 dX1_utter_44 [] rfl (Nat.le_of_ble_eq_true rfl) (Or.inl rfl) q1228 q118 ⟨Nat.le_of_ble_eq_true rfl, Nat.le_of_ble_eq_true rfl⟩ (fun v G7 H locs cells slots xG7 hq I => ?_) (fun a G9 H locs cells slots ex hq I => hq.elim)
  obtain ⟨r8, rfl, h⟩ := hq
  have h := h xG7
  refine l_ast C dX1_utter_47 hl (by decide) rfl (fun ls hl => ?_)
  have hl : LH ls 9 [(4, .inr (.inl r8)), (0, .inr (.inl th)), (1, .inl l1), (2, .inl l2), (3, .inl l3)] := hl
  refine l_ald C dX1_utter_49 hl 0 rfl ?_
  refine l_ifnonnull (tgt := 59) C dX1_utter_51 (by decide) (fun c15 => ?_) (fun c15 => ?_)
  · have h := h.1 c15
    refine l_ald C dX1_utter_59 hl 0 rfl ?_
    obtain ⟨ho12, h⟩ := h
    refine k_call Ext.tr C I (k_F (kd := 16) (r := r8) (As := []) (rest := []) (y := yJ2_size) (x := ⟨"java/util/List", "size", "()I"⟩) C (by decide) ⟨ho12.ad.1, I.recv C.2.2.2.2.1 ho12 (by decide)⟩ q424 (by decide) q426 q425 q430 q428 q417 q427 q429 rfl pd_J2_size rfl dX1_utter_61) (ct_J2_size h) hl.1 dX1_utter_61 [] rfl (Nat.le_of_ble_eq_true rfl) (Or.inl rfl) q431 q104 ⟨Nat.le_of_ble_eq_true rfl, Nat.le_of_ble_eq_true rfl⟩ (fun v G9 H locs cells slots xG9 hq I => ?_) (fun a G9 H locs cells slots ex hq I => hq.elim)
    obtain ⟨r10, rfl, h⟩ := hq
    have h := h xG9
    refine lv_iconst (v := 2) C.1 C.2.1 dX1_utter_66 (by decide) ?_
    refine lv_icmp_ne (tgt := 74) C.1 C.2.1 dX1_utter_67 (by decide) (fun c11 => ?_) (fun c11 => ?_)
    · have h := h.1 c11
      refine lv_iconst (v := 0) C.1 C.2.1 dX1_utter_74 (by decide) ?_
      exact b_X1_utter_75 C hex hLf l1 l2 r8 ((0 : Int32)) G9 _ _ _ _ _ h (hth.ext (by decide) (Ext.tr _ _ _ xG1 (Ext.tr _ _ _ xG3 (Ext.tr _ _ _ xG4 (Ext.tr _ _ _ xG5 (Ext.tr _ _ _ xG7 xG9)))))) I (hl.sub [1, 2, 3, 0] rfl)
    · have h := h.2 c11
      refine lv_iconst (v := 1) C.1 C.2.1 dX1_utter_70 (by decide) ?_
      refine lv_goto (tgt := 75) C.1 C.2.1 dX1_utter_71 (by decide) ?_
      exact b_X1_utter_75 C hex hLf l1 l2 r8 ((1 : Int32)) G9 _ _ _ _ _ h (hth.ext (by decide) (Ext.tr _ _ _ xG1 (Ext.tr _ _ _ xG3 (Ext.tr _ _ _ xG4 (Ext.tr _ _ _ xG5 (Ext.tr _ _ _ xG7 xG9)))))) I (hl.sub [1, 2, 3, 0] rfl)
  · have h := h.2 c15
    refine l_ald_n C dX1_utter_54 hl 1 rfl rfl ?_
    refine k_call Ext.tr C I (k_V (r := th) (As := []) (rest := []) (y := yX1_refuse) C ⟨(hth.ext (by decide) (Ext.tr _ _ _ xG1 (Ext.tr _ _ _ xG3 (Ext.tr _ _ _ xG4 (Ext.tr _ _ _ xG5 xG7))))).ad.1, I.recv C.2.2.2.2.1 (hth.ext (by decide) (Ext.tr _ _ _ xG1 (Ext.tr _ _ _ xG3 (Ext.tr _ _ _ xG4 (Ext.tr _ _ _ xG5 xG7))))) (by decide)⟩ q1212 q1214 qs37 (Or.inl rfl) q1215 (by decide) rfl pd_X1_refuse rfl dX1_utter_55) (ct_X1_refuse h) hl.1 dX1_utter_55 [] rfl (Nat.le_of_ble_eq_true rfl) (Or.inl rfl) q1215 q100 ⟨Nat.le_of_ble_eq_true rfl, Nat.le_of_ble_eq_true rfl⟩ (fun v G13 H locs cells slots xG13 hq I => ?_) (fun a G9 H locs cells slots ex hq I => hq.elim)
    obtain ⟨r14, rfl, h⟩ := hq
    have h := h xG13
    exact r_int C.1 C.2.1 C.2.2.2.2.2.1 rfl C.2.2.2.2.2.2 ⟨rfl, rfl⟩ I dX1_utter_58 ⟨_, rfl, h⟩
def w_X1_utter_26 (T : Nat → ClassId) (Q : Int32 → Hp → Prop) (E : Nat → Hp → Prop) (th : Option Nat) (l1 : Int32) (l2 : Int32) (l3 : Int32) (G : Hp) : Prop := w_X1_utter_27 T Q E th l1 l2 l3 ((0 : Int32)) G
set_option maxHeartbeats 4000000 in
theorem b_X1_utter_26 {G0 : Hp} {Q : Int32 → Hp → Prop} {E : Nat → Hp → Prop} {th : Option Nat} (C : Cx p s m meth c D T Z "EndingTown" cX1_utter 9 (some .int)) (hex : ∀ z ∈ c.exceptionTable.toList, ∀ pc, covers z pc = false) (hLf : l.flags = flags0) : ∀ (l1 : Int32) (l2 : Int32) (l3 : Int32) (G : Hp) (H : Heap) (locs : List Loc) (cells slots : Nat) (ls : Array Slot), w_X1_utter_26 T Q E th l1 l2 l3 G → isO G th 1 → HI (twd D T Z) G0 s (rmX (twd D T Z) 8 249 G0) H locs cells slots G → LH ls 9 [(0, .inr (.inl th)), (1, .inl l1), (2, .inl l2), (3, .inl l3)] → W p l e (rmX (twd D T Z) 8 249 G0) s m args below meth c H locs cells slots (MQX (twd D T Z) G0 (qI Q) E below s) (F0 m 26 ls []) := by
  intro l1 l2 l3 G H locs cells slots ls h hth I hl
  refine lv_iconst (v := 0) C.1 C.2.1 dX1_utter_26 (by decide) ?_
  exact b_X1_utter_27 C hex hLf l1 l2 l3 ((0 : Int32)) G _ _ _ _ _ h hth I (hl.sub [0, 1, 2, 3] rfl)
def w_X1_utter (T : Nat → ClassId) (Q : Int32 → Hp → Prop) (E : Nat → Hp → Prop) (th : Option Nat) (p0 : Int32) (p1 : Int32) (p2 : Int32) (G : Hp) : Prop := isO G th 1 ∧ (w_X1_aPerson T (fun G1 => Ext G G1 → w_X1_anHour T (fun G3 => Ext G1 G3 → ((p2 < 0) → (w_X1_utter_26 T Q E th p0 p1 p2 G3)) ∧ ((¬ p2 < 0) → (((gI G3 (ad th) 5 < p2) → (w_X1_utter_26 T Q E th p0 p1 p2 G3)) ∧ ((¬ gI G3 (ad th) 5 < p2) → (w_X1_utter_27 T Q E th p0 p1 p2 ((1 : Int32)) G3))))) E th p1 G1) E th p0 G)
theorem pd_X1_utter : (parseMethodDescriptor yX1_utter.desc).map (fun d => d.parameters.length) = some 3 := by decide +kernel
set_option maxHeartbeats 4000000 in
theorem ct_X1_utter {l : Launch} {D : va_G} {T : Nat → ClassId} {Z : Heap} {G0 : Hp} {Q : Int32 → Hp → Prop} {E : Nat → Hp → Prop} {th : Option Nat} {p0 : Int32} {p1 : Int32} {p2 : Int32} (hLf : l.flags = flags0) (hw : w_X1_utter T Q E th p0 p1 p2 G0) : CT (twd D T Z) (Evd D T Z) l yX1_utter (Cond.code yX1_utter cX1_utter 9 (some .int)) 8 249 [va_rf th, .int p0, .int p1, .int p2] G0 (qI Q) E := by
  refine CT.ofW (cc := cX1_utter) (nL := 9) (ret := (some .int)) Ext.rf (by decide) (Or.inl rfl) ?_
  intro p e s m below meth c hx hb hml hown hr hlk hnm hcb hm hc hn hE I
  have C : Cx p s m meth c D T Z "EndingTown" cX1_utter 9 (some .int) := ⟨hx, hb, hml, hown, hE, hr, hlk⟩
  have hex := noEx hn hm hc hcb
  refine w_entry [.inr (.inl th), .inl p0, .inl p1, .inl p2] (Nat.le_of_ble_eq_true rfl) (fun ls hl => ?_)
  have hl : LH ls 9 [(0, .inr (.inl th)), (1, .inl p0), (2, .inl p1), (3, .inl p2)] := hl
  obtain ⟨hth, h⟩ := hw
  refine l_ald_n C dX1_utter_0 hl 0 rfl rfl ?_
  refine l_ild_n C dX1_utter_1 hl 1 rfl rfl ?_
  refine k_call Ext.tr C I (k_V (r := th) (As := [.int p0]) (rest := []) (y := yX1_aPerson) C ⟨hth.ad.1, I.recv C.2.2.2.2.1 hth (by decide)⟩ q1089 q1091 qs32 (Or.inl rfl) q1092 (by decide) rfl pd_X1_aPerson rfl dX1_utter_2) (ct_X1_aPerson hLf h) hl.1 dX1_utter_2 [] rfl (Nat.le_of_ble_eq_true rfl) (Or.inl rfl) q1092 q100 ⟨Nat.le_of_ble_eq_true rfl, Nat.le_of_ble_eq_true rfl⟩ (fun v G1 H locs cells slots xG1 hq I => ?_) (fun a G9 H locs cells slots ex hq I => t_out C.2.2.2.2.2.2 ⟨rfl, rfl⟩ (fun z hz => hex z hz _) I hq)
  obtain ⟨rfl, h⟩ := hq
  have h := h xG1
  refine l_ald_n C dX1_utter_5 hl 0 rfl rfl ?_
  refine l_ild_n C dX1_utter_6 hl 2 rfl rfl ?_
  refine k_call Ext.tr C I (k_V (r := th) (As := [.int p1]) (rest := []) (y := yX1_anHour) C ⟨(hth.ext (by decide) xG1).ad.1, I.recv C.2.2.2.2.1 (hth.ext (by decide) xG1) (by decide)⟩ q1097 q1099 qs33 (Or.inl rfl) q1100 (by decide) rfl pd_X1_anHour rfl dX1_utter_7) (ct_X1_anHour hLf h) hl.1 dX1_utter_7 [] rfl (Nat.le_of_ble_eq_true rfl) (Or.inl rfl) q1100 q100 ⟨Nat.le_of_ble_eq_true rfl, Nat.le_of_ble_eq_true rfl⟩ (fun v G3 H locs cells slots xG3 hq I => ?_) (fun a G9 H locs cells slots ex hq I => t_out C.2.2.2.2.2.2 ⟨rfl, rfl⟩ (fun z hz => hex z hz _) I hq)
  obtain ⟨rfl, h⟩ := hq
  have h := h xG3
  refine l_ild_n C dX1_utter_10 hl 3 rfl rfl ?_
  refine lv_if_lt (tgt := 26) C.1 C.2.1 dX1_utter_11 (by decide) (fun c6 => ?_) (fun c6 => ?_)
  · have h := h.1 c6
    exact b_X1_utter_26 C hex hLf p0 p1 p2 G3 _ _ _ _ _ h (hth.ext (by decide) (Ext.tr _ _ _ xG1 xG3)) I (hl.sub [0, 1, 2, 3] rfl)
  · have h := h.2 c6
    refine l_ild_n C dX1_utter_14 hl 3 rfl rfl ?_
    refine l_ald_n C dX1_utter_15 hl 0 rfl rfl ?_
    refine g_I C I fl_X1_74_1 (by decide) (by decide) (hth.ext (by decide) (Ext.tr _ _ _ xG1 xG3)) dX1_utter_16 ?_
    refine lv_icmp_gt (tgt := 26) C.1 C.2.1 dX1_utter_19 (by decide) (fun c5 => ?_) (fun c5 => ?_)
    · have h := h.1 c5
      exact b_X1_utter_26 C hex hLf p0 p1 p2 G3 _ _ _ _ _ h (hth.ext (by decide) (Ext.tr _ _ _ xG1 xG3)) I (hl.sub [0, 1, 2, 3] rfl)
    · have h := h.2 c5
      refine lv_iconst (v := 1) C.1 C.2.1 dX1_utter_22 (by decide) ?_
      refine lv_goto (tgt := 27) C.1 C.2.1 dX1_utter_23 (by decide) ?_
      exact b_X1_utter_27 C hex hLf p0 p1 p2 ((1 : Int32)) G3 _ _ _ _ _ h (hth.ext (by decide) (Ext.tr _ _ _ xG1 xG3)) I (hl.sub [0, 1, 2, 3] rfl)
def w_X1_whole (T : Nat → ClassId) (Q : Option Nat → Hp → Prop) (th : Option Nat) (G : Hp) : Prop := isO G th 1 ∧ (isO G (gR G (ad th) 3) 8 ∧ w_X10_begin T (fun r2 G1 => Ext G G1 → isO G1 r2 8 ∧ w_X10_tell T (fun r4 G3 => Ext G1 G3 → Q r4 G3) r2 G1) (gR G (ad th) 3) ((0 : Int32)) G)
theorem pd_X1_whole : (parseMethodDescriptor yX1_whole.desc).map (fun d => d.parameters.length) = some 0 := by decide +kernel
set_option maxHeartbeats 4000000 in
theorem ct_X1_whole {l : Launch} {D : va_G} {T : Nat → ClassId} {Z : Heap} {G0 : Hp} {Q : Option Nat → Hp → Prop} {th : Option Nat} (hw : w_X1_whole T Q th G0) : CT (twd D T Z) (Evd D T Z) l yX1_whole (Cond.code yX1_whole cX1_whole 1 (some (.object "EndingTown$Day"))) 9 225 [va_rf th] G0 (qR Q) (fun _ _ => False) := by
  refine CT.ofW (cc := cX1_whole) (nL := 1) (ret := (some (.object "EndingTown$Day"))) Ext.rf (by decide) (Or.inl rfl) ?_
  intro p e s m below meth c hx hb hml hown hr hlk hnm hcb hm hc hn hE I
  have C : Cx p s m meth c D T Z "EndingTown" cX1_whole 1 (some (.object "EndingTown$Day")) := ⟨hx, hb, hml, hown, hE, hr, hlk⟩
  refine w_entry [.inr (.inl th)] (Nat.le_of_ble_eq_true rfl) (fun ls hl => ?_)
  have hl : LH ls 1 [(0, .inr (.inl th))] := hl
  obtain ⟨hth, h⟩ := hw
  refine l_ald_n C dX1_whole_0 hl 0 rfl rfl ?_
  refine g_R C I fl_X1_55_1 (by decide) (by decide) hth dX1_whole_1 ?_
  refine lv_iconst (v := 0) C.1 C.2.1 dX1_whole_4 (by decide) ?_
  obtain ⟨ho6, h⟩ := h
  refine k_call Ext.tr C I (k_V (r := gR G0 (ad th) 3) (As := [.int ((0 : Int32))]) (rest := []) (y := yX10_begin) C ⟨ho6.ad.1, I.recv C.2.2.2.2.1 ho6 (by decide)⟩ q468 q469 q470 (Or.inl rfl) q471 (by decide) rfl pd_X10_begin rfl dX1_whole_5) (ct_X10_begin h) hl.1 dX1_whole_5 [] rfl (Nat.le_of_ble_eq_true rfl) (Or.inl rfl) q471 q112 ⟨Nat.le_of_ble_eq_true rfl, Nat.le_of_ble_eq_true rfl⟩ (fun v G1 H locs cells slots xG1 hq I => ?_) (fun a G9 H locs cells slots ex hq I => hq.elim)
  obtain ⟨r2, rfl, h⟩ := hq
  have h := h xG1
  obtain ⟨ho5, h⟩ := h
  refine k_call Ext.tr C I (k_V (r := r2) (As := []) (rest := []) (y := yX10_tell) C ⟨ho5.ad.1, I.recv C.2.2.2.2.1 ho5 (by decide)⟩ q488 q489 q490 (Or.inl rfl) q491 (by decide) rfl pd_X10_tell rfl dX1_whole_8) (ct_X10_tell h) hl.1 dX1_whole_8 [] rfl (Nat.le_of_ble_eq_true rfl) (Or.inl rfl) q491 q112 ⟨Nat.le_of_ble_eq_true rfl, Nat.le_of_ble_eq_true rfl⟩ (fun v G3 H locs cells slots xG3 hq I => ?_) (fun a G9 H locs cells slots ex hq I => hq.elim)
  obtain ⟨r4, rfl, h⟩ := hq
  have h := h xG3
  exact r_ref C.1 C.2.1 C.2.2.2.2.2.1 (Or.inl ⟨_, rfl⟩) C.2.2.2.2.2.2 ⟨rfl, rfl⟩ I dX1_whole_11 ⟨_, rfl, h⟩
def w_X1_could_62 (T : Nat → ClassId) (Q : Int32 → Hp → Prop) (E : Nat → Hp → Prop) (th : Option Nat) (k27 : Int32 → Int32 → Int32 → Int32 → Option Nat → Int32 → Int32 → Hp → Prop) (l1 : Int32) (l2 : Int32) (l3 : Int32) (l4 : Int32) (l5 : Option Nat) (l6 : Int32) (l7 : Int32) (G : Hp) : Prop := k27 l1 l2 l3 l4 l5 l6 ((l7 + 1)) G
set_option maxHeartbeats 4000000 in
theorem b_X1_could_62 {G0 : Hp} {Q : Int32 → Hp → Prop} {E : Nat → Hp → Prop} {th : Option Nat} {k27 : Int32 → Int32 → Int32 → Int32 → Option Nat → Int32 → Int32 → Hp → Prop} (C : Cx p s m meth c D T Z "EndingTown" cX1_could 8 (some .int)) (hex : ∀ z ∈ c.exceptionTable.toList, ∀ pc, covers z pc = false) (hLf : l.flags = flags0) (hk27 : ∀ (l1 : Int32) (l2 : Int32) (l3 : Int32) (l4 : Int32) (l5 : Option Nat) (l6 : Int32) (l7 : Int32) (G : Hp) (H : Heap) (locs : List Loc) (cells slots : Nat) (ls : Array Slot), k27 l1 l2 l3 l4 l5 l6 l7 G → isO G th 1 → HI (twd D T Z) G0 s (rmX (twd D T Z) 10 245 G0) H locs cells slots G → LH ls 8 [(0, .inr (.inl th)), (1, .inl l1), (2, .inl l2), (3, .inl l3), (4, .inl l4), (5, .inr (.inl l5)), (6, .inl l6), (7, .inl l7)] → W p l e (rmX (twd D T Z) 10 245 G0) s m args below meth c H locs cells slots (MQX (twd D T Z) G0 (qI Q) E below s) (F0 m 27 ls [])) : ∀ (l1 : Int32) (l2 : Int32) (l3 : Int32) (l4 : Int32) (l5 : Option Nat) (l6 : Int32) (l7 : Int32) (G : Hp) (H : Heap) (locs : List Loc) (cells slots : Nat) (ls : Array Slot), w_X1_could_62 T Q E th k27 l1 l2 l3 l4 l5 l6 l7 G → isO G th 1 → HI (twd D T Z) G0 s (rmX (twd D T Z) 10 245 G0) H locs cells slots G → LH ls 8 [(0, .inr (.inl th)), (1, .inl l1), (2, .inl l2), (3, .inl l3), (4, .inl l4), (5, .inr (.inl l5)), (6, .inl l6), (7, .inl l7)] → W p l e (rmX (twd D T Z) 10 245 G0) s m args below meth c H locs cells slots (MQX (twd D T Z) G0 (qI Q) E below s) (F0 m 62 ls []) := by
  intro l1 l2 l3 l4 l5 l6 l7 G H locs cells slots ls h hth I hl
  refine l_inc (q := 7) (v := 1) C dX1_could_62 hl rfl (by decide) (by decide) rfl (fun ls hl => ?_)
  have hl : LH ls 8 [(7, .inl ((l7 + 1))), (0, .inr (.inl th)), (1, .inl l1), (2, .inl l2), (3, .inl l3), (4, .inl l4), (5, .inr (.inl l5)), (6, .inl l6)] := hl
  refine lv_goto (tgt := 27) C.1 C.2.1 dX1_could_65 (by decide) ?_
  exact hk27 l1 l2 l3 l4 l5 l6 ((l7 + 1)) G _ _ _ _ _ h hth I (hl.sub [1, 2, 3, 4, 5, 6, 7, 0] rfl)
def w_X1_could_27 (T : Nat → ClassId) (Q : Int32 → Hp → Prop) (E : Nat → Hp → Prop) (th : Option Nat) : Nat → Int32 → Int32 → Int32 → Int32 → Option Nat → Int32 → Int32 → Hp → Prop
  | 0 => fun _ _ _ _ _ _ _ _ => False
  | f27 + 1 => fun l1 l2 l3 l4 l5 l6 l7 G => (((5 : Int32) ≤ l7) → (Q l6 G)) ∧ ((¬ (5 : Int32) ≤ l7) → (isO G (gR G (ad th) 2) 56 ∧ vp_in l7 (gN G (ad (gR G (ad th) 2))) ∧ (isO G (gR G (ad (gR G (ad th) 2)) l7.toNatClampNeg) 3 ∨ isO G (gR G (ad (gR G (ad th) 2)) l7.toNatClampNeg) 4 ∨ isO G (gR G (ad (gR G (ad th) 2)) l7.toNatClampNeg) 5 ∨ isO G (gR G (ad (gR G (ad th) 2)) l7.toNatClampNeg) 6 ∨ isO G (gR G (ad (gR G (ad th) 2)) l7.toNatClampNeg) 7) ∧ (isO G (gR G (ad (gR G (ad th) 2)) l7.toNatClampNeg) 3 → w_X5_round T (fun r3 G2 => Ext G G2 → ((r3 ≤ 0) → (w_X1_could_62 T Q E th (w_X1_could_27 T Q E th f27) l1 l2 l3 l4 l5 l6 l7 G2)) ∧ ((¬ r3 ≤ 0) → (w_X1_could_62 T Q E th (w_X1_could_27 T Q E th f27) l1 l2 l3 l4 l5 ((l6 ||| ((1 : Int32) <<< (l7 &&& 31)))) l7 G2))) (gR G (ad (gR G (ad th) 2)) l7.toNatClampNeg) l5 l1 l2 l3 l4 G) ∧ (isO G (gR G (ad (gR G (ad th) 2)) l7.toNatClampNeg) 4 → w_X6_round T (fun r3 G2 => Ext G G2 → ((r3 ≤ 0) → (w_X1_could_62 T Q E th (w_X1_could_27 T Q E th f27) l1 l2 l3 l4 l5 l6 l7 G2)) ∧ ((¬ r3 ≤ 0) → (w_X1_could_62 T Q E th (w_X1_could_27 T Q E th f27) l1 l2 l3 l4 l5 ((l6 ||| ((1 : Int32) <<< (l7 &&& 31)))) l7 G2))) (gR G (ad (gR G (ad th) 2)) l7.toNatClampNeg) l5 l1 l2 l3 l4 G) ∧ (isO G (gR G (ad (gR G (ad th) 2)) l7.toNatClampNeg) 5 → w_X7_round T (fun r3 G2 => Ext G G2 → ((r3 ≤ 0) → (w_X1_could_62 T Q E th (w_X1_could_27 T Q E th f27) l1 l2 l3 l4 l5 l6 l7 G2)) ∧ ((¬ r3 ≤ 0) → (w_X1_could_62 T Q E th (w_X1_could_27 T Q E th f27) l1 l2 l3 l4 l5 ((l6 ||| ((1 : Int32) <<< (l7 &&& 31)))) l7 G2))) (gR G (ad (gR G (ad th) 2)) l7.toNatClampNeg) l5 l1 l2 l3 l4 G) ∧ (isO G (gR G (ad (gR G (ad th) 2)) l7.toNatClampNeg) 6 → w_X8_round T (fun r3 G2 => Ext G G2 → ((r3 ≤ 0) → (w_X1_could_62 T Q E th (w_X1_could_27 T Q E th f27) l1 l2 l3 l4 l5 l6 l7 G2)) ∧ ((¬ r3 ≤ 0) → (w_X1_could_62 T Q E th (w_X1_could_27 T Q E th f27) l1 l2 l3 l4 l5 ((l6 ||| ((1 : Int32) <<< (l7 &&& 31)))) l7 G2))) (gR G (ad (gR G (ad th) 2)) l7.toNatClampNeg) l5 l1 l2 l3 l4 G) ∧ (isO G (gR G (ad (gR G (ad th) 2)) l7.toNatClampNeg) 7 → w_X9_round T (fun r3 G2 => Ext G G2 → ((r3 ≤ 0) → (w_X1_could_62 T Q E th (w_X1_could_27 T Q E th f27) l1 l2 l3 l4 l5 l6 l7 G2)) ∧ ((¬ r3 ≤ 0) → (w_X1_could_62 T Q E th (w_X1_could_27 T Q E th f27) l1 l2 l3 l4 l5 ((l6 ||| ((1 : Int32) <<< (l7 &&& 31)))) l7 G2))) (gR G (ad (gR G (ad th) 2)) l7.toNatClampNeg) l5 l1 l2 l3 l4 G)))
set_option maxHeartbeats 4000000 in
theorem b_X1_could_27 {G0 : Hp} {Q : Int32 → Hp → Prop} {E : Nat → Hp → Prop} {th : Option Nat} (C : Cx p s m meth c D T Z "EndingTown" cX1_could 8 (some .int)) (hex : ∀ z ∈ c.exceptionTable.toList, ∀ pc, covers z pc = false) (hLf : l.flags = flags0) : ∀ (n : Nat) (l1 : Int32) (l2 : Int32) (l3 : Int32) (l4 : Int32) (l5 : Option Nat) (l6 : Int32) (l7 : Int32) (G : Hp) (H : Heap) (locs : List Loc) (cells slots : Nat) (ls : Array Slot), w_X1_could_27 T Q E th n l1 l2 l3 l4 l5 l6 l7 G → isO G th 1 → HI (twd D T Z) G0 s (rmX (twd D T Z) 10 245 G0) H locs cells slots G → LH ls 8 [(0, .inr (.inl th)), (1, .inl l1), (2, .inl l2), (3, .inl l3), (4, .inl l4), (5, .inr (.inl l5)), (6, .inl l6), (7, .inl l7)] → W p l e (rmX (twd D T Z) 10 245 G0) s m args below meth c H locs cells slots (MQX (twd D T Z) G0 (qI Q) E below s) (F0 m 27 ls []) := by
  intro f27
  induction f27 with
  | zero => intro l1 l2 l3 l4 l5 l6 l7 G H locs cells slots ls h; exact (show False from h).elim
  | succ f27 ih =>
    intro l1 l2 l3 l4 l5 l6 l7 G H locs cells slots ls h hth I hl
    have h : (((5 : Int32) ≤ l7) → (Q l6 G)) ∧ ((¬ (5 : Int32) ≤ l7) → (isO G (gR G (ad th) 2) 56 ∧ vp_in l7 (gN G (ad (gR G (ad th) 2))) ∧ (isO G (gR G (ad (gR G (ad th) 2)) l7.toNatClampNeg) 3 ∨ isO G (gR G (ad (gR G (ad th) 2)) l7.toNatClampNeg) 4 ∨ isO G (gR G (ad (gR G (ad th) 2)) l7.toNatClampNeg) 5 ∨ isO G (gR G (ad (gR G (ad th) 2)) l7.toNatClampNeg) 6 ∨ isO G (gR G (ad (gR G (ad th) 2)) l7.toNatClampNeg) 7) ∧ (isO G (gR G (ad (gR G (ad th) 2)) l7.toNatClampNeg) 3 → w_X5_round T (fun r3 G2 => Ext G G2 → ((r3 ≤ 0) → (w_X1_could_62 T Q E th (w_X1_could_27 T Q E th f27) l1 l2 l3 l4 l5 l6 l7 G2)) ∧ ((¬ r3 ≤ 0) → (w_X1_could_62 T Q E th (w_X1_could_27 T Q E th f27) l1 l2 l3 l4 l5 ((l6 ||| ((1 : Int32) <<< (l7 &&& 31)))) l7 G2))) (gR G (ad (gR G (ad th) 2)) l7.toNatClampNeg) l5 l1 l2 l3 l4 G) ∧ (isO G (gR G (ad (gR G (ad th) 2)) l7.toNatClampNeg) 4 → w_X6_round T (fun r3 G2 => Ext G G2 → ((r3 ≤ 0) → (w_X1_could_62 T Q E th (w_X1_could_27 T Q E th f27) l1 l2 l3 l4 l5 l6 l7 G2)) ∧ ((¬ r3 ≤ 0) → (w_X1_could_62 T Q E th (w_X1_could_27 T Q E th f27) l1 l2 l3 l4 l5 ((l6 ||| ((1 : Int32) <<< (l7 &&& 31)))) l7 G2))) (gR G (ad (gR G (ad th) 2)) l7.toNatClampNeg) l5 l1 l2 l3 l4 G) ∧ (isO G (gR G (ad (gR G (ad th) 2)) l7.toNatClampNeg) 5 → w_X7_round T (fun r3 G2 => Ext G G2 → ((r3 ≤ 0) → (w_X1_could_62 T Q E th (w_X1_could_27 T Q E th f27) l1 l2 l3 l4 l5 l6 l7 G2)) ∧ ((¬ r3 ≤ 0) → (w_X1_could_62 T Q E th (w_X1_could_27 T Q E th f27) l1 l2 l3 l4 l5 ((l6 ||| ((1 : Int32) <<< (l7 &&& 31)))) l7 G2))) (gR G (ad (gR G (ad th) 2)) l7.toNatClampNeg) l5 l1 l2 l3 l4 G) ∧ (isO G (gR G (ad (gR G (ad th) 2)) l7.toNatClampNeg) 6 → w_X8_round T (fun r3 G2 => Ext G G2 → ((r3 ≤ 0) → (w_X1_could_62 T Q E th (w_X1_could_27 T Q E th f27) l1 l2 l3 l4 l5 l6 l7 G2)) ∧ ((¬ r3 ≤ 0) → (w_X1_could_62 T Q E th (w_X1_could_27 T Q E th f27) l1 l2 l3 l4 l5 ((l6 ||| ((1 : Int32) <<< (l7 &&& 31)))) l7 G2))) (gR G (ad (gR G (ad th) 2)) l7.toNatClampNeg) l5 l1 l2 l3 l4 G) ∧ (isO G (gR G (ad (gR G (ad th) 2)) l7.toNatClampNeg) 7 → w_X9_round T (fun r3 G2 => Ext G G2 → ((r3 ≤ 0) → (w_X1_could_62 T Q E th (w_X1_could_27 T Q E th f27) l1 l2 l3 l4 l5 l6 l7 G2)) ∧ ((¬ r3 ≤ 0) → (w_X1_could_62 T Q E th (w_X1_could_27 T Q E th f27) l1 l2 l3 l4 l5 ((l6 ||| ((1 : Int32) <<< (l7 &&& 31)))) l7 G2))) (gR G (ad (gR G (ad th) 2)) l7.toNatClampNeg) l5 l1 l2 l3 l4 G))) := h
    have hk27 := ih
    refine l_ild C dX1_could_27 hl 7 rfl ?_
    refine lv_iconst (v := 5) C.1 C.2.1 dX1_could_29 (by decide) ?_
    refine lv_icmp_ge (tgt := 68) C.1 C.2.1 dX1_could_30 (by decide) (fun c5 => ?_) (fun c5 => ?_)
    · have h := h.1 c5
      refine l_ild C dX1_could_68 hl 6 rfl ?_
      exact r_int C.1 C.2.1 C.2.2.2.2.2.1 rfl C.2.2.2.2.2.2 ⟨rfl, rfl⟩ I dX1_could_70 ⟨_, rfl, h⟩
    · have h := h.2 c5
      refine l_ald_n C dX1_could_33 hl 0 rfl rfl ?_
      refine g_R C I fl_X1_48_1 (by decide) (by decide) hth dX1_could_34 ?_
      refine l_ild C dX1_could_37 hl 7 rfl ?_
      obtain ⟨ho1, h⟩ := h
      obtain ⟨hi, h⟩ := h
      refine a_aald C I ho1 (by decide) hi dX1_could_39 ?_
      refine l_ald C dX1_could_40 hl 5 rfl ?_
      refine l_ild_n C dX1_could_42 hl 1 rfl rfl ?_
      refine l_ild_n C dX1_could_43 hl 2 rfl rfl ?_
      refine l_ild_n C dX1_could_44 hl 3 rfl rfl ?_
      refine l_ild C dX1_could_45 hl 4 rfl ?_
      have kk : ∀ (v : Option Value) (G2 : Hp) (H : Heap) (locs : List Loc) (cells slots : Nat), Ext G G2 → (qI (fun r3 G2 => Ext G G2 → ((r3 ≤ 0) → (w_X1_could_62 T Q E th (w_X1_could_27 T Q E th f27) l1 l2 l3 l4 l5 l6 l7 G2)) ∧ ((¬ r3 ≤ 0) → (w_X1_could_62 T Q E th (w_X1_could_27 T Q E th f27) l1 l2 l3 l4 l5 ((l6 ||| ((1 : Int32) <<< (l7 &&& 31)))) l7 G2)))) v G2 → HI (twd D T Z) G0 s (rmX (twd D T Z) 10 245 G0) H locs cells slots G2 → W p l e (rmX (twd D T Z) 10 245 G0) s m args below meth c H locs cells slots (MQX (twd D T Z) G0 (qI Q) E below s) (F0 m 50 ls (v.toList ++ [])) := by
        intro v G2 H locs cells slots xG2 hq I
        obtain ⟨r3, rfl, h⟩ := hq
        have h := h xG2
        refine lv_if_le (tgt := 62) C.1 C.2.1 dX1_could_50 (by decide) (fun c4 => ?_) (fun c4 => ?_)
        · have h := h.1 c4
          exact b_X1_could_62 C hex hLf hk27 l1 l2 l3 l4 l5 l6 l7 G2 _ _ _ _ _ h (hth.ext (by decide) xG2) I (hl.sub [0, 1, 2, 3, 4, 5, 6, 7] rfl)
        · have h := h.2 c4
          refine l_ild C dX1_could_53 hl 6 rfl ?_
          refine lv_iconst (v := 1) C.1 C.2.1 dX1_could_55 (by decide) ?_
          refine l_ild C dX1_could_56 hl 7 rfl ?_
          refine lv_ishl C.1 C.2.1 dX1_could_58 ?_
          refine lv_ior C.1 C.2.1 dX1_could_59 ?_
          refine l_ist C dX1_could_60 hl (by decide) rfl (fun ls hl => ?_)
          have hl : LH ls 8 [(6, .inl ((l6 ||| ((1 : Int32) <<< (l7 &&& 31))))), (0, .inr (.inl th)), (1, .inl l1), (2, .inl l2), (3, .inl l3), (4, .inl l4), (5, .inr (.inl l5)), (7, .inl l7)] := hl
          exact b_X1_could_62 C hex hLf hk27 l1 l2 l3 l4 l5 ((l6 ||| ((1 : Int32) <<< (l7 &&& 31)))) l7 G2 _ _ _ _ _ h (hth.ext (by decide) xG2) I (hl.sub [1, 2, 3, 4, 5, 6, 0, 7] rfl)
      obtain ⟨hd, h⟩ := h
      rcases hd with ho3 | ho4 | ho5 | ho6 | ho7
      · have h := h.1 ho3
        refine k_call Ext.tr C I (k_U (r := gR G (ad (gR G (ad th) 2)) l7.toNatClampNeg) (As := [va_rf l5, .int l1, .int l2, .int l3, .int l4]) (rest := []) (y := yX5_round) (x := ⟨"EndingTown$How", "round", "(LEndingTown$Day;IIIZ)I"⟩) (owner := "EndingTown$How") C ⟨ho3.ad.1, I.recv C.2.2.2.2.1 ho3 (by decide)⟩ q1274 q498 q497 (by decide) q512 q513 rfl pd_X5_round rfl dX1_could_47) (ct_X5_round h) hl.1 dX1_could_47 [] rfl (Nat.le_of_ble_eq_true rfl) (Or.inl rfl) q514 q107 ⟨Nat.le_of_ble_eq_true rfl, Nat.le_of_ble_eq_true rfl⟩ (fun v G2 H locs cells slots xG2 hq I => kk v G2 H locs cells slots xG2 hq I) (fun a G9 H locs cells slots ex hq I => hq.elim)
      · have h := h.2.1 ho4
        refine k_call Ext.tr C I (k_U (r := gR G (ad (gR G (ad th) 2)) l7.toNatClampNeg) (As := [va_rf l5, .int l1, .int l2, .int l3, .int l4]) (rest := []) (y := yX6_round) (x := ⟨"EndingTown$How", "round", "(LEndingTown$Day;IIIZ)I"⟩) (owner := "EndingTown$How") C ⟨ho4.ad.1, I.recv C.2.2.2.2.1 ho4 (by decide)⟩ q1274 q498 q497 (by decide) q502 q503 rfl pd_X6_round rfl dX1_could_47) (ct_X6_round h) hl.1 dX1_could_47 [] rfl (Nat.le_of_ble_eq_true rfl) (Or.inl rfl) q504 q108 ⟨Nat.le_of_ble_eq_true rfl, Nat.le_of_ble_eq_true rfl⟩ (fun v G2 H locs cells slots xG2 hq I => kk v G2 H locs cells slots xG2 hq I) (fun a G9 H locs cells slots ex hq I => hq.elim)
      · have h := h.2.2.1 ho5
        refine k_call Ext.tr C I (k_U (r := gR G (ad (gR G (ad th) 2)) l7.toNatClampNeg) (As := [va_rf l5, .int l1, .int l2, .int l3, .int l4]) (rest := []) (y := yX7_round) (x := ⟨"EndingTown$How", "round", "(LEndingTown$Day;IIIZ)I"⟩) (owner := "EndingTown$How") C ⟨ho5.ad.1, I.recv C.2.2.2.2.1 ho5 (by decide)⟩ q1274 q498 q497 (by decide) q519 q520 rfl pd_X7_round rfl dX1_could_47) (ct_X7_round h) hl.1 dX1_could_47 [] rfl (Nat.le_of_ble_eq_true rfl) (Or.inl rfl) q521 q109 ⟨Nat.le_of_ble_eq_true rfl, Nat.le_of_ble_eq_true rfl⟩ (fun v G2 H locs cells slots xG2 hq I => kk v G2 H locs cells slots xG2 hq I) (fun a G9 H locs cells slots ex hq I => hq.elim)
      · have h := h.2.2.2.1 ho6
        refine k_call Ext.tr C I (k_U (r := gR G (ad (gR G (ad th) 2)) l7.toNatClampNeg) (As := [va_rf l5, .int l1, .int l2, .int l3, .int l4]) (rest := []) (y := yX8_round) (x := ⟨"EndingTown$How", "round", "(LEndingTown$Day;IIIZ)I"⟩) (owner := "EndingTown$How") C ⟨ho6.ad.1, I.recv C.2.2.2.2.1 ho6 (by decide)⟩ q1274 q498 q497 (by decide) q536 q537 rfl pd_X8_round rfl dX1_could_47) (ct_X8_round h) hl.1 dX1_could_47 [] rfl (Nat.le_of_ble_eq_true rfl) (Or.inl rfl) q538 q110 ⟨Nat.le_of_ble_eq_true rfl, Nat.le_of_ble_eq_true rfl⟩ (fun v G2 H locs cells slots xG2 hq I => kk v G2 H locs cells slots xG2 hq I) (fun a G9 H locs cells slots ex hq I => hq.elim)
      · have h := h.2.2.2.2 ho7
        refine k_call Ext.tr C I (k_U (r := gR G (ad (gR G (ad th) 2)) l7.toNatClampNeg) (As := [va_rf l5, .int l1, .int l2, .int l3, .int l4]) (rest := []) (y := yX9_round) (x := ⟨"EndingTown$How", "round", "(LEndingTown$Day;IIIZ)I"⟩) (owner := "EndingTown$How") C ⟨ho7.ad.1, I.recv C.2.2.2.2.1 ho7 (by decide)⟩ q1274 q498 q497 (by decide) q499 q500 rfl pd_X9_round rfl dX1_could_47) (ct_X9_round h) hl.1 dX1_could_47 [] rfl (Nat.le_of_ble_eq_true rfl) (Or.inl rfl) q501 q111 ⟨Nat.le_of_ble_eq_true rfl, Nat.le_of_ble_eq_true rfl⟩ (fun v G2 H locs cells slots xG2 hq I => kk v G2 H locs cells slots xG2 hq I) (fun a G9 H locs cells slots ex hq I => hq.elim)
def w_X1_could (T : Nat → ClassId) (Q : Int32 → Hp → Prop) (E : Nat → Hp → Prop) (th : Option Nat) (p0 : Int32) (p1 : Int32) (p2 : Int32) (p3 : Int32) (G : Hp) : Prop := isO G th 1 ∧ (w_X1_aPerson T (fun G1 => Ext G G1 → w_X1_anHour T (fun G3 => Ext G1 G3 → w_X1_aThing T (fun G5 => Ext G3 G5 → w_X1_whole T (fun r8 G7 => Ext G5 G7 → ∃ n, w_X1_could_27 T Q E th n p0 p1 p2 p3 r8 ((0 : Int32)) ((0 : Int32)) G7) th G5) E th p2 G3) E th p1 G1) E th p0 G)
theorem pd_X1_could : (parseMethodDescriptor yX1_could.desc).map (fun d => d.parameters.length) = some 4 := by decide +kernel
set_option maxHeartbeats 4000000 in
theorem ct_X1_could {l : Launch} {D : va_G} {T : Nat → ClassId} {Z : Heap} {G0 : Hp} {Q : Int32 → Hp → Prop} {E : Nat → Hp → Prop} {th : Option Nat} {p0 : Int32} {p1 : Int32} {p2 : Int32} {p3 : Int32} (hLf : l.flags = flags0) (hw : w_X1_could T Q E th p0 p1 p2 p3 G0) : CT (twd D T Z) (Evd D T Z) l yX1_could (Cond.code yX1_could cX1_could 8 (some .int)) 10 245 [va_rf th, .int p0, .int p1, .int p2, .int p3] G0 (qI Q) E := by
  refine CT.ofW (cc := cX1_could) (nL := 8) (ret := (some .int)) Ext.rf (by decide) (Or.inl rfl) ?_
  intro p e s m below meth c hx hb hml hown hr hlk hnm hcb hm hc hn hE I
  have C : Cx p s m meth c D T Z "EndingTown" cX1_could 8 (some .int) := ⟨hx, hb, hml, hown, hE, hr, hlk⟩
  have hex := noEx hn hm hc hcb
  refine w_entry [.inr (.inl th), .inl p0, .inl p1, .inl p2, .inl p3] (Nat.le_of_ble_eq_true rfl) (fun ls hl => ?_)
  have hl : LH ls 8 [(0, .inr (.inl th)), (1, .inl p0), (2, .inl p1), (3, .inl p2), (4, .inl p3)] := hl
  obtain ⟨hth, h⟩ := hw
  refine l_ald_n C dX1_could_0 hl 0 rfl rfl ?_
  refine l_ild_n C dX1_could_1 hl 1 rfl rfl ?_
  refine k_call Ext.tr C I (k_V (r := th) (As := [.int p0]) (rest := []) (y := yX1_aPerson) C ⟨hth.ad.1, I.recv C.2.2.2.2.1 hth (by decide)⟩ q1089 q1091 qs32 (Or.inl rfl) q1092 (by decide) rfl pd_X1_aPerson rfl dX1_could_2) (ct_X1_aPerson hLf h) hl.1 dX1_could_2 [] rfl (Nat.le_of_ble_eq_true rfl) (Or.inl rfl) q1092 q100 ⟨Nat.le_of_ble_eq_true rfl, Nat.le_of_ble_eq_true rfl⟩ (fun v G1 H locs cells slots xG1 hq I => ?_) (fun a G9 H locs cells slots ex hq I => t_out C.2.2.2.2.2.2 ⟨rfl, rfl⟩ (fun z hz => hex z hz _) I hq)
  obtain ⟨rfl, h⟩ := hq
  have h := h xG1
  refine l_ald_n C dX1_could_5 hl 0 rfl rfl ?_
  refine l_ild_n C dX1_could_6 hl 2 rfl rfl ?_
  refine k_call Ext.tr C I (k_V (r := th) (As := [.int p1]) (rest := []) (y := yX1_anHour) C ⟨(hth.ext (by decide) xG1).ad.1, I.recv C.2.2.2.2.1 (hth.ext (by decide) xG1) (by decide)⟩ q1097 q1099 qs33 (Or.inl rfl) q1100 (by decide) rfl pd_X1_anHour rfl dX1_could_7) (ct_X1_anHour hLf h) hl.1 dX1_could_7 [] rfl (Nat.le_of_ble_eq_true rfl) (Or.inl rfl) q1100 q100 ⟨Nat.le_of_ble_eq_true rfl, Nat.le_of_ble_eq_true rfl⟩ (fun v G3 H locs cells slots xG3 hq I => ?_) (fun a G9 H locs cells slots ex hq I => t_out C.2.2.2.2.2.2 ⟨rfl, rfl⟩ (fun z hz => hex z hz _) I hq)
  obtain ⟨rfl, h⟩ := hq
  have h := h xG3
  refine l_ald_n C dX1_could_10 hl 0 rfl rfl ?_
  refine l_ild_n C dX1_could_11 hl 3 rfl rfl ?_
  refine k_call Ext.tr C I (k_V (r := th) (As := [.int p2]) (rest := []) (y := yX1_aThing) C ⟨(hth.ext (by decide) (Ext.tr _ _ _ xG1 xG3)).ad.1, I.recv C.2.2.2.2.1 (hth.ext (by decide) (Ext.tr _ _ _ xG1 xG3)) (by decide)⟩ q1109 q1111 qs34 (Or.inl rfl) q1112 (by decide) rfl pd_X1_aThing rfl dX1_could_12) (ct_X1_aThing hLf h) hl.1 dX1_could_12 [] rfl (Nat.le_of_ble_eq_true rfl) (Or.inl rfl) q1112 q100 ⟨Nat.le_of_ble_eq_true rfl, Nat.le_of_ble_eq_true rfl⟩ (fun v G5 H locs cells slots xG5 hq I => ?_) (fun a G9 H locs cells slots ex hq I => t_out C.2.2.2.2.2.2 ⟨rfl, rfl⟩ (fun z hz => hex z hz _) I hq)
  obtain ⟨rfl, h⟩ := hq
  have h := h xG5
  refine l_ald_n C dX1_could_15 hl 0 rfl rfl ?_
  refine k_call Ext.tr C I (k_V (r := th) (As := []) (rest := []) (y := yX1_whole) C ⟨(hth.ext (by decide) (Ext.tr _ _ _ xG1 (Ext.tr _ _ _ xG3 xG5))).ad.1, I.recv C.2.2.2.2.1 (hth.ext (by decide) (Ext.tr _ _ _ xG1 (Ext.tr _ _ _ xG3 xG5))) (by decide)⟩ q1239 q1241 qs38 (Or.inl rfl) q1242 (by decide) rfl pd_X1_whole rfl dX1_could_16) (ct_X1_whole h) hl.1 dX1_could_16 [] rfl (Nat.le_of_ble_eq_true rfl) (Or.inl rfl) q1242 q100 ⟨Nat.le_of_ble_eq_true rfl, Nat.le_of_ble_eq_true rfl⟩ (fun v G7 H locs cells slots xG7 hq I => ?_) (fun a G9 H locs cells slots ex hq I => hq.elim)
  obtain ⟨r8, rfl, h⟩ := hq
  have h := h xG7
  refine l_ast C dX1_could_19 hl (by decide) rfl (fun ls hl => ?_)
  have hl : LH ls 8 [(5, .inr (.inl r8)), (0, .inr (.inl th)), (1, .inl p0), (2, .inl p1), (3, .inl p2), (4, .inl p3)] := hl
  refine lv_iconst (v := 0) C.1 C.2.1 dX1_could_21 (by decide) ?_
  refine l_ist C dX1_could_22 hl (by decide) rfl (fun ls hl => ?_)
  have hl : LH ls 8 [(6, .inl ((0 : Int32))), (5, .inr (.inl r8)), (0, .inr (.inl th)), (1, .inl p0), (2, .inl p1), (3, .inl p2), (4, .inl p3)] := hl
  refine lv_iconst (v := 0) C.1 C.2.1 dX1_could_24 (by decide) ?_
  refine l_ist C dX1_could_25 hl (by decide) rfl (fun ls hl => ?_)
  have hl : LH ls 8 [(7, .inl ((0 : Int32))), (6, .inl ((0 : Int32))), (5, .inr (.inl r8)), (0, .inr (.inl th)), (1, .inl p0), (2, .inl p1), (3, .inl p2), (4, .inl p3)] := hl
  obtain ⟨n, h⟩ := h
  exact b_X1_could_27 C hex hLf n p0 p1 p2 p3 r8 ((0 : Int32)) ((0 : Int32)) G7 _ _ _ _ _ h (hth.ext (by decide) (Ext.tr _ _ _ xG1 (Ext.tr _ _ _ xG3 (Ext.tr _ _ _ xG5 xG7)))) I (hl.sub [3, 4, 5, 6, 7, 2, 1, 0] rfl)
def w_X1_above_180 (T : Nat → ClassId) (Q : Int32 → Hp → Prop) (th : Option Nat) (k81 : Int32 → Int32 → Hp → Prop) (k90 : Int32 → Int32 → Int32 → Hp → Prop) (l1 : Int32) (l3 : Int32) (l4 : Int32) (G : Hp) : Prop := k90 l1 l3 ((l4 + 1)) G
set_option maxHeartbeats 4000000 in
theorem b_X1_above_180 {G0 : Hp} {Q : Int32 → Hp → Prop} {th : Option Nat} {k81 : Int32 → Int32 → Hp → Prop} {k90 : Int32 → Int32 → Int32 → Hp → Prop} (C : Cx p s m meth c D T Z "EndingTown" cX1_above 6 (some .int)) (hk81 : ∀ (l1 : Int32) (l2 : Int32) (G : Hp) (H : Heap) (locs : List Loc) (cells slots : Nat) (ls : Array Slot), k81 l1 l2 G → isO G th 1 → HI (twd D T Z) G0 s (rmX (twd D T Z) 7 175 G0) H locs cells slots G → LH ls 6 [(0, .inr (.inl th)), (1, .inl l1), (2, .inl l2)] → W p l e (rmX (twd D T Z) 7 175 G0) s m args below meth c H locs cells slots (MQX (twd D T Z) G0 (qI Q) (fun _ _ => False) below s) (F0 m 81 ls [])) (hk90 : ∀ (l1 : Int32) (l3 : Int32) (l4 : Int32) (G : Hp) (H : Heap) (locs : List Loc) (cells slots : Nat) (ls : Array Slot), k90 l1 l3 l4 G → isO G th 1 → HI (twd D T Z) G0 s (rmX (twd D T Z) 7 175 G0) H locs cells slots G → LH ls 6 [(0, .inr (.inl th)), (1, .inl l1), (3, .inl l3), (4, .inl l4)] → W p l e (rmX (twd D T Z) 7 175 G0) s m args below meth c H locs cells slots (MQX (twd D T Z) G0 (qI Q) (fun _ _ => False) below s) (F0 m 90 ls [])) : ∀ (l1 : Int32) (l3 : Int32) (l4 : Int32) (G : Hp) (H : Heap) (locs : List Loc) (cells slots : Nat) (ls : Array Slot), w_X1_above_180 T Q th k81 k90 l1 l3 l4 G → isO G th 1 → HI (twd D T Z) G0 s (rmX (twd D T Z) 7 175 G0) H locs cells slots G → LH ls 6 [(0, .inr (.inl th)), (1, .inl l1), (3, .inl l3), (4, .inl l4)] → W p l e (rmX (twd D T Z) 7 175 G0) s m args below meth c H locs cells slots (MQX (twd D T Z) G0 (qI Q) (fun _ _ => False) below s) (F0 m 180 ls []) := by
  intro l1 l3 l4 G H locs cells slots ls h hth I hl
  refine l_inc (q := 3) (v := 1) C dX1_above_180 hl rfl (by decide) (by decide) rfl (fun ls hl => ?_)
  have hl : LH ls 6 [(4, .inl ((l4 + 1))), (0, .inr (.inl th)), (1, .inl l1), (3, .inl l3)] := hl
  refine lv_goto (tgt := 90) C.1 C.2.1 dX1_above_183 (by decide) ?_
  exact hk90 l1 l3 ((l4 + 1)) G _ _ _ _ _ h hth I (hl.sub [1, 2, 3, 0] rfl)
def w_X1_above_227 (T : Nat → ClassId) (Q : Int32 → Hp → Prop) (th : Option Nat) (k81 : Int32 → Int32 → Hp → Prop) (k189 : Int32 → Int32 → Int32 → Hp → Prop) (l1 : Int32) (l3 : Int32) (l4 : Int32) (t0 : Int32) (t1 : Int32) (t2 : Option Nat) (G : Hp) : Prop := isO G t2 52 ∧ vp_in t1 (gN G (ad t2)) ∧ bz t0 ∧ ∀ G2 : Hp, G2 = wI G (ad t2) t1.toNatClampNeg t0 → k189 l1 l3 ((l4 + 1)) G2
set_option maxHeartbeats 4000000 in
theorem b_X1_above_227 {G0 : Hp} {Q : Int32 → Hp → Prop} {th : Option Nat} {k81 : Int32 → Int32 → Hp → Prop} {k189 : Int32 → Int32 → Int32 → Hp → Prop} (C : Cx p s m meth c D T Z "EndingTown" cX1_above 6 (some .int)) (hk81 : ∀ (l1 : Int32) (l2 : Int32) (G : Hp) (H : Heap) (locs : List Loc) (cells slots : Nat) (ls : Array Slot), k81 l1 l2 G → isO G th 1 → HI (twd D T Z) G0 s (rmX (twd D T Z) 7 175 G0) H locs cells slots G → LH ls 6 [(0, .inr (.inl th)), (1, .inl l1), (2, .inl l2)] → W p l e (rmX (twd D T Z) 7 175 G0) s m args below meth c H locs cells slots (MQX (twd D T Z) G0 (qI Q) (fun _ _ => False) below s) (F0 m 81 ls [])) (hk189 : ∀ (l1 : Int32) (l3 : Int32) (l4 : Int32) (G : Hp) (H : Heap) (locs : List Loc) (cells slots : Nat) (ls : Array Slot), k189 l1 l3 l4 G → isO G th 1 → HI (twd D T Z) G0 s (rmX (twd D T Z) 7 175 G0) H locs cells slots G → LH ls 6 [(0, .inr (.inl th)), (1, .inl l1), (3, .inl l3), (4, .inl l4)] → W p l e (rmX (twd D T Z) 7 175 G0) s m args below meth c H locs cells slots (MQX (twd D T Z) G0 (qI Q) (fun _ _ => False) below s) (F0 m 189 ls [])) : ∀ (l1 : Int32) (l3 : Int32) (l4 : Int32) (t0 : Int32) (t1 : Int32) (t2 : Option Nat) (G : Hp) (H : Heap) (locs : List Loc) (cells slots : Nat) (ls : Array Slot), w_X1_above_227 T Q th k81 k189 l1 l3 l4 t0 t1 t2 G → isO G th 1 → HI (twd D T Z) G0 s (rmX (twd D T Z) 7 175 G0) H locs cells slots G → LH ls 6 [(0, .inr (.inl th)), (1, .inl l1), (3, .inl l3), (4, .inl l4)] → W p l e (rmX (twd D T Z) 7 175 G0) s m args below meth c H locs cells slots (MQX (twd D T Z) G0 (qI Q) (fun _ _ => False) below s) (F0 m 227 ls [.int t0, .int t1, va_rf t2]) := by
  intro l1 l3 l4 t0 t1 t2 G H locs cells slots ls h hth I hl
  obtain ⟨ho1, h⟩ := h
  obtain ⟨hi, h⟩ := h
  obtain ⟨hz, h⟩ := h
  refine A_zast C I ho1 hi hz dX1_above_227 (fun H locs G2 eG2 xG2 I => ?_)
  have h := h G2 eG2
  refine l_inc (q := 3) (v := 1) C dX1_above_228 hl rfl (by decide) (by decide) rfl (fun ls hl => ?_)
  have hl : LH ls 6 [(4, .inl ((l4 + 1))), (0, .inr (.inl th)), (1, .inl l1), (3, .inl l3)] := hl
  refine lv_goto (tgt := 189) C.1 C.2.1 dX1_above_231 (by decide) ?_
  exact hk189 l1 l3 ((l4 + 1)) G2 _ _ _ _ _ h (hth.ext (by decide) xG2) I (hl.sub [1, 2, 3, 0] rfl)
def w_X1_above_244 (T : Nat → ClassId) (Q : Int32 → Hp → Prop) (th : Option Nat) (k81 : Int32 → Int32 → Hp → Prop) (l3 : Int32) (t0 : Int32) (G : Hp) : Prop := k81 l3 t0 G
set_option maxHeartbeats 4000000 in
theorem b_X1_above_244 {G0 : Hp} {Q : Int32 → Hp → Prop} {th : Option Nat} {k81 : Int32 → Int32 → Hp → Prop} (C : Cx p s m meth c D T Z "EndingTown" cX1_above 6 (some .int)) (hk81 : ∀ (l1 : Int32) (l2 : Int32) (G : Hp) (H : Heap) (locs : List Loc) (cells slots : Nat) (ls : Array Slot), k81 l1 l2 G → isO G th 1 → HI (twd D T Z) G0 s (rmX (twd D T Z) 7 175 G0) H locs cells slots G → LH ls 6 [(0, .inr (.inl th)), (1, .inl l1), (2, .inl l2)] → W p l e (rmX (twd D T Z) 7 175 G0) s m args below meth c H locs cells slots (MQX (twd D T Z) G0 (qI Q) (fun _ _ => False) below s) (F0 m 81 ls [])) : ∀ (l3 : Int32) (t0 : Int32) (G : Hp) (H : Heap) (locs : List Loc) (cells slots : Nat) (ls : Array Slot), w_X1_above_244 T Q th k81 l3 t0 G → isO G th 1 → HI (twd D T Z) G0 s (rmX (twd D T Z) 7 175 G0) H locs cells slots G → LH ls 6 [(0, .inr (.inl th)), (3, .inl l3)] → W p l e (rmX (twd D T Z) 7 175 G0) s m args below meth c H locs cells slots (MQX (twd D T Z) G0 (qI Q) (fun _ _ => False) below s) (F0 m 244 ls [.int t0]) := by
  intro l3 t0 G H locs cells slots ls h hth I hl
  refine l_ist_n C dX1_above_244 rfl hl (by decide) rfl (fun ls hl => ?_)
  have hl : LH ls 6 [(2, .inl t0), (0, .inr (.inl th)), (3, .inl l3)] := hl
  refine l_ild_n C dX1_above_245 hl 2 rfl rfl ?_
  refine l_ist_n C dX1_above_246 rfl hl (by decide) rfl (fun ls hl => ?_)
  have hl : LH ls 6 [(1, .inl l3), (2, .inl t0), (0, .inr (.inl th)), (3, .inl l3)] := hl
  refine lv_goto (tgt := 81) C.1 C.2.1 dX1_above_247 (by decide) ?_
  exact hk81 l3 t0 G _ _ _ _ _ h hth I (hl.sub [2, 0, 1] rfl)
def w_X1_above_189 (T : Nat → ClassId) (Q : Int32 → Hp → Prop) (th : Option Nat) (k81 : Int32 → Int32 → Hp → Prop) : Nat → Int32 → Int32 → Int32 → Hp → Prop
  | 0 => fun _ _ _ _ => False
  | f189 + 1 => fun l1 l3 l4 G => isO G (gR G (ad th) 1) 16 ∧ w_J2_size T (fun r2 G1 => Ext G G1 → ((r2 ≤ l4) → (((l3 = l1) → (w_X1_above_244 T Q th k81 l3 ((0 : Int32)) G1)) ∧ ((¬ l3 = l1) → (w_X1_above_244 T Q th k81 l3 ((1 : Int32)) G1)))) ∧ ((¬ r2 ≤ l4) → (isO G1 (gR G1 (ad th) 3) 8 ∧ ((¬ ((l3 >>> (l4 &&& 31)) &&& (1 : Int32)) = (1 : Int32)) → (w_X1_above_227 T Q th k81 (w_X1_above_189 T Q th k81 f189) l1 l3 l4 ((0 : Int32)) l4 (gR G1 (ad (gR G1 (ad th) 3)) 3) G1)) ∧ ((((l3 >>> (l4 &&& 31)) &&& (1 : Int32)) = (1 : Int32)) → (w_X1_above_227 T Q th k81 (w_X1_above_189 T Q th k81 f189) l1 l3 l4 ((1 : Int32)) l4 (gR G1 (ad (gR G1 (ad th) 3)) 3) G1))))) (gR G (ad th) 1) G
set_option maxHeartbeats 4000000 in
theorem b_X1_above_189 {G0 : Hp} {Q : Int32 → Hp → Prop} {th : Option Nat} {k81 : Int32 → Int32 → Hp → Prop} (C : Cx p s m meth c D T Z "EndingTown" cX1_above 6 (some .int)) (hk81 : ∀ (l1 : Int32) (l2 : Int32) (G : Hp) (H : Heap) (locs : List Loc) (cells slots : Nat) (ls : Array Slot), k81 l1 l2 G → isO G th 1 → HI (twd D T Z) G0 s (rmX (twd D T Z) 7 175 G0) H locs cells slots G → LH ls 6 [(0, .inr (.inl th)), (1, .inl l1), (2, .inl l2)] → W p l e (rmX (twd D T Z) 7 175 G0) s m args below meth c H locs cells slots (MQX (twd D T Z) G0 (qI Q) (fun _ _ => False) below s) (F0 m 81 ls [])) : ∀ (n : Nat) (l1 : Int32) (l3 : Int32) (l4 : Int32) (G : Hp) (H : Heap) (locs : List Loc) (cells slots : Nat) (ls : Array Slot), w_X1_above_189 T Q th k81 n l1 l3 l4 G → isO G th 1 → HI (twd D T Z) G0 s (rmX (twd D T Z) 7 175 G0) H locs cells slots G → LH ls 6 [(0, .inr (.inl th)), (1, .inl l1), (3, .inl l3), (4, .inl l4)] → W p l e (rmX (twd D T Z) 7 175 G0) s m args below meth c H locs cells slots (MQX (twd D T Z) G0 (qI Q) (fun _ _ => False) below s) (F0 m 189 ls []) := by
  intro f189
  induction f189 with
  | zero => intro l1 l3 l4 G H locs cells slots ls h; exact (show False from h).elim
  | succ f189 ih =>
    intro l1 l3 l4 G H locs cells slots ls h hth I hl
    have h : isO G (gR G (ad th) 1) 16 ∧ w_J2_size T (fun r2 G1 => Ext G G1 → ((r2 ≤ l4) → (((l3 = l1) → (w_X1_above_244 T Q th k81 l3 ((0 : Int32)) G1)) ∧ ((¬ l3 = l1) → (w_X1_above_244 T Q th k81 l3 ((1 : Int32)) G1)))) ∧ ((¬ r2 ≤ l4) → (isO G1 (gR G1 (ad th) 3) 8 ∧ ((¬ ((l3 >>> (l4 &&& 31)) &&& (1 : Int32)) = (1 : Int32)) → (w_X1_above_227 T Q th k81 (w_X1_above_189 T Q th k81 f189) l1 l3 l4 ((0 : Int32)) l4 (gR G1 (ad (gR G1 (ad th) 3)) 3) G1)) ∧ ((((l3 >>> (l4 &&& 31)) &&& (1 : Int32)) = (1 : Int32)) → (w_X1_above_227 T Q th k81 (w_X1_above_189 T Q th k81 f189) l1 l3 l4 ((1 : Int32)) l4 (gR G1 (ad (gR G1 (ad th) 3)) 3) G1))))) (gR G (ad th) 1) G := h
    have hk189 := ih
    refine l_ild C dX1_above_189 hl 3 rfl ?_
    refine l_ald_n C dX1_above_191 hl 0 rfl rfl ?_
    refine g_R C I fl_X1_25_1 (by decide) (by decide) hth dX1_above_192 ?_
    obtain ⟨ho7, h⟩ := h
    refine k_call Ext.tr C I (k_F (kd := 16) (r := gR G (ad th) 1) (As := []) (rest := [.int l4]) (y := yJ2_size) (x := ⟨"java/util/List", "size", "()I"⟩) C (by decide) ⟨ho7.ad.1, I.recv C.2.2.2.2.1 ho7 (by decide)⟩ q424 (by decide) q426 q425 q430 q428 q417 q427 q429 rfl pd_J2_size rfl dX1_above_195) (ct_J2_size h) hl.1 dX1_above_195 [.inl l4] rfl (Nat.le_of_ble_eq_true rfl) (Or.inl rfl) q431 q104 ⟨Nat.le_of_ble_eq_true rfl, Nat.le_of_ble_eq_true rfl⟩ (fun v G1 H locs cells slots xG1 hq I => ?_) (fun a G9 H locs cells slots ex hq I => hq.elim)
    obtain ⟨r2, rfl, h⟩ := hq
    have h := h xG1
    refine lv_icmp_ge (tgt := 234) C.1 C.2.1 dX1_above_200 (by decide) (fun c6 => ?_) (fun c6 => ?_)
    · have h := h.1 c6
      refine l_ild_n C dX1_above_234 hl 2 rfl rfl ?_
      refine l_ild_n C dX1_above_235 hl 1 rfl rfl ?_
      refine lv_icmp_eq (tgt := 243) C.1 C.2.1 dX1_above_236 (by decide) (fun c3 => ?_) (fun c3 => ?_)
      · have h := h.1 c3
        refine lv_iconst (v := 0) C.1 C.2.1 dX1_above_243 (by decide) ?_
        exact b_X1_above_244 C hk81 l3 ((0 : Int32)) G1 _ _ _ _ _ h (hth.ext (by decide) xG1) I (hl.sub [0, 2] rfl)
      · have h := h.2 c3
        refine lv_iconst (v := 1) C.1 C.2.1 dX1_above_239 (by decide) ?_
        refine lv_goto (tgt := 244) C.1 C.2.1 dX1_above_240 (by decide) ?_
        exact b_X1_above_244 C hk81 l3 ((1 : Int32)) G1 _ _ _ _ _ h (hth.ext (by decide) xG1) I (hl.sub [0, 2] rfl)
    · have h := h.2 c6
      refine l_ald_n C dX1_above_203 hl 0 rfl rfl ?_
      refine g_R C I fl_X1_55_1 (by decide) (by decide) (hth.ext (by decide) xG1) dX1_above_204 ?_
      obtain ⟨ho4, h⟩ := h
      refine g_R C I fl_X1_277_8 (by decide) (by decide) ho4 dX1_above_207 ?_
      refine l_ild C dX1_above_210 hl 3 rfl ?_
      refine l_ild_n C dX1_above_212 hl 2 rfl rfl ?_
      refine l_ild C dX1_above_213 hl 3 rfl ?_
      refine lv_ishr C.1 C.2.1 dX1_above_215 ?_
      refine lv_iconst (v := 1) C.1 C.2.1 dX1_above_216 (by decide) ?_
      refine lv_iand C.1 C.2.1 dX1_above_217 ?_
      refine lv_iconst (v := 1) C.1 C.2.1 dX1_above_218 (by decide) ?_
      refine lv_icmp_ne (tgt := 226) C.1 C.2.1 dX1_above_219 (by decide) (fun c5 => ?_) (fun c5 => ?_)
      · have h := h.1 c5
        refine lv_iconst (v := 0) C.1 C.2.1 dX1_above_226 (by decide) ?_
        exact b_X1_above_227 C hk81 hk189 l1 l3 l4 ((0 : Int32)) l4 (gR G1 (ad (gR G1 (ad th) 3)) 3) G1 _ _ _ _ _ h (hth.ext (by decide) xG1) I (hl.sub [0, 1, 2, 3] rfl)
      · have h := h.2 c5
        refine lv_iconst (v := 1) C.1 C.2.1 dX1_above_222 (by decide) ?_
        refine lv_goto (tgt := 227) C.1 C.2.1 dX1_above_223 (by decide) ?_
        exact b_X1_above_227 C hk81 hk189 l1 l3 l4 ((1 : Int32)) l4 (gR G1 (ad (gR G1 (ad th) 3)) 3) G1 _ _ _ _ _ h (hth.ext (by decide) xG1) I (hl.sub [0, 1, 2, 3] rfl)
def w_X1_above_90 (T : Nat → ClassId) (Q : Int32 → Hp → Prop) (th : Option Nat) (k81 : Int32 → Int32 → Hp → Prop) : Nat → Int32 → Int32 → Int32 → Hp → Prop
  | 0 => fun _ _ _ _ => False
  | f90 + 1 => fun l1 l3 l4 G => isO G (gR G (ad th) 1) 16 ∧ w_J2_size T (fun r2 G1 => Ext G G1 → ((r2 ≤ l4) → (∃ n, w_X1_above_189 T Q th k81 n l1 l3 ((0 : Int32)) G1)) ∧ ((¬ r2 ≤ l4) → (isO G1 (gR G1 (ad th) 1) 16 ∧ w_J2_get T (fun r4 G3 => Ext G1 G3 → (r4 = none ∨ isO G3 r4 15) ∧ isO G3 (gR G3 (ad th) 3) 8 ∧ isO G3 (gR G3 (ad (gR G3 (ad th) 3)) 3) 52 ∧ vp_in l4 (gN G3 (ad (gR G3 (ad (gR G3 (ad th) 3)) 3))) ∧ ((gI G3 (ad (gR G3 (ad (gR G3 (ad th) 3)) 3)) l4.toNatClampNeg = 0) → (w_X1_above_180 T Q th k81 (w_X1_above_90 T Q th k81 f90) l1 l3 l4 G3)) ∧ ((¬ gI G3 (ad (gR G3 (ad (gR G3 (ad th) 3)) 3)) l4.toNatClampNeg = 0) → (isO G3 r4 15 ∧ isO G3 (gR G3 (ad th) 2) 56 ∧ vp_in (gI G3 (ad r4) 3) (gN G3 (ad (gR G3 (ad th) 2))) ∧ (isO G3 (gR G3 (ad (gR G3 (ad th) 2)) (gI G3 (ad r4) 3).toNatClampNeg) 3 ∨ isO G3 (gR G3 (ad (gR G3 (ad th) 2)) (gI G3 (ad r4) 3).toNatClampNeg) 4 ∨ isO G3 (gR G3 (ad (gR G3 (ad th) 2)) (gI G3 (ad r4) 3).toNatClampNeg) 5 ∨ isO G3 (gR G3 (ad (gR G3 (ad th) 2)) (gI G3 (ad r4) 3).toNatClampNeg) 6 ∨ isO G3 (gR G3 (ad (gR G3 (ad th) 2)) (gI G3 (ad r4) 3).toNatClampNeg) 7) ∧ (isO G3 (gR G3 (ad (gR G3 (ad th) 2)) (gI G3 (ad r4) 3).toNatClampNeg) 3 → w_X5_round T (fun r10 G9 => Ext G3 G9 → ((r10 ≤ 0) → (w_X1_above_180 T Q th k81 (w_X1_above_90 T Q th k81 f90) l1 l3 l4 G9)) ∧ ((¬ r10 ≤ 0) → (w_X1_above_180 T Q th k81 (w_X1_above_90 T Q th k81 f90) l1 ((l3 ||| ((1 : Int32) <<< (l4 &&& 31)))) l4 G9))) (gR G3 (ad (gR G3 (ad th) 2)) (gI G3 (ad r4) 3).toNatClampNeg) (gR G3 (ad th) 3) (gI G3 (ad r4) 0) (gI G3 (ad r4) 1) (gI G3 (ad r4) 2) (gI G3 (ad r4) 4) G3) ∧ (isO G3 (gR G3 (ad (gR G3 (ad th) 2)) (gI G3 (ad r4) 3).toNatClampNeg) 4 → w_X6_round T (fun r10 G9 => Ext G3 G9 → ((r10 ≤ 0) → (w_X1_above_180 T Q th k81 (w_X1_above_90 T Q th k81 f90) l1 l3 l4 G9)) ∧ ((¬ r10 ≤ 0) → (w_X1_above_180 T Q th k81 (w_X1_above_90 T Q th k81 f90) l1 ((l3 ||| ((1 : Int32) <<< (l4 &&& 31)))) l4 G9))) (gR G3 (ad (gR G3 (ad th) 2)) (gI G3 (ad r4) 3).toNatClampNeg) (gR G3 (ad th) 3) (gI G3 (ad r4) 0) (gI G3 (ad r4) 1) (gI G3 (ad r4) 2) (gI G3 (ad r4) 4) G3) ∧ (isO G3 (gR G3 (ad (gR G3 (ad th) 2)) (gI G3 (ad r4) 3).toNatClampNeg) 5 → w_X7_round T (fun r10 G9 => Ext G3 G9 → ((r10 ≤ 0) → (w_X1_above_180 T Q th k81 (w_X1_above_90 T Q th k81 f90) l1 l3 l4 G9)) ∧ ((¬ r10 ≤ 0) → (w_X1_above_180 T Q th k81 (w_X1_above_90 T Q th k81 f90) l1 ((l3 ||| ((1 : Int32) <<< (l4 &&& 31)))) l4 G9))) (gR G3 (ad (gR G3 (ad th) 2)) (gI G3 (ad r4) 3).toNatClampNeg) (gR G3 (ad th) 3) (gI G3 (ad r4) 0) (gI G3 (ad r4) 1) (gI G3 (ad r4) 2) (gI G3 (ad r4) 4) G3) ∧ (isO G3 (gR G3 (ad (gR G3 (ad th) 2)) (gI G3 (ad r4) 3).toNatClampNeg) 6 → w_X8_round T (fun r10 G9 => Ext G3 G9 → ((r10 ≤ 0) → (w_X1_above_180 T Q th k81 (w_X1_above_90 T Q th k81 f90) l1 l3 l4 G9)) ∧ ((¬ r10 ≤ 0) → (w_X1_above_180 T Q th k81 (w_X1_above_90 T Q th k81 f90) l1 ((l3 ||| ((1 : Int32) <<< (l4 &&& 31)))) l4 G9))) (gR G3 (ad (gR G3 (ad th) 2)) (gI G3 (ad r4) 3).toNatClampNeg) (gR G3 (ad th) 3) (gI G3 (ad r4) 0) (gI G3 (ad r4) 1) (gI G3 (ad r4) 2) (gI G3 (ad r4) 4) G3) ∧ (isO G3 (gR G3 (ad (gR G3 (ad th) 2)) (gI G3 (ad r4) 3).toNatClampNeg) 7 → w_X9_round T (fun r10 G9 => Ext G3 G9 → ((r10 ≤ 0) → (w_X1_above_180 T Q th k81 (w_X1_above_90 T Q th k81 f90) l1 l3 l4 G9)) ∧ ((¬ r10 ≤ 0) → (w_X1_above_180 T Q th k81 (w_X1_above_90 T Q th k81 f90) l1 ((l3 ||| ((1 : Int32) <<< (l4 &&& 31)))) l4 G9))) (gR G3 (ad (gR G3 (ad th) 2)) (gI G3 (ad r4) 3).toNatClampNeg) (gR G3 (ad th) 3) (gI G3 (ad r4) 0) (gI G3 (ad r4) 1) (gI G3 (ad r4) 2) (gI G3 (ad r4) 4) G3)))) (gR G1 (ad th) 1) l4 G1))) (gR G (ad th) 1) G
set_option maxHeartbeats 4000000 in
theorem b_X1_above_90 {G0 : Hp} {Q : Int32 → Hp → Prop} {th : Option Nat} {k81 : Int32 → Int32 → Hp → Prop} (C : Cx p s m meth c D T Z "EndingTown" cX1_above 6 (some .int)) (hk81 : ∀ (l1 : Int32) (l2 : Int32) (G : Hp) (H : Heap) (locs : List Loc) (cells slots : Nat) (ls : Array Slot), k81 l1 l2 G → isO G th 1 → HI (twd D T Z) G0 s (rmX (twd D T Z) 7 175 G0) H locs cells slots G → LH ls 6 [(0, .inr (.inl th)), (1, .inl l1), (2, .inl l2)] → W p l e (rmX (twd D T Z) 7 175 G0) s m args below meth c H locs cells slots (MQX (twd D T Z) G0 (qI Q) (fun _ _ => False) below s) (F0 m 81 ls [])) : ∀ (n : Nat) (l1 : Int32) (l3 : Int32) (l4 : Int32) (G : Hp) (H : Heap) (locs : List Loc) (cells slots : Nat) (ls : Array Slot), w_X1_above_90 T Q th k81 n l1 l3 l4 G → isO G th 1 → HI (twd D T Z) G0 s (rmX (twd D T Z) 7 175 G0) H locs cells slots G → LH ls 6 [(0, .inr (.inl th)), (1, .inl l1), (3, .inl l3), (4, .inl l4)] → W p l e (rmX (twd D T Z) 7 175 G0) s m args below meth c H locs cells slots (MQX (twd D T Z) G0 (qI Q) (fun _ _ => False) below s) (F0 m 90 ls []) := by
  intro f90
  induction f90 with
  | zero => intro l1 l3 l4 G H locs cells slots ls h; exact (show False from h).elim
  | succ f90 ih =>
    intro l1 l3 l4 G H locs cells slots ls h hth I hl
    have h : isO G (gR G (ad th) 1) 16 ∧ w_J2_size T (fun r2 G1 => Ext G G1 → ((r2 ≤ l4) → (∃ n, w_X1_above_189 T Q th k81 n l1 l3 ((0 : Int32)) G1)) ∧ ((¬ r2 ≤ l4) → (isO G1 (gR G1 (ad th) 1) 16 ∧ w_J2_get T (fun r4 G3 => Ext G1 G3 → (r4 = none ∨ isO G3 r4 15) ∧ isO G3 (gR G3 (ad th) 3) 8 ∧ isO G3 (gR G3 (ad (gR G3 (ad th) 3)) 3) 52 ∧ vp_in l4 (gN G3 (ad (gR G3 (ad (gR G3 (ad th) 3)) 3))) ∧ ((gI G3 (ad (gR G3 (ad (gR G3 (ad th) 3)) 3)) l4.toNatClampNeg = 0) → (w_X1_above_180 T Q th k81 (w_X1_above_90 T Q th k81 f90) l1 l3 l4 G3)) ∧ ((¬ gI G3 (ad (gR G3 (ad (gR G3 (ad th) 3)) 3)) l4.toNatClampNeg = 0) → (isO G3 r4 15 ∧ isO G3 (gR G3 (ad th) 2) 56 ∧ vp_in (gI G3 (ad r4) 3) (gN G3 (ad (gR G3 (ad th) 2))) ∧ (isO G3 (gR G3 (ad (gR G3 (ad th) 2)) (gI G3 (ad r4) 3).toNatClampNeg) 3 ∨ isO G3 (gR G3 (ad (gR G3 (ad th) 2)) (gI G3 (ad r4) 3).toNatClampNeg) 4 ∨ isO G3 (gR G3 (ad (gR G3 (ad th) 2)) (gI G3 (ad r4) 3).toNatClampNeg) 5 ∨ isO G3 (gR G3 (ad (gR G3 (ad th) 2)) (gI G3 (ad r4) 3).toNatClampNeg) 6 ∨ isO G3 (gR G3 (ad (gR G3 (ad th) 2)) (gI G3 (ad r4) 3).toNatClampNeg) 7) ∧ (isO G3 (gR G3 (ad (gR G3 (ad th) 2)) (gI G3 (ad r4) 3).toNatClampNeg) 3 → w_X5_round T (fun r10 G9 => Ext G3 G9 → ((r10 ≤ 0) → (w_X1_above_180 T Q th k81 (w_X1_above_90 T Q th k81 f90) l1 l3 l4 G9)) ∧ ((¬ r10 ≤ 0) → (w_X1_above_180 T Q th k81 (w_X1_above_90 T Q th k81 f90) l1 ((l3 ||| ((1 : Int32) <<< (l4 &&& 31)))) l4 G9))) (gR G3 (ad (gR G3 (ad th) 2)) (gI G3 (ad r4) 3).toNatClampNeg) (gR G3 (ad th) 3) (gI G3 (ad r4) 0) (gI G3 (ad r4) 1) (gI G3 (ad r4) 2) (gI G3 (ad r4) 4) G3) ∧ (isO G3 (gR G3 (ad (gR G3 (ad th) 2)) (gI G3 (ad r4) 3).toNatClampNeg) 4 → w_X6_round T (fun r10 G9 => Ext G3 G9 → ((r10 ≤ 0) → (w_X1_above_180 T Q th k81 (w_X1_above_90 T Q th k81 f90) l1 l3 l4 G9)) ∧ ((¬ r10 ≤ 0) → (w_X1_above_180 T Q th k81 (w_X1_above_90 T Q th k81 f90) l1 ((l3 ||| ((1 : Int32) <<< (l4 &&& 31)))) l4 G9))) (gR G3 (ad (gR G3 (ad th) 2)) (gI G3 (ad r4) 3).toNatClampNeg) (gR G3 (ad th) 3) (gI G3 (ad r4) 0) (gI G3 (ad r4) 1) (gI G3 (ad r4) 2) (gI G3 (ad r4) 4) G3) ∧ (isO G3 (gR G3 (ad (gR G3 (ad th) 2)) (gI G3 (ad r4) 3).toNatClampNeg) 5 → w_X7_round T (fun r10 G9 => Ext G3 G9 → ((r10 ≤ 0) → (w_X1_above_180 T Q th k81 (w_X1_above_90 T Q th k81 f90) l1 l3 l4 G9)) ∧ ((¬ r10 ≤ 0) → (w_X1_above_180 T Q th k81 (w_X1_above_90 T Q th k81 f90) l1 ((l3 ||| ((1 : Int32) <<< (l4 &&& 31)))) l4 G9))) (gR G3 (ad (gR G3 (ad th) 2)) (gI G3 (ad r4) 3).toNatClampNeg) (gR G3 (ad th) 3) (gI G3 (ad r4) 0) (gI G3 (ad r4) 1) (gI G3 (ad r4) 2) (gI G3 (ad r4) 4) G3) ∧ (isO G3 (gR G3 (ad (gR G3 (ad th) 2)) (gI G3 (ad r4) 3).toNatClampNeg) 6 → w_X8_round T (fun r10 G9 => Ext G3 G9 → ((r10 ≤ 0) → (w_X1_above_180 T Q th k81 (w_X1_above_90 T Q th k81 f90) l1 l3 l4 G9)) ∧ ((¬ r10 ≤ 0) → (w_X1_above_180 T Q th k81 (w_X1_above_90 T Q th k81 f90) l1 ((l3 ||| ((1 : Int32) <<< (l4 &&& 31)))) l4 G9))) (gR G3 (ad (gR G3 (ad th) 2)) (gI G3 (ad r4) 3).toNatClampNeg) (gR G3 (ad th) 3) (gI G3 (ad r4) 0) (gI G3 (ad r4) 1) (gI G3 (ad r4) 2) (gI G3 (ad r4) 4) G3) ∧ (isO G3 (gR G3 (ad (gR G3 (ad th) 2)) (gI G3 (ad r4) 3).toNatClampNeg) 7 → w_X9_round T (fun r10 G9 => Ext G3 G9 → ((r10 ≤ 0) → (w_X1_above_180 T Q th k81 (w_X1_above_90 T Q th k81 f90) l1 l3 l4 G9)) ∧ ((¬ r10 ≤ 0) → (w_X1_above_180 T Q th k81 (w_X1_above_90 T Q th k81 f90) l1 ((l3 ||| ((1 : Int32) <<< (l4 &&& 31)))) l4 G9))) (gR G3 (ad (gR G3 (ad th) 2)) (gI G3 (ad r4) 3).toNatClampNeg) (gR G3 (ad th) 3) (gI G3 (ad r4) 0) (gI G3 (ad r4) 1) (gI G3 (ad r4) 2) (gI G3 (ad r4) 4) G3)))) (gR G1 (ad th) 1) l4 G1))) (gR G (ad th) 1) G := h
    have hk90 := ih
    refine l_ild C dX1_above_90 hl 3 rfl ?_
    refine l_ald_n C dX1_above_92 hl 0 rfl rfl ?_
    refine g_R C I fl_X1_25_1 (by decide) (by decide) hth dX1_above_93 ?_
    obtain ⟨ho15, h⟩ := h
    refine k_call Ext.tr C I (k_F (kd := 16) (r := gR G (ad th) 1) (As := []) (rest := [.int l4]) (y := yJ2_size) (x := ⟨"java/util/List", "size", "()I"⟩) C (by decide) ⟨ho15.ad.1, I.recv C.2.2.2.2.1 ho15 (by decide)⟩ q424 (by decide) q426 q425 q430 q428 q417 q427 q429 rfl pd_J2_size rfl dX1_above_96) (ct_J2_size h) hl.1 dX1_above_96 [.inl l4] rfl (Nat.le_of_ble_eq_true rfl) (Or.inl rfl) q431 q104 ⟨Nat.le_of_ble_eq_true rfl, Nat.le_of_ble_eq_true rfl⟩ (fun v G1 H locs cells slots xG1 hq I => ?_) (fun a G9 H locs cells slots ex hq I => hq.elim)
    obtain ⟨r2, rfl, h⟩ := hq
    have h := h xG1
    refine lv_icmp_ge (tgt := 186) C.1 C.2.1 dX1_above_101 (by decide) (fun c14 => ?_) (fun c14 => ?_)
    · have h := h.1 c14
      refine lv_iconst (v := 0) C.1 C.2.1 dX1_above_186 (by decide) ?_
      refine l_ist C dX1_above_187 hl (by decide) rfl (fun ls hl => ?_)
      have hl : LH ls 6 [(4, .inl ((0 : Int32))), (0, .inr (.inl th)), (1, .inl l1), (3, .inl l3)] := hl
      obtain ⟨n, h⟩ := h
      exact b_X1_above_189 C hk81 n l1 l3 ((0 : Int32)) G1 _ _ _ _ _ h (hth.ext (by decide) xG1) I (hl.sub [1, 2, 3, 0] rfl)
    · have h := h.2 c14
      refine l_ald_n C dX1_above_104 hl 0 rfl rfl ?_
      refine g_R C I fl_X1_25_1 (by decide) (by decide) (hth.ext (by decide) xG1) dX1_above_105 ?_
      refine l_ild C dX1_above_108 hl 3 rfl ?_
      obtain ⟨ho13, h⟩ := h
      refine k_call Ext.tr C I (k_F (kd := 16) (r := gR G1 (ad th) 1) (As := [.int l4]) (rest := []) (y := yJ2_get) (x := ⟨"java/util/List", "get", "(I)Ljava/lang/Object;"⟩) C (by decide) ⟨ho13.ad.1, I.recv C.2.2.2.2.1 ho13 (by decide)⟩ q561 (by decide) q477 q476 q481 q479 q417 q478 q480 rfl pd_J2_get rfl dX1_above_110) (ct_J2_get h) hl.1 dX1_above_110 [] rfl (Nat.le_of_ble_eq_true rfl) (Or.inl rfl) q482 q104 ⟨Nat.le_of_ble_eq_true rfl, Nat.le_of_ble_eq_true rfl⟩ (fun v G3 H locs cells slots xG3 hq I => ?_) (fun a G9 H locs cells slots ex hq I => hq.elim)
      obtain ⟨r4, rfl, h⟩ := hq
      have h := h xG3
      obtain ⟨hcc, h⟩ := h
      refine c_cast (kd := 15) C I (by decide) q562 hcc dX1_above_115 ?_
      refine l_ast C dX1_above_118 hl (by decide) rfl (fun ls hl => ?_)
      have hl : LH ls 6 [(5, .inr (.inl r4)), (0, .inr (.inl th)), (1, .inl l1), (3, .inl l3), (4, .inl l4)] := hl
      refine l_ald_n C dX1_above_120 hl 1 rfl rfl ?_
      refine g_R C I fl_X1_55_1 (by decide) (by decide) (hth.ext (by decide) (Ext.tr _ _ _ xG1 xG3)) dX1_above_121 ?_
      obtain ⟨ho5, h⟩ := h
      refine g_R C I fl_X1_277_8 (by decide) (by decide) ho5 dX1_above_124 ?_
      refine l_ild C dX1_above_127 hl 4 rfl ?_
      obtain ⟨ho6, h⟩ := h
      obtain ⟨hi, h⟩ := h
      refine a_zald C I ho6 hi dX1_above_129 ?_
      refine lv_if_eq (tgt := 180) C.1 C.2.1 dX1_above_130 (by decide) (fun c12 => ?_) (fun c12 => ?_)
      · have h := h.1 c12
        exact b_X1_above_180 C hk81 hk90 l1 l3 l4 G3 _ _ _ _ _ h (hth.ext (by decide) (Ext.tr _ _ _ xG1 xG3)) I (hl.sub [1, 2, 3, 4] rfl)
      · have h := h.2 c12
        refine l_ald_n C dX1_above_133 hl 1 rfl rfl ?_
        refine g_R C I fl_X1_48_1 (by decide) (by decide) (hth.ext (by decide) (Ext.tr _ _ _ xG1 xG3)) dX1_above_134 ?_
        refine l_ald C dX1_above_137 hl 0 rfl ?_
        obtain ⟨ho7, h⟩ := h
        refine g_I C I fl_X1_254_15 (by decide) (by decide) ho7 dX1_above_139 ?_
        obtain ⟨ho8, h⟩ := h
        obtain ⟨hi, h⟩ := h
        refine a_aald C I ho8 (by decide) hi dX1_above_142 ?_
        refine l_ald_n C dX1_above_143 hl 1 rfl rfl ?_
        refine g_R C I fl_X1_55_1 (by decide) (by decide) (hth.ext (by decide) (Ext.tr _ _ _ xG1 xG3)) dX1_above_144 ?_
        refine l_ald C dX1_above_147 hl 0 rfl ?_
        refine g_I C I fl_X1_247_15 (by decide) (by decide) ho7 dX1_above_149 ?_
        refine l_ald C dX1_above_152 hl 0 rfl ?_
        refine g_I C I fl_X1_250_15 (by decide) (by decide) ho7 dX1_above_154 ?_
        refine l_ald C dX1_above_157 hl 0 rfl ?_
        refine g_I C I fl_X1_251_15 (by decide) (by decide) ho7 dX1_above_159 ?_
        refine l_ald C dX1_above_162 hl 0 rfl ?_
        refine g_I C I fl_X1_257_15 (by decide) (by decide) ho7 dX1_above_164 ?_
        have kk : ∀ (v : Option Value) (G9 : Hp) (H : Heap) (locs : List Loc) (cells slots : Nat), Ext G3 G9 → (qI (fun r10 G9 => Ext G3 G9 → ((r10 ≤ 0) → (w_X1_above_180 T Q th k81 (w_X1_above_90 T Q th k81 f90) l1 l3 l4 G9)) ∧ ((¬ r10 ≤ 0) → (w_X1_above_180 T Q th k81 (w_X1_above_90 T Q th k81 f90) l1 ((l3 ||| ((1 : Int32) <<< (l4 &&& 31)))) l4 G9)))) v G9 → HI (twd D T Z) G0 s (rmX (twd D T Z) 7 175 G0) H locs cells slots G9 → W p l e (rmX (twd D T Z) 7 175 G0) s m args below meth c H locs cells slots (MQX (twd D T Z) G0 (qI Q) (fun _ _ => False) below s) (F0 m 170 ls (v.toList ++ [])) := by
          intro v G9 H locs cells slots xG9 hq I
          obtain ⟨r10, rfl, h⟩ := hq
          have h := h xG9
          refine lv_if_le (tgt := 180) C.1 C.2.1 dX1_above_170 (by decide) (fun c11 => ?_) (fun c11 => ?_)
          · have h := h.1 c11
            exact b_X1_above_180 C hk81 hk90 l1 l3 l4 G9 _ _ _ _ _ h (hth.ext (by decide) (Ext.tr _ _ _ xG1 (Ext.tr _ _ _ xG3 xG9))) I (hl.sub [1, 2, 3, 4] rfl)
          · have h := h.2 c11
            refine l_ild_n C dX1_above_173 hl 3 rfl rfl ?_
            refine lv_iconst (v := 1) C.1 C.2.1 dX1_above_174 (by decide) ?_
            refine l_ild C dX1_above_175 hl 4 rfl ?_
            refine lv_ishl C.1 C.2.1 dX1_above_177 ?_
            refine lv_ior C.1 C.2.1 dX1_above_178 ?_
            refine l_ist_n C dX1_above_179 rfl hl (by decide) rfl (fun ls hl => ?_)
            have hl : LH ls 6 [(3, .inl ((l3 ||| ((1 : Int32) <<< (l4 &&& 31))))), (5, .inr (.inl r4)), (0, .inr (.inl th)), (1, .inl l1), (4, .inl l4)] := hl
            exact b_X1_above_180 C hk81 hk90 l1 ((l3 ||| ((1 : Int32) <<< (l4 &&& 31)))) l4 G9 _ _ _ _ _ h (hth.ext (by decide) (Ext.tr _ _ _ xG1 (Ext.tr _ _ _ xG3 xG9))) I (hl.sub [2, 3, 0, 4] rfl)
        obtain ⟨hd, h⟩ := h
        rcases hd with ho3 | ho4 | ho5 | ho6 | ho7
        · have h := h.1 ho3
          refine k_call Ext.tr C I (k_U (r := gR G3 (ad (gR G3 (ad th) 2)) (gI G3 (ad r4) 3).toNatClampNeg) (As := [va_rf (gR G3 (ad th) 3), .int (gI G3 (ad r4) 0), .int (gI G3 (ad r4) 1), .int (gI G3 (ad r4) 2), .int (gI G3 (ad r4) 4)]) (rest := []) (y := yX5_round) (x := ⟨"EndingTown$How", "round", "(LEndingTown$Day;IIIZ)I"⟩) (owner := "EndingTown$How") C ⟨ho3.ad.1, I.recv C.2.2.2.2.1 ho3 (by decide)⟩ q1274 q498 q497 (by decide) q512 q513 rfl pd_X5_round rfl dX1_above_167) (ct_X5_round h) hl.1 dX1_above_167 [] rfl (Nat.le_of_ble_eq_true rfl) (Or.inl rfl) q514 q107 ⟨Nat.le_of_ble_eq_true rfl, Nat.le_of_ble_eq_true rfl⟩ (fun v G9 H locs cells slots xG9 hq I => kk v G9 H locs cells slots xG9 hq I) (fun a G9 H locs cells slots ex hq I => hq.elim)
        · have h := h.2.1 ho4
          refine k_call Ext.tr C I (k_U (r := gR G3 (ad (gR G3 (ad th) 2)) (gI G3 (ad r4) 3).toNatClampNeg) (As := [va_rf (gR G3 (ad th) 3), .int (gI G3 (ad r4) 0), .int (gI G3 (ad r4) 1), .int (gI G3 (ad r4) 2), .int (gI G3 (ad r4) 4)]) (rest := []) (y := yX6_round) (x := ⟨"EndingTown$How", "round", "(LEndingTown$Day;IIIZ)I"⟩) (owner := "EndingTown$How") C ⟨ho4.ad.1, I.recv C.2.2.2.2.1 ho4 (by decide)⟩ q1274 q498 q497 (by decide) q502 q503 rfl pd_X6_round rfl dX1_above_167) (ct_X6_round h) hl.1 dX1_above_167 [] rfl (Nat.le_of_ble_eq_true rfl) (Or.inl rfl) q504 q108 ⟨Nat.le_of_ble_eq_true rfl, Nat.le_of_ble_eq_true rfl⟩ (fun v G9 H locs cells slots xG9 hq I => kk v G9 H locs cells slots xG9 hq I) (fun a G9 H locs cells slots ex hq I => hq.elim)
        · have h := h.2.2.1 ho5
          refine k_call Ext.tr C I (k_U (r := gR G3 (ad (gR G3 (ad th) 2)) (gI G3 (ad r4) 3).toNatClampNeg) (As := [va_rf (gR G3 (ad th) 3), .int (gI G3 (ad r4) 0), .int (gI G3 (ad r4) 1), .int (gI G3 (ad r4) 2), .int (gI G3 (ad r4) 4)]) (rest := []) (y := yX7_round) (x := ⟨"EndingTown$How", "round", "(LEndingTown$Day;IIIZ)I"⟩) (owner := "EndingTown$How") C ⟨ho5.ad.1, I.recv C.2.2.2.2.1 ho5 (by decide)⟩ q1274 q498 q497 (by decide) q519 q520 rfl pd_X7_round rfl dX1_above_167) (ct_X7_round h) hl.1 dX1_above_167 [] rfl (Nat.le_of_ble_eq_true rfl) (Or.inl rfl) q521 q109 ⟨Nat.le_of_ble_eq_true rfl, Nat.le_of_ble_eq_true rfl⟩ (fun v G9 H locs cells slots xG9 hq I => kk v G9 H locs cells slots xG9 hq I) (fun a G9 H locs cells slots ex hq I => hq.elim)
        · have h := h.2.2.2.1 ho6
          refine k_call Ext.tr C I (k_U (r := gR G3 (ad (gR G3 (ad th) 2)) (gI G3 (ad r4) 3).toNatClampNeg) (As := [va_rf (gR G3 (ad th) 3), .int (gI G3 (ad r4) 0), .int (gI G3 (ad r4) 1), .int (gI G3 (ad r4) 2), .int (gI G3 (ad r4) 4)]) (rest := []) (y := yX8_round) (x := ⟨"EndingTown$How", "round", "(LEndingTown$Day;IIIZ)I"⟩) (owner := "EndingTown$How") C ⟨ho6.ad.1, I.recv C.2.2.2.2.1 ho6 (by decide)⟩ q1274 q498 q497 (by decide) q536 q537 rfl pd_X8_round rfl dX1_above_167) (ct_X8_round h) hl.1 dX1_above_167 [] rfl (Nat.le_of_ble_eq_true rfl) (Or.inl rfl) q538 q110 ⟨Nat.le_of_ble_eq_true rfl, Nat.le_of_ble_eq_true rfl⟩ (fun v G9 H locs cells slots xG9 hq I => kk v G9 H locs cells slots xG9 hq I) (fun a G9 H locs cells slots ex hq I => hq.elim)
        · have h := h.2.2.2.2 ho7
          refine k_call Ext.tr C I (k_U (r := gR G3 (ad (gR G3 (ad th) 2)) (gI G3 (ad r4) 3).toNatClampNeg) (As := [va_rf (gR G3 (ad th) 3), .int (gI G3 (ad r4) 0), .int (gI G3 (ad r4) 1), .int (gI G3 (ad r4) 2), .int (gI G3 (ad r4) 4)]) (rest := []) (y := yX9_round) (x := ⟨"EndingTown$How", "round", "(LEndingTown$Day;IIIZ)I"⟩) (owner := "EndingTown$How") C ⟨ho7.ad.1, I.recv C.2.2.2.2.1 ho7 (by decide)⟩ q1274 q498 q497 (by decide) q499 q500 rfl pd_X9_round rfl dX1_above_167) (ct_X9_round h) hl.1 dX1_above_167 [] rfl (Nat.le_of_ble_eq_true rfl) (Or.inl rfl) q501 q111 ⟨Nat.le_of_ble_eq_true rfl, Nat.le_of_ble_eq_true rfl⟩ (fun v G9 H locs cells slots xG9 hq I => kk v G9 H locs cells slots xG9 hq I) (fun a G9 H locs cells slots ex hq I => hq.elim)
def w_X1_above_81 (T : Nat → ClassId) (Q : Int32 → Hp → Prop) (th : Option Nat) : Nat → Int32 → Int32 → Hp → Prop
  | 0 => fun _ _ _ => False
  | f81 + 1 => fun l1 l2 G => ((l2 = 0) → (Q l1 G)) ∧ ((¬ l2 = 0) → (∃ n, w_X1_above_90 T Q th (w_X1_above_81 T Q th f81) n l1 ((0 : Int32)) ((0 : Int32)) G))
set_option maxHeartbeats 4000000 in
theorem b_X1_above_81 {G0 : Hp} {Q : Int32 → Hp → Prop} {th : Option Nat} (C : Cx p s m meth c D T Z "EndingTown" cX1_above 6 (some .int)) : ∀ (n : Nat) (l1 : Int32) (l2 : Int32) (G : Hp) (H : Heap) (locs : List Loc) (cells slots : Nat) (ls : Array Slot), w_X1_above_81 T Q th n l1 l2 G → isO G th 1 → HI (twd D T Z) G0 s (rmX (twd D T Z) 7 175 G0) H locs cells slots G → LH ls 6 [(0, .inr (.inl th)), (1, .inl l1), (2, .inl l2)] → W p l e (rmX (twd D T Z) 7 175 G0) s m args below meth c H locs cells slots (MQX (twd D T Z) G0 (qI Q) (fun _ _ => False) below s) (F0 m 81 ls []) := by
  intro f81
  induction f81 with
  | zero => intro l1 l2 G H locs cells slots ls h; exact (show False from h).elim
  | succ f81 ih =>
    intro l1 l2 G H locs cells slots ls h hth I hl
    have h : ((l2 = 0) → (Q l1 G)) ∧ ((¬ l2 = 0) → (∃ n, w_X1_above_90 T Q th (w_X1_above_81 T Q th f81) n l1 ((0 : Int32)) ((0 : Int32)) G)) := h
    have hk81 := ih
    refine l_ild_n C dX1_above_81 hl 2 rfl rfl ?_
    refine lv_if_eq (tgt := 250) C.1 C.2.1 dX1_above_82 (by decide) (fun c1 => ?_) (fun c1 => ?_)
    · have h := h.1 c1
      refine l_ild_n C dX1_above_250 hl 1 rfl rfl ?_
      exact r_int C.1 C.2.1 C.2.2.2.2.2.1 rfl C.2.2.2.2.2.2 ⟨rfl, rfl⟩ I dX1_above_251 ⟨_, rfl, h⟩
    · have h := h.2 c1
      refine lv_iconst (v := 0) C.1 C.2.1 dX1_above_85 (by decide) ?_
      refine l_ist_n C dX1_above_86 rfl hl (by decide) rfl (fun ls hl => ?_)
      have hl : LH ls 6 [(3, .inl ((0 : Int32))), (0, .inr (.inl th)), (1, .inl l1), (2, .inl l2)] := hl
      refine lv_iconst (v := 0) C.1 C.2.1 dX1_above_87 (by decide) ?_
      refine l_ist C dX1_above_88 hl (by decide) rfl (fun ls hl => ?_)
      have hl : LH ls 6 [(4, .inl ((0 : Int32))), (3, .inl ((0 : Int32))), (0, .inr (.inl th)), (1, .inl l1), (2, .inl l2)] := hl
      obtain ⟨n, h⟩ := h
      exact b_X1_above_90 C hk81 n l1 ((0 : Int32)) ((0 : Int32)) G _ _ _ _ _ h hth I (hl.sub [2, 3, 1, 0] rfl)
def w_X1_above_11 (T : Nat → ClassId) (Q : Int32 → Hp → Prop) (th : Option Nat) : Nat → Int32 → Hp → Prop
  | 0 => fun _ _ => False
  | f11 + 1 => fun l1 G => isO G (gR G (ad th) 1) 16 ∧ w_J2_size T (fun r2 G1 => Ext G G1 → ((r2 ≤ l1) → (isO G1 (gR G1 (ad th) 1) 16 ∧ w_J2_size T (fun r4 G3 => Ext G1 G3 → ∃ n, w_X1_above_81 T Q th n ((((1 : Int32) <<< (r4 &&& 31)) - (1 : Int32))) ((1 : Int32)) G3) (gR G1 (ad th) 1) G1)) ∧ ((¬ r2 ≤ l1) → (isO G1 (gR G1 (ad th) 3) 8 ∧ isO G1 (gR G1 (ad (gR G1 (ad th) 3)) 0) 50 ∧ vp_in l1 (gN G1 (ad (gR G1 (ad (gR G1 (ad th) 3)) 0))) ∧ ∀ G8 : Hp, G8 = wI G1 (ad (gR G1 (ad (gR G1 (ad th) 3)) 0)) l1.toNatClampNeg ((1 : Int32)) → isO G8 (gR G8 (ad th) 3) 8 ∧ isO G8 (gR G8 (ad th) 1) 16 ∧ w_J2_get T (fun r11 G10 => Ext G8 G10 → (r11 = none ∨ isO G10 r11 15) ∧ isO G10 r11 15 ∧ isO G10 (gR G8 (ad (gR G8 (ad th) 3)) 1) 50 ∧ vp_in l1 (gN G10 (ad (gR G8 (ad (gR G8 (ad th) 3)) 1))) ∧ ∀ G14 : Hp, G14 = wI G10 (ad (gR G8 (ad (gR G8 (ad th) 3)) 1)) l1.toNatClampNeg (gI G10 (ad r11) 3) → (w_X1_above_11 T Q th f11) ((l1 + 1)) G14) (gR G8 (ad th) 1) l1 G8))) (gR G (ad th) 1) G
set_option maxHeartbeats 4000000 in
theorem b_X1_above_11 {G0 : Hp} {Q : Int32 → Hp → Prop} {th : Option Nat} (C : Cx p s m meth c D T Z "EndingTown" cX1_above 6 (some .int)) : ∀ (n : Nat) (l1 : Int32) (G : Hp) (H : Heap) (locs : List Loc) (cells slots : Nat) (ls : Array Slot), w_X1_above_11 T Q th n l1 G → isO G th 1 → HI (twd D T Z) G0 s (rmX (twd D T Z) 7 175 G0) H locs cells slots G → LH ls 6 [(0, .inr (.inl th)), (1, .inl l1)] → W p l e (rmX (twd D T Z) 7 175 G0) s m args below meth c H locs cells slots (MQX (twd D T Z) G0 (qI Q) (fun _ _ => False) below s) (F0 m 11 ls []) := by
  intro f11
  induction f11 with
  | zero => intro l1 G H locs cells slots ls h; exact (show False from h).elim
  | succ f11 ih =>
    intro l1 G H locs cells slots ls h hth I hl
    have h : isO G (gR G (ad th) 1) 16 ∧ w_J2_size T (fun r2 G1 => Ext G G1 → ((r2 ≤ l1) → (isO G1 (gR G1 (ad th) 1) 16 ∧ w_J2_size T (fun r4 G3 => Ext G1 G3 → ∃ n, w_X1_above_81 T Q th n ((((1 : Int32) <<< (r4 &&& 31)) - (1 : Int32))) ((1 : Int32)) G3) (gR G1 (ad th) 1) G1)) ∧ ((¬ r2 ≤ l1) → (isO G1 (gR G1 (ad th) 3) 8 ∧ isO G1 (gR G1 (ad (gR G1 (ad th) 3)) 0) 50 ∧ vp_in l1 (gN G1 (ad (gR G1 (ad (gR G1 (ad th) 3)) 0))) ∧ ∀ G8 : Hp, G8 = wI G1 (ad (gR G1 (ad (gR G1 (ad th) 3)) 0)) l1.toNatClampNeg ((1 : Int32)) → isO G8 (gR G8 (ad th) 3) 8 ∧ isO G8 (gR G8 (ad th) 1) 16 ∧ w_J2_get T (fun r11 G10 => Ext G8 G10 → (r11 = none ∨ isO G10 r11 15) ∧ isO G10 r11 15 ∧ isO G10 (gR G8 (ad (gR G8 (ad th) 3)) 1) 50 ∧ vp_in l1 (gN G10 (ad (gR G8 (ad (gR G8 (ad th) 3)) 1))) ∧ ∀ G14 : Hp, G14 = wI G10 (ad (gR G8 (ad (gR G8 (ad th) 3)) 1)) l1.toNatClampNeg (gI G10 (ad r11) 3) → (w_X1_above_11 T Q th f11) ((l1 + 1)) G14) (gR G8 (ad th) 1) l1 G8))) (gR G (ad th) 1) G := h
    have hk11 := ih
    refine l_ild_n C dX1_above_11 hl 1 rfl rfl ?_
    refine l_ald_n C dX1_above_12 hl 0 rfl rfl ?_
    refine g_R C I fl_X1_25_1 (by decide) (by decide) hth dX1_above_13 ?_
    obtain ⟨ho17, h⟩ := h
    refine k_call Ext.tr C I (k_F (kd := 16) (r := gR G (ad th) 1) (As := []) (rest := [.int l1]) (y := yJ2_size) (x := ⟨"java/util/List", "size", "()I"⟩) C (by decide) ⟨ho17.ad.1, I.recv C.2.2.2.2.1 ho17 (by decide)⟩ q424 (by decide) q426 q425 q430 q428 q417 q427 q429 rfl pd_J2_size rfl dX1_above_16) (ct_J2_size h) hl.1 dX1_above_16 [.inl l1] rfl (Nat.le_of_ble_eq_true rfl) (Or.inl rfl) q431 q104 ⟨Nat.le_of_ble_eq_true rfl, Nat.le_of_ble_eq_true rfl⟩ (fun v G1 H locs cells slots xG1 hq I => ?_) (fun a G9 H locs cells slots ex hq I => hq.elim)
    obtain ⟨r2, rfl, h⟩ := hq
    have h := h xG1
    refine lv_icmp_ge (tgt := 65) C.1 C.2.1 dX1_above_21 (by decide) (fun c16 => ?_) (fun c16 => ?_)
    · have h := h.1 c16
      refine lv_iconst (v := 1) C.1 C.2.1 dX1_above_65 (by decide) ?_
      refine l_ald_n C dX1_above_66 hl 0 rfl rfl ?_
      refine g_R C I fl_X1_25_1 (by decide) (by decide) (hth.ext (by decide) xG1) dX1_above_67 ?_
      obtain ⟨ho5, h⟩ := h
      refine k_call Ext.tr C I (k_F (kd := 16) (r := gR G1 (ad th) 1) (As := []) (rest := [.int ((1 : Int32))]) (y := yJ2_size) (x := ⟨"java/util/List", "size", "()I"⟩) C (by decide) ⟨ho5.ad.1, I.recv C.2.2.2.2.1 ho5 (by decide)⟩ q424 (by decide) q426 q425 q430 q428 q417 q427 q429 rfl pd_J2_size rfl dX1_above_70) (ct_J2_size h) hl.1 dX1_above_70 [.inl ((1 : Int32))] rfl (Nat.le_of_ble_eq_true rfl) (Or.inl rfl) q431 q104 ⟨Nat.le_of_ble_eq_true rfl, Nat.le_of_ble_eq_true rfl⟩ (fun v G3 H locs cells slots xG3 hq I => ?_) (fun a G9 H locs cells slots ex hq I => hq.elim)
      obtain ⟨r4, rfl, h⟩ := hq
      have h := h xG3
      refine lv_ishl C.1 C.2.1 dX1_above_75 ?_
      refine lv_iconst (v := 1) C.1 C.2.1 dX1_above_76 (by decide) ?_
      refine lv_isub C.1 C.2.1 dX1_above_77 ?_
      refine l_ist_n C dX1_above_78 rfl hl (by decide) rfl (fun ls hl => ?_)
      have hl : LH ls 6 [(1, .inl ((((1 : Int32) <<< (r4 &&& 31)) - (1 : Int32)))), (0, .inr (.inl th))] := hl
      refine lv_iconst (v := 1) C.1 C.2.1 dX1_above_79 (by decide) ?_
      refine l_ist_n C dX1_above_80 rfl hl (by decide) rfl (fun ls hl => ?_)
      have hl : LH ls 6 [(2, .inl ((1 : Int32))), (1, .inl ((((1 : Int32) <<< (r4 &&& 31)) - (1 : Int32)))), (0, .inr (.inl th))] := hl
      obtain ⟨n, h⟩ := h
      exact b_X1_above_81 C n ((((1 : Int32) <<< (r4 &&& 31)) - (1 : Int32))) ((1 : Int32)) G3 _ _ _ _ _ h (hth.ext (by decide) (Ext.tr _ _ _ xG1 xG3)) I (hl.sub [2, 1, 0] rfl)
    · have h := h.2 c16
      refine l_ald_n C dX1_above_24 hl 0 rfl rfl ?_
      refine g_R C I fl_X1_55_1 (by decide) (by decide) (hth.ext (by decide) xG1) dX1_above_25 ?_
      obtain ⟨ho6, h⟩ := h
      refine g_R C I fl_X1_262_8 (by decide) (by decide) ho6 dX1_above_28 ?_
      refine l_ild_n C dX1_above_31 hl 1 rfl rfl ?_
      refine lv_iconst (v := 1) C.1 C.2.1 dX1_above_32 (by decide) ?_
      obtain ⟨ho7, h⟩ := h
      obtain ⟨hi, h⟩ := h
      refine A_iast C I ho7 hi dX1_above_33 (fun H locs G8 eG8 xG8 I => ?_)
      have h := h G8 eG8
      refine l_ald_n C dX1_above_34 hl 0 rfl rfl ?_
      refine g_R C I fl_X1_55_1 (by decide) (by decide) (hth.ext (by decide) (Ext.tr _ _ _ xG1 xG8)) dX1_above_35 ?_
      obtain ⟨ho9, h⟩ := h
      refine g_R C I fl_X1_274_8 (by decide) (by decide) ho9 dX1_above_38 ?_
      refine l_ild_n C dX1_above_41 hl 1 rfl rfl ?_
      refine l_ald_n C dX1_above_42 hl 0 rfl rfl ?_
      refine g_R C I fl_X1_25_1 (by decide) (by decide) (hth.ext (by decide) (Ext.tr _ _ _ xG1 xG8)) dX1_above_43 ?_
      refine l_ild_n C dX1_above_46 hl 1 rfl rfl ?_
      obtain ⟨ho15, h⟩ := h
      refine k_call Ext.tr C I (k_F (kd := 16) (r := gR G8 (ad th) 1) (As := [.int l1]) (rest := [.int l1, va_rf (gR G8 (ad (gR G8 (ad th) 3)) 1)]) (y := yJ2_get) (x := ⟨"java/util/List", "get", "(I)Ljava/lang/Object;"⟩) C (by decide) ⟨ho15.ad.1, I.recv C.2.2.2.2.1 ho15 (by decide)⟩ q561 (by decide) q477 q476 q481 q479 q417 q478 q480 rfl pd_J2_get rfl dX1_above_47) (ct_J2_get h) hl.1 dX1_above_47 [.inl l1, .inr (.inl (gR G8 (ad (gR G8 (ad th) 3)) 1))] rfl (Nat.le_of_ble_eq_true rfl) (Or.inl rfl) q482 q104 ⟨Nat.le_of_ble_eq_true rfl, Nat.le_of_ble_eq_true rfl⟩ (fun v G10 H locs cells slots xG10 hq I => ?_) (fun a G9 H locs cells slots ex hq I => hq.elim)
      obtain ⟨r11, rfl, h⟩ := hq
      have h := h xG10
      obtain ⟨hcc, h⟩ := h
      refine c_cast (kd := 15) C I (by decide) q562 hcc dX1_above_52 ?_
      obtain ⟨ho12, h⟩ := h
      refine g_I C I fl_X1_254_15 (by decide) (by decide) ho12 dX1_above_55 ?_
      obtain ⟨ho13, h⟩ := h
      obtain ⟨hi, h⟩ := h
      refine A_iast C I ho13 hi dX1_above_58 (fun H locs G14 eG14 xG14 I => ?_)
      have h := h G14 eG14
      refine l_inc (q := 1) (v := 1) C dX1_above_59 hl rfl (by decide) (by decide) rfl (fun ls hl => ?_)
      have hl : LH ls 6 [(1, .inl ((l1 + 1))), (0, .inr (.inl th))] := hl
      refine lv_goto (tgt := 11) C.1 C.2.1 dX1_above_62 (by decide) ?_
      exact hk11 ((l1 + 1)) G14 _ _ _ _ _ h (hth.ext (by decide) (Ext.tr _ _ _ xG1 (Ext.tr _ _ _ xG8 (Ext.tr _ _ _ xG10 xG14)))) I (hl.sub [1, 0] rfl)
def w_X1_above (T : Nat → ClassId) (Q : Int32 → Hp → Prop) (th : Option Nat) (G : Hp) : Prop := isO G th 1 ∧ (isO G (gR G (ad th) 3) 8 ∧ w_X10_begin T (fun r2 G1 => Ext G G1 → ∃ n, w_X1_above_11 T Q th n ((0 : Int32)) G1) (gR G (ad th) 3) ((0 : Int32)) G)
theorem pd_X1_above : (parseMethodDescriptor yX1_above.desc).map (fun d => d.parameters.length) = some 0 := by decide +kernel
set_option maxHeartbeats 4000000 in
theorem ct_X1_above {l : Launch} {D : va_G} {T : Nat → ClassId} {Z : Heap} {G0 : Hp} {Q : Int32 → Hp → Prop} {th : Option Nat} (hw : w_X1_above T Q th G0) : CT (twd D T Z) (Evd D T Z) l yX1_above (Cond.code yX1_above cX1_above 6 (some .int)) 7 175 [va_rf th] G0 (qI Q) (fun _ _ => False) := by
  refine CT.ofW (cc := cX1_above) (nL := 6) (ret := (some .int)) Ext.rf (by decide) (Or.inl rfl) ?_
  intro p e s m below meth c hx hb hml hown hr hlk hnm hcb hm hc hn hE I
  have C : Cx p s m meth c D T Z "EndingTown" cX1_above 6 (some .int) := ⟨hx, hb, hml, hown, hE, hr, hlk⟩
  refine w_entry [.inr (.inl th)] (Nat.le_of_ble_eq_true rfl) (fun ls hl => ?_)
  have hl : LH ls 6 [(0, .inr (.inl th))] := hl
  obtain ⟨hth, h⟩ := hw
  refine l_ald_n C dX1_above_0 hl 0 rfl rfl ?_
  refine g_R C I fl_X1_55_1 (by decide) (by decide) hth dX1_above_1 ?_
  refine lv_iconst (v := 0) C.1 C.2.1 dX1_above_4 (by decide) ?_
  obtain ⟨ho3, h⟩ := h
  refine k_call Ext.tr C I (k_V (r := gR G0 (ad th) 3) (As := [.int ((0 : Int32))]) (rest := []) (y := yX10_begin) C ⟨ho3.ad.1, I.recv C.2.2.2.2.1 ho3 (by decide)⟩ q468 q469 q470 (Or.inl rfl) q471 (by decide) rfl pd_X10_begin rfl dX1_above_5) (ct_X10_begin h) hl.1 dX1_above_5 [] rfl (Nat.le_of_ble_eq_true rfl) (Or.inl rfl) q471 q112 ⟨Nat.le_of_ble_eq_true rfl, Nat.le_of_ble_eq_true rfl⟩ (fun v G1 H locs cells slots xG1 hq I => ?_) (fun a G9 H locs cells slots ex hq I => hq.elim)
  obtain ⟨r2, rfl, h⟩ := hq
  have h := h xG1
  refine lv_pop C.1 C.2.1 dX1_above_8 (cat_rf _) ?_
  refine lv_iconst (v := 0) C.1 C.2.1 dX1_above_9 (by decide) ?_
  refine l_ist_n C dX1_above_10 rfl hl (by decide) rfl (fun ls hl => ?_)
  have hl : LH ls 6 [(1, .inl ((0 : Int32))), (0, .inr (.inl th))] := hl
  obtain ⟨n, h⟩ := h
  exact b_X1_above_11 C n ((0 : Int32)) G1 _ _ _ _ _ h (hth.ext (by decide) xG1) I (hl.sub [1, 0] rfl)
end GT3
