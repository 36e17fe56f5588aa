/-! the town: wp and contracts, by program -/
set_option maxRecDepth 100000
section GT6
variable {p : Program} {l : Launch} {e : Env} {s : State} {m : MethodId} {args : Array Value} {below : List Frame} {meth : Method} {c : Code} {D : va_G} {T : Nat → ClassId} {Z : Heap}
def w_X10_see_148 (T : Nat → ClassId) (Q : Hp → Prop) (th : Option Nat) (k33 : Int32 → Hp → Prop) (k41 : Int32 → Int32 → Hp → Prop) (l1 : Int32) (l2 : Int32) (G : Hp) : Prop := k41 l1 ((l2 + 1)) G
set_option maxHeartbeats 4000000 in
theorem b_X10_see_148 {G0 : Hp} {Q : Hp → Prop} {th : Option Nat} {k33 : Int32 → Hp → Prop} {k41 : Int32 → Int32 → Hp → Prop} (C : Cx p s m meth c D T Z "EndingTown$Day" cX10_see 5 none) (hk33 : ∀ (l1 : Int32) (G : Hp) (H : Heap) (locs : List Loc) (cells slots : Nat) (ls : Array Slot), k33 l1 G → isO G th 8 → HI (twd D T Z) G0 s (rmX (twd D T Z) 25 697 G0) H locs cells slots G → LH ls 5 [(0, .inr (.inl th)), (1, .inl l1)] → W p l e (rmX (twd D T Z) 25 697 G0) s m args below meth c H locs cells slots (MQX (twd D T Z) G0 (qV Q) (fun _ _ => False) below s) (F0 m 33 ls [])) (hk41 : ∀ (l1 : Int32) (l2 : Int32) (G : Hp) (H : Heap) (locs : List Loc) (cells slots : Nat) (ls : Array Slot), k41 l1 l2 G → isO G th 8 → HI (twd D T Z) G0 s (rmX (twd D T Z) 25 697 G0) H locs cells slots G → LH ls 5 [(0, .inr (.inl th)), (1, .inl l1), (2, .inl l2)] → W p l e (rmX (twd D T Z) 25 697 G0) s m args below meth c H locs cells slots (MQX (twd D T Z) G0 (qV Q) (fun _ _ => False) below s) (F0 m 41 ls [])) : ∀ (l1 : Int32) (l2 : Int32) (G : Hp) (H : Heap) (locs : List Loc) (cells slots : Nat) (ls : Array Slot), w_X10_see_148 T Q th k33 k41 l1 l2 G → isO G th 8 → HI (twd D T Z) G0 s (rmX (twd D T Z) 25 697 G0) H locs cells slots G → LH ls 5 [(0, .inr (.inl th)), (1, .inl l1), (2, .inl l2)] → W p l e (rmX (twd D T Z) 25 697 G0) s m args below meth c H locs cells slots (MQX (twd D T Z) G0 (qV Q) (fun _ _ => False) below s) (F0 m 148 ls []) := by
  intro l1 l2 G H locs cells slots ls h hth I hl
  refine l_inc (q := 2) (v := 1) C dX10_see_148 hl rfl (by decide) (by decide) rfl (fun ls hl => ?_)
  have hl : LH ls 5 [(2, .inl ((l2 + 1))), (0, .inr (.inl th)), (1, .inl l1)] := hl
  refine lv_goto (tgt := 41) C.1 C.2.1 dX10_see_151 (by decide) ?_
  exact hk41 l1 ((l2 + 1)) G _ _ _ _ _ h hth I (hl.sub [1, 2, 0] rfl)
def w_X10_see_138 (T : Nat → ClassId) (Q : Hp → Prop) (th : Option Nat) (k33 : Int32 → Hp → Prop) (k41 : Int32 → Int32 → Hp → Prop) (l2 : Int32) (l4 : Int32) (t0 : Int32) (t1 : Int32) (G : Hp) : Prop := isO G (gR G (ad th) 2) 50 ∧ vp_in l2 (gN G (ad (gR G (ad th) 2))) ∧ ∀ G2 : Hp, G2 = wI G (ad (gR G (ad th) 2)) l2.toNatClampNeg l4 → w_X10_see_148 T Q th k33 k41 ((t1 ||| t0)) l2 G2
set_option maxHeartbeats 4000000 in
theorem b_X10_see_138 {G0 : Hp} {Q : Hp → Prop} {th : Option Nat} {k33 : Int32 → Hp → Prop} {k41 : Int32 → Int32 → Hp → Prop} (C : Cx p s m meth c D T Z "EndingTown$Day" cX10_see 5 none) (hk33 : ∀ (l1 : Int32) (G : Hp) (H : Heap) (locs : List Loc) (cells slots : Nat) (ls : Array Slot), k33 l1 G → isO G th 8 → HI (twd D T Z) G0 s (rmX (twd D T Z) 25 697 G0) H locs cells slots G → LH ls 5 [(0, .inr (.inl th)), (1, .inl l1)] → W p l e (rmX (twd D T Z) 25 697 G0) s m args below meth c H locs cells slots (MQX (twd D T Z) G0 (qV Q) (fun _ _ => False) below s) (F0 m 33 ls [])) (hk41 : ∀ (l1 : Int32) (l2 : Int32) (G : Hp) (H : Heap) (locs : List Loc) (cells slots : Nat) (ls : Array Slot), k41 l1 l2 G → isO G th 8 → HI (twd D T Z) G0 s (rmX (twd D T Z) 25 697 G0) H locs cells slots G → LH ls 5 [(0, .inr (.inl th)), (1, .inl l1), (2, .inl l2)] → W p l e (rmX (twd D T Z) 25 697 G0) s m args below meth c H locs cells slots (MQX (twd D T Z) G0 (qV Q) (fun _ _ => False) below s) (F0 m 41 ls [])) : ∀ (l2 : Int32) (l4 : Int32) (t0 : Int32) (t1 : Int32) (G : Hp) (H : Heap) (locs : List Loc) (cells slots : Nat) (ls : Array Slot), w_X10_see_138 T Q th k33 k41 l2 l4 t0 t1 G → isO G th 8 → HI (twd D T Z) G0 s (rmX (twd D T Z) 25 697 G0) H locs cells slots G → LH ls 5 [(0, .inr (.inl th)), (2, .inl l2), (4, .inl l4)] → W p l e (rmX (twd D T Z) 25 697 G0) s m args below meth c H locs cells slots (MQX (twd D T Z) G0 (qV Q) (fun _ _ => False) below s) (F0 m 138 ls [.int t0, .int t1]) := by
  intro l2 l4 t0 t1 G H locs cells slots ls h hth I hl
  refine lv_ior C.1 C.2.1 dX10_see_138 ?_
  refine l_ist_n C dX10_see_139 rfl hl (by decide) rfl (fun ls hl => ?_)
  have hl : LH ls 5 [(1, .inl ((t1 ||| t0))), (0, .inr (.inl th)), (2, .inl l2), (4, .inl l4)] := hl
  refine l_ald_n C dX10_see_140 hl 1 rfl rfl ?_
  refine g_R C I fl_X10_22_8 (by decide) (by decide) hth dX10_see_141 ?_
  refine l_ild_n C dX10_see_144 hl 2 rfl rfl ?_
  refine l_ild C dX10_see_145 hl 3 rfl ?_
  obtain ⟨ho1, h⟩ := h
  obtain ⟨hi, h⟩ := h
  refine A_iast C I ho1 hi dX10_see_147 (fun H locs G2 eG2 xG2 I => ?_)
  have h := h G2 eG2
  exact b_X10_see_148 C hk33 hk41 ((t1 ||| t0)) l2 G2 _ _ _ _ _ h (hth.ext (by decide) xG2) I (hl.sub [1, 0, 2] rfl)
def w_X10_see_41 (T : Nat → ClassId) (Q : Hp → Prop) (th : Option Nat) (k33 : Int32 → Hp → Prop) : Nat → Int32 → Int32 → Hp → Prop
  | 0 => fun _ _ _ => False
  | f41 + 1 => fun l1 l2 G => isO G (gR G (ad th) 5) 1 ∧ isO G (gR G (ad (gR G (ad th) 5)) 1) 16 ∧ w_J2_size T (fun r3 G2 => Ext G G2 → ((r3 ≤ l2) → (k33 l1 G2)) ∧ ((¬ r3 ≤ l2) → (isO G2 (gR G2 (ad th) 0) 50 ∧ vp_in l2 (gN G2 (ad (gR G2 (ad th) 0))) ∧ ((¬ gI G2 (ad (gR G2 (ad th) 0)) l2.toNatClampNeg = 0) → (isO G2 (gR G2 (ad th) 5) 1 ∧ isO G2 (gR G2 (ad (gR G2 (ad th) 5)) 1) 16 ∧ w_J2_get T (fun r7 G6 => Ext G2 G6 → (r7 = none ∨ isO G6 r7 15) ∧ isO G6 (gR G6 (ad th) 5) 1 ∧ isO G6 r7 15 ∧ isO G6 (gR G6 (ad (gR G6 (ad th) 5)) 2) 56 ∧ vp_in (gI G6 (ad r7) 3) (gN G6 (ad (gR G6 (ad (gR G6 (ad th) 5)) 2))) ∧ (isO G6 (gR G6 (ad (gR G6 (ad (gR G6 (ad th) 5)) 2)) (gI G6 (ad r7) 3).toNatClampNeg) 3 ∨ isO G6 (gR G6 (ad (gR G6 (ad (gR G6 (ad th) 5)) 2)) (gI G6 (ad r7) 3).toNatClampNeg) 4 ∨ isO G6 (gR G6 (ad (gR G6 (ad (gR G6 (ad th) 5)) 2)) (gI G6 (ad r7) 3).toNatClampNeg) 5 ∨ isO G6 (gR G6 (ad (gR G6 (ad (gR G6 (ad th) 5)) 2)) (gI G6 (ad r7) 3).toNatClampNeg) 6 ∨ isO G6 (gR G6 (ad (gR G6 (ad (gR G6 (ad th) 5)) 2)) (gI G6 (ad r7) 3).toNatClampNeg) 7) ∧ (isO G6 (gR G6 (ad (gR G6 (ad (gR G6 (ad th) 5)) 2)) (gI G6 (ad r7) 3).toNatClampNeg) 3 → w_X4_eyes_k3 T (fun r12 G11 => Ext G6 G11 → isO G11 (gR G11 (ad th) 2) 50 ∧ vp_in l2 (gN G11 (ad (gR G11 (ad th) 2))) ∧ ((r12 = gI G11 (ad (gR G11 (ad th) 2)) l2.toNatClampNeg) → (w_X10_see_138 T Q th k33 (w_X10_see_41 T Q th k33 f41) l2 r12 ((0 : Int32)) l1 G11)) ∧ ((¬ r12 = gI G11 (ad (gR G11 (ad th) 2)) l2.toNatClampNeg) → (w_X10_see_138 T Q th k33 (w_X10_see_41 T Q th k33 f41) l2 r12 ((1 : Int32)) l1 G11))) (gR G6 (ad (gR G6 (ad (gR G6 (ad th) 5)) 2)) (gI G6 (ad r7) 3).toNatClampNeg) th (gI G6 (ad r7) 0) (gI G6 (ad r7) 1) (gI G6 (ad r7) 2) (gI G6 (ad r7) 4) ((0 : Int32)) G6) ∧ (isO G6 (gR G6 (ad (gR G6 (ad (gR G6 (ad th) 5)) 2)) (gI G6 (ad r7) 3).toNatClampNeg) 4 → w_X4_eyes_k4 T (fun r12 G11 => Ext G6 G11 → isO G11 (gR G11 (ad th) 2) 50 ∧ vp_in l2 (gN G11 (ad (gR G11 (ad th) 2))) ∧ ((r12 = gI G11 (ad (gR G11 (ad th) 2)) l2.toNatClampNeg) → (w_X10_see_138 T Q th k33 (w_X10_see_41 T Q th k33 f41) l2 r12 ((0 : Int32)) l1 G11)) ∧ ((¬ r12 = gI G11 (ad (gR G11 (ad th) 2)) l2.toNatClampNeg) → (w_X10_see_138 T Q th k33 (w_X10_see_41 T Q th k33 f41) l2 r12 ((1 : Int32)) l1 G11))) (gR G6 (ad (gR G6 (ad (gR G6 (ad th) 5)) 2)) (gI G6 (ad r7) 3).toNatClampNeg) th (gI G6 (ad r7) 0) (gI G6 (ad r7) 1) (gI G6 (ad r7) 2) (gI G6 (ad r7) 4) ((0 : Int32)) G6) ∧ (isO G6 (gR G6 (ad (gR G6 (ad (gR G6 (ad th) 5)) 2)) (gI G6 (ad r7) 3).toNatClampNeg) 5 → w_X7_eyes T (fun r12 G11 => Ext G6 G11 → isO G11 (gR G11 (ad th) 2) 50 ∧ vp_in l2 (gN G11 (ad (gR G11 (ad th) 2))) ∧ ((r12 = gI G11 (ad (gR G11 (ad th) 2)) l2.toNatClampNeg) → (w_X10_see_138 T Q th k33 (w_X10_see_41 T Q th k33 f41) l2 r12 ((0 : Int32)) l1 G11)) ∧ ((¬ r12 = gI G11 (ad (gR G11 (ad th) 2)) l2.toNatClampNeg) → (w_X10_see_138 T Q th k33 (w_X10_see_41 T Q th k33 f41) l2 r12 ((1 : Int32)) l1 G11))) (gR G6 (ad (gR G6 (ad (gR G6 (ad th) 5)) 2)) (gI G6 (ad r7) 3).toNatClampNeg) th (gI G6 (ad r7) 0) (gI G6 (ad r7) 1) (gI G6 (ad r7) 2) (gI G6 (ad r7) 4) ((0 : Int32)) G6) ∧ (isO G6 (gR G6 (ad (gR G6 (ad (gR G6 (ad th) 5)) 2)) (gI G6 (ad r7) 3).toNatClampNeg) 6 → w_X8_eyesR T (fun r12 G11 => Ext G6 G11 → isO G11 (gR G11 (ad th) 2) 50 ∧ vp_in l2 (gN G11 (ad (gR G11 (ad th) 2))) ∧ ((r12 = gI G11 (ad (gR G11 (ad th) 2)) l2.toNatClampNeg) → (w_X10_see_138 T Q th k33 (w_X10_see_41 T Q th k33 f41) l2 r12 ((0 : Int32)) l1 G11)) ∧ ((¬ r12 = gI G11 (ad (gR G11 (ad th) 2)) l2.toNatClampNeg) → (w_X10_see_138 T Q th k33 (w_X10_see_41 T Q th k33 f41) l2 r12 ((1 : Int32)) l1 G11))) (gR G6 (ad (gR G6 (ad (gR G6 (ad th) 5)) 2)) (gI G6 (ad r7) 3).toNatClampNeg) th (gI G6 (ad r7) 0) (gI G6 (ad r7) 1) (gI G6 (ad r7) 2) (gI G6 (ad r7) 4) ((0 : Int32)) G6) ∧ (isO G6 (gR G6 (ad (gR G6 (ad (gR G6 (ad th) 5)) 2)) (gI G6 (ad r7) 3).toNatClampNeg) 7 → w_X9_eyes T (fun r12 G11 => Ext G6 G11 → isO G11 (gR G11 (ad th) 2) 50 ∧ vp_in l2 (gN G11 (ad (gR G11 (ad th) 2))) ∧ ((r12 = gI G11 (ad (gR G11 (ad th) 2)) l2.toNatClampNeg) → (w_X10_see_138 T Q th k33 (w_X10_see_41 T Q th k33 f41) l2 r12 ((0 : Int32)) l1 G11)) ∧ ((¬ r12 = gI G11 (ad (gR G11 (ad th) 2)) l2.toNatClampNeg) → (w_X10_see_138 T Q th k33 (w_X10_see_41 T Q th k33 f41) l2 r12 ((1 : Int32)) l1 G11))) (gR G6 (ad (gR G6 (ad (gR G6 (ad th) 5)) 2)) (gI G6 (ad r7) 3).toNatClampNeg) th (gI G6 (ad r7) 0) (gI G6 (ad r7) 1) (gI G6 (ad r7) 2) (gI G6 (ad r7) 4) ((0 : Int32)) G6)) (gR G2 (ad (gR G2 (ad th) 5)) 1) l2 G2)) ∧ ((gI G2 (ad (gR G2 (ad th) 0)) l2.toNatClampNeg = 0) → (w_X10_see_148 T Q th k33 (w_X10_see_41 T Q th k33 f41) l1 l2 G2))))) (gR G (ad (gR G (ad th) 5)) 1) G
set_option maxHeartbeats 4000000 in
theorem b_X10_see_41 {G0 : Hp} {Q : Hp → Prop} {th : Option Nat} {k33 : Int32 → Hp → Prop} (C : Cx p s m meth c D T Z "EndingTown$Day" cX10_see 5 none) (hk33 : ∀ (l1 : Int32) (G : Hp) (H : Heap) (locs : List Loc) (cells slots : Nat) (ls : Array Slot), k33 l1 G → isO G th 8 → HI (twd D T Z) G0 s (rmX (twd D T Z) 25 697 G0) H locs cells slots G → LH ls 5 [(0, .inr (.inl th)), (1, .inl l1)] → W p l e (rmX (twd D T Z) 25 697 G0) s m args below meth c H locs cells slots (MQX (twd D T Z) G0 (qV Q) (fun _ _ => False) below s) (F0 m 33 ls [])) : ∀ (n : Nat) (l1 : Int32) (l2 : Int32) (G : Hp) (H : Heap) (locs : List Loc) (cells slots : Nat) (ls : Array Slot), w_X10_see_41 T Q th k33 n l1 l2 G → isO G th 8 → HI (twd D T Z) G0 s (rmX (twd D T Z) 25 697 G0) H locs cells slots G → LH ls 5 [(0, .inr (.inl th)), (1, .inl l1), (2, .inl l2)] → W p l e (rmX (twd D T Z) 25 697 G0) s m args below meth c H locs cells slots (MQX (twd D T Z) G0 (qV Q) (fun _ _ => False) below s) (F0 m 41 ls []) := by
  intro f41
  induction f41 with
  | zero => intro l1 l2 G H locs cells slots ls h; exact (show False from h).elim
  | succ f41 ih =>
    intro l1 l2 G H locs cells slots ls h hth I hl
    have h : isO G (gR G (ad th) 5) 1 ∧ isO G (gR G (ad (gR G (ad th) 5)) 1) 16 ∧ w_J2_size T (fun r3 G2 => Ext G G2 → ((r3 ≤ l2) → (k33 l1 G2)) ∧ ((¬ r3 ≤ l2) → (isO G2 (gR G2 (ad th) 0) 50 ∧ vp_in l2 (gN G2 (ad (gR G2 (ad th) 0))) ∧ ((¬ gI G2 (ad (gR G2 (ad th) 0)) l2.toNatClampNeg = 0) → (isO G2 (gR G2 (ad th) 5) 1 ∧ isO G2 (gR G2 (ad (gR G2 (ad th) 5)) 1) 16 ∧ w_J2_get T (fun r7 G6 => Ext G2 G6 → (r7 = none ∨ isO G6 r7 15) ∧ isO G6 (gR G6 (ad th) 5) 1 ∧ isO G6 r7 15 ∧ isO G6 (gR G6 (ad (gR G6 (ad th) 5)) 2) 56 ∧ vp_in (gI G6 (ad r7) 3) (gN G6 (ad (gR G6 (ad (gR G6 (ad th) 5)) 2))) ∧ (isO G6 (gR G6 (ad (gR G6 (ad (gR G6 (ad th) 5)) 2)) (gI G6 (ad r7) 3).toNatClampNeg) 3 ∨ isO G6 (gR G6 (ad (gR G6 (ad (gR G6 (ad th) 5)) 2)) (gI G6 (ad r7) 3).toNatClampNeg) 4 ∨ isO G6 (gR G6 (ad (gR G6 (ad (gR G6 (ad th) 5)) 2)) (gI G6 (ad r7) 3).toNatClampNeg) 5 ∨ isO G6 (gR G6 (ad (gR G6 (ad (gR G6 (ad th) 5)) 2)) (gI G6 (ad r7) 3).toNatClampNeg) 6 ∨ isO G6 (gR G6 (ad (gR G6 (ad (gR G6 (ad th) 5)) 2)) (gI G6 (ad r7) 3).toNatClampNeg) 7) ∧ (isO G6 (gR G6 (ad (gR G6 (ad (gR G6 (ad th) 5)) 2)) (gI G6 (ad r7) 3).toNatClampNeg) 3 → w_X4_eyes_k3 T (fun r12 G11 => Ext G6 G11 → isO G11 (gR G11 (ad th) 2) 50 ∧ vp_in l2 (gN G11 (ad (gR G11 (ad th) 2))) ∧ ((r12 = gI G11 (ad (gR G11 (ad th) 2)) l2.toNatClampNeg) → (w_X10_see_138 T Q th k33 (w_X10_see_41 T Q th k33 f41) l2 r12 ((0 : Int32)) l1 G11)) ∧ ((¬ r12 = gI G11 (ad (gR G11 (ad th) 2)) l2.toNatClampNeg) → (w_X10_see_138 T Q th k33 (w_X10_see_41 T Q th k33 f41) l2 r12 ((1 : Int32)) l1 G11))) (gR G6 (ad (gR G6 (ad (gR G6 (ad th) 5)) 2)) (gI G6 (ad r7) 3).toNatClampNeg) th (gI G6 (ad r7) 0) (gI G6 (ad r7) 1) (gI G6 (ad r7) 2) (gI G6 (ad r7) 4) ((0 : Int32)) G6) ∧ (isO G6 (gR G6 (ad (gR G6 (ad (gR G6 (ad th) 5)) 2)) (gI G6 (ad r7) 3).toNatClampNeg) 4 → w_X4_eyes_k4 T (fun r12 G11 => Ext G6 G11 → isO G11 (gR G11 (ad th) 2) 50 ∧ vp_in l2 (gN G11 (ad (gR G11 (ad th) 2))) ∧ ((r12 = gI G11 (ad (gR G11 (ad th) 2)) l2.toNatClampNeg) → (w_X10_see_138 T Q th k33 (w_X10_see_41 T Q th k33 f41) l2 r12 ((0 : Int32)) l1 G11)) ∧ ((¬ r12 = gI G11 (ad (gR G11 (ad th) 2)) l2.toNatClampNeg) → (w_X10_see_138 T Q th k33 (w_X10_see_41 T Q th k33 f41) l2 r12 ((1 : Int32)) l1 G11))) (gR G6 (ad (gR G6 (ad (gR G6 (ad th) 5)) 2)) (gI G6 (ad r7) 3).toNatClampNeg) th (gI G6 (ad r7) 0) (gI G6 (ad r7) 1) (gI G6 (ad r7) 2) (gI G6 (ad r7) 4) ((0 : Int32)) G6) ∧ (isO G6 (gR G6 (ad (gR G6 (ad (gR G6 (ad th) 5)) 2)) (gI G6 (ad r7) 3).toNatClampNeg) 5 → w_X7_eyes T (fun r12 G11 => Ext G6 G11 → isO G11 (gR G11 (ad th) 2) 50 ∧ vp_in l2 (gN G11 (ad (gR G11 (ad th) 2))) ∧ ((r12 = gI G11 (ad (gR G11 (ad th) 2)) l2.toNatClampNeg) → (w_X10_see_138 T Q th k33 (w_X10_see_41 T Q th k33 f41) l2 r12 ((0 : Int32)) l1 G11)) ∧ ((¬ r12 = gI G11 (ad (gR G11 (ad th) 2)) l2.toNatClampNeg) → (w_X10_see_138 T Q th k33 (w_X10_see_41 T Q th k33 f41) l2 r12 ((1 : Int32)) l1 G11))) (gR G6 (ad (gR G6 (ad (gR G6 (ad th) 5)) 2)) (gI G6 (ad r7) 3).toNatClampNeg) th (gI G6 (ad r7) 0) (gI G6 (ad r7) 1) (gI G6 (ad r7) 2) (gI G6 (ad r7) 4) ((0 : Int32)) G6) ∧ (isO G6 (gR G6 (ad (gR G6 (ad (gR G6 (ad th) 5)) 2)) (gI G6 (ad r7) 3).toNatClampNeg) 6 → w_X8_eyesR T (fun r12 G11 => Ext G6 G11 → isO G11 (gR G11 (ad th) 2) 50 ∧ vp_in l2 (gN G11 (ad (gR G11 (ad th) 2))) ∧ ((r12 = gI G11 (ad (gR G11 (ad th) 2)) l2.toNatClampNeg) → (w_X10_see_138 T Q th k33 (w_X10_see_41 T Q th k33 f41) l2 r12 ((0 : Int32)) l1 G11)) ∧ ((¬ r12 = gI G11 (ad (gR G11 (ad th) 2)) l2.toNatClampNeg) → (w_X10_see_138 T Q th k33 (w_X10_see_41 T Q th k33 f41) l2 r12 ((1 : Int32)) l1 G11))) (gR G6 (ad (gR G6 (ad (gR G6 (ad th) 5)) 2)) (gI G6 (ad r7) 3).toNatClampNeg) th (gI G6 (ad r7) 0) (gI G6 (ad r7) 1) (gI G6 (ad r7) 2) (gI G6 (ad r7) 4) ((0 : Int32)) G6) ∧ (isO G6 (gR G6 (ad (gR G6 (ad (gR G6 (ad th) 5)) 2)) (gI G6 (ad r7) 3).toNatClampNeg) 7 → w_X9_eyes T (fun r12 G11 => Ext G6 G11 → isO G11 (gR G11 (ad th) 2) 50 ∧ vp_in l2 (gN G11 (ad (gR G11 (ad th) 2))) ∧ ((r12 = gI G11 (ad (gR G11 (ad th) 2)) l2.toNatClampNeg) → (w_X10_see_138 T Q th k33 (w_X10_see_41 T Q th k33 f41) l2 r12 ((0 : Int32)) l1 G11)) ∧ ((¬ r12 = gI G11 (ad (gR G11 (ad th) 2)) l2.toNatClampNeg) → (w_X10_see_138 T Q th k33 (w_X10_see_41 T Q th k33 f41) l2 r12 ((1 : Int32)) l1 G11))) (gR G6 (ad (gR G6 (ad (gR G6 (ad th) 5)) 2)) (gI G6 (ad r7) 3).toNatClampNeg) th (gI G6 (ad r7) 0) (gI G6 (ad r7) 1) (gI G6 (ad r7) 2) (gI G6 (ad r7) 4) ((0 : Int32)) G6)) (gR G2 (ad (gR G2 (ad th) 5)) 1) l2 G2)) ∧ ((gI G2 (ad (gR G2 (ad th) 0)) l2.toNatClampNeg = 0) → (w_X10_see_148 T Q th k33 (w_X10_see_41 T Q th k33 f41) l1 l2 G2))))) (gR G (ad (gR G (ad th) 5)) 1) G := h
    have hk41 := ih
    refine l_ild_n C dX10_see_41 hl 2 rfl rfl ?_
    refine l_ald_n C dX10_see_42 hl 0 rfl rfl ?_
    refine g_R C I fl_X10_3_8 (by decide) (by decide) hth dX10_see_43 ?_
    obtain ⟨ho1, h⟩ := h
    refine g_R C I fl_X10_29_1 (by decide) (by decide) ho1 dX10_see_46 ?_
    obtain ⟨ho18, h⟩ := h
    refine k_call Ext.tr C I (k_F (kd := 16) (r := gR G (ad (gR G (ad th) 5)) 1) (As := []) (rest := [.int l2]) (y := yJ2_size) (x := ⟨"java/util/List", "size", "()I"⟩) C (by decide) ⟨ho18.ad.1, I.recv C.2.2.2.2.1 ho18 (by decide)⟩ q473 (by decide) q426 q425 q430 q428 q417 q427 q429 rfl pd_J2_size rfl dX10_see_49) (ct_J2_size h) hl.1 dX10_see_49 [.inl l2] rfl (Nat.le_of_ble_eq_true rfl) (Or.inl rfl) q431 q104 ⟨Nat.le_of_ble_eq_true rfl, Nat.le_of_ble_eq_true rfl⟩ (fun v G2 H locs cells slots xG2 hq I => ?_) (fun a G9 H locs cells slots ex hq I => hq.elim)
    obtain ⟨r3, rfl, h⟩ := hq
    have h := h xG2
    refine lv_icmp_ge (tgt := 154) C.1 C.2.1 dX10_see_54 (by decide) (fun c17 => ?_) (fun c17 => ?_)
    · have h := h.1 c17
      refine lv_goto (tgt := 33) C.1 C.2.1 dX10_see_154 (by decide) ?_
      exact hk33 l1 G2 _ _ _ _ _ h (hth.ext (by decide) xG2) I (hl.sub [0, 1] rfl)
    · have h := h.2 c17
      refine l_ald_n C dX10_see_57 hl 0 rfl rfl ?_
      refine g_R C I fl_X10_15_8 (by decide) (by decide) (hth.ext (by decide) xG2) dX10_see_58 ?_
      refine l_ild_n C dX10_see_61 hl 2 rfl rfl ?_
      obtain ⟨ho4, h⟩ := h
      obtain ⟨hi, h⟩ := h
      refine a_iald C I ho4 hi dX10_see_62 ?_
      refine lv_if_ne (tgt := 69) C.1 C.2.1 dX10_see_63 (by decide) (fun c16 => ?_) (fun c16 => ?_)
      · have h := h.1 c16
        refine l_ald_n C dX10_see_69 hl 0 rfl rfl ?_
        refine g_R C I fl_X10_3_8 (by decide) (by decide) (hth.ext (by decide) xG2) dX10_see_70 ?_
        obtain ⟨ho5, h⟩ := h
        refine g_R C I fl_X10_29_1 (by decide) (by decide) ho5 dX10_see_73 ?_
        refine l_ild_n C dX10_see_76 hl 2 rfl rfl ?_
        obtain ⟨ho15, h⟩ := h
        refine k_call Ext.tr C I (k_F (kd := 16) (r := gR G2 (ad (gR G2 (ad th) 5)) 1) (As := [.int l2]) (rest := []) (y := yJ2_get) (x := ⟨"java/util/List", "get", "(I)Ljava/lang/Object;"⟩) C (by decide) ⟨ho15.ad.1, I.recv C.2.2.2.2.1 ho15 (by decide)⟩ q475 (by decide) q477 q476 q481 q479 q417 q478 q480 rfl pd_J2_get rfl dX10_see_77) (ct_J2_get h) hl.1 dX10_see_77 [] rfl (Nat.le_of_ble_eq_true rfl) (Or.inl rfl) q482 q104 ⟨Nat.le_of_ble_eq_true rfl, Nat.le_of_ble_eq_true rfl⟩ (fun v G6 H locs cells slots xG6 hq I => ?_) (fun a G9 H locs cells slots ex hq I => hq.elim)
        obtain ⟨r7, rfl, h⟩ := hq
        have h := h xG6
        obtain ⟨hcc, h⟩ := h
        refine c_cast (kd := 15) C I (by decide) q487 hcc dX10_see_82 ?_
        refine l_ast_n C dX10_see_85 rfl hl (by decide) rfl (fun ls hl => ?_)
        have hl : LH ls 5 [(3, .inr (.inl r7)), (0, .inr (.inl th)), (1, .inl l1), (2, .inl l2)] := hl
        refine l_ald_n C dX10_see_86 hl 1 rfl rfl ?_
        refine g_R C I fl_X10_3_8 (by decide) (by decide) (hth.ext (by decide) (Ext.tr _ _ _ xG2 xG6)) dX10_see_87 ?_
        obtain ⟨ho8, h⟩ := h
        refine g_R C I fl_X10_59_1 (by decide) (by decide) ho8 dX10_see_90 ?_
        refine l_ald_n C dX10_see_93 hl 0 rfl rfl ?_
        obtain ⟨ho9, h⟩ := h
        refine g_I C I fl_X10_56_15 (by decide) (by decide) ho9 dX10_see_94 ?_
        obtain ⟨ho10, h⟩ := h
        obtain ⟨hi, h⟩ := h
        refine a_aald C I ho10 (by decide) hi dX10_see_97 ?_
        refine l_ald_n C dX10_see_98 hl 1 rfl rfl ?_
        refine l_ald_n C dX10_see_99 hl 0 rfl rfl ?_
        refine g_I C I fl_X10_45_15 (by decide) (by decide) ho9 dX10_see_100 ?_
        refine l_ald_n C dX10_see_103 hl 0 rfl rfl ?_
        refine g_I C I fl_X10_63_15 (by decide) (by decide) ho9 dX10_see_104 ?_
        refine l_ald_n C dX10_see_107 hl 0 rfl rfl ?_
        refine g_I C I fl_X10_66_15 (by decide) (by decide) ho9 dX10_see_108 ?_
        refine l_ald_n C dX10_see_111 hl 0 rfl rfl ?_
        refine g_I C I fl_X10_69_15 (by decide) (by decide) ho9 dX10_see_112 ?_
        refine lv_iconst (v := 0) C.1 C.2.1 dX10_see_115 (by decide) ?_
        have kk : ∀ (v : Option Value) (G11 : Hp) (H : Heap) (locs : List Loc) (cells slots : Nat), Ext G6 G11 → (qI (fun r12 G11 => Ext G6 G11 → isO G11 (gR G11 (ad th) 2) 50 ∧ vp_in l2 (gN G11 (ad (gR G11 (ad th) 2))) ∧ ((r12 = gI G11 (ad (gR G11 (ad th) 2)) l2.toNatClampNeg) → (w_X10_see_138 T Q th k33 (w_X10_see_41 T Q th k33 f41) l2 r12 ((0 : Int32)) l1 G11)) ∧ ((¬ r12 = gI G11 (ad (gR G11 (ad th) 2)) l2.toNatClampNeg) → (w_X10_see_138 T Q th k33 (w_X10_see_41 T Q th k33 f41) l2 r12 ((1 : Int32)) l1 G11)))) v G11 → HI (twd D T Z) G0 s (rmX (twd D T Z) 25 697 G0) H locs cells slots G11 → W p l e (rmX (twd D T Z) 25 697 G0) s m args below meth c H locs cells slots (MQX (twd D T Z) G0 (qV Q) (fun _ _ => False) below s) (F0 m 119 ls (v.toList ++ [])) := by
          intro v G11 H locs cells slots xG11 hq I
          obtain ⟨r12, rfl, h⟩ := hq
          have h := h xG11
          refine l_ist C dX10_see_119 hl (by decide) rfl (fun ls hl => ?_)
          have hl : LH ls 5 [(4, .inl r12), (3, .inr (.inl r7)), (0, .inr (.inl th)), (1, .inl l1), (2, .inl l2)] := hl
          refine l_ild_n C dX10_see_121 hl 3 rfl rfl ?_
          refine l_ild C dX10_see_122 hl 0 rfl ?_
          refine l_ald_n C dX10_see_124 hl 2 rfl rfl ?_
          refine g_R C I fl_X10_22_8 (by decide) (by decide) (hth.ext (by decide) (Ext.tr _ _ _ xG2 (Ext.tr _ _ _ xG6 xG11))) dX10_see_125 ?_
          refine l_ild_n C dX10_see_128 hl 4 rfl rfl ?_
          obtain ⟨ho13, h⟩ := h
          obtain ⟨hi, h⟩ := h
          refine a_iald C I ho13 hi dX10_see_129 ?_
          refine lv_icmp_eq (tgt := 137) C.1 C.2.1 dX10_see_130 (by decide) (fun c14 => ?_) (fun c14 => ?_)
          · have h := h.1 c14
            refine lv_iconst (v := 0) C.1 C.2.1 dX10_see_137 (by decide) ?_
            exact b_X10_see_138 C hk33 hk41 l2 r12 ((0 : Int32)) l1 G11 _ _ _ _ _ h (hth.ext (by decide) (Ext.tr _ _ _ xG2 (Ext.tr _ _ _ xG6 xG11))) I (hl.sub [2, 4, 0] rfl)
          · have h := h.2 c14
            refine lv_iconst (v := 1) C.1 C.2.1 dX10_see_133 (by decide) ?_
            refine lv_goto (tgt := 138) C.1 C.2.1 dX10_see_134 (by decide) ?_
            exact b_X10_see_138 C hk33 hk41 l2 r12 ((1 : Int32)) l1 G11 _ _ _ _ _ h (hth.ext (by decide) (Ext.tr _ _ _ xG2 (Ext.tr _ _ _ xG6 xG11))) I (hl.sub [2, 4, 0] rfl)
        obtain ⟨hd, h⟩ := h
        rcases hd with ho3 | ho4 | ho5 | ho6 | ho7
        · have h := h.1 ho3
          refine k_call Ext.tr C I (k_U (r := gR G6 (ad (gR G6 (ad (gR G6 (ad th) 5)) 2)) (gI G6 (ad r7) 3).toNatClampNeg) (As := [va_rf th, .int (gI G6 (ad r7) 0), .int (gI G6 (ad r7) 1), .int (gI G6 (ad r7) 2), .int (gI G6 (ad r7) 4), .int ((0 : Int32))]) (rest := []) (y := yX4_eyes) (x := ⟨"EndingTown$How", "eyes", "(LEndingTown$Day;IIIZI)I"⟩) (owner := "EndingTown$How") C ⟨ho3.ad.1, I.recv C.2.2.2.2.1 ho3 (by decide)⟩ q1247 q1249 q1248 (by decide) q1256 q1254 rfl pd_X4_eyes rfl dX10_see_116) (ct_X4_eyes_k3 h) hl.1 dX10_see_116 [] rfl (Nat.le_of_ble_eq_true rfl) (Or.inl rfl) q1255 q106 ⟨Nat.le_of_ble_eq_true rfl, Nat.le_of_ble_eq_true rfl⟩ (fun v G11 H locs cells slots xG11 hq I => kk v G11 H locs cells slots xG11 hq I) (fun a G9 H locs cells slots ex hq I => hq.elim)
        · have h := h.2.1 ho4
          refine k_call Ext.tr C I (k_U (r := gR G6 (ad (gR G6 (ad (gR G6 (ad th) 5)) 2)) (gI G6 (ad r7) 3).toNatClampNeg) (As := [va_rf th, .int (gI G6 (ad r7) 0), .int (gI G6 (ad r7) 1), .int (gI G6 (ad r7) 2), .int (gI G6 (ad r7) 4), .int ((0 : Int32))]) (rest := []) (y := yX4_eyes) (x := ⟨"EndingTown$How", "eyes", "(LEndingTown$Day;IIIZI)I"⟩) (owner := "EndingTown$How") C ⟨ho4.ad.1, I.recv C.2.2.2.2.1 ho4 (by decide)⟩ q1247 q1249 q1248 (by decide) q1253 q1254 rfl pd_X4_eyes rfl dX10_see_116) (ct_X4_eyes_k4 h) hl.1 dX10_see_116 [] rfl (Nat.le_of_ble_eq_true rfl) (Or.inl rfl) q1255 q106 ⟨Nat.le_of_ble_eq_true rfl, Nat.le_of_ble_eq_true rfl⟩ (fun v G11 H locs cells slots xG11 hq I => kk v G11 H locs cells slots xG11 hq I) (fun a G9 H locs cells slots ex hq I => hq.elim)
        · have h := h.2.2.1 ho5
          refine k_call Ext.tr C I (k_U (r := gR G6 (ad (gR G6 (ad (gR G6 (ad th) 5)) 2)) (gI G6 (ad r7) 3).toNatClampNeg) (As := [va_rf th, .int (gI G6 (ad r7) 0), .int (gI G6 (ad r7) 1), .int (gI G6 (ad r7) 2), .int (gI G6 (ad r7) 4), .int ((0 : Int32))]) (rest := []) (y := yX7_eyes) (x := ⟨"EndingTown$How", "eyes", "(LEndingTown$Day;IIIZI)I"⟩) (owner := "EndingTown$How") C ⟨ho5.ad.1, I.recv C.2.2.2.2.1 ho5 (by decide)⟩ q1247 q1249 q1248 (by decide) q1257 q1258 rfl pd_X7_eyes rfl dX10_see_116) (ct_X7_eyes h) hl.1 dX10_see_116 [] rfl (Nat.le_of_ble_eq_true rfl) (Or.inl rfl) q1259 q109 ⟨Nat.le_of_ble_eq_true rfl, Nat.le_of_ble_eq_true rfl⟩ (fun v G11 H locs cells slots xG11 hq I => kk v G11 H locs cells slots xG11 hq I) (fun a G9 H locs cells slots ex hq I => hq.elim)
        · have h := h.2.2.2.1 ho6
          refine k_call Ext.tr C I (k_U (r := gR G6 (ad (gR G6 (ad (gR G6 (ad th) 5)) 2)) (gI G6 (ad r7) 3).toNatClampNeg) (As := [va_rf th, .int (gI G6 (ad r7) 0), .int (gI G6 (ad r7) 1), .int (gI G6 (ad r7) 2), .int (gI G6 (ad r7) 4), .int ((0 : Int32))]) (rest := []) (y := yX8_eyes) (x := ⟨"EndingTown$How", "eyes", "(LEndingTown$Day;IIIZI)I"⟩) (owner := "EndingTown$How") C ⟨ho6.ad.1, I.recv C.2.2.2.2.1 ho6 (by decide)⟩ q1247 q1249 q1248 (by decide) q1260 q1261 rfl pd_X8_eyes rfl dX10_see_116) (ct_X8_eyesR h) hl.1 dX10_see_116 [] rfl (Nat.le_of_ble_eq_true rfl) (Or.inl rfl) q1262 q110 ⟨Nat.le_of_ble_eq_true rfl, Nat.le_of_ble_eq_true rfl⟩ (fun v G11 H locs cells slots xG11 hq I => kk v G11 H locs cells slots xG11 hq I) (fun a G9 H locs cells slots ex hq I => hq.elim)
        · have h := h.2.2.2.2 ho7
          refine k_call Ext.tr C I (k_U (r := gR G6 (ad (gR G6 (ad (gR G6 (ad th) 5)) 2)) (gI G6 (ad r7) 3).toNatClampNeg) (As := [va_rf th, .int (gI G6 (ad r7) 0), .int (gI G6 (ad r7) 1), .int (gI G6 (ad r7) 2), .int (gI G6 (ad r7) 4), .int ((0 : Int32))]) (rest := []) (y := yX9_eyes) (x := ⟨"EndingTown$How", "eyes", "(LEndingTown$Day;IIIZI)I"⟩) (owner := "EndingTown$How") C ⟨ho7.ad.1, I.recv C.2.2.2.2.1 ho7 (by decide)⟩ q1247 q1249 q1248 (by decide) q1250 q1251 rfl pd_X9_eyes rfl dX10_see_116) (ct_X9_eyes h) hl.1 dX10_see_116 [] rfl (Nat.le_of_ble_eq_true rfl) (Or.inl rfl) q1252 q111 ⟨Nat.le_of_ble_eq_true rfl, Nat.le_of_ble_eq_true rfl⟩ (fun v G11 H locs cells slots xG11 hq I => kk v G11 H locs cells slots xG11 hq I) (fun a G9 H locs cells slots ex hq I => hq.elim)
      · have h := h.2 c16
        refine lv_goto (tgt := 148) C.1 C.2.1 dX10_see_66 (by decide) ?_
        exact b_X10_see_148 C hk33 hk41 l1 l2 G2 _ _ _ _ _ h (hth.ext (by decide) xG2) I (hl.sub [0, 1, 2] rfl)
def w_X10_see_33 (T : Nat → ClassId) (Q : Hp → Prop) (th : Option Nat) : Nat → Int32 → Hp → Prop
  | 0 => fun _ _ => False
  | f33 + 1 => fun l1 G => ((l1 = 0) → (Q G)) ∧ ((¬ l1 = 0) → (∃ n, w_X10_see_41 T Q th (w_X10_see_33 T Q th f33) n ((0 : Int32)) ((0 : Int32)) G))
set_option maxHeartbeats 4000000 in
theorem b_X10_see_33 {G0 : Hp} {Q : Hp → Prop} {th : Option Nat} (C : Cx p s m meth c D T Z "EndingTown$Day" cX10_see 5 none) : ∀ (n : Nat) (l1 : Int32) (G : Hp) (H : Heap) (locs : List Loc) (cells slots : Nat) (ls : Array Slot), w_X10_see_33 T Q th n l1 G → isO G th 8 → HI (twd D T Z) G0 s (rmX (twd D T Z) 25 697 G0) H locs cells slots G → LH ls 5 [(0, .inr (.inl th)), (1, .inl l1)] → W p l e (rmX (twd D T Z) 25 697 G0) s m args below meth c H locs cells slots (MQX (twd D T Z) G0 (qV Q) (fun _ _ => False) below s) (F0 m 33 ls []) := by
  intro f33
  induction f33 with
  | zero => intro l1 G H locs cells slots ls h; exact (show False from h).elim
  | succ f33 ih =>
    intro l1 G H locs cells slots ls h hth I hl
    have h : ((l1 = 0) → (Q G)) ∧ ((¬ l1 = 0) → (∃ n, w_X10_see_41 T Q th (w_X10_see_33 T Q th f33) n ((0 : Int32)) ((0 : Int32)) G)) := h
    have hk33 := ih
    refine l_ild_n C dX10_see_33 hl 1 rfl rfl ?_
    refine lv_if_eq (tgt := 157) C.1 C.2.1 dX10_see_34 (by decide) (fun c1 => ?_) (fun c1 => ?_)
    · have h := h.1 c1
      exact r_void C.1 C.2.1 C.2.2.2.2.2.1 C.2.2.2.2.2.2 ⟨rfl, rfl⟩ I dX10_see_157 ⟨rfl, h⟩
    · have h := h.2 c1
      refine lv_iconst (v := 0) C.1 C.2.1 dX10_see_37 (by decide) ?_
      refine l_ist_n C dX10_see_38 rfl hl (by decide) rfl (fun ls hl => ?_)
      have hl : LH ls 5 [(1, .inl ((0 : Int32))), (0, .inr (.inl th))] := hl
      refine lv_iconst (v := 0) C.1 C.2.1 dX10_see_39 (by decide) ?_
      refine l_ist_n C dX10_see_40 rfl hl (by decide) rfl (fun ls hl => ?_)
      have hl : LH ls 5 [(2, .inl ((0 : Int32))), (1, .inl ((0 : Int32))), (0, .inr (.inl th))] := hl
      obtain ⟨n, h⟩ := h
      exact b_X10_see_41 C hk33 n ((0 : Int32)) ((0 : Int32)) G _ _ _ _ _ h hth I (hl.sub [2, 1, 0] rfl)
def w_X10_see_2 (T : Nat → ClassId) (Q : Hp → Prop) (th : Option Nat) : Nat → Int32 → Hp → Prop
  | 0 => fun _ _ => False
  | f2 + 1 => fun l1 G => isO G (gR G (ad th) 5) 1 ∧ isO G (gR G (ad (gR G (ad th) 5)) 1) 16 ∧ w_J2_size T (fun r3 G2 => Ext G G2 → ((r3 ≤ l1) → (∃ n, w_X10_see_33 T Q th n ((1 : Int32)) G2)) ∧ ((¬ r3 ≤ l1) → (isO G2 (gR G2 (ad th) 2) 50 ∧ vp_in l1 (gN G2 (ad (gR G2 (ad th) 2))) ∧ ∀ G5 : Hp, G5 = wI G2 (ad (gR G2 (ad th) 2)) l1.toNatClampNeg ((0 : Int32)) → (w_X10_see_2 T Q th f2) ((l1 + 1)) G5))) (gR G (ad (gR G (ad th) 5)) 1) G
set_option maxHeartbeats 4000000 in
theorem b_X10_see_2 {G0 : Hp} {Q : Hp → Prop} {th : Option Nat} (C : Cx p s m meth c D T Z "EndingTown$Day" cX10_see 5 none) : ∀ (n : Nat) (l1 : Int32) (G : Hp) (H : Heap) (locs : List Loc) (cells slots : Nat) (ls : Array Slot), w_X10_see_2 T Q th n l1 G → isO G th 8 → HI (twd D T Z) G0 s (rmX (twd D T Z) 25 697 G0) H locs cells slots G → LH ls 5 [(0, .inr (.inl th)), (1, .inl l1)] → W p l e (rmX (twd D T Z) 25 697 G0) s m args below meth c H locs cells slots (MQX (twd D T Z) G0 (qV Q) (fun _ _ => False) below s) (F0 m 2 ls []) := by
  intro f2
  induction f2 with
  | zero => intro l1 G H locs cells slots ls h; exact (show False from h).elim
  | succ f2 ih =>
    intro l1 G H locs cells slots ls h hth I hl
    have h : isO G (gR G (ad th) 5) 1 ∧ isO G (gR G (ad (gR G (ad th) 5)) 1) 16 ∧ w_J2_size T (fun r3 G2 => Ext G G2 → ((r3 ≤ l1) → (∃ n, w_X10_see_33 T Q th n ((1 : Int32)) G2)) ∧ ((¬ r3 ≤ l1) → (isO G2 (gR G2 (ad th) 2) 50 ∧ vp_in l1 (gN G2 (ad (gR G2 (ad th) 2))) ∧ ∀ G5 : Hp, G5 = wI G2 (ad (gR G2 (ad th) 2)) l1.toNatClampNeg ((0 : Int32)) → (w_X10_see_2 T Q th f2) ((l1 + 1)) G5))) (gR G (ad (gR G (ad th) 5)) 1) G := h
    have hk2 := ih
    refine l_ild_n C dX10_see_2 hl 1 rfl rfl ?_
    refine l_ald_n C dX10_see_3 hl 0 rfl rfl ?_
    refine g_R C I fl_X10_3_8 (by decide) (by decide) hth dX10_see_4 ?_
    obtain ⟨ho1, h⟩ := h
    refine g_R C I fl_X10_29_1 (by decide) (by decide) ho1 dX10_see_7 ?_
    obtain ⟨ho7, h⟩ := h
    refine k_call Ext.tr C I (k_F (kd := 16) (r := gR G (ad (gR G (ad th) 5)) 1) (As := []) (rest := [.int l1]) (y := yJ2_size) (x := ⟨"java/util/List", "size", "()I"⟩) C (by decide) ⟨ho7.ad.1, I.recv C.2.2.2.2.1 ho7 (by decide)⟩ q473 (by decide) q426 q425 q430 q428 q417 q427 q429 rfl pd_J2_size rfl dX10_see_10) (ct_J2_size h) hl.1 dX10_see_10 [.inl l1] rfl (Nat.le_of_ble_eq_true rfl) (Or.inl rfl) q431 q104 ⟨Nat.le_of_ble_eq_true rfl, Nat.le_of_ble_eq_true rfl⟩ (fun v G2 H locs cells slots xG2 hq I => ?_) (fun a G9 H locs cells slots ex hq I => hq.elim)
    obtain ⟨r3, rfl, h⟩ := hq
    have h := h xG2
    refine lv_icmp_ge (tgt := 31) C.1 C.2.1 dX10_see_15 (by decide) (fun c6 => ?_) (fun c6 => ?_)
    · have h := h.1 c6
      refine lv_iconst (v := 1) C.1 C.2.1 dX10_see_31 (by decide) ?_
      refine l_ist_n C dX10_see_32 rfl hl (by decide) rfl (fun ls hl => ?_)
      have hl : LH ls 5 [(1, .inl ((1 : Int32))), (0, .inr (.inl th))] := hl
      obtain ⟨n, h⟩ := h
      exact b_X10_see_33 C n ((1 : Int32)) G2 _ _ _ _ _ h (hth.ext (by decide) xG2) I (hl.sub [1, 0] rfl)
    · have h := h.2 c6
      refine l_ald_n C dX10_see_18 hl 0 rfl rfl ?_
      refine g_R C I fl_X10_22_8 (by decide) (by decide) (hth.ext (by decide) xG2) dX10_see_19 ?_
      refine l_ild_n C dX10_see_22 hl 1 rfl rfl ?_
      refine lv_iconst (v := 0) C.1 C.2.1 dX10_see_23 (by decide) ?_
      obtain ⟨ho4, h⟩ := h
      obtain ⟨hi, h⟩ := h
      refine A_iast C I ho4 hi dX10_see_24 (fun H locs G5 eG5 xG5 I => ?_)
      have h := h G5 eG5
      refine l_inc (q := 1) (v := 1) C dX10_see_25 hl rfl (by decide) (by decide) rfl (fun ls hl => ?_)
      have hl : LH ls 5 [(1, .inl ((l1 + 1))), (0, .inr (.inl th))] := hl
      refine lv_goto (tgt := 2) C.1 C.2.1 dX10_see_28 (by decide) ?_
      exact hk2 ((l1 + 1)) G5 _ _ _ _ _ h (hth.ext (by decide) (Ext.tr _ _ _ xG2 xG5)) I (hl.sub [1, 0] rfl)
def w_X10_see (T : Nat → ClassId) (Q : Hp → Prop) (th : Option Nat) (G : Hp) : Prop := isO G th 8 ∧ (∃ n, w_X10_see_2 T Q th n ((0 : Int32)) G)
theorem pd_X10_see : (parseMethodDescriptor yX10_see.desc).map (fun d => d.parameters.length) = some 0 := by decide +kernel
set_option maxHeartbeats 4000000 in
theorem ct_X10_see {l : Launch} {D : va_G} {T : Nat → ClassId} {Z : Heap} {G0 : Hp} {Q : Hp → Prop} {th : Option Nat} (hw : w_X10_see T Q th G0) : CT (twd D T Z) (Evd D T Z) l yX10_see (Cond.code yX10_see cX10_see 5 none) 25 697 [va_rf th] G0 (qV Q) (fun _ _ => False) := by
  refine CT.ofW (cc := cX10_see) (nL := 5) (ret := none) Ext.rf (by decide) (Or.inl rfl) ?_
  intro p e s m below meth c hx hb hml hown hr hlk hnm hcb hm hc hn hE I
  have C : Cx p s m meth c D T Z "EndingTown$Day" cX10_see 5 none := ⟨hx, hb, hml, hown, hE, hr, hlk⟩
  refine w_entry [.inr (.inl th)] (Nat.le_of_ble_eq_true rfl) (fun ls hl => ?_)
  have hl : LH ls 5 [(0, .inr (.inl th))] := hl
  obtain ⟨hth, h⟩ := hw
  refine lv_iconst (v := 0) C.1 C.2.1 dX10_see_0 (by decide) ?_
  refine l_ist_n C dX10_see_1 rfl hl (by decide) rfl (fun ls hl => ?_)
  have hl : LH ls 5 [(1, .inl ((0 : Int32))), (0, .inr (.inl th))] := hl
  obtain ⟨n, h⟩ := h
  exact b_X10_see_2 C n ((0 : Int32)) G0 _ _ _ _ _ h hth I (hl.sub [1, 0] rfl)
def w_X1_saying_128 (T : Nat → ClassId) (Q : Int32 → Hp → Prop) (E : Nat → Hp → Prop) (th : Option Nat) (t0 : Int32) (G : Hp) : Prop := Q t0 G
set_option maxHeartbeats 4000000 in
theorem b_X1_saying_128 {G0 : Hp} {Q : Int32 → Hp → Prop} {E : Nat → Hp → Prop} {th : Option Nat} (C : Cx p s m meth c D T Z "EndingTown" cX1_saying 4 (some .int)) (hex : ∀ z ∈ c.exceptionTable.toList, ∀ pc, covers z pc = false) (hLf : l.flags = flags0) : ∀ (t0 : Int32) (G : Hp) (H : Heap) (locs : List Loc) (cells slots : Nat) (ls : Array Slot), w_X1_saying_128 T Q E th t0 G → isO G th 1 → HI (twd D T Z) G0 s (rmX (twd D T Z) 26 721 G0) H locs cells slots G → LH ls 4 [] → W p l e (rmX (twd D T Z) 26 721 G0) s m args below meth c H locs cells slots (MQX (twd D T Z) G0 (qI Q) E below s) (F0 m 128 ls [.int t0]) := by
  intro t0 G H locs cells slots ls h hth I hl
  exact r_int C.1 C.2.1 C.2.2.2.2.2.1 rfl C.2.2.2.2.2.2 ⟨rfl, rfl⟩ I dX1_saying_128 ⟨_, rfl, h⟩
def w_X1_saying_146 (T : Nat → ClassId) (Q : Int32 → Hp → Prop) (E : Nat → Hp → Prop) (th : Option Nat) (t0 : Int32) (G : Hp) : Prop := Q t0 G
set_option maxHeartbeats 4000000 in
theorem b_X1_saying_146 {G0 : Hp} {Q : Int32 → Hp → Prop} {E : Nat → Hp → Prop} {th : Option Nat} (C : Cx p s m meth c D T Z "EndingTown" cX1_saying 4 (some .int)) (hex : ∀ z ∈ c.exceptionTable.toList, ∀ pc, covers z pc = false) (hLf : l.flags = flags0) : ∀ (t0 : Int32) (G : Hp) (H : Heap) (locs : List Loc) (cells slots : Nat) (ls : Array Slot), w_X1_saying_146 T Q E th t0 G → isO G th 1 → HI (twd D T Z) G0 s (rmX (twd D T Z) 26 721 G0) H locs cells slots G → LH ls 4 [] → W p l e (rmX (twd D T Z) 26 721 G0) s m args below meth c H locs cells slots (MQX (twd D T Z) G0 (qI Q) E below s) (F0 m 146 ls [.int t0]) := by
  intro t0 G H locs cells slots ls h hth I hl
  exact r_int C.1 C.2.1 C.2.2.2.2.2.1 rfl C.2.2.2.2.2.2 ⟨rfl, rfl⟩ I dX1_saying_146 ⟨_, rfl, h⟩
def w_X1_saying_34 (T : Nat → ClassId) (Q : Int32 → Hp → Prop) (E : Nat → Hp → Prop) (th : Option Nat) (l1 : Int32) (l2 : Int32) (t0 : Int32) (G : Hp) : Prop := w_X1_found T (fun G1 => Ext G G1 → isO G1 (gR G1 (ad th) 1) 16 ∧ w_J2_get T (fun r4 G3 => Ext G1 G3 → (r4 = none ∨ isO G3 r4 15) ∧ (l2 = 0 → (isO G3 r4 15 ∧ Q (gI G3 (ad r4) 0) G3)) ∧ (l2 = 1 → (isO G3 r4 15 ∧ Q (gI G3 (ad r4) 1) G3)) ∧ (l2 = 2 → (isO G3 r4 15 ∧ Q (gI G3 (ad r4) 2) G3)) ∧ (l2 = 3 → (isO G3 r4 15 ∧ Q (gI G3 (ad r4) 3) G3)) ∧ (l2 = 4 → (isO G3 r4 15 ∧ ((gI G3 (ad r4) 4 = 0) → (w_X1_saying_128 T Q E th ((0 : Int32)) G3)) ∧ ((¬ gI G3 (ad r4) 4 = 0) → (w_X1_saying_128 T Q E th ((1 : Int32)) G3)))) ∧ (l2 = 5 → (w_X1_whole T (fun r12 G11 => Ext G3 G11 → isO G11 r12 8 ∧ isO G11 (gR G11 (ad r12) 0) 50 ∧ vp_in l1 (gN G11 (ad (gR G11 (ad r12) 0))) ∧ ((gI G11 (ad (gR G11 (ad r12) 0)) l1.toNatClampNeg ≤ 0) → (w_X1_saying_146 T Q E th ((0 : Int32)) G11)) ∧ ((¬ gI G11 (ad (gR G11 (ad r12) 0)) l1.toNatClampNeg ≤ 0) → (w_X1_saying_146 T Q E th ((1 : Int32)) G11))) th G3)) ∧ (l2 = 6 → (w_X1_whole T (fun r17 G16 => Ext G3 G16 → isO G16 r17 8 ∧ isO G16 (gR G16 (ad r17) 0) 50 ∧ vp_in l1 (gN G16 (ad (gR G16 (ad r17) 0))) ∧ Q (gI G16 (ad (gR G16 (ad r17) 0)) l1.toNatClampNeg) G16) th G3)) ∧ (¬ l2 = 0 → ¬ l2 = 1 → ¬ l2 = 2 → ¬ l2 = 3 → ¬ l2 = 4 → ¬ l2 = 5 → ¬ l2 = 6 → (w_X1_whole T (fun r21 G20 => Ext G3 G20 → isO G20 r21 8 ∧ w_X10_see T (fun G22 => Ext G20 G22 → isO G22 (gR G22 (ad th) 3) 8 ∧ isO G22 (gR G22 (ad (gR G22 (ad th) 3)) 2) 50 ∧ vp_in l1 (gN G22 (ad (gR G22 (ad (gR G22 (ad th) 3)) 2))) ∧ Q (gI G22 (ad (gR G22 (ad (gR G22 (ad th) 3)) 2)) l1.toNatClampNeg) G22) r21 G20) th G3))) (gR G1 (ad th) 1) l1 G1) E t0 G
set_option maxHeartbeats 4000000 in
theorem b_X1_saying_34 {G0 : Hp} {Q : Int32 → Hp → Prop} {E : Nat → Hp → Prop} {th : Option Nat} (C : Cx p s m meth c D T Z "EndingTown" cX1_saying 4 (some .int)) (hex : ∀ z ∈ c.exceptionTable.toList, ∀ pc, covers z pc = false) (hLf : l.flags = flags0) : ∀ (l1 : Int32) (l2 : Int32) (t0 : Int32) (G : Hp) (H : Heap) (locs : List Loc) (cells slots : Nat) (ls : Array Slot), w_X1_saying_34 T Q E th l1 l2 t0 G → isO G th 1 → HI (twd D T Z) G0 s (rmX (twd D T Z) 26 721 G0) H locs cells slots G → LH ls 4 [(0, .inr (.inl th)), (1, .inl l1), (2, .inl l2)] → W p l e (rmX (twd D T Z) 26 721 G0) s m args below meth c H locs cells slots (MQX (twd D T Z) G0 (qI Q) E below s) (F0 m 34 ls [.int t0]) := by
  intro l1 l2 t0 G H locs cells slots ls h hth I hl
  refine k_call Ext.tr C I (k_S (As := [.int t0]) (rest := []) (y := yX1_found) C q1094 q1095 q100 (Or.inl rfl) q1096 (by decide) rfl pd_X1_found rfl dX1_saying_34) (ct_X1_found hLf h) hl.1 dX1_saying_34 [] rfl (Nat.le_of_ble_eq_true rfl) (Or.inl rfl) q1096 q100 ⟨Nat.le_of_ble_eq_true rfl, Nat.le_of_ble_eq_true rfl⟩ (fun v G1 H locs cells slots xG1 hq I => ?_) (fun a G9 H locs cells slots ex hq I => t_out C.2.2.2.2.2.2 ⟨rfl, rfl⟩ (fun z hz => hex z hz _) I hq)
  obtain ⟨rfl, h⟩ := hq
  have h := h xG1
  refine l_ald_n C dX1_saying_37 hl 0 rfl rfl ?_
  refine g_R C I fl_X1_25_1 (by decide) (by decide) (hth.ext (by decide) xG1) dX1_saying_38 ?_
  refine l_ild_n C dX1_saying_41 hl 1 rfl rfl ?_
  obtain ⟨ho27, h⟩ := h
  refine k_call Ext.tr C I (k_F (kd := 16) (r := gR G1 (ad th) 1) (As := [.int l1]) (rest := []) (y := yJ2_get) (x := ⟨"java/util/List", "get", "(I)Ljava/lang/Object;"⟩) C (by decide) ⟨ho27.ad.1, I.recv C.2.2.2.2.1 ho27 (by decide)⟩ q561 (by decide) q477 q476 q481 q479 q417 q478 q480 rfl pd_J2_get rfl dX1_saying_42) (ct_J2_get h) hl.1 dX1_saying_42 [] rfl (Nat.le_of_ble_eq_true rfl) (Or.inl rfl) q482 q104 ⟨Nat.le_of_ble_eq_true rfl, Nat.le_of_ble_eq_true rfl⟩ (fun v G3 H locs cells slots xG3 hq I => ?_) (fun a G9 H locs cells slots ex hq I => hq.elim)
  obtain ⟨r4, rfl, h⟩ := hq
  have h := h xG3
  obtain ⟨hcc, h⟩ := h
  refine c_cast (kd := 15) C I (by decide) q562 hcc dX1_saying_47 ?_
  refine l_ast_n C dX1_saying_50 rfl hl (by decide) rfl (fun ls hl => ?_)
  have hl : LH ls 4 [(3, .inr (.inl r4)), (0, .inr (.inl th)), (1, .inl l1), (2, .inl l2)] := hl
  refine l_ild_n C dX1_saying_51 hl 3 rfl rfl ?_
  by_cases t0 : l2 = 0
  · have h := h.1 t0
    refine lv_tableIn (off := 44) (tgt := 96) C.1 C.2.1 dX1_saying_52 (by rw [t0]; decide) (by rw [t0]; decide) (by rw [t0]; rfl) (by decide) ?_
    refine l_ald_n C dX1_saying_96 hl 0 rfl rfl ?_
    obtain ⟨ho5, h⟩ := h
    refine g_I C I fl_X1_247_15 (by decide) (by decide) ho5 dX1_saying_97 ?_
    exact r_int C.1 C.2.1 C.2.2.2.2.2.1 rfl C.2.2.2.2.2.2 ⟨rfl, rfl⟩ I dX1_saying_100 ⟨_, rfl, h⟩
  by_cases t1 : l2 = 1
  · have h := h.2.1 t1
    refine lv_tableIn (off := 49) (tgt := 101) C.1 C.2.1 dX1_saying_52 (by rw [t1]; decide) (by rw [t1]; decide) (by rw [t1]; rfl) (by decide) ?_
    refine l_ald_n C dX1_saying_101 hl 0 rfl rfl ?_
    obtain ⟨ho6, h⟩ := h
    refine g_I C I fl_X1_250_15 (by decide) (by decide) ho6 dX1_saying_102 ?_
    exact r_int C.1 C.2.1 C.2.2.2.2.2.1 rfl C.2.2.2.2.2.2 ⟨rfl, rfl⟩ I dX1_saying_105 ⟨_, rfl, h⟩
  by_cases t2 : l2 = 2
  · have h := h.2.2.1 t2
    refine lv_tableIn (off := 54) (tgt := 106) C.1 C.2.1 dX1_saying_52 (by rw [t2]; decide) (by rw [t2]; decide) (by rw [t2]; rfl) (by decide) ?_
    refine l_ald_n C dX1_saying_106 hl 0 rfl rfl ?_
    obtain ⟨ho7, h⟩ := h
    refine g_I C I fl_X1_251_15 (by decide) (by decide) ho7 dX1_saying_107 ?_
    exact r_int C.1 C.2.1 C.2.2.2.2.2.1 rfl C.2.2.2.2.2.2 ⟨rfl, rfl⟩ I dX1_saying_110 ⟨_, rfl, h⟩
  by_cases t3 : l2 = 3
  · have h := h.2.2.2.1 t3
    refine lv_tableIn (off := 59) (tgt := 111) C.1 C.2.1 dX1_saying_52 (by rw [t3]; decide) (by rw [t3]; decide) (by rw [t3]; rfl) (by decide) ?_
    refine l_ald_n C dX1_saying_111 hl 0 rfl rfl ?_
    obtain ⟨ho8, h⟩ := h
    refine g_I C I fl_X1_254_15 (by decide) (by decide) ho8 dX1_saying_112 ?_
    exact r_int C.1 C.2.1 C.2.2.2.2.2.1 rfl C.2.2.2.2.2.2 ⟨rfl, rfl⟩ I dX1_saying_115 ⟨_, rfl, h⟩
  by_cases t4 : l2 = 4
  · have h := h.2.2.2.2.1 t4
    refine lv_tableIn (off := 64) (tgt := 116) C.1 C.2.1 dX1_saying_52 (by rw [t4]; decide) (by rw [t4]; decide) (by rw [t4]; rfl) (by decide) ?_
    refine l_ald_n C dX1_saying_116 hl 0 rfl rfl ?_
    obtain ⟨ho9, h⟩ := h
    refine g_I C I fl_X1_257_15 (by decide) (by decide) ho9 dX1_saying_117 ?_
    refine lv_if_eq (tgt := 127) C.1 C.2.1 dX1_saying_120 (by decide) (fun c10 => ?_) (fun c10 => ?_)
    · have h := h.1 c10
      refine lv_iconst (v := 0) C.1 C.2.1 dX1_saying_127 (by decide) ?_
      exact b_X1_saying_128 C hex hLf ((0 : Int32)) G3 _ _ _ _ _ h (hth.ext (by decide) (Ext.tr _ _ _ xG1 xG3)) I (hl.sub [] rfl)
    · have h := h.2 c10
      refine lv_iconst (v := 1) C.1 C.2.1 dX1_saying_123 (by decide) ?_
      refine lv_goto (tgt := 128) C.1 C.2.1 dX1_saying_124 (by decide) ?_
      exact b_X1_saying_128 C hex hLf ((1 : Int32)) G3 _ _ _ _ _ h (hth.ext (by decide) (Ext.tr _ _ _ xG1 xG3)) I (hl.sub [] rfl)
  by_cases t5 : l2 = 5
  · have h := h.2.2.2.2.2.1 t5
    refine lv_tableIn (off := 77) (tgt := 129) C.1 C.2.1 dX1_saying_52 (by rw [t5]; decide) (by rw [t5]; decide) (by rw [t5]; rfl) (by decide) ?_
    refine l_ald_n C dX1_saying_129 hl 1 rfl rfl ?_
    refine k_call Ext.tr C I (k_V (r := th) (As := []) (rest := []) (y := yX1_whole) C ⟨(hth.ext (by decide) (Ext.tr _ _ _ xG1 xG3)).ad.1, I.recv C.2.2.2.2.1 (hth.ext (by decide) (Ext.tr _ _ _ xG1 xG3)) (by decide)⟩ q1239 q1241 qs38 (Or.inl rfl) q1242 (by decide) rfl pd_X1_whole rfl dX1_saying_130) (ct_X1_whole h) hl.1 dX1_saying_130 [] rfl (Nat.le_of_ble_eq_true rfl) (Or.inl rfl) q1242 q100 ⟨Nat.le_of_ble_eq_true rfl, Nat.le_of_ble_eq_true rfl⟩ (fun v G11 H locs cells slots xG11 hq I => ?_) (fun a G9 H locs cells slots ex hq I => hq.elim)
    obtain ⟨r12, rfl, h⟩ := hq
    have h := h xG11
    obtain ⟨ho13, h⟩ := h
    refine g_R C I fl_X1_262_8 (by decide) (by decide) ho13 dX1_saying_133 ?_
    refine l_ild_n C dX1_saying_136 hl 2 rfl rfl ?_
    obtain ⟨ho14, h⟩ := h
    obtain ⟨hi, h⟩ := h
    refine a_iald C I ho14 hi dX1_saying_137 ?_
    refine lv_if_le (tgt := 145) C.1 C.2.1 dX1_saying_138 (by decide) (fun c15 => ?_) (fun c15 => ?_)
    · have h := h.1 c15
      refine lv_iconst (v := 0) C.1 C.2.1 dX1_saying_145 (by decide) ?_
      exact b_X1_saying_146 C hex hLf ((0 : Int32)) G11 _ _ _ _ _ h (hth.ext (by decide) (Ext.tr _ _ _ xG1 (Ext.tr _ _ _ xG3 xG11))) I (hl.sub [] rfl)
    · have h := h.2 c15
      refine lv_iconst (v := 1) C.1 C.2.1 dX1_saying_141 (by decide) ?_
      refine lv_goto (tgt := 146) C.1 C.2.1 dX1_saying_142 (by decide) ?_
      exact b_X1_saying_146 C hex hLf ((1 : Int32)) G11 _ _ _ _ _ h (hth.ext (by decide) (Ext.tr _ _ _ xG1 (Ext.tr _ _ _ xG3 xG11))) I (hl.sub [] rfl)
  by_cases t6 : l2 = 6
  · have h := h.2.2.2.2.2.2.1 t6
    refine lv_tableIn (off := 95) (tgt := 147) C.1 C.2.1 dX1_saying_52 (by rw [t6]; decide) (by rw [t6]; decide) (by rw [t6]; rfl) (by decide) ?_
    refine l_ald_n C dX1_saying_147 hl 1 rfl rfl ?_
    refine k_call Ext.tr C I (k_V (r := th) (As := []) (rest := []) (y := yX1_whole) C ⟨(hth.ext (by decide) (Ext.tr _ _ _ xG1 xG3)).ad.1, I.recv C.2.2.2.2.1 (hth.ext (by decide) (Ext.tr _ _ _ xG1 xG3)) (by decide)⟩ q1239 q1241 qs38 (Or.inl rfl) q1242 (by decide) rfl pd_X1_whole rfl dX1_saying_148) (ct_X1_whole h) hl.1 dX1_saying_148 [] rfl (Nat.le_of_ble_eq_true rfl) (Or.inl rfl) q1242 q100 ⟨Nat.le_of_ble_eq_true rfl, Nat.le_of_ble_eq_true rfl⟩ (fun v G16 H locs cells slots xG16 hq I => ?_) (fun a G9 H locs cells slots ex hq I => hq.elim)
    obtain ⟨r17, rfl, h⟩ := hq
    have h := h xG16
    obtain ⟨ho18, h⟩ := h
    refine g_R C I fl_X1_262_8 (by decide) (by decide) ho18 dX1_saying_151 ?_
    refine l_ild_n C dX1_saying_154 hl 2 rfl rfl ?_
    obtain ⟨ho19, h⟩ := h
    obtain ⟨hi, h⟩ := h
    refine a_iald C I ho19 hi dX1_saying_155 ?_
    exact r_int C.1 C.2.1 C.2.2.2.2.2.1 rfl C.2.2.2.2.2.2 ⟨rfl, rfl⟩ I dX1_saying_156 ⟨_, rfl, h⟩
  have h := h.2.2.2.2.2.2.2 t0 t1 t2 t3 t4 t5 t6
  refine lv_tableOut (tgt := 157) C.1 C.2.1 dX1_saying_52 (sw_out (n := 7) (fun j hj => by match j, hj with | 0, _ => exact t0 | 1, _ => exact t1 | 2, _ => exact t2 | 3, _ => exact t3 | 4, _ => exact t4 | 5, _ => exact t5 | 6, _ => exact t6 | j + 7, hj => exact absurd hj (by omega)) (by decide)) (by decide) ?_
  refine l_ald_n C dX1_saying_157 hl 1 rfl rfl ?_
  refine k_call Ext.tr C I (k_V (r := th) (As := []) (rest := []) (y := yX1_whole) C ⟨(hth.ext (by decide) (Ext.tr _ _ _ xG1 xG3)).ad.1, I.recv C.2.2.2.2.1 (hth.ext (by decide) (Ext.tr _ _ _ xG1 xG3)) (by decide)⟩ q1239 q1241 qs38 (Or.inl rfl) q1242 (by decide) rfl pd_X1_whole rfl dX1_saying_158) (ct_X1_whole h) hl.1 dX1_saying_158 [] rfl (Nat.le_of_ble_eq_true rfl) (Or.inl rfl) q1242 q100 ⟨Nat.le_of_ble_eq_true rfl, Nat.le_of_ble_eq_true rfl⟩ (fun v G20 H locs cells slots xG20 hq I => ?_) (fun a G9 H locs cells slots ex hq I => hq.elim)
  obtain ⟨r21, rfl, h⟩ := hq
  have h := h xG20
  obtain ⟨ho26, h⟩ := h
  refine k_call Ext.tr C I (k_V (r := r21) (As := []) (rest := []) (y := yX10_see) C ⟨ho26.ad.1, I.recv C.2.2.2.2.1 ho26 (by decide)⟩ q1243 q1244 q1245 (Or.inl rfl) q1246 (by decide) rfl pd_X10_see rfl dX1_saying_161) (ct_X10_see h) hl.1 dX1_saying_161 [] rfl (Nat.le_of_ble_eq_true rfl) (Or.inl rfl) q1246 q112 ⟨Nat.le_of_ble_eq_true rfl, Nat.le_of_ble_eq_true rfl⟩ (fun v G22 H locs cells slots xG22 hq I => ?_) (fun a G9 H locs cells slots ex hq I => hq.elim)
  obtain ⟨rfl, h⟩ := hq
  have h := h xG22
  refine l_ald_n C dX1_saying_164 hl 1 rfl rfl ?_
  refine g_R C I fl_X1_55_1 (by decide) (by decide) (hth.ext (by decide) (Ext.tr _ _ _ xG1 (Ext.tr _ _ _ xG3 (Ext.tr _ _ _ xG20 xG22)))) dX1_saying_165 ?_
  obtain ⟨ho24, h⟩ := h
  refine g_R C I fl_X1_268_8 (by decide) (by decide) ho24 dX1_saying_168 ?_
  refine l_ild_n C dX1_saying_171 hl 2 rfl rfl ?_
  obtain ⟨ho25, h⟩ := h
  obtain ⟨hi, h⟩ := h
  refine a_iald C I ho25 hi dX1_saying_172 ?_
  exact r_int C.1 C.2.1 C.2.2.2.2.2.1 rfl C.2.2.2.2.2.2 ⟨rfl, rfl⟩ I dX1_saying_173 ⟨_, rfl, h⟩
def w_X1_saying_33 (T : Nat → ClassId) (Q : Int32 → Hp → Prop) (E : Nat → Hp → Prop) (th : Option Nat) (l1 : Int32) (l2 : Int32) (G : Hp) : Prop := w_X1_saying_34 T Q E th l1 l2 ((0 : Int32)) G
set_option maxHeartbeats 4000000 in
theorem b_X1_saying_33 {G0 : Hp} {Q : Int32 → Hp → Prop} {E : Nat → Hp → Prop} {th : Option Nat} (C : Cx p s m meth c D T Z "EndingTown" cX1_saying 4 (some .int)) (hex : ∀ z ∈ c.exceptionTable.toList, ∀ pc, covers z pc = false) (hLf : l.flags = flags0) : ∀ (l1 : Int32) (l2 : Int32) (G : Hp) (H : Heap) (locs : List Loc) (cells slots : Nat) (ls : Array Slot), w_X1_saying_33 T Q E th l1 l2 G → isO G th 1 → HI (twd D T Z) G0 s (rmX (twd D T Z) 26 721 G0) H locs cells slots G → LH ls 4 [(0, .inr (.inl th)), (1, .inl l1), (2, .inl l2)] → W p l e (rmX (twd D T Z) 26 721 G0) s m args below meth c H locs cells slots (MQX (twd D T Z) G0 (qI Q) E below s) (F0 m 33 ls []) := by
  intro l1 l2 G H locs cells slots ls h hth I hl
  refine lv_iconst (v := 0) C.1 C.2.1 dX1_saying_33 (by decide) ?_
  exact b_X1_saying_34 C hex hLf l1 l2 ((0 : Int32)) G _ _ _ _ _ h hth I (hl.sub [0, 1, 2] rfl)
def w_X1_saying (T : Nat → ClassId) (Q : Int32 → Hp → Prop) (E : Nat → Hp → Prop) (th : Option Nat) (p0 : Int32) (p1 : Int32) (G : Hp) : Prop := isO G th 1 ∧ (isO G (gR G (ad th) 1) 16 ∧ w_J2_size T (fun r2 G1 => Ext G G1 → w_X1_in T (fun r4 G3 => Ext G1 G3 → ((r4 = 0) → (w_X1_saying_33 T Q E th p0 p1 G3)) ∧ ((¬ r4 = 0) → (w_X1_in T (fun r6 G5 => Ext G3 G5 → ((r6 = 0) → (w_X1_saying_33 T Q E th p0 p1 G5)) ∧ ((¬ r6 = 0) → (w_X1_saying_34 T Q E th p0 p1 ((1 : Int32)) G5))) p1 ((0 : Int32)) ((7 : Int32)) G3))) p0 ((0 : Int32)) ((r2 - (1 : Int32))) G1) (gR G (ad th) 1) G)
theorem pd_X1_saying : (parseMethodDescriptor yX1_saying.desc).map (fun d => d.parameters.length) = some 2 := by decide +kernel
set_option maxHeartbeats 4000000 in
theorem ct_X1_saying {l : Launch} {D : va_G} {T : Nat → ClassId} {Z : Heap} {G0 : Hp} {Q : Int32 → Hp → Prop} {E : Nat → Hp → Prop} {th : Option Nat} {p0 : Int32} {p1 : Int32} (hLf : l.flags = flags0) (hw : w_X1_saying T Q E th p0 p1 G0) : CT (twd D T Z) (Evd D T Z) l yX1_saying (Cond.code yX1_saying cX1_saying 4 (some .int)) 26 721 [va_rf th, .int p0, .int p1] G0 (qI Q) E := by
  refine CT.ofW (cc := cX1_saying) (nL := 4) (ret := (some .int)) Ext.rf (by decide) (Or.inl rfl) ?_
  intro p e s m below meth c hx hb hml hown hr hlk hnm hcb hm hc hn hE I
  have C : Cx p s m meth c D T Z "EndingTown" cX1_saying 4 (some .int) := ⟨hx, hb, hml, hown, hE, hr, hlk⟩
  have hex := noEx hn hm hc hcb
  refine w_entry [.inr (.inl th), .inl p0, .inl p1] (Nat.le_of_ble_eq_true rfl) (fun ls hl => ?_)
  have hl : LH ls 4 [(0, .inr (.inl th)), (1, .inl p0), (2, .inl p1)] := hl
  obtain ⟨hth, h⟩ := hw
  refine l_ild_n C dX1_saying_0 hl 1 rfl rfl ?_
  refine lv_iconst (v := 0) C.1 C.2.1 dX1_saying_1 (by decide) ?_
  refine l_ald_n C dX1_saying_2 hl 0 rfl rfl ?_
  refine g_R C I fl_X1_25_1 (by decide) (by decide) hth dX1_saying_3 ?_
  obtain ⟨ho9, h⟩ := h
  refine k_call Ext.tr C I (k_F (kd := 16) (r := gR G0 (ad th) 1) (As := []) (rest := [.int ((0 : Int32)), .int p0]) (y := yJ2_size) (x := ⟨"java/util/List", "size", "()I"⟩) C (by decide) ⟨ho9.ad.1, I.recv C.2.2.2.2.1 ho9 (by decide)⟩ q424 (by decide) q426 q425 q430 q428 q417 q427 q429 rfl pd_J2_size rfl dX1_saying_6) (ct_J2_size h) hl.1 dX1_saying_6 [.inl ((0 : Int32)), .inl p0] rfl (Nat.le_of_ble_eq_true rfl) (Or.inl rfl) q431 q104 ⟨Nat.le_of_ble_eq_true rfl, Nat.le_of_ble_eq_true rfl⟩ (fun v G1 H locs cells slots xG1 hq I => ?_) (fun a G9 H locs cells slots ex hq I => hq.elim)
  obtain ⟨r2, rfl, h⟩ := hq
  have h := h xG1
  refine lv_iconst (v := 1) C.1 C.2.1 dX1_saying_11 (by decide) ?_
  refine lv_isub C.1 C.2.1 dX1_saying_12 ?_
  refine k_call Ext.tr C I (k_S (As := [.int p0, .int ((0 : Int32)), .int ((r2 - (1 : Int32)))]) (rest := []) (y := yX1_in) C q1093 q764 q100 (Or.inl rfl) q765 (by decide) rfl pd_X1_in rfl dX1_saying_13) (ct_X1_in h) hl.1 dX1_saying_13 [] rfl (Nat.le_of_ble_eq_true rfl) (Or.inl rfl) q765 q100 ⟨Nat.le_of_ble_eq_true rfl, Nat.le_of_ble_eq_true rfl⟩ (fun v G3 H locs cells slots xG3 hq I => ?_) (fun a G9 H locs cells slots ex hq I => hq.elim)
  obtain ⟨r4, rfl, h⟩ := hq
  have h := h xG3
  refine lv_if_eq (tgt := 33) C.1 C.2.1 dX1_saying_16 (by decide) (fun c8 => ?_) (fun c8 => ?_)
  · have h := h.1 c8
    exact b_X1_saying_33 C hex hLf p0 p1 G3 _ _ _ _ _ h (hth.ext (by decide) (Ext.tr _ _ _ xG1 xG3)) I (hl.sub [0, 1, 2] rfl)
  · have h := h.2 c8
    refine l_ild_n C dX1_saying_19 hl 2 rfl rfl ?_
    refine lv_iconst (v := 0) C.1 C.2.1 dX1_saying_20 (by decide) ?_
    refine lv_bipush (v := 7) C.1 C.2.1 dX1_saying_21 (by decide) ?_
    refine k_call Ext.tr C I (k_S (As := [.int p1, .int ((0 : Int32)), .int ((7 : Int32))]) (rest := []) (y := yX1_in) C q1093 q764 q100 (Or.inl rfl) q765 (by decide) rfl pd_X1_in rfl dX1_saying_23) (ct_X1_in h) hl.1 dX1_saying_23 [] rfl (Nat.le_of_ble_eq_true rfl) (Or.inl rfl) q765 q100 ⟨Nat.le_of_ble_eq_true rfl, Nat.le_of_ble_eq_true rfl⟩ (fun v G5 H locs cells slots xG5 hq I => ?_) (fun a G9 H locs cells slots ex hq I => hq.elim)
    obtain ⟨r6, rfl, h⟩ := hq
    have h := h xG5
    refine lv_if_eq (tgt := 33) C.1 C.2.1 dX1_saying_26 (by decide) (fun c7 => ?_) (fun c7 => ?_)
    · have h := h.1 c7
      exact b_X1_saying_33 C hex hLf p0 p1 G5 _ _ _ _ _ h (hth.ext (by decide) (Ext.tr _ _ _ xG1 (Ext.tr _ _ _ xG3 xG5))) I (hl.sub [0, 1, 2] rfl)
    · have h := h.2 c7
      refine lv_iconst (v := 1) C.1 C.2.1 dX1_saying_29 (by decide) ?_
      refine lv_goto (tgt := 34) C.1 C.2.1 dX1_saying_30 (by decide) ?_
      exact b_X1_saying_34 C hex hLf p0 p1 ((1 : Int32)) G5 _ _ _ _ _ h (hth.ext (by decide) (Ext.tr _ _ _ xG1 (Ext.tr _ _ _ xG3 xG5))) I (hl.sub [0, 1, 2] rfl)
def w_X11_init (T : Nat → ClassId) (Q : Hp → Prop) (th : Option Nat) (G : Hp) : Prop := isO G th 19 ∧ (∀ G1 : Hp, G1 = wI G (ad th) 3 ((1 : Int32)) → (¬ (108 : Int32) < 0 ∧ ((108 : Int32)).toNatClampNeg ≤ 100000 ∧ 1 ≤ gC G1 ∧ ((108 : Int32)).toNatClampNeg ≤ gS G1) ∧ ∀ G2 : Hp, G2 = nw G1 50 ((108 : Int32)).toNatClampNeg ((108 : Int32)).toNatClampNeg → ∀ G3 : Hp, G3 = wR G2 (ad th) 7 ((some (gZ G1))) → (¬ (135 : Int32) < 0 ∧ ((135 : Int32)).toNatClampNeg ≤ 100000 ∧ 1 ≤ gC G3 ∧ ((135 : Int32)).toNatClampNeg ≤ gS G3) ∧ ∀ G4 : Hp, G4 = nw G3 50 ((135 : Int32)).toNatClampNeg ((135 : Int32)).toNatClampNeg → ∀ G5 : Hp, G5 = wR G4 (ad th) 8 ((some (gZ G3))) → (¬ (162 : Int32) < 0 ∧ ((162 : Int32)).toNatClampNeg ≤ 100000 ∧ 1 ≤ gC G5 ∧ ((162 : Int32)).toNatClampNeg ≤ gS G5) ∧ ∀ G6 : Hp, G6 = nw G5 50 ((162 : Int32)).toNatClampNeg ((162 : Int32)).toNatClampNeg → ∀ G7 : Hp, G7 = wR G6 (ad th) 9 ((some (gZ G5))) → (¬ (9 : Int32) < 0 ∧ ((9 : Int32)).toNatClampNeg ≤ 100000 ∧ 1 ≤ gC G7 ∧ ((9 : Int32)).toNatClampNeg ≤ gS G7) ∧ ∀ G8 : Hp, G8 = nw G7 50 ((9 : Int32)).toNatClampNeg ((9 : Int32)).toNatClampNeg → ∀ G9 : Hp, G9 = wR G8 (ad th) 10 ((some (gZ G7))) → (¬ (40 : Int32) < 0 ∧ ((40 : Int32)).toNatClampNeg ≤ 100000 ∧ 1 ≤ gC G9 ∧ ((40 : Int32)).toNatClampNeg ≤ gS G9) ∧ ∀ G10 : Hp, G10 = nw G9 50 ((40 : Int32)).toNatClampNeg ((40 : Int32)).toNatClampNeg → ∀ G11 : Hp, G11 = wR G10 (ad th) 11 ((some (gZ G9))) → (¬ (30 : Int32) < 0 ∧ ((30 : Int32)).toNatClampNeg ≤ 100000 ∧ 1 ≤ gC G11 ∧ ((30 : Int32)).toNatClampNeg ≤ gS G11) ∧ ∀ G12 : Hp, G12 = nw G11 50 ((30 : Int32)).toNatClampNeg ((30 : Int32)).toNatClampNeg → ∀ G13 : Hp, G13 = wR G12 (ad th) 12 ((some (gZ G11))) → (¬ (6 : Int32) < 0 ∧ ((6 : Int32)).toNatClampNeg ≤ 100000 ∧ 1 ≤ gC G13 ∧ ((6 : Int32)).toNatClampNeg ≤ gS G13) ∧ ∀ G14 : Hp, G14 = nw G13 50 ((6 : Int32)).toNatClampNeg ((6 : Int32)).toNatClampNeg → ∀ G15 : Hp, G15 = wR G14 (ad th) 13 ((some (gZ G13))) → (¬ (144 : Int32) < 0 ∧ ((144 : Int32)).toNatClampNeg ≤ 100000 ∧ 1 ≤ gC G15 ∧ ((144 : Int32)).toNatClampNeg ≤ gS G15) ∧ ∀ G16 : Hp, G16 = nw G15 50 ((144 : Int32)).toNatClampNeg ((144 : Int32)).toNatClampNeg → ∀ G17 : Hp, G17 = wR G16 (ad th) 14 ((some (gZ G15))) → (¬ (10 : Int32) < 0 ∧ ((10 : Int32)).toNatClampNeg ≤ 100000 ∧ 1 ≤ gC G17 ∧ ((10 : Int32)).toNatClampNeg ≤ gS G17) ∧ ∀ G18 : Hp, G18 = nw G17 50 ((10 : Int32)).toNatClampNeg ((10 : Int32)).toNatClampNeg → vp_in ((0 : Int32)) (gN G18 (ad ((some (gZ G17))))) ∧ ∀ G19 : Hp, G19 = wI G18 (ad ((some (gZ G17)))) ((0 : Int32)).toNatClampNeg ((500 : Int32)) → vp_in ((1 : Int32)) (gN G19 (ad ((some (gZ G17))))) ∧ ∀ G20 : Hp, G20 = wI G19 (ad ((some (gZ G17)))) ((1 : Int32)).toNatClampNeg ((500 : Int32)) → vp_in ((2 : Int32)) (gN G20 (ad ((some (gZ G17))))) ∧ ∀ G21 : Hp, G21 = wI G20 (ad ((some (gZ G17)))) ((2 : Int32)).toNatClampNeg ((500 : Int32)) → vp_in ((3 : Int32)) (gN G21 (ad ((some (gZ G17))))) ∧ ∀ G22 : Hp, G22 = wI G21 (ad ((some (gZ G17)))) ((3 : Int32)).toNatClampNeg ((500 : Int32)) → vp_in ((4 : Int32)) (gN G22 (ad ((some (gZ G17))))) ∧ ∀ G23 : Hp, G23 = wI G22 (ad ((some (gZ G17)))) ((4 : Int32)).toNatClampNeg ((500 : Int32)) → vp_in ((5 : Int32)) (gN G23 (ad ((some (gZ G17))))) ∧ ∀ G24 : Hp, G24 = wI G23 (ad ((some (gZ G17)))) ((5 : Int32)).toNatClampNeg ((500 : Int32)) → vp_in ((6 : Int32)) (gN G24 (ad ((some (gZ G17))))) ∧ ∀ G25 : Hp, G25 = wI G24 (ad ((some (gZ G17)))) ((6 : Int32)).toNatClampNeg ((500 : Int32)) → vp_in ((7 : Int32)) (gN G25 (ad ((some (gZ G17))))) ∧ ∀ G26 : Hp, G26 = wI G25 (ad ((some (gZ G17)))) ((7 : Int32)).toNatClampNeg ((500 : Int32)) → vp_in ((8 : Int32)) (gN G26 (ad ((some (gZ G17))))) ∧ ∀ G27 : Hp, G27 = wI G26 (ad ((some (gZ G17)))) ((8 : Int32)).toNatClampNeg ((500 : Int32)) → vp_in ((9 : Int32)) (gN G27 (ad ((some (gZ G17))))) ∧ ∀ G28 : Hp, G28 = wI G27 (ad ((some (gZ G17)))) ((9 : Int32)).toNatClampNeg ((500 : Int32)) → ∀ G29 : Hp, G29 = wR G28 (ad th) 15 ((some (gZ G17))) → (¬ (800 : Int32) < 0 ∧ ((800 : Int32)).toNatClampNeg ≤ 100000 ∧ 1 ≤ gC G29 ∧ ((800 : Int32)).toNatClampNeg ≤ gS G29) ∧ ∀ G30 : Hp, G30 = nw G29 50 ((800 : Int32)).toNatClampNeg ((800 : Int32)).toNatClampNeg → ∀ G31 : Hp, G31 = wR G30 (ad th) 16 ((some (gZ G29))) → ∀ G32 : Hp, G32 = wI G31 (ad th) 19 ((-1 : Int32)) → (¬ (3 : Int32) < 0 ∧ ((3 : Int32)).toNatClampNeg ≤ 100000 ∧ 1 ≤ gC G32 ∧ ((3 : Int32)).toNatClampNeg ≤ gS G32) ∧ ∀ G33 : Hp, G33 = nw G32 50 ((3 : Int32)).toNatClampNeg ((3 : Int32)).toNatClampNeg → ∀ G34 : Hp, G34 = wR G33 (ad th) 20 ((some (gZ G32))) → (¬ (108 : Int32) < 0 ∧ ((108 : Int32)).toNatClampNeg ≤ 100000 ∧ 1 ≤ gC G34 ∧ ((108 : Int32)).toNatClampNeg ≤ gS G34) ∧ ∀ G35 : Hp, G35 = nw G34 50 ((108 : Int32)).toNatClampNeg ((108 : Int32)).toNatClampNeg → ∀ G36 : Hp, G36 = wR G35 (ad th) 37 ((some (gZ G34))) → (¬ (135 : Int32) < 0 ∧ ((135 : Int32)).toNatClampNeg ≤ 100000 ∧ 1 ≤ gC G36 ∧ ((135 : Int32)).toNatClampNeg ≤ gS G36) ∧ ∀ G37 : Hp, G37 = nw G36 50 ((135 : Int32)).toNatClampNeg ((135 : Int32)).toNatClampNeg → ∀ G38 : Hp, G38 = wR G37 (ad th) 38 ((some (gZ G36))) → (¬ (162 : Int32) < 0 ∧ ((162 : Int32)).toNatClampNeg ≤ 100000 ∧ 1 ≤ gC G38 ∧ ((162 : Int32)).toNatClampNeg ≤ gS G38) ∧ ∀ G39 : Hp, G39 = nw G38 50 ((162 : Int32)).toNatClampNeg ((162 : Int32)).toNatClampNeg → ∀ G40 : Hp, G40 = wR G39 (ad th) 39 ((some (gZ G38))) → (¬ (9 : Int32) < 0 ∧ ((9 : Int32)).toNatClampNeg ≤ 100000 ∧ 1 ≤ gC G40 ∧ ((9 : Int32)).toNatClampNeg ≤ gS G40) ∧ ∀ G41 : Hp, G41 = nw G40 50 ((9 : Int32)).toNatClampNeg ((9 : Int32)).toNatClampNeg → ∀ G42 : Hp, G42 = wR G41 (ad th) 40 ((some (gZ G40))) → (¬ (40 : Int32) < 0 ∧ ((40 : Int32)).toNatClampNeg ≤ 100000 ∧ 1 ≤ gC G42 ∧ ((40 : Int32)).toNatClampNeg ≤ gS G42) ∧ ∀ G43 : Hp, G43 = nw G42 50 ((40 : Int32)).toNatClampNeg ((40 : Int32)).toNatClampNeg → ∀ G44 : Hp, G44 = wR G43 (ad th) 41 ((some (gZ G42))) → (¬ (30 : Int32) < 0 ∧ ((30 : Int32)).toNatClampNeg ≤ 100000 ∧ 1 ≤ gC G44 ∧ ((30 : Int32)).toNatClampNeg ≤ gS G44) ∧ ∀ G45 : Hp, G45 = nw G44 50 ((30 : Int32)).toNatClampNeg ((30 : Int32)).toNatClampNeg → ∀ G46 : Hp, G46 = wR G45 (ad th) 42 ((some (gZ G44))) → (¬ (6 : Int32) < 0 ∧ ((6 : Int32)).toNatClampNeg ≤ 100000 ∧ 1 ≤ gC G46 ∧ ((6 : Int32)).toNatClampNeg ≤ gS G46) ∧ ∀ G47 : Hp, G47 = nw G46 50 ((6 : Int32)).toNatClampNeg ((6 : Int32)).toNatClampNeg → ∀ G48 : Hp, G48 = wR G47 (ad th) 43 ((some (gZ G46))) → (¬ (144 : Int32) < 0 ∧ ((144 : Int32)).toNatClampNeg ≤ 100000 ∧ 1 ≤ gC G48 ∧ ((144 : Int32)).toNatClampNeg ≤ gS G48) ∧ ∀ G49 : Hp, G49 = nw G48 50 ((144 : Int32)).toNatClampNeg ((144 : Int32)).toNatClampNeg → ∀ G50 : Hp, G50 = wR G49 (ad th) 44 ((some (gZ G48))) → (¬ (10 : Int32) < 0 ∧ ((10 : Int32)).toNatClampNeg ≤ 100000 ∧ 1 ≤ gC G50 ∧ ((10 : Int32)).toNatClampNeg ≤ gS G50) ∧ ∀ G51 : Hp, G51 = nw G50 50 ((10 : Int32)).toNatClampNeg ((10 : Int32)).toNatClampNeg → ∀ G52 : Hp, G52 = wR G51 (ad th) 45 ((some (gZ G50))) → (¬ (32 : Int32) < 0 ∧ ((32 : Int32)).toNatClampNeg ≤ 100000 ∧ 1 ≤ gC G52 ∧ ((32 : Int32)).toNatClampNeg ≤ gS G52) ∧ ∀ G53 : Hp, G53 = nw G52 50 ((32 : Int32)).toNatClampNeg ((32 : Int32)).toNatClampNeg → ∀ G54 : Hp, G54 = wR G53 (ad th) 46 ((some (gZ G52))) → (¬ (180 : Int32) < 0 ∧ ((180 : Int32)).toNatClampNeg ≤ 100000 ∧ 1 ≤ gC G54 ∧ ((180 : Int32)).toNatClampNeg ≤ gS G54) ∧ ∀ G55 : Hp, G55 = nw G54 50 ((180 : Int32)).toNatClampNeg ((180 : Int32)).toNatClampNeg → ∀ G56 : Hp, G56 = wR G55 (ad th) 47 ((some (gZ G54))) → (¬ (100 : Int32) < 0 ∧ ((100 : Int32)).toNatClampNeg ≤ 100000 ∧ 1 ≤ gC G56 ∧ ((100 : Int32)).toNatClampNeg ≤ gS G56) ∧ ∀ G57 : Hp, G57 = nw G56 50 ((100 : Int32)).toNatClampNeg ((100 : Int32)).toNatClampNeg → ∀ G58 : Hp, G58 = wR G57 (ad th) 51 ((some (gZ G56))) → (¬ (180 : Int32) < 0 ∧ ((180 : Int32)).toNatClampNeg ≤ 100000 ∧ 1 ≤ gC G58 ∧ ((180 : Int32)).toNatClampNeg ≤ gS G58) ∧ ∀ G59 : Hp, G59 = nw G58 50 ((180 : Int32)).toNatClampNeg ((180 : Int32)).toNatClampNeg → ∀ G60 : Hp, G60 = wR G59 (ad th) 52 ((some (gZ G58))) → (¬ (20 : Int32) < 0 ∧ ((20 : Int32)).toNatClampNeg ≤ 100000 ∧ 1 ≤ gC G60 ∧ ((20 : Int32)).toNatClampNeg ≤ gS G60) ∧ ∀ G61 : Hp, G61 = nw G60 50 ((20 : Int32)).toNatClampNeg ((20 : Int32)).toNatClampNeg → ∀ G62 : Hp, G62 = wR G61 (ad th) 53 ((some (gZ G60))) → (¬ (20 : Int32) < 0 ∧ ((20 : Int32)).toNatClampNeg ≤ 100000 ∧ 1 ≤ gC G62 ∧ ((20 : Int32)).toNatClampNeg ≤ gS G62) ∧ ∀ G63 : Hp, G63 = nw G62 50 ((20 : Int32)).toNatClampNeg ((20 : Int32)).toNatClampNeg → ∀ G64 : Hp, G64 = wR G63 (ad th) 54 ((some (gZ G62))) → (¬ (21 : Int32) < 0 ∧ ((21 : Int32)).toNatClampNeg ≤ 100000 ∧ 1 ≤ gC G64 ∧ ((21 : Int32)).toNatClampNeg ≤ gS G64) ∧ ∀ G65 : Hp, G65 = nw G64 50 ((21 : Int32)).toNatClampNeg ((21 : Int32)).toNatClampNeg → ∀ G66 : Hp, G66 = wR G65 (ad th) 55 ((some (gZ G64))) → (¬ (21 : Int32) < 0 ∧ ((21 : Int32)).toNatClampNeg ≤ 100000 ∧ 1 ≤ gC G66 ∧ ((21 : Int32)).toNatClampNeg ≤ gS G66) ∧ ∀ G67 : Hp, G67 = nw G66 50 ((21 : Int32)).toNatClampNeg ((21 : Int32)).toNatClampNeg → ∀ G68 : Hp, G68 = wR G67 (ad th) 56 ((some (gZ G66))) → (¬ (20 : Int32) < 0 ∧ ((20 : Int32)).toNatClampNeg ≤ 100000 ∧ 1 ≤ gC G68 ∧ ((20 : Int32)).toNatClampNeg ≤ gS G68) ∧ ∀ G69 : Hp, G69 = nw G68 50 ((20 : Int32)).toNatClampNeg ((20 : Int32)).toNatClampNeg → ∀ G70 : Hp, G70 = wR G69 (ad th) 57 ((some (gZ G68))) → (¬ (168 : Int32) < 0 ∧ ((168 : Int32)).toNatClampNeg ≤ 100000 ∧ 1 ≤ gC G70 ∧ ((168 : Int32)).toNatClampNeg ≤ gS G70) ∧ ∀ G71 : Hp, G71 = nw G70 50 ((168 : Int32)).toNatClampNeg ((168 : Int32)).toNatClampNeg → ∀ G72 : Hp, G72 = wR G71 (ad th) 58 ((some (gZ G70))) → (¬ (20 : Int32) < 0 ∧ ((20 : Int32)).toNatClampNeg ≤ 100000 ∧ 1 ≤ gC G72 ∧ ((20 : Int32)).toNatClampNeg ≤ gS G72) ∧ ∀ G73 : Hp, G73 = nw G72 50 ((20 : Int32)).toNatClampNeg ((20 : Int32)).toNatClampNeg → ∀ G74 : Hp, G74 = wR G73 (ad th) 63 ((some (gZ G72))) → (¬ (168 : Int32) < 0 ∧ ((168 : Int32)).toNatClampNeg ≤ 100000 ∧ 1 ≤ gC G74 ∧ ((168 : Int32)).toNatClampNeg ≤ gS G74) ∧ ∀ G75 : Hp, G75 = nw G74 50 ((168 : Int32)).toNatClampNeg ((168 : Int32)).toNatClampNeg → ∀ G76 : Hp, G76 = wR G75 (ad th) 64 ((some (gZ G74))) → ∀ G77 : Hp, G77 = wI G76 (ad th) 65 ((-1 : Int32)) → (¬ (20 : Int32) < 0 ∧ ((20 : Int32)).toNatClampNeg ≤ 100000 ∧ 1 ≤ gC G77 ∧ ((20 : Int32)).toNatClampNeg ≤ gS G77) ∧ ∀ G78 : Hp, G78 = nw G77 50 ((20 : Int32)).toNatClampNeg ((20 : Int32)).toNatClampNeg → ∀ G79 : Hp, G79 = wR G78 (ad th) 66 ((some (gZ G77))) → (¬ (100 : Int32) < 0 ∧ ((100 : Int32)).toNatClampNeg ≤ 100000 ∧ 1 ≤ gC G79 ∧ ((100 : Int32)).toNatClampNeg ≤ gS G79) ∧ ∀ G80 : Hp, G80 = nw G79 50 ((100 : Int32)).toNatClampNeg ((100 : Int32)).toNatClampNeg → ∀ G81 : Hp, G81 = wR G80 (ad th) 73 ((some (gZ G79))) → Q G81)
theorem pd_X11_init : (parseMethodDescriptor yX11_init.desc).map (fun d => d.parameters.length) = some 0 := by decide +kernel
set_option maxHeartbeats 4000000 in
theorem ct_X11_init {l : Launch} {D : va_G} {T : Nat → ClassId} {Z : Heap} {G0 : Hp} {Q : Hp → Prop} {th : Option Nat} (hw : w_X11_init T Q th G0) : CT (twd D T Z) (Evd D T Z) l yX11_init (Cond.code yX11_init cX11_init 1 none) 1 20 [va_rf th] G0 (qV Q) (fun _ _ => False) := by
  refine CT.ofW (cc := cX11_init) (nL := 1) (ret := none) Ext.rf (by decide) (Or.inl rfl) ?_
  intro p e s m below meth c hx hb hml hown hr hlk hnm hcb hm hc hn hE I
  have C : Cx p s m meth c D T Z "EndingTownModel" cX11_init 1 none := ⟨hx, hb, hml, hown, hE, hr, hlk⟩
  refine w_entry [.inr (.inl th)] (Nat.le_of_ble_eq_true rfl) (fun ls hl => ?_)
  have hl : LH ls 1 [(0, .inr (.inl th))] := hl
  obtain ⟨hth, h⟩ := hw
  refine l_ald_n C dX11_init_0 hl 0 rfl rfl ?_
  refine k_objInit C hth.ad.1 q1363 q142 q143 hl.1 dX11_init_1 (Nat.le_of_ble_eq_true rfl) ⟨Nat.le_of_ble_eq_true rfl, Nat.le_of_ble_eq_true rfl⟩ ?_
  refine l_ald_n C dX11_init_4 hl 0 rfl rfl ?_
  refine lv_iconst (v := 1) C.1 C.2.1 dX11_init_5 (by decide) ?_
  refine P_I C I fp_X11_7_19 (fun z => by cases z) (by decide) (by decide) hth dX11_init_6 (fit_i _) (fun H locs G1 eG1 xG1 I => ?_)
  have h := h G1 eG1
  refine l_ald_n C dX11_init_9 hl 0 rfl rfl ?_
  refine lv_bipush (v := 108) C.1 C.2.1 dX11_init_10 (by decide) ?_
  obtain ⟨hb, h⟩ := h
  refine N_arr (kd := 50) C I (by decide) rfl q234 hb dX11_init_12 (fun H cells slots G2 eG2 xG2 I => ?_)
  have h := h G2 eG2
  have hnG2 : isO G2 (some (gZ G1)) 50 := ⟨_, rfl, by rw [eG2]; exact gK_nw⟩
  refine P_R C I fp_X11_13_19 (fun _ => hnm) (by decide) (by decide) (hth.ext (by decide) (Ext.tr _ _ _ xG1 xG2)) dX11_init_14 (fun x => fit_a x) (fun H locs G3 eG3 xG3 I => ?_)
  have h := h G3 eG3
  refine l_ald_n C dX11_init_17 hl 0 rfl rfl ?_
  refine lv_sipush (v := 135) C.1 C.2.1 dX11_init_18 (by decide) ?_
  obtain ⟨hb, h⟩ := h
  refine N_arr (kd := 50) C I (by decide) rfl q234 hb dX11_init_21 (fun H cells slots G4 eG4 xG4 I => ?_)
  have h := h G4 eG4
  have hnG4 : isO G4 (some (gZ G3)) 50 := ⟨_, rfl, by rw [eG4]; exact gK_nw⟩
  refine P_R C I fp_X11_17_19 (fun _ => hnm) (by decide) (by decide) (hth.ext (by decide) (Ext.tr _ _ _ xG1 (Ext.tr _ _ _ xG2 (Ext.tr _ _ _ xG3 xG4)))) dX11_init_23 (fun x => fit_a x) (fun H locs G5 eG5 xG5 I => ?_)
  have h := h G5 eG5
  refine l_ald_n C dX11_init_26 hl 0 rfl rfl ?_
  refine lv_sipush (v := 162) C.1 C.2.1 dX11_init_27 (by decide) ?_
  obtain ⟨hb, h⟩ := h
  refine N_arr (kd := 50) C I (by decide) rfl q234 hb dX11_init_30 (fun H cells slots G6 eG6 xG6 I => ?_)
  have h := h G6 eG6
  have hnG6 : isO G6 (some (gZ G5)) 50 := ⟨_, rfl, by rw [eG6]; exact gK_nw⟩
  refine P_R C I fp_X11_20_19 (fun _ => hnm) (by decide) (by decide) (hth.ext (by decide) (Ext.tr _ _ _ xG1 (Ext.tr _ _ _ xG2 (Ext.tr _ _ _ xG3 (Ext.tr _ _ _ xG4 (Ext.tr _ _ _ xG5 xG6)))))) dX11_init_32 (fun x => fit_a x) (fun H locs G7 eG7 xG7 I => ?_)
  have h := h G7 eG7
  refine l_ald_n C dX11_init_35 hl 0 rfl rfl ?_
  refine lv_bipush (v := 9) C.1 C.2.1 dX11_init_36 (by decide) ?_
  obtain ⟨hb, h⟩ := h
  refine N_arr (kd := 50) C I (by decide) rfl q234 hb dX11_init_38 (fun H cells slots G8 eG8 xG8 I => ?_)
  have h := h G8 eG8
  have hnG8 : isO G8 (some (gZ G7)) 50 := ⟨_, rfl, by rw [eG8]; exact gK_nw⟩
  refine P_R C I fp_X11_23_19 (fun _ => hnm) (by decide) (by decide) (hth.ext (by decide) (Ext.tr _ _ _ xG1 (Ext.tr _ _ _ xG2 (Ext.tr _ _ _ xG3 (Ext.tr _ _ _ xG4 (Ext.tr _ _ _ xG5 (Ext.tr _ _ _ xG6 (Ext.tr _ _ _ xG7 xG8)))))))) dX11_init_40 (fun x => fit_a x) (fun H locs G9 eG9 xG9 I => ?_)
  have h := h G9 eG9
  refine l_ald_n C dX11_init_43 hl 0 rfl rfl ?_
  refine lv_bipush (v := 40) C.1 C.2.1 dX11_init_44 (by decide) ?_
  obtain ⟨hb, h⟩ := h
  refine N_arr (kd := 50) C I (by decide) rfl q234 hb dX11_init_46 (fun H cells slots G10 eG10 xG10 I => ?_)
  have h := h G10 eG10
  have hnG10 : isO G10 (some (gZ G9)) 50 := ⟨_, rfl, by rw [eG10]; exact gK_nw⟩
  refine P_R C I fp_X11_26_19 (fun _ => hnm) (by decide) (by decide) (hth.ext (by decide) (Ext.tr _ _ _ xG1 (Ext.tr _ _ _ xG2 (Ext.tr _ _ _ xG3 (Ext.tr _ _ _ xG4 (Ext.tr _ _ _ xG5 (Ext.tr _ _ _ xG6 (Ext.tr _ _ _ xG7 (Ext.tr _ _ _ xG8 (Ext.tr _ _ _ xG9 xG10)))))))))) dX11_init_48 (fun x => fit_a x) (fun H locs G11 eG11 xG11 I => ?_)
  have h := h G11 eG11
  refine l_ald_n C dX11_init_51 hl 0 rfl rfl ?_
  refine lv_bipush (v := 30) C.1 C.2.1 dX11_init_52 (by decide) ?_
  obtain ⟨hb, h⟩ := h
  refine N_arr (kd := 50) C I (by decide) rfl q234 hb dX11_init_54 (fun H cells slots G12 eG12 xG12 I => ?_)
  have h := h G12 eG12
  have hnG12 : isO G12 (some (gZ G11)) 50 := ⟨_, rfl, by rw [eG12]; exact gK_nw⟩
  refine P_R C I fp_X11_29_19 (fun _ => hnm) (by decide) (by decide) (hth.ext (by decide) (Ext.tr _ _ _ xG1 (Ext.tr _ _ _ xG2 (Ext.tr _ _ _ xG3 (Ext.tr _ _ _ xG4 (Ext.tr _ _ _ xG5 (Ext.tr _ _ _ xG6 (Ext.tr _ _ _ xG7 (Ext.tr _ _ _ xG8 (Ext.tr _ _ _ xG9 (Ext.tr _ _ _ xG10 (Ext.tr _ _ _ xG11 xG12)))))))))))) dX11_init_56 (fun x => fit_a x) (fun H locs G13 eG13 xG13 I => ?_)
  have h := h G13 eG13
  refine l_ald_n C dX11_init_59 hl 0 rfl rfl ?_
  refine lv_bipush (v := 6) C.1 C.2.1 dX11_init_60 (by decide) ?_
  obtain ⟨hb, h⟩ := h
  refine N_arr (kd := 50) C I (by decide) rfl q234 hb dX11_init_62 (fun H cells slots G14 eG14 xG14 I => ?_)
  have h := h G14 eG14
  have hnG14 : isO G14 (some (gZ G13)) 50 := ⟨_, rfl, by rw [eG14]; exact gK_nw⟩
  refine P_R C I fp_X11_32_19 (fun _ => hnm) (by decide) (by decide) (hth.ext (by decide) (Ext.tr _ _ _ xG1 (Ext.tr _ _ _ xG2 (Ext.tr _ _ _ xG3 (Ext.tr _ _ _ xG4 (Ext.tr _ _ _ xG5 (Ext.tr _ _ _ xG6 (Ext.tr _ _ _ xG7 (Ext.tr _ _ _ xG8 (Ext.tr _ _ _ xG9 (Ext.tr _ _ _ xG10 (Ext.tr _ _ _ xG11 (Ext.tr _ _ _ xG12 (Ext.tr _ _ _ xG13 xG14)))))))))))))) dX11_init_64 (fun x => fit_a x) (fun H locs G15 eG15 xG15 I => ?_)
  have h := h G15 eG15
  refine l_ald_n C dX11_init_67 hl 0 rfl rfl ?_
  refine lv_sipush (v := 144) C.1 C.2.1 dX11_init_68 (by decide) ?_
  obtain ⟨hb, h⟩ := h
  refine N_arr (kd := 50) C I (by decide) rfl q234 hb dX11_init_71 (fun H cells slots G16 eG16 xG16 I => ?_)
  have h := h G16 eG16
  have hnG16 : isO G16 (some (gZ G15)) 50 := ⟨_, rfl, by rw [eG16]; exact gK_nw⟩
  refine P_R C I fp_X11_35_19 (fun _ => hnm) (by decide) (by decide) (hth.ext (by decide) (Ext.tr _ _ _ xG1 (Ext.tr _ _ _ xG2 (Ext.tr _ _ _ xG3 (Ext.tr _ _ _ xG4 (Ext.tr _ _ _ xG5 (Ext.tr _ _ _ xG6 (Ext.tr _ _ _ xG7 (Ext.tr _ _ _ xG8 (Ext.tr _ _ _ xG9 (Ext.tr _ _ _ xG10 (Ext.tr _ _ _ xG11 (Ext.tr _ _ _ xG12 (Ext.tr _ _ _ xG13 (Ext.tr _ _ _ xG14 (Ext.tr _ _ _ xG15 xG16)))))))))))))))) dX11_init_73 (fun x => fit_a x) (fun H locs G17 eG17 xG17 I => ?_)
  have h := h G17 eG17
  refine l_ald_n C dX11_init_76 hl 0 rfl rfl ?_
  refine lv_bipush (v := 10) C.1 C.2.1 dX11_init_77 (by decide) ?_
  obtain ⟨hb, h⟩ := h
  refine N_arr (kd := 50) C I (by decide) rfl q234 hb dX11_init_79 (fun H cells slots G18 eG18 xG18 I => ?_)
  have h := h G18 eG18
  have hnG18 : isO G18 (some (gZ G17)) 50 := ⟨_, rfl, by rw [eG18]; exact gK_nw⟩
  refine lv_dup C.1 C.2.1 dX11_init_81 (cat_rf _) ?_
  refine lv_iconst (v := 0) C.1 C.2.1 dX11_init_82 (by decide) ?_
  refine lv_sipush (v := 500) C.1 C.2.1 dX11_init_83 (by decide) ?_
  obtain ⟨hi, h⟩ := h
  refine A_iast C I hnG18 hi dX11_init_86 (fun H locs G19 eG19 xG19 I => ?_)
  have h := h G19 eG19
  refine lv_dup C.1 C.2.1 dX11_init_87 (cat_rf _) ?_
  refine lv_iconst (v := 1) C.1 C.2.1 dX11_init_88 (by decide) ?_
  refine lv_sipush (v := 500) C.1 C.2.1 dX11_init_89 (by decide) ?_
  obtain ⟨hi, h⟩ := h
  refine A_iast C I (hnG18.ext (by decide) xG19) hi dX11_init_92 (fun H locs G20 eG20 xG20 I => ?_)
  have h := h G20 eG20
  refine lv_dup C.1 C.2.1 dX11_init_93 (cat_rf _) ?_
  refine lv_iconst (v := 2) C.1 C.2.1 dX11_init_94 (by decide) ?_
  refine lv_sipush (v := 500) C.1 C.2.1 dX11_init_95 (by decide) ?_
  obtain ⟨hi, h⟩ := h
  refine A_iast C I (hnG18.ext (by decide) (Ext.tr _ _ _ xG19 xG20)) hi dX11_init_98 (fun H locs G21 eG21 xG21 I => ?_)
  have h := h G21 eG21
  refine lv_dup C.1 C.2.1 dX11_init_99 (cat_rf _) ?_
  refine lv_iconst (v := 3) C.1 C.2.1 dX11_init_100 (by decide) ?_
  refine lv_sipush (v := 500) C.1 C.2.1 dX11_init_101 (by decide) ?_
  obtain ⟨hi, h⟩ := h
  refine A_iast C I (hnG18.ext (by decide) (Ext.tr _ _ _ xG19 (Ext.tr _ _ _ xG20 xG21))) hi dX11_init_104 (fun H locs G22 eG22 xG22 I => ?_)
  have h := h G22 eG22
  refine lv_dup C.1 C.2.1 dX11_init_105 (cat_rf _) ?_
  refine lv_iconst (v := 4) C.1 C.2.1 dX11_init_106 (by decide) ?_
  refine lv_sipush (v := 500) C.1 C.2.1 dX11_init_107 (by decide) ?_
  obtain ⟨hi, h⟩ := h
  refine A_iast C I (hnG18.ext (by decide) (Ext.tr _ _ _ xG19 (Ext.tr _ _ _ xG20 (Ext.tr _ _ _ xG21 xG22)))) hi dX11_init_110 (fun H locs G23 eG23 xG23 I => ?_)
  have h := h G23 eG23
  refine lv_dup C.1 C.2.1 dX11_init_111 (cat_rf _) ?_
  refine lv_iconst (v := 5) C.1 C.2.1 dX11_init_112 (by decide) ?_
  refine lv_sipush (v := 500) C.1 C.2.1 dX11_init_113 (by decide) ?_
  obtain ⟨hi, h⟩ := h
  refine A_iast C I (hnG18.ext (by decide) (Ext.tr _ _ _ xG19 (Ext.tr _ _ _ xG20 (Ext.tr _ _ _ xG21 (Ext.tr _ _ _ xG22 xG23))))) hi dX11_init_116 (fun H locs G24 eG24 xG24 I => ?_)
  have h := h G24 eG24
  refine lv_dup C.1 C.2.1 dX11_init_117 (cat_rf _) ?_
  refine lv_bipush (v := 6) C.1 C.2.1 dX11_init_118 (by decide) ?_
  refine lv_sipush (v := 500) C.1 C.2.1 dX11_init_120 (by decide) ?_
  obtain ⟨hi, h⟩ := h
  refine A_iast C I (hnG18.ext (by decide) (Ext.tr _ _ _ xG19 (Ext.tr _ _ _ xG20 (Ext.tr _ _ _ xG21 (Ext.tr _ _ _ xG22 (Ext.tr _ _ _ xG23 xG24)))))) hi dX11_init_123 (fun H locs G25 eG25 xG25 I => ?_)
  have h := h G25 eG25
  refine lv_dup C.1 C.2.1 dX11_init_124 (cat_rf _) ?_
  refine lv_bipush (v := 7) C.1 C.2.1 dX11_init_125 (by decide) ?_
  refine lv_sipush (v := 500) C.1 C.2.1 dX11_init_127 (by decide) ?_
  obtain ⟨hi, h⟩ := h
  refine A_iast C I (hnG18.ext (by decide) (Ext.tr _ _ _ xG19 (Ext.tr _ _ _ xG20 (Ext.tr _ _ _ xG21 (Ext.tr _ _ _ xG22 (Ext.tr _ _ _ xG23 (Ext.tr _ _ _ xG24 xG25))))))) hi dX11_init_130 (fun H locs G26 eG26 xG26 I => ?_)
  have h := h G26 eG26
  refine lv_dup C.1 C.2.1 dX11_init_131 (cat_rf _) ?_
  refine lv_bipush (v := 8) C.1 C.2.1 dX11_init_132 (by decide) ?_
  refine lv_sipush (v := 500) C.1 C.2.1 dX11_init_134 (by decide) ?_
  obtain ⟨hi, h⟩ := h
  refine A_iast C I (hnG18.ext (by decide) (Ext.tr _ _ _ xG19 (Ext.tr _ _ _ xG20 (Ext.tr _ _ _ xG21 (Ext.tr _ _ _ xG22 (Ext.tr _ _ _ xG23 (Ext.tr _ _ _ xG24 (Ext.tr _ _ _ xG25 xG26)))))))) hi dX11_init_137 (fun H locs G27 eG27 xG27 I => ?_)
  have h := h G27 eG27
  refine lv_dup C.1 C.2.1 dX11_init_138 (cat_rf _) ?_
  refine lv_bipush (v := 9) C.1 C.2.1 dX11_init_139 (by decide) ?_
  refine lv_sipush (v := 500) C.1 C.2.1 dX11_init_141 (by decide) ?_
  obtain ⟨hi, h⟩ := h
  refine A_iast C I (hnG18.ext (by decide) (Ext.tr _ _ _ xG19 (Ext.tr _ _ _ xG20 (Ext.tr _ _ _ xG21 (Ext.tr _ _ _ xG22 (Ext.tr _ _ _ xG23 (Ext.tr _ _ _ xG24 (Ext.tr _ _ _ xG25 (Ext.tr _ _ _ xG26 xG27))))))))) hi dX11_init_144 (fun H locs G28 eG28 xG28 I => ?_)
  have h := h G28 eG28
  refine P_R C I fp_X11_38_19 (fun _ => hnm) (by decide) (by decide) (hth.ext (by decide) (Ext.tr _ _ _ xG1 (Ext.tr _ _ _ xG2 (Ext.tr _ _ _ xG3 (Ext.tr _ _ _ xG4 (Ext.tr _ _ _ xG5 (Ext.tr _ _ _ xG6 (Ext.tr _ _ _ xG7 (Ext.tr _ _ _ xG8 (Ext.tr _ _ _ xG9 (Ext.tr _ _ _ xG10 (Ext.tr _ _ _ xG11 (Ext.tr _ _ _ xG12 (Ext.tr _ _ _ xG13 (Ext.tr _ _ _ xG14 (Ext.tr _ _ _ xG15 (Ext.tr _ _ _ xG16 (Ext.tr _ _ _ xG17 (Ext.tr _ _ _ xG18 (Ext.tr _ _ _ xG19 (Ext.tr _ _ _ xG20 (Ext.tr _ _ _ xG21 (Ext.tr _ _ _ xG22 (Ext.tr _ _ _ xG23 (Ext.tr _ _ _ xG24 (Ext.tr _ _ _ xG25 (Ext.tr _ _ _ xG26 (Ext.tr _ _ _ xG27 xG28)))))))))))))))))))))))))))) dX11_init_145 (fun x => fit_a x) (fun H locs G29 eG29 xG29 I => ?_)
  have h := h G29 eG29
  refine l_ald_n C dX11_init_148 hl 0 rfl rfl ?_
  refine lv_sipush (v := 800) C.1 C.2.1 dX11_init_149 (by decide) ?_
  obtain ⟨hb, h⟩ := h
  refine N_arr (kd := 50) C I (by decide) rfl q234 hb dX11_init_152 (fun H cells slots G30 eG30 xG30 I => ?_)
  have h := h G30 eG30
  have hnG30 : isO G30 (some (gZ G29)) 50 := ⟨_, rfl, by rw [eG30]; exact gK_nw⟩
  refine P_R C I fp_X11_41_19 (fun _ => hnm) (by decide) (by decide) (hth.ext (by decide) (Ext.tr _ _ _ xG1 (Ext.tr _ _ _ xG2 (Ext.tr _ _ _ xG3 (Ext.tr _ _ _ xG4 (Ext.tr _ _ _ xG5 (Ext.tr _ _ _ xG6 (Ext.tr _ _ _ xG7 (Ext.tr _ _ _ xG8 (Ext.tr _ _ _ xG9 (Ext.tr _ _ _ xG10 (Ext.tr _ _ _ xG11 (Ext.tr _ _ _ xG12 (Ext.tr _ _ _ xG13 (Ext.tr _ _ _ xG14 (Ext.tr _ _ _ xG15 (Ext.tr _ _ _ xG16 (Ext.tr _ _ _ xG17 (Ext.tr _ _ _ xG18 (Ext.tr _ _ _ xG19 (Ext.tr _ _ _ xG20 (Ext.tr _ _ _ xG21 (Ext.tr _ _ _ xG22 (Ext.tr _ _ _ xG23 (Ext.tr _ _ _ xG24 (Ext.tr _ _ _ xG25 (Ext.tr _ _ _ xG26 (Ext.tr _ _ _ xG27 (Ext.tr _ _ _ xG28 (Ext.tr _ _ _ xG29 xG30)))))))))))))))))))))))))))))) dX11_init_154 (fun x => fit_a x) (fun H locs G31 eG31 xG31 I => ?_)
  have h := h G31 eG31
  refine l_ald_n C dX11_init_157 hl 0 rfl rfl ?_
  refine lv_iconst (v := (-1)) C.1 C.2.1 dX11_init_158 (by decide) ?_
  refine P_I C I fp_X11_44_19 (fun z => by cases z) (by decide) (by decide) (hth.ext (by decide) (Ext.tr _ _ _ xG1 (Ext.tr _ _ _ xG2 (Ext.tr _ _ _ xG3 (Ext.tr _ _ _ xG4 (Ext.tr _ _ _ xG5 (Ext.tr _ _ _ xG6 (Ext.tr _ _ _ xG7 (Ext.tr _ _ _ xG8 (Ext.tr _ _ _ xG9 (Ext.tr _ _ _ xG10 (Ext.tr _ _ _ xG11 (Ext.tr _ _ _ xG12 (Ext.tr _ _ _ xG13 (Ext.tr _ _ _ xG14 (Ext.tr _ _ _ xG15 (Ext.tr _ _ _ xG16 (Ext.tr _ _ _ xG17 (Ext.tr _ _ _ xG18 (Ext.tr _ _ _ xG19 (Ext.tr _ _ _ xG20 (Ext.tr _ _ _ xG21 (Ext.tr _ _ _ xG22 (Ext.tr _ _ _ xG23 (Ext.tr _ _ _ xG24 (Ext.tr _ _ _ xG25 (Ext.tr _ _ _ xG26 (Ext.tr _ _ _ xG27 (Ext.tr _ _ _ xG28 (Ext.tr _ _ _ xG29 (Ext.tr _ _ _ xG30 xG31))))))))))))))))))))))))))))))) dX11_init_159 (fit_i _) (fun H locs G32 eG32 xG32 I => ?_)
  have h := h G32 eG32
  refine l_ald_n C dX11_init_162 hl 0 rfl rfl ?_
  refine lv_iconst (v := 3) C.1 C.2.1 dX11_init_163 (by decide) ?_
  obtain ⟨hb, h⟩ := h
  refine N_arr (kd := 50) C I (by decide) rfl q234 hb dX11_init_164 (fun H cells slots G33 eG33 xG33 I => ?_)
  have h := h G33 eG33
  have hnG33 : isO G33 (some (gZ G32)) 50 := ⟨_, rfl, by rw [eG33]; exact gK_nw⟩
  refine P_R C I fp_X11_47_19 (fun _ => hnm) (by decide) (by decide) (hth.ext (by decide) (Ext.tr _ _ _ xG1 (Ext.tr _ _ _ xG2 (Ext.tr _ _ _ xG3 (Ext.tr _ _ _ xG4 (Ext.tr _ _ _ xG5 (Ext.tr _ _ _ xG6 (Ext.tr _ _ _ xG7 (Ext.tr _ _ _ xG8 (Ext.tr _ _ _ xG9 (Ext.tr _ _ _ xG10 (Ext.tr _ _ _ xG11 (Ext.tr _ _ _ xG12 (Ext.tr _ _ _ xG13 (Ext.tr _ _ _ xG14 (Ext.tr _ _ _ xG15 (Ext.tr _ _ _ xG16 (Ext.tr _ _ _ xG17 (Ext.tr _ _ _ xG18 (Ext.tr _ _ _ xG19 (Ext.tr _ _ _ xG20 (Ext.tr _ _ _ xG21 (Ext.tr _ _ _ xG22 (Ext.tr _ _ _ xG23 (Ext.tr _ _ _ xG24 (Ext.tr _ _ _ xG25 (Ext.tr _ _ _ xG26 (Ext.tr _ _ _ xG27 (Ext.tr _ _ _ xG28 (Ext.tr _ _ _ xG29 (Ext.tr _ _ _ xG30 (Ext.tr _ _ _ xG31 (Ext.tr _ _ _ xG32 xG33))))))))))))))))))))))))))))))))) dX11_init_166 (fun x => fit_a x) (fun H locs G34 eG34 xG34 I => ?_)
  have h := h G34 eG34
  refine l_ald_n C dX11_init_169 hl 0 rfl rfl ?_
  refine lv_bipush (v := 108) C.1 C.2.1 dX11_init_170 (by decide) ?_
  obtain ⟨hb, h⟩ := h
  refine N_arr (kd := 50) C I (by decide) rfl q234 hb dX11_init_172 (fun H cells slots G35 eG35 xG35 I => ?_)
  have h := h G35 eG35
  have hnG35 : isO G35 (some (gZ G34)) 50 := ⟨_, rfl, by rw [eG35]; exact gK_nw⟩
  refine P_R C I fp_X11_50_19 (fun _ => hnm) (by decide) (by decide) (hth.ext (by decide) (Ext.tr _ _ _ xG1 (Ext.tr _ _ _ xG2 (Ext.tr _ _ _ xG3 (Ext.tr _ _ _ xG4 (Ext.tr _ _ _ xG5 (Ext.tr _ _ _ xG6 (Ext.tr _ _ _ xG7 (Ext.tr _ _ _ xG8 (Ext.tr _ _ _ xG9 (Ext.tr _ _ _ xG10 (Ext.tr _ _ _ xG11 (Ext.tr _ _ _ xG12 (Ext.tr _ _ _ xG13 (Ext.tr _ _ _ xG14 (Ext.tr _ _ _ xG15 (Ext.tr _ _ _ xG16 (Ext.tr _ _ _ xG17 (Ext.tr _ _ _ xG18 (Ext.tr _ _ _ xG19 (Ext.tr _ _ _ xG20 (Ext.tr _ _ _ xG21 (Ext.tr _ _ _ xG22 (Ext.tr _ _ _ xG23 (Ext.tr _ _ _ xG24 (Ext.tr _ _ _ xG25 (Ext.tr _ _ _ xG26 (Ext.tr _ _ _ xG27 (Ext.tr _ _ _ xG28 (Ext.tr _ _ _ xG29 (Ext.tr _ _ _ xG30 (Ext.tr _ _ _ xG31 (Ext.tr _ _ _ xG32 (Ext.tr _ _ _ xG33 (Ext.tr _ _ _ xG34 xG35))))))))))))))))))))))))))))))))))) dX11_init_174 (fun x => fit_a x) (fun H locs G36 eG36 xG36 I => ?_)
  have h := h G36 eG36
  refine l_ald_n C dX11_init_177 hl 0 rfl rfl ?_
  refine lv_sipush (v := 135) C.1 C.2.1 dX11_init_178 (by decide) ?_
  obtain ⟨hb, h⟩ := h
  refine N_arr (kd := 50) C I (by decide) rfl q234 hb dX11_init_181 (fun H cells slots G37 eG37 xG37 I => ?_)
  have h := h G37 eG37
  have hnG37 : isO G37 (some (gZ G36)) 50 := ⟨_, rfl, by rw [eG37]; exact gK_nw⟩
  refine P_R C I fp_X11_53_19 (fun _ => hnm) (by decide) (by decide) (hth.ext (by decide) (Ext.tr _ _ _ xG1 (Ext.tr _ _ _ xG2 (Ext.tr _ _ _ xG3 (Ext.tr _ _ _ xG4 (Ext.tr _ _ _ xG5 (Ext.tr _ _ _ xG6 (Ext.tr _ _ _ xG7 (Ext.tr _ _ _ xG8 (Ext.tr _ _ _ xG9 (Ext.tr _ _ _ xG10 (Ext.tr _ _ _ xG11 (Ext.tr _ _ _ xG12 (Ext.tr _ _ _ xG13 (Ext.tr _ _ _ xG14 (Ext.tr _ _ _ xG15 (Ext.tr _ _ _ xG16 (Ext.tr _ _ _ xG17 (Ext.tr _ _ _ xG18 (Ext.tr _ _ _ xG19 (Ext.tr _ _ _ xG20 (Ext.tr _ _ _ xG21 (Ext.tr _ _ _ xG22 (Ext.tr _ _ _ xG23 (Ext.tr _ _ _ xG24 (Ext.tr _ _ _ xG25 (Ext.tr _ _ _ xG26 (Ext.tr _ _ _ xG27 (Ext.tr _ _ _ xG28 (Ext.tr _ _ _ xG29 (Ext.tr _ _ _ xG30 (Ext.tr _ _ _ xG31 (Ext.tr _ _ _ xG32 (Ext.tr _ _ _ xG33 (Ext.tr _ _ _ xG34 (Ext.tr _ _ _ xG35 (Ext.tr _ _ _ xG36 xG37))))))))))))))))))))))))))))))))))))) dX11_init_183 (fun x => fit_a x) (fun H locs G38 eG38 xG38 I => ?_)
  have h := h G38 eG38
  refine l_ald_n C dX11_init_186 hl 0 rfl rfl ?_
  refine lv_sipush (v := 162) C.1 C.2.1 dX11_init_187 (by decide) ?_
  obtain ⟨hb, h⟩ := h
  refine N_arr (kd := 50) C I (by decide) rfl q234 hb dX11_init_190 (fun H cells slots G39 eG39 xG39 I => ?_)
  have h := h G39 eG39
  have hnG39 : isO G39 (some (gZ G38)) 50 := ⟨_, rfl, by rw [eG39]; exact gK_nw⟩
  refine P_R C I fp_X11_56_19 (fun _ => hnm) (by decide) (by decide) (hth.ext (by decide) (Ext.tr _ _ _ xG1 (Ext.tr _ _ _ xG2 (Ext.tr _ _ _ xG3 (Ext.tr _ _ _ xG4 (Ext.tr _ _ _ xG5 (Ext.tr _ _ _ xG6 (Ext.tr _ _ _ xG7 (Ext.tr _ _ _ xG8 (Ext.tr _ _ _ xG9 (Ext.tr _ _ _ xG10 (Ext.tr _ _ _ xG11 (Ext.tr _ _ _ xG12 (Ext.tr _ _ _ xG13 (Ext.tr _ _ _ xG14 (Ext.tr _ _ _ xG15 (Ext.tr _ _ _ xG16 (Ext.tr _ _ _ xG17 (Ext.tr _ _ _ xG18 (Ext.tr _ _ _ xG19 (Ext.tr _ _ _ xG20 (Ext.tr _ _ _ xG21 (Ext.tr _ _ _ xG22 (Ext.tr _ _ _ xG23 (Ext.tr _ _ _ xG24 (Ext.tr _ _ _ xG25 (Ext.tr _ _ _ xG26 (Ext.tr _ _ _ xG27 (Ext.tr _ _ _ xG28 (Ext.tr _ _ _ xG29 (Ext.tr _ _ _ xG30 (Ext.tr _ _ _ xG31 (Ext.tr _ _ _ xG32 (Ext.tr _ _ _ xG33 (Ext.tr _ _ _ xG34 (Ext.tr _ _ _ xG35 (Ext.tr _ _ _ xG36 (Ext.tr _ _ _ xG37 (Ext.tr _ _ _ xG38 xG39))))))))))))))))))))))))))))))))))))))) dX11_init_192 (fun x => fit_a x) (fun H locs G40 eG40 xG40 I => ?_)
  have h := h G40 eG40
  refine l_ald_n C dX11_init_195 hl 0 rfl rfl ?_
  refine lv_bipush (v := 9) C.1 C.2.1 dX11_init_196 (by decide) ?_
  obtain ⟨hb, h⟩ := h
  refine N_arr (kd := 50) C I (by decide) rfl q234 hb dX11_init_198 (fun H cells slots G41 eG41 xG41 I => ?_)
  have h := h G41 eG41
  have hnG41 : isO G41 (some (gZ G40)) 50 := ⟨_, rfl, by rw [eG41]; exact gK_nw⟩
  refine P_R C I fp_X11_59_19 (fun _ => hnm) (by decide) (by decide) (hth.ext (by decide) (Ext.tr _ _ _ xG1 (Ext.tr _ _ _ xG2 (Ext.tr _ _ _ xG3 (Ext.tr _ _ _ xG4 (Ext.tr _ _ _ xG5 (Ext.tr _ _ _ xG6 (Ext.tr _ _ _ xG7 (Ext.tr _ _ _ xG8 (Ext.tr _ _ _ xG9 (Ext.tr _ _ _ xG10 (Ext.tr _ _ _ xG11 (Ext.tr _ _ _ xG12 (Ext.tr _ _ _ xG13 (Ext.tr _ _ _ xG14 (Ext.tr _ _ _ xG15 (Ext.tr _ _ _ xG16 (Ext.tr _ _ _ xG17 (Ext.tr _ _ _ xG18 (Ext.tr _ _ _ xG19 (Ext.tr _ _ _ xG20 (Ext.tr _ _ _ xG21 (Ext.tr _ _ _ xG22 (Ext.tr _ _ _ xG23 (Ext.tr _ _ _ xG24 (Ext.tr _ _ _ xG25 (Ext.tr _ _ _ xG26 (Ext.tr _ _ _ xG27 (Ext.tr _ _ _ xG28 (Ext.tr _ _ _ xG29 (Ext.tr _ _ _ xG30 (Ext.tr _ _ _ xG31 (Ext.tr _ _ _ xG32 (Ext.tr _ _ _ xG33 (Ext.tr _ _ _ xG34 (Ext.tr _ _ _ xG35 (Ext.tr _ _ _ xG36 (Ext.tr _ _ _ xG37 (Ext.tr _ _ _ xG38 (Ext.tr _ _ _ xG39 (Ext.tr _ _ _ xG40 xG41))))))))))))))))))))))))))))))))))))))))) dX11_init_200 (fun x => fit_a x) (fun H locs G42 eG42 xG42 I => ?_)
  have h := h G42 eG42
  refine l_ald_n C dX11_init_203 hl 0 rfl rfl ?_
  refine lv_bipush (v := 40) C.1 C.2.1 dX11_init_204 (by decide) ?_
  obtain ⟨hb, h⟩ := h
  refine N_arr (kd := 50) C I (by decide) rfl q234 hb dX11_init_206 (fun H cells slots G43 eG43 xG43 I => ?_)
  have h := h G43 eG43
  have hnG43 : isO G43 (some (gZ G42)) 50 := ⟨_, rfl, by rw [eG43]; exact gK_nw⟩
  refine P_R C I fp_X11_62_19 (fun _ => hnm) (by decide) (by decide) (hth.ext (by decide) (Ext.tr _ _ _ xG1 (Ext.tr _ _ _ xG2 (Ext.tr _ _ _ xG3 (Ext.tr _ _ _ xG4 (Ext.tr _ _ _ xG5 (Ext.tr _ _ _ xG6 (Ext.tr _ _ _ xG7 (Ext.tr _ _ _ xG8 (Ext.tr _ _ _ xG9 (Ext.tr _ _ _ xG10 (Ext.tr _ _ _ xG11 (Ext.tr _ _ _ xG12 (Ext.tr _ _ _ xG13 (Ext.tr _ _ _ xG14 (Ext.tr _ _ _ xG15 (Ext.tr _ _ _ xG16 (Ext.tr _ _ _ xG17 (Ext.tr _ _ _ xG18 (Ext.tr _ _ _ xG19 (Ext.tr _ _ _ xG20 (Ext.tr _ _ _ xG21 (Ext.tr _ _ _ xG22 (Ext.tr _ _ _ xG23 (Ext.tr _ _ _ xG24 (Ext.tr _ _ _ xG25 (Ext.tr _ _ _ xG26 (Ext.tr _ _ _ xG27 (Ext.tr _ _ _ xG28 (Ext.tr _ _ _ xG29 (Ext.tr _ _ _ xG30 (Ext.tr _ _ _ xG31 (Ext.tr _ _ _ xG32 (Ext.tr _ _ _ xG33 (Ext.tr _ _ _ xG34 (Ext.tr _ _ _ xG35 (Ext.tr _ _ _ xG36 (Ext.tr _ _ _ xG37 (Ext.tr _ _ _ xG38 (Ext.tr _ _ _ xG39 (Ext.tr _ _ _ xG40 (Ext.tr _ _ _ xG41 (Ext.tr _ _ _ xG42 xG43))))))))))))))))))))))))))))))))))))))))))) dX11_init_208 (fun x => fit_a x) (fun H locs G44 eG44 xG44 I => ?_)
  have h := h G44 eG44
  refine l_ald_n C dX11_init_211 hl 0 rfl rfl ?_
  refine lv_bipush (v := 30) C.1 C.2.1 dX11_init_212 (by decide) ?_
  obtain ⟨hb, h⟩ := h
  refine N_arr (kd := 50) C I (by decide) rfl q234 hb dX11_init_214 (fun H cells slots G45 eG45 xG45 I => ?_)
  have h := h G45 eG45
  have hnG45 : isO G45 (some (gZ G44)) 50 := ⟨_, rfl, by rw [eG45]; exact gK_nw⟩
  refine P_R C I fp_X11_65_19 (fun _ => hnm) (by decide) (by decide) (hth.ext (by decide) (Ext.tr _ _ _ xG1 (Ext.tr _ _ _ xG2 (Ext.tr _ _ _ xG3 (Ext.tr _ _ _ xG4 (Ext.tr _ _ _ xG5 (Ext.tr _ _ _ xG6 (Ext.tr _ _ _ xG7 (Ext.tr _ _ _ xG8 (Ext.tr _ _ _ xG9 (Ext.tr _ _ _ xG10 (Ext.tr _ _ _ xG11 (Ext.tr _ _ _ xG12 (Ext.tr _ _ _ xG13 (Ext.tr _ _ _ xG14 (Ext.tr _ _ _ xG15 (Ext.tr _ _ _ xG16 (Ext.tr _ _ _ xG17 (Ext.tr _ _ _ xG18 (Ext.tr _ _ _ xG19 (Ext.tr _ _ _ xG20 (Ext.tr _ _ _ xG21 (Ext.tr _ _ _ xG22 (Ext.tr _ _ _ xG23 (Ext.tr _ _ _ xG24 (Ext.tr _ _ _ xG25 (Ext.tr _ _ _ xG26 (Ext.tr _ _ _ xG27 (Ext.tr _ _ _ xG28 (Ext.tr _ _ _ xG29 (Ext.tr _ _ _ xG30 (Ext.tr _ _ _ xG31 (Ext.tr _ _ _ xG32 (Ext.tr _ _ _ xG33 (Ext.tr _ _ _ xG34 (Ext.tr _ _ _ xG35 (Ext.tr _ _ _ xG36 (Ext.tr _ _ _ xG37 (Ext.tr _ _ _ xG38 (Ext.tr _ _ _ xG39 (Ext.tr _ _ _ xG40 (Ext.tr _ _ _ xG41 (Ext.tr _ _ _ xG42 (Ext.tr _ _ _ xG43 (Ext.tr _ _ _ xG44 xG45))))))))))))))))))))))))))))))))))))))))))))) dX11_init_216 (fun x => fit_a x) (fun H locs G46 eG46 xG46 I => ?_)
  have h := h G46 eG46
  refine l_ald_n C dX11_init_219 hl 0 rfl rfl ?_
  refine lv_bipush (v := 6) C.1 C.2.1 dX11_init_220 (by decide) ?_
  obtain ⟨hb, h⟩ := h
  refine N_arr (kd := 50) C I (by decide) rfl q234 hb dX11_init_222 (fun H cells slots G47 eG47 xG47 I => ?_)
  have h := h G47 eG47
  have hnG47 : isO G47 (some (gZ G46)) 50 := ⟨_, rfl, by rw [eG47]; exact gK_nw⟩
  refine P_R C I fp_X11_68_19 (fun _ => hnm) (by decide) (by decide) (hth.ext (by decide) (Ext.tr _ _ _ xG1 (Ext.tr _ _ _ xG2 (Ext.tr _ _ _ xG3 (Ext.tr _ _ _ xG4 (Ext.tr _ _ _ xG5 (Ext.tr _ _ _ xG6 (Ext.tr _ _ _ xG7 (Ext.tr _ _ _ xG8 (Ext.tr _ _ _ xG9 (Ext.tr _ _ _ xG10 (Ext.tr _ _ _ xG11 (Ext.tr _ _ _ xG12 (Ext.tr _ _ _ xG13 (Ext.tr _ _ _ xG14 (Ext.tr _ _ _ xG15 (Ext.tr _ _ _ xG16 (Ext.tr _ _ _ xG17 (Ext.tr _ _ _ xG18 (Ext.tr _ _ _ xG19 (Ext.tr _ _ _ xG20 (Ext.tr _ _ _ xG21 (Ext.tr _ _ _ xG22 (Ext.tr _ _ _ xG23 (Ext.tr _ _ _ xG24 (Ext.tr _ _ _ xG25 (Ext.tr _ _ _ xG26 (Ext.tr _ _ _ xG27 (Ext.tr _ _ _ xG28 (Ext.tr _ _ _ xG29 (Ext.tr _ _ _ xG30 (Ext.tr _ _ _ xG31 (Ext.tr _ _ _ xG32 (Ext.tr _ _ _ xG33 (Ext.tr _ _ _ xG34 (Ext.tr _ _ _ xG35 (Ext.tr _ _ _ xG36 (Ext.tr _ _ _ xG37 (Ext.tr _ _ _ xG38 (Ext.tr _ _ _ xG39 (Ext.tr _ _ _ xG40 (Ext.tr _ _ _ xG41 (Ext.tr _ _ _ xG42 (Ext.tr _ _ _ xG43 (Ext.tr _ _ _ xG44 (Ext.tr _ _ _ xG45 (Ext.tr _ _ _ xG46 xG47))))))))))))))))))))))))))))))))))))))))))))))) dX11_init_224 (fun x => fit_a x) (fun H locs G48 eG48 xG48 I => ?_)
  have h := h G48 eG48
  refine l_ald_n C dX11_init_227 hl 0 rfl rfl ?_
  refine lv_sipush (v := 144) C.1 C.2.1 dX11_init_228 (by decide) ?_
  obtain ⟨hb, h⟩ := h
  refine N_arr (kd := 50) C I (by decide) rfl q234 hb dX11_init_231 (fun H cells slots G49 eG49 xG49 I => ?_)
  have h := h G49 eG49
  have hnG49 : isO G49 (some (gZ G48)) 50 := ⟨_, rfl, by rw [eG49]; exact gK_nw⟩
  refine P_R C I fp_X11_71_19 (fun _ => hnm) (by decide) (by decide) (hth.ext (by decide) (Ext.tr _ _ _ xG1 (Ext.tr _ _ _ xG2 (Ext.tr _ _ _ xG3 (Ext.tr _ _ _ xG4 (Ext.tr _ _ _ xG5 (Ext.tr _ _ _ xG6 (Ext.tr _ _ _ xG7 (Ext.tr _ _ _ xG8 (Ext.tr _ _ _ xG9 (Ext.tr _ _ _ xG10 (Ext.tr _ _ _ xG11 (Ext.tr _ _ _ xG12 (Ext.tr _ _ _ xG13 (Ext.tr _ _ _ xG14 (Ext.tr _ _ _ xG15 (Ext.tr _ _ _ xG16 (Ext.tr _ _ _ xG17 (Ext.tr _ _ _ xG18 (Ext.tr _ _ _ xG19 (Ext.tr _ _ _ xG20 (Ext.tr _ _ _ xG21 (Ext.tr _ _ _ xG22 (Ext.tr _ _ _ xG23 (Ext.tr _ _ _ xG24 (Ext.tr _ _ _ xG25 (Ext.tr _ _ _ xG26 (Ext.tr _ _ _ xG27 (Ext.tr _ _ _ xG28 (Ext.tr _ _ _ xG29 (Ext.tr _ _ _ xG30 (Ext.tr _ _ _ xG31 (Ext.tr _ _ _ xG32 (Ext.tr _ _ _ xG33 (Ext.tr _ _ _ xG34 (Ext.tr _ _ _ xG35 (Ext.tr _ _ _ xG36 (Ext.tr _ _ _ xG37 (Ext.tr _ _ _ xG38 (Ext.tr _ _ _ xG39 (Ext.tr _ _ _ xG40 (Ext.tr _ _ _ xG41 (Ext.tr _ _ _ xG42 (Ext.tr _ _ _ xG43 (Ext.tr _ _ _ xG44 (Ext.tr _ _ _ xG45 (Ext.tr _ _ _ xG46 (Ext.tr _ _ _ xG47 (Ext.tr _ _ _ xG48 xG49))))))))))))))))))))))))))))))))))))))))))))))))) dX11_init_233 (fun x => fit_a x) (fun H locs G50 eG50 xG50 I => ?_)
  have h := h G50 eG50
  refine l_ald_n C dX11_init_236 hl 0 rfl rfl ?_
  refine lv_bipush (v := 10) C.1 C.2.1 dX11_init_237 (by decide) ?_
  obtain ⟨hb, h⟩ := h
  refine N_arr (kd := 50) C I (by decide) rfl q234 hb dX11_init_239 (fun H cells slots G51 eG51 xG51 I => ?_)
  have h := h G51 eG51
  have hnG51 : isO G51 (some (gZ G50)) 50 := ⟨_, rfl, by rw [eG51]; exact gK_nw⟩
  refine P_R C I fp_X11_74_19 (fun _ => hnm) (by decide) (by decide) (hth.ext (by decide) (Ext.tr _ _ _ xG1 (Ext.tr _ _ _ xG2 (Ext.tr _ _ _ xG3 (Ext.tr _ _ _ xG4 (Ext.tr _ _ _ xG5 (Ext.tr _ _ _ xG6 (Ext.tr _ _ _ xG7 (Ext.tr _ _ _ xG8 (Ext.tr _ _ _ xG9 (Ext.tr _ _ _ xG10 (Ext.tr _ _ _ xG11 (Ext.tr _ _ _ xG12 (Ext.tr _ _ _ xG13 (Ext.tr _ _ _ xG14 (Ext.tr _ _ _ xG15 (Ext.tr _ _ _ xG16 (Ext.tr _ _ _ xG17 (Ext.tr _ _ _ xG18 (Ext.tr _ _ _ xG19 (Ext.tr _ _ _ xG20 (Ext.tr _ _ _ xG21 (Ext.tr _ _ _ xG22 (Ext.tr _ _ _ xG23 (Ext.tr _ _ _ xG24 (Ext.tr _ _ _ xG25 (Ext.tr _ _ _ xG26 (Ext.tr _ _ _ xG27 (Ext.tr _ _ _ xG28 (Ext.tr _ _ _ xG29 (Ext.tr _ _ _ xG30 (Ext.tr _ _ _ xG31 (Ext.tr _ _ _ xG32 (Ext.tr _ _ _ xG33 (Ext.tr _ _ _ xG34 (Ext.tr _ _ _ xG35 (Ext.tr _ _ _ xG36 (Ext.tr _ _ _ xG37 (Ext.tr _ _ _ xG38 (Ext.tr _ _ _ xG39 (Ext.tr _ _ _ xG40 (Ext.tr _ _ _ xG41 (Ext.tr _ _ _ xG42 (Ext.tr _ _ _ xG43 (Ext.tr _ _ _ xG44 (Ext.tr _ _ _ xG45 (Ext.tr _ _ _ xG46 (Ext.tr _ _ _ xG47 (Ext.tr _ _ _ xG48 (Ext.tr _ _ _ xG49 (Ext.tr _ _ _ xG50 xG51))))))))))))))))))))))))))))))))))))))))))))))))))) dX11_init_241 (fun x => fit_a x) (fun H locs G52 eG52 xG52 I => ?_)
  have h := h G52 eG52
  refine l_ald_n C dX11_init_244 hl 0 rfl rfl ?_
  refine lv_bipush (v := 32) C.1 C.2.1 dX11_init_245 (by decide) ?_
  obtain ⟨hb, h⟩ := h
  refine N_arr (kd := 50) C I (by decide) rfl q234 hb dX11_init_247 (fun H cells slots G53 eG53 xG53 I => ?_)
  have h := h G53 eG53
  have hnG53 : isO G53 (some (gZ G52)) 50 := ⟨_, rfl, by rw [eG53]; exact gK_nw⟩
  refine P_R C I fp_X11_77_19 (fun _ => hnm) (by decide) (by decide) (hth.ext (by decide) (Ext.tr _ _ _ xG1 (Ext.tr _ _ _ xG2 (Ext.tr _ _ _ xG3 (Ext.tr _ _ _ xG4 (Ext.tr _ _ _ xG5 (Ext.tr _ _ _ xG6 (Ext.tr _ _ _ xG7 (Ext.tr _ _ _ xG8 (Ext.tr _ _ _ xG9 (Ext.tr _ _ _ xG10 (Ext.tr _ _ _ xG11 (Ext.tr _ _ _ xG12 (Ext.tr _ _ _ xG13 (Ext.tr _ _ _ xG14 (Ext.tr _ _ _ xG15 (Ext.tr _ _ _ xG16 (Ext.tr _ _ _ xG17 (Ext.tr _ _ _ xG18 (Ext.tr _ _ _ xG19 (Ext.tr _ _ _ xG20 (Ext.tr _ _ _ xG21 (Ext.tr _ _ _ xG22 (Ext.tr _ _ _ xG23 (Ext.tr _ _ _ xG24 (Ext.tr _ _ _ xG25 (Ext.tr _ _ _ xG26 (Ext.tr _ _ _ xG27 (Ext.tr _ _ _ xG28 (Ext.tr _ _ _ xG29 (Ext.tr _ _ _ xG30 (Ext.tr _ _ _ xG31 (Ext.tr _ _ _ xG32 (Ext.tr _ _ _ xG33 (Ext.tr _ _ _ xG34 (Ext.tr _ _ _ xG35 (Ext.tr _ _ _ xG36 (Ext.tr _ _ _ xG37 (Ext.tr _ _ _ xG38 (Ext.tr _ _ _ xG39 (Ext.tr _ _ _ xG40 (Ext.tr _ _ _ xG41 (Ext.tr _ _ _ xG42 (Ext.tr _ _ _ xG43 (Ext.tr _ _ _ xG44 (Ext.tr _ _ _ xG45 (Ext.tr _ _ _ xG46 (Ext.tr _ _ _ xG47 (Ext.tr _ _ _ xG48 (Ext.tr _ _ _ xG49 (Ext.tr _ _ _ xG50 (Ext.tr _ _ _ xG51 (Ext.tr _ _ _ xG52 xG53))))))))))))))))))))))))))))))))))))))))))))))))))))) dX11_init_249 (fun x => fit_a x) (fun H locs G54 eG54 xG54 I => ?_)
  have h := h G54 eG54
  refine l_ald_n C dX11_init_252 hl 0 rfl rfl ?_
  refine lv_sipush (v := 180) C.1 C.2.1 dX11_init_253 (by decide) ?_
  obtain ⟨hb, h⟩ := h
  refine N_arr (kd := 50) C I (by decide) rfl q234 hb dX11_init_256 (fun H cells slots G55 eG55 xG55 I => ?_)
  have h := h G55 eG55
  have hnG55 : isO G55 (some (gZ G54)) 50 := ⟨_, rfl, by rw [eG55]; exact gK_nw⟩
  refine P_R C I fp_X11_80_19 (fun _ => hnm) (by decide) (by decide) (hth.ext (by decide) (Ext.tr _ _ _ xG1 (Ext.tr _ _ _ xG2 (Ext.tr _ _ _ xG3 (Ext.tr _ _ _ xG4 (Ext.tr _ _ _ xG5 (Ext.tr _ _ _ xG6 (Ext.tr _ _ _ xG7 (Ext.tr _ _ _ xG8 (Ext.tr _ _ _ xG9 (Ext.tr _ _ _ xG10 (Ext.tr _ _ _ xG11 (Ext.tr _ _ _ xG12 (Ext.tr _ _ _ xG13 (Ext.tr _ _ _ xG14 (Ext.tr _ _ _ xG15 (Ext.tr _ _ _ xG16 (Ext.tr _ _ _ xG17 (Ext.tr _ _ _ xG18 (Ext.tr _ _ _ xG19 (Ext.tr _ _ _ xG20 (Ext.tr _ _ _ xG21 (Ext.tr _ _ _ xG22 (Ext.tr _ _ _ xG23 (Ext.tr _ _ _ xG24 (Ext.tr _ _ _ xG25 (Ext.tr _ _ _ xG26 (Ext.tr _ _ _ xG27 (Ext.tr _ _ _ xG28 (Ext.tr _ _ _ xG29 (Ext.tr _ _ _ xG30 (Ext.tr _ _ _ xG31 (Ext.tr _ _ _ xG32 (Ext.tr _ _ _ xG33 (Ext.tr _ _ _ xG34 (Ext.tr _ _ _ xG35 (Ext.tr _ _ _ xG36 (Ext.tr _ _ _ xG37 (Ext.tr _ _ _ xG38 (Ext.tr _ _ _ xG39 (Ext.tr _ _ _ xG40 (Ext.tr _ _ _ xG41 (Ext.tr _ _ _ xG42 (Ext.tr _ _ _ xG43 (Ext.tr _ _ _ xG44 (Ext.tr _ _ _ xG45 (Ext.tr _ _ _ xG46 (Ext.tr _ _ _ xG47 (Ext.tr _ _ _ xG48 (Ext.tr _ _ _ xG49 (Ext.tr _ _ _ xG50 (Ext.tr _ _ _ xG51 (Ext.tr _ _ _ xG52 (Ext.tr _ _ _ xG53 (Ext.tr _ _ _ xG54 xG55))))))))))))))))))))))))))))))))))))))))))))))))))))))) dX11_init_258 (fun x => fit_a x) (fun H locs G56 eG56 xG56 I => ?_)
  have h := h G56 eG56
  refine l_ald_n C dX11_init_261 hl 0 rfl rfl ?_
  refine lv_bipush (v := 100) C.1 C.2.1 dX11_init_262 (by decide) ?_
  obtain ⟨hb, h⟩ := h
  refine N_arr (kd := 50) C I (by decide) rfl q234 hb dX11_init_264 (fun H cells slots G57 eG57 xG57 I => ?_)
  have h := h G57 eG57
  have hnG57 : isO G57 (some (gZ G56)) 50 := ⟨_, rfl, by rw [eG57]; exact gK_nw⟩
  refine P_R C I fp_X11_83_19 (fun _ => hnm) (by decide) (by decide) (hth.ext (by decide) (Ext.tr _ _ _ xG1 (Ext.tr _ _ _ xG2 (Ext.tr _ _ _ xG3 (Ext.tr _ _ _ xG4 (Ext.tr _ _ _ xG5 (Ext.tr _ _ _ xG6 (Ext.tr _ _ _ xG7 (Ext.tr _ _ _ xG8 (Ext.tr _ _ _ xG9 (Ext.tr _ _ _ xG10 (Ext.tr _ _ _ xG11 (Ext.tr _ _ _ xG12 (Ext.tr _ _ _ xG13 (Ext.tr _ _ _ xG14 (Ext.tr _ _ _ xG15 (Ext.tr _ _ _ xG16 (Ext.tr _ _ _ xG17 (Ext.tr _ _ _ xG18 (Ext.tr _ _ _ xG19 (Ext.tr _ _ _ xG20 (Ext.tr _ _ _ xG21 (Ext.tr _ _ _ xG22 (Ext.tr _ _ _ xG23 (Ext.tr _ _ _ xG24 (Ext.tr _ _ _ xG25 (Ext.tr _ _ _ xG26 (Ext.tr _ _ _ xG27 (Ext.tr _ _ _ xG28 (Ext.tr _ _ _ xG29 (Ext.tr _ _ _ xG30 (Ext.tr _ _ _ xG31 (Ext.tr _ _ _ xG32 (Ext.tr _ _ _ xG33 (Ext.tr _ _ _ xG34 (Ext.tr _ _ _ xG35 (Ext.tr _ _ _ xG36 (Ext.tr _ _ _ xG37 (Ext.tr _ _ _ xG38 (Ext.tr _ _ _ xG39 (Ext.tr _ _ _ xG40 (Ext.tr _ _ _ xG41 (Ext.tr _ _ _ xG42 (Ext.tr _ _ _ xG43 (Ext.tr _ _ _ xG44 (Ext.tr _ _ _ xG45 (Ext.tr _ _ _ xG46 (Ext.tr _ _ _ xG47 (Ext.tr _ _ _ xG48 (Ext.tr _ _ _ xG49 (Ext.tr _ _ _ xG50 (Ext.tr _ _ _ xG51 (Ext.tr _ _ _ xG52 (Ext.tr _ _ _ xG53 (Ext.tr _ _ _ xG54 (Ext.tr _ _ _ xG55 (Ext.tr _ _ _ xG56 xG57))))))))))))))))))))))))))))))))))))))))))))))))))))))))) dX11_init_266 (fun x => fit_a x) (fun H locs G58 eG58 xG58 I => ?_)
  have h := h G58 eG58
  refine l_ald_n C dX11_init_269 hl 0 rfl rfl ?_
  refine lv_sipush (v := 180) C.1 C.2.1 dX11_init_270 (by decide) ?_
  obtain ⟨hb, h⟩ := h
  refine N_arr (kd := 50) C I (by decide) rfl q234 hb dX11_init_273 (fun H cells slots G59 eG59 xG59 I => ?_)
  have h := h G59 eG59
  have hnG59 : isO G59 (some (gZ G58)) 50 := ⟨_, rfl, by rw [eG59]; exact gK_nw⟩
  refine P_R C I fp_X11_86_19 (fun _ => hnm) (by decide) (by decide) (hth.ext (by decide) (Ext.tr _ _ _ xG1 (Ext.tr _ _ _ xG2 (Ext.tr _ _ _ xG3 (Ext.tr _ _ _ xG4 (Ext.tr _ _ _ xG5 (Ext.tr _ _ _ xG6 (Ext.tr _ _ _ xG7 (Ext.tr _ _ _ xG8 (Ext.tr _ _ _ xG9 (Ext.tr _ _ _ xG10 (Ext.tr _ _ _ xG11 (Ext.tr _ _ _ xG12 (Ext.tr _ _ _ xG13 (Ext.tr _ _ _ xG14 (Ext.tr _ _ _ xG15 (Ext.tr _ _ _ xG16 (Ext.tr _ _ _ xG17 (Ext.tr _ _ _ xG18 (Ext.tr _ _ _ xG19 (Ext.tr _ _ _ xG20 (Ext.tr _ _ _ xG21 (Ext.tr _ _ _ xG22 (Ext.tr _ _ _ xG23 (Ext.tr _ _ _ xG24 (Ext.tr _ _ _ xG25 (Ext.tr _ _ _ xG26 (Ext.tr _ _ _ xG27 (Ext.tr _ _ _ xG28 (Ext.tr _ _ _ xG29 (Ext.tr _ _ _ xG30 (Ext.tr _ _ _ xG31 (Ext.tr _ _ _ xG32 (Ext.tr _ _ _ xG33 (Ext.tr _ _ _ xG34 (Ext.tr _ _ _ xG35 (Ext.tr _ _ _ xG36 (Ext.tr _ _ _ xG37 (Ext.tr _ _ _ xG38 (Ext.tr _ _ _ xG39 (Ext.tr _ _ _ xG40 (Ext.tr _ _ _ xG41 (Ext.tr _ _ _ xG42 (Ext.tr _ _ _ xG43 (Ext.tr _ _ _ xG44 (Ext.tr _ _ _ xG45 (Ext.tr _ _ _ xG46 (Ext.tr _ _ _ xG47 (Ext.tr _ _ _ xG48 (Ext.tr _ _ _ xG49 (Ext.tr _ _ _ xG50 (Ext.tr _ _ _ xG51 (Ext.tr _ _ _ xG52 (Ext.tr _ _ _ xG53 (Ext.tr _ _ _ xG54 (Ext.tr _ _ _ xG55 (Ext.tr _ _ _ xG56 (Ext.tr _ _ _ xG57 (Ext.tr _ _ _ xG58 xG59))))))))))))))))))))))))))))))))))))))))))))))))))))))))))) dX11_init_275 (fun x => fit_a x) (fun H locs G60 eG60 xG60 I => ?_)
  have h := h G60 eG60
  refine l_ald_n C dX11_init_278 hl 0 rfl rfl ?_
  refine lv_bipush (v := 20) C.1 C.2.1 dX11_init_279 (by decide) ?_
  obtain ⟨hb, h⟩ := h
  refine N_arr (kd := 50) C I (by decide) rfl q234 hb dX11_init_281 (fun H cells slots G61 eG61 xG61 I => ?_)
  have h := h G61 eG61
  have hnG61 : isO G61 (some (gZ G60)) 50 := ⟨_, rfl, by rw [eG61]; exact gK_nw⟩
  refine P_R C I fp_X11_89_19 (fun _ => hnm) (by decide) (by decide) (hth.ext (by decide) (Ext.tr _ _ _ xG1 (Ext.tr _ _ _ xG2 (Ext.tr _ _ _ xG3 (Ext.tr _ _ _ xG4 (Ext.tr _ _ _ xG5 (Ext.tr _ _ _ xG6 (Ext.tr _ _ _ xG7 (Ext.tr _ _ _ xG8 (Ext.tr _ _ _ xG9 (Ext.tr _ _ _ xG10 (Ext.tr _ _ _ xG11 (Ext.tr _ _ _ xG12 (Ext.tr _ _ _ xG13 (Ext.tr _ _ _ xG14 (Ext.tr _ _ _ xG15 (Ext.tr _ _ _ xG16 (Ext.tr _ _ _ xG17 (Ext.tr _ _ _ xG18 (Ext.tr _ _ _ xG19 (Ext.tr _ _ _ xG20 (Ext.tr _ _ _ xG21 (Ext.tr _ _ _ xG22 (Ext.tr _ _ _ xG23 (Ext.tr _ _ _ xG24 (Ext.tr _ _ _ xG25 (Ext.tr _ _ _ xG26 (Ext.tr _ _ _ xG27 (Ext.tr _ _ _ xG28 (Ext.tr _ _ _ xG29 (Ext.tr _ _ _ xG30 (Ext.tr _ _ _ xG31 (Ext.tr _ _ _ xG32 (Ext.tr _ _ _ xG33 (Ext.tr _ _ _ xG34 (Ext.tr _ _ _ xG35 (Ext.tr _ _ _ xG36 (Ext.tr _ _ _ xG37 (Ext.tr _ _ _ xG38 (Ext.tr _ _ _ xG39 (Ext.tr _ _ _ xG40 (Ext.tr _ _ _ xG41 (Ext.tr _ _ _ xG42 (Ext.tr _ _ _ xG43 (Ext.tr _ _ _ xG44 (Ext.tr _ _ _ xG45 (Ext.tr _ _ _ xG46 (Ext.tr _ _ _ xG47 (Ext.tr _ _ _ xG48 (Ext.tr _ _ _ xG49 (Ext.tr _ _ _ xG50 (Ext.tr _ _ _ xG51 (Ext.tr _ _ _ xG52 (Ext.tr _ _ _ xG53 (Ext.tr _ _ _ xG54 (Ext.tr _ _ _ xG55 (Ext.tr _ _ _ xG56 (Ext.tr _ _ _ xG57 (Ext.tr _ _ _ xG58 (Ext.tr _ _ _ xG59 (Ext.tr _ _ _ xG60 xG61))))))))))))))))))))))))))))))))))))))))))))))))))))))))))))) dX11_init_283 (fun x => fit_a x) (fun H locs G62 eG62 xG62 I => ?_)
  have h := h G62 eG62
  refine l_ald_n C dX11_init_286 hl 0 rfl rfl ?_
  refine lv_bipush (v := 20) C.1 C.2.1 dX11_init_287 (by decide) ?_
  obtain ⟨hb, h⟩ := h
  refine N_arr (kd := 50) C I (by decide) rfl q234 hb dX11_init_289 (fun H cells slots G63 eG63 xG63 I => ?_)
  have h := h G63 eG63
  have hnG63 : isO G63 (some (gZ G62)) 50 := ⟨_, rfl, by rw [eG63]; exact gK_nw⟩
  refine P_R C I fp_X11_92_19 (fun _ => hnm) (by decide) (by decide) (hth.ext (by decide) (Ext.tr _ _ _ xG1 (Ext.tr _ _ _ xG2 (Ext.tr _ _ _ xG3 (Ext.tr _ _ _ xG4 (Ext.tr _ _ _ xG5 (Ext.tr _ _ _ xG6 (Ext.tr _ _ _ xG7 (Ext.tr _ _ _ xG8 (Ext.tr _ _ _ xG9 (Ext.tr _ _ _ xG10 (Ext.tr _ _ _ xG11 (Ext.tr _ _ _ xG12 (Ext.tr _ _ _ xG13 (Ext.tr _ _ _ xG14 (Ext.tr _ _ _ xG15 (Ext.tr _ _ _ xG16 (Ext.tr _ _ _ xG17 (Ext.tr _ _ _ xG18 (Ext.tr _ _ _ xG19 (Ext.tr _ _ _ xG20 (Ext.tr _ _ _ xG21 (Ext.tr _ _ _ xG22 (Ext.tr _ _ _ xG23 (Ext.tr _ _ _ xG24 (Ext.tr _ _ _ xG25 (Ext.tr _ _ _ xG26 (Ext.tr _ _ _ xG27 (Ext.tr _ _ _ xG28 (Ext.tr _ _ _ xG29 (Ext.tr _ _ _ xG30 (Ext.tr _ _ _ xG31 (Ext.tr _ _ _ xG32 (Ext.tr _ _ _ xG33 (Ext.tr _ _ _ xG34 (Ext.tr _ _ _ xG35 (Ext.tr _ _ _ xG36 (Ext.tr _ _ _ xG37 (Ext.tr _ _ _ xG38 (Ext.tr _ _ _ xG39 (Ext.tr _ _ _ xG40 (Ext.tr _ _ _ xG41 (Ext.tr _ _ _ xG42 (Ext.tr _ _ _ xG43 (Ext.tr _ _ _ xG44 (Ext.tr _ _ _ xG45 (Ext.tr _ _ _ xG46 (Ext.tr _ _ _ xG47 (Ext.tr _ _ _ xG48 (Ext.tr _ _ _ xG49 (Ext.tr _ _ _ xG50 (Ext.tr _ _ _ xG51 (Ext.tr _ _ _ xG52 (Ext.tr _ _ _ xG53 (Ext.tr _ _ _ xG54 (Ext.tr _ _ _ xG55 (Ext.tr _ _ _ xG56 (Ext.tr _ _ _ xG57 (Ext.tr _ _ _ xG58 (Ext.tr _ _ _ xG59 (Ext.tr _ _ _ xG60 (Ext.tr _ _ _ xG61 (Ext.tr _ _ _ xG62 xG63))))))))))))))))))))))))))))))))))))))))))))))))))))))))))))))) dX11_init_291 (fun x => fit_a x) (fun H locs G64 eG64 xG64 I => ?_)
  have h := h G64 eG64
  refine l_ald_n C dX11_init_294 hl 0 rfl rfl ?_
  refine lv_bipush (v := 21) C.1 C.2.1 dX11_init_295 (by decide) ?_
  obtain ⟨hb, h⟩ := h
  refine N_arr (kd := 50) C I (by decide) rfl q234 hb dX11_init_297 (fun H cells slots G65 eG65 xG65 I => ?_)
  have h := h G65 eG65
  have hnG65 : isO G65 (some (gZ G64)) 50 := ⟨_, rfl, by rw [eG65]; exact gK_nw⟩
  refine P_R C I fp_X11_95_19 (fun _ => hnm) (by decide) (by decide) (hth.ext (by decide) (Ext.tr _ _ _ xG1 (Ext.tr _ _ _ xG2 (Ext.tr _ _ _ xG3 (Ext.tr _ _ _ xG4 (Ext.tr _ _ _ xG5 (Ext.tr _ _ _ xG6 (Ext.tr _ _ _ xG7 (Ext.tr _ _ _ xG8 (Ext.tr _ _ _ xG9 (Ext.tr _ _ _ xG10 (Ext.tr _ _ _ xG11 (Ext.tr _ _ _ xG12 (Ext.tr _ _ _ xG13 (Ext.tr _ _ _ xG14 (Ext.tr _ _ _ xG15 (Ext.tr _ _ _ xG16 (Ext.tr _ _ _ xG17 (Ext.tr _ _ _ xG18 (Ext.tr _ _ _ xG19 (Ext.tr _ _ _ xG20 (Ext.tr _ _ _ xG21 (Ext.tr _ _ _ xG22 (Ext.tr _ _ _ xG23 (Ext.tr _ _ _ xG24 (Ext.tr _ _ _ xG25 (Ext.tr _ _ _ xG26 (Ext.tr _ _ _ xG27 (Ext.tr _ _ _ xG28 (Ext.tr _ _ _ xG29 (Ext.tr _ _ _ xG30 (Ext.tr _ _ _ xG31 (Ext.tr _ _ _ xG32 (Ext.tr _ _ _ xG33 (Ext.tr _ _ _ xG34 (Ext.tr _ _ _ xG35 (Ext.tr _ _ _ xG36 (Ext.tr _ _ _ xG37 (Ext.tr _ _ _ xG38 (Ext.tr _ _ _ xG39 (Ext.tr _ _ _ xG40 (Ext.tr _ _ _ xG41 (Ext.tr _ _ _ xG42 (Ext.tr _ _ _ xG43 (Ext.tr _ _ _ xG44 (Ext.tr _ _ _ xG45 (Ext.tr _ _ _ xG46 (Ext.tr _ _ _ xG47 (Ext.tr _ _ _ xG48 (Ext.tr _ _ _ xG49 (Ext.tr _ _ _ xG50 (Ext.tr _ _ _ xG51 (Ext.tr _ _ _ xG52 (Ext.tr _ _ _ xG53 (Ext.tr _ _ _ xG54 (Ext.tr _ _ _ xG55 (Ext.tr _ _ _ xG56 (Ext.tr _ _ _ xG57 (Ext.tr _ _ _ xG58 (Ext.tr _ _ _ xG59 (Ext.tr _ _ _ xG60 (Ext.tr _ _ _ xG61 (Ext.tr _ _ _ xG62 (Ext.tr _ _ _ xG63 (Ext.tr _ _ _ xG64 xG65))))))))))))))))))))))))))))))))))))))))))))))))))))))))))))))))) dX11_init_299 (fun x => fit_a x) (fun H locs G66 eG66 xG66 I => ?_)
  have h := h G66 eG66
  refine l_ald_n C dX11_init_302 hl 0 rfl rfl ?_
  refine lv_bipush (v := 21) C.1 C.2.1 dX11_init_303 (by decide) ?_
  obtain ⟨hb, h⟩ := h
  refine N_arr (kd := 50) C I (by decide) rfl q234 hb dX11_init_305 (fun H cells slots G67 eG67 xG67 I => ?_)
  have h := h G67 eG67
  have hnG67 : isO G67 (some (gZ G66)) 50 := ⟨_, rfl, by rw [eG67]; exact gK_nw⟩
  refine P_R C I fp_X11_98_19 (fun _ => hnm) (by decide) (by decide) (hth.ext (by decide) (Ext.tr _ _ _ xG1 (Ext.tr _ _ _ xG2 (Ext.tr _ _ _ xG3 (Ext.tr _ _ _ xG4 (Ext.tr _ _ _ xG5 (Ext.tr _ _ _ xG6 (Ext.tr _ _ _ xG7 (Ext.tr _ _ _ xG8 (Ext.tr _ _ _ xG9 (Ext.tr _ _ _ xG10 (Ext.tr _ _ _ xG11 (Ext.tr _ _ _ xG12 (Ext.tr _ _ _ xG13 (Ext.tr _ _ _ xG14 (Ext.tr _ _ _ xG15 (Ext.tr _ _ _ xG16 (Ext.tr _ _ _ xG17 (Ext.tr _ _ _ xG18 (Ext.tr _ _ _ xG19 (Ext.tr _ _ _ xG20 (Ext.tr _ _ _ xG21 (Ext.tr _ _ _ xG22 (Ext.tr _ _ _ xG23 (Ext.tr _ _ _ xG24 (Ext.tr _ _ _ xG25 (Ext.tr _ _ _ xG26 (Ext.tr _ _ _ xG27 (Ext.tr _ _ _ xG28 (Ext.tr _ _ _ xG29 (Ext.tr _ _ _ xG30 (Ext.tr _ _ _ xG31 (Ext.tr _ _ _ xG32 (Ext.tr _ _ _ xG33 (Ext.tr _ _ _ xG34 (Ext.tr _ _ _ xG35 (Ext.tr _ _ _ xG36 (Ext.tr _ _ _ xG37 (Ext.tr _ _ _ xG38 (Ext.tr _ _ _ xG39 (Ext.tr _ _ _ xG40 (Ext.tr _ _ _ xG41 (Ext.tr _ _ _ xG42 (Ext.tr _ _ _ xG43 (Ext.tr _ _ _ xG44 (Ext.tr _ _ _ xG45 (Ext.tr _ _ _ xG46 (Ext.tr _ _ _ xG47 (Ext.tr _ _ _ xG48 (Ext.tr _ _ _ xG49 (Ext.tr _ _ _ xG50 (Ext.tr _ _ _ xG51 (Ext.tr _ _ _ xG52 (Ext.tr _ _ _ xG53 (Ext.tr _ _ _ xG54 (Ext.tr _ _ _ xG55 (Ext.tr _ _ _ xG56 (Ext.tr _ _ _ xG57 (Ext.tr _ _ _ xG58 (Ext.tr _ _ _ xG59 (Ext.tr _ _ _ xG60 (Ext.tr _ _ _ xG61 (Ext.tr _ _ _ xG62 (Ext.tr _ _ _ xG63 (Ext.tr _ _ _ xG64 (Ext.tr _ _ _ xG65 (Ext.tr _ _ _ xG66 xG67))))))))))))))))))))))))))))))))))))))))))))))))))))))))))))))))))) dX11_init_307 (fun x => fit_a x) (fun H locs G68 eG68 xG68 I => ?_)
  have h := h G68 eG68
  refine l_ald_n C dX11_init_310 hl 0 rfl rfl ?_
  refine lv_bipush (v := 20) C.1 C.2.1 dX11_init_311 (by decide) ?_
  obtain ⟨hb, h⟩ := h
  refine N_arr (kd := 50) C I (by decide) rfl q234 hb dX11_init_313 (fun H cells slots G69 eG69 xG69 I => ?_)
  have h := h G69 eG69
  have hnG69 : isO G69 (some (gZ G68)) 50 := ⟨_, rfl, by rw [eG69]; exact gK_nw⟩
  refine P_R C I fp_X11_101_19 (fun _ => hnm) (by decide) (by decide) (hth.ext (by decide) (Ext.tr _ _ _ xG1 (Ext.tr _ _ _ xG2 (Ext.tr _ _ _ xG3 (Ext.tr _ _ _ xG4 (Ext.tr _ _ _ xG5 (Ext.tr _ _ _ xG6 (Ext.tr _ _ _ xG7 (Ext.tr _ _ _ xG8 (Ext.tr _ _ _ xG9 (Ext.tr _ _ _ xG10 (Ext.tr _ _ _ xG11 (Ext.tr _ _ _ xG12 (Ext.tr _ _ _ xG13 (Ext.tr _ _ _ xG14 (Ext.tr _ _ _ xG15 (Ext.tr _ _ _ xG16 (Ext.tr _ _ _ xG17 (Ext.tr _ _ _ xG18 (Ext.tr _ _ _ xG19 (Ext.tr _ _ _ xG20 (Ext.tr _ _ _ xG21 (Ext.tr _ _ _ xG22 (Ext.tr _ _ _ xG23 (Ext.tr _ _ _ xG24 (Ext.tr _ _ _ xG25 (Ext.tr _ _ _ xG26 (Ext.tr _ _ _ xG27 (Ext.tr _ _ _ xG28 (Ext.tr _ _ _ xG29 (Ext.tr _ _ _ xG30 (Ext.tr _ _ _ xG31 (Ext.tr _ _ _ xG32 (Ext.tr _ _ _ xG33 (Ext.tr _ _ _ xG34 (Ext.tr _ _ _ xG35 (Ext.tr _ _ _ xG36 (Ext.tr _ _ _ xG37 (Ext.tr _ _ _ xG38 (Ext.tr _ _ _ xG39 (Ext.tr _ _ _ xG40 (Ext.tr _ _ _ xG41 (Ext.tr _ _ _ xG42 (Ext.tr _ _ _ xG43 (Ext.tr _ _ _ xG44 (Ext.tr _ _ _ xG45 (Ext.tr _ _ _ xG46 (Ext.tr _ _ _ xG47 (Ext.tr _ _ _ xG48 (Ext.tr _ _ _ xG49 (Ext.tr _ _ _ xG50 (Ext.tr _ _ _ xG51 (Ext.tr _ _ _ xG52 (Ext.tr _ _ _ xG53 (Ext.tr _ _ _ xG54 (Ext.tr _ _ _ xG55 (Ext.tr _ _ _ xG56 (Ext.tr _ _ _ xG57 (Ext.tr _ _ _ xG58 (Ext.tr _ _ _ xG59 (Ext.tr _ _ _ xG60 (Ext.tr _ _ _ xG61 (Ext.tr _ _ _ xG62 (Ext.tr _ _ _ xG63 (Ext.tr _ _ _ xG64 (Ext.tr _ _ _ xG65 (Ext.tr _ _ _ xG66 (Ext.tr _ _ _ xG67 (Ext.tr _ _ _ xG68 xG69))))))))))))))))))))))))))))))))))))))))))))))))))))))))))))))))))))) dX11_init_315 (fun x => fit_a x) (fun H locs G70 eG70 xG70 I => ?_)
  have h := h G70 eG70
  refine l_ald_n C dX11_init_318 hl 0 rfl rfl ?_
  refine lv_sipush (v := 168) C.1 C.2.1 dX11_init_319 (by decide) ?_
  obtain ⟨hb, h⟩ := h
  refine N_arr (kd := 50) C I (by decide) rfl q234 hb dX11_init_322 (fun H cells slots G71 eG71 xG71 I => ?_)
  have h := h G71 eG71
  have hnG71 : isO G71 (some (gZ G70)) 50 := ⟨_, rfl, by rw [eG71]; exact gK_nw⟩
  refine P_R C I fp_X11_104_19 (fun _ => hnm) (by decide) (by decide) (hth.ext (by decide) (Ext.tr _ _ _ xG1 (Ext.tr _ _ _ xG2 (Ext.tr _ _ _ xG3 (Ext.tr _ _ _ xG4 (Ext.tr _ _ _ xG5 (Ext.tr _ _ _ xG6 (Ext.tr _ _ _ xG7 (Ext.tr _ _ _ xG8 (Ext.tr _ _ _ xG9 (Ext.tr _ _ _ xG10 (Ext.tr _ _ _ xG11 (Ext.tr _ _ _ xG12 (Ext.tr _ _ _ xG13 (Ext.tr _ _ _ xG14 (Ext.tr _ _ _ xG15 (Ext.tr _ _ _ xG16 (Ext.tr _ _ _ xG17 (Ext.tr _ _ _ xG18 (Ext.tr _ _ _ xG19 (Ext.tr _ _ _ xG20 (Ext.tr _ _ _ xG21 (Ext.tr _ _ _ xG22 (Ext.tr _ _ _ xG23 (Ext.tr _ _ _ xG24 (Ext.tr _ _ _ xG25 (Ext.tr _ _ _ xG26 (Ext.tr _ _ _ xG27 (Ext.tr _ _ _ xG28 (Ext.tr _ _ _ xG29 (Ext.tr _ _ _ xG30 (Ext.tr _ _ _ xG31 (Ext.tr _ _ _ xG32 (Ext.tr _ _ _ xG33 (Ext.tr _ _ _ xG34 (Ext.tr _ _ _ xG35 (Ext.tr _ _ _ xG36 (Ext.tr _ _ _ xG37 (Ext.tr _ _ _ xG38 (Ext.tr _ _ _ xG39 (Ext.tr _ _ _ xG40 (Ext.tr _ _ _ xG41 (Ext.tr _ _ _ xG42 (Ext.tr _ _ _ xG43 (Ext.tr _ _ _ xG44 (Ext.tr _ _ _ xG45 (Ext.tr _ _ _ xG46 (Ext.tr _ _ _ xG47 (Ext.tr _ _ _ xG48 (Ext.tr _ _ _ xG49 (Ext.tr _ _ _ xG50 (Ext.tr _ _ _ xG51 (Ext.tr _ _ _ xG52 (Ext.tr _ _ _ xG53 (Ext.tr _ _ _ xG54 (Ext.tr _ _ _ xG55 (Ext.tr _ _ _ xG56 (Ext.tr _ _ _ xG57 (Ext.tr _ _ _ xG58 (Ext.tr _ _ _ xG59 (Ext.tr _ _ _ xG60 (Ext.tr _ _ _ xG61 (Ext.tr _ _ _ xG62 (Ext.tr _ _ _ xG63 (Ext.tr _ _ _ xG64 (Ext.tr _ _ _ xG65 (Ext.tr _ _ _ xG66 (Ext.tr _ _ _ xG67 (Ext.tr _ _ _ xG68 (Ext.tr _ _ _ xG69 (Ext.tr _ _ _ xG70 xG71))))))))))))))))))))))))))))))))))))))))))))))))))))))))))))))))))))))) dX11_init_324 (fun x => fit_a x) (fun H locs G72 eG72 xG72 I => ?_)
  have h := h G72 eG72
  refine l_ald_n C dX11_init_327 hl 0 rfl rfl ?_
  refine lv_bipush (v := 20) C.1 C.2.1 dX11_init_328 (by decide) ?_
  obtain ⟨hb, h⟩ := h
  refine N_arr (kd := 50) C I (by decide) rfl q234 hb dX11_init_330 (fun H cells slots G73 eG73 xG73 I => ?_)
  have h := h G73 eG73
  have hnG73 : isO G73 (some (gZ G72)) 50 := ⟨_, rfl, by rw [eG73]; exact gK_nw⟩
  refine P_R C I fp_X11_107_19 (fun _ => hnm) (by decide) (by decide) (hth.ext (by decide) (Ext.tr _ _ _ xG1 (Ext.tr _ _ _ xG2 (Ext.tr _ _ _ xG3 (Ext.tr _ _ _ xG4 (Ext.tr _ _ _ xG5 (Ext.tr _ _ _ xG6 (Ext.tr _ _ _ xG7 (Ext.tr _ _ _ xG8 (Ext.tr _ _ _ xG9 (Ext.tr _ _ _ xG10 (Ext.tr _ _ _ xG11 (Ext.tr _ _ _ xG12 (Ext.tr _ _ _ xG13 (Ext.tr _ _ _ xG14 (Ext.tr _ _ _ xG15 (Ext.tr _ _ _ xG16 (Ext.tr _ _ _ xG17 (Ext.tr _ _ _ xG18 (Ext.tr _ _ _ xG19 (Ext.tr _ _ _ xG20 (Ext.tr _ _ _ xG21 (Ext.tr _ _ _ xG22 (Ext.tr _ _ _ xG23 (Ext.tr _ _ _ xG24 (Ext.tr _ _ _ xG25 (Ext.tr _ _ _ xG26 (Ext.tr _ _ _ xG27 (Ext.tr _ _ _ xG28 (Ext.tr _ _ _ xG29 (Ext.tr _ _ _ xG30 (Ext.tr _ _ _ xG31 (Ext.tr _ _ _ xG32 (Ext.tr _ _ _ xG33 (Ext.tr _ _ _ xG34 (Ext.tr _ _ _ xG35 (Ext.tr _ _ _ xG36 (Ext.tr _ _ _ xG37 (Ext.tr _ _ _ xG38 (Ext.tr _ _ _ xG39 (Ext.tr _ _ _ xG40 (Ext.tr _ _ _ xG41 (Ext.tr _ _ _ xG42 (Ext.tr _ _ _ xG43 (Ext.tr _ _ _ xG44 (Ext.tr _ _ _ xG45 (Ext.tr _ _ _ xG46 (Ext.tr _ _ _ xG47 (Ext.tr _ _ _ xG48 (Ext.tr _ _ _ xG49 (Ext.tr _ _ _ xG50 (Ext.tr _ _ _ xG51 (Ext.tr _ _ _ xG52 (Ext.tr _ _ _ xG53 (Ext.tr _ _ _ xG54 (Ext.tr _ _ _ xG55 (Ext.tr _ _ _ xG56 (Ext.tr _ _ _ xG57 (Ext.tr _ _ _ xG58 (Ext.tr _ _ _ xG59 (Ext.tr _ _ _ xG60 (Ext.tr _ _ _ xG61 (Ext.tr _ _ _ xG62 (Ext.tr _ _ _ xG63 (Ext.tr _ _ _ xG64 (Ext.tr _ _ _ xG65 (Ext.tr _ _ _ xG66 (Ext.tr _ _ _ xG67 (Ext.tr _ _ _ xG68 (Ext.tr _ _ _ xG69 (Ext.tr _ _ _ xG70 (Ext.tr _ _ _ xG71 (Ext.tr _ _ _ xG72 xG73))))))))))))))))))))))))))))))))))))))))))))))))))))))))))))))))))))))))) dX11_init_332 (fun x => fit_a x) (fun H locs G74 eG74 xG74 I => ?_)
  have h := h G74 eG74
  refine l_ald_n C dX11_init_335 hl 0 rfl rfl ?_
  refine lv_sipush (v := 168) C.1 C.2.1 dX11_init_336 (by decide) ?_
  obtain ⟨hb, h⟩ := h
  refine N_arr (kd := 50) C I (by decide) rfl q234 hb dX11_init_339 (fun H cells slots G75 eG75 xG75 I => ?_)
  have h := h G75 eG75
  have hnG75 : isO G75 (some (gZ G74)) 50 := ⟨_, rfl, by rw [eG75]; exact gK_nw⟩
  refine P_R C I fp_X11_110_19 (fun _ => hnm) (by decide) (by decide) (hth.ext (by decide) (Ext.tr _ _ _ xG1 (Ext.tr _ _ _ xG2 (Ext.tr _ _ _ xG3 (Ext.tr _ _ _ xG4 (Ext.tr _ _ _ xG5 (Ext.tr _ _ _ xG6 (Ext.tr _ _ _ xG7 (Ext.tr _ _ _ xG8 (Ext.tr _ _ _ xG9 (Ext.tr _ _ _ xG10 (Ext.tr _ _ _ xG11 (Ext.tr _ _ _ xG12 (Ext.tr _ _ _ xG13 (Ext.tr _ _ _ xG14 (Ext.tr _ _ _ xG15 (Ext.tr _ _ _ xG16 (Ext.tr _ _ _ xG17 (Ext.tr _ _ _ xG18 (Ext.tr _ _ _ xG19 (Ext.tr _ _ _ xG20 (Ext.tr _ _ _ xG21 (Ext.tr _ _ _ xG22 (Ext.tr _ _ _ xG23 (Ext.tr _ _ _ xG24 (Ext.tr _ _ _ xG25 (Ext.tr _ _ _ xG26 (Ext.tr _ _ _ xG27 (Ext.tr _ _ _ xG28 (Ext.tr _ _ _ xG29 (Ext.tr _ _ _ xG30 (Ext.tr _ _ _ xG31 (Ext.tr _ _ _ xG32 (Ext.tr _ _ _ xG33 (Ext.tr _ _ _ xG34 (Ext.tr _ _ _ xG35 (Ext.tr _ _ _ xG36 (Ext.tr _ _ _ xG37 (Ext.tr _ _ _ xG38 (Ext.tr _ _ _ xG39 (Ext.tr _ _ _ xG40 (Ext.tr _ _ _ xG41 (Ext.tr _ _ _ xG42 (Ext.tr _ _ _ xG43 (Ext.tr _ _ _ xG44 (Ext.tr _ _ _ xG45 (Ext.tr _ _ _ xG46 (Ext.tr _ _ _ xG47 (Ext.tr _ _ _ xG48 (Ext.tr _ _ _ xG49 (Ext.tr _ _ _ xG50 (Ext.tr _ _ _ xG51 (Ext.tr _ _ _ xG52 (Ext.tr _ _ _ xG53 (Ext.tr _ _ _ xG54 (Ext.tr _ _ _ xG55 (Ext.tr _ _ _ xG56 (Ext.tr _ _ _ xG57 (Ext.tr _ _ _ xG58 (Ext.tr _ _ _ xG59 (Ext.tr _ _ _ xG60 (Ext.tr _ _ _ xG61 (Ext.tr _ _ _ xG62 (Ext.tr _ _ _ xG63 (Ext.tr _ _ _ xG64 (Ext.tr _ _ _ xG65 (Ext.tr _ _ _ xG66 (Ext.tr _ _ _ xG67 (Ext.tr _ _ _ xG68 (Ext.tr _ _ _ xG69 (Ext.tr _ _ _ xG70 (Ext.tr _ _ _ xG71 (Ext.tr _ _ _ xG72 (Ext.tr _ _ _ xG73 (Ext.tr _ _ _ xG74 xG75))))))))))))))))))))))))))))))))))))))))))))))))))))))))))))))))))))))))))) dX11_init_341 (fun x => fit_a x) (fun H locs G76 eG76 xG76 I => ?_)
  have h := h G76 eG76
  refine l_ald_n C dX11_init_344 hl 0 rfl rfl ?_
  refine lv_iconst (v := (-1)) C.1 C.2.1 dX11_init_345 (by decide) ?_
  refine P_I C I fp_X11_113_19 (fun z => by cases z) (by decide) (by decide) (hth.ext (by decide) (Ext.tr _ _ _ xG1 (Ext.tr _ _ _ xG2 (Ext.tr _ _ _ xG3 (Ext.tr _ _ _ xG4 (Ext.tr _ _ _ xG5 (Ext.tr _ _ _ xG6 (Ext.tr _ _ _ xG7 (Ext.tr _ _ _ xG8 (Ext.tr _ _ _ xG9 (Ext.tr _ _ _ xG10 (Ext.tr _ _ _ xG11 (Ext.tr _ _ _ xG12 (Ext.tr _ _ _ xG13 (Ext.tr _ _ _ xG14 (Ext.tr _ _ _ xG15 (Ext.tr _ _ _ xG16 (Ext.tr _ _ _ xG17 (Ext.tr _ _ _ xG18 (Ext.tr _ _ _ xG19 (Ext.tr _ _ _ xG20 (Ext.tr _ _ _ xG21 (Ext.tr _ _ _ xG22 (Ext.tr _ _ _ xG23 (Ext.tr _ _ _ xG24 (Ext.tr _ _ _ xG25 (Ext.tr _ _ _ xG26 (Ext.tr _ _ _ xG27 (Ext.tr _ _ _ xG28 (Ext.tr _ _ _ xG29 (Ext.tr _ _ _ xG30 (Ext.tr _ _ _ xG31 (Ext.tr _ _ _ xG32 (Ext.tr _ _ _ xG33 (Ext.tr _ _ _ xG34 (Ext.tr _ _ _ xG35 (Ext.tr _ _ _ xG36 (Ext.tr _ _ _ xG37 (Ext.tr _ _ _ xG38 (Ext.tr _ _ _ xG39 (Ext.tr _ _ _ xG40 (Ext.tr _ _ _ xG41 (Ext.tr _ _ _ xG42 (Ext.tr _ _ _ xG43 (Ext.tr _ _ _ xG44 (Ext.tr _ _ _ xG45 (Ext.tr _ _ _ xG46 (Ext.tr _ _ _ xG47 (Ext.tr _ _ _ xG48 (Ext.tr _ _ _ xG49 (Ext.tr _ _ _ xG50 (Ext.tr _ _ _ xG51 (Ext.tr _ _ _ xG52 (Ext.tr _ _ _ xG53 (Ext.tr _ _ _ xG54 (Ext.tr _ _ _ xG55 (Ext.tr _ _ _ xG56 (Ext.tr _ _ _ xG57 (Ext.tr _ _ _ xG58 (Ext.tr _ _ _ xG59 (Ext.tr _ _ _ xG60 (Ext.tr _ _ _ xG61 (Ext.tr _ _ _ xG62 (Ext.tr _ _ _ xG63 (Ext.tr _ _ _ xG64 (Ext.tr _ _ _ xG65 (Ext.tr _ _ _ xG66 (Ext.tr _ _ _ xG67 (Ext.tr _ _ _ xG68 (Ext.tr _ _ _ xG69 (Ext.tr _ _ _ xG70 (Ext.tr _ _ _ xG71 (Ext.tr _ _ _ xG72 (Ext.tr _ _ _ xG73 (Ext.tr _ _ _ xG74 (Ext.tr _ _ _ xG75 xG76)))))))))))))))))))))))))))))))))))))))))))))))))))))))))))))))))))))))))))) dX11_init_346 (fit_i _) (fun H locs G77 eG77 xG77 I => ?_)
  have h := h G77 eG77
  refine l_ald_n C dX11_init_349 hl 0 rfl rfl ?_
  refine lv_bipush (v := 20) C.1 C.2.1 dX11_init_350 (by decide) ?_
  obtain ⟨hb, h⟩ := h
  refine N_arr (kd := 50) C I (by decide) rfl q234 hb dX11_init_352 (fun H cells slots G78 eG78 xG78 I => ?_)
  have h := h G78 eG78
  have hnG78 : isO G78 (some (gZ G77)) 50 := ⟨_, rfl, by rw [eG78]; exact gK_nw⟩
  refine P_R C I fp_X11_116_19 (fun _ => hnm) (by decide) (by decide) (hth.ext (by decide) (Ext.tr _ _ _ xG1 (Ext.tr _ _ _ xG2 (Ext.tr _ _ _ xG3 (Ext.tr _ _ _ xG4 (Ext.tr _ _ _ xG5 (Ext.tr _ _ _ xG6 (Ext.tr _ _ _ xG7 (Ext.tr _ _ _ xG8 (Ext.tr _ _ _ xG9 (Ext.tr _ _ _ xG10 (Ext.tr _ _ _ xG11 (Ext.tr _ _ _ xG12 (Ext.tr _ _ _ xG13 (Ext.tr _ _ _ xG14 (Ext.tr _ _ _ xG15 (Ext.tr _ _ _ xG16 (Ext.tr _ _ _ xG17 (Ext.tr _ _ _ xG18 (Ext.tr _ _ _ xG19 (Ext.tr _ _ _ xG20 (Ext.tr _ _ _ xG21 (Ext.tr _ _ _ xG22 (Ext.tr _ _ _ xG23 (Ext.tr _ _ _ xG24 (Ext.tr _ _ _ xG25 (Ext.tr _ _ _ xG26 (Ext.tr _ _ _ xG27 (Ext.tr _ _ _ xG28 (Ext.tr _ _ _ xG29 (Ext.tr _ _ _ xG30 (Ext.tr _ _ _ xG31 (Ext.tr _ _ _ xG32 (Ext.tr _ _ _ xG33 (Ext.tr _ _ _ xG34 (Ext.tr _ _ _ xG35 (Ext.tr _ _ _ xG36 (Ext.tr _ _ _ xG37 (Ext.tr _ _ _ xG38 (Ext.tr _ _ _ xG39 (Ext.tr _ _ _ xG40 (Ext.tr _ _ _ xG41 (Ext.tr _ _ _ xG42 (Ext.tr _ _ _ xG43 (Ext.tr _ _ _ xG44 (Ext.tr _ _ _ xG45 (Ext.tr _ _ _ xG46 (Ext.tr _ _ _ xG47 (Ext.tr _ _ _ xG48 (Ext.tr _ _ _ xG49 (Ext.tr _ _ _ xG50 (Ext.tr _ _ _ xG51 (Ext.tr _ _ _ xG52 (Ext.tr _ _ _ xG53 (Ext.tr _ _ _ xG54 (Ext.tr _ _ _ xG55 (Ext.tr _ _ _ xG56 (Ext.tr _ _ _ xG57 (Ext.tr _ _ _ xG58 (Ext.tr _ _ _ xG59 (Ext.tr _ _ _ xG60 (Ext.tr _ _ _ xG61 (Ext.tr _ _ _ xG62 (Ext.tr _ _ _ xG63 (Ext.tr _ _ _ xG64 (Ext.tr _ _ _ xG65 (Ext.tr _ _ _ xG66 (Ext.tr _ _ _ xG67 (Ext.tr _ _ _ xG68 (Ext.tr _ _ _ xG69 (Ext.tr _ _ _ xG70 (Ext.tr _ _ _ xG71 (Ext.tr _ _ _ xG72 (Ext.tr _ _ _ xG73 (Ext.tr _ _ _ xG74 (Ext.tr _ _ _ xG75 (Ext.tr _ _ _ xG76 (Ext.tr _ _ _ xG77 xG78)))))))))))))))))))))))))))))))))))))))))))))))))))))))))))))))))))))))))))))) dX11_init_354 (fun x => fit_a x) (fun H locs G79 eG79 xG79 I => ?_)
  have h := h G79 eG79
  refine l_ald_n C dX11_init_357 hl 0 rfl rfl ?_
  refine lv_bipush (v := 100) C.1 C.2.1 dX11_init_358 (by decide) ?_
  obtain ⟨hb, h⟩ := h
  refine N_arr (kd := 50) C I (by decide) rfl q234 hb dX11_init_360 (fun H cells slots G80 eG80 xG80 I => ?_)
  have h := h G80 eG80
  have hnG80 : isO G80 (some (gZ G79)) 50 := ⟨_, rfl, by rw [eG80]; exact gK_nw⟩
  refine P_R C I fp_X11_119_19 (fun _ => hnm) (by decide) (by decide) (hth.ext (by decide) (Ext.tr _ _ _ xG1 (Ext.tr _ _ _ xG2 (Ext.tr _ _ _ xG3 (Ext.tr _ _ _ xG4 (Ext.tr _ _ _ xG5 (Ext.tr _ _ _ xG6 (Ext.tr _ _ _ xG7 (Ext.tr _ _ _ xG8 (Ext.tr _ _ _ xG9 (Ext.tr _ _ _ xG10 (Ext.tr _ _ _ xG11 (Ext.tr _ _ _ xG12 (Ext.tr _ _ _ xG13 (Ext.tr _ _ _ xG14 (Ext.tr _ _ _ xG15 (Ext.tr _ _ _ xG16 (Ext.tr _ _ _ xG17 (Ext.tr _ _ _ xG18 (Ext.tr _ _ _ xG19 (Ext.tr _ _ _ xG20 (Ext.tr _ _ _ xG21 (Ext.tr _ _ _ xG22 (Ext.tr _ _ _ xG23 (Ext.tr _ _ _ xG24 (Ext.tr _ _ _ xG25 (Ext.tr _ _ _ xG26 (Ext.tr _ _ _ xG27 (Ext.tr _ _ _ xG28 (Ext.tr _ _ _ xG29 (Ext.tr _ _ _ xG30 (Ext.tr _ _ _ xG31 (Ext.tr _ _ _ xG32 (Ext.tr _ _ _ xG33 (Ext.tr _ _ _ xG34 (Ext.tr _ _ _ xG35 (Ext.tr _ _ _ xG36 (Ext.tr _ _ _ xG37 (Ext.tr _ _ _ xG38 (Ext.tr _ _ _ xG39 (Ext.tr _ _ _ xG40 (Ext.tr _ _ _ xG41 (Ext.tr _ _ _ xG42 (Ext.tr _ _ _ xG43 (Ext.tr _ _ _ xG44 (Ext.tr _ _ _ xG45 (Ext.tr _ _ _ xG46 (Ext.tr _ _ _ xG47 (Ext.tr _ _ _ xG48 (Ext.tr _ _ _ xG49 (Ext.tr _ _ _ xG50 (Ext.tr _ _ _ xG51 (Ext.tr _ _ _ xG52 (Ext.tr _ _ _ xG53 (Ext.tr _ _ _ xG54 (Ext.tr _ _ _ xG55 (Ext.tr _ _ _ xG56 (Ext.tr _ _ _ xG57 (Ext.tr _ _ _ xG58 (Ext.tr _ _ _ xG59 (Ext.tr _ _ _ xG60 (Ext.tr _ _ _ xG61 (Ext.tr _ _ _ xG62 (Ext.tr _ _ _ xG63 (Ext.tr _ _ _ xG64 (Ext.tr _ _ _ xG65 (Ext.tr _ _ _ xG66 (Ext.tr _ _ _ xG67 (Ext.tr _ _ _ xG68 (Ext.tr _ _ _ xG69 (Ext.tr _ _ _ xG70 (Ext.tr _ _ _ xG71 (Ext.tr _ _ _ xG72 (Ext.tr _ _ _ xG73 (Ext.tr _ _ _ xG74 (Ext.tr _ _ _ xG75 (Ext.tr _ _ _ xG76 (Ext.tr _ _ _ xG77 (Ext.tr _ _ _ xG78 (Ext.tr _ _ _ xG79 xG80)))))))))))))))))))))))))))))))))))))))))))))))))))))))))))))))))))))))))))))))) dX11_init_362 (fun x => fit_a x) (fun H locs G81 eG81 xG81 I => ?_)
  have h := h G81 eG81
  exact r_void C.1 C.2.1 C.2.2.2.2.2.1 C.2.2.2.2.2.2 ⟨rfl, rfl⟩ I dX11_init_365 ⟨rfl, h⟩
def w_X0_village_12 (T : Nat → ClassId) (Q : Int32 → Hp → Prop) (t0 : Option Nat) (G : Hp) : Prop := Q ((1 : Int32)) G
set_option maxHeartbeats 4000000 in
theorem b_X0_village_12 {G0 : Hp} {Q : Int32 → Hp → Prop} (C : Cx p s m meth c D T Z "EndingTownLaw" cX0_village 4 (some .int)) (htab : TabIs c [(0, 9, 12, 13)]) (hLf : l.flags = flags0) : ∀ (t0 : Option Nat) (G : Hp) (H : Heap) (locs : List Loc) (cells slots : Nat) (ls : Array Slot), w_X0_village_12 T Q t0 G → HI (twd D T Z) G0 s (rmX (twd D T Z) 12 333 G0) H locs cells slots G → LH ls 4 [] → W p l e (rmX (twd D T Z) 12 333 G0) s m args below meth c H locs cells slots (MQX (twd D T Z) G0 (qI Q) (fun _ _ => False) below s) (F0 m 12 ls [va_rf t0]) := by
  intro t0 G H locs cells slots ls h I hl
  refine l_ast_n C dX0_village_12 rfl hl (by decide) rfl (fun ls hl => ?_)
  have hl : LH ls 4 [(3, .inr (.inl t0))] := hl
  refine lv_iconst (v := 1) C.1 C.2.1 dX0_village_13 (by decide) ?_
  exact r_int C.1 C.2.1 C.2.2.2.2.2.1 rfl C.2.2.2.2.2.2 ⟨rfl, rfl⟩ I dX0_village_14 ⟨_, rfl, h⟩
def w_X0_village (T : Nat → ClassId) (Q : Int32 → Hp → Prop) (p0 : Option Nat) (p1 : Int32) (p2 : Option Nat) (G : Hp) : Prop := (isO G p0 1 ∧ w_X1_village T (fun r4 G3 => Ext G G3 → isO G3 p2 53 ∧ vp_in ((0 : Int32)) (gN G3 (ad p2)) ∧ ∀ G6 : Hp, G6 = wL G3 (ad p2) ((0 : Int32)).toNatClampNeg r4.toInt64 → Q ((0 : Int32)) G6) (fun a1 G2 => Ext G G2 → isO G2 (some a1) 18 ∧ (w_X0_village_12 T Q ((some a1)) G2)) p0 p1 G)
theorem pd_X0_village : (parseMethodDescriptor yX0_village.desc).map (fun d => d.parameters.length) = some 3 := by decide +kernel
set_option maxHeartbeats 4000000 in
theorem ct_X0_village {l : Launch} {D : va_G} {T : Nat → ClassId} {Z : Heap} {G0 : Hp} {Q : Int32 → Hp → Prop} {p0 : Option Nat} {p1 : Int32} {p2 : Option Nat} (hLf : l.flags = flags0) (hw : w_X0_village T Q p0 p1 p2 G0) : CT (twd D T Z) (Evd D T Z) l yX0_village (Cond.codeWith yX0_village cX0_village 4 (some .int) [(0, 9, 12, 13)]) 12 333 [va_rf p0, .int p1, va_rf p2] G0 (qI Q) (fun _ _ => False) := by
  refine CT.ofW (cc := cX0_village) (nL := 4) (ret := (some .int)) Ext.rf (by decide) (Or.inr ⟨_, rfl⟩) ?_
  intro p e s m below meth c hx hb hml hown hr hlk hnm hcb hm hc hn hE I
  have C : Cx p s m meth c D T Z "EndingTownLaw" cX0_village 4 (some .int) := ⟨hx, hb, hml, hown, hE, hr, hlk⟩
  have htab := tabOf hn hm hc hcb
  refine w_entry [.inr (.inl p0), .inl p1, .inr (.inl p2)] (Nat.le_of_ble_eq_true rfl) (fun ls hl => ?_)
  have hl : LH ls 4 [(0, .inr (.inl p0)), (1, .inl p1), (2, .inr (.inl p2))] := hl
  have h := hw
  refine l_ald_n C dX0_village_0 hl 2 rfl rfl ?_
  refine lv_iconst (v := 0) C.1 C.2.1 dX0_village_1 (by decide) ?_
  refine l_ald_n C dX0_village_2 hl 0 rfl rfl ?_
  refine l_ild_n C dX0_village_3 hl 1 rfl rfl ?_
  obtain ⟨ho7, h⟩ := h
  refine k_call Ext.tr C I (k_V (r := p0) (As := [.int p1]) (rest := [.int ((0 : Int32)), va_rf p2]) (y := yX1_village) C ⟨ho7.ad.1, I.recv C.2.2.2.2.1 ho7 (by decide)⟩ q635 q636 q637 (Or.inr ⟨_, rfl⟩) q638 (by decide) rfl pd_X1_village rfl dX0_village_4) (ct_X1_village hLf h) hl.1 dX0_village_4 [.inl ((0 : Int32)), .inr (.inl p2)] rfl (Nat.le_of_ble_eq_true rfl) (Or.inr ⟨_, rfl⟩) q638 q100 ⟨Nat.le_of_ble_eq_true rfl, Nat.le_of_ble_eq_true rfl⟩ (fun v G3 H locs cells slots xG3 hq I => ?_) (fun a1 G2 H locs cells slots xG2 hq I => ?_)
  · obtain ⟨r4, rfl, h⟩ := hq
    have h := h xG3
    refine lv_i2l C.1 C.2.1 dX0_village_7 rfl ?_
    obtain ⟨ho5, h⟩ := h
    obtain ⟨hi, h⟩ := h
    refine A_last C I ho5 hi dX0_village_8 (fun H locs G6 eG6 xG6 I => ?_)
    have h := h G6 eG6
    refine lv_goto (tgt := 15) C.1 C.2.1 dX0_village_9 (by decide) ?_
    refine lv_iconst (v := 0) C.1 C.2.1 dX0_village_15 (by decide) ?_
    exact r_int C.1 C.2.1 C.2.2.2.2.2.1 rfl C.2.2.2.2.2.2 ⟨rfl, rfl⟩ I dX0_village_16 ⟨_, rfl, h⟩
  · have hq := hq xG2
    obtain ⟨ho9, h⟩ := hq
    refine h_catch (kd := 18) C I ho9 (by decide) htab q634 (by decide) (by decide) ?_
    exact b_X0_village_12 C htab hLf ((some a1)) G2 _ _ _ _ _ h I (hl.sub [] rfl)
def w_X0_count_12 (T : Nat → ClassId) (Q : Int32 → Hp → Prop) (t0 : Option Nat) (G : Hp) : Prop := Q ((1 : Int32)) G
set_option maxHeartbeats 4000000 in
theorem b_X0_count_12 {G0 : Hp} {Q : Int32 → Hp → Prop} (C : Cx p s m meth c D T Z "EndingTownLaw" cX0_count 4 (some .int)) (htab : TabIs c [(0, 9, 12, 18)]) (hLf : l.flags = flags0) : ∀ (t0 : Option Nat) (G : Hp) (H : Heap) (locs : List Loc) (cells slots : Nat) (ls : Array Slot), w_X0_count_12 T Q t0 G → HI (twd D T Z) G0 s (rmX (twd D T Z) 7 121 G0) H locs cells slots G → LH ls 4 [] → W p l e (rmX (twd D T Z) 7 121 G0) s m args below meth c H locs cells slots (MQX (twd D T Z) G0 (qI Q) (fun _ _ => False) below s) (F0 m 12 ls [va_rf t0]) := by
  intro t0 G H locs cells slots ls h I hl
  refine l_ast_n C dX0_count_12 rfl hl (by decide) rfl (fun ls hl => ?_)
  have hl : LH ls 4 [(3, .inr (.inl t0))] := hl
  refine lv_iconst (v := 1) C.1 C.2.1 dX0_count_13 (by decide) ?_
  exact r_int C.1 C.2.1 C.2.2.2.2.2.1 rfl C.2.2.2.2.2.2 ⟨rfl, rfl⟩ I dX0_count_14 ⟨_, rfl, h⟩
def w_X0_count (T : Nat → ClassId) (Q : Int32 → Hp → Prop) (p0 : Option Nat) (p1 : Int32) (p2 : Option Nat) (G : Hp) : Prop := (isO G p0 1 ∧ w_X1_count T (fun r4 G3 => Ext G G3 → isO G3 p2 53 ∧ vp_in ((0 : Int32)) (gN G3 (ad p2)) ∧ ∀ G6 : Hp, G6 = wL G3 (ad p2) ((0 : Int32)).toNatClampNeg r4.toInt64 → Q ((0 : Int32)) G6) (fun a1 G2 => Ext G G2 → isO G2 (some a1) 17 ∧ (w_X0_count_12 T Q ((some a1)) G2)) p0 p1 G)
theorem pd_X0_count : (parseMethodDescriptor yX0_count.desc).map (fun d => d.parameters.length) = some 3 := by decide +kernel
set_option maxHeartbeats 4000000 in
theorem ct_X0_count {l : Launch} {D : va_G} {T : Nat → ClassId} {Z : Heap} {G0 : Hp} {Q : Int32 → Hp → Prop} {p0 : Option Nat} {p1 : Int32} {p2 : Option Nat} (hLf : l.flags = flags0) (hw : w_X0_count T Q p0 p1 p2 G0) : CT (twd D T Z) (Evd D T Z) l yX0_count (Cond.codeWith yX0_count cX0_count 4 (some .int) [(0, 9, 12, 18)]) 7 121 [va_rf p0, .int p1, va_rf p2] G0 (qI Q) (fun _ _ => False) := by
  refine CT.ofW (cc := cX0_count) (nL := 4) (ret := (some .int)) Ext.rf (by decide) (Or.inr ⟨_, rfl⟩) ?_
  intro p e s m below meth c hx hb hml hown hr hlk hnm hcb hm hc hn hE I
  have C : Cx p s m meth c D T Z "EndingTownLaw" cX0_count 4 (some .int) := ⟨hx, hb, hml, hown, hE, hr, hlk⟩
  have htab := tabOf hn hm hc hcb
  refine w_entry [.inr (.inl p0), .inl p1, .inr (.inl p2)] (Nat.le_of_ble_eq_true rfl) (fun ls hl => ?_)
  have hl : LH ls 4 [(0, .inr (.inl p0)), (1, .inl p1), (2, .inr (.inl p2))] := hl
  have h := hw
  refine l_ald_n C dX0_count_0 hl 2 rfl rfl ?_
  refine lv_iconst (v := 0) C.1 C.2.1 dX0_count_1 (by decide) ?_
  refine l_ald_n C dX0_count_2 hl 0 rfl rfl ?_
  refine l_ild_n C dX0_count_3 hl 1 rfl rfl ?_
  obtain ⟨ho7, h⟩ := h
  refine k_call Ext.tr C I (k_V (r := p0) (As := [.int p1]) (rest := [.int ((0 : Int32)), va_rf p2]) (y := yX1_count) C ⟨ho7.ad.1, I.recv C.2.2.2.2.1 ho7 (by decide)⟩ q1063 q1064 q1065 (Or.inl rfl) q1066 (by decide) rfl pd_X1_count rfl dX0_count_4) (ct_X1_count hLf h) hl.1 dX0_count_4 [.inl ((0 : Int32)), .inr (.inl p2)] rfl (Nat.le_of_ble_eq_true rfl) (Or.inl rfl) q1066 q100 ⟨Nat.le_of_ble_eq_true rfl, Nat.le_of_ble_eq_true rfl⟩ (fun v G3 H locs cells slots xG3 hq I => ?_) (fun a1 G2 H locs cells slots xG2 hq I => ?_)
  · obtain ⟨r4, rfl, h⟩ := hq
    have h := h xG3
    refine lv_i2l C.1 C.2.1 dX0_count_7 rfl ?_
    obtain ⟨ho5, h⟩ := h
    obtain ⟨hi, h⟩ := h
    refine A_last C I ho5 hi dX0_count_8 (fun H locs G6 eG6 xG6 I => ?_)
    have h := h G6 eG6
    refine lv_goto (tgt := 15) C.1 C.2.1 dX0_count_9 (by decide) ?_
    refine lv_iconst (v := 0) C.1 C.2.1 dX0_count_15 (by decide) ?_
    exact r_int C.1 C.2.1 C.2.2.2.2.2.1 rfl C.2.2.2.2.2.2 ⟨rfl, rfl⟩ I dX0_count_16 ⟨_, rfl, h⟩
  · have hq := hq xG2
    obtain ⟨ho9, h⟩ := hq
    refine h_catch (kd := 17) C I ho9 (by decide) htab q1062 (by decide) (by decide) ?_
    exact b_X0_count_12 C htab hLf ((some a1)) G2 _ _ _ _ _ h I (hl.sub [] rfl)
def w_X0_where_13 (T : Nat → ClassId) (Q : Int32 → Hp → Prop) (t0 : Option Nat) (G : Hp) : Prop := Q ((1 : Int32)) G
set_option maxHeartbeats 4000000 in
theorem b_X0_where_13 {G0 : Hp} {Q : Int32 → Hp → Prop} (C : Cx p s m meth c D T Z "EndingTownLaw" cX0_where 5 (some .int)) (htab : TabIs c [(0, 10, 13, 18)]) (hLf : l.flags = flags0) : ∀ (t0 : Option Nat) (G : Hp) (H : Heap) (locs : List Loc) (cells slots : Nat) (ls : Array Slot), w_X0_where_13 T Q t0 G → HI (twd D T Z) G0 s (rmX (twd D T Z) 9 163 G0) H locs cells slots G → LH ls 5 [] → W p l e (rmX (twd D T Z) 9 163 G0) s m args below meth c H locs cells slots (MQX (twd D T Z) G0 (qI Q) (fun _ _ => False) below s) (F0 m 13 ls [va_rf t0]) := by
  intro t0 G H locs cells slots ls h I hl
  refine l_ast C dX0_where_13 hl (by decide) rfl (fun ls hl => ?_)
  have hl : LH ls 5 [(4, .inr (.inl t0))] := hl
  refine lv_iconst (v := 1) C.1 C.2.1 dX0_where_15 (by decide) ?_
  exact r_int C.1 C.2.1 C.2.2.2.2.2.1 rfl C.2.2.2.2.2.2 ⟨rfl, rfl⟩ I dX0_where_16 ⟨_, rfl, h⟩
def w_X0_where (T : Nat → ClassId) (Q : Int32 → Hp → Prop) (p0 : Option Nat) (p1 : Int32) (p2 : Int32) (p3 : Option Nat) (G : Hp) : Prop := (isO G p0 1 ∧ w_X1_where T (fun r4 G3 => Ext G G3 → isO G3 p3 53 ∧ vp_in ((0 : Int32)) (gN G3 (ad p3)) ∧ ∀ G6 : Hp, G6 = wL G3 (ad p3) ((0 : Int32)).toNatClampNeg r4.toInt64 → Q ((0 : Int32)) G6) (fun a1 G2 => Ext G G2 → isO G2 (some a1) 17 ∧ (w_X0_where_13 T Q ((some a1)) G2)) p0 p1 p2 G)
theorem pd_X0_where : (parseMethodDescriptor yX0_where.desc).map (fun d => d.parameters.length) = some 4 := by decide +kernel
set_option maxHeartbeats 4000000 in
theorem ct_X0_where {l : Launch} {D : va_G} {T : Nat → ClassId} {Z : Heap} {G0 : Hp} {Q : Int32 → Hp → Prop} {p0 : Option Nat} {p1 : Int32} {p2 : Int32} {p3 : Option Nat} (hLf : l.flags = flags0) (hw : w_X0_where T Q p0 p1 p2 p3 G0) : CT (twd D T Z) (Evd D T Z) l yX0_where (Cond.codeWith yX0_where cX0_where 5 (some .int) [(0, 10, 13, 18)]) 9 163 [va_rf p0, .int p1, .int p2, va_rf p3] G0 (qI Q) (fun _ _ => False) := by
  refine CT.ofW (cc := cX0_where) (nL := 5) (ret := (some .int)) Ext.rf (by decide) (Or.inr ⟨_, rfl⟩) ?_
  intro p e s m below meth c hx hb hml hown hr hlk hnm hcb hm hc hn hE I
  have C : Cx p s m meth c D T Z "EndingTownLaw" cX0_where 5 (some .int) := ⟨hx, hb, hml, hown, hE, hr, hlk⟩
  have htab := tabOf hn hm hc hcb
  refine w_entry [.inr (.inl p0), .inl p1, .inl p2, .inr (.inl p3)] (Nat.le_of_ble_eq_true rfl) (fun ls hl => ?_)
  have hl : LH ls 5 [(0, .inr (.inl p0)), (1, .inl p1), (2, .inl p2), (3, .inr (.inl p3))] := hl
  have h := hw
  refine l_ald_n C dX0_where_0 hl 3 rfl rfl ?_
  refine lv_iconst (v := 0) C.1 C.2.1 dX0_where_1 (by decide) ?_
  refine l_ald_n C dX0_where_2 hl 0 rfl rfl ?_
  refine l_ild_n C dX0_where_3 hl 1 rfl rfl ?_
  refine l_ild_n C dX0_where_4 hl 2 rfl rfl ?_
  obtain ⟨ho7, h⟩ := h
  refine k_call Ext.tr C I (k_V (r := p0) (As := [.int p1, .int p2]) (rest := [.int ((0 : Int32)), va_rf p3]) (y := yX1_where) C ⟨ho7.ad.1, I.recv C.2.2.2.2.1 ho7 (by decide)⟩ q1085 q1086 q1087 (Or.inl rfl) q1088 (by decide) rfl pd_X1_where rfl dX0_where_5) (ct_X1_where hLf h) hl.1 dX0_where_5 [.inl ((0 : Int32)), .inr (.inl p3)] rfl (Nat.le_of_ble_eq_true rfl) (Or.inl rfl) q1088 q100 ⟨Nat.le_of_ble_eq_true rfl, Nat.le_of_ble_eq_true rfl⟩ (fun v G3 H locs cells slots xG3 hq I => ?_) (fun a1 G2 H locs cells slots xG2 hq I => ?_)
  · obtain ⟨r4, rfl, h⟩ := hq
    have h := h xG3
    refine lv_i2l C.1 C.2.1 dX0_where_8 rfl ?_
    obtain ⟨ho5, h⟩ := h
    obtain ⟨hi, h⟩ := h
    refine A_last C I ho5 hi dX0_where_9 (fun H locs G6 eG6 xG6 I => ?_)
    have h := h G6 eG6
    refine lv_goto (tgt := 17) C.1 C.2.1 dX0_where_10 (by decide) ?_
    refine lv_iconst (v := 0) C.1 C.2.1 dX0_where_17 (by decide) ?_
    exact r_int C.1 C.2.1 C.2.2.2.2.2.1 rfl C.2.2.2.2.2.2 ⟨rfl, rfl⟩ I dX0_where_18 ⟨_, rfl, h⟩
  · have hq := hq xG2
    obtain ⟨ho9, h⟩ := hq
    refine h_catch (kd := 17) C I ho9 (by decide) htab q1062 (by decide) (by decide) ?_
    exact b_X0_where_13 C htab hLf ((some a1)) G2 _ _ _ _ _ h I (hl.sub [] rfl)
def w_X0_thing_13 (T : Nat → ClassId) (Q : Int32 → Hp → Prop) (t0 : Option Nat) (G : Hp) : Prop := Q ((1 : Int32)) G
set_option maxHeartbeats 4000000 in
theorem b_X0_thing_13 {G0 : Hp} {Q : Int32 → Hp → Prop} (C : Cx p s m meth c D T Z "EndingTownLaw" cX0_thing 5 (some .int)) (htab : TabIs c [(0, 10, 13, 18)]) (hLf : l.flags = flags0) : ∀ (t0 : Option Nat) (G : Hp) (H : Heap) (locs : List Loc) (cells slots : Nat) (ls : Array Slot), w_X0_thing_13 T Q t0 G → HI (twd D T Z) G0 s (rmX (twd D T Z) 9 164 G0) H locs cells slots G → LH ls 5 [] → W p l e (rmX (twd D T Z) 9 164 G0) s m args below meth c H locs cells slots (MQX (twd D T Z) G0 (qI Q) (fun _ _ => False) below s) (F0 m 13 ls [va_rf t0]) := by
  intro t0 G H locs cells slots ls h I hl
  refine l_ast C dX0_thing_13 hl (by decide) rfl (fun ls hl => ?_)
  have hl : LH ls 5 [(4, .inr (.inl t0))] := hl
  refine lv_iconst (v := 1) C.1 C.2.1 dX0_thing_15 (by decide) ?_
  exact r_int C.1 C.2.1 C.2.2.2.2.2.1 rfl C.2.2.2.2.2.2 ⟨rfl, rfl⟩ I dX0_thing_16 ⟨_, rfl, h⟩
def w_X0_thing (T : Nat → ClassId) (Q : Int32 → Hp → Prop) (p0 : Option Nat) (p1 : Int32) (p2 : Int32) (p3 : Option Nat) (G : Hp) : Prop := (isO G p0 1 ∧ w_X1_thing T (fun r4 G3 => Ext G G3 → isO G3 p3 53 ∧ vp_in ((0 : Int32)) (gN G3 (ad p3)) ∧ ∀ G6 : Hp, G6 = wL G3 (ad p3) ((0 : Int32)).toNatClampNeg r4.toInt64 → Q ((0 : Int32)) G6) (fun a1 G2 => Ext G G2 → isO G2 (some a1) 17 ∧ (w_X0_thing_13 T Q ((some a1)) G2)) p0 p1 p2 G)
theorem pd_X0_thing : (parseMethodDescriptor yX0_thing.desc).map (fun d => d.parameters.length) = some 4 := by decide +kernel
set_option maxHeartbeats 4000000 in
theorem ct_X0_thing {l : Launch} {D : va_G} {T : Nat → ClassId} {Z : Heap} {G0 : Hp} {Q : Int32 → Hp → Prop} {p0 : Option Nat} {p1 : Int32} {p2 : Int32} {p3 : Option Nat} (hLf : l.flags = flags0) (hw : w_X0_thing T Q p0 p1 p2 p3 G0) : CT (twd D T Z) (Evd D T Z) l yX0_thing (Cond.codeWith yX0_thing cX0_thing 5 (some .int) [(0, 10, 13, 18)]) 9 164 [va_rf p0, .int p1, .int p2, va_rf p3] G0 (qI Q) (fun _ _ => False) := by
  refine CT.ofW (cc := cX0_thing) (nL := 5) (ret := (some .int)) Ext.rf (by decide) (Or.inr ⟨_, rfl⟩) ?_
  intro p e s m below meth c hx hb hml hown hr hlk hnm hcb hm hc hn hE I
  have C : Cx p s m meth c D T Z "EndingTownLaw" cX0_thing 5 (some .int) := ⟨hx, hb, hml, hown, hE, hr, hlk⟩
  have htab := tabOf hn hm hc hcb
  refine w_entry [.inr (.inl p0), .inl p1, .inl p2, .inr (.inl p3)] (Nat.le_of_ble_eq_true rfl) (fun ls hl => ?_)
  have hl : LH ls 5 [(0, .inr (.inl p0)), (1, .inl p1), (2, .inl p2), (3, .inr (.inl p3))] := hl
  have h := hw
  refine l_ald_n C dX0_thing_0 hl 3 rfl rfl ?_
  refine lv_iconst (v := 0) C.1 C.2.1 dX0_thing_1 (by decide) ?_
  refine l_ald_n C dX0_thing_2 hl 0 rfl rfl ?_
  refine l_ild_n C dX0_thing_3 hl 1 rfl rfl ?_
  refine l_ild_n C dX0_thing_4 hl 2 rfl rfl ?_
  obtain ⟨ho7, h⟩ := h
  refine k_call Ext.tr C I (k_V (r := p0) (As := [.int p1, .int p2]) (rest := [.int ((0 : Int32)), va_rf p3]) (y := yX1_thing) C ⟨ho7.ad.1, I.recv C.2.2.2.2.1 ho7 (by decide)⟩ q1105 q1106 q1107 (Or.inl rfl) q1108 (by decide) rfl pd_X1_thing rfl dX0_thing_5) (ct_X1_thing hLf h) hl.1 dX0_thing_5 [.inl ((0 : Int32)), .inr (.inl p3)] rfl (Nat.le_of_ble_eq_true rfl) (Or.inl rfl) q1108 q100 ⟨Nat.le_of_ble_eq_true rfl, Nat.le_of_ble_eq_true rfl⟩ (fun v G3 H locs cells slots xG3 hq I => ?_) (fun a1 G2 H locs cells slots xG2 hq I => ?_)
  · obtain ⟨r4, rfl, h⟩ := hq
    have h := h xG3
    refine lv_i2l C.1 C.2.1 dX0_thing_8 rfl ?_
    obtain ⟨ho5, h⟩ := h
    obtain ⟨hi, h⟩ := h
    refine A_last C I ho5 hi dX0_thing_9 (fun H locs G6 eG6 xG6 I => ?_)
    have h := h G6 eG6
    refine lv_goto (tgt := 17) C.1 C.2.1 dX0_thing_10 (by decide) ?_
    refine lv_iconst (v := 0) C.1 C.2.1 dX0_thing_17 (by decide) ?_
    exact r_int C.1 C.2.1 C.2.2.2.2.2.1 rfl C.2.2.2.2.2.2 ⟨rfl, rfl⟩ I dX0_thing_18 ⟨_, rfl, h⟩
  · have hq := hq xG2
    obtain ⟨ho9, h⟩ := hq
    refine h_catch (kd := 17) C I ho9 (by decide) htab q1062 (by decide) (by decide) ?_
    exact b_X0_thing_13 C htab hLf ((some a1)) G2 _ _ _ _ _ h I (hl.sub [] rfl)
def w_X0_word_17 (T : Nat → ClassId) (Q : Int32 → Hp → Prop) (t0 : Option Nat) (G : Hp) : Prop := Q ((1 : Int32)) G
set_option maxHeartbeats 4000000 in
theorem b_X0_word_17 {G0 : Hp} {Q : Int32 → Hp → Prop} (C : Cx p s m meth c D T Z "EndingTownLaw" cX0_word 7 (some .int)) (htab : TabIs c [(0, 14, 17, 18)]) (hLf : l.flags = flags0) : ∀ (t0 : Option Nat) (G : Hp) (H : Heap) (locs : List Loc) (cells slots : Nat) (ls : Array Slot), w_X0_word_17 T Q t0 G → HI (twd D T Z) G0 s (rmX (twd D T Z) 8 145 G0) H locs cells slots G → LH ls 7 [] → W p l e (rmX (twd D T Z) 8 145 G0) s m args below meth c H locs cells slots (MQX (twd D T Z) G0 (qI Q) (fun _ _ => False) below s) (F0 m 17 ls [va_rf t0]) := by
  intro t0 G H locs cells slots ls h I hl
  refine l_ast C dX0_word_17 hl (by decide) rfl (fun ls hl => ?_)
  have hl : LH ls 7 [(6, .inr (.inl t0))] := hl
  refine lv_iconst (v := 1) C.1 C.2.1 dX0_word_19 (by decide) ?_
  exact r_int C.1 C.2.1 C.2.2.2.2.2.1 rfl C.2.2.2.2.2.2 ⟨rfl, rfl⟩ I dX0_word_20 ⟨_, rfl, h⟩
def w_X0_word (T : Nat → ClassId) (Q : Int32 → Hp → Prop) (p0 : Option Nat) (p1 : Int32) (p2 : Int32) (p3 : Int32) (p4 : Int32) (p5 : Option Nat) (G : Hp) : Prop := (isO G p0 1 ∧ w_X1_word T (fun r4 G3 => Ext G G3 → isO G3 p5 53 ∧ vp_in ((0 : Int32)) (gN G3 (ad p5)) ∧ ∀ G6 : Hp, G6 = wL G3 (ad p5) ((0 : Int32)).toNatClampNeg r4.toInt64 → Q ((0 : Int32)) G6) (fun a1 G2 => Ext G G2 → isO G2 (some a1) 17 ∧ (w_X0_word_17 T Q ((some a1)) G2)) p0 p1 p2 p3 p4 G)
theorem pd_X0_word : (parseMethodDescriptor yX0_word.desc).map (fun d => d.parameters.length) = some 6 := by decide +kernel
set_option maxHeartbeats 4000000 in
theorem ct_X0_word {l : Launch} {D : va_G} {T : Nat → ClassId} {Z : Heap} {G0 : Hp} {Q : Int32 → Hp → Prop} {p0 : Option Nat} {p1 : Int32} {p2 : Int32} {p3 : Int32} {p4 : Int32} {p5 : Option Nat} (hLf : l.flags = flags0) (hw : w_X0_word T Q p0 p1 p2 p3 p4 p5 G0) : CT (twd D T Z) (Evd D T Z) l yX0_word (Cond.codeWith yX0_word cX0_word 7 (some .int) [(0, 14, 17, 18)]) 8 145 [va_rf p0, .int p1, .int p2, .int p3, .int p4, va_rf p5] G0 (qI Q) (fun _ _ => False) := by
  refine CT.ofW (cc := cX0_word) (nL := 7) (ret := (some .int)) Ext.rf (by decide) (Or.inr ⟨_, rfl⟩) ?_
  intro p e s m below meth c hx hb hml hown hr hlk hnm hcb hm hc hn hE I
  have C : Cx p s m meth c D T Z "EndingTownLaw" cX0_word 7 (some .int) := ⟨hx, hb, hml, hown, hE, hr, hlk⟩
  have htab := tabOf hn hm hc hcb
  refine w_entry [.inr (.inl p0), .inl p1, .inl p2, .inl p3, .inl p4, .inr (.inl p5)] (Nat.le_of_ble_eq_true rfl) (fun ls hl => ?_)
  have hl : LH ls 7 [(0, .inr (.inl p0)), (1, .inl p1), (2, .inl p2), (3, .inl p3), (4, .inl p4), (5, .inr (.inl p5))] := hl
  have h := hw
  refine l_ald C dX0_word_0 hl 5 rfl ?_
  refine lv_iconst (v := 0) C.1 C.2.1 dX0_word_2 (by decide) ?_
  refine l_ald_n C dX0_word_3 hl 0 rfl rfl ?_
  refine l_ild_n C dX0_word_4 hl 1 rfl rfl ?_
  refine l_ild_n C dX0_word_5 hl 2 rfl rfl ?_
  refine l_ild_n C dX0_word_6 hl 3 rfl rfl ?_
  refine l_ild C dX0_word_7 hl 4 rfl ?_
  obtain ⟨ho7, h⟩ := h
  refine k_call Ext.tr C I (k_V (r := p0) (As := [.int p1, .int p2, .int p3, .int p4]) (rest := [.int ((0 : Int32)), va_rf p5]) (y := yX1_word) C ⟨ho7.ad.1, I.recv C.2.2.2.2.1 ho7 (by decide)⟩ q1117 q1118 q1119 (Or.inl rfl) q1120 (by decide) rfl pd_X1_word rfl dX0_word_9) (ct_X1_word hLf h) hl.1 dX0_word_9 [.inl ((0 : Int32)), .inr (.inl p5)] rfl (Nat.le_of_ble_eq_true rfl) (Or.inl rfl) q1120 q100 ⟨Nat.le_of_ble_eq_true rfl, Nat.le_of_ble_eq_true rfl⟩ (fun v G3 H locs cells slots xG3 hq I => ?_) (fun a1 G2 H locs cells slots xG2 hq I => ?_)
  · obtain ⟨r4, rfl, h⟩ := hq
    have h := h xG3
    refine lv_i2l C.1 C.2.1 dX0_word_12 rfl ?_
    obtain ⟨ho5, h⟩ := h
    obtain ⟨hi, h⟩ := h
    refine A_last C I ho5 hi dX0_word_13 (fun H locs G6 eG6 xG6 I => ?_)
    have h := h G6 eG6
    refine lv_goto (tgt := 21) C.1 C.2.1 dX0_word_14 (by decide) ?_
    refine lv_iconst (v := 0) C.1 C.2.1 dX0_word_21 (by decide) ?_
    exact r_int C.1 C.2.1 C.2.2.2.2.2.1 rfl C.2.2.2.2.2.2 ⟨rfl, rfl⟩ I dX0_word_22 ⟨_, rfl, h⟩
  · have hq := hq xG2
    obtain ⟨ho9, h⟩ := hq
    refine h_catch (kd := 17) C I ho9 (by decide) htab q1062 (by decide) (by decide) ?_
    exact b_X0_word_17 C htab hLf ((some a1)) G2 _ _ _ _ _ h I (hl.sub [] rfl)
def w_X0_apart_12 (T : Nat → ClassId) (Q : Int32 → Hp → Prop) (t0 : Option Nat) (G : Hp) : Prop := Q ((1 : Int32)) G
set_option maxHeartbeats 4000000 in
theorem b_X0_apart_12 {G0 : Hp} {Q : Int32 → Hp → Prop} (C : Cx p s m meth c D T Z "EndingTownLaw" cX0_apart 4 (some .int)) (htab : TabIs c [(0, 9, 12, 13)]) (hLf : l.flags = flags0) : ∀ (t0 : Option Nat) (G : Hp) (H : Heap) (locs : List Loc) (cells slots : Nat) (ls : Array Slot), w_X0_apart_12 T Q t0 G → HI (twd D T Z) G0 s (rmX (twd D T Z) 8 144 G0) H locs cells slots G → LH ls 4 [] → W p l e (rmX (twd D T Z) 8 144 G0) s m args below meth c H locs cells slots (MQX (twd D T Z) G0 (qI Q) (fun _ _ => False) below s) (F0 m 12 ls [va_rf t0]) := by
  intro t0 G H locs cells slots ls h I hl
  refine l_ast_n C dX0_apart_12 rfl hl (by decide) rfl (fun ls hl => ?_)
  have hl : LH ls 4 [(3, .inr (.inl t0))] := hl
  refine lv_iconst (v := 1) C.1 C.2.1 dX0_apart_13 (by decide) ?_
  exact r_int C.1 C.2.1 C.2.2.2.2.2.1 rfl C.2.2.2.2.2.2 ⟨rfl, rfl⟩ I dX0_apart_14 ⟨_, rfl, h⟩
def w_X0_apart (T : Nat → ClassId) (Q : Int32 → Hp → Prop) (p0 : Option Nat) (p1 : Int32) (p2 : Option Nat) (G : Hp) : Prop := (isO G p0 1 ∧ w_X1_apart T (fun r4 G3 => Ext G G3 → isO G3 p2 53 ∧ vp_in ((0 : Int32)) (gN G3 (ad p2)) ∧ ∀ G6 : Hp, G6 = wL G3 (ad p2) ((0 : Int32)).toNatClampNeg r4.toInt64 → Q ((0 : Int32)) G6) (fun a1 G2 => Ext G G2 → isO G2 (some a1) 18 ∧ (w_X0_apart_12 T Q ((some a1)) G2)) p0 p1 G)
theorem pd_X0_apart : (parseMethodDescriptor yX0_apart.desc).map (fun d => d.parameters.length) = some 3 := by decide +kernel
set_option maxHeartbeats 4000000 in
theorem ct_X0_apart {l : Launch} {D : va_G} {T : Nat → ClassId} {Z : Heap} {G0 : Hp} {Q : Int32 → Hp → Prop} {p0 : Option Nat} {p1 : Int32} {p2 : Option Nat} (hLf : l.flags = flags0) (hw : w_X0_apart T Q p0 p1 p2 G0) : CT (twd D T Z) (Evd D T Z) l yX0_apart (Cond.codeWith yX0_apart cX0_apart 4 (some .int) [(0, 9, 12, 13)]) 8 144 [va_rf p0, .int p1, va_rf p2] G0 (qI Q) (fun _ _ => False) := by
  refine CT.ofW (cc := cX0_apart) (nL := 4) (ret := (some .int)) Ext.rf (by decide) (Or.inr ⟨_, rfl⟩) ?_
  intro p e s m below meth c hx hb hml hown hr hlk hnm hcb hm hc hn hE I
  have C : Cx p s m meth c D T Z "EndingTownLaw" cX0_apart 4 (some .int) := ⟨hx, hb, hml, hown, hE, hr, hlk⟩
  have htab := tabOf hn hm hc hcb
  refine w_entry [.inr (.inl p0), .inl p1, .inr (.inl p2)] (Nat.le_of_ble_eq_true rfl) (fun ls hl => ?_)
  have hl : LH ls 4 [(0, .inr (.inl p0)), (1, .inl p1), (2, .inr (.inl p2))] := hl
  have h := hw
  refine l_ald_n C dX0_apart_0 hl 2 rfl rfl ?_
  refine lv_iconst (v := 0) C.1 C.2.1 dX0_apart_1 (by decide) ?_
  refine l_ald_n C dX0_apart_2 hl 0 rfl rfl ?_
  refine l_ild_n C dX0_apart_3 hl 1 rfl rfl ?_
  obtain ⟨ho7, h⟩ := h
  refine k_call Ext.tr C I (k_V (r := p0) (As := [.int p1]) (rest := [.int ((0 : Int32)), va_rf p2]) (y := yX1_apart) C ⟨ho7.ad.1, I.recv C.2.2.2.2.1 ho7 (by decide)⟩ q1144 q1145 q1146 (Or.inl rfl) q1147 (by decide) rfl pd_X1_apart rfl dX0_apart_4) (ct_X1_apart hLf h) hl.1 dX0_apart_4 [.inl ((0 : Int32)), .inr (.inl p2)] rfl (Nat.le_of_ble_eq_true rfl) (Or.inl rfl) q1147 q100 ⟨Nat.le_of_ble_eq_true rfl, Nat.le_of_ble_eq_true rfl⟩ (fun v G3 H locs cells slots xG3 hq I => ?_) (fun a1 G2 H locs cells slots xG2 hq I => ?_)
  · obtain ⟨r4, rfl, h⟩ := hq
    have h := h xG3
    refine lv_i2l C.1 C.2.1 dX0_apart_7 rfl ?_
    obtain ⟨ho5, h⟩ := h
    obtain ⟨hi, h⟩ := h
    refine A_last C I ho5 hi dX0_apart_8 (fun H locs G6 eG6 xG6 I => ?_)
    have h := h G6 eG6
    refine lv_goto (tgt := 15) C.1 C.2.1 dX0_apart_9 (by decide) ?_
    refine lv_iconst (v := 0) C.1 C.2.1 dX0_apart_15 (by decide) ?_
    exact r_int C.1 C.2.1 C.2.2.2.2.2.1 rfl C.2.2.2.2.2.2 ⟨rfl, rfl⟩ I dX0_apart_16 ⟨_, rfl, h⟩
  · have hq := hq xG2
    obtain ⟨ho9, h⟩ := hq
    refine h_catch (kd := 18) C I ho9 (by decide) htab q634 (by decide) (by decide) ?_
    exact b_X0_apart_12 C htab hLf ((some a1)) G2 _ _ _ _ _ h I (hl.sub [] rfl)
def w_X0_way_12 (T : Nat → ClassId) (Q : Int32 → Hp → Prop) (t0 : Option Nat) (G : Hp) : Prop := Q ((1 : Int32)) G
set_option maxHeartbeats 4000000 in
theorem b_X0_way_12 {G0 : Hp} {Q : Int32 → Hp → Prop} (C : Cx p s m meth c D T Z "EndingTownLaw" cX0_way 4 (some .int)) (htab : TabIs c [(0, 9, 12, 18)]) (hLf : l.flags = flags0) : ∀ (t0 : Option Nat) (G : Hp) (H : Heap) (locs : List Loc) (cells slots : Nat) (ls : Array Slot), w_X0_way_12 T Q t0 G → HI (twd D T Z) G0 s (rmX (twd D T Z) 8 141 G0) H locs cells slots G → LH ls 4 [] → W p l e (rmX (twd D T Z) 8 141 G0) s m args below meth c H locs cells slots (MQX (twd D T Z) G0 (qI Q) (fun _ _ => False) below s) (F0 m 12 ls [va_rf t0]) := by
  intro t0 G H locs cells slots ls h I hl
  refine l_ast_n C dX0_way_12 rfl hl (by decide) rfl (fun ls hl => ?_)
  have hl : LH ls 4 [(3, .inr (.inl t0))] := hl
  refine lv_iconst (v := 1) C.1 C.2.1 dX0_way_13 (by decide) ?_
  exact r_int C.1 C.2.1 C.2.2.2.2.2.1 rfl C.2.2.2.2.2.2 ⟨rfl, rfl⟩ I dX0_way_14 ⟨_, rfl, h⟩
def w_X0_way (T : Nat → ClassId) (Q : Int32 → Hp → Prop) (p0 : Option Nat) (p1 : Int32) (p2 : Option Nat) (G : Hp) : Prop := (isO G p0 1 ∧ w_X1_way T (fun r4 G3 => Ext G G3 → isO G3 p2 53 ∧ vp_in ((0 : Int32)) (gN G3 (ad p2)) ∧ ∀ G6 : Hp, G6 = wL G3 (ad p2) ((0 : Int32)).toNatClampNeg r4.toInt64 → Q ((0 : Int32)) G6) (fun a1 G2 => Ext G G2 → isO G2 (some a1) 17 ∧ (w_X0_way_12 T Q ((some a1)) G2)) p0 p1 G)
theorem pd_X0_way : (parseMethodDescriptor yX0_way.desc).map (fun d => d.parameters.length) = some 3 := by decide +kernel
set_option maxHeartbeats 4000000 in
theorem ct_X0_way {l : Launch} {D : va_G} {T : Nat → ClassId} {Z : Heap} {G0 : Hp} {Q : Int32 → Hp → Prop} {p0 : Option Nat} {p1 : Int32} {p2 : Option Nat} (hLf : l.flags = flags0) (hw : w_X0_way T Q p0 p1 p2 G0) : CT (twd D T Z) (Evd D T Z) l yX0_way (Cond.codeWith yX0_way cX0_way 4 (some .int) [(0, 9, 12, 18)]) 8 141 [va_rf p0, .int p1, va_rf p2] G0 (qI Q) (fun _ _ => False) := by
  refine CT.ofW (cc := cX0_way) (nL := 4) (ret := (some .int)) Ext.rf (by decide) (Or.inr ⟨_, rfl⟩) ?_
  intro p e s m below meth c hx hb hml hown hr hlk hnm hcb hm hc hn hE I
  have C : Cx p s m meth c D T Z "EndingTownLaw" cX0_way 4 (some .int) := ⟨hx, hb, hml, hown, hE, hr, hlk⟩
  have htab := tabOf hn hm hc hcb
  refine w_entry [.inr (.inl p0), .inl p1, .inr (.inl p2)] (Nat.le_of_ble_eq_true rfl) (fun ls hl => ?_)
  have hl : LH ls 4 [(0, .inr (.inl p0)), (1, .inl p1), (2, .inr (.inl p2))] := hl
  have h := hw
  refine l_ald_n C dX0_way_0 hl 2 rfl rfl ?_
  refine lv_iconst (v := 0) C.1 C.2.1 dX0_way_1 (by decide) ?_
  refine l_ald_n C dX0_way_2 hl 0 rfl rfl ?_
  refine l_ild_n C dX0_way_3 hl 1 rfl rfl ?_
  obtain ⟨ho7, h⟩ := h
  refine k_call Ext.tr C I (k_V (r := p0) (As := [.int p1]) (rest := [.int ((0 : Int32)), va_rf p2]) (y := yX1_way) C ⟨ho7.ad.1, I.recv C.2.2.2.2.1 ho7 (by decide)⟩ q1162 q1163 q1164 (Or.inl rfl) q1165 (by decide) rfl pd_X1_way rfl dX0_way_4) (ct_X1_way hLf h) hl.1 dX0_way_4 [.inl ((0 : Int32)), .inr (.inl p2)] rfl (Nat.le_of_ble_eq_true rfl) (Or.inl rfl) q1165 q100 ⟨Nat.le_of_ble_eq_true rfl, Nat.le_of_ble_eq_true rfl⟩ (fun v G3 H locs cells slots xG3 hq I => ?_) (fun a1 G2 H locs cells slots xG2 hq I => ?_)
  · obtain ⟨r4, rfl, h⟩ := hq
    have h := h xG3
    refine lv_i2l C.1 C.2.1 dX0_way_7 rfl ?_
    obtain ⟨ho5, h⟩ := h
    obtain ⟨hi, h⟩ := h
    refine A_last C I ho5 hi dX0_way_8 (fun H locs G6 eG6 xG6 I => ?_)
    have h := h G6 eG6
    refine lv_goto (tgt := 15) C.1 C.2.1 dX0_way_9 (by decide) ?_
    refine lv_iconst (v := 0) C.1 C.2.1 dX0_way_15 (by decide) ?_
    exact r_int C.1 C.2.1 C.2.2.2.2.2.1 rfl C.2.2.2.2.2.2 ⟨rfl, rfl⟩ I dX0_way_16 ⟨_, rfl, h⟩
  · have hq := hq xG2
    obtain ⟨ho9, h⟩ := hq
    refine h_catch (kd := 17) C I ho9 (by decide) htab q1062 (by decide) (by decide) ?_
    exact b_X0_way_12 C htab hLf ((some a1)) G2 _ _ _ _ _ h I (hl.sub [] rfl)
def w_X0_say_19 (T : Nat → ClassId) (Q : Int32 → Hp → Prop) (t0 : Option Nat) (G : Hp) : Prop := Q ((1 : Int32)) G
set_option maxHeartbeats 4000000 in
theorem b_X0_say_19 {G0 : Hp} {Q : Int32 → Hp → Prop} (C : Cx p s m meth c D T Z "EndingTownLaw" cX0_say 8 (some .int)) (htab : TabIs c [(0, 16, 19, 18)]) (hLf : l.flags = flags0) : ∀ (t0 : Option Nat) (G : Hp) (H : Heap) (locs : List Loc) (cells slots : Nat) (ls : Array Slot), w_X0_say_19 T Q t0 G → HI (twd D T Z) G0 s (rmX (twd D T Z) 9 274 G0) H locs cells slots G → LH ls 8 [] → W p l e (rmX (twd D T Z) 9 274 G0) s m args below meth c H locs cells slots (MQX (twd D T Z) G0 (qI Q) (fun _ _ => False) below s) (F0 m 19 ls [va_rf t0]) := by
  intro t0 G H locs cells slots ls h I hl
  refine l_ast C dX0_say_19 hl (by decide) rfl (fun ls hl => ?_)
  have hl : LH ls 8 [(7, .inr (.inl t0))] := hl
  refine lv_iconst (v := 1) C.1 C.2.1 dX0_say_21 (by decide) ?_
  exact r_int C.1 C.2.1 C.2.2.2.2.2.1 rfl C.2.2.2.2.2.2 ⟨rfl, rfl⟩ I dX0_say_22 ⟨_, rfl, h⟩
def w_X0_say (T : Nat → ClassId) (Q : Int32 → Hp → Prop) (p0 : Option Nat) (p1 : Int32) (p2 : Int32) (p3 : Int32) (p4 : Int32) (p5 : Int32) (p6 : Option Nat) (G : Hp) : Prop := (isO G p0 1 ∧ w_X1_say T (fun r4 G3 => Ext G G3 → isO G3 p6 53 ∧ vp_in ((0 : Int32)) (gN G3 (ad p6)) ∧ ∀ G6 : Hp, G6 = wL G3 (ad p6) ((0 : Int32)).toNatClampNeg r4.toInt64 → Q ((0 : Int32)) G6) (fun a1 G2 => Ext G G2 → isO G2 (some a1) 17 ∧ (w_X0_say_19 T Q ((some a1)) G2)) p0 p1 p2 p3 p4 p5 G)
theorem pd_X0_say : (parseMethodDescriptor yX0_say.desc).map (fun d => d.parameters.length) = some 7 := by decide +kernel
set_option maxHeartbeats 4000000 in
theorem ct_X0_say {l : Launch} {D : va_G} {T : Nat → ClassId} {Z : Heap} {G0 : Hp} {Q : Int32 → Hp → Prop} {p0 : Option Nat} {p1 : Int32} {p2 : Int32} {p3 : Int32} {p4 : Int32} {p5 : Int32} {p6 : Option Nat} (hLf : l.flags = flags0) (hw : w_X0_say T Q p0 p1 p2 p3 p4 p5 p6 G0) : CT (twd D T Z) (Evd D T Z) l yX0_say (Cond.codeWith yX0_say cX0_say 8 (some .int) [(0, 16, 19, 18)]) 9 274 [va_rf p0, .int p1, .int p2, .int p3, .int p4, .int p5, va_rf p6] G0 (qI Q) (fun _ _ => False) := by
  refine CT.ofW (cc := cX0_say) (nL := 8) (ret := (some .int)) Ext.rf (by decide) (Or.inr ⟨_, rfl⟩) ?_
  intro p e s m below meth c hx hb hml hown hr hlk hnm hcb hm hc hn hE I
  have C : Cx p s m meth c D T Z "EndingTownLaw" cX0_say 8 (some .int) := ⟨hx, hb, hml, hown, hE, hr, hlk⟩
  have htab := tabOf hn hm hc hcb
  refine w_entry [.inr (.inl p0), .inl p1, .inl p2, .inl p3, .inl p4, .inl p5, .inr (.inl p6)] (Nat.le_of_ble_eq_true rfl) (fun ls hl => ?_)
  have hl : LH ls 8 [(0, .inr (.inl p0)), (1, .inl p1), (2, .inl p2), (3, .inl p3), (4, .inl p4), (5, .inl p5), (6, .inr (.inl p6))] := hl
  have h := hw
  refine l_ald C dX0_say_0 hl 6 rfl ?_
  refine lv_iconst (v := 0) C.1 C.2.1 dX0_say_2 (by decide) ?_
  refine l_ald_n C dX0_say_3 hl 0 rfl rfl ?_
  refine l_ild_n C dX0_say_4 hl 1 rfl rfl ?_
  refine l_ild_n C dX0_say_5 hl 2 rfl rfl ?_
  refine l_ild_n C dX0_say_6 hl 3 rfl rfl ?_
  refine l_ild C dX0_say_7 hl 4 rfl ?_
  refine l_ild C dX0_say_9 hl 5 rfl ?_
  obtain ⟨ho7, h⟩ := h
  refine k_call Ext.tr C I (k_V (r := p0) (As := [.int p1, .int p2, .int p3, .int p4, .int p5]) (rest := [.int ((0 : Int32)), va_rf p6]) (y := yX1_say) C ⟨ho7.ad.1, I.recv C.2.2.2.2.1 ho7 (by decide)⟩ q1169 q1170 q1171 (Or.inl rfl) q1172 (by decide) rfl pd_X1_say rfl dX0_say_11) (ct_X1_say hLf h) hl.1 dX0_say_11 [.inl ((0 : Int32)), .inr (.inl p6)] rfl (Nat.le_of_ble_eq_true rfl) (Or.inl rfl) q1172 q100 ⟨Nat.le_of_ble_eq_true rfl, Nat.le_of_ble_eq_true rfl⟩ (fun v G3 H locs cells slots xG3 hq I => ?_) (fun a1 G2 H locs cells slots xG2 hq I => ?_)
  · obtain ⟨r4, rfl, h⟩ := hq
    have h := h xG3
    refine lv_i2l C.1 C.2.1 dX0_say_14 rfl ?_
    obtain ⟨ho5, h⟩ := h
    obtain ⟨hi, h⟩ := h
    refine A_last C I ho5 hi dX0_say_15 (fun H locs G6 eG6 xG6 I => ?_)
    have h := h G6 eG6
    refine lv_goto (tgt := 23) C.1 C.2.1 dX0_say_16 (by decide) ?_
    refine lv_iconst (v := 0) C.1 C.2.1 dX0_say_23 (by decide) ?_
    exact r_int C.1 C.2.1 C.2.2.2.2.2.1 rfl C.2.2.2.2.2.2 ⟨rfl, rfl⟩ I dX0_say_24 ⟨_, rfl, h⟩
  · have hq := hq xG2
    obtain ⟨ho9, h⟩ := hq
    refine h_catch (kd := 17) C I ho9 (by decide) htab q1062 (by decide) (by decide) ?_
    exact b_X0_say_19 C htab hLf ((some a1)) G2 _ _ _ _ _ h I (hl.sub [] rfl)
def w_X0_utter_15 (T : Nat → ClassId) (Q : Int32 → Hp → Prop) (t0 : Option Nat) (G : Hp) : Prop := Q ((1 : Int32)) G
set_option maxHeartbeats 4000000 in
theorem b_X0_utter_15 {G0 : Hp} {Q : Int32 → Hp → Prop} (C : Cx p s m meth c D T Z "EndingTownLaw" cX0_utter 6 (some .int)) (htab : TabIs c [(0, 12, 15, 18), (0, 12, 19, 13)]) (hLf : l.flags = flags0) : ∀ (t0 : Option Nat) (G : Hp) (H : Heap) (locs : List Loc) (cells slots : Nat) (ls : Array Slot), w_X0_utter_15 T Q t0 G → HI (twd D T Z) G0 s (rmX (twd D T Z) 9 277 G0) H locs cells slots G → LH ls 6 [] → W p l e (rmX (twd D T Z) 9 277 G0) s m args below meth c H locs cells slots (MQX (twd D T Z) G0 (qI Q) (fun _ _ => False) below s) (F0 m 15 ls [va_rf t0]) := by
  intro t0 G H locs cells slots ls h I hl
  refine l_ast C dX0_utter_15 hl (by decide) rfl (fun ls hl => ?_)
  have hl : LH ls 6 [(5, .inr (.inl t0))] := hl
  refine lv_iconst (v := 1) C.1 C.2.1 dX0_utter_17 (by decide) ?_
  exact r_int C.1 C.2.1 C.2.2.2.2.2.1 rfl C.2.2.2.2.2.2 ⟨rfl, rfl⟩ I dX0_utter_18 ⟨_, rfl, h⟩
def w_X0_utter_19 (T : Nat → ClassId) (Q : Int32 → Hp → Prop) (t0 : Option Nat) (G : Hp) : Prop := Q ((2 : Int32)) G
set_option maxHeartbeats 4000000 in
theorem b_X0_utter_19 {G0 : Hp} {Q : Int32 → Hp → Prop} (C : Cx p s m meth c D T Z "EndingTownLaw" cX0_utter 6 (some .int)) (htab : TabIs c [(0, 12, 15, 18), (0, 12, 19, 13)]) (hLf : l.flags = flags0) : ∀ (t0 : Option Nat) (G : Hp) (H : Heap) (locs : List Loc) (cells slots : Nat) (ls : Array Slot), w_X0_utter_19 T Q t0 G → HI (twd D T Z) G0 s (rmX (twd D T Z) 9 277 G0) H locs cells slots G → LH ls 6 [] → W p l e (rmX (twd D T Z) 9 277 G0) s m args below meth c H locs cells slots (MQX (twd D T Z) G0 (qI Q) (fun _ _ => False) below s) (F0 m 19 ls [va_rf t0]) := by
  intro t0 G H locs cells slots ls h I hl
  refine l_ast C dX0_utter_19 hl (by decide) rfl (fun ls hl => ?_)
  have hl : LH ls 6 [(5, .inr (.inl t0))] := hl
  refine lv_iconst (v := 2) C.1 C.2.1 dX0_utter_21 (by decide) ?_
  exact r_int C.1 C.2.1 C.2.2.2.2.2.1 rfl C.2.2.2.2.2.2 ⟨rfl, rfl⟩ I dX0_utter_22 ⟨_, rfl, h⟩
def w_X0_utter (T : Nat → ClassId) (Q : Int32 → Hp → Prop) (p0 : Option Nat) (p1 : Int32) (p2 : Int32) (p3 : Int32) (p4 : Option Nat) (G : Hp) : Prop := (isO G p0 1 ∧ w_X1_utter T (fun r4 G3 => Ext G G3 → isO G3 p4 53 ∧ vp_in ((0 : Int32)) (gN G3 (ad p4)) ∧ ∀ G6 : Hp, G6 = wL G3 (ad p4) ((0 : Int32)).toNatClampNeg r4.toInt64 → Q ((0 : Int32)) G6) (fun a1 G2 => Ext G G2 → (isO G2 (some a1) 17 ∧ (w_X0_utter_15 T Q ((some a1)) G2)) ∨ (isO G2 (some a1) 18 ∧ (w_X0_utter_19 T Q ((some a1)) G2))) p0 p1 p2 p3 G)
theorem pd_X0_utter : (parseMethodDescriptor yX0_utter.desc).map (fun d => d.parameters.length) = some 5 := by decide +kernel
set_option maxHeartbeats 4000000 in
theorem ct_X0_utter {l : Launch} {D : va_G} {T : Nat → ClassId} {Z : Heap} {G0 : Hp} {Q : Int32 → Hp → Prop} {p0 : Option Nat} {p1 : Int32} {p2 : Int32} {p3 : Int32} {p4 : Option Nat} (hLf : l.flags = flags0) (hw : w_X0_utter T Q p0 p1 p2 p3 p4 G0) : CT (twd D T Z) (Evd D T Z) l yX0_utter (Cond.codeWith yX0_utter cX0_utter 6 (some .int) [(0, 12, 15, 18), (0, 12, 19, 13)]) 9 277 [va_rf p0, .int p1, .int p2, .int p3, va_rf p4] G0 (qI Q) (fun _ _ => False) := by
  refine CT.ofW (cc := cX0_utter) (nL := 6) (ret := (some .int)) Ext.rf (by decide) (Or.inr ⟨_, rfl⟩) ?_
  intro p e s m below meth c hx hb hml hown hr hlk hnm hcb hm hc hn hE I
  have C : Cx p s m meth c D T Z "EndingTownLaw" cX0_utter 6 (some .int) := ⟨hx, hb, hml, hown, hE, hr, hlk⟩
  have htab := tabOf hn hm hc hcb
  refine w_entry [.inr (.inl p0), .inl p1, .inl p2, .inl p3, .inr (.inl p4)] (Nat.le_of_ble_eq_true rfl) (fun ls hl => ?_)
  have hl : LH ls 6 [(0, .inr (.inl p0)), (1, .inl p1), (2, .inl p2), (3, .inl p3), (4, .inr (.inl p4))] := hl
  have h := hw
  refine l_ald C dX0_utter_0 hl 4 rfl ?_
  refine lv_iconst (v := 0) C.1 C.2.1 dX0_utter_2 (by decide) ?_
  refine l_ald_n C dX0_utter_3 hl 0 rfl rfl ?_
  refine l_ild_n C dX0_utter_4 hl 1 rfl rfl ?_
  refine l_ild_n C dX0_utter_5 hl 2 rfl rfl ?_
  refine l_ild_n C dX0_utter_6 hl 3 rfl rfl ?_
  obtain ⟨ho7, h⟩ := h
  refine k_call Ext.tr C I (k_V (r := p0) (As := [.int p1, .int p2, .int p3]) (rest := [.int ((0 : Int32)), va_rf p4]) (y := yX1_utter) C ⟨ho7.ad.1, I.recv C.2.2.2.2.1 ho7 (by decide)⟩ q1221 q1222 q1223 (Or.inl rfl) q1224 (by decide) rfl pd_X1_utter rfl dX0_utter_7) (ct_X1_utter hLf h) hl.1 dX0_utter_7 [.inl ((0 : Int32)), .inr (.inl p4)] rfl (Nat.le_of_ble_eq_true rfl) (Or.inl rfl) q1224 q100 ⟨Nat.le_of_ble_eq_true rfl, Nat.le_of_ble_eq_true rfl⟩ (fun v G3 H locs cells slots xG3 hq I => ?_) (fun a1 G2 H locs cells slots xG2 hq I => ?_)
  · obtain ⟨r4, rfl, h⟩ := hq
    have h := h xG3
    refine lv_i2l C.1 C.2.1 dX0_utter_10 rfl ?_
    obtain ⟨ho5, h⟩ := h
    obtain ⟨hi, h⟩ := h
    refine A_last C I ho5 hi dX0_utter_11 (fun H locs G6 eG6 xG6 I => ?_)
    have h := h G6 eG6
    refine lv_goto (tgt := 23) C.1 C.2.1 dX0_utter_12 (by decide) ?_
    refine lv_iconst (v := 0) C.1 C.2.1 dX0_utter_23 (by decide) ?_
    exact r_int C.1 C.2.1 C.2.2.2.2.2.1 rfl C.2.2.2.2.2.2 ⟨rfl, rfl⟩ I dX0_utter_24 ⟨_, rfl, h⟩
  · have hq := hq xG2
    rcases hq with ⟨ho9, h⟩ | ⟨ho9, h⟩
    · refine h_catch (kd := 17) C I ho9 (by decide) htab q1062 (by decide) (by decide) ?_
      exact b_X0_utter_15 C htab hLf ((some a1)) G2 _ _ _ _ _ h I (hl.sub [] rfl)
    · refine h_catch2 C I ho9 htab q1062 q634 (by decide) (by decide) (by decide) (by decide) ?_
      exact b_X0_utter_19 C htab hLf ((some a1)) G2 _ _ _ _ _ h I (hl.sub [] rfl)
def w_X0_saying_13 (T : Nat → ClassId) (Q : Int32 → Hp → Prop) (t0 : Option Nat) (G : Hp) : Prop := Q ((1 : Int32)) G
set_option maxHeartbeats 4000000 in
theorem b_X0_saying_13 {G0 : Hp} {Q : Int32 → Hp → Prop} (C : Cx p s m meth c D T Z "EndingTownLaw" cX0_saying 5 (some .int)) (htab : TabIs c [(0, 10, 13, 18)]) (hLf : l.flags = flags0) : ∀ (t0 : Option Nat) (G : Hp) (H : Heap) (locs : List Loc) (cells slots : Nat) (ls : Array Slot), w_X0_saying_13 T Q t0 G → HI (twd D T Z) G0 s (rmX (twd D T Z) 27 744 G0) H locs cells slots G → LH ls 5 [] → W p l e (rmX (twd D T Z) 27 744 G0) s m args below meth c H locs cells slots (MQX (twd D T Z) G0 (qI Q) (fun _ _ => False) below s) (F0 m 13 ls [va_rf t0]) := by
  intro t0 G H locs cells slots ls h I hl
  refine l_ast C dX0_saying_13 hl (by decide) rfl (fun ls hl => ?_)
  have hl : LH ls 5 [(4, .inr (.inl t0))] := hl
  refine lv_iconst (v := 1) C.1 C.2.1 dX0_saying_15 (by decide) ?_
  exact r_int C.1 C.2.1 C.2.2.2.2.2.1 rfl C.2.2.2.2.2.2 ⟨rfl, rfl⟩ I dX0_saying_16 ⟨_, rfl, h⟩
def w_X0_saying (T : Nat → ClassId) (Q : Int32 → Hp → Prop) (p0 : Option Nat) (p1 : Int32) (p2 : Int32) (p3 : Option Nat) (G : Hp) : Prop := (isO G p0 1 ∧ w_X1_saying T (fun r4 G3 => Ext G G3 → isO G3 p3 53 ∧ vp_in ((0 : Int32)) (gN G3 (ad p3)) ∧ ∀ G6 : Hp, G6 = wL G3 (ad p3) ((0 : Int32)).toNatClampNeg r4.toInt64 → Q ((0 : Int32)) G6) (fun a1 G2 => Ext G G2 → isO G2 (some a1) 17 ∧ (w_X0_saying_13 T Q ((some a1)) G2)) p0 p1 p2 G)
theorem pd_X0_saying : (parseMethodDescriptor yX0_saying.desc).map (fun d => d.parameters.length) = some 4 := by decide +kernel
set_option maxHeartbeats 4000000 in
theorem ct_X0_saying {l : Launch} {D : va_G} {T : Nat → ClassId} {Z : Heap} {G0 : Hp} {Q : Int32 → Hp → Prop} {p0 : Option Nat} {p1 : Int32} {p2 : Int32} {p3 : Option Nat} (hLf : l.flags = flags0) (hw : w_X0_saying T Q p0 p1 p2 p3 G0) : CT (twd D T Z) (Evd D T Z) l yX0_saying (Cond.codeWith yX0_saying cX0_saying 5 (some .int) [(0, 10, 13, 18)]) 27 744 [va_rf p0, .int p1, .int p2, va_rf p3] G0 (qI Q) (fun _ _ => False) := by
  refine CT.ofW (cc := cX0_saying) (nL := 5) (ret := (some .int)) Ext.rf (by decide) (Or.inr ⟨_, rfl⟩) ?_
  intro p e s m below meth c hx hb hml hown hr hlk hnm hcb hm hc hn hE I
  have C : Cx p s m meth c D T Z "EndingTownLaw" cX0_saying 5 (some .int) := ⟨hx, hb, hml, hown, hE, hr, hlk⟩
  have htab := tabOf hn hm hc hcb
  refine w_entry [.inr (.inl p0), .inl p1, .inl p2, .inr (.inl p3)] (Nat.le_of_ble_eq_true rfl) (fun ls hl => ?_)
  have hl : LH ls 5 [(0, .inr (.inl p0)), (1, .inl p1), (2, .inl p2), (3, .inr (.inl p3))] := hl
  have h := hw
  refine l_ald_n C dX0_saying_0 hl 3 rfl rfl ?_
  refine lv_iconst (v := 0) C.1 C.2.1 dX0_saying_1 (by decide) ?_
  refine l_ald_n C dX0_saying_2 hl 0 rfl rfl ?_
  refine l_ild_n C dX0_saying_3 hl 1 rfl rfl ?_
  refine l_ild_n C dX0_saying_4 hl 2 rfl rfl ?_
  obtain ⟨ho7, h⟩ := h
  refine k_call Ext.tr C I (k_V (r := p0) (As := [.int p1, .int p2]) (rest := [.int ((0 : Int32)), va_rf p3]) (y := yX1_saying) C ⟨ho7.ad.1, I.recv C.2.2.2.2.1 ho7 (by decide)⟩ q1235 q1236 q1237 (Or.inl rfl) q1238 (by decide) rfl pd_X1_saying rfl dX0_saying_5) (ct_X1_saying hLf h) hl.1 dX0_saying_5 [.inl ((0 : Int32)), .inr (.inl p3)] rfl (Nat.le_of_ble_eq_true rfl) (Or.inl rfl) q1238 q100 ⟨Nat.le_of_ble_eq_true rfl, Nat.le_of_ble_eq_true rfl⟩ (fun v G3 H locs cells slots xG3 hq I => ?_) (fun a1 G2 H locs cells slots xG2 hq I => ?_)
  · obtain ⟨r4, rfl, h⟩ := hq
    have h := h xG3
    refine lv_i2l C.1 C.2.1 dX0_saying_8 rfl ?_
    obtain ⟨ho5, h⟩ := h
    obtain ⟨hi, h⟩ := h
    refine A_last C I ho5 hi dX0_saying_9 (fun H locs G6 eG6 xG6 I => ?_)
    have h := h G6 eG6
    refine lv_goto (tgt := 17) C.1 C.2.1 dX0_saying_10 (by decide) ?_
    refine lv_iconst (v := 0) C.1 C.2.1 dX0_saying_17 (by decide) ?_
    exact r_int C.1 C.2.1 C.2.2.2.2.2.1 rfl C.2.2.2.2.2.2 ⟨rfl, rfl⟩ I dX0_saying_18 ⟨_, rfl, h⟩
  · have hq := hq xG2
    obtain ⟨ho9, h⟩ := hq
    refine h_catch (kd := 17) C I ho9 (by decide) htab q1062 (by decide) (by decide) ?_
    exact b_X0_saying_13 C htab hLf ((some a1)) G2 _ _ _ _ _ h I (hl.sub [] rfl)
def w_X0_could_17 (T : Nat → ClassId) (Q : Int32 → Hp → Prop) (t0 : Option Nat) (G : Hp) : Prop := Q ((1 : Int32)) G
set_option maxHeartbeats 4000000 in
theorem b_X0_could_17 {G0 : Hp} {Q : Int32 → Hp → Prop} (C : Cx p s m meth c D T Z "EndingTownLaw" cX0_could 7 (some .int)) (htab : TabIs c [(0, 14, 17, 18)]) (hLf : l.flags = flags0) : ∀ (t0 : Option Nat) (G : Hp) (H : Heap) (locs : List Loc) (cells slots : Nat) (ls : Array Slot), w_X0_could_17 T Q t0 G → HI (twd D T Z) G0 s (rmX (twd D T Z) 11 272 G0) H locs cells slots G → LH ls 7 [] → W p l e (rmX (twd D T Z) 11 272 G0) s m args below meth c H locs cells slots (MQX (twd D T Z) G0 (qI Q) (fun _ _ => False) below s) (F0 m 17 ls [va_rf t0]) := by
  intro t0 G H locs cells slots ls h I hl
  refine l_ast C dX0_could_17 hl (by decide) rfl (fun ls hl => ?_)
  have hl : LH ls 7 [(6, .inr (.inl t0))] := hl
  refine lv_iconst (v := 1) C.1 C.2.1 dX0_could_19 (by decide) ?_
  exact r_int C.1 C.2.1 C.2.2.2.2.2.1 rfl C.2.2.2.2.2.2 ⟨rfl, rfl⟩ I dX0_could_20 ⟨_, rfl, h⟩
def w_X0_could (T : Nat → ClassId) (Q : Int32 → Hp → Prop) (p0 : Option Nat) (p1 : Int32) (p2 : Int32) (p3 : Int32) (p4 : Int32) (p5 : Option Nat) (G : Hp) : Prop := (isO G p0 1 ∧ w_X1_could T (fun r4 G3 => Ext G G3 → isO G3 p5 53 ∧ vp_in ((0 : Int32)) (gN G3 (ad p5)) ∧ ∀ G6 : Hp, G6 = wL G3 (ad p5) ((0 : Int32)).toNatClampNeg r4.toInt64 → Q ((0 : Int32)) G6) (fun a1 G2 => Ext G G2 → isO G2 (some a1) 17 ∧ (w_X0_could_17 T Q ((some a1)) G2)) p0 p1 p2 p3 p4 G)
theorem pd_X0_could : (parseMethodDescriptor yX0_could.desc).map (fun d => d.parameters.length) = some 6 := by decide +kernel
set_option maxHeartbeats 4000000 in
theorem ct_X0_could {l : Launch} {D : va_G} {T : Nat → ClassId} {Z : Heap} {G0 : Hp} {Q : Int32 → Hp → Prop} {p0 : Option Nat} {p1 : Int32} {p2 : Int32} {p3 : Int32} {p4 : Int32} {p5 : Option Nat} (hLf : l.flags = flags0) (hw : w_X0_could T Q p0 p1 p2 p3 p4 p5 G0) : CT (twd D T Z) (Evd D T Z) l yX0_could (Cond.codeWith yX0_could cX0_could 7 (some .int) [(0, 14, 17, 18)]) 11 272 [va_rf p0, .int p1, .int p2, .int p3, .int p4, va_rf p5] G0 (qI Q) (fun _ _ => False) := by
  refine CT.ofW (cc := cX0_could) (nL := 7) (ret := (some .int)) Ext.rf (by decide) (Or.inr ⟨_, rfl⟩) ?_
  intro p e s m below meth c hx hb hml hown hr hlk hnm hcb hm hc hn hE I
  have C : Cx p s m meth c D T Z "EndingTownLaw" cX0_could 7 (some .int) := ⟨hx, hb, hml, hown, hE, hr, hlk⟩
  have htab := tabOf hn hm hc hcb
  refine w_entry [.inr (.inl p0), .inl p1, .inl p2, .inl p3, .inl p4, .inr (.inl p5)] (Nat.le_of_ble_eq_true rfl) (fun ls hl => ?_)
  have hl : LH ls 7 [(0, .inr (.inl p0)), (1, .inl p1), (2, .inl p2), (3, .inl p3), (4, .inl p4), (5, .inr (.inl p5))] := hl
  have h := hw
  refine l_ald C dX0_could_0 hl 5 rfl ?_
  refine lv_iconst (v := 0) C.1 C.2.1 dX0_could_2 (by decide) ?_
  refine l_ald_n C dX0_could_3 hl 0 rfl rfl ?_
  refine l_ild_n C dX0_could_4 hl 1 rfl rfl ?_
  refine l_ild_n C dX0_could_5 hl 2 rfl rfl ?_
  refine l_ild_n C dX0_could_6 hl 3 rfl rfl ?_
  refine l_ild C dX0_could_7 hl 4 rfl ?_
  obtain ⟨ho7, h⟩ := h
  refine k_call Ext.tr C I (k_V (r := p0) (As := [.int p1, .int p2, .int p3, .int p4]) (rest := [.int ((0 : Int32)), va_rf p5]) (y := yX1_could) C ⟨ho7.ad.1, I.recv C.2.2.2.2.1 ho7 (by decide)⟩ q1270 q1271 q1272 (Or.inl rfl) q1273 (by decide) rfl pd_X1_could rfl dX0_could_9) (ct_X1_could hLf h) hl.1 dX0_could_9 [.inl ((0 : Int32)), .inr (.inl p5)] rfl (Nat.le_of_ble_eq_true rfl) (Or.inl rfl) q1273 q100 ⟨Nat.le_of_ble_eq_true rfl, Nat.le_of_ble_eq_true rfl⟩ (fun v G3 H locs cells slots xG3 hq I => ?_) (fun a1 G2 H locs cells slots xG2 hq I => ?_)
  · obtain ⟨r4, rfl, h⟩ := hq
    have h := h xG3
    refine lv_i2l C.1 C.2.1 dX0_could_12 rfl ?_
    obtain ⟨ho5, h⟩ := h
    obtain ⟨hi, h⟩ := h
    refine A_last C I ho5 hi dX0_could_13 (fun H locs G6 eG6 xG6 I => ?_)
    have h := h G6 eG6
    refine lv_goto (tgt := 21) C.1 C.2.1 dX0_could_14 (by decide) ?_
    refine lv_iconst (v := 0) C.1 C.2.1 dX0_could_21 (by decide) ?_
    exact r_int C.1 C.2.1 C.2.2.2.2.2.1 rfl C.2.2.2.2.2.2 ⟨rfl, rfl⟩ I dX0_could_22 ⟨_, rfl, h⟩
  · have hq := hq xG2
    obtain ⟨ho9, h⟩ := hq
    refine h_catch (kd := 17) C I ho9 (by decide) htab q1062 (by decide) (by decide) ?_
    exact b_X0_could_17 C htab hLf ((some a1)) G2 _ _ _ _ _ h I (hl.sub [] rfl)
def w_X0_wrong_12 (T : Nat → ClassId) (Q : Int32 → Hp → Prop) (t0 : Option Nat) (G : Hp) : Prop := Q ((1 : Int32)) G
set_option maxHeartbeats 4000000 in
theorem b_X0_wrong_12 {G0 : Hp} {Q : Int32 → Hp → Prop} (C : Cx p s m meth c D T Z "EndingTownLaw" cX0_wrong 4 (some .int)) (htab : TabIs c [(0, 9, 12, 18)]) (hLf : l.flags = flags0) : ∀ (t0 : Option Nat) (G : Hp) (H : Heap) (locs : List Loc) (cells slots : Nat) (ls : Array Slot), w_X0_wrong_12 T Q t0 G → HI (twd D T Z) G0 s (rmX (twd D T Z) 11 267 G0) H locs cells slots G → LH ls 4 [] → W p l e (rmX (twd D T Z) 11 267 G0) s m args below meth c H locs cells slots (MQX (twd D T Z) G0 (qI Q) (fun _ _ => False) below s) (F0 m 12 ls [va_rf t0]) := by
  intro t0 G H locs cells slots ls h I hl
  refine l_ast_n C dX0_wrong_12 rfl hl (by decide) rfl (fun ls hl => ?_)
  have hl : LH ls 4 [(3, .inr (.inl t0))] := hl
  refine lv_iconst (v := 1) C.1 C.2.1 dX0_wrong_13 (by decide) ?_
  exact r_int C.1 C.2.1 C.2.2.2.2.2.1 rfl C.2.2.2.2.2.2 ⟨rfl, rfl⟩ I dX0_wrong_14 ⟨_, rfl, h⟩
def w_X0_wrong (T : Nat → ClassId) (Q : Int32 → Hp → Prop) (p0 : Option Nat) (p1 : Int32) (p2 : Option Nat) (G : Hp) : Prop := (isO G p0 1 ∧ w_X1_wrong T (fun r4 G3 => Ext G G3 → isO G3 p2 53 ∧ vp_in ((0 : Int32)) (gN G3 (ad p2)) ∧ ∀ G6 : Hp, G6 = wL G3 (ad p2) ((0 : Int32)).toNatClampNeg r4.toInt64 → Q ((0 : Int32)) G6) (fun a1 G2 => Ext G G2 → isO G2 (some a1) 17 ∧ (w_X0_wrong_12 T Q ((some a1)) G2)) p0 p1 G)
theorem pd_X0_wrong : (parseMethodDescriptor yX0_wrong.desc).map (fun d => d.parameters.length) = some 3 := by decide +kernel
set_option maxHeartbeats 4000000 in
theorem ct_X0_wrong {l : Launch} {D : va_G} {T : Nat → ClassId} {Z : Heap} {G0 : Hp} {Q : Int32 → Hp → Prop} {p0 : Option Nat} {p1 : Int32} {p2 : Option Nat} (hLf : l.flags = flags0) (hw : w_X0_wrong T Q p0 p1 p2 G0) : CT (twd D T Z) (Evd D T Z) l yX0_wrong (Cond.codeWith yX0_wrong cX0_wrong 4 (some .int) [(0, 9, 12, 18)]) 11 267 [va_rf p0, .int p1, va_rf p2] G0 (qI Q) (fun _ _ => False) := by
  refine CT.ofW (cc := cX0_wrong) (nL := 4) (ret := (some .int)) Ext.rf (by decide) (Or.inr ⟨_, rfl⟩) ?_
  intro p e s m below meth c hx hb hml hown hr hlk hnm hcb hm hc hn hE I
  have C : Cx p s m meth c D T Z "EndingTownLaw" cX0_wrong 4 (some .int) := ⟨hx, hb, hml, hown, hE, hr, hlk⟩
  have htab := tabOf hn hm hc hcb
  refine w_entry [.inr (.inl p0), .inl p1, .inr (.inl p2)] (Nat.le_of_ble_eq_true rfl) (fun ls hl => ?_)
  have hl : LH ls 4 [(0, .inr (.inl p0)), (1, .inl p1), (2, .inr (.inl p2))] := hl
  have h := hw
  refine l_ald_n C dX0_wrong_0 hl 2 rfl rfl ?_
  refine lv_iconst (v := 0) C.1 C.2.1 dX0_wrong_1 (by decide) ?_
  refine l_ald_n C dX0_wrong_2 hl 0 rfl rfl ?_
  refine l_ild_n C dX0_wrong_3 hl 1 rfl rfl ?_
  obtain ⟨ho7, h⟩ := h
  refine k_call Ext.tr C I (k_V (r := p0) (As := [.int p1]) (rest := [.int ((0 : Int32)), va_rf p2]) (y := yX1_wrong) C ⟨ho7.ad.1, I.recv C.2.2.2.2.1 ho7 (by decide)⟩ q1278 q1279 q1280 (Or.inl rfl) q1281 (by decide) rfl pd_X1_wrong rfl dX0_wrong_4) (ct_X1_wrong hLf h) hl.1 dX0_wrong_4 [.inl ((0 : Int32)), .inr (.inl p2)] rfl (Nat.le_of_ble_eq_true rfl) (Or.inl rfl) q1281 q100 ⟨Nat.le_of_ble_eq_true rfl, Nat.le_of_ble_eq_true rfl⟩ (fun v G3 H locs cells slots xG3 hq I => ?_) (fun a1 G2 H locs cells slots xG2 hq I => ?_)
  · obtain ⟨r4, rfl, h⟩ := hq
    have h := h xG3
    refine lv_i2l C.1 C.2.1 dX0_wrong_7 rfl ?_
    obtain ⟨ho5, h⟩ := h
    obtain ⟨hi, h⟩ := h
    refine A_last C I ho5 hi dX0_wrong_8 (fun H locs G6 eG6 xG6 I => ?_)
    have h := h G6 eG6
    refine lv_goto (tgt := 15) C.1 C.2.1 dX0_wrong_9 (by decide) ?_
    refine lv_iconst (v := 0) C.1 C.2.1 dX0_wrong_15 (by decide) ?_
    exact r_int C.1 C.2.1 C.2.2.2.2.2.1 rfl C.2.2.2.2.2.2 ⟨rfl, rfl⟩ I dX0_wrong_16 ⟨_, rfl, h⟩
  · have hq := hq xG2
    obtain ⟨ho9, h⟩ := hq
    refine h_catch (kd := 17) C I ho9 (by decide) htab q1062 (by decide) (by decide) ?_
    exact b_X0_wrong_12 C htab hLf ((some a1)) G2 _ _ _ _ _ h I (hl.sub [] rfl)
def w_X0_mended_12 (T : Nat → ClassId) (Q : Int32 → Hp → Prop) (t0 : Option Nat) (G : Hp) : Prop := Q ((1 : Int32)) G
set_option maxHeartbeats 4000000 in
theorem b_X0_mended_12 {G0 : Hp} {Q : Int32 → Hp → Prop} (C : Cx p s m meth c D T Z "EndingTownLaw" cX0_mended 4 (some .int)) (htab : TabIs c [(0, 9, 12, 18)]) (hLf : l.flags = flags0) : ∀ (t0 : Option Nat) (G : Hp) (H : Heap) (locs : List Loc) (cells slots : Nat) (ls : Array Slot), w_X0_mended_12 T Q t0 G → HI (twd D T Z) G0 s (rmX (twd D T Z) 8 141 G0) H locs cells slots G → LH ls 4 [] → W p l e (rmX (twd D T Z) 8 141 G0) s m args below meth c H locs cells slots (MQX (twd D T Z) G0 (qI Q) (fun _ _ => False) below s) (F0 m 12 ls [va_rf t0]) := by
  intro t0 G H locs cells slots ls h I hl
  refine l_ast_n C dX0_mended_12 rfl hl (by decide) rfl (fun ls hl => ?_)
  have hl : LH ls 4 [(3, .inr (.inl t0))] := hl
  refine lv_iconst (v := 1) C.1 C.2.1 dX0_mended_13 (by decide) ?_
  exact r_int C.1 C.2.1 C.2.2.2.2.2.1 rfl C.2.2.2.2.2.2 ⟨rfl, rfl⟩ I dX0_mended_14 ⟨_, rfl, h⟩
def w_X0_mended (T : Nat → ClassId) (Q : Int32 → Hp → Prop) (p0 : Option Nat) (p1 : Int32) (p2 : Option Nat) (G : Hp) : Prop := (isO G p0 1 ∧ w_X1_mended T (fun r4 G3 => Ext G G3 → isO G3 p2 53 ∧ vp_in ((0 : Int32)) (gN G3 (ad p2)) ∧ ∀ G6 : Hp, G6 = wL G3 (ad p2) ((0 : Int32)).toNatClampNeg r4.toInt64 → Q ((0 : Int32)) G6) (fun a1 G2 => Ext G G2 → isO G2 (some a1) 17 ∧ (w_X0_mended_12 T Q ((some a1)) G2)) p0 p1 G)
theorem pd_X0_mended : (parseMethodDescriptor yX0_mended.desc).map (fun d => d.parameters.length) = some 3 := by decide +kernel
set_option maxHeartbeats 4000000 in
theorem ct_X0_mended {l : Launch} {D : va_G} {T : Nat → ClassId} {Z : Heap} {G0 : Hp} {Q : Int32 → Hp → Prop} {p0 : Option Nat} {p1 : Int32} {p2 : Option Nat} (hLf : l.flags = flags0) (hw : w_X0_mended T Q p0 p1 p2 G0) : CT (twd D T Z) (Evd D T Z) l yX0_mended (Cond.codeWith yX0_mended cX0_mended 4 (some .int) [(0, 9, 12, 18)]) 8 141 [va_rf p0, .int p1, va_rf p2] G0 (qI Q) (fun _ _ => False) := by
  refine CT.ofW (cc := cX0_mended) (nL := 4) (ret := (some .int)) Ext.rf (by decide) (Or.inr ⟨_, rfl⟩) ?_
  intro p e s m below meth c hx hb hml hown hr hlk hnm hcb hm hc hn hE I
  have C : Cx p s m meth c D T Z "EndingTownLaw" cX0_mended 4 (some .int) := ⟨hx, hb, hml, hown, hE, hr, hlk⟩
  have htab := tabOf hn hm hc hcb
  refine w_entry [.inr (.inl p0), .inl p1, .inr (.inl p2)] (Nat.le_of_ble_eq_true rfl) (fun ls hl => ?_)
  have hl : LH ls 4 [(0, .inr (.inl p0)), (1, .inl p1), (2, .inr (.inl p2))] := hl
  have h := hw
  refine l_ald_n C dX0_mended_0 hl 2 rfl rfl ?_
  refine lv_iconst (v := 0) C.1 C.2.1 dX0_mended_1 (by decide) ?_
  refine l_ald_n C dX0_mended_2 hl 0 rfl rfl ?_
  refine l_ild_n C dX0_mended_3 hl 1 rfl rfl ?_
  obtain ⟨ho7, h⟩ := h
  refine k_call Ext.tr C I (k_V (r := p0) (As := [.int p1]) (rest := [.int ((0 : Int32)), va_rf p2]) (y := yX1_mended) C ⟨ho7.ad.1, I.recv C.2.2.2.2.1 ho7 (by decide)⟩ q1289 q1290 q1291 (Or.inl rfl) q1292 (by decide) rfl pd_X1_mended rfl dX0_mended_4) (ct_X1_mended hLf h) hl.1 dX0_mended_4 [.inl ((0 : Int32)), .inr (.inl p2)] rfl (Nat.le_of_ble_eq_true rfl) (Or.inl rfl) q1292 q100 ⟨Nat.le_of_ble_eq_true rfl, Nat.le_of_ble_eq_true rfl⟩ (fun v G3 H locs cells slots xG3 hq I => ?_) (fun a1 G2 H locs cells slots xG2 hq I => ?_)
  · obtain ⟨r4, rfl, h⟩ := hq
    have h := h xG3
    refine lv_i2l C.1 C.2.1 dX0_mended_7 rfl ?_
    obtain ⟨ho5, h⟩ := h
    obtain ⟨hi, h⟩ := h
    refine A_last C I ho5 hi dX0_mended_8 (fun H locs G6 eG6 xG6 I => ?_)
    have h := h G6 eG6
    refine lv_goto (tgt := 15) C.1 C.2.1 dX0_mended_9 (by decide) ?_
    refine lv_iconst (v := 0) C.1 C.2.1 dX0_mended_15 (by decide) ?_
    exact r_int C.1 C.2.1 C.2.2.2.2.2.1 rfl C.2.2.2.2.2.2 ⟨rfl, rfl⟩ I dX0_mended_16 ⟨_, rfl, h⟩
  · have hq := hq xG2
    obtain ⟨ho9, h⟩ := hq
    refine h_catch (kd := 17) C I ho9 (by decide) htab q1062 (by decide) (by decide) ?_
    exact b_X0_mended_12 C htab hLf ((some a1)) G2 _ _ _ _ _ h I (hl.sub [] rfl)
def w_X0_silence_13 (T : Nat → ClassId) (Q : Int32 → Hp → Prop) (t0 : Option Nat) (G : Hp) : Prop := Q ((1 : Int32)) G
set_option maxHeartbeats 4000000 in
theorem b_X0_silence_13 {G0 : Hp} {Q : Int32 → Hp → Prop} (C : Cx p s m meth c D T Z "EndingTownLaw" cX0_silence 5 (some .int)) (htab : TabIs c [(0, 10, 13, 18)]) (hLf : l.flags = flags0) : ∀ (t0 : Option Nat) (G : Hp) (H : Heap) (locs : List Loc) (cells slots : Nat) (ls : Array Slot), w_X0_silence_13 T Q t0 G → HI (twd D T Z) G0 s (rmX (twd D T Z) 10 249 G0) H locs cells slots G → LH ls 5 [] → W p l e (rmX (twd D T Z) 10 249 G0) s m args below meth c H locs cells slots (MQX (twd D T Z) G0 (qI Q) (fun _ _ => False) below s) (F0 m 13 ls [va_rf t0]) := by
  intro t0 G H locs cells slots ls h I hl
  refine l_ast C dX0_silence_13 hl (by decide) rfl (fun ls hl => ?_)
  have hl : LH ls 5 [(4, .inr (.inl t0))] := hl
  refine lv_iconst (v := 1) C.1 C.2.1 dX0_silence_15 (by decide) ?_
  exact r_int C.1 C.2.1 C.2.2.2.2.2.1 rfl C.2.2.2.2.2.2 ⟨rfl, rfl⟩ I dX0_silence_16 ⟨_, rfl, h⟩
def w_X0_silence (T : Nat → ClassId) (Q : Int32 → Hp → Prop) (p0 : Option Nat) (p1 : Int32) (p2 : Int32) (p3 : Option Nat) (G : Hp) : Prop := (isO G p0 1 ∧ w_X1_silence T (fun r4 G3 => Ext G G3 → isO G3 p3 53 ∧ vp_in ((0 : Int32)) (gN G3 (ad p3)) ∧ ∀ G6 : Hp, G6 = wL G3 (ad p3) ((0 : Int32)).toNatClampNeg r4.toInt64 → Q ((0 : Int32)) G6) (fun a1 G2 => Ext G G2 → isO G2 (some a1) 17 ∧ (w_X0_silence_13 T Q ((some a1)) G2)) p0 p1 p2 G)
theorem pd_X0_silence : (parseMethodDescriptor yX0_silence.desc).map (fun d => d.parameters.length) = some 4 := by decide +kernel
set_option maxHeartbeats 4000000 in
theorem ct_X0_silence {l : Launch} {D : va_G} {T : Nat → ClassId} {Z : Heap} {G0 : Hp} {Q : Int32 → Hp → Prop} {p0 : Option Nat} {p1 : Int32} {p2 : Int32} {p3 : Option Nat} (hLf : l.flags = flags0) (hw : w_X0_silence T Q p0 p1 p2 p3 G0) : CT (twd D T Z) (Evd D T Z) l yX0_silence (Cond.codeWith yX0_silence cX0_silence 5 (some .int) [(0, 10, 13, 18)]) 10 249 [va_rf p0, .int p1, .int p2, va_rf p3] G0 (qI Q) (fun _ _ => False) := by
  refine CT.ofW (cc := cX0_silence) (nL := 5) (ret := (some .int)) Ext.rf (by decide) (Or.inr ⟨_, rfl⟩) ?_
  intro p e s m below meth c hx hb hml hown hr hlk hnm hcb hm hc hn hE I
  have C : Cx p s m meth c D T Z "EndingTownLaw" cX0_silence 5 (some .int) := ⟨hx, hb, hml, hown, hE, hr, hlk⟩
  have htab := tabOf hn hm hc hcb
  refine w_entry [.inr (.inl p0), .inl p1, .inl p2, .inr (.inl p3)] (Nat.le_of_ble_eq_true rfl) (fun ls hl => ?_)
  have hl : LH ls 5 [(0, .inr (.inl p0)), (1, .inl p1), (2, .inl p2), (3, .inr (.inl p3))] := hl
  have h := hw
  refine l_ald_n C dX0_silence_0 hl 3 rfl rfl ?_
  refine lv_iconst (v := 0) C.1 C.2.1 dX0_silence_1 (by decide) ?_
  refine l_ald_n C dX0_silence_2 hl 0 rfl rfl ?_
  refine l_ild_n C dX0_silence_3 hl 1 rfl rfl ?_
  refine l_ild_n C dX0_silence_4 hl 2 rfl rfl ?_
  obtain ⟨ho7, h⟩ := h
  refine k_call Ext.tr C I (k_V (r := p0) (As := [.int p1, .int p2]) (rest := [.int ((0 : Int32)), va_rf p3]) (y := yX1_silence) C ⟨ho7.ad.1, I.recv C.2.2.2.2.1 ho7 (by decide)⟩ q1296 q1297 q1298 (Or.inl rfl) q1299 (by decide) rfl pd_X1_silence rfl dX0_silence_5) (ct_X1_silence hLf h) hl.1 dX0_silence_5 [.inl ((0 : Int32)), .inr (.inl p3)] rfl (Nat.le_of_ble_eq_true rfl) (Or.inl rfl) q1299 q100 ⟨Nat.le_of_ble_eq_true rfl, Nat.le_of_ble_eq_true rfl⟩ (fun v G3 H locs cells slots xG3 hq I => ?_) (fun a1 G2 H locs cells slots xG2 hq I => ?_)
  · obtain ⟨r4, rfl, h⟩ := hq
    have h := h xG3
    refine lv_i2l C.1 C.2.1 dX0_silence_8 rfl ?_
    obtain ⟨ho5, h⟩ := h
    obtain ⟨hi, h⟩ := h
    refine A_last C I ho5 hi dX0_silence_9 (fun H locs G6 eG6 xG6 I => ?_)
    have h := h G6 eG6
    refine lv_goto (tgt := 17) C.1 C.2.1 dX0_silence_10 (by decide) ?_
    refine lv_iconst (v := 0) C.1 C.2.1 dX0_silence_17 (by decide) ?_
    exact r_int C.1 C.2.1 C.2.2.2.2.2.1 rfl C.2.2.2.2.2.2 ⟨rfl, rfl⟩ I dX0_silence_18 ⟨_, rfl, h⟩
  · have hq := hq xG2
    obtain ⟨ho9, h⟩ := hq
    refine h_catch (kd := 17) C I ho9 (by decide) htab q1062 (by decide) (by decide) ?_
    exact b_X0_silence_13 C htab hLf ((some a1)) G2 _ _ _ _ _ h I (hl.sub [] rfl)
def w_X0_likely_13 (T : Nat → ClassId) (Q : Int32 → Hp → Prop) (t0 : Option Nat) (G : Hp) : Prop := Q ((1 : Int32)) G
set_option maxHeartbeats 4000000 in
theorem b_X0_likely_13 {G0 : Hp} {Q : Int32 → Hp → Prop} (C : Cx p s m meth c D T Z "EndingTownLaw" cX0_likely 5 (some .int)) (htab : TabIs c [(0, 10, 13, 18)]) (hLf : l.flags = flags0) : ∀ (t0 : Option Nat) (G : Hp) (H : Heap) (locs : List Loc) (cells slots : Nat) (ls : Array Slot), w_X0_likely_13 T Q t0 G → HI (twd D T Z) G0 s (rmX (twd D T Z) 9 173 G0) H locs cells slots G → LH ls 5 [] → W p l e (rmX (twd D T Z) 9 173 G0) s m args below meth c H locs cells slots (MQX (twd D T Z) G0 (qI Q) (fun _ _ => False) below s) (F0 m 13 ls [va_rf t0]) := by
  intro t0 G H locs cells slots ls h I hl
  refine l_ast C dX0_likely_13 hl (by decide) rfl (fun ls hl => ?_)
  have hl : LH ls 5 [(4, .inr (.inl t0))] := hl
  refine lv_iconst (v := 1) C.1 C.2.1 dX0_likely_15 (by decide) ?_
  exact r_int C.1 C.2.1 C.2.2.2.2.2.1 rfl C.2.2.2.2.2.2 ⟨rfl, rfl⟩ I dX0_likely_16 ⟨_, rfl, h⟩
def w_X0_likely (T : Nat → ClassId) (Q : Int32 → Hp → Prop) (p0 : Option Nat) (p1 : Int32) (p2 : Int32) (p3 : Option Nat) (G : Hp) : Prop := (isO G p0 1 ∧ w_X1_likely T (fun r4 G3 => Ext G G3 → isO G3 p3 53 ∧ vp_in ((0 : Int32)) (gN G3 (ad p3)) ∧ ∀ G6 : Hp, G6 = wL G3 (ad p3) ((0 : Int32)).toNatClampNeg r4.toInt64 → Q ((0 : Int32)) G6) (fun a1 G2 => Ext G G2 → isO G2 (some a1) 17 ∧ (w_X0_likely_13 T Q ((some a1)) G2)) p0 p1 p2 G)
theorem pd_X0_likely : (parseMethodDescriptor yX0_likely.desc).map (fun d => d.parameters.length) = some 4 := by decide +kernel
set_option maxHeartbeats 4000000 in
theorem ct_X0_likely {l : Launch} {D : va_G} {T : Nat → ClassId} {Z : Heap} {G0 : Hp} {Q : Int32 → Hp → Prop} {p0 : Option Nat} {p1 : Int32} {p2 : Int32} {p3 : Option Nat} (hLf : l.flags = flags0) (hw : w_X0_likely T Q p0 p1 p2 p3 G0) : CT (twd D T Z) (Evd D T Z) l yX0_likely (Cond.codeWith yX0_likely cX0_likely 5 (some .int) [(0, 10, 13, 18)]) 9 173 [va_rf p0, .int p1, .int p2, va_rf p3] G0 (qI Q) (fun _ _ => False) := by
  refine CT.ofW (cc := cX0_likely) (nL := 5) (ret := (some .int)) Ext.rf (by decide) (Or.inr ⟨_, rfl⟩) ?_
  intro p e s m below meth c hx hb hml hown hr hlk hnm hcb hm hc hn hE I
  have C : Cx p s m meth c D T Z "EndingTownLaw" cX0_likely 5 (some .int) := ⟨hx, hb, hml, hown, hE, hr, hlk⟩
  have htab := tabOf hn hm hc hcb
  refine w_entry [.inr (.inl p0), .inl p1, .inl p2, .inr (.inl p3)] (Nat.le_of_ble_eq_true rfl) (fun ls hl => ?_)
  have hl : LH ls 5 [(0, .inr (.inl p0)), (1, .inl p1), (2, .inl p2), (3, .inr (.inl p3))] := hl
  have h := hw
  refine l_ald_n C dX0_likely_0 hl 3 rfl rfl ?_
  refine lv_iconst (v := 0) C.1 C.2.1 dX0_likely_1 (by decide) ?_
  refine l_ald_n C dX0_likely_2 hl 0 rfl rfl ?_
  refine l_ild_n C dX0_likely_3 hl 1 rfl rfl ?_
  refine l_ild_n C dX0_likely_4 hl 2 rfl rfl ?_
  obtain ⟨ho7, h⟩ := h
  refine k_call Ext.tr C I (k_V (r := p0) (As := [.int p1, .int p2]) (rest := [.int ((0 : Int32)), va_rf p3]) (y := yX1_likely) C ⟨ho7.ad.1, I.recv C.2.2.2.2.1 ho7 (by decide)⟩ q1303 q1304 q1305 (Or.inl rfl) q1306 (by decide) rfl pd_X1_likely rfl dX0_likely_5) (ct_X1_likely hLf h) hl.1 dX0_likely_5 [.inl ((0 : Int32)), .inr (.inl p3)] rfl (Nat.le_of_ble_eq_true rfl) (Or.inl rfl) q1306 q100 ⟨Nat.le_of_ble_eq_true rfl, Nat.le_of_ble_eq_true rfl⟩ (fun v G3 H locs cells slots xG3 hq I => ?_) (fun a1 G2 H locs cells slots xG2 hq I => ?_)
  · obtain ⟨r4, rfl, h⟩ := hq
    have h := h xG3
    refine lv_i2l C.1 C.2.1 dX0_likely_8 rfl ?_
    obtain ⟨ho5, h⟩ := h
    obtain ⟨hi, h⟩ := h
    refine A_last C I ho5 hi dX0_likely_9 (fun H locs G6 eG6 xG6 I => ?_)
    have h := h G6 eG6
    refine lv_goto (tgt := 17) C.1 C.2.1 dX0_likely_10 (by decide) ?_
    refine lv_iconst (v := 0) C.1 C.2.1 dX0_likely_17 (by decide) ?_
    exact r_int C.1 C.2.1 C.2.2.2.2.2.1 rfl C.2.2.2.2.2.2 ⟨rfl, rfl⟩ I dX0_likely_18 ⟨_, rfl, h⟩
  · have hq := hq xG2
    obtain ⟨ho9, h⟩ := hq
    refine h_catch (kd := 17) C I ho9 (by decide) htab q1062 (by decide) (by decide) ?_
    exact b_X0_likely_13 C htab hLf ((some a1)) G2 _ _ _ _ _ h I (hl.sub [] rfl)
def w_X0_worlds_12 (T : Nat → ClassId) (Q : Int32 → Hp → Prop) (t0 : Option Nat) (G : Hp) : Prop := Q ((1 : Int32)) G
set_option maxHeartbeats 4000000 in
theorem b_X0_worlds_12 {G0 : Hp} {Q : Int32 → Hp → Prop} (C : Cx p s m meth c D T Z "EndingTownLaw" cX0_worlds 4 (some .int)) (htab : TabIs c [(0, 9, 12, 13)]) (hLf : l.flags = flags0) : ∀ (t0 : Option Nat) (G : Hp) (H : Heap) (locs : List Loc) (cells slots : Nat) (ls : Array Slot), w_X0_worlds_12 T Q t0 G → HI (twd D T Z) G0 s (rmX (twd D T Z) 8 141 G0) H locs cells slots G → LH ls 4 [] → W p l e (rmX (twd D T Z) 8 141 G0) s m args below meth c H locs cells slots (MQX (twd D T Z) G0 (qI Q) (fun _ _ => False) below s) (F0 m 12 ls [va_rf t0]) := by
  intro t0 G H locs cells slots ls h I hl
  refine l_ast_n C dX0_worlds_12 rfl hl (by decide) rfl (fun ls hl => ?_)
  have hl : LH ls 4 [(3, .inr (.inl t0))] := hl
  refine lv_iconst (v := 1) C.1 C.2.1 dX0_worlds_13 (by decide) ?_
  exact r_int C.1 C.2.1 C.2.2.2.2.2.1 rfl C.2.2.2.2.2.2 ⟨rfl, rfl⟩ I dX0_worlds_14 ⟨_, rfl, h⟩
def w_X0_worlds (T : Nat → ClassId) (Q : Int32 → Hp → Prop) (p0 : Option Nat) (p1 : Int32) (p2 : Option Nat) (G : Hp) : Prop := (isO G p0 1 ∧ w_X1_worlds T (fun r4 G3 => Ext G G3 → isO G3 p2 53 ∧ vp_in ((0 : Int32)) (gN G3 (ad p2)) ∧ ∀ G6 : Hp, G6 = wL G3 (ad p2) ((0 : Int32)).toNatClampNeg r4.toInt64 → Q ((0 : Int32)) G6) (fun a1 G2 => Ext G G2 → isO G2 (some a1) 18 ∧ (w_X0_worlds_12 T Q ((some a1)) G2)) p0 p1 G)
theorem pd_X0_worlds : (parseMethodDescriptor yX0_worlds.desc).map (fun d => d.parameters.length) = some 3 := by decide +kernel
set_option maxHeartbeats 4000000 in
theorem ct_X0_worlds {l : Launch} {D : va_G} {T : Nat → ClassId} {Z : Heap} {G0 : Hp} {Q : Int32 → Hp → Prop} {p0 : Option Nat} {p1 : Int32} {p2 : Option Nat} (hLf : l.flags = flags0) (hw : w_X0_worlds T Q p0 p1 p2 G0) : CT (twd D T Z) (Evd D T Z) l yX0_worlds (Cond.codeWith yX0_worlds cX0_worlds 4 (some .int) [(0, 9, 12, 13)]) 8 141 [va_rf p0, .int p1, va_rf p2] G0 (qI Q) (fun _ _ => False) := by
  refine CT.ofW (cc := cX0_worlds) (nL := 4) (ret := (some .int)) Ext.rf (by decide) (Or.inr ⟨_, rfl⟩) ?_
  intro p e s m below meth c hx hb hml hown hr hlk hnm hcb hm hc hn hE I
  have C : Cx p s m meth c D T Z "EndingTownLaw" cX0_worlds 4 (some .int) := ⟨hx, hb, hml, hown, hE, hr, hlk⟩
  have htab := tabOf hn hm hc hcb
  refine w_entry [.inr (.inl p0), .inl p1, .inr (.inl p2)] (Nat.le_of_ble_eq_true rfl) (fun ls hl => ?_)
  have hl : LH ls 4 [(0, .inr (.inl p0)), (1, .inl p1), (2, .inr (.inl p2))] := hl
  have h := hw
  refine l_ald_n C dX0_worlds_0 hl 2 rfl rfl ?_
  refine lv_iconst (v := 0) C.1 C.2.1 dX0_worlds_1 (by decide) ?_
  refine l_ald_n C dX0_worlds_2 hl 0 rfl rfl ?_
  refine l_ild_n C dX0_worlds_3 hl 1 rfl rfl ?_
  obtain ⟨ho7, h⟩ := h
  refine k_call Ext.tr C I (k_V (r := p0) (As := [.int p1]) (rest := [.int ((0 : Int32)), va_rf p2]) (y := yX1_worlds) C ⟨ho7.ad.1, I.recv C.2.2.2.2.1 ho7 (by decide)⟩ q1312 q1313 q1314 (Or.inl rfl) q1315 (by decide) rfl pd_X1_worlds rfl dX0_worlds_4) (ct_X1_worlds hLf h) hl.1 dX0_worlds_4 [.inl ((0 : Int32)), .inr (.inl p2)] rfl (Nat.le_of_ble_eq_true rfl) (Or.inl rfl) q1315 q100 ⟨Nat.le_of_ble_eq_true rfl, Nat.le_of_ble_eq_true rfl⟩ (fun v G3 H locs cells slots xG3 hq I => ?_) (fun a1 G2 H locs cells slots xG2 hq I => ?_)
  · obtain ⟨r4, rfl, h⟩ := hq
    have h := h xG3
    refine lv_i2l C.1 C.2.1 dX0_worlds_7 rfl ?_
    obtain ⟨ho5, h⟩ := h
    obtain ⟨hi, h⟩ := h
    refine A_last C I ho5 hi dX0_worlds_8 (fun H locs G6 eG6 xG6 I => ?_)
    have h := h G6 eG6
    refine lv_goto (tgt := 15) C.1 C.2.1 dX0_worlds_9 (by decide) ?_
    refine lv_iconst (v := 0) C.1 C.2.1 dX0_worlds_15 (by decide) ?_
    exact r_int C.1 C.2.1 C.2.2.2.2.2.1 rfl C.2.2.2.2.2.2 ⟨rfl, rfl⟩ I dX0_worlds_16 ⟨_, rfl, h⟩
  · have hq := hq xG2
    obtain ⟨ho9, h⟩ := hq
    refine h_catch (kd := 18) C I ho9 (by decide) htab q634 (by decide) (by decide) ?_
    exact b_X0_worlds_12 C htab hLf ((some a1)) G2 _ _ _ _ _ h I (hl.sub [] rfl)
def w_X0_tell_15 (T : Nat → ClassId) (Q : Int32 → Hp → Prop) (t0 : Option Nat) (G : Hp) : Prop := Q ((1 : Int32)) G
set_option maxHeartbeats 4000000 in
theorem b_X0_tell_15 {G0 : Hp} {Q : Int32 → Hp → Prop} (C : Cx p s m meth c D T Z "EndingTownLaw" cX0_tell 6 (some .int)) (htab : TabIs c [(0, 12, 15, 18)]) (hLf : l.flags = flags0) : ∀ (t0 : Option Nat) (G : Hp) (H : Heap) (locs : List Loc) (cells slots : Nat) (ls : Array Slot), w_X0_tell_15 T Q t0 G → HI (twd D T Z) G0 s (rmX (twd D T Z) 9 165 G0) H locs cells slots G → LH ls 6 [] → W p l e (rmX (twd D T Z) 9 165 G0) s m args below meth c H locs cells slots (MQX (twd D T Z) G0 (qI Q) (fun _ _ => False) below s) (F0 m 15 ls [va_rf t0]) := by
  intro t0 G H locs cells slots ls h I hl
  refine l_ast C dX0_tell_15 hl (by decide) rfl (fun ls hl => ?_)
  have hl : LH ls 6 [(5, .inr (.inl t0))] := hl
  refine lv_iconst (v := 1) C.1 C.2.1 dX0_tell_17 (by decide) ?_
  exact r_int C.1 C.2.1 C.2.2.2.2.2.1 rfl C.2.2.2.2.2.2 ⟨rfl, rfl⟩ I dX0_tell_18 ⟨_, rfl, h⟩
def w_X0_tell (T : Nat → ClassId) (Q : Int32 → Hp → Prop) (p0 : Option Nat) (p1 : Int32) (p2 : Int32) (p3 : Int32) (p4 : Option Nat) (G : Hp) : Prop := (isO G p0 1 ∧ w_X1_tell T (fun r4 G3 => Ext G G3 → isO G3 p4 53 ∧ vp_in ((0 : Int32)) (gN G3 (ad p4)) ∧ ∀ G6 : Hp, G6 = wL G3 (ad p4) ((0 : Int32)).toNatClampNeg r4.toInt64 → Q ((0 : Int32)) G6) (fun a1 G2 => Ext G G2 → isO G2 (some a1) 17 ∧ (w_X0_tell_15 T Q ((some a1)) G2)) p0 p1 p2 p3 G)
theorem pd_X0_tell : (parseMethodDescriptor yX0_tell.desc).map (fun d => d.parameters.length) = some 5 := by decide +kernel
set_option maxHeartbeats 4000000 in
theorem ct_X0_tell {l : Launch} {D : va_G} {T : Nat → ClassId} {Z : Heap} {G0 : Hp} {Q : Int32 → Hp → Prop} {p0 : Option Nat} {p1 : Int32} {p2 : Int32} {p3 : Int32} {p4 : Option Nat} (hLf : l.flags = flags0) (hw : w_X0_tell T Q p0 p1 p2 p3 p4 G0) : CT (twd D T Z) (Evd D T Z) l yX0_tell (Cond.codeWith yX0_tell cX0_tell 6 (some .int) [(0, 12, 15, 18)]) 9 165 [va_rf p0, .int p1, .int p2, .int p3, va_rf p4] G0 (qI Q) (fun _ _ => False) := by
  refine CT.ofW (cc := cX0_tell) (nL := 6) (ret := (some .int)) Ext.rf (by decide) (Or.inr ⟨_, rfl⟩) ?_
  intro p e s m below meth c hx hb hml hown hr hlk hnm hcb hm hc hn hE I
  have C : Cx p s m meth c D T Z "EndingTownLaw" cX0_tell 6 (some .int) := ⟨hx, hb, hml, hown, hE, hr, hlk⟩
  have htab := tabOf hn hm hc hcb
  refine w_entry [.inr (.inl p0), .inl p1, .inl p2, .inl p3, .inr (.inl p4)] (Nat.le_of_ble_eq_true rfl) (fun ls hl => ?_)
  have hl : LH ls 6 [(0, .inr (.inl p0)), (1, .inl p1), (2, .inl p2), (3, .inl p3), (4, .inr (.inl p4))] := hl
  have h := hw
  refine l_ald C dX0_tell_0 hl 4 rfl ?_
  refine lv_iconst (v := 0) C.1 C.2.1 dX0_tell_2 (by decide) ?_
  refine l_ald_n C dX0_tell_3 hl 0 rfl rfl ?_
  refine l_ild_n C dX0_tell_4 hl 1 rfl rfl ?_
  refine l_ild_n C dX0_tell_5 hl 2 rfl rfl ?_
  refine l_ild_n C dX0_tell_6 hl 3 rfl rfl ?_
  obtain ⟨ho7, h⟩ := h
  refine k_call Ext.tr C I (k_V (r := p0) (As := [.int p1, .int p2, .int p3]) (rest := [.int ((0 : Int32)), va_rf p4]) (y := yX1_tell) C ⟨ho7.ad.1, I.recv C.2.2.2.2.1 ho7 (by decide)⟩ q1319 q1320 q1321 (Or.inl rfl) q1322 (by decide) rfl pd_X1_tell rfl dX0_tell_7) (ct_X1_tell hLf h) hl.1 dX0_tell_7 [.inl ((0 : Int32)), .inr (.inl p4)] rfl (Nat.le_of_ble_eq_true rfl) (Or.inl rfl) q1322 q100 ⟨Nat.le_of_ble_eq_true rfl, Nat.le_of_ble_eq_true rfl⟩ (fun v G3 H locs cells slots xG3 hq I => ?_) (fun a1 G2 H locs cells slots xG2 hq I => ?_)
  · obtain ⟨r4, rfl, h⟩ := hq
    have h := h xG3
    refine lv_i2l C.1 C.2.1 dX0_tell_10 rfl ?_
    obtain ⟨ho5, h⟩ := h
    obtain ⟨hi, h⟩ := h
    refine A_last C I ho5 hi dX0_tell_11 (fun H locs G6 eG6 xG6 I => ?_)
    have h := h G6 eG6
    refine lv_goto (tgt := 19) C.1 C.2.1 dX0_tell_12 (by decide) ?_
    refine lv_iconst (v := 0) C.1 C.2.1 dX0_tell_19 (by decide) ?_
    exact r_int C.1 C.2.1 C.2.2.2.2.2.1 rfl C.2.2.2.2.2.2 ⟨rfl, rfl⟩ I dX0_tell_20 ⟨_, rfl, h⟩
  · have hq := hq xG2
    obtain ⟨ho9, h⟩ := hq
    refine h_catch (kd := 17) C I ho9 (by decide) htab q1062 (by decide) (by decide) ?_
    exact b_X0_tell_15 C htab hLf ((some a1)) G2 _ _ _ _ _ h I (hl.sub [] rfl)
def w_X0_known_20 (T : Nat → ClassId) (Q : Int32 → Hp → Prop) (t0 : Int64) (t1 : Int32) (t2 : Option Nat) (G : Hp) : Prop := isO G t2 53 ∧ vp_in t1 (gN G (ad t2)) ∧ ∀ G2 : Hp, G2 = wL G (ad t2) t1.toNatClampNeg t0 → Q ((0 : Int32)) G2
set_option maxHeartbeats 4000000 in
theorem b_X0_known_20 {G0 : Hp} {Q : Int32 → Hp → Prop} (C : Cx p s m meth c D T Z "EndingTownLaw" cX0_known 7 (some .int)) (htab : TabIs c [(0, 21, 24, 18), (0, 21, 28, 13)]) (hLf : l.flags = flags0) : ∀ (t0 : Int64) (t1 : Int32) (t2 : Option Nat) (G : Hp) (H : Heap) (locs : List Loc) (cells slots : Nat) (ls : Array Slot), w_X0_known_20 T Q t0 t1 t2 G → HI (twd D T Z) G0 s (rmX (twd D T Z) 9 167 G0) H locs cells slots G → LH ls 7 [] → W p l e (rmX (twd D T Z) 9 167 G0) s m args below meth c H locs cells slots (MQX (twd D T Z) G0 (qI Q) (fun _ _ => False) below s) (F0 m 20 ls [.long t0, .int t1, va_rf t2]) := by
  intro t0 t1 t2 G H locs cells slots ls h I hl
  obtain ⟨ho1, h⟩ := h
  obtain ⟨hi, h⟩ := h
  refine A_last C I ho1 hi dX0_known_20 (fun H locs G2 eG2 xG2 I => ?_)
  have h := h G2 eG2
  refine lv_goto (tgt := 32) C.1 C.2.1 dX0_known_21 (by decide) ?_
  refine lv_iconst (v := 0) C.1 C.2.1 dX0_known_32 (by decide) ?_
  exact r_int C.1 C.2.1 C.2.2.2.2.2.1 rfl C.2.2.2.2.2.2 ⟨rfl, rfl⟩ I dX0_known_33 ⟨_, rfl, h⟩
def w_X0_known_24 (T : Nat → ClassId) (Q : Int32 → Hp → Prop) (t0 : Option Nat) (G : Hp) : Prop := Q ((1 : Int32)) G
set_option maxHeartbeats 4000000 in
theorem b_X0_known_24 {G0 : Hp} {Q : Int32 → Hp → Prop} (C : Cx p s m meth c D T Z "EndingTownLaw" cX0_known 7 (some .int)) (htab : TabIs c [(0, 21, 24, 18), (0, 21, 28, 13)]) (hLf : l.flags = flags0) : ∀ (t0 : Option Nat) (G : Hp) (H : Heap) (locs : List Loc) (cells slots : Nat) (ls : Array Slot), w_X0_known_24 T Q t0 G → HI (twd D T Z) G0 s (rmX (twd D T Z) 9 167 G0) H locs cells slots G → LH ls 7 [] → W p l e (rmX (twd D T Z) 9 167 G0) s m args below meth c H locs cells slots (MQX (twd D T Z) G0 (qI Q) (fun _ _ => False) below s) (F0 m 24 ls [va_rf t0]) := by
  intro t0 G H locs cells slots ls h I hl
  refine l_ast C dX0_known_24 hl (by decide) rfl (fun ls hl => ?_)
  have hl : LH ls 7 [(6, .inr (.inl t0))] := hl
  refine lv_iconst (v := 1) C.1 C.2.1 dX0_known_26 (by decide) ?_
  exact r_int C.1 C.2.1 C.2.2.2.2.2.1 rfl C.2.2.2.2.2.2 ⟨rfl, rfl⟩ I dX0_known_27 ⟨_, rfl, h⟩
def w_X0_known_28 (T : Nat → ClassId) (Q : Int32 → Hp → Prop) (t0 : Option Nat) (G : Hp) : Prop := Q ((2 : Int32)) G
set_option maxHeartbeats 4000000 in
theorem b_X0_known_28 {G0 : Hp} {Q : Int32 → Hp → Prop} (C : Cx p s m meth c D T Z "EndingTownLaw" cX0_known 7 (some .int)) (htab : TabIs c [(0, 21, 24, 18), (0, 21, 28, 13)]) (hLf : l.flags = flags0) : ∀ (t0 : Option Nat) (G : Hp) (H : Heap) (locs : List Loc) (cells slots : Nat) (ls : Array Slot), w_X0_known_28 T Q t0 G → HI (twd D T Z) G0 s (rmX (twd D T Z) 9 167 G0) H locs cells slots G → LH ls 7 [] → W p l e (rmX (twd D T Z) 9 167 G0) s m args below meth c H locs cells slots (MQX (twd D T Z) G0 (qI Q) (fun _ _ => False) below s) (F0 m 28 ls [va_rf t0]) := by
  intro t0 G H locs cells slots ls h I hl
  refine l_ast C dX0_known_28 hl (by decide) rfl (fun ls hl => ?_)
  have hl : LH ls 7 [(6, .inr (.inl t0))] := hl
  refine lv_iconst (v := 2) C.1 C.2.1 dX0_known_30 (by decide) ?_
  exact r_int C.1 C.2.1 C.2.2.2.2.2.1 rfl C.2.2.2.2.2.2 ⟨rfl, rfl⟩ I dX0_known_31 ⟨_, rfl, h⟩
def w_X0_known (T : Nat → ClassId) (Q : Int32 → Hp → Prop) (p0 : Option Nat) (p1 : Int32) (p2 : Int32) (p3 : Int32) (p4 : Int32) (p5 : Option Nat) (G : Hp) : Prop := (isO G p0 1 ∧ w_X1_known T (fun r4 G3 => Ext G G3 → ((r4 = 0) → (w_X0_known_20 T Q ((0 : Int64)) ((0 : Int32)) p5 G3)) ∧ ((¬ r4 = 0) → (w_X0_known_20 T Q ((1 : Int64)) ((0 : Int32)) p5 G3))) (fun a1 G2 => Ext G G2 → (isO G2 (some a1) 17 ∧ (w_X0_known_24 T Q ((some a1)) G2)) ∨ (isO G2 (some a1) 18 ∧ (w_X0_known_28 T Q ((some a1)) G2))) p0 p1 p2 p3 p4 G)
theorem pd_X0_known : (parseMethodDescriptor yX0_known.desc).map (fun d => d.parameters.length) = some 6 := by decide +kernel
set_option maxHeartbeats 4000000 in
theorem ct_X0_known {l : Launch} {D : va_G} {T : Nat → ClassId} {Z : Heap} {G0 : Hp} {Q : Int32 → Hp → Prop} {p0 : Option Nat} {p1 : Int32} {p2 : Int32} {p3 : Int32} {p4 : Int32} {p5 : Option Nat} (hLf : l.flags = flags0) (hw : w_X0_known T Q p0 p1 p2 p3 p4 p5 G0) : CT (twd D T Z) (Evd D T Z) l yX0_known (Cond.codeWith yX0_known cX0_known 7 (some .int) [(0, 21, 24, 18), (0, 21, 28, 13)]) 9 167 [va_rf p0, .int p1, .int p2, .int p3, .int p4, va_rf p5] G0 (qI Q) (fun _ _ => False) := by
  refine CT.ofW (cc := cX0_known) (nL := 7) (ret := (some .int)) Ext.rf (by decide) (Or.inr ⟨_, rfl⟩) ?_
  intro p e s m below meth c hx hb hml hown hr hlk hnm hcb hm hc hn hE I
  have C : Cx p s m meth c D T Z "EndingTownLaw" cX0_known 7 (some .int) := ⟨hx, hb, hml, hown, hE, hr, hlk⟩
  have htab := tabOf hn hm hc hcb
  refine w_entry [.inr (.inl p0), .inl p1, .inl p2, .inl p3, .inl p4, .inr (.inl p5)] (Nat.le_of_ble_eq_true rfl) (fun ls hl => ?_)
  have hl : LH ls 7 [(0, .inr (.inl p0)), (1, .inl p1), (2, .inl p2), (3, .inl p3), (4, .inl p4), (5, .inr (.inl p5))] := hl
  have h := hw
  refine l_ald C dX0_known_0 hl 5 rfl ?_
  refine lv_iconst (v := 0) C.1 C.2.1 dX0_known_2 (by decide) ?_
  refine l_ald_n C dX0_known_3 hl 0 rfl rfl ?_
  refine l_ild_n C dX0_known_4 hl 1 rfl rfl ?_
  refine l_ild_n C dX0_known_5 hl 2 rfl rfl ?_
  refine l_ild_n C dX0_known_6 hl 3 rfl rfl ?_
  refine l_ild C dX0_known_7 hl 4 rfl ?_
  obtain ⟨ho6, h⟩ := h
  refine k_call Ext.tr C I (k_V (r := p0) (As := [.int p1, .int p2, .int p3, .int p4]) (rest := [.int ((0 : Int32)), va_rf p5]) (y := yX1_known) C ⟨ho6.ad.1, I.recv C.2.2.2.2.1 ho6 (by decide)⟩ q1354 q1355 q1356 (Or.inl rfl) q1357 (by decide) rfl pd_X1_known rfl dX0_known_9) (ct_X1_known hLf h) hl.1 dX0_known_9 [.inl ((0 : Int32)), .inr (.inl p5)] rfl (Nat.le_of_ble_eq_true rfl) (Or.inl rfl) q1357 q100 ⟨Nat.le_of_ble_eq_true rfl, Nat.le_of_ble_eq_true rfl⟩ (fun v G3 H locs cells slots xG3 hq I => ?_) (fun a1 G2 H locs cells slots xG2 hq I => ?_)
  · obtain ⟨r4, rfl, h⟩ := hq
    have h := h xG3
    refine lv_if_eq (tgt := 19) C.1 C.2.1 dX0_known_12 (by decide) (fun c5 => ?_) (fun c5 => ?_)
    · have h := h.1 c5
      refine lv_lconst (v := 0) C.1 C.2.1 dX0_known_19 (by decide) ?_
      exact b_X0_known_20 C htab hLf ((0 : Int64)) ((0 : Int32)) p5 G3 _ _ _ _ _ h I (hl.sub [] rfl)
    · have h := h.2 c5
      refine lv_lconst (v := 1) C.1 C.2.1 dX0_known_15 (by decide) ?_
      refine lv_goto (tgt := 20) C.1 C.2.1 dX0_known_16 (by decide) ?_
      exact b_X0_known_20 C htab hLf ((1 : Int64)) ((0 : Int32)) p5 G3 _ _ _ _ _ h I (hl.sub [] rfl)
  · have hq := hq xG2
    rcases hq with ⟨ho9, h⟩ | ⟨ho9, h⟩
    · refine h_catch (kd := 17) C I ho9 (by decide) htab q1062 (by decide) (by decide) ?_
      exact b_X0_known_24 C htab hLf ((some a1)) G2 _ _ _ _ _ h I (hl.sub [] rfl)
    · refine h_catch2 C I ho9 htab q1062 q634 (by decide) (by decide) (by decide) (by decide) ?_
      exact b_X0_known_28 C htab hLf ((some a1)) G2 _ _ _ _ _ h I (hl.sub [] rfl)
end GT6
