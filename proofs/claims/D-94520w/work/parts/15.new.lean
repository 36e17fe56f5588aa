/-! NEW CELLS, stores of references, casts -/
set_option maxRecDepth 100000
def zv : Nat → Value
  | 0 => .int 0
  | 1 => va_rf none
  | _ => .long 0
theorem dv_ok : ∀ c, c < 20 → ∀ k, k < (ftab c).length → defaultValue (tyt c k) = zv (sty c k) := by decide +kernel
section NR
variable {p : Program} {l : Launch} {e : Env} {R : Room} {s : State} {m : MethodId} {args : Array Value} {below : List Frame} {meth : Method} {c : Code} {H : Heap} {locs : List Loc} {cells slots : Nat} {Qm : State → Prop} {pc : Nat} {ls : Array Slot} {rest : List Value} {cc : ByteArray} {D : va_G} {T : Nat → ClassId} {Z : Heap} {own : String} {nL : Nat} {ret : Option FieldType} {G0 G : Hp} {r : Option Nat} {idx kd k : Nat}
theorem gK_nw {n sl : Nat} : gK (nw G kd n sl) (gZ G) = kd := if_pos rfl
theorem gN_nw {n sl : Nat} : gN (nw G kd n sl) (gZ G) = n := if_pos rfl
theorem sv_nw {n sl : Nat} : sv (nw G kd n sl) (gZ G) = fun j => zv (sty kd j) := by
  funext j
  have eI : gI (nw G kd n sl) (gZ G) j = 0 := if_pos rfl
  have eR : gR (nw G kd n sl) (gZ G) j = none := if_pos rfl
  have eL : gL (nw G kd n sl) (gZ G) j = 0 := if_pos rfl
  unfold sv
  rw [gK_nw, eI, eR, eL]
  unfold zv
  rfl
theorem Ext.nw (h : Rep D T Z G H) {n sl : Nat} : Ext G (nw G kd n sl) := ⟨fun a ha => by
  have hl := (h.2.2.2 a ha).1.lt
  have hne : a ≠ gZ G := by rw [h.1]; omega
  exact ⟨if_neg hne, if_neg hne⟩, Nat.le_succ _⟩
theorem HI.new (I : HI (twd D T Z) G0 s R H locs cells slots G) {n sl : Nat} {H' : Heap} (z : H'.size = H.size + 1) (oq : ∀ q : Nat, q < H.size → H'[q]? = H[q]?) (hc : cAt D T (nw G kd n sl) H.size H') (hb : 1 ≤ gC G ∧ sl ≤ gS G) : HI (twd D T Z) G0 s R H' locs (cells + 1) (slots + sl) (nw G kd n sl) := by
  obtain ⟨i1, i2, i3, i4, i5, i6⟩ := I
  have hz : gZ G = H.size := i1.1
  have j4 : cells + gC G ≤ R.cells := i4
  have j5 : slots + gS G ≤ R.slots := i5
  refine ⟨i1.new z oq hc, fun a h => ?_, ⟨by have := i3.1; omega, fun q h1 h2 => by rw [oq q (Nat.lt_of_lt_of_le h1 i3.1)]; exact i3.2.1 q h1 h2, i3.2.2⟩, ?_, ?_, Ext.tr _ _ _ i6 (Ext.nw i1)⟩
  · by_cases ha : a = gZ G
    · exact Or.inr (by rw [ha, hz]; exact i3.1)
    · have e : gK (nw G kd n sl) a = gK G a := if_neg ha
      exact i2 a ⟨by rw [← e]; exact h.1, h.2⟩
  · show cells + 1 + (gC G - 1) ≤ _; omega
  · show slots + sl + (gS G - sl) ≤ _; omega
theorem n_obj (C : Cx p s m meth c D T Z own cc nL ret) (I : HI (twd D T Z) G0 s R H locs cells slots G) (hkd : 0 < kd ∧ kd < 20) (hcl : Cond.classLink own idx (clt kd).1 ∈ lw_all) (hb : 1 ≤ gC G ∧ (ftab kd).length ≤ gS G) (hdg : decode cc pc = .ok (.new idx, 3))
    (kk : ∀ (H' : Heap), HI (twd D T Z) G0 s R H' locs (cells + 1) (slots + (ftab kd).length) (nw G kd 0 (ftab kd).length) → W p l e R s m args below meth c H' locs (cells + 1) (slots + (ftab kd).length) Qm (F0 m (pc + 3) ls (va_rf (some (gZ G)) :: rest))) : W p l e R s m args below meth c H locs cells slots Qm (F0 m pc ls rest) := by
  have hE := C.2.2.2.2.1
  have hKn := (hE.2.1.1 kd hkd.1 hkd.2).1
  have hz : gZ G = H.size := I.1.1
  have j4 : cells + gC G ≤ R.cells := I.2.2.2.1
  have j5 : slots + gS G ≤ R.slots := I.2.2.2.2.1
  refine W.newcK C.1 C.2.1 C.2.2.2.1 (hE.1.good hcl args) (hE.1.good (clt_ins kd hkd.1 hkd.2) args) (hE.1.good (clt_ini kd hkd.1 hkd.2) args) rfl hdg (by omega) (by rw [clt_len kd hkd.1 hkd.2]; omega) hKn.2.1 rfl fun H1 kC hkC e1 z1 o1 => ?_
  rw [clt_len kd hkd.1 hkd.2, ← hz]
  refine kk H1 (I.new z1 o1 ⟨fun h => ?_, fun h h7 => ?_, fun h => absurd h (by rw [← hz, gK_nw]; omega)⟩ hb)
  · rw [← hz, gK_nw, sv_nw]
    refine ⟨hkd.2, ?_⟩
    have hb2 := (u_born (tyt kd) (ws := lw_all) (fun w h => hE.1.good h args) (clt_in kd hkd.1 hkd.2) hKn hkC e1 (clt_ty kd hkd.1 hkd.2)).to (V' := fun j => zv (sty kd j)) (fun j hj => dv_ok kd hkd.2 j (by rw [← clt_len kd hkd.1 hkd.2]; exact hj))
    rw [clt_len kd hkd.1 hkd.2] at hb2
    rw [hz]
    exact hb2
  · rw [← hz, gK_nw] at h; omega
theorem n_arr (C : Cx p s m meth c D T Z own cc nL ret) (I : HI (twd D T Z) G0 s R H locs cells slots G) (hkd : 50 ≤ kd ∧ kd < 54) {atype : ArrayType} (hty : newarray.typeOf atype = aty kd) (hac : Cond.arrayClass (aty kd) ∈ lw_all) {n : Int32} (hn : ¬ n < 0) (hm : n.toNatClampNeg ≤ 100000) (hb : 1 ≤ gC G ∧ n.toNatClampNeg ≤ gS G) (hdg : decode cc pc = .ok (.newarray atype, 2))
    (kk : ∀ (H' : Heap), HI (twd D T Z) G0 s R H' locs (cells + 1) (slots + n.toNatClampNeg) (nw G kd n.toNatClampNeg n.toNatClampNeg) → W p l e R s m args below meth c H' locs (cells + 1) (slots + n.toNatClampNeg) Qm (F0 m (pc + 2) ls (va_rf (some (gZ G)) :: rest))) : W p l e R s m args below meth c H locs cells slots Qm (F0 m pc ls (.int n :: rest)) := by
  have hE := C.2.2.2.2.1
  have hz : gZ G = H.size := I.1.1
  have j4 : cells + gC G ≤ R.cells := I.2.2.2.1
  have j5 : slots + gS G ≤ R.slots := I.2.2.2.2.1
  have hbytes : n.toNatClampNeg * componentBytes (newarray.typeOf atype) ≤ 536870912 := by
    have h8 : componentBytes (newarray.typeOf atype) ≤ 8 := by cases atype <;> decide
    have := Nat.mul_le_mul hm h8
    omega
  refine va_newaK C.1 C.2.1 (by rw [hty]; exact hE.1.good hac args) rfl hdg rfl hn rfl hbytes (by omega) (by omega) rfl fun H1 cA e1 z1 o1 hAr hNm => ?_
  have hcA : cA = T kd := by
    have h2 := (hE.2.1.2 kd hkd.1 (by omega)).2
    rw [hty] at hNm
    obtain ⟨q1, q2⟩ := hkd
    rcases (show kd = 50 ∨ kd = 51 ∨ kd = 52 ∨ kd = 53 by omega) with rfl | rfl | rfl | rfl <;> exact Option.some.inj (hNm.symm.trans h2)
  show W p l e R s m args below meth c H1 locs (cells + 1) (slots + n.toNatClampNeg) Qm (F0 m (pc + 2) ls (.ref H.size :: rest))
  rw [← hz]
  refine kk H1 (I.new z1 o1 ⟨fun h => ?_, fun h h7 => ?_, fun h => absurd h (by rw [← hz, gK_nw]; omega)⟩ hb)
  · rw [← hz, gK_nw] at h; omega
  · rw [← hz, gK_nw, gN_nw, sv_nw, hz, e1, hcA]
    congr 2
    funext j
    rw [hty]
    obtain ⟨q1, q2⟩ := hkd
    rcases (show kd = 50 ∨ kd = 51 ∨ kd = 52 ∨ kd = 53 by omega) with rfl | rfl | rfl | rfl <;> rfl
theorem n_aarr (C : Cx p s m meth c D T Z own cc nL ret) (I : HI (twd D T Z) G0 s R H locs cells slots G) (hkd : 54 ≤ kd ∧ kd < 57) {E0 : String} (hty : aty kd = .object E0) (hcl : Cond.classLink own idx E0 ∈ lw_all) (hac : Cond.arrayOver (.object E0) ∈ lw_tbl) {n : Int32} (hn : ¬ n < 0) (hm : n.toNatClampNeg ≤ 100000) (hb : 1 ≤ gC G ∧ n.toNatClampNeg ≤ gS G) (hdg : decode cc pc = .ok (.anewarray idx, 3))
    (kk : ∀ (H' : Heap), HI (twd D T Z) G0 s R H' locs (cells + 1) (slots + n.toNatClampNeg) (nw G kd n.toNatClampNeg n.toNatClampNeg) → W p l e R s m args below meth c H' locs (cells + 1) (slots + n.toNatClampNeg) Qm (F0 m (pc + 3) ls (va_rf (some (gZ G)) :: rest))) : W p l e R s m args below meth c H locs cells slots Qm (F0 m pc ls (.int n :: rest)) := by
  have hE := C.2.2.2.2.1
  have hz : gZ G = H.size := I.1.1
  have j4 : cells + gC G ≤ R.cells := I.2.2.2.1
  have j5 : slots + gS G ≤ R.slots := I.2.2.2.2.1
  refine W.anew C.1 C.2.1 C.2.2.2.1 (hE.1.good hcl args) (va_AO.use (hE.1.ao hac)) rfl hdg rfl hn (by omega) (by omega) (by omega) fun cA kA comp f1 f2 f3 f4 => ?_
  have hcA : cA = T kd := by
    have h2 := (hE.2.1.2 kd (by omega) (by omega)).2
    rw [hty] at h2
    obtain ⟨kA2, comp2, -, -, -, h3⟩ := h2
    exact Option.some.inj (f1.symm.trans h3)
  show W p l e R s m args below meth c _ locs (cells + 1) (slots + n.toNatClampNeg) Qm (F0 m (pc + 3) ls (.ref H.size :: rest))
  rw [← hz]
  refine kk _ (I.new (by simp) (fun q hq => by rw [Array.getElem?_push, if_neg (Nat.ne_of_lt hq)]) ⟨fun h => ?_, fun h h7 => ?_, fun h => absurd h (by rw [← hz, gK_nw]; omega)⟩ hb)
  · rw [← hz, gK_nw] at h; omega
  · rw [← hz, gK_nw, gN_nw, sv_nw, hz, hcA]
    have hs : (fun j => zv (sty kd j)) = fun _ => Value.null := by
      funext j
      unfold sty
      rw [if_neg (by omega), if_neg (by omega), if_neg (by omega)]
      rfl
    rw [hs, ← arrV_new]
    simp
/-- a reference is stored: null, or an object of a class that the array takes -/
theorem a_aast (C : Cx p s m meth c D T Z own cc nL ret) (I : HI (twd D T Z) G0 s R H locs cells slots G) (ho : isO G r kd) (hkd : 54 ≤ kd ∧ kd < 57) {x : Option Nat} {E0 : String} (hty : aty kd = .object E0) (hx : x = none ∨ ∃ kv, 0 < kv ∧ kv < 20 ∧ isO G x kv ∧ (Cond.castable (clt kv).1 E0 ∈ lw_tbl ∨ (clt kv).1 = E0)) {i : Int32} (hin : vp_in i (gN G (ad r))) (hdg : decode cc pc = .ok (.aastore, 1))
    (kk : ∀ (H' : Heap) (locs' : List Loc), HI (twd D T Z) G0 s R H' locs' cells slots (wR G (ad r) i.toNatClampNeg x) → W p l e R s m args below meth c H' locs' cells slots Qm (F0 m (pc + 1) ls rest)) : W p l e R s m args below meth c H locs cells slots Qm (F0 m pc ls (va_rf x :: .int i :: va_rf r :: rest)) := by
  have hE := C.2.2.2.2.1
  obtain ⟨h1, h2, h3⟩ := I.arr ho ⟨by omega, by omega⟩
  have hst : sty kd i.toNatClampNeg = 1 := by unfold sty; rw [if_neg (by omega), if_neg (by omega), if_neg (by omega)]
  have hAr := C.arr (kd := kd) (by omega) (by omega)
  have hRA := (hE.2.1.2 kd (by omega) (by omega)).2
  rw [hty] at hAr hRA
  rw [h1]
  rcases hx with rfl | ⟨kv, k0, k1, hv, hcast⟩
  · exact va_WaastN (C := E0) C.1 C.2.1 h3 (hAr _ _) (fun h => by cases h) (a_in hin) rfl rfl hdg fun H' e z oq => kk H' _ (I.ast ho ⟨by omega, by omega⟩ (vp_in_lt hin) e z oq _ rfl rfl rfl rfl rfl (fun b hb => sv_wR_ne hb) (sv_wR (v := none) (by rw [h2]; exact hst)))
  · obtain ⟨hx1, hx2⟩ := hv.ad
    obtain ⟨cellV, g1, g2, g3⟩ := I.recv hE hv ⟨k0, k1⟩
    obtain ⟨kA, comp, q1, q2, q3, -⟩ := hRA
    obtain ⟨kE, hkE, -⟩ := Vm.findClass_spec q3
    obtain ⟨kC, hkC, -⟩ := Vm.findClass_spec g3
    have hasg : s.vm.assignable cellV.cls comp = true := by
      rcases hcast with hcast | hcast
      · obtain ⟨c0, t1, f1, f2, f3⟩ := Cond.castable_spec (hE.1.ca hcast args)
        cases g3.symm.trans f1
        cases q3.symm.trans f2
        exact f3
      · rw [hcast] at g3
        cases g3.symm.trans q3
        exact va_asg _ _
    rw [hx1]
    refine W.aast C.1 C.2.1 h3 (fun q h => by cases h) (fun h => by cases h) q1 q2 rfl hkE ⟨fun q => hin (Or.inl q), by rw [arrV_size]; exact vp_in_lt hin⟩ g1 (fun q h => by rw [h] at g2; cases g2) hkC hasg rfl rfl hdg fun H' e z oq => ?_
    rw [hx1] at kk
    exact kk H' _ (I.ast ho ⟨by omega, by omega⟩ (vp_in_lt hin) e z oq _ rfl rfl rfl rfl rfl (fun b hb => sv_wR_ne hb) (sv_wR (v := some (ad x)) (by rw [h2]; exact hst)))
theorem c_cast (C : Cx p s m meth c D T Z own cc nL ret) (I : HI (twd D T Z) G0 s R H locs cells slots G) (hkd : 0 < kd ∧ kd < 20) (hcl : Cond.classLink own idx (clt kd).1 ∈ lw_all) (hx : r = none ∨ isO G r kd) (hdg : decode cc pc = .ok (.checkcast idx, 3))
    (kk : W p l e R s m args below meth c H locs cells slots Qm (F0 m (pc + 3) ls (va_rf r :: rest))) : W p l e R s m args below meth c H locs cells slots Qm (F0 m pc ls (va_rf r :: rest)) := by
  have hE := C.2.2.2.2.1
  rcases hx with rfl | hx
  · exact lv_castN C.1 C.2.1 hdg kk
  · obtain ⟨h1, h2⟩ := hx.ad
    have hr := I.recv hE hx hkd
    rw [h1] at kk ⊢
    exact va_castS C.1 C.2.1 C.2.2.2.1 (hE.1.good hcl args) (hE.2.1.1 kd hkd.1 hkd.2).1.2 hr hdg kk
end NR
