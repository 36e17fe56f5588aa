/-! A PART OF A HEAP: a call over a part, seen from the whole -/
set_option maxRecDepth 100000
def Sub (x G : Hp) : Prop := gZ x = gZ G ∧ gC x ≤ gC G ∧ gS x ≤ gS G ∧ ∀ a, gK x a ≠ 0 → gK G a = gK x a ∧ gN G a = gN x a ∧ gI G a = gI x a ∧ gR G a = gR x a ∧ gL G a = gL x a
/-- what is not of the part stays; the part is x' -/
def jn (G x x' : Hp) : Hp := (fun a => if gK G a ≠ 0 ∧ gK x a = 0 then gK G a else gK x' a, fun a => if gK G a ≠ 0 ∧ gK x a = 0 then gN G a else gN x' a, fun a => if gK G a ≠ 0 ∧ gK x a = 0 then gI G a else gI x' a, fun a => if gK G a ≠ 0 ∧ gK x a = 0 then gR G a else gR x' a, fun a => if gK G a ≠ 0 ∧ gK x a = 0 then gL G a else gL x' a, gZ x', gC G - (gC x - gC x'), gS G - (gS x - gS x'))
theorem sv_eq {G G' : Hp} {a : Nat} (hK : gK G' a = gK G a) (hI : gI G' a = gI G a) (hR : gR G' a = gR G a) (hL : gL G' a = gL G a) : sv G' a = sv G a := by
  funext j
  unfold sv
  rw [hK, hI, hR, hL]
theorem Sub.rep {D : va_G} {T : Nat → ClassId} {Z : Heap} {x G : Hp} {H : Heap} (h : Sub x G) (hr : Rep D T Z G H) : Rep D T Z x H := ⟨by rw [h.1]; exact hr.1, hr.2.1, hr.2.2.1, fun a ha => by
  obtain ⟨k1, k2, k3, k4, k5⟩ := h.2.2.2 a ha
  have hg : gK G a ≠ 0 := by rw [k1]; exact ha
  obtain ⟨g1, g2⟩ := hr.2.2.2 a hg
  exact ⟨g1.kept k1.symm k2.symm (sv_eq k1.symm k3.symm k4.symm k5.symm) rfl (Nat.le_refl _), by rw [← k1]; exact g2⟩⟩
theorem jn_o {G x x' : Hp} {a : Nat} (h : gK G a ≠ 0 ∧ gK x a = 0) : gK (jn G x x') a = gK G a ∧ gN (jn G x x') a = gN G a ∧ gI (jn G x x') a = gI G a ∧ gR (jn G x x') a = gR G a ∧ gL (jn G x x') a = gL G a := ⟨if_pos h, if_pos h, if_pos h, if_pos h, if_pos h⟩
theorem jn_i {G x x' : Hp} {a : Nat} (h : ¬ (gK G a ≠ 0 ∧ gK x a = 0)) : gK (jn G x x') a = gK x' a ∧ gN (jn G x x') a = gN x' a ∧ gI (jn G x x') a = gI x' a ∧ gR (jn G x x') a = gR x' a ∧ gL (jn G x x') a = gL x' a := ⟨if_neg h, if_neg h, if_neg h, if_neg h, if_neg h⟩
theorem jn_ext {G x x' : Hp} (h : Sub x G) (hx : Ext x x') : Ext G (jn G x x') := ⟨fun a ha => by
  by_cases hc : gK x a = 0
  · exact ⟨(jn_o ⟨ha, hc⟩).1, (jn_o ⟨ha, hc⟩).2.1⟩
  · obtain ⟨k1, k2, -⟩ := h.2.2.2 a hc
    obtain ⟨e1, e2⟩ := hx.1 a hc
    obtain ⟨j1, j2, -⟩ := jn_i (G := G) (x := x) (x' := x') (fun z => hc z.2)
    exact ⟨by rw [j1, e1, k1], by rw [j2, e2, k2]⟩, by show gZ G ≤ gZ x'; rw [← h.1]; exact hx.2⟩
section SUB
variable {p : Program} {l : Launch} {e : Env} {R : Room} {s : State} {m : MethodId} {args : Array Value} {below : List Frame} {meth : Method} {c : Code} {H : Heap} {locs : List Loc} {cells slots : Nat} {Qm : State → Prop} {pc : Nat} {ls : Array Slot} {rest : List Value} {cc : ByteArray} {D : va_G} {T : Nat → ClassId} {Z : Heap} {own : String} {nL : Nat} {ret : Option FieldType} {G0 G : Hp} {r : Option Nat}
theorem CT.rcv {X : Type} {wd : Wd X} {Ev : State → Prop} {y : MethodName} {cw : Cond} {fr lc : Nat} {as : List Value} {x : X} {Q : Option Value → X → Prop} {E : Nat → X → Prop} (hr : r = some (ad r)) (h : CT wd Ev l y cw fr lc (va_rf (some (ad r)) :: as) x Q E) : CT wd Ev l y cw fr lc (va_rf r :: as) x Q E := by
  rw [hr]
  exact h
theorem k_sub (C : Cx p s m meth c D T Z own cc nL ret) (I : HI (twd D T Z) G0 s R H locs cells slots G) {x : Hp} (hx : Sub x G) {y : MethodName} {cw : Cond} {cc' : ByteArray} {nL' : Nat} {ret' : Option FieldType} {fr lc : Nat} {as : List Value} {Q : Option Value → Hp → Prop} {len : Nat} {st0 : List Value} {ig : Instr}
    (hI : Inv1 p l e R s m args below meth c H locs cells slots (F0 m pc ls st0) rest y as) (hM : CT (twd D T Z) (Evd D T Z) l y cw fr lc as x Q (fun _ _ => False)) (hsz : ls.size = nL) (hdg : decode cc pc = .ok (ig, len)) (ts : List Tv) (hrest : rest = ts.map tv) (hts : tlen ts ≤ 8) (hcw : CwIs cw y cc' nL' ret') (hq1 : cw ∈ lw_all) (hq2 : Cond.initialized y.cls ∈ lw_all) (hroom : fr + 1 ≤ R.frames ∧ 8 + (nL' + 11) + lc ≤ R.locals)
    (kr : ∀ (v : Option Value) (x' : Hp) (H' : Heap) (locs' : List Loc) (cells' slots' : Nat), Q v x' → Ext x x' → Ext G (jn G x x') → HI (twd D T Z) G0 s R H' locs' cells' slots' (jn G x x') → W p l e R s m args below meth c H' locs' cells' slots' Qm (F0 m (pc + len) ls (v.toList ++ rest))) :
    W p l e R s m args below meth c H locs cells slots Qm (F0 m pc ls st0) := by
  have hE := C.2.2.2.2.1
  intro T1 hT X0
  obtain ⟨vm₁, mk, X1, hn, hst⟩ := hI T1 hT X0
  obtain ⟨i1, i2, i3, i4, i5, i6⟩ := I
  have hTh : (T1.setVm vm₁).heap = H := hT
  have j4 : cells + gC G ≤ R.cells := i4
  have j5 : slots + gS G ≤ R.slots := i5
  have x2 := hx.2.1
  have x3 := hx.2.2.1
  obtain ⟨o, U', x', L, k, n, St', ho, hr, hxx, hd, hk, hn2, hL, hz, hkp, hsteps⟩ := x_go (g := F0 m pc ls rest) hM X1 rfl (by show ls.size = c.maxLocals; rw [C.2.2.1]; exact hsz) (by rw [C.2.1]; exact hdg) (lv_room (by rw [hrest, tlen_cat]; exact hts)) hn hcw ((hE.warm X1.warmed).1.good hq1 _) ((hE.warm X1.warmed).1.good hq2 _) hroom.1 hroom.2 (by show cells + gC x ≤ _; omega) (by show slots + gS x ≤ _; omega) (fun g mk a => hE.warm (U := (T1.setVm vm₁).calling g mk a) X1.warmed) (by rw [hTh]; exact hx.rep i1)
  rw [hTh] at hd hL hz hkp
  have hk' : k + gC x' ≤ gC x := hk
  have hn' : n + gS x' ≤ gS x := hn2
  have ds : ∀ q, (twd D T Z).2.1 x q → (twd D T Z).2.1 G q := fun q z => ⟨by rw [(hx.2.2.2 q z.1).1]; exact z.1, z.2⟩
  have hA2 : ∀ q, (twd D T Z).2.1 x q ∨ H.size ≤ q → XA (twd D T Z) G0 s q := fun q h => by
    rcases h with h | h
    · exact i2 q (ds q h)
    · exact Or.inr (Nat.le_trans i3.1 h)
  have hext := jn_ext hx hxx
  have I' : HI (twd D T Z) G0 s R U'.heap (locs ++ L) (cells + k) (slots + n) (jn G x x') := by
    refine ⟨⟨hr.1, hr.2.1, hr.2.2.1, fun a ha => ?_⟩, fun a h => ?_, ⟨Nat.le_trans i3.1 hz, fun q h1 h2 => ?_, fun q hq => ?_⟩, by show cells + k + (gC G - (gC x - gC x')) ≤ _; omega, by show slots + n + (gS G - (gS x - gS x')) ≤ _; omega, Ext.tr _ _ _ i6 hext⟩
    · by_cases hc : gK G a ≠ 0 ∧ gK x a = 0
      · obtain ⟨k1, k2, k3, k4, k5⟩ := jn_o (x' := x') hc
        obtain ⟨g1, g2⟩ := i1.2.2.2 a hc.1
        exact ⟨g1.kept k1 k2 (sv_eq k1 k3 k4 k5) (hkp a g1.lt (fun z => z.1 hc.2)) hz, by rw [k1]; exact g2⟩
      · obtain ⟨k1, k2, k3, k4, k5⟩ := jn_i (x' := x') hc
        rw [k1] at ha
        obtain ⟨g1, g2⟩ := hr.2.2.2 a ha
        exact ⟨g1.kept k1 k2 (sv_eq k1 k3 k4 k5) rfl (Nat.le_refl _), by rw [k1]; exact g2⟩
    · by_cases hc : gK G a ≠ 0 ∧ gK x a = 0
      · exact i2 a ⟨hc.1, h.2⟩
      · have h1 := h.1
        rw [(jn_i (x' := x') hc).1] at h1
        exact hA2 a (hd a ⟨h1, h.2⟩)
    · rw [hkp q (Nat.lt_of_lt_of_le h1 i3.1) (fun z => h2 (i2 q (ds q z)))]
      exact i3.2.1 q h1 h2
    · rcases List.mem_append.mp hq with h | h
      · exact i3.2.2 q h
      · exact hA2 _ (hL q h)
  cases o with
  | returned v =>
    obtain ⟨t, a1, b1⟩ := kr v x' U'.heap _ _ _ ho hxx hext I' U' rfl St'
    exact ⟨t, hst t (hsteps.trans a1), b1⟩
  | threw a => exact False.elim ho
/-- the script's cells -/
theorem z_scl {sc0 : Option Nat} {N : Nat} {sc : Nat → Int32} (hsc : ∃ a, sc0 = some a ∧ va_X a N sc s Z) (C : Cx p s m meth c D T Z own cc nL ret) (I : HI (twd D T Z) G0 s R H locs cells slots G) (hdg : decode cc pc = .ok (.arraylength, 1))
    (kk : W p l e R s m args below meth c H locs cells slots Qm (F0 m (pc + 1) ls (.int (nI N) :: rest))) : W p l e R s m args below meth c H locs cells slots Qm (F0 m pc ls (va_rf sc0 :: rest)) := by
  obtain ⟨a, rfl, scr, g1, g2, g3, g4, g5⟩ := hsc
  exact W.alen C.1 C.2.1 (by rw [I.1.2.2.1 a (Array.getElem?_eq_some_iff.mp g1).1]; exact g1) g2 (by rw [g4]; rfl) rfl rfl hdg kk
theorem z_scr {sc0 : Option Nat} {N : Nat} {sc : Nat → Int32} (hsc : ∃ a, sc0 = some a ∧ va_X a N sc s Z) (C : Cx p s m meth c D T Z own cc nL ret) (I : HI (twd D T Z) G0 s R H locs cells slots G) {i : Int32} (hin : vp_in i N) (hdg : decode cc pc = .ok (.iaload, 1))
    (kk : W p l e R s m args below meth c H locs cells slots Qm (F0 m (pc + 1) ls (.int (sc i.toNatClampNeg) :: rest))) : W p l e R s m args below meth c H locs cells slots Qm (F0 m pc ls (.int i :: va_rf sc0 :: rest)) := by
  obtain ⟨a, rfl, scr, g1, g2, g3, g4, g5⟩ := hsc
  exact W.iald C.1 C.2.1 (by rw [I.1.2.2.1 a (Array.getElem?_eq_some_iff.mp g1).1]; exact g1) g2 g3 (by rw [g4]; exact hin) (g5 _ (vp_in_lt hin)) rfl rfl hdg kk
end SUB
