/-! EXCEPTIONS of the JDK: 'new X()' under a launch without stack traces -/
set_option maxRecDepth 100000
theorem tr_off {l : Launch} {e : Env} (hf : l.flags = flags0) (ha : l.admits e) : e.platform.stackTraces = false := by
  obtain ⟨-, -, -, -, hp, -⟩ := ha
  rw [hp]
  show l.stackTraces = false
  unfold Launch.stackTraces; rw [hf]; decide
theorem all_nil {P : Cond → Prop} : ∀ w ∈ ([] : List Cond), P w := fun _ h => by cases h
theorem all_cons {P : Cond → Prop} {a : Cond} {l : List Cond} (h1 : P a) (h2 : ∀ w ∈ l, P w) : ∀ w ∈ a :: l, P w := fun w hw => by
  rcases List.mem_cons.mp hw with rfl | h
  · exact h1
  · exact h2 w h
/-- what the tables say of an exception's class -/
def excW (X : String) : List Cond := Jvm.Bundle.chain0Atoms X ["java/lang/RuntimeException", "java/lang/Exception"] ++ [.instantiable X 6, .selects X Jvm.Bundle.tFill0 Jvm.Bundle.tFill0, .selects X Jvm.Bundle.tFill Jvm.Bundle.tFill, .lays X Jvm.Bundle.tN "cause" "Ljava/lang/Throwable;", .lays X Jvm.Bundle.tN "stackTrace" Jvm.Bundle.steD, .lays X Jvm.Bundle.tN "suppressedExceptions" Jvm.Bundle.listD, .lays X Jvm.Bundle.tN "backtrace" "Ljava/lang/Object;"]
theorem excW17 {U : State} (h : TB U) (a : Array Value) : ∀ w ∈ excW "java/util/NoSuchElementException", w.before a U = true := all_cons (h.good q1077 a) (all_cons (h.good q1078 a) (all_cons (h.good q1079 a) (all_cons (h.good q688 a) (all_cons (h.de q646 a) (all_cons (h.good q688 a) (all_cons (h.good q689 a) (all_cons (h.good q690 a) (all_cons (h.good q691 a) (all_cons (h.de q648 a) (all_cons (h.good q691 a) (all_cons (h.good q692 a) (all_cons (h.good q693 a) (all_cons (h.good q666 a) (all_cons (h.de q650 a) (all_cons (h.good q1068 a) (all_cons (h.good q1070 a) (all_cons (h.good q677 a) (all_cons (h.good q1071 a) (all_cons (h.good q1072 a) (all_cons (h.good q1073 a) (all_cons (h.good q1075 a) (all_nil))))))))))))))))))))))
theorem excW18 {U : State} (h : TB U) (a : Array Value) : ∀ w ∈ excW "java/lang/IllegalArgumentException", w.before a U = true := all_cons (h.good q685 a) (all_cons (h.good q686 a) (all_cons (h.good q687 a) (all_cons (h.good q688 a) (all_cons (h.de q646 a) (all_cons (h.good q688 a) (all_cons (h.good q689 a) (all_cons (h.good q690 a) (all_cons (h.good q691 a) (all_cons (h.de q648 a) (all_cons (h.good q691 a) (all_cons (h.good q692 a) (all_cons (h.good q693 a) (all_cons (h.good q666 a) (all_cons (h.de q650 a) (all_cons (h.good q644 a) (all_cons (h.good q652 a) (all_cons (h.good q653 a) (all_cons (h.good q654 a) (all_cons (h.good q656 a) (all_cons (h.good q658 a) (all_cons (h.good q662 a) (all_nil))))))))))))))))))))))
theorem thrW0 {U : State} {Z : Heap} (hU : U.heap = Z) (h : TB U) (h1 : LSt "UNASSIGNED_STACK" "[Ljava/lang/StackTraceElement;" U Z) (h2 : LSt "SUPPRESSED_SENTINEL" "Ljava/util/List;" U Z) (a : Array Value) : ∀ w ∈ Jvm.Bundle.throwableAtoms, w.before a U = true := by
  subst hU
  exact all_cons (h.good q114 a) (all_cons (h.good q665 a) (all_cons (h.good q674 a) (all_cons (h.good q678 a) (all_cons (h.good q681 a) (all_cons (h.good q683 a) (all_cons (h.good q666 a) (all_cons (h.good q667 a) (all_cons (h.good q142 a) (all_cons (h.good q143 a) (all_cons (h.good q668 a) (all_cons (h.good q673 a) (all_cons (h.good q679 a) (all_cons (h.good q696 a) (all_cons (h.good q655 a) (all_cons (h.good q697 a) (all_cons (h.good q657 a) (all_cons (h.good q698 a) (all_cons (h.good q659 a) (all_cons (h.good q669 a) (all_cons (h1.word) (all_cons (h.good q671 a) (all_cons (h2.word) (all_cons (h.good q661 a) (all_nil))))))))))))))))))))))))
theorem thrW {U : State} {Z : Heap} (h : TB U) (h1 : LSt "UNASSIGNED_STACK" "[Ljava/lang/StackTraceElement;" U Z) (h2 : LSt "SUPPRESSED_SENTINEL" "Ljava/util/List;" U Z) (a : Array Value) : ∀ w ∈ Jvm.Bundle.throwableAtoms, w.before a ({ U with heap := Z } : State) = true := thrW0 (U := { U with heap := Z }) rfl (h.same rfl) (LSt.same (u := U) (U := { U with heap := Z }) rfl h1) (LSt.same (u := U) (U := { U with heap := Z }) rfl h2) a
section EXC
variable {p : Program} {l : Launch} {e : Env} {R : Room} {s : State} {m : MethodId} {args : Array Value} {below : List Frame} {meth : Method} {c : Code} {H : Heap} {locs : List Loc} {cells slots : Nat} {Qm : State → Prop} {pc : Nat} {ls : Array Slot} {rest : List Value} {cc : ByteArray} {D : va_G} {T : Nat → ClassId} {Z : Heap} {own : String} {nL : Nat} {ret : Option FieldType} {G0 G : Hp} {idx idx2 kd : Nat}
theorem slot_of {k : Nat} {nm ds : String} {cf : ClassId} {kf : Class} {fi : Nat} {f : Field} (hE : Evd D T Z s) (hkd : kd = 17 ∨ kd = 18) (hk : k < 6) (hn : ((clt kd).2.1 k).1 = "java/lang/Throwable" ∧ ((clt kd).2.1 k).2.1 = nm ∧ ((clt kd).2.1 k).2.2.1 = ds) (hf : s.fieldFound? "java/lang/Throwable" nm ds = some (cf, kf, fi, f)) : f.slot = D.2 kd k := by
  have h6 : (clt kd).2.2 = 6 := by rcases hkd with rfl | rfl <;> rfl
  obtain ⟨cf', kf', fi', f', hi, hsl⟩ := (hE.2.1.1 kd (by omega) (by omega)).1.1 k (by rw [h6]; exact hk)
  rw [hn.1, hn.2.1, hn.2.2] at hi
  cases Option.some.inj (hi.symm.trans hf)
  exact hsl
set_option maxHeartbeats 4000000 in
theorem z_ctor0 (hLf : l.flags = flags0) (C : Cx p s m meth c D T Z own cc nL ret) (I : HI (twd D T Z) G0 s R H locs cells slots G) (hkd : kd = 17 ∨ kd = 18) {a : Nat} {kC : Class} (hka : gK G a = kd) (hza : Z.size ≤ a) (hkC : s.vm.classes[D.1 kd]? = some kC) (hcell : H[a]? = some (freshCell (D.1 kd) kC)) (q2 : Cond.methodLink own idx (Jvm.Bundle.init0 (clt kd).1) ∈ lw_all) (hdg : decode cc pc = .ok (.invokespecial idx, 3)) (hsz : ls.size = nL) (hR : 6 ≤ R.frames ∧ 100 ≤ R.locals) (hcat : (rest.map fun v => v.category).sum ≤ 8)
    (kk : ∀ (H' : Heap) (locs' : List Loc) (G' : Hp), xSame G G' a → Ext G G' → HI (twd D T Z) G0 s R H' locs' cells slots G' → W p l e R s m args below meth c H' locs' cells slots Qm (F0 m (pc + 3) ls rest)) :
    W p l e R s m args below meth c H locs cells slots Qm (F0 m pc ls (.ref a :: rest)) := by
  intro T1 hT X
  have htr := tr_off hLf X.admits
  have howns : e.platform.frameOwnsMonitors = true := by rw [X.admits.platform]
  have hfin : e.platform.finalization = false := by rw [X.admits.platform]
  have hpl : e.platform.magicAccessors = ({} : Platform).magicAccessors := by rw [X.admits.platform]
  have hE := C.2.2.2.2.1
  have hz := hE.2.2
  have hw : ∀ w ∈ excW (clt kd).1, w.before args s = true := by
    rcases hkd with rfl | rfl
    · exact excW17 hE.1 args
    · exact excW18 hE.1 args
  have hw2 : ∀ w ∈ [Cond.instantiable (clt kd).1 6, .selects (clt kd).1 Jvm.Bundle.tFill0 Jvm.Bundle.tFill0, .selects (clt kd).1 Jvm.Bundle.tFill Jvm.Bundle.tFill, .lays (clt kd).1 Jvm.Bundle.tN "cause" "Ljava/lang/Throwable;", .lays (clt kd).1 Jvm.Bundle.tN "stackTrace" Jvm.Bundle.steD, .lays (clt kd).1 Jvm.Bundle.tN "suppressedExceptions" Jvm.Bundle.listD, .lays (clt kd).1 Jvm.Bundle.tN "backtrace" "Ljava/lang/Object;"], w.holds args s none s [] = true := fun w hx => hw w (List.mem_append_right _ hx)
  obtain ⟨Tt, Zi, L', LZ, Y⟩ := ThrowableC.of_atoms (args := args) (s := ({ s with heap := Z } : State)) howns hfin hpl (thrW hE.1 hz.2.2.2.2.2.2.2.2.2.2.2.1.2.1 hz.2.2.2.2.2.2.2.2.2.2.2.1.2.2.1 args)
  have L : Tt.Links e.platform s := ⟨L'.owns, L'.noFinalization, L'.cls, L'.name, L'.boot, L'.notInterface, L'.initialized, L'.statics, L'.fillAt, L'.fillCode, L'.fillBytes, L'.fillLocals, L'.fillLocks, L'.fillStatic, L'.fillAbstract, L'.fillReturns, L'.fillParams, L'.fill0At, L'.fill0Name, L'.fill0Desc, L'.fill0Params, L'.fill0Static, L'.fill0Native, L'.fill0Code, L'.fill0Locks, L'.fill0Abstract, L'.stackInstance, L'.stackNotFinal, L'.unassignedStatic, L'.objClass, L'.objClassName, L'.objMethod, L'.objName, L'.objStatic, L'.objAbstract, L'.objFound, L'.objParams, L'.objCode, L'.objBytes, L'.objLocks, L'.causeInstance, L'.causeNotFinal, L'.sentinelStatic, L'.suppInstance, L'.suppNotFinal, L'.msgInstance, L'.msgNotFinal, L'.stackApartSupp, L'.file, L'.mlink1, L'.mright1, L'.pool1, L'.mlink27, L'.mright27, L'.pool27, L'.mlink202, L'.mright202, L'.pool202, L'.link7, L'.right7, L'.at7, L'.link13, L'.right13, L'.at13, L'.link17, L'.right17, L'.at17, L'.link20, L'.right20, L'.at20, L'.link24, L'.right24, L'.at24⟩
  have Yinit0 : s.methodNamed? Jvm.Bundle.tInit0 = some (Zi.m Tt.toThrowableT) := Y.init0
  have Yfill : s.methodNamed? Jvm.Bundle.tFill = some Tt.fill := Y.fill
  have Yfill0 : s.methodNamed? Jvm.Bundle.tFill0 = some Tt.fill0 := Y.fill0
  have Yfound : s.vm.findClass Jvm.Bundle.tN = some Tt.cT := Y.found
  have Ycause : s.fieldFound? Jvm.Bundle.tN "cause" "Ljava/lang/Throwable;" = some (Tt.cT, Tt.kT, Tt.i7, Tt.fCause) := Y.cause
  have Ystack : s.fieldFound? Jvm.Bundle.tN "stackTrace" Jvm.Bundle.steD = some (Tt.cT, Tt.kT, Tt.i17, Tt.fStack) := Y.stack
  have Ysupp : s.fieldFound? Jvm.Bundle.tN "suppressedExceptions" Jvm.Bundle.listD = some (Tt.cT, Tt.kT, Tt.i24, Tt.fSupp) := Y.supp
  have Yun : s.fieldFound? Jvm.Bundle.tN "UNASSIGNED_STACK" Jvm.Bundle.steD = some (Tt.cT, Tt.kT, Tt.i13, Tt.fUnassigned) := Y.unassigned
  have Ysen : s.fieldFound? Jvm.Bundle.tN "SUPPRESSED_SENTINEL" Jvm.Bundle.listD = some (Tt.cT, Tt.kT, Tt.i20, Tt.fSentinel) := Y.sentinel
  have hfit : Jvm.Bundle.fit (clt kd).1 = true := by rcases hkd with rfl | rfl <;> decide +kernel
  obtain ⟨P1, Ps, hlen, L1, hL, hP1m, hlink1, hlink⟩ := Jvm.Bundle.chain0 (args := args) hpl Yinit0 ["java/lang/RuntimeException", "java/lang/Exception"] (clt kd).1 hfit (by decide +kernel) (fun w hx => hw w (List.mem_append_left _ hx))
  have hKn := (hE.2.1.1 kd (by omega) (by omega)).1
  have hfound : s.vm.findClass (clt kd).1 = some P1.m.cls := findClass_of_methodNamed hP1m
  have hcD : D.1 kd = P1.m.cls := Option.some.inj (hKn.2.1.symm.trans hfound)
  rw [hcD] at hkC hcell
  obtain ⟨c1, kX', hc1, hk, hord, -, -, hn6⟩ := Cond.instantiable_spec (hw2 (.instantiable (clt kd).1 6) (by simp))
  cases Option.some.inj (hc1.symm.trans hfound)
  cases Option.some.inj (hkC.symm.trans hk)
  have hsel0 : selectMethod e.platform s.vm P1.m.cls Tt.fill0 = .method Tt.fill0 := by
    obtain ⟨c2, r2, m2, k1, k2, k3, k4, -⟩ := Cond.selects_spec (hw2 (.selects (clt kd).1 Jvm.Bundle.tFill0 Jvm.Bundle.tFill0) (by simp))
    cases Option.some.inj (k1.symm.trans hfound)
    cases Option.some.inj (k2.symm.trans (State.methodFound?_of_named Yfill0 (by decide)))
    cases Option.some.inj (k3.symm.trans Yfill0)
    rw [Launch.admits_selectMethod X.admits]; exact k4
  have hselF : selectMethod e.platform s.vm P1.m.cls Tt.fill = .method Tt.fill := by
    obtain ⟨c2, r2, m2, k1, k2, k3, k4, -⟩ := Cond.selects_spec (hw2 (.selects (clt kd).1 Jvm.Bundle.tFill Jvm.Bundle.tFill) (by simp))
    cases Option.some.inj (k1.symm.trans hfound)
    cases Option.some.inj (k2.symm.trans (State.methodFound?_of_named Yfill (by decide)))
    cases Option.some.inj (k3.symm.trans Yfill)
    rw [Launch.admits_selectMethod X.admits]; exact k4
  obtain ⟨cfu, kfu, fiu, fu, au, cu, hu1, hu2, hu3, hu4, hu5, hu6, hu7, -⟩ := hz.2.2.2.2.2.1
  obtain ⟨cfs, kfs, fis, fs, as, cs, hs1, hs2, hs3, hs4, hs5, hs6, hs7, -⟩ := hz.2.2.2.2.2.2.1
  cases Option.some.inj (hu1.symm.trans Yun)
  cases Option.some.inj (hs1.symm.trans Ysen)
  have hau : au = Tt.aS := Option.some.inj (hu4.symm.trans L.statics)
  have has : as = Tt.aS := Option.some.inj (hs4.symm.trans L.statics)
  rw [hau] at hu5
  rw [has] at hs5
  cases Option.some.inj (hs5.symm.trans hu5)
  have hltS : Tt.aS < Z.size := (Array.getElem?_eq_some_iff.mp hu5).1
  have hcellS : T1.heap[Tt.aS]? = some cu := by rw [hT, I.1.2.2.1 _ hltS]; exact hu5
  have hneS : Tt.aS ≠ a := Nat.ne_of_lt (Nat.lt_of_lt_of_le hltS hza)
  have hknownS : cu.vm ≠ .unknown := fun z => by rw [z] at hu6; cases hu6
  have okr : ∀ r : Option Nat, (va_rf r).isRef = true := fun r => by cases r <;> rfl
  let u0 : RefV := ⟨va_rf (kq T 0), okr _⟩
  let sen : RefV := ⟨va_rf (kq T 1), okr _⟩
  obtain ⟨tyC, dC, hdC, hdnC⟩ := Cond.laysAt hfound hk Ycause (hw2 (.lays (clt kd).1 Jvm.Bundle.tN "cause" "Ljava/lang/Throwable;") (by simp))
  obtain ⟨tyS, dS, hdS, hdnS⟩ := Cond.laysAt hfound hk Ystack (hw2 (.lays (clt kd).1 Jvm.Bundle.tN "stackTrace" Jvm.Bundle.steD) (by simp))
  obtain ⟨tyP, dP, hdP, hdnP⟩ := Cond.laysAt hfound hk Ysupp (hw2 (.lays (clt kd).1 Jvm.Bundle.tN "suppressedExceptions" Jvm.Bundle.listD) (by simp))
  obtain ⟨ci198, i198, fB, hk198, hg198, ha198, hsB, -, hnB, htB, hffB⟩ := Cond.ownField (t := .object "java/lang/Object") Yfound L.cls (by decide +kernel) (hE.1.good q694 args) (hE.1.good q663 args) e.platform hpl
  obtain ⟨tyB, dB, hdB, hdnB⟩ := Cond.laysAt hfound hk hffB (hw2 (.lays (clt kd).1 Jvm.Bundle.tN "backtrace" "Ljava/lang/Object;") (by simp))
  have bC := Cond.laysApart hdB hdC hdnB hdnC (by rw [hnB, Y.causeName]; decide)
  have bS := Cond.laysApart hdB hdS hdnB hdnS (by rw [hnB, Y.stackName]; decide)
  have bP := Cond.laysApart hdB hdP hdnB hdnP (by rw [hnB, Y.suppName]; decide)
  have hskip : SkipFacts Tt e.platform s (fun u => u) u0 ((preparedCellV Tt.toThrowableT (freshCell P1.m.cls kC) a u0 sen).withEntry T1.cur) :=
    ⟨{ ci198 := ci198, i198 := i198, fBack := fB }, ⟨hk198, hg198, ha198, hsB⟩, by
      have := fresh_default (c := P1.m.cls) tyB
      rw [htB] at this
      simpa [preparedCellV, Cell.setSlot, Cell.withEntry, Array.getElem?_setIfInBounds, bC, bS, bP, bC.symm, bS.symm, bP.symm, defaultValue] using this, fun _ _ => rfl⟩
  have hm1 : (Cond.instanceMethod (Jvm.Bundle.init0 (clt kd).1)).before args s = true := hw _ (List.mem_append_left _ (by simp [Jvm.Bundle.chain0Atoms, Jvm.Bundle.passAtoms]))
  have hm2 : (Cond.code (Jvm.Bundle.init0 (clt kd).1) Jvm.Bundle.five 1 none).before args s = true := hw _ (List.mem_append_left _ (by simp [Jvm.Bundle.chain0Atoms, Jvm.Bundle.passAtoms]))
  have hdg' : decode c.code pc = .ok (.invokespecial idx, 3) := by rw [C.2.1]; exact hdg
  obtain ⟨tm, methC, cdC, kCC, vm₁, hnC, -, -, -, -, -, -, -, hW₁, st1⟩ := Steps.initCold (tb := p.tables) (e := e) (below := below) (s := s) (U := T1) X.here C.1 X.warmed hpl C.2.2.2.1 (t := Jvm.Bundle.init0 (clt kd).1) rfl rfl (Jvm.Bundle.fit_spec hfit).2
    (hE.1.good q2 args) hm1 (bytes := Jvm.Bundle.five) (maxL := 1) hm2 (f := F0 m pc ls (.ref a :: rest)) rfl (a := a) (rest := rest) rfl hdg'
  cases Option.some.inj (hnC.symm.trans hP1m)
  have X₁ := X.noted hW₁
  have hl2 : Ps.length = 2 := hlen
  have h8 : 2 * (F0 m pc ls rest).monitorRoom + (rest.map fun v => v.category).sum ≤ 8 := lv_room hcat
  obtain ⟨vm₂, X₂, st2⟩ := X₁.ctorPlainOffV C.1 (g := F0 m pc ls rest) rfl (by show ls.size = c.maxLocals; rw [C.2.2.1]; exact hsz) Tt L Zi LZ (P1 :: Ps)
    (fun P hP => by
      rcases List.mem_cons.mp hP with rfl | hP
      · exact L1
      · exact hL P hP) ⟨hlink1, hlink⟩ (u0 := u0) (sen := sen) (self := a) (cell := freshCell P1.m.cls kC) (cellS := cu)
    (by show T1.heap[a]? = _; rw [hT]; exact hcell) (fun _ => by simp) (by simp) rfl rfl hsel0 hselF hcellS hneS hknownS hu7 hs7
    (Takes.of_laid hk hord tyC (by rw [Y.causeType]; rfl)) (Takes.of_laid hk hord tyS (by rw [Y.stackType]; exact fits_refV_array _ u0)) (Takes.of_laid hk hord tyP (by rw [Y.suppType]; exact fits_refV_object _ sen)) Y.objLocals hskip htr [] hdg'
    (by simp only [List.length_cons, hl2]; omega) (by simp only [List.length_cons, hl2]; omega)
  have hlt : a < H.size := (Array.getElem?_eq_some_iff.mp hcell).1
  have s0 := slot_of (k := 0) hE hkd (by decide) (by rcases hkd with rfl | rfl <;> exact ⟨rfl, rfl, rfl⟩) Ycause
  have s1 := slot_of (k := 1) hE hkd (by decide) (by rcases hkd with rfl | rfl <;> exact ⟨rfl, rfl, rfl⟩) Ystack
  have s2 := slot_of (k := 2) hE hkd (by decide) (by rcases hkd with rfl | rfl <;> exact ⟨rfl, rfl, rfl⟩) Ysupp
  have h6 : (ftab kd).length = 6 := by rcases hkd with rfl | rfl <;> rfl
  have hap : ∀ i j, i < (ftab kd).length → j < (ftab kd).length → i ≠ j → D.2 kd i ≠ D.2 kd j := by
    rw [← clt_len kd (by omega) (by omega)]
    exact (hE.2.1.1 kd (by omega) (by omega)).2
  obtain ⟨-, cell0, e0, -, -, q4⟩ := ((I.1.2.2.2 a (by rw [hka]; omega)).1.1 (by rw [hka]; omega))
  cases Option.some.inj (e0.symm.trans hcell)
  rw [hka] at q4
  have st : ∀ k, k < 3 → sty kd k = 1 := by rcases hkd with rfl | rfl <;> decide
  have hsv : sv (wR (wR (wR (wR G a 0 (some a)) a 1 (kq T 0)) a 2 (kq T 1)) a 1 (kq T 0)) a = updV (updV (updV (updV (sv G a) 0 (.ref a)) 1 u0.v) 2 sen.v) 1 u0.v := by
    rw [sv_wR (by show sty (gK G a) 1 = 1; rw [hka]; exact st 1 (by decide)), sv_wR (by show sty (gK G a) 2 = 1; rw [hka]; exact st 2 (by decide)), sv_wR (by show sty (gK G a) 1 = 1; rw [hka]; exact st 1 (by decide)), sv_wR (by rw [hka]; exact st 0 (by decide))]
    rfl
  have q5 := t_set (t_set (t_set (t_set q4 hap (k := 0) (by omega) (.ref a)) hap (k := 1) (by omega) u0.v) hap (k := 2) (by omega) sen.v) hap (k := 1) (by omega) u0.v
  rw [← s0, ← s1, ← s2] at q5
  have hXA : XA (twd D T Z) G0 s a := I.2.1 a ⟨by rw [hka]; omega, hza⟩
  have key : HI (twd D T Z) G0 s R (H.setIfInBounds a ((preparedCellV Tt.toThrowableT (freshCell P1.m.cls kC) a u0 sen).setSlot Tt.fStack.slot u0.v)) (locs ++ [⟨a, Tt.fCause.slot⟩, ⟨a, Tt.fStack.slot⟩, ⟨a, Tt.fSupp.slot⟩, ⟨a, Tt.fStack.slot⟩]) cells slots (wR (wR (wR (wR G a 0 (some a)) a 1 (kq T 0)) a 2 (kq T 1)) a 1 (kq T 0)) := by
    have z : (H.setIfInBounds a ((preparedCellV Tt.toThrowableT (freshCell P1.m.cls kC) a u0 sen).setSlot Tt.fStack.slot u0.v)).size = H.size := by simp
    have oq : ∀ q : Nat, q ≠ a → (H.setIfInBounds a ((preparedCellV Tt.toThrowableT (freshCell P1.m.cls kC) a u0 sen).setSlot Tt.fStack.slot u0.v))[q]? = H[q]? := fun q hq => by simp [Array.getElem?_setIfInBounds, Ne.symm hq]
    have e1 : (H.setIfInBounds a ((preparedCellV Tt.toThrowableT (freshCell P1.m.cls kC) a u0 sen).setSlot Tt.fStack.slot u0.v))[a]? = some ((preparedCellV Tt.toThrowableT (freshCell P1.m.cls kC) a u0 sen).setSlot Tt.fStack.slot u0.v) := by simp [Array.getElem?_setIfInBounds, hlt]
    have hKr : gK (wR (wR (wR (wR G a 0 (some a)) a 1 (kq T 0)) a 2 (kq T 1)) a 1 (kq T 0)) a = kd := hka
    refine ⟨I.1.set hza rfl rfl rfl (fun b hb => by rw [sv_wR_ne hb, sv_wR_ne hb, sv_wR_ne hb, sv_wR_ne hb]) z oq ⟨fun _ => ?_, fun h => absurd h (by rw [hKr]; omega), fun h => absurd h (by rw [hKr]; omega)⟩, fun b h => I.2.1 b ⟨h.1, h.2⟩, ⟨by rw [z]; exact I.2.2.1.1, fun q h1 h2 => by rw [oq q (fun hq => h2 (by rw [hq]; exact hXA))]; exact I.2.2.1.2.1 q h1 h2, fun q hq => ?_⟩, I.2.2.2.1, I.2.2.2.2.1, Ext.tr _ _ _ I.2.2.2.2.2 (Ext.kn rfl rfl rfl)⟩
    · rw [hKr, hsv]
      exact ⟨by omega, _, e1, hcD.symm, rfl, q5⟩
    · rcases List.mem_append.mp hq with h1 | h1
      · exact I.2.2.1.2.2 q h1
      · have hb : q.base = a := by
          simp only [List.mem_cons, List.not_mem_nil, or_false] at h1
          rcases h1 with rfl | rfl | rfl | rfl <;> rfl
        rw [hb]; exact hXA
  obtain ⟨t, hst, hq⟩ := kk _ _ (wR (wR (wR (wR G a 0 (some a)) a 1 (kq T 0)) a 2 (kq T 1)) a 1 (kq T 0)) ⟨rfl, rfl, rfl, rfl, rfl, fun b hb => ⟨rfl, by funext j; simp [gR, wR, hb], rfl⟩⟩ (Ext.kn rfl rfl rfl) key _ (by show T1.heap.setIfInBounds a _ = _; rw [hT]) X₂
  exact ⟨t, st1 t (fun acts => by rw [doInvoke_state]; exact st2 t hst), hq⟩
set_option maxHeartbeats 1000000 in
/-- new X; dup; invokespecial X.<init> -/
theorem z_new0 (hLf : l.flags = flags0) (C : Cx p s m meth c D T Z own cc nL ret) (I : HI (twd D T Z) G0 s R H locs cells slots G) (hkd : kd = 17 ∨ kd = 18) (q1 : Cond.classLink own idx (clt kd).1 ∈ lw_all) (q2 : Cond.methodLink own idx2 (Jvm.Bundle.init0 (clt kd).1) ∈ lw_all) (hb : 1 ≤ gC G ∧ 6 ≤ gS G) (hd1 : decode cc pc = .ok (.new idx, 3)) (hd2 : decode cc (pc + 3) = .ok (.dup, 1)) (hd3 : decode cc (pc + 4) = .ok (.invokespecial idx2, 3)) (hsz : ls.size = nL) (hR : 6 ≤ R.frames ∧ 100 ≤ R.locals)
    (kk : ∀ (H' : Heap) (locs' : List Loc) (cells' slots' : Nat) (G' : Hp), xSame (nw G kd 0 6) G' (gZ G) → Ext G G' → HI (twd D T Z) G0 s R H' locs' cells' slots' G' → W p l e R s m args below meth c H' locs' cells' slots' Qm (F0 m (pc + 7) ls [va_rf (some (gZ G))])) :
    W p l e R s m args below meth c H locs cells slots Qm (F0 m pc ls []) := by
  have hE := C.2.2.2.2.1
  have hkd' : 0 < kd ∧ kd < 20 := by omega
  have hKn := (hE.2.1.1 kd hkd'.1 hkd'.2).1
  have hz : gZ G = H.size := I.1.1
  have h6 : (ftab kd).length = 6 := by rcases hkd with rfl | rfl <;> rfl
  have j4 : cells + gC G ≤ R.cells := I.2.2.2.1
  have j5 : slots + gS G ≤ R.slots := I.2.2.2.2.1
  refine W.newcK C.1 C.2.1 C.2.2.2.1 (hE.1.good q1 args) (hE.1.good (clt_ins kd hkd'.1 hkd'.2) args) (hE.1.good (clt_ini kd hkd'.1 hkd'.2) args) rfl hd1 (by omega) (by rw [clt_len kd hkd'.1 hkd'.2, h6]; omega) hKn.2.1 rfl fun H1 kC hkC e1 z1 o1 => ?_
  have I1 : HI (twd D T Z) G0 s R H1 locs (cells + 1) (slots + 6) (nw G kd 0 6) := by
    refine I.new z1 o1 ⟨fun h => ?_, fun h h7 => ?_, fun h => absurd h (by rw [← hz, gK_nw]; omega)⟩ hb
    · rw [← hz, gK_nw, sv_nw]
      refine ⟨hkd'.2, ?_⟩
      have hb2 := (u_born (tyt kd) (ws := lw_all) (fun w h => hE.1.good h args) (clt_in kd hkd'.1 hkd'.2) hKn hkC e1 (clt_ty kd hkd'.1 hkd'.2)).to (V' := fun j => zv (sty kd j)) (fun j hj => dv_ok kd hkd'.2 j (by rw [← clt_len kd hkd'.1 hkd'.2]; exact hj))
      rw [clt_len kd hkd'.1 hkd'.2] at hb2
      rw [hz]
      exact hb2
    · rw [← hz, gK_nw] at h; omega
  rw [clt_len kd hkd'.1 hkd'.2, h6]
  refine lv_dup C.1 C.2.1 hd2 rfl ?_
  refine z_ctor0 (rest := [.ref H.size]) hLf C I1 hkd (by rw [← hz]; exact gK_nw) I.1.2.1 hkC e1 q2 hd3 hsz hR (Nat.le_of_ble_eq_true rfl) (fun H' locs' G' hx he I' => ?_)
  have hk2 := kk H' locs' _ _ G' (by rw [hz]; exact hx) (Ext.tr _ _ _ (Ext.nw I.1) he) I'
  rw [hz] at hk2
  exact hk2
theorem xSame.kn {G' : Hp} {n sl : Nat} (h : xSame (nw G kd n sl) G' (gZ G)) : isO G' (some (gZ G)) kd := ⟨_, rfl, by rw [h.1]; exact gK_nw⟩
end EXC
