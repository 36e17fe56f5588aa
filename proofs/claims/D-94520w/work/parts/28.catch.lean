/-! HANDLERS: an exception table whose class is resolved or not -/
section CAT
variable {p : Program} {l : Launch} {e : Env} {R : Room} {s : State} {m : MethodId} {args : Array Value} {below : List Frame} {meth : Method} {c : Code} {T : State} {locs : List Loc} {cells slots : Nat}
theorem go_cold {E : CtlPost} {d : Bool} {acts : List Action} {s : State} {f : JFrame} {a : Addr} {Q : Handler → Pre} {x : ExceptionTableEntry} {t : List ExceptionTableEntry} {c : ClassId} {cell : Cell} {vm' : Vm} (hx : covers x f.pc = true) (h0 : x.catchType ≠ 0)
    (hg : (Jvm.resolveClass f.method.cls x.catchType).Gives e.toSetting s.vm (.ok c) vm') (hsz : vm'.classes.size ≤ s.vm.classes.size) (hcell : s.heap[a]? = some cell) (hobj : ∀ k, cell.vm ≠ .statics k)
    (hk : ∃ k, vm'.classes[cell.cls]? = some k) (hc : ∃ k, vm'.classes[c]? = some k) :
    wp (findHandler.go f a (x :: t)) Q E e d acts s ↔
      if vm'.assignable cell.cls c = true then Q (.found x.handlerPc) d acts (s.setVm vm') else wp (findHandler.go f a t) Q E e d acts (s.setVm vm') := by
  obtain ⟨ha, ht⟩ := hg.op (op := VmOp.resolveClass f.method.cls x.catchType) rfl
  simp only [covers] at hx
  cases hfit : vm'.assignable cell.cls c <;>
    simp [findHandler.go, hx, h0, ha, ht, hsz, hcell, hobj, hk, hc, hfit, VmOp.dirties, VmOp.acts]
theorem g_step (X : Stand p l e R s m args below meth c T locs cells slots) {own name : String} (hown : s.vm.findClass own = some m.cls) {x : ExceptionTableEntry} (hlink : (Cond.classLink own x.catchType name).before args s = true)
    {a : Addr} {cell : Cell} {cT : ClassId} {ks : Class} (hcell : T.heap[a]? = some cell) (hobj : ∀ k, cell.vm ≠ .statics k) (hks : s.vm.classes[cell.cls]? = some ks) (hcT : s.vm.findClass name = some cT)
    {g : JFrame} (hg : g.method = m) (hx : covers x g.pc = true) (h0 : x.catchType ≠ 0) :
    ∃ vm', Stand p l e R s m args below meth c (T.setVm vm') locs cells slots ∧ ∀ (t : List ExceptionTableEntry) (Q : Handler → Pre) (E : CtlPost) (d : Bool) (acts : List Action),
      wp (findHandler.go g a (x :: t)) Q E e d acts ((T.setTop g).pushFrame (.throwing a)) ↔
      if s.vm.assignable cell.cls cT = true then Q (.found x.handlerPc) d acts (((T.setVm vm').setTop g).pushFrame (.throwing a)) else wp (findHandler.go g a t) Q E e d acts (((T.setVm vm').setTop g).pushFrame (.throwing a)) := by
  have hpl : e.platform.magicAccessors = ({} : Platform).magicAccessors := by rw [X.admits.platform]
  obtain ⟨c', hc', hcl⟩ := Cond.classLink_spec hown hlink e.platform hpl
  cases hcT.symm.trans hc'
  obtain ⟨dk, _, _, kt, hd, _, _, _, _, hkt, _, hopen⟩ := hcl.here
  have hcl₀ := X.warmed.classLinks hcl
  have hW' : s.WarmedH (T.vm.noted m.cls x.catchType (.cls cT)) := X.warmed.noted hd hopen (State.rightAt_cls hcl)
  obtain ⟨ks', hks', -⟩ := hW'.alike.2.2 _ _ hks
  obtain ⟨kt', hkt', -⟩ := hW'.alike.2.2 _ _ hkt
  refine ⟨_, X.noted hW', fun t Q E d acts => ?_⟩
  subst hg
  have e1 : ((T.setTop g).pushFrame (.throwing a)).vm = T.vm := Stand.throwing_vm T g a
  have e2 : ((T.setTop g).pushFrame (.throwing a)).heap = T.heap := Stand.throwing_heap T g a
  have := go_cold (e := e) (E := E) (d := d) (acts := acts) (s := (T.setTop g).pushFrame (.throwing a)) (f := g) (a := a) (Q := Q) (x := x) (t := t) (c := cT) (cell := cell) (vm' := T.vm.noted g.method.cls x.catchType (.cls cT)) hx h0
    (by rw [e1]; exact resolveClass_links e.toSetting hcl₀) (by rw [e1]; no_record) (by rw [e2]; exact hcell) hobj ⟨ks', hks'⟩ ⟨kt', hkt'⟩
  rw [hW'.alike.assignable] at this
  exact this
theorem caughtTo {tb : Tables} {s s' target : State} {g : JFrame} {c : Code} {below : List Frame} {a : Addr} (h : At s g.method c below) (h' : At s' g.method c below) {pc : Nat}
    (hfind : ∀ (Q : Handler → Pre) (E : CtlPost) (d : Bool) (acts : List Action), wp (findHandler g a) Q E e d acts ((s.setTop g).pushFrame (.throwing a)) ↔ Q (.found pc) d acts ((s'.setTop g).pushFrame (.throwing a)))
    (hfr : s'.frames = s.frames)
    (hrest : Steps tb e below (s'.setTop { g with pc := pc, stack := [.ref a] }) target) :
    Steps tb e below ((s.setTop g).pushFrame (.throwing a)) target := by
  obtain ⟨hgo, hw⟩ := h.throwing a
  refine Steps.head hgo hw ?_
  have key : ∀ r : List Frame, (stepThrowing e ((s.setTop g).pushFrame (.throwing a)) a (.java g :: r)).Is (((s'.setTop g).pushFrame (.throwing a)).setFrames (.java { g with pc := pc, stack := [.ref a] } :: r)) [] := by
    intro r
    simp only [stepThrowing, searchFrame, vmDo]
    generalize hr : Sem.go _ e false [] _ = res
    obtain ⟨as, rfl, ha⟩ := Sem.eq_ok_of hr (a := Handler.found pc) (s' := (s'.setTop g).pushFrame (.throwing a)) (acts' := []) (by simp [hfind _ _ _ _])
    exact ⟨rfl, ha⟩
  rw [stepThread_throwing (frames_entered h.top _), (key _).1]
  obtain ⟨g₀, hg⟩ := Option.isSome_iff_exists.mp h.top
  obtain ⟨r, hr⟩ := State.topJava?_eq_some.mp hg
  have hr' : s'.frames = .java g₀ :: r := hfr.trans hr
  rw [State.pushFrame, State.setFrames_setFrames, State.setTop_of_frames _ hr', State.setFrames_setFrames]
  rw [State.setTop_of_frames _ hr'] at hrest
  rw [hr]
  exact hrest
variable {H : Heap} {Qm : State → Prop} {pc : Nat} {ls : Array Slot} {rest : List Value}
theorem t_catch {own name : String} (hown : s.vm.findClass own = some m.cls) {x : ExceptionTableEntry} {t : List ExceptionTableEntry} (htb : c.exceptionTable.toList = x :: t) (hlink : (Cond.classLink own x.catchType name).before args s = true)
    {a : Addr} {cell : Cell} {cT : ClassId} {ks : Class} (hcell : H[a]? = some cell) (hobj : ∀ k, cell.vm ≠ .statics k) (hks : s.vm.classes[cell.cls]? = some ks) (hcT : s.vm.findClass name = some cT) (hasg : s.vm.assignable cell.cls cT = true)
    (hx : covers x pc = true) (h0 : x.catchType ≠ 0) (k : W p l e R s m args below meth c H locs cells slots Qm (F0 m x.handlerPc ls [.ref a])) :
    WT p l e R s m args below meth c H locs cells slots Qm (F0 m pc ls rest) a := by
  intro T hT X
  obtain ⟨vm', X', hf⟩ := g_step X hown hlink (a := a) (cell := cell) (by rw [hT]; exact hcell) hobj hks hcT (g := F0 m pc ls rest) rfl hx h0
  obtain ⟨tt, a1, b1⟩ := k (T.setVm vm') hT X'
  refine ⟨tt, ?_, b1⟩
  refine caughtTo (s := T) (s' := T.setVm vm') (g := F0 m pc ls rest) X.here X'.here (pc := x.handlerPc) (fun Q E d acts => ?_) rfl a1
  rw [W.findHandler_eq (f := F0 m pc ls rest) (meth := meth) (code := c) (by rw [Stand.throwing_vm]; exact X.method') X.code, htb, hf, if_pos hasg]
theorem t_catch2 {own name name2 : String} (hown : s.vm.findClass own = some m.cls) {x x2 : ExceptionTableEntry} {t : List ExceptionTableEntry} (htb : c.exceptionTable.toList = x :: x2 :: t) (hlink : (Cond.classLink own x.catchType name).before args s = true) (hlink2 : (Cond.classLink own x2.catchType name2).before args s = true)
    {a : Addr} {cell : Cell} {cT cT2 : ClassId} {ks : Class} (hcell : H[a]? = some cell) (hobj : ∀ k, cell.vm ≠ .statics k) (hks : s.vm.classes[cell.cls]? = some ks) (hcT : s.vm.findClass name = some cT) (hno : s.vm.assignable cell.cls cT = false) (hcT2 : s.vm.findClass name2 = some cT2) (hasg : s.vm.assignable cell.cls cT2 = true)
    (hx : covers x pc = true) (h0 : x.catchType ≠ 0) (hx2 : covers x2 pc = true) (h02 : x2.catchType ≠ 0) (k : W p l e R s m args below meth c H locs cells slots Qm (F0 m x2.handlerPc ls [.ref a])) :
    WT p l e R s m args below meth c H locs cells slots Qm (F0 m pc ls rest) a := by
  intro T hT X
  obtain ⟨vm', X', hf⟩ := g_step X hown hlink (a := a) (cell := cell) (by rw [hT]; exact hcell) hobj hks hcT (g := F0 m pc ls rest) rfl hx h0
  obtain ⟨vm2, X2, hf2⟩ := g_step X' hown hlink2 (a := a) (cell := cell) (by show T.heap[a]? = _; rw [hT]; exact hcell) hobj hks hcT2 (g := F0 m pc ls rest) rfl hx2 h02
  obtain ⟨tt, a1, b1⟩ := k ((T.setVm vm').setVm vm2) hT X2
  refine ⟨tt, ?_, b1⟩
  refine caughtTo (s := T) (s' := (T.setVm vm').setVm vm2) (g := F0 m pc ls rest) X.here X2.here (pc := x2.handlerPc) (fun Q E d acts => ?_) rfl a1
  rw [W.findHandler_eq (f := F0 m pc ls rest) (meth := meth) (code := c) (by rw [Stand.throwing_vm]; exact X.method') X.code, htb, hf, if_neg (by rw [hno]; decide), hf2, if_pos hasg]
end CAT
/-- the exception table of a code, as its word has it -/
def TabIs (c : Code) (L : List (Nat × Nat × Nat × Nat)) : Prop := c.exceptionTable.toList.map (fun h => (h.startPc, h.endPc, h.handlerPc, h.catchType)) = L
theorem tabOf {c : Code} {s : State} {m : MethodId} {meth : Method} {y : MethodName} {bytes : ByteArray} {nL : Nat} {ret : Option FieldType} {a : Array Value} {L : List (Nat × Nat × Nat × Nat)} (hn : s.methodNamed? y = some m) (hm : s.vm.method? m = some meth) (hc : meth.code = some c) (hcb : (Cond.codeWith y bytes nL ret L).before a s = true) : TabIs c L := by
  obtain ⟨m9, meth', c', hn9, h1, h2, -, -, h5, -⟩ := Cond.codeWith_spec hcb
  cases hn.symm.trans hn9
  cases hm.symm.trans h1
  cases hc.symm.trans h2
  exact h5
theorem TabIs.out {c : Code} {L : List (Nat × Nat × Nat × Nat)} {pc : Nat} (h : TabIs c L) (hL : ∀ q ∈ L, ¬ (q.1 ≤ pc ∧ pc < q.2.1)) : ∀ z ∈ c.exceptionTable.toList, covers z pc = false := by
  intro z hz
  have := hL (z.startPc, z.endPc, z.handlerPc, z.catchType) (by rw [← h]; exact List.mem_map.mpr ⟨z, hz, rfl⟩)
  simp only [covers]
  cases h1 : decide (z.startPc ≤ pc) with
  | false => rfl
  | true =>
    cases h2 : decide (pc < z.endPc) with
    | false => rfl
    | true => exact absurd ⟨of_decide_eq_true h1, of_decide_eq_true h2⟩ this
section CAT2
variable {p : Program} {l : Launch} {e : Env} {R : Room} {s : State} {m : MethodId} {args : Array Value} {below : List Frame} {meth : Method} {c : Code} {H : Heap} {locs : List Loc} {cells slots : Nat} {Qm : State → Prop} {pc : Nat} {ls : Array Slot} {rest : List Value} {cc : ByteArray} {D : va_G} {T : Nat → ClassId} {Z : Heap} {own : String} {nL : Nat} {ret : Option FieldType} {G0 G : Hp} {a kd : Nat}
theorem h_catch (C : Cx p s m meth c D T Z own cc nL ret) (I : HI (twd D T Z) G0 s R H locs cells slots G) (ho : isO G (some a) kd) (hkd : 0 < kd ∧ kd < 20) {a0 b0 h0 t0 : Nat} {L : List (Nat × Nat × Nat × Nat)} (htab : TabIs c ((a0, b0, h0, t0) :: L)) (q : Cond.classLink own t0 (clt kd).1 ∈ lw_all) (hcov : a0 ≤ pc ∧ pc < b0) (ht : t0 ≠ 0)
    (k : W p l e R s m args below meth c H locs cells slots Qm (F0 m h0 ls [va_rf (some a)])) : WT p l e R s m args below meth c H locs cells slots Qm (F0 m pc ls rest) a := by
  have hE := C.2.2.2.2.1
  obtain ⟨cell, g1, g2, g3⟩ := I.recv hE ho hkd
  obtain ⟨ks, hks, -⟩ := Vm.findClass_spec g3
  unfold TabIs at htab
  obtain ⟨x, t, hx, e1, -⟩ := List.map_eq_cons_iff.mp htab
  obtain ⟨x1, x2, x3, x4⟩ : x.startPc = a0 ∧ x.endPc = b0 ∧ x.handlerPc = h0 ∧ x.catchType = t0 := by simpa using e1
  subst x1 x2 x3 x4
  exact t_catch C.2.2.2.1 hx (hE.1.good q args) g1 (fun z h => by rw [h] at g2; cases g2) hks g3 (va_asg _ _) (by simp only [covers, decide_eq_true hcov.1, decide_eq_true hcov.2, Bool.and_self]) ht k
/-- past an IllegalArgumentException's first entry, which is for another class -/
theorem h_catch2 (C : Cx p s m meth c D T Z own cc nL ret) (I : HI (twd D T Z) G0 s R H locs cells slots G) (ho : isO G (some a) 18) {a0 b0 h0 t0 a1 b1 h1 t1 : Nat} {L : List (Nat × Nat × Nat × Nat)} (htab : TabIs c ((a0, b0, h0, t0) :: (a1, b1, h1, t1) :: L)) (q : Cond.classLink own t0 (clt 17).1 ∈ lw_all) (q' : Cond.classLink own t1 (clt 18).1 ∈ lw_all) (hcov : a0 ≤ pc ∧ pc < b0) (hcov' : a1 ≤ pc ∧ pc < b1) (ht : t0 ≠ 0) (ht' : t1 ≠ 0)
    (k : W p l e R s m args below meth c H locs cells slots Qm (F0 m h1 ls [va_rf (some a)])) : WT p l e R s m args below meth c H locs cells slots Qm (F0 m pc ls rest) a := by
  have hE := C.2.2.2.2.1
  obtain ⟨cell, g1, g2, g3⟩ := I.recv hE ho (by decide)
  obtain ⟨ks, hks, -⟩ := Vm.findClass_spec g3
  unfold TabIs at htab
  obtain ⟨x, t, hx, e1, hmm⟩ := List.map_eq_cons_iff.mp htab
  obtain ⟨x', t', hx', e1', -⟩ := List.map_eq_cons_iff.mp hmm
  obtain ⟨x1, x2, x3, x4⟩ : x.startPc = a0 ∧ x.endPc = b0 ∧ x.handlerPc = h0 ∧ x.catchType = t0 := by simpa using e1
  obtain ⟨y1, y2, y3, y4⟩ : x'.startPc = a1 ∧ x'.endPc = b1 ∧ x'.handlerPc = h1 ∧ x'.catchType = t1 := by simpa using e1'
  subst x1 x2 x3 x4 y1 y2 y3 y4 hx'
  have hN := (hE.2.1.1 17 (by decide) (by decide)).1.2.1
  exact t_catch2 C.2.2.2.1 hx (hE.1.good q args) (hE.1.good q' args) g1 (fun z h => by rw [h] at g2; cases g2) hks hN (hE.2.2.2.2.2.2.2.2.2.2.2.2.2.1.2.2.2.2.2 _ _ g3 hN) g3 (va_asg _ _) (by simp only [covers, decide_eq_true hcov.1, decide_eq_true hcov.2, Bool.and_self]) ht (by simp only [covers, decide_eq_true hcov'.1, decide_eq_true hcov'.2, Bool.and_self]) ht' k
end CAT2
