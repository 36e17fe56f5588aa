/-! BASE: words of the tables carried along a run; contracts that return or throw, over any world; calls -/
set_option maxRecDepth 100000
def TB (U : State) : Prop := ∃ (s0 : State) (a0 : Array Value), s0.WarmedH U.vm ∧ ∀ w ∈ lw_tbl, w.before a0 s0 = true
theorem TB.good {U : State} (h : TB U) {w : Cond} (hw : w ∈ lw_all) (a : Array Value) : w.before a U = true := by
  obtain ⟨s0, a0, hW, h⟩ := h
  exact word_at hW (good_of_word (List.mem_filter.mp hw).2) (h w (lw_all_tbl hw))
theorem TB.warm {U V : State} (h : TB U) (hW : U.WarmedH V.vm) : TB V := by
  obtain ⟨s0, a0, h1, h2⟩ := h
  exact ⟨s0, a0, State.WarmedH.trans h1 hW, h2⟩
theorem TB.same {U V : State} (h : TB U) (hV : V.vm = U.vm) : TB V := by
  obtain ⟨s0, a0, h1, h2⟩ := h
  exact ⟨s0, a0, by rw [hV]; exact h1, h2⟩
theorem TB.nf {U : State} (h : TB U) {a : String} {i : Nat} {b n d hst : String} (hw : Cond.fieldLinkNest a i b n d hst ∈ lw_tbl) (A : Array Value) : (Cond.fieldLinkNest a i b n d hst).before A U = true := by
  obtain ⟨s0, a0, hW, h⟩ := h
  exact va_Nw.use rfl (va_Nw.warmF hW (va_Nw.of rfl (h _ hw)))
theorem TB.nm {U : State} (h : TB U) {a : String} {i : Nat} {x : MethodName} {hst : String} (hw : Cond.methodLinkNest a i x hst ∈ lw_tbl) (A : Array Value) : (Cond.methodLinkNest a i x hst).before A U = true := by
  obtain ⟨s0, a0, hW, h⟩ := h
  exact va_Nw.use rfl (va_Nw.warmM hW (va_Nw.of rfl (h _ hw)))
theorem TB.de {U : State} (h : TB U) {x : MethodName} (hw : Cond.declares x ∈ lw_tbl) (A : Array Value) : (Cond.declares x).before A U = true := by
  obtain ⟨s0, a0, hW, h⟩ := h
  exact va_Nw.use rfl (va_Nw.warmD hW (va_Nw.of rfl (h _ hw)))
theorem TB.ca {U : State} (h : TB U) {C T : String} (hw : Cond.castable C T ∈ lw_tbl) (A : Array Value) : (Cond.castable C T).before A U = true := by
  obtain ⟨s0, a0, hW, h⟩ := h
  exact va_Nw.use rfl (va_Nw.warmC hW (va_Nw.of rfl (h _ hw)))
theorem TB.ao {U : State} (h : TB U) {C : String} (hw : Cond.arrayOver (.object C) ∈ lw_tbl) : va_AO C U := by
  obtain ⟨s0, a0, hW, h⟩ := h
  exact va_AO.moved hW.alike (va_AO.of (h _ hw))
theorem TB.fw {U : State} (h : TB U) {C : String} {x y : MethodName} (hx : x.cls ≠ "java/lang/invoke/MethodHandle" ∧ x.cls ≠ "java/lang/invoke/VarHandle") (h1 : Cond.declares x ∈ lw_tbl) (h2 : Cond.interfaceMethod x.cls x.cls x.name x.desc ∈ lw_tbl) (h3 : Cond.publicMethod y ∈ lw_tbl) (h4 : Cond.unhidden C x.name x.desc ∈ lw_tbl) (h5 : Cond.castable C x.cls ∈ lw_tbl) : va_Fw C x y U := by
  obtain ⟨s0, a0, hW, h⟩ := h
  exact va_Fw.moved hx hW.alike (va_Fw.of (h _ h1) (h _ h2) (h _ h3) (h _ h4) (h _ h5))
abbrev Wd (X : Type) : Type := (X → Heap → Prop) × (X → Nat → Prop) × (X → Nat) × (X → Nat) × (X → X → Prop)
/-- how a call ends: the outcome's own promise, the world behind it, what it made and wrote -/
def XQ {X : Type} (wd : Wd X) (x : X) (Q : Option Value → X → Prop) (E : Nat → X → Prop) (st : State) (o : Outcome) (t : State) : Prop :=
  ∃ (x' : X) (L : List Loc) (k n : Nat), (match o with | .returned v => Q v x' | .threw a => E a x') ∧ wd.1 x' t.heap ∧ wd.2.2.2.2 x x' ∧ (∀ a, wd.2.1 x' a → wd.2.1 x a ∨ st.heap.size ≤ a) ∧ k + wd.2.2.1 x' ≤ wd.2.2.1 x ∧ n + wd.2.2.2.1 x' ≤ wd.2.2.2.1 x ∧ st.WarmedH t.vm ∧ st.sameButNew ({ t with vm := st.vm } : State) L k n ∧ (∀ q ∈ L, wd.2.1 x q.base ∨ st.heap.size ≤ q.base) ∧ st.heap.size ≤ t.heap.size ∧ ∀ q : Nat, q < st.heap.size → ¬ wd.2.1 x q → t.heap[q]? = st.heap[q]?
/-- a method's contract over a world -/
def CT {X : Type} (wd : Wd X) (Ev : State → Prop) (l : Launch) (y : MethodName) (cw : Cond) (fr lc : Nat) (as : List Value) (x : X) (Q : Option Value → X → Prop) (E : Nat → X → Prop) : Prop :=
  MetFree l y (headSpec [cw] { frames := fr, cells := wd.2.2.1 x, slots := wd.2.2.2.1 x, locals := lc }) (fun a U => a = as.toArray ∧ Ev U ∧ wd.1 x U.heap) (fun _ _ _ _ _ => True) (fun _ st o t => XQ wd x Q E st o t)
def XA {X : Type} (wd : Wd X) (x : X) (s : State) : Nat → Prop := fun q => wd.2.1 x q ∨ s.heap.size ≤ q
/-- the heap of a walk that began with x0: the world is there; what is written was x0's or is new; room; it has grown out of x0 -/
def HI {X : Type} (wd : Wd X) (x0 : X) (s : State) (R : Room) (H : Heap) (locs : List Loc) (cells slots : Nat) (x : X) : Prop :=
  wd.1 x H ∧ (∀ a, wd.2.1 x a → XA wd x0 s a) ∧ va_S (XA wd x0 s) s.heap H locs ∧ cells + wd.2.2.1 x ≤ R.cells ∧ slots + wd.2.2.2.1 x ≤ R.slots ∧ wd.2.2.2.2 x0 x
/-- the code word of a method: its code, locals, answer (and handlers) -/
def CwIs (cw : Cond) (y : MethodName) (bytes : ByteArray) (nL : Nat) (ret : Option FieldType) : Prop := cw = Cond.code y bytes nL ret ∨ ∃ hh, cw = Cond.codeWith y bytes nL ret hh
theorem CwIs.spec {cw : Cond} {y : MethodName} {bytes : ByteArray} {nL : Nat} {ret : Option FieldType} (h : CwIs cw y bytes nL ret) {a : Array Value} {U : State} {mk : MethodId} (hn : U.methodNamed? y = some mk) (hb : cw.before a U = true) :
    ∃ meth c, U.vm.method? mk = some meth ∧ meth.code = some c ∧ c.code = bytes ∧ c.maxLocals = nL ∧ meth.sig.returnType = ret ∧ meth.locks = false ∧ parseMethodDescriptor y.desc = some meth.sig := by
  rcases h with rfl | ⟨hh, rfl⟩
  · obtain ⟨meth, c, h1, h2, h3, h4, h5, h6, -, h8⟩ := Cond.code_spec hn hb
    exact ⟨meth, c, h1, h2, h3, h4, h5, h6, h8⟩
  · obtain ⟨m9, meth, c, hn9, h1, h2, h3, h4, -, h5, h6, h8⟩ := Cond.codeWith_spec hb
    cases hn.symm.trans hn9
    exact ⟨meth, c, h1, h2, h3, h4, h5, h6, h8⟩
def MQX {X : Type} (wd : Wd X) (x : X) (Q : Option Value → X → Prop) (E : Nat → X → Prop) (below : List Frame) (s : State) : State → Prop := fun t => ∃ o, t.status = .running ∧ Ended t below o ∧ XQ wd x Q E s o t
section XB
variable {p : Program} {l : Launch} {e : Env} {R : Room} {s : State} {m : MethodId} {args : Array Value} {below : List Frame} {meth : Method} {c : Code} {H : Heap} {locs : List Loc} {cells slots : Nat} {X : Type} {wd : Wd X} {Ev : State → Prop}
/-- a contract out of a walk of the body -/
theorem CT.ofW {y : MethodName} {cw : Cond} {cc : ByteArray} {nL : Nat} {ret : Option FieldType} {fr lc : Nat} {as : List Value} {x : X} {Q : Option Value → X → Prop} {E : Nat → X → Prop} (hrf : ∀ x, wd.2.2.2.2 x x) (hy : plainFor y = true) (hcw : CwIs cw y cc nL ret)
    (body : ∀ (p : Program) (e : Env) (s : State) (m : MethodId) (below : List Frame) (meth : Method) (c : Code), p.tables.exec = Jvm.exec → c.code = cc → c.maxLocals = nL → s.vm.findClass y.cls = some m.cls → meth.sig.returnType = ret → meth.locks = false → meth.name = y.name → cw.before as.toArray s = true → s.vm.method? m = some meth → meth.code = some c → s.methodNamed? y = some m → Ev s →
      HI wd x s { frames := fr, cells := wd.2.2.1 x, slots := wd.2.2.2.1 x, locals := lc } s.heap [] 0 0 x →
      W p l e { frames := fr, cells := wd.2.2.1 x, slots := wd.2.2.2.1 x, locals := lc } s m as.toArray below meth c s.heap [] 0 0 (MQX wd x Q E below s) (entryFrame m as.toArray nL)) : CT wd Ev l y cw fr lc as x Q E := by
  refine MetFree.of_bodySF (code := cc) (maxLocals := nL) (ret := ret) hy ?_ ?_
  · intro args s m h hn
    obtain ⟨meth, c, h1, h2, h3, h4, h5, h6, -⟩ := hcw.spec hn (atoms_spec (ws := [cw]) h _ List.mem_cons_self)
    exact ⟨meth, c, h1, h2, h3, h4, h5, h6⟩
  · intro p e s m args below meth c s₁ B hml hP _
    obtain ⟨rfl, hE, hr⟩ := hP
    have hcb := atoms_spec (ws := [cw]) B.pre _ List.mem_cons_self
    have hh0 : s₁.heap = s.heap := by rw [B.state]; rfl
    have St := Stand.of_body B
    obtain ⟨t, a1, o, b1, b2, b3⟩ := body p e s m below meth c B.exec B.bytes hml (findClass_of_methodNamed B.named) B.returns B.notSynchronized (name_of_methodNamed B.named B.method).1 hcb B.method St.code B.named hE ⟨hr, fun a h => Or.inl h, va_S.rf, by simp, by simp, hrf x⟩ s₁ hh0 St
    exact ⟨t, o, a1, b1, b2, b3⟩
/-- a call, from the state with its arguments off the stack -/
theorem x_go {y : MethodName} {cw : Cond} {cc : ByteArray} {nL : Nat} {ret : Option FieldType} {fr lc : Nat} {as : List Value} {x : X} {Q : Option Value → X → Prop} {E : Nat → X → Prop} (hM : CT wd Ev l y cw fr lc as x Q E) {U : State} (St : Stand p l e R s m args below meth c U locs cells slots)
    {g : JFrame} (hg : g.method = m) (hsize : g.locals.size = c.maxLocals) {ig : Instr} {len : Nat} (hdg : decode c.code g.pc = .ok (ig, len)) (hW : 2 * g.monitorRoom + (g.stack.map fun v => v.category).sum ≤ 8) {mk : MethodId} (hn : U.methodNamed? y = some mk)
    (hcw : CwIs cw y cc nL ret) (hcb : cw.before as.toArray U = true) (hini : (Cond.initialized y.cls).before as.toArray U = true) (hfr : fr + 1 ≤ R.frames) (hlc : 8 + (nL + 11) + lc ≤ R.locals) (hc : cells + wd.2.2.1 x ≤ R.cells) (hs : slots + wd.2.2.2.1 x ≤ R.slots)
    (hE : ∀ g mk a, Ev (U.calling g mk a)) (hrep : wd.1 x U.heap) :
    ∃ (o : Outcome) (U' : State) (x' : X) (L : List Loc) (k n : Nat), Stand p l e R s m args below meth c U' (locs ++ L) (cells + k) (slots + n) ∧ (match o with | .returned v => Q v x' | .threw a => E a x') ∧ wd.1 x' U'.heap ∧ wd.2.2.2.2 x x' ∧ (∀ a, wd.2.1 x' a → wd.2.1 x a ∨ U.heap.size ≤ a) ∧ k + wd.2.2.1 x' ≤ wd.2.2.1 x ∧ n + wd.2.2.2.1 x' ≤ wd.2.2.2.1 x ∧ (∀ q ∈ L, wd.2.1 x q.base ∨ U.heap.size ≤ q.base) ∧ U.heap.size ≤ U'.heap.size ∧ (∀ q : Nat, q < U.heap.size → ¬ wd.2.1 x q → U'.heap[q]? = U.heap[q]?) ∧
      Steps p.tables e below (doInvoke e (U.setTop g) [] mk as.toArray).1 (match o with | .returned v => U'.setTop { g with pc := g.pc + len, stack := v.toList ++ g.stack } | .threw a => (U'.setTop g).pushFrame (.throwing a)) := by
  obtain ⟨methY, cY, hmY, hcY, -, hlY, -, -, -⟩ := hcw.spec hn hcb
  obtain ⟨kY, hkY, -⟩ := className_of_methodNamed hn
  have hinitY : kY.init = .initialized := Cond.initialized_spec (findClass_of_methodNamed hn) hkY hini
  have h : At U g.method c below := by rw [hg]; exact St.here
  have happ : (headSpec [cw] { frames := fr, cells := wd.2.2.1 x, slots := wd.2.2.2.1 x, locals := lc }).appliesLoose y e.platform (U.calling g mk as.toArray) = true :=
    Spec.appliesLoose_calling (g := g) h hdg hn hkY hinitY
      (St.room_calling (g := g) (R' := (headSpec [cw] { frames := fr, cells := wd.2.2.1 x, slots := wd.2.2.2.1 x, locals := lc }).room) hsize hmY hcY hfr (by rw [hlY]; show _ + (nL + 11) + lc ≤ _; omega) hc hs)
      (atoms_intro fun w hw => by rw [List.mem_singleton.mp hw]; exact hcb)
  obtain ⟨mid, hmid⟩ := h.above
  have hfr2 : (U.setTop g).frames = (.java g :: mid) ++ below := by rw [State.frames_setTop' g h.top, hmid]; rfl
  obtain ⟨o, s₂, hsteps, -, hend, hq⟩ := Steps.callFree hM p St.admits St.cas St.clock (acts := []) hfr2 happ ⟨rfl, hE g mk _, hrep⟩ trivial
  have hq' : XQ wd x Q E (U.calling g mk as.toArray) o s₂ := hq
  rw [State.frames_setTop' g h.top] at hend
  rw [St.tail] at hend
  obtain ⟨x', L, k, n, ho, hr, hx, hd, hk, hn2, hW2, hsm, hL, hz, hkp⟩ := hq'
  cases o with
  | returned v =>
    obtain ⟨U', St', -, -, ht⟩ := St.outOf hg hdg hend hW2 hsm
    subst ht
    exact ⟨.returned v, U', x', L, k, n, St', ho, hr, hx, hd, hk, hn2, hL, hz, hkp, hsteps⟩
  | threw a =>
    obtain ⟨U', St', -, -, ht⟩ := St.outOfThrown hg hend hW2 hsm
    subst ht
    have hh : ((U'.setTop g).pushFrame (.throwing a)).heap = U'.heap := Stand.throwing_heap U' g a
    exact ⟨.threw a, U', x', L, k, n, St', ho, by rw [← hh]; exact hr, hx, hd, hk, hn2, hL, by rw [← hh]; exact hz, fun q h1 h2 => by rw [← hh]; exact hkp q h1 h2, hsteps⟩
def WT (p : Program) (l : Launch) (e : Env) (R : Room) (s : State) (m : MethodId) (args : Array Value) (below : List Frame) (meth : Method) (c : Code) (H : Heap) (locs : List Loc) (cells slots : Nat) (Q : State → Prop) (g : JFrame) (a : Addr) : Prop :=
  ∀ T : State, T.heap = H → Stand p l e R s m args below meth c T locs cells slots → ∃ t, Steps p.tables e below ((T.setTop g).pushFrame (.throwing a)) t ∧ Q t
/-- the instruction's own part of a call -/
def Inv1 (p : Program) (l : Launch) (e : Env) (R : Room) (s : State) (m : MethodId) (args : Array Value) (below : List Frame) (meth : Method) (c : Code) (H : Heap) (locs : List Loc) (cells slots : Nat) (g : JFrame) (rest : List Value) (y : MethodName) (as : List Value) : Prop :=
  ∀ T : State, T.heap = H → Stand p l e R s m args below meth c T locs cells slots → ∃ (vm₁ : Vm) (mk : MethodId), Stand p l e R s m args below meth c (T.setVm vm₁) locs cells slots ∧ (T.setVm vm₁).methodNamed? y = some mk ∧ ∀ target, Steps p.tables e below (doInvoke e ((T.setVm vm₁).setTop { g with stack := rest }) [] mk as.toArray).1 target → Steps p.tables e below (T.setTop g) target
variable {x0 : X} {Qm : State → Prop}
theorem x_call {y : MethodName} {cw : Cond} {cc : ByteArray} {nL : Nat} {ret : Option FieldType} {fr lc : Nat} {as : List Value} {x : X} {Q : Option Value → X → Prop} {E : Nat → X → Prop} {pc len : Nat} {ls : Array Slot} {st0 rest : List Value} {ig : Instr}
    (hI : Inv1 p l e R s m args below meth c H locs cells slots (F0 m pc ls st0) rest y as) (hM : CT wd Ev l y cw fr lc as x Q E) (htr : ∀ a b c, wd.2.2.2.2 a b → wd.2.2.2.2 b c → wd.2.2.2.2 a c) (I : HI wd x0 s R H locs cells slots x)
    (hsize : ls.size = c.maxLocals) (hdg : decode c.code pc = .ok (ig, len)) (hW : (rest.map fun v => v.category).sum ≤ 8) (hcw : CwIs cw y cc nL ret) (hcb : ∀ a U, s.WarmedH U.vm → cw.before a U = true) (hini : ∀ a U, s.WarmedH U.vm → (Cond.initialized y.cls).before a U = true) (hE : ∀ U : State, s.WarmedH U.vm → Ev U)
    (hroom : fr + 1 ≤ R.frames ∧ 8 + (nL + 11) + lc ≤ R.locals)
    (kr : ∀ (v : Option Value) (x' : X) (H' : Heap) (locs' : List Loc) (cells' slots' : Nat), wd.2.2.2.2 x x' → Q v x' → HI wd x0 s R H' locs' cells' slots' x' → W p l e R s m args below meth c H' locs' cells' slots' Qm (F0 m (pc + len) ls (v.toList ++ rest)))
    (kt : ∀ (a : Nat) (x' : X) (H' : Heap) (locs' : List Loc) (cells' slots' : Nat), wd.2.2.2.2 x x' → E a x' → HI wd x0 s R H' locs' cells' slots' x' → WT p l e R s m args below meth c H' locs' cells' slots' Qm (F0 m pc ls rest) a) :
    W p l e R s m args below meth c H locs cells slots Qm (F0 m pc ls st0) := by
  intro T hT X0
  obtain ⟨vm₁, mk, X1, hn, hst⟩ := hI T hT X0
  obtain ⟨i1, i2, i3, i4, i5, i6⟩ := I
  have hTh : (T.setVm vm₁).heap = H := hT
  obtain ⟨o, U', x', L, k, n, St', ho, hr, hx, hd, hk, hn2, hL, hz, hkp, hsteps⟩ := x_go (g := F0 m pc ls rest) hM X1 rfl hsize hdg (lv_room hW) hn hcw (hcb _ _ X1.warmed) (hini _ _ X1.warmed) hroom.1 hroom.2 i4 i5 (fun g mk a => hE ((T.setVm vm₁).calling g mk a) X1.warmed) (by rw [hTh]; exact i1)
  rw [hTh] at hd hL hz hkp
  have hA2 : ∀ q, wd.2.1 x q ∨ H.size ≤ q → XA wd x0 s q := fun q h => by
    rcases h with h | h
    · exact i2 q h
    · exact Or.inr (Nat.le_trans i3.1 h)
  have I' : HI wd x0 s R U'.heap (locs ++ L) (cells + k) (slots + n) x' := by
    refine ⟨hr, fun a h => hA2 a (hd a h), ⟨Nat.le_trans i3.1 hz, fun q h1 h2 => ?_, fun q hq => ?_⟩, by omega, by omega, htr _ _ _ i6 hx⟩
    · rw [hkp q (Nat.lt_of_lt_of_le h1 i3.1) (fun z => h2 (i2 q z))]
      exact i3.2.1 q h1 h2
    · rcases List.mem_append.mp hq with h | h
      · exact i3.2.2 q h
      · exact hA2 _ (hL q h)
  cases o with
  | returned v =>
    obtain ⟨t, a1, b1⟩ := kr v x' U'.heap _ _ _ hx ho I' U' rfl St'
    exact ⟨t, hst t (hsteps.trans a1), b1⟩
  | threw a =>
    obtain ⟨t, a1, b1⟩ := kt a x' U'.heap _ _ _ hx ho I' U' rfl St'
    exact ⟨t, hst t (hsteps.trans a1), b1⟩
end XB
