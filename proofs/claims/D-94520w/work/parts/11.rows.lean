/-! ROWS: the calls' own part, answers, throws -/
set_option maxRecDepth 100000
section XR
variable {p : Program} {l : Launch} {e : Env} {R : Room} {s : State} {m : MethodId} {args : Array Value} {below : List Frame} {meth : Method} {c : Code} {H : Heap} {locs : List Loc} {cells slots : Nat} {pc : Nat} {ls : Array Slot} {rest : List Value} {cc : ByteArray}
theorem i_V (hexec : p.tables.exec = Jvm.exec) (hb : c.code = cc) {own C : String} {index : Nat} {y : MethodName} {cw : Cond} {bytes : ByteArray} {nL : Nat} {ret : Option FieldType} (hown : s.vm.findClass own = some m.cls) (hlink : (Cond.methodLink own index y).before args s = true) (hinst : (Cond.instanceMethod y).before args s = true) (hsel : (Cond.selects C y y).before args s = true)
    (hcw : CwIs cw y bytes nL ret) (hcode : cw.before args s = true) (hy : y.cls ≠ "java/lang/invoke/MethodHandle" ∧ y.cls ≠ "java/lang/invoke/VarHandle") {b : Addr} (hcell : ∃ cellB : Cell, H[b]? = some cellB ∧ cellB.vm.isStatics = false ∧ s.vm.findClass C = some cellB.cls)
    {As : List Value} {n : Nat} (hn : As.length = n) (hd : (parseMethodDescriptor y.desc).map (fun d => d.parameters.length) = some n) {st : List Value} (hst : st = As.reverse ++ .ref b :: rest) (hdg : decode cc pc = .ok (.invokevirtual index, 3)) :
    Inv1 p l e R s m args below meth c H locs cells slots (F0 m pc ls st) rest y (.ref b :: As) := by
  intro T hT X
  subst hst; subst hb
  obtain ⟨cellB, hc1, hc2, hc3⟩ := hcell
  obtain ⟨mk, methM, hnamed, hmethM, hstM, habM⟩ := Cond.instanceMethod_spec hinst
  obtain ⟨methM', cM, hmethM', -, -, -, -, -, hsigM⟩ := hcw.spec hnamed hcode
  cases hmethM.symm.trans hmethM'
  obtain ⟨c2, r2, m2, q1, q2, q3, q4, kP, hkP, hkPi⟩ := Cond.selects_spec hsel
  cases hc3.symm.trans q1
  cases (State.methodFound?_of_named hnamed hy).symm.trans q2
  cases hnamed.symm.trans q3
  have hselP : selectMethod e.platform s.vm cellB.cls mk = .method mk := by rw [Launch.admits_selectMethod X.admits]; exact q4
  have hlen : As.length = methM.sig.parameters.length := by rw [hsigM] at hd; rw [hn]; exact (Option.some.inj hd).symm
  obtain ⟨vm₁, X₁, hstep₁⟩ := X.invokevirtual hexec hown hlink hnamed hmethM hstM hkP hkPi hy (a := b) (cell := cellB) (by rw [hT]; exact hc1)
    (fun z h => by rw [h] at hc2; cases hc2) hselP hmethM habM hkP hkPi (g := F0 m pc ls (As.reverse ++ .ref b :: rest)) rfl (argsL := As) (rest := rest) hlen rfl hdg
  exact ⟨vm₁, mk, X₁, X₁.named hnamed, fun target h => hstep₁ _ fun acts => by rw [doInvoke_state]; exact h⟩
theorem i_VN (hexec : p.tables.exec = Jvm.exec) (hb : c.code = cc) {own C host : String} {index : Nat} {y : MethodName} {cw : Cond} {bytes : ByteArray} {nL : Nat} {ret : Option FieldType} (hown : s.vm.findClass own = some m.cls) (hlink : (Cond.methodLinkNest own index y host).before args s = true) (hinst : (Cond.instanceMethod y).before args s = true) (hsel : (Cond.selects C y y).before args s = true)
    (hcw : CwIs cw y bytes nL ret) (hcode : cw.before args s = true) (hy : y.cls ≠ "java/lang/invoke/MethodHandle" ∧ y.cls ≠ "java/lang/invoke/VarHandle") {b : Addr} (hcell : ∃ cellB : Cell, H[b]? = some cellB ∧ cellB.vm.isStatics = false ∧ s.vm.findClass C = some cellB.cls)
    {As : List Value} {n : Nat} (hn : As.length = n) (hd : (parseMethodDescriptor y.desc).map (fun d => d.parameters.length) = some n) {st : List Value} (hst : st = As.reverse ++ .ref b :: rest) (hdg : decode cc pc = .ok (.invokevirtual index, 3)) :
    Inv1 p l e R s m args below meth c H locs cells slots (F0 m pc ls st) rest y (.ref b :: As) := by
  intro T hT X
  subst hst; subst hb
  obtain ⟨cellB, hc1, hc2, hc3⟩ := hcell
  obtain ⟨mk, methM, hnamed, hmethM, hstM, habM⟩ := Cond.instanceMethod_spec hinst
  obtain ⟨methM', cM, hmethM', -, -, -, -, -, hsigM⟩ := hcw.spec hnamed hcode
  cases hmethM.symm.trans hmethM'
  obtain ⟨c2, r2, m2, q1, q2, q3, q4, kP, hkP, hkPi⟩ := Cond.selects_spec hsel
  cases hc3.symm.trans q1
  cases (State.methodFound?_of_named hnamed hy).symm.trans q2
  cases hnamed.symm.trans q3
  have hselP : selectMethod e.platform s.vm cellB.cls mk = .method mk := by rw [Launch.admits_selectMethod X.admits]; exact q4
  have hlen : As.length = methM.sig.parameters.length := by rw [hsigM] at hd; rw [hn]; exact (Option.some.inj hd).symm
  obtain ⟨vm₁, X₁, hstep₁⟩ := X.invokevirtualNest hexec hown hlink hnamed hmethM hstM hkP hkPi hy (a := b) (cell := cellB) (by rw [hT]; exact hc1)
    (fun z h => by rw [h] at hc2; cases hc2) hselP hmethM habM hkP hkPi (g := F0 m pc ls (As.reverse ++ .ref b :: rest)) rfl (argsL := As) (rest := rest) hlen rfl hdg
  exact ⟨vm₁, mk, X₁, X₁.named hnamed, fun target h => hstep₁ _ fun acts => by rw [doInvoke_state]; exact h⟩
/-- the reference names x (declared by owner, perhaps abstract), the receiver's class C selects y -/
theorem i_U (hexec : p.tables.exec = Jvm.exec) (hb : c.code = cc) {own C owner : String} {index : Nat} {x y : MethodName} (hown : s.vm.findClass own = some m.cls) (hlink : (Cond.methodLink own index x).before args s = true) (hsame : (Cond.sameMethod x.cls owner x.name x.desc).before args s = true)
    (hd0 : va_Decl s ⟨owner, x.name, x.desc⟩) (howner : owner ≠ "java/lang/invoke/MethodHandle" ∧ owner ≠ "java/lang/invoke/VarHandle") (hsel : (Cond.selects C x y).before args s = true) (hinst : (Cond.instanceMethod y).before args s = true)
    {b : Addr} (hcell : ∃ cellB : Cell, H[b]? = some cellB ∧ cellB.vm.isStatics = false ∧ s.vm.findClass C = some cellB.cls)
    {As : List Value} {n : Nat} (hn : As.length = n) (hd : (parseMethodDescriptor x.desc).map (fun d => d.parameters.length) = some n) {st : List Value} (hst : st = As.reverse ++ .ref b :: rest) (hdg : decode cc pc = .ok (.invokevirtual index, 3)) :
    Inv1 p l e R s m args below meth c H locs cells slots (F0 m pc ls st) rest y (.ref b :: As) := by
  intro T hT X
  subst hst; subst hb
  obtain ⟨cellB, hc1, hc2, hc3⟩ := hcell
  obtain ⟨r0, r, hnr, hrm, hstR, hsigR⟩ := hd0
  obtain ⟨cn, ck, r1, hcn, hck, hni, hf, hn1⟩ := Cond.sameMethod_found hsame
  cases hnr.symm.trans hn1
  obtain ⟨mk, methM, hnamed, hmethM, -, habM⟩ := Cond.instanceMethod_spec hinst
  obtain ⟨c2, r2, m2, q1, q2, q3, q4, kP, hkP, hkPi⟩ := Cond.selects_spec hsel
  cases hc3.symm.trans q1
  cases hf.symm.trans q2
  cases hnamed.symm.trans q3
  have hselP : selectMethod e.platform s.vm cellB.cls r0 = .method mk := by rw [Launch.admits_selectMethod X.admits]; exact q4
  have hsigR' : parseMethodDescriptor x.desc = some r.sig := hsigR
  have hlen : As.length = r.sig.parameters.length := by rw [hsigR'] at hd; rw [hn]; exact (Option.some.inj hd).symm
  obtain ⟨vm₁, X₁, hstep₁⟩ := X.invokevirtualUp hexec hown hlink hsame howner hnr hrm hstR (a := b) (cell := cellB) (by rw [hT]; exact hc1)
    (fun z h => by rw [h] at hc2; cases hc2) hselP hmethM habM hkP hkPi (g := F0 m pc ls (As.reverse ++ .ref b :: rest)) rfl (argsL := As) (rest := rest) hlen rfl hdg
  exact ⟨vm₁, mk, X₁, X₁.named hnamed, fun target h => hstep₁ _ fun acts => by rw [doInvoke_state]; exact h⟩
theorem i_S (hexec : p.tables.exec = Jvm.exec) (hb : c.code = cc) {own : String} {index : Nat} {y : MethodName} {cw : Cond} {bytes : ByteArray} {nL : Nat} {ret : Option FieldType} (hown : s.vm.findClass own = some m.cls) (hlink : (Cond.methodLink own index y).before args s = true) (hstat : (Cond.static y).before args s = true) (hini : (Cond.initialized y.cls).before args s = true) (hinst : s.methodNamed? y ≠ none)
    (hcw : CwIs cw y bytes nL ret) (hcode : cw.before args s = true) (hy : y.cls ≠ "java/lang/invoke/MethodHandle" ∧ y.cls ≠ "java/lang/invoke/VarHandle")
    {As : List Value} {n : Nat} (hn : As.length = n) (hd : (parseMethodDescriptor y.desc).map (fun d => d.parameters.length) = some n) {st : List Value} (hst : st = As.reverse ++ rest) (hdg : decode cc pc = .ok (.invokestatic index, 3)) :
    Inv1 p l e R s m args below meth c H locs cells slots (F0 m pc ls st) rest y As := by
  intro T hT X
  subst hst; subst hb
  obtain ⟨mk, hnamed⟩ : ∃ mk, s.methodNamed? y = some mk := by
    cases h : s.methodNamed? y with
    | none => exact absurd h hinst
    | some mk => exact ⟨mk, rfl⟩
  obtain ⟨methM, cM, hmethM, -, -, -, -, -, hsigM⟩ := hcw.spec hnamed hcode
  have hstatic : methM.isStatic = true := Cond.static_spec hnamed hmethM hstat
  obtain ⟨kP, hkP, -⟩ := className_of_methodNamed hnamed
  have hinitP : kP.init = .initialized := Cond.initialized_spec (findClass_of_methodNamed hnamed) hkP hini
  have hlen : As.length = methM.sig.parameters.length := by rw [hsigM] at hd; rw [hn]; exact (Option.some.inj hd).symm
  obtain ⟨vm₁, X₁, hstep₁⟩ := X.invokestatic hexec hown hlink hnamed hmethM hstatic hkP hinitP hy (g := F0 m pc ls (As.reverse ++ rest)) rfl (argsL := As) (rest := rest) hlen rfl hdg
  exact ⟨vm₁, mk, X₁, X₁.named hnamed, fun target h => hstep₁ _ fun acts => by rw [doInvoke_state]; exact h⟩
theorem i_SN (hexec : p.tables.exec = Jvm.exec) (hb : c.code = cc) {own host : String} {index : Nat} {y : MethodName} {cw : Cond} {bytes : ByteArray} {nL : Nat} {ret : Option FieldType} (hown : s.vm.findClass own = some m.cls) (hlink : (Cond.methodLinkNest own index y host).before args s = true) (hstat : (Cond.static y).before args s = true) (hini : (Cond.initialized y.cls).before args s = true) (hinst : s.methodNamed? y ≠ none)
    (hcw : CwIs cw y bytes nL ret) (hcode : cw.before args s = true) (hy : y.cls ≠ "java/lang/invoke/MethodHandle" ∧ y.cls ≠ "java/lang/invoke/VarHandle")
    {As : List Value} {n : Nat} (hn : As.length = n) (hd : (parseMethodDescriptor y.desc).map (fun d => d.parameters.length) = some n) {st : List Value} (hst : st = As.reverse ++ rest) (hdg : decode cc pc = .ok (.invokestatic index, 3)) :
    Inv1 p l e R s m args below meth c H locs cells slots (F0 m pc ls st) rest y As := by
  intro T hT X
  subst hst; subst hb
  obtain ⟨mk, hnamed⟩ : ∃ mk, s.methodNamed? y = some mk := by
    cases h : s.methodNamed? y with
    | none => exact absurd h hinst
    | some mk => exact ⟨mk, rfl⟩
  obtain ⟨methM, cM, hmethM, -, -, -, -, -, hsigM⟩ := hcw.spec hnamed hcode
  have hstatic : methM.isStatic = true := Cond.static_spec hnamed hmethM hstat
  obtain ⟨kP, hkP, -⟩ := className_of_methodNamed hnamed
  have hinitP : kP.init = .initialized := Cond.initialized_spec (findClass_of_methodNamed hnamed) hkP hini
  have hlen : As.length = methM.sig.parameters.length := by rw [hsigM] at hd; rw [hn]; exact (Option.some.inj hd).symm
  obtain ⟨vm₁, X₁, hstep₁⟩ := X.invokestaticNest hexec hown hlink hnamed hmethM hstatic hkP hinitP hy (g := F0 m pc ls (As.reverse ++ rest)) rfl (argsL := As) (rest := rest) hlen rfl hdg
  exact ⟨vm₁, mk, X₁, X₁.named hnamed, fun target h => hstep₁ _ fun acts => by rw [doInvoke_state]; exact h⟩
theorem i_I (hexec : p.tables.exec = Jvm.exec) (hb : c.code = cc) {own : String} {index : Nat} {y : MethodName} {bytes : ByteArray} {nL : Nat} (hown : s.vm.findClass own = some m.cls) (hy1 : y.name = "<init>") (hlink : (Cond.methodLink own index y).before args s = true) (hinst : (Cond.instanceMethod y).before args s = true)
    (hcode : (Cond.code y bytes nL none).before args s = true) (hy : y.cls ≠ "java/lang/invoke/MethodHandle" ∧ y.cls ≠ "java/lang/invoke/VarHandle") {b : Addr}
    {As : List Value} {n : Nat} (hn : As.length = n) (hd : (parseMethodDescriptor y.desc).map (fun d => d.parameters.length) = some n) {st : List Value} (hst : st = As.reverse ++ .ref b :: rest) (hdg : decode cc pc = .ok (.invokespecial index, 3)) :
    Inv1 p l e R s m args below meth c H locs cells slots (F0 m pc ls st) rest y (.ref b :: As) := by
  intro T hT X
  subst hst; subst hb
  have hpl : e.platform.magicAccessors = ({} : Platform).magicAccessors := by rw [X.admits.platform]
  have hlen : ∀ sig, parseMethodDescriptor y.desc = some sig → As.length = sig.parameters.length := fun sig h => by rw [h] at hd; rw [hn]; exact (Option.some.inj hd).symm
  obtain ⟨mk, methM, cM, kP, vm₁, hnamed, hmethM, hcodeM, -, hlocalsM, -, hkP, -, hW₁, hstep₁⟩ := Steps.initColdArgs (e := e) X.here hexec X.warmed hpl hown hy1 hy hlink hinst hcode (f := F0 m pc ls (As.reverse ++ .ref b :: rest)) rfl hlen rfl hdg
  have X₁ := X.noted hW₁
  exact ⟨vm₁, mk, X₁, X₁.named hnamed, fun target h => hstep₁ _ fun acts => by rw [doInvoke_state]; exact h⟩
theorem i_IN (hexec : p.tables.exec = Jvm.exec) (hb : c.code = cc) {own host : String} {index : Nat} {y : MethodName} {bytes : ByteArray} {nL : Nat} (hown : s.vm.findClass own = some m.cls) (hy1 : y.name = "<init>") (hlink : (Cond.methodLinkNest own index y host).before args s = true) (hinst : (Cond.instanceMethod y).before args s = true)
    (hcode : (Cond.code y bytes nL none).before args s = true) (hy : y.cls ≠ "java/lang/invoke/MethodHandle" ∧ y.cls ≠ "java/lang/invoke/VarHandle") {b : Addr}
    {As : List Value} {n : Nat} (hn : As.length = n) (hd : (parseMethodDescriptor y.desc).map (fun d => d.parameters.length) = some n) {st : List Value} (hst : st = As.reverse ++ .ref b :: rest) (hdg : decode cc pc = .ok (.invokespecial index, 3)) :
    Inv1 p l e R s m args below meth c H locs cells slots (F0 m pc ls st) rest y (.ref b :: As) := by
  intro T hT X
  subst hst; subst hb
  have hpl : e.platform.magicAccessors = ({} : Platform).magicAccessors := by rw [X.admits.platform]
  have hlen : ∀ sig, parseMethodDescriptor y.desc = some sig → As.length = sig.parameters.length := fun sig h => by rw [h] at hd; rw [hn]; exact (Option.some.inj hd).symm
  obtain ⟨mk, methM, cM, kP, vm₁, hnamed, hmethM, hcodeM, -, hlocalsM, -, hkP, -, hW₁, hstep₁⟩ := Steps.initColdArgsNest (e := e) X.here hexec X.warmed hpl hown hy1 hy hlink hinst hcode (f := F0 m pc ls (As.reverse ++ .ref b :: rest)) rfl hlen rfl hdg
  have X₁ := X.noted hW₁
  exact ⟨vm₁, mk, X₁, X₁.named hnamed, fun target h => hstep₁ _ fun acts => by rw [doInvoke_state]; exact h⟩
theorem i_F (hexec : p.tables.exec = Jvm.exec) (hb : c.code = cc) {own C : String} {index count : Nat} {x y : MethodName} {cC : ClassId} (hat : ClassAt s C cC) (hown : s.vm.findClass own = some m.cls) (hlink : (Cond.methodLink own index x).before args s = true) (hF : va_Fw C x y s)
    (hsel : (Cond.selects C x y).before args s = true) (hinst : (Cond.instanceMethod y).before args s = true) (hx : x.cls ≠ "java/lang/invoke/MethodHandle" ∧ x.cls ≠ "java/lang/invoke/VarHandle")
    {b : Addr} (hcell : ∃ cellB : Cell, H[b]? = some cellB ∧ cellB.vm.isStatics = false ∧ s.vm.findClass C = some cellB.cls)
    {As : List Value} {n : Nat} (hn : As.length = n) (hd : (parseMethodDescriptor x.desc).map (fun d => d.parameters.length) = some n) {st : List Value} (hst : st = As.reverse ++ .ref b :: rest) (hdg : decode cc pc = .ok (.invokeinterface index count, 5)) :
    Inv1 p l e R s m args below meth c H locs cells slots (F0 m pc ls st) rest y (.ref b :: As) := by
  intro T hT X
  subst hst; subst hb
  obtain ⟨cellB, hc1, hc2, hc3⟩ := hcell
  obtain ⟨hfc, kB, hkB, -⟩ := hat
  cases hfc.symm.trans hc3
  have hdecl : (Cond.declares x).before args s = true := va_any rfl hF.1
  have hface : (Cond.interfaceMethod x.cls x.cls x.name x.desc).before args s = true := va_any rfl hF.2.1
  have hpub : (Cond.publicMethod y).before args s = true := va_any rfl hF.2.2.1
  have hunh : (Cond.unhidden C x.name x.desc).before args s = true := va_any rfl hF.2.2.2.1
  have hcast : (Cond.castable C x.cls).before args s = true := va_any rfl hF.2.2.2.2
  obtain ⟨r0, r, hnr, hrm, hstR, hsigR⟩ := Cond.declares_spec hdecl
  obtain ⟨cL, kL, r1, hcL, hkL, hiL, hfoundL, hn1⟩ := Cond.interfaceMethod_spec hface
  cases hnr.symm.trans hn1
  have hr0cls : r0.cls = cL := Option.some.inj ((findClass_of_methodNamed hnr).symm.trans hcL)
  obtain ⟨hnameR, hdescR⟩ := name_of_methodNamed hnr hrm
  obtain ⟨mk, methM, hnamed, hmethM, -, habM⟩ := Cond.instanceMethod_spec hinst
  obtain ⟨c2, r2, m2, q1, q2, q3, q4, -⟩ := Cond.selects_spec hsel
  cases hc3.symm.trans q1
  cases hfoundL.symm.trans q2
  cases hnamed.symm.trans q3
  have hselP : selectMethod e.platform s.vm cellB.cls r0 = .method mk := by rw [Launch.admits_selectMethod X.admits]; exact q4
  have hpubM : hasFlag methM.accessFlags Acc.public_ = true := Cond.publicMethod_spec hnamed hmethM hpub
  have hway : ((cellB.cls :: s.vm.superclasses cellB.cls).any fun k => (declaredIn s.vm r.name r.desc k).any fun (_, z) => z.isPrivate || z.isStatic) = false := by
    rw [hnameR, hdescR]; exact Cond.unhidden_spec hc3 hunh
  obtain ⟨c3, t3, w1, w2, w3⟩ := Cond.castable_spec hcast
  cases hc3.symm.trans w1
  cases hcL.symm.trans w2
  have hlen : As.length = r.sig.parameters.length := by rw [hsigR] at hd; rw [hn]; exact (Option.some.inj hd).symm
  obtain ⟨vm₁, X₁, hstep₁⟩ := X.invokeinterface hexec hown hlink hnr hrm hstR (by rw [hr0cls]; exact hkL) hiL hx (a := b) (cell := cellB) (kcell := kB) (by rw [hT]; exact hc1)
    (fun z h => by rw [h] at hc2; cases hc2) hkB (by rw [hr0cls]; exact w3) hselP hmethM hway hpubM habM (g := F0 m pc ls (As.reverse ++ .ref b :: rest)) rfl (argsL := As) (rest := rest) hlen rfl hdg
  exact ⟨vm₁, mk, X₁, X₁.named hnamed, fun target h => hstep₁ _ fun acts => by rw [doInvoke_state]; exact h⟩
variable {X : Type} {wd : Wd X} {x0 x : X} {Q : Option Value → X → Prop} {E : Nat → X → Prop} {Qm : State → Prop}
theorem x_end {o : Outcome} {t : State} (I : HI wd x0 s { frames := R.frames, cells := wd.2.2.1 x0, slots := wd.2.2.2.1 x0, locals := R.locals } H locs cells slots x) (ht : t.heap = H) (ho : match o with | .returned v => Q v x | .threw a => E a x) (hW : s.WarmedH t.vm) (hf : s.sameButNew ({ t with vm := s.vm } : State) locs cells slots) : XQ wd x0 Q E s o t := by
  obtain ⟨i1, i2, i3, i4, i5, i6⟩ := I
  exact ⟨x, locs, cells, slots, ho, by rw [ht]; exact i1, i6, i2, i4, i5, hW, hf, i3.2.2, by rw [ht]; exact i3.1, fun q h1 h2 => by rw [ht]; exact i3.2.1 q h1 (fun z => by rcases z with z | z; exact h2 z; omega)⟩
theorem r_int (hexec : p.tables.exec = Jvm.exec) (hb : c.code = cc) {v : Int32} {ty : FieldType} (hr : meth.sig.returnType = some ty) (hn : narrow ty (.int v) = .int v) (hlocks : meth.locks = false) (hR : R.cells = wd.2.2.1 x0 ∧ R.slots = wd.2.2.2.1 x0)
    (I : HI wd x0 s R H locs cells slots x) (hdg : decode cc pc = .ok (.ireturn, 1)) (hq : Q (some (.int v)) x) : W p l e R s m args below meth c H locs cells slots (MQX wd x0 Q E below s) (F0 m pc ls [.int v]) := by
  intro T hT X
  obtain ⟨fs, hret, hrun, hended, hW, hframe⟩ := X.leave (v := some (.int v)) (fun h => by rw [hr] at h; cases h)
  have hmeth' : T.vm.method? m = some meth := X.method'
  refine ⟨T.setFrames fs, ?_, .returned (some (.int v)), hrun, hended, x_end (R := R) (by rw [← hR.1, ← hR.2]; exact I) hT hq hW hframe⟩
  jvm_step X.here [X.here.top, hexec, hb, hdg, hmeth', hr, hn]
  (try refine ⟨rfl, ?_⟩); (try refine ⟨rfl, ?_⟩)
  first | (intro acts; rw [hret _ acts rfl rfl rfl]) | rw [hret _ _ rfl rfl rfl]
  exact Steps.refl _
theorem r_void (hexec : p.tables.exec = Jvm.exec) (hb : c.code = cc) (hr : meth.sig.returnType = none) (hlocks : meth.locks = false) (hR : R.cells = wd.2.2.1 x0 ∧ R.slots = wd.2.2.2.1 x0)
    (I : HI wd x0 s R H locs cells slots x) (hdg : decode cc pc = .ok (.return_, 1)) (hq : Q none x) : W p l e R s m args below meth c H locs cells slots (MQX wd x0 Q E below s) (F0 m pc ls []) := by
  intro T hT X
  obtain ⟨fs, hret, hrun, hended, hW, hframe⟩ := X.leave (v := none) (fun _ => rfl)
  have hmeth' : T.vm.method? m = some meth := X.method'
  refine ⟨T.setFrames fs, ?_, .returned none, hrun, hended, x_end (R := R) (by rw [← hR.1, ← hR.2]; exact I) hT hq hW hframe⟩
  jvm_step X.here [X.here.top, hexec, hb, hdg, hmeth', hr]
  (try refine ⟨rfl, ?_⟩); (try refine ⟨rfl, ?_⟩)
  first | (intro acts; rw [hret _ acts rfl rfl rfl]) | rw [hret _ _ rfl rfl rfl]
  exact Steps.refl _
theorem r_ref (hexec : p.tables.exec = Jvm.exec) (hb : c.code = cc) {v : Option Nat} {rt : FieldType} (hr : meth.sig.returnType = some rt) (hrt : (∃ n, rt = .object n) ∨ ∃ t, rt = .array t) (hlocks : meth.locks = false) (hR : R.cells = wd.2.2.1 x0 ∧ R.slots = wd.2.2.2.1 x0)
    (I : HI wd x0 s R H locs cells slots x) (hdg : decode cc pc = .ok (.areturn, 1)) (hq : Q (some (va_rf v)) x) : W p l e R s m args below meth c H locs cells slots (MQX wd x0 Q E below s) (F0 m pc ls [va_rf v]) := by
  intro T hT X
  obtain ⟨fs, hret, hrun, hended, hW, hframe⟩ := X.leave (v := some (va_rf v)) (fun h => by rw [hr] at h; cases h)
  have hmeth' : T.vm.method? m = some meth := X.method'
  refine ⟨T.setFrames fs, ?_, .returned (some (va_rf v)), hrun, hended, x_end (R := R) (by rw [← hR.1, ← hR.2]; exact I) hT hq hW hframe⟩
  have hv := va_rf_or v
  generalize va_rf v = w at hret hv ⊢
  rcases hrt with ⟨n, rfl⟩ | ⟨t, rfl⟩ <;> rcases hv with rfl | ⟨a, rfl⟩ <;>
    (jvm_step X.here [X.here.top, hexec, hb, hdg, hmeth', hr]
     (try refine ⟨rfl, ?_⟩); (try refine ⟨rfl, ?_⟩)
     first | (intro acts; rw [hret _ acts rfl rfl rfl]) | rw [hret _ _ rfl rfl rfl]
     exact Steps.refl _)
theorem r_long (hexec : p.tables.exec = Jvm.exec) (hb : c.code = cc) {v : Int64} (hr : meth.sig.returnType = some .long) (hlocks : meth.locks = false) (hR : R.cells = wd.2.2.1 x0 ∧ R.slots = wd.2.2.2.1 x0)
    (I : HI wd x0 s R H locs cells slots x) (hdg : decode cc pc = .ok (.lreturn, 1)) (hq : Q (some (.long v)) x) : W p l e R s m args below meth c H locs cells slots (MQX wd x0 Q E below s) (F0 m pc ls [.long v]) := by
  intro T hT X
  obtain ⟨fs, hret, hrun, hended, hW, hframe⟩ := X.leave (v := some (.long v)) (fun h => by rw [hr] at h; cases h)
  have hmeth' : T.vm.method? m = some meth := X.method'
  refine ⟨T.setFrames fs, ?_, .returned (some (.long v)), hrun, hended, x_end (R := R) (by rw [← hR.1, ← hR.2]; exact I) hT hq hW hframe⟩
  jvm_step X.here [X.here.top, hexec, hb, hdg, hmeth', hr, narrow]
  (try refine ⟨rfl, ?_⟩); (try refine ⟨rfl, ?_⟩)
  first | (intro acts; rw [hret _ acts rfl rfl rfl]) | rw [hret _ _ rfl rfl rfl]
  exact Steps.refl _
/-- an exception leaves the method: no entry of its table covers the pc -/
theorem t_out (hlocks : meth.locks = false) (hR : R.cells = wd.2.2.1 x0 ∧ R.slots = wd.2.2.2.1 x0) (hout : ∀ z ∈ c.exceptionTable.toList, covers z pc = false) {st : List Value} {a : Nat}
    (I : HI wd x0 s R H locs cells slots x) (hq : E a x) : WT p l e R s m args below meth c H locs cells slots (MQX wd x0 Q E below s) (F0 m pc ls st) a := by
  intro T hT X
  obtain ⟨h1, h2, h3, h4, h5⟩ := X.leaveThrown a (g := F0 m pc ls st) rfl rfl rfl hout
  exact ⟨_, h1, .threw a, h2, h3, x_end (R := R) (t := T.setFrames (.throwing a :: below)) (by rw [← hR.1, ← hR.2]; exact I) hT hq h4 h5⟩
theorem t_athrow (hexec : p.tables.exec = Jvm.exec) (hb : c.code = cc) {a : Nat} (hdg : decode cc pc = .ok (.athrow, 1)) (k : WT p l e R s m args below meth c H locs cells slots Qm (F0 m pc ls rest) a) : W p l e R s m args below meth c H locs cells slots Qm (F0 m pc ls (.ref a :: rest)) := by
  intro T hT X
  obtain ⟨t, a1, b1⟩ := k T hT X
  refine ⟨t, ?_, b1⟩
  jvm_step X.here [X.here.top, hexec, hb, hdg, athrow.wp_sem]
  exact a1
theorem W.fewer {cells' slots' : Nat} {g : JFrame} (h1 : cells ≤ cells') (h2 : slots ≤ slots') (k : W p l e R s m args below meth c H locs cells' slots' Qm g) : W p l e R s m args below meth c H locs cells slots Qm g := W.widen h1 h2 k
end XR
