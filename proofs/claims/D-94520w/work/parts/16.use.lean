/-! ROWS AS THE GENERATOR USES THEM -/
set_option maxRecDepth 100000
abbrev rmX {X : Type} (wd : Wd X) (fr lc : Nat) (x0 : X) : Room := { frames := fr, cells := wd.2.2.1 x0, slots := wd.2.2.2.1 x0, locals := lc }
def qI {X : Type} (Q : Int32 → X → Prop) : Option Value → X → Prop := fun v G => ∃ r, v = some (.int r) ∧ Q r G
def qV {X : Type} (Q : X → Prop) : Option Value → X → Prop := fun v G => v = none ∧ Q G
def qR {X : Type} (Q : Option Nat → X → Prop) : Option Value → X → Prop := fun v G => ∃ r, v = some (va_rf r) ∧ Q r G
def qL {X : Type} (Q : Int64 → X → Prop) : Option Value → X → Prop := fun v G => ∃ r, v = some (.long r) ∧ Q r G
def bz (x : Int32) : Prop := x = 0 ∨ x = 1
theorem bz.n {x : Int32} (h : bz x) : narrow .boolean (.int x) = .int x := by rcases h with rfl | rfl <;> rfl
theorem bz.f {x : Int32} (h : bz x) : fits .boolean (.int x) = true := by rcases h with rfl | rfl <;> rfl
theorem bz0 : bz 0 := Or.inl rfl
theorem bz1 : bz 1 := Or.inr rfl
def tpos : Nat → List Tv → List (Nat × Tv)
  | _, [] => []
  | i, t :: ts => (i, t) :: tpos (if isL t = true then i + 2 else i + 1) ts
theorem tpos_eq : ∀ (ts : List Tv) (i : Nat), lv_args i (ts.map tv) = (tpos i ts).map tq
  | [], i => rfl
  | t :: ts, i => by
    have h := cat_tv t
    show (i, tv t) :: lv_args (if (tv t).category = 2 then i + 2 else i + 1) (ts.map tv) = (i, tv t) :: _
    rw [tpos_eq ts]
    congr 3
    by_cases hl : isL t = true
    · rw [hl] at h
      rw [if_pos hl, if_pos (by simpa using h)]
    · rw [if_neg hl, if_neg (fun z => hl (by rw [← h]; simpa using z))]
def tlen : List Tv → Nat
  | [] => 0
  | t :: ts => (if isL t = true then 2 else 1) + tlen ts
theorem tlen_eq : ∀ (ts : List Tv), (lg_sl (ts.map tv)).length = tlen ts
  | [] => rfl
  | t :: ts => by
    have h := cat_tv t
    have ih := tlen_eq ts
    unfold lg_sl at ih ⊢
    rw [List.map_cons, List.flatMap_cons, List.length_append, ih]
    show _ = (if isL t = true then 2 else 1) + tlen ts
    congr 1
    by_cases hl : isL t = true
    · rw [hl] at h
      rw [if_pos hl, if_pos (by simpa using h)]; rfl
    · rw [if_neg hl, if_neg (fun z => hl (by rw [← h]; simpa using z))]; rfl
section UR
variable {p : Program} {l : Launch} {e : Env} {R : Room} {s : State} {m : MethodId} {args : Array Value} {below : List Frame} {meth : Method} {c : Code} {H : Heap} {locs : List Loc} {cells slots : Nat} {Qm : State → Prop} {pc : Nat} {ls : Array Slot} {rest : List Value} {cc : ByteArray} {D : va_G} {T : Nat → ClassId} {Z : Heap} {own : String} {nL : Nat} {ret : Option FieldType} {G0 G : Hp} {r : Option Nat} {idx kd k : Nat}
/-- a method's entry, its arguments typed -/
theorem w_entry (ts : List Tv) (hn : tlen ts ≤ nL) {Hw : Heap} (kk : ∀ ls : Array Slot, LH ls nL (tpos 0 ts) → W p l e R s m args below meth c Hw [] 0 0 Qm (F0 m 0 ls [])) : W p l e R s m args below meth c Hw [] 0 0 Qm (entryFrame m (ts.map tv).toArray nL) := by
  have hl := lv_entry (ts.map tv) (n := nL) (by rw [tlen_eq]; exact hn)
  rw [lg_entry_eq]
  refine kk _ ?_
  unfold LH
  rw [← tpos_eq]
  exact hl
theorem P_I (C : Cx p s m meth c D T Z own cc nL ret) (I : HI (twd D T Z) G0 s R H locs cells slots G) {ini : Bool} (hf : FP D T Z own idx kd k ini) (hini : ini = true → meth.name = "<init>") (hk : k < (ftab kd).length ∧ sty kd k = 0) (hkd : 0 < kd ∧ kd < 20) (ho : isO G r kd) (hdg : decode cc pc = .ok (.putfield idx, 3)) {x : Int32} (hn : narrow (tyt kd k) (.int x) = .int x ∧ fits (tyt kd k) (.int x) = true)
    (kk : ∀ (H' : Heap) (locs' : List Loc) (G' : Hp), G' = wI G (ad r) k x → Ext G G' → HI (twd D T Z) G0 s R H' locs' cells slots G' → W p l e R s m args below meth c H' locs' cells slots Qm (F0 m (pc + 3) ls rest)) : W p l e R s m args below meth c H locs cells slots Qm (F0 m pc ls (.int x :: va_rf r :: rest)) :=
  p_I C I hf hini hk hkd ho hdg hn.1 hn.2 fun H' locs' I' => kk H' locs' _ rfl (Ext.kn rfl rfl rfl) I'
theorem P_R (C : Cx p s m meth c D T Z own cc nL ret) (I : HI (twd D T Z) G0 s R H locs cells slots G) {ini : Bool} (hf : FP D T Z own idx kd k ini) (hini : ini = true → meth.name = "<init>") (hk : k < (ftab kd).length ∧ sty kd k = 1) (hkd : 0 < kd ∧ kd < 20) (ho : isO G r kd) (hdg : decode cc pc = .ok (.putfield idx, 3)) {x : Option Nat} (hn : ∀ x, narrow (tyt kd k) (va_rf x) = va_rf x ∧ fits (tyt kd k) (va_rf x) = true)
    (kk : ∀ (H' : Heap) (locs' : List Loc) (G' : Hp), G' = wR G (ad r) k x → Ext G G' → HI (twd D T Z) G0 s R H' locs' cells slots G' → W p l e R s m args below meth c H' locs' cells slots Qm (F0 m (pc + 3) ls rest)) : W p l e R s m args below meth c H locs cells slots Qm (F0 m pc ls (va_rf x :: va_rf r :: rest)) :=
  p_R C I hf hini hk hkd ho hdg (fun x => (hn x).1) (fun x => (hn x).2) fun H' locs' I' => kk H' locs' _ rfl (Ext.kn rfl rfl rfl) I'
theorem fit_o {nm : String} (x : Option Nat) : narrow (.object nm) (va_rf x) = va_rf x ∧ fits (.object nm) (va_rf x) = true := by cases x <;> exact ⟨rfl, rfl⟩
theorem fit_a {t : FieldType} (x : Option Nat) : narrow (.array t) (va_rf x) = va_rf x ∧ fits (.array t) (va_rf x) = true := by cases x <;> exact ⟨rfl, rfl⟩
theorem fit_i (x : Int32) : narrow .int (.int x) = .int x ∧ fits .int (.int x) = true := ⟨rfl, rfl⟩
theorem fit_z {x : Int32} (h : bz x) : narrow .boolean (.int x) = .int x ∧ fits .boolean (.int x) = true := ⟨h.n, h.f⟩
theorem A_iast (C : Cx p s m meth c D T Z own cc nL ret) (I : HI (twd D T Z) G0 s R H locs cells slots G) (ho : isO G r 50) {i x : Int32} (hin : vp_in i (gN G (ad r))) (hdg : decode cc pc = .ok (.iastore, 1))
    (kk : ∀ (H' : Heap) (locs' : List Loc) (G' : Hp), G' = wI G (ad r) i.toNatClampNeg x → Ext G G' → HI (twd D T Z) G0 s R H' locs' cells slots G' → W p l e R s m args below meth c H' locs' cells slots Qm (F0 m (pc + 1) ls rest)) : W p l e R s m args below meth c H locs cells slots Qm (F0 m pc ls (.int x :: .int i :: va_rf r :: rest)) :=
  a_iast C I ho hin hdg fun H' locs' I' => kk H' locs' _ rfl (Ext.kn rfl rfl rfl) I'
theorem A_bast (C : Cx p s m meth c D T Z own cc nL ret) (I : HI (twd D T Z) G0 s R H locs cells slots G) (ho : isO G r 51) {i x : Int32} (hin : vp_in i (gN G (ad r))) (hdg : decode cc pc = .ok (.bastore, 1))
    (kk : ∀ (H' : Heap) (locs' : List Loc) (G' : Hp), G' = wI G (ad r) i.toNatClampNeg x.toInt8.toInt32 → Ext G G' → HI (twd D T Z) G0 s R H' locs' cells slots G' → W p l e R s m args below meth c H' locs' cells slots Qm (F0 m (pc + 1) ls rest)) : W p l e R s m args below meth c H locs cells slots Qm (F0 m pc ls (.int x :: .int i :: va_rf r :: rest)) :=
  a_bast C I ho hin hdg fun H' locs' I' => kk H' locs' _ rfl (Ext.kn rfl rfl rfl) I'
theorem A_zast (C : Cx p s m meth c D T Z own cc nL ret) (I : HI (twd D T Z) G0 s R H locs cells slots G) (ho : isO G r 52) {i x : Int32} (hin : vp_in i (gN G (ad r))) (hx : bz x) (hdg : decode cc pc = .ok (.bastore, 1))
    (kk : ∀ (H' : Heap) (locs' : List Loc) (G' : Hp), G' = wI G (ad r) i.toNatClampNeg x → Ext G G' → HI (twd D T Z) G0 s R H' locs' cells slots G' → W p l e R s m args below meth c H' locs' cells slots Qm (F0 m (pc + 1) ls rest)) : W p l e R s m args below meth c H locs cells slots Qm (F0 m pc ls (.int x :: .int i :: va_rf r :: rest)) :=
  a_zast C I ho hin hx.n hdg fun H' locs' I' => kk H' locs' _ rfl (Ext.kn rfl rfl rfl) I'
theorem A_last (C : Cx p s m meth c D T Z own cc nL ret) (I : HI (twd D T Z) G0 s R H locs cells slots G) (ho : isO G r 53) {i : Int32} {x : Int64} (hin : vp_in i (gN G (ad r))) (hdg : decode cc pc = .ok (.lastore, 1))
    (kk : ∀ (H' : Heap) (locs' : List Loc) (G' : Hp), G' = wL G (ad r) i.toNatClampNeg x → Ext G G' → HI (twd D T Z) G0 s R H' locs' cells slots G' → W p l e R s m args below meth c H' locs' cells slots Qm (F0 m (pc + 1) ls rest)) : W p l e R s m args below meth c H locs cells slots Qm (F0 m pc ls (.long x :: .int i :: va_rf r :: rest)) :=
  a_last C I ho hin hdg fun H' locs' I' => kk H' locs' _ rfl (Ext.kn rfl rfl rfl) I'
/-- what a reference array of kind kd takes: null, or an object of a class kv that can be cast to its elements' class -/
def okA (G : Hp) (kd : Nat) (x : Option Nat) : Prop := x = none ∨ ∃ kv, ((kd = 54 ∧ 10 < kv ∧ kv < 16) ∨ (kd = 55 ∧ kv = 13) ∨ (kd = 56 ∧ 2 < kv ∧ kv < 8)) ∧ isO G x kv
theorem okA.use {x : Option Nat} {E0 : String} (hty : aty kd = .object E0) (h : okA G kd x) : x = none ∨ ∃ kv, 0 < kv ∧ kv < 20 ∧ isO G x kv ∧ (Cond.castable (clt kv).1 E0 ∈ lw_tbl ∨ (clt kv).1 = E0) := by
  rcases h with h | ⟨kv, h, ho⟩
  · exact Or.inl h
  · refine Or.inr ⟨kv, by omega, by omega, ho, ?_⟩
    rcases h with ⟨rfl, h1, h2⟩ | ⟨rfl, rfl⟩ | ⟨rfl, h1, h2⟩
    · cases hty
      rcases (show kv = 11 ∨ kv = 12 ∨ kv = 13 ∨ kv = 14 ∨ kv = 15 by omega) with rfl | rfl | rfl | rfl | rfl
      · exact Or.inl q1939
      · exact Or.inl q1940
      · exact Or.inl q1924
      · exact Or.inl q1941
      · exact Or.inl q1943
    · cases hty
      exact Or.inr rfl
    · cases hty
      rcases (show kv = 3 ∨ kv = 4 ∨ kv = 5 ∨ kv = 6 ∨ kv = 7 by omega) with rfl | rfl | rfl | rfl | rfl
      · exact Or.inl q1946
      · exact Or.inl q1947
      · exact Or.inl q1948
      · exact Or.inl q1949
      · exact Or.inl q1950
theorem A_aast (C : Cx p s m meth c D T Z own cc nL ret) (I : HI (twd D T Z) G0 s R H locs cells slots G) (ho : isO G r kd) (hkd : 54 ≤ kd ∧ kd < 57) {x : Option Nat} {E0 : String} (hty : aty kd = .object E0) (hx : okA G kd x) {i : Int32} (hin : vp_in i (gN G (ad r))) (hdg : decode cc pc = .ok (.aastore, 1))
    (kk : ∀ (H' : Heap) (locs' : List Loc) (G' : Hp), G' = wR G (ad r) i.toNatClampNeg x → Ext G G' → HI (twd D T Z) G0 s R H' locs' cells slots G' → W p l e R s m args below meth c H' locs' cells slots Qm (F0 m (pc + 1) ls rest)) : W p l e R s m args below meth c H locs cells slots Qm (F0 m pc ls (va_rf x :: .int i :: va_rf r :: rest)) :=
  a_aast C I ho hkd hty (hx.use hty) hin hdg fun H' locs' I' => kk H' locs' _ rfl (Ext.kn rfl rfl rfl) I'
theorem N_obj (C : Cx p s m meth c D T Z own cc nL ret) (I : HI (twd D T Z) G0 s R H locs cells slots G) (hkd : 0 < kd ∧ kd < 20) (hcl : Cond.classLink own idx (clt kd).1 ∈ lw_all) (hb : 1 ≤ gC G ∧ (ftab kd).length ≤ gS G) (hdg : decode cc pc = .ok (.new idx, 3))
    (kk : ∀ (H' : Heap) (cells' slots' : Nat) (G' : Hp), G' = nw G kd 0 (ftab kd).length → Ext G G' → HI (twd D T Z) G0 s R H' locs cells' slots' G' → W p l e R s m args below meth c H' locs cells' slots' Qm (F0 m (pc + 3) ls (va_rf (some (gZ G)) :: rest))) : W p l e R s m args below meth c H locs cells slots Qm (F0 m pc ls rest) :=
  n_obj C I hkd hcl hb hdg fun H' I' => kk H' _ _ _ rfl (Ext.nw I.1) I'
theorem N_arr (C : Cx p s m meth c D T Z own cc nL ret) (I : HI (twd D T Z) G0 s R H locs cells slots G) (hkd : 50 ≤ kd ∧ kd < 54) {atype : ArrayType} (hty : newarray.typeOf atype = aty kd) (hac : Cond.arrayClass (aty kd) ∈ lw_all) {n : Int32} (hn : ¬ n < 0 ∧ n.toNatClampNeg ≤ 100000 ∧ 1 ≤ gC G ∧ n.toNatClampNeg ≤ gS G) (hdg : decode cc pc = .ok (.newarray atype, 2))
    (kk : ∀ (H' : Heap) (cells' slots' : Nat) (G' : Hp), G' = nw G kd n.toNatClampNeg n.toNatClampNeg → Ext G G' → HI (twd D T Z) G0 s R H' locs cells' slots' G' → W p l e R s m args below meth c H' locs cells' slots' Qm (F0 m (pc + 2) ls (va_rf (some (gZ G)) :: rest))) : W p l e R s m args below meth c H locs cells slots Qm (F0 m pc ls (.int n :: rest)) :=
  n_arr C I hkd hty hac hn.1 hn.2.1 hn.2.2 hdg fun H' I' => kk H' _ _ _ rfl (Ext.nw I.1) I'
theorem N_aarr (C : Cx p s m meth c D T Z own cc nL ret) (I : HI (twd D T Z) G0 s R H locs cells slots G) (hkd : 54 ≤ kd ∧ kd < 57) {E0 : String} (hty : aty kd = .object E0) (hcl : Cond.classLink own idx E0 ∈ lw_all) (hac : Cond.arrayOver (.object E0) ∈ lw_tbl) {n : Int32} (hn : ¬ n < 0 ∧ n.toNatClampNeg ≤ 100000 ∧ 1 ≤ gC G ∧ n.toNatClampNeg ≤ gS G) (hdg : decode cc pc = .ok (.anewarray idx, 3))
    (kk : ∀ (H' : Heap) (cells' slots' : Nat) (G' : Hp), G' = nw G kd n.toNatClampNeg n.toNatClampNeg → Ext G G' → HI (twd D T Z) G0 s R H' locs cells' slots' G' → W p l e R s m args below meth c H' locs cells' slots' Qm (F0 m (pc + 3) ls (va_rf (some (gZ G)) :: rest))) : W p l e R s m args below meth c H locs cells slots Qm (F0 m pc ls (.int n :: rest)) :=
  n_aarr C I hkd hty hcl hac hn.1 hn.2.1 hn.2.2 hdg fun H' I' => kk H' _ _ _ rfl (Ext.nw I.1) I'
theorem cat_le : ∀ (st : List Value), (st.map fun v => v.category).sum ≤ 2 * st.length
  | [] => Nat.le_refl _
  | v :: st => by
    have h := cat_le st
    have h2 : v.category ≤ 2 := by rcases lv_cat v with h | h <;> omega
    simp only [List.map_cons, List.sum_cons, List.length_cons]
    omega
end UR
theorem tlen_cat : ∀ (ts : List Tv), ((ts.map tv).map fun v => v.category).sum = tlen ts
  | [] => rfl
  | t :: ts => by
    have h := cat_tv t
    show (tv t).category + ((ts.map tv).map fun v => v.category).sum = (if isL t = true then 2 else 1) + tlen ts
    rw [tlen_cat ts]
    congr 1
    by_cases hl : isL t = true
    · rw [hl] at h
      rw [if_pos hl]; simpa using h
    · rw [if_neg hl]
      rcases lv_cat (tv t) with q | q
      · exact q
      · exact absurd (by rw [← h, q]; rfl) hl
section KR
variable {p : Program} {l : Launch} {e : Env} {s : State} {m : MethodId} {args : Array Value} {below : List Frame} {meth : Method} {c : Code} {H : Heap} {locs : List Loc} {cells slots : Nat} {Qm : State → Prop} {pc : Nat} {ls : Array Slot} {rest : List Value} {cc : ByteArray} {D : va_G} {T : Nat → ClassId} {Z : Heap} {own : String} {nL : Nat} {ret : Option FieldType} {idx kd : Nat} {R : Room}
/-- a call by its contract, over any world -/
theorem k_call {X : Type} {wd : Wd X} {x0 x : X} (htr : ∀ a b c, wd.2.2.2.2 a b → wd.2.2.2.2 b c → wd.2.2.2.2 a c) (C : Cx p s m meth c D T Z own cc nL ret) (I : HI wd x0 s R H locs cells slots x) {y : MethodName} {cw : Cond} {cc' : ByteArray} {nL' : Nat} {ret' : Option FieldType} {fr lc : Nat} {as : List Value} {Q : Option Value → X → Prop} {E : Nat → X → Prop} {len : Nat} {st0 : List Value} {ig : Instr}
    (hI : Inv1 p l e R s m args below meth c H locs cells slots (F0 m pc ls st0) rest y as) (hM : CT wd (Evd D T Z) l y cw fr lc as x Q E) (hsz : ls.size = nL) (hdg : decode cc pc = .ok (ig, len)) (ts : List Tv) (hrest : rest = ts.map tv) (hts : tlen ts ≤ 8) (hcw : CwIs cw y cc' nL' ret') (hq1 : cw ∈ lw_all) (hq2 : Cond.initialized y.cls ∈ lw_all) (hroom : fr + 1 ≤ R.frames ∧ 8 + (nL' + 11) + lc ≤ R.locals)
    (kr : ∀ (v : Option Value) (x' : X) (H' : Heap) (locs' : List Loc) (cells' slots' : Nat), wd.2.2.2.2 x x' → Q v x' → HI wd x0 s R H' locs' cells' slots' x' → W p l e R s m args below meth c H' locs' cells' slots' Qm (F0 m (pc + len) ls (v.toList ++ rest)))
    (kt : ∀ (a : Nat) (x' : X) (H' : Heap) (locs' : List Loc) (cells' slots' : Nat), wd.2.2.2.2 x x' → E a x' → HI wd x0 s R H' locs' cells' slots' x' → WT p l e R s m args below meth c H' locs' cells' slots' Qm (F0 m pc ls rest) a) :
    W p l e R s m args below meth c H locs cells slots Qm (F0 m pc ls st0) :=
  x_call hI hM htr I (by rw [C.2.2.1]; exact hsz) (by rw [C.2.1]; exact hdg) (by rw [hrest, tlen_cat]; exact hts) hcw (fun a U hW => (C.2.2.2.2.1.warm hW).1.good hq1 a) (fun a U hW => (C.2.2.2.2.1.warm hW).1.good hq2 a) (fun U hW => C.2.2.2.2.1.warm hW) hroom kr kt
variable {y : MethodName} {cw : Cond} {bytes : ByteArray} {nL' : Nat} {ret' : Option FieldType} {As : List Value} {n : Nat} {st : List Value} {r : Option Nat}
theorem k_V (C : Cx p s m meth c D T Z own cc nL ret) {Cn : String} (hr : r = some (ad r) ∧ ∃ cell : Cell, H[ad r]? = some cell ∧ cell.vm.isStatics = false ∧ s.vm.findClass Cn = some cell.cls) (q1 : Cond.methodLink own idx y ∈ lw_all) (q2 : Cond.instanceMethod y ∈ lw_all) (q3 : Cond.selects Cn y y ∈ lw_all) (hcw : CwIs cw y bytes nL' ret') (q4 : cw ∈ lw_all) (hy : y.cls ≠ "java/lang/invoke/MethodHandle" ∧ y.cls ≠ "java/lang/invoke/VarHandle")
    (hn : As.length = n) (hd : (parseMethodDescriptor y.desc).map (fun d => d.parameters.length) = some n) (hst : st = As.reverse ++ va_rf r :: rest) (hdg : decode cc pc = .ok (.invokevirtual idx, 3)) : Inv1 p l e R s m args below meth c H locs cells slots (F0 m pc ls st) rest y (va_rf r :: As) := by
  have hE := C.2.2.2.2.1.1
  obtain ⟨hr1, hr2⟩ := hr
  rw [hr1] at hst ⊢
  exact i_V C.1 C.2.1 C.2.2.2.1 (hE.good q1 args) (hE.good q2 args) (hE.good q3 args) hcw (hE.good q4 args) hy hr2 hn hd hst hdg
theorem k_VN (C : Cx p s m meth c D T Z own cc nL ret) {Cn host : String} (hr : r = some (ad r) ∧ ∃ cell : Cell, H[ad r]? = some cell ∧ cell.vm.isStatics = false ∧ s.vm.findClass Cn = some cell.cls) (q1 : Cond.methodLinkNest own idx y host ∈ lw_tbl) (q2 : Cond.instanceMethod y ∈ lw_all) (q3 : Cond.selects Cn y y ∈ lw_all) (hcw : CwIs cw y bytes nL' ret') (q4 : cw ∈ lw_all) (hy : y.cls ≠ "java/lang/invoke/MethodHandle" ∧ y.cls ≠ "java/lang/invoke/VarHandle")
    (hn : As.length = n) (hd : (parseMethodDescriptor y.desc).map (fun d => d.parameters.length) = some n) (hst : st = As.reverse ++ va_rf r :: rest) (hdg : decode cc pc = .ok (.invokevirtual idx, 3)) : Inv1 p l e R s m args below meth c H locs cells slots (F0 m pc ls st) rest y (va_rf r :: As) := by
  have hE := C.2.2.2.2.1.1
  obtain ⟨hr1, hr2⟩ := hr
  rw [hr1] at hst ⊢
  exact i_VN C.1 C.2.1 C.2.2.2.1 (hE.nm q1 args) (hE.good q2 args) (hE.good q3 args) hcw (hE.good q4 args) hy hr2 hn hd hst hdg
theorem cw_named {a : Array Value} {U : State} (h : CwIs cw y bytes nL' ret') (hb : cw.before a U = true) : U.methodNamed? y ≠ none := by
  rcases h with rfl | ⟨hh, rfl⟩
  · obtain ⟨mk, h⟩ := Cond.code_named hb
    rw [h]; exact fun z => by cases z
  · obtain ⟨m9, _, _, hn9, -⟩ := Cond.codeWith_spec hb
    rw [hn9]; exact fun z => by cases z
theorem k_S (C : Cx p s m meth c D T Z own cc nL ret) (q1 : Cond.methodLink own idx y ∈ lw_all) (q2 : Cond.static y ∈ lw_all) (q3 : Cond.initialized y.cls ∈ lw_all) (hcw : CwIs cw y bytes nL' ret') (q4 : cw ∈ lw_all) (hy : y.cls ≠ "java/lang/invoke/MethodHandle" ∧ y.cls ≠ "java/lang/invoke/VarHandle")
    (hn : As.length = n) (hd : (parseMethodDescriptor y.desc).map (fun d => d.parameters.length) = some n) (hst : st = As.reverse ++ rest) (hdg : decode cc pc = .ok (.invokestatic idx, 3)) : Inv1 p l e R s m args below meth c H locs cells slots (F0 m pc ls st) rest y As := by
  have hE := C.2.2.2.2.1.1
  exact i_S C.1 C.2.1 C.2.2.2.1 (hE.good q1 args) (hE.good q2 args) (hE.good q3 args) (cw_named hcw (hE.good q4 args)) hcw (hE.good q4 args) hy hn hd hst hdg
theorem k_SN (C : Cx p s m meth c D T Z own cc nL ret) {host : String} (q1 : Cond.methodLinkNest own idx y host ∈ lw_tbl) (q2 : Cond.static y ∈ lw_all) (q3 : Cond.initialized y.cls ∈ lw_all) (hcw : CwIs cw y bytes nL' ret') (q4 : cw ∈ lw_all) (hy : y.cls ≠ "java/lang/invoke/MethodHandle" ∧ y.cls ≠ "java/lang/invoke/VarHandle")
    (hn : As.length = n) (hd : (parseMethodDescriptor y.desc).map (fun d => d.parameters.length) = some n) (hst : st = As.reverse ++ rest) (hdg : decode cc pc = .ok (.invokestatic idx, 3)) : Inv1 p l e R s m args below meth c H locs cells slots (F0 m pc ls st) rest y As := by
  have hE := C.2.2.2.2.1.1
  exact i_SN C.1 C.2.1 C.2.2.2.1 (hE.nm q1 args) (hE.good q2 args) (hE.good q3 args) (cw_named hcw (hE.good q4 args)) hcw (hE.good q4 args) hy hn hd hst hdg
theorem k_I (C : Cx p s m meth c D T Z own cc nL ret) (hr : r = some (ad r)) (hy1 : y.name = "<init>") (q1 : Cond.methodLink own idx y ∈ lw_all) (q2 : Cond.instanceMethod y ∈ lw_all) (q4 : Cond.code y bytes nL' none ∈ lw_all) (hy : y.cls ≠ "java/lang/invoke/MethodHandle" ∧ y.cls ≠ "java/lang/invoke/VarHandle")
    (hn : As.length = n) (hd : (parseMethodDescriptor y.desc).map (fun d => d.parameters.length) = some n) (hst : st = As.reverse ++ va_rf r :: rest) (hdg : decode cc pc = .ok (.invokespecial idx, 3)) : Inv1 p l e R s m args below meth c H locs cells slots (F0 m pc ls st) rest y (va_rf r :: As) := by
  have hE := C.2.2.2.2.1.1
  rw [hr] at hst ⊢
  exact i_I C.1 C.2.1 C.2.2.2.1 hy1 (hE.good q1 args) (hE.good q2 args) (hE.good q4 args) hy hn hd hst hdg
theorem k_IN (C : Cx p s m meth c D T Z own cc nL ret) {host : String} (hr : r = some (ad r)) (hy1 : y.name = "<init>") (q1 : Cond.methodLinkNest own idx y host ∈ lw_tbl) (q2 : Cond.instanceMethod y ∈ lw_all) (q4 : Cond.code y bytes nL' none ∈ lw_all) (hy : y.cls ≠ "java/lang/invoke/MethodHandle" ∧ y.cls ≠ "java/lang/invoke/VarHandle")
    (hn : As.length = n) (hd : (parseMethodDescriptor y.desc).map (fun d => d.parameters.length) = some n) (hst : st = As.reverse ++ va_rf r :: rest) (hdg : decode cc pc = .ok (.invokespecial idx, 3)) : Inv1 p l e R s m args below meth c H locs cells slots (F0 m pc ls st) rest y (va_rf r :: As) := by
  have hE := C.2.2.2.2.1.1
  rw [hr] at hst ⊢
  exact i_IN C.1 C.2.1 C.2.2.2.1 hy1 (hE.nm q1 args) (hE.good q2 args) (hE.good q4 args) hy hn hd hst hdg
theorem k_F (C : Cx p s m meth c D T Z own cc nL ret) {x : MethodName} {count : Nat} (hkd : 0 < kd ∧ kd < 20) (hr : r = some (ad r) ∧ ∃ cell : Cell, H[ad r]? = some cell ∧ cell.vm.isStatics = false ∧ s.vm.findClass (clt kd).1 = some cell.cls) (q1 : Cond.methodLink own idx x ∈ lw_all) (hx : x.cls ≠ "java/lang/invoke/MethodHandle" ∧ x.cls ≠ "java/lang/invoke/VarHandle") (h1 : Cond.declares x ∈ lw_tbl) (h2 : Cond.interfaceMethod x.cls x.cls x.name x.desc ∈ lw_tbl) (h3 : Cond.publicMethod y ∈ lw_tbl) (h4 : Cond.unhidden (clt kd).1 x.name x.desc ∈ lw_tbl) (h5 : Cond.castable (clt kd).1 x.cls ∈ lw_tbl) (q2 : Cond.selects (clt kd).1 x y ∈ lw_all) (q3 : Cond.instanceMethod y ∈ lw_all)
    (hn : As.length = n) (hd : (parseMethodDescriptor x.desc).map (fun d => d.parameters.length) = some n) (hst : st = As.reverse ++ va_rf r :: rest) (hdg : decode cc pc = .ok (.invokeinterface idx count, 5)) : Inv1 p l e R s m args below meth c H locs cells slots (F0 m pc ls st) rest y (va_rf r :: As) := by
  have hE := C.2.2.2.2.1
  obtain ⟨hr1, hr2⟩ := hr
  rw [hr1] at hst ⊢
  exact i_F C.1 C.2.1 (hE.2.1.1 kd hkd.1 hkd.2).1.2 C.2.2.2.1 (hE.1.good q1 args) (hE.1.fw hx h1 h2 h3 h4 h5) (hE.1.good q2 args) (hE.1.good q3 args) hx hr2 hn hd hst hdg
theorem k_U (C : Cx p s m meth c D T Z own cc nL ret) {x : MethodName} {Cn owner : String} (hr : r = some (ad r) ∧ ∃ cell : Cell, H[ad r]? = some cell ∧ cell.vm.isStatics = false ∧ s.vm.findClass Cn = some cell.cls) (q1 : Cond.methodLink own idx x ∈ lw_all) (qs : Cond.sameMethod x.cls owner x.name x.desc ∈ lw_all) (qd : Cond.declares ⟨owner, x.name, x.desc⟩ ∈ lw_tbl) (howner : owner ≠ "java/lang/invoke/MethodHandle" ∧ owner ≠ "java/lang/invoke/VarHandle") (q2 : Cond.selects Cn x y ∈ lw_all) (q3 : Cond.instanceMethod y ∈ lw_all)
    (hn : As.length = n) (hd : (parseMethodDescriptor x.desc).map (fun d => d.parameters.length) = some n) (hst : st = As.reverse ++ va_rf r :: rest) (hdg : decode cc pc = .ok (.invokevirtual idx, 3)) : Inv1 p l e R s m args below meth c H locs cells slots (F0 m pc ls st) rest y (va_rf r :: As) := by
  have hE := C.2.2.2.2.1
  obtain ⟨hr1, hr2⟩ := hr
  rw [hr1] at hst ⊢
  exact i_U C.1 C.2.1 C.2.2.2.1 (hE.1.good q1 args) (hE.1.good qs args) (va_Decl.abs (va_Nw.of rfl (hE.1.de qd args))) howner (hE.1.good q2 args) (hE.1.good q3 args) hr2 hn hd hst hdg
theorem k_objInit (C : Cx p s m meth c D T Z own cc nL ret) (hr : r = some (ad r)) (q1 : Cond.methodLink own idx Lib.objectInit ∈ lw_all) (q2 : Cond.instanceMethod Lib.objectInit ∈ lw_all) (q3 : Cond.code Lib.objectInit ⟨#[0xb1]⟩ 1 none ∈ lw_all) (hsz : ls.size = nL) (hdg : decode cc pc = .ok (.invokespecial idx, 3)) (hrest : rest.length ≤ 4) (hroom : 1 ≤ R.frames ∧ 20 ≤ R.locals)
    (kk : W p l e R s m args below meth c H locs cells slots Qm (F0 m (pc + 3) ls rest)) : W p l e R s m args below meth c H locs cells slots Qm (F0 m pc ls (va_rf r :: rest)) := by
  have hE := C.2.2.2.2.1.1
  rw [hr]
  have hs := cat_le rest
  exact W.objInit C.1 C.2.1 C.2.2.2.1 (hE.good q1 args) (hE.good q2 args) (hE.good q3 args) rfl (by rw [C.2.2.1]; exact hsz) rfl hdg hroom.1 (by show 2 * 0 + _ + 12 ≤ _; omega) kk
end KR
