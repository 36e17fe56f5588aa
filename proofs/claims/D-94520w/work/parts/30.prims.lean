/-! PRIMITIVES of the town: what is proved by hand (contracts owed: see NOTES) -/
set_option maxRecDepth 100000
theorem noEx {c : Code} {s : State} {m : MethodId} {meth : Method} {y : MethodName} {bytes : ByteArray} {nL : Nat} {ret : Option FieldType} {a : Array Value} (hn : s.methodNamed? y = some m) (hm : s.vm.method? m = some meth) (hc : meth.code = some c) (hcb : (Cond.code y bytes nL ret).before a s = true) : ∀ z ∈ c.exceptionTable.toList, ∀ pc, covers z pc = false := by
  obtain ⟨meth', c', h1, h2, -, -, -, -, h7, -⟩ := Cond.code_spec hn hcb
  cases hm.symm.trans h1
  cases hc.symm.trans h2
  intro z hz
  have : c.exceptionTable = #[] := by simpa using h7
  rw [this] at hz
  simp at hz
section PRM
variable {p : Program} {l : Launch} {e : Env} {R : Room} {s : State} {m : MethodId} {args : Array Value} {below : List Frame} {meth : Method} {c : Code} {H : Heap} {locs : List Loc} {cells slots : Nat} {Qm : State → Prop} {pc : Nat} {ls : Array Slot} {rest : List Value} {cc : ByteArray} {D : va_G} {T : Nat → ClassId} {Z : Heap} {own : String} {nL : Nat} {ret : Option FieldType} {G0 G : Hp} {idx : Nat}
theorem z_st {C0 nm ds ref : String} {v : Value} (hZ : va_Z C0 nm ds v (fun _ => False) s Z) (C : Cx p s m meth c D T Z own cc nL ret) (I : HI (twd D T Z) G0 s R H locs cells slots G) (q : Cond.fieldLink own idx C0 nm ds ∈ lw_all) (hdg : decode cc pc = .ok (.getstatic idx, 3))
    (kk : W p l e R s m args below meth c H locs cells slots Qm (F0 m (pc + 3) ls (v :: rest))) : W p l e R s m args below meth c H locs cells slots Qm (F0 m pc ls rest) := by
  obtain ⟨cf, kf, fi, f, a, cell, h1, h2, h3, h4, h5, h6, h7, -⟩ := hZ
  have ha : a < Z.size := (Array.getElem?_eq_some_iff.mp h5).1
  refine W.gets C.1 C.2.1 C.2.2.2.1 (C.2.2.2.2.1.1.good q args) h1 h2 h3 h4 (by rw [I.1.2.2.1 a ha]; exact h5) (fun z => by rw [z] at h6; cases h6) h7 rfl hdg kk
theorem z_st0 (C : Cx p s m meth c D T Z own cc nL ret) (I : HI (twd D T Z) G0 s R H locs cells slots G) (q : Cond.fieldLink own idx "java/util/ArrayList" "DEFAULTCAPACITY_EMPTY_ELEMENTDATA" "[Ljava/lang/Object;" ∈ lw_all) (hdg : decode cc pc = .ok (.getstatic idx, 3))
    (kk : W p l e R s m args below meth c H locs cells slots Qm (F0 m (pc + 3) ls (va_rf (some (T 100)) :: rest))) : W p l e R s m args below meth c H locs cells slots Qm (F0 m pc ls rest) := z_st (ref := "") C.2.2.2.2.1.2.2.1 C I q hdg kk
theorem z_st1 (C : Cx p s m meth c D T Z own cc nL ret) (I : HI (twd D T Z) G0 s R H locs cells slots G) (q : Cond.fieldLink own idx "java/util/ArrayList" "EMPTY_ELEMENTDATA" "[Ljava/lang/Object;" ∈ lw_all) (hdg : decode cc pc = .ok (.getstatic idx, 3))
    (kk : W p l e R s m args below meth c H locs cells slots Qm (F0 m (pc + 3) ls (va_rf (some (T 101)) :: rest))) : W p l e R s m args below meth c H locs cells slots Qm (F0 m pc ls rest) := z_st (ref := "") C.2.2.2.2.1.2.2.2.1 C I q hdg kk
theorem z_sq0 (C : Cx p s m meth c D T Z own cc nL ret) (I : HI (twd D T Z) G0 s R H locs cells slots G) (q : Cond.fieldLink own idx "java/lang/Throwable" "UNASSIGNED_STACK" "[Ljava/lang/StackTraceElement;" ∈ lw_all) (hdg : decode cc pc = .ok (.getstatic idx, 3))
    (kk : W p l e R s m args below meth c H locs cells slots Qm (F0 m (pc + 3) ls (va_rf (kq T 0) :: rest))) : W p l e R s m args below meth c H locs cells slots Qm (F0 m pc ls rest) := z_st (ref := "") C.2.2.2.2.1.2.2.2.2.2.2.2.1 C I q hdg kk
theorem z_sq1 (C : Cx p s m meth c D T Z own cc nL ret) (I : HI (twd D T Z) G0 s R H locs cells slots G) (q : Cond.fieldLink own idx "java/lang/Throwable" "SUPPRESSED_SENTINEL" "Ljava/util/List;" ∈ lw_all) (hdg : decode cc pc = .ok (.getstatic idx, 3))
    (kk : W p l e R s m args below meth c H locs cells slots Qm (F0 m (pc + 3) ls (va_rf (kq T 1) :: rest))) : W p l e R s m args below meth c H locs cells slots Qm (F0 m pc ls rest) := z_st (ref := "") C.2.2.2.2.1.2.2.2.2.2.2.2.2.1 C I q hdg kk
theorem z_str (C : Cx p s m meth c D T Z own cc nL ret) (I : HI (twd D T Z) G0 s R H locs cells slots G) {r : Option Nat} {P : Nat → Prop} (h : ∃ i, i < 13 ∧ r = some (T (120 + i)) ∧ P i) : r = some (ad r) ∧ ∃ cell : Cell, H[ad r]? = some cell ∧ cell.vm.isStatics = false ∧ s.vm.findClass "java/lang/String" = some cell.cls := by
  obtain ⟨i, hi, rfl, -⟩ := h
  obtain ⟨cell, h1, h2, h3, -⟩ := (C.2.2.2.2.1.2.2.2.2.2.2.2.2.2.2.2.2.2.2 i hi).2.1
  exact ⟨rfl, cell, by show H[T (120 + i)]? = _; rw [I.1.2.2.1 _ (Array.getElem?_eq_some_iff.mp h1).1]; exact h1, h2, h3⟩
theorem z_of {o n d : String} {v : Value} {q : Nat} (hF : va_OF o n d v q (fun _ => False) s Z) (C : Cx p s m meth c D T Z own cc nL ret) (I : HI (twd D T Z) G0 s R H locs cells slots G) (qq : Cond.fieldLink own idx o n d ∈ lw_all) (hdg : decode cc pc = .ok (.getfield idx, 3))
    (kk : W p l e R s m args below meth c H locs cells slots Qm (F0 m (pc + 3) ls (v :: rest))) : W p l e R s m args below meth c H locs cells slots Qm (F0 m pc ls (va_rf (some q) :: rest)) := by
  obtain ⟨cf, k, fi, f, cell, h1, h2, h3, h4, h5, -⟩ := hF
  exact W.getf C.1 C.2.1 C.2.2.2.1 (C.2.2.2.2.1.1.good qq args) h1 h2 (by rw [I.1.2.2.1 q (Array.getElem?_eq_some_iff.mp h3).1]; exact h3) h4 h5 rfl rfl hdg kk
theorem z_al {ty : FieldType} {t N : Nat} {f : Nat → Value} (hT : va_T ty t N f (fun _ => False) s Z) (C : Cx p s m meth c D T Z own cc nL ret) (I : HI (twd D T Z) G0 s R H locs cells slots G) (hdg : decode cc pc = .ok (.arraylength, 1))
    (kk : W p l e R s m args below meth c H locs cells slots Qm (F0 m (pc + 1) ls (.int (nI N) :: rest))) : W p l e R s m args below meth c H locs cells slots Qm (F0 m pc ls (.ref t :: rest)) := by
  obtain ⟨cell, g1, g2, g3, -, g5, -⟩ := hT
  exact W.alen C.1 C.2.1 (by rw [I.1.2.2.1 t (Array.getElem?_eq_some_iff.mp g1).1]; exact g1) g2 g5 rfl rfl hdg kk
theorem z_bl {t N : Nat} {f : Nat → Value} (hT : va_T .byte t N f (fun _ => False) s Z) (C : Cx p s m meth c D T Z own cc nL ret) (I : HI (twd D T Z) G0 s R H locs cells slots G) {i : Int32} (hin : vp_in i N) (hdg : decode cc pc = .ok (.baload, 1))
    (kk : W p l e R s m args below meth c H locs cells slots Qm (F0 m (pc + 1) ls (f i.toNatClampNeg :: rest))) : W p l e R s m args below meth c H locs cells slots Qm (F0 m pc ls (.int i :: .ref t :: rest)) := by
  obtain ⟨cell, h1, h2, h3, h4, h5, h6, -⟩ := hT
  have hlt : i.toNatClampNeg < N := Nat.not_le.mp fun q => hin (Or.inr q)
  have hin' : ¬ (i < 0 ∨ cell.slots.size ≤ i.toNatClampNeg) := by
    intro q
    rcases q with q | q
    · exact hin (Or.inl q)
    · omega
  exact W.bald C.1 C.2.1 (by rw [I.1.2.2.1 t (Array.getElem?_eq_some_iff.mp h1).1]; exact h1) h2 h3 hin' (h6 _ hlt) rfl rfl hdg kk
theorem Cx.str (C : Cx p s m meth c D T Z own cc nL ret) {i : Nat} (hi : i < 13) : ZS T Z i s := C.2.2.2.2.1.2.2.2.2.2.2.2.2.2.2.2.2.2.2 i hi
theorem Cx.cs (C : Cx p s m meth c D T Z own cc nL ret) : va_Z "java/lang/String" "COMPACT_STRINGS" "Z" (.int 1) (fun _ => False) s Z := C.2.2.2.2.1.2.2.2.2.2.2.2.2.2.1
theorem Cx.fm (C : Cx p s m meth c D T Z own cc nL ret) : va_Z "jdk/internal/util/Preconditions" "SIOOBE_FORMATTER" "Ljava/util/function/BiFunction;" (va_rf (kq T 2)) (fun _ => False) s Z := C.2.2.2.2.1.2.2.2.2.2.2.2.2.2.2.1
end PRM
def w_J8_length (T : Nat → ClassId) (Q : Int32 → Hp → Prop) (th : Option Nat) (G : Hp) : Prop := ∃ i, i < 13 ∧ th = some (T (120 + i)) ∧ Q (nI (klen i)) G
def w_J8_charAt (T : Nat → ClassId) (Q : Int32 → Hp → Prop) (th : Option Nat) (p0 : Int32) (G : Hp) : Prop := ∃ i, i < 13 ∧ th = some (T (120 + i)) ∧ vp_in p0 (klen i) ∧ Q (nI ((kch i).getD p0.toNatClampNeg 0)) G
/-- only the object x has changed -/
def xSame (G G1 : Hp) (x : Nat) : Prop := gK G1 = gK G ∧ gN G1 = gN G ∧ gZ G1 = gZ G ∧ gC G1 = gC G ∧ gS G1 = gS G ∧ ∀ a, a ≠ x → gI G1 a = gI G a ∧ gR G1 a = gR G a ∧ gL G1 a = gL G a
/-- references copied: the first n of b's to a -/
def cpR (G : Hp) (a b n : Nat) : Hp := (gK G, gN G, gI G, fun x j => if x = a ∧ j < n then gR G b j else gR G x j, gL G, gZ G, gC G, gS G)
def w_J14_copyOf (T : Nat → ClassId) (Q : Option Nat → Hp → Prop) (p0 : Option Nat) (p1 : Int32) (G : Hp) : Prop := (isO G p0 54 ∨ isO G p0 57) ∧ ¬ p1 < 0 ∧ p1.toNatClampNeg ≤ 100000 ∧ 1 ≤ gC G ∧ p1.toNatClampNeg ≤ gS G ∧ gN G (ad p0) ≤ 100000 ∧ (∀ i, i < gN G (ad p0) → okA G 54 (gR G (ad p0) i)) ∧ ∀ G1 : Hp, G1 = cpR (nw G 54 p1.toNatClampNeg p1.toNatClampNeg) (gZ G) (ad p0) (min p1.toNatClampNeg (gN G (ad p0))) → Q (some (gZ G)) G1
theorem pd_J8_length : (parseMethodDescriptor yJ8_length.desc).map (fun d => d.parameters.length) = some 0 := by decide +kernel
theorem pd_J8_charAt : (parseMethodDescriptor yJ8_charAt.desc).map (fun d => d.parameters.length) = some 1 := by decide +kernel
theorem pd_J14_copyOf : (parseMethodDescriptor yJ14_copyOf.desc).map (fun d => d.parameters.length) = some 2 := by decide +kernel
theorem vp_lt {i : Int32} {n : Nat} (h : vp_in i n) (hn : n < 2 ^ 31) : i < nI n := by
  have h0 : ¬ i < 0 := fun z => h (Or.inl z)
  have h1 := vp_in_lt h
  rw [Int32.lt_iff_toInt_lt, nI_toInt hn]
  have h2 : (0 : Int) ≤ i.toInt := by simpa using Int32.le_iff_toInt_le.mp (Int32.not_lt.mp h0)
  have e : i.toNatClampNeg = i.toInt.toNat := rfl
  omega
theorem klen_le : ∀ i, i < 13 → klen i < 8 := by decide
theorem klen_sh : ∀ i, i < 13 → nI (klen i) >>> ((0 : Int32) &&& 31) = nI (klen i) := by decide +kernel
theorem kch_c : ∀ i, i < 13 → ∀ j, j < klen i → ((nI ((kch i).getD j 0) &&& 255).toUInt32 % 65536).toInt32 = nI ((kch i).getD j 0) := by decide +kernel
theorem kch_n : ∀ i, i < 13 → ∀ j, j < klen i → (nI ((kch i).getD j 0)).toUInt32.toUInt16.toUInt32.toInt32 = nI ((kch i).getD j 0) := by decide +kernel
theorem pe_J8_coder : (parseMethodDescriptor yJ8_coder.desc).map (fun d => d.parameters.length) = some 0 := by decide +kernel
theorem pe_J8_isLatin1 : (parseMethodDescriptor yJ8_isLatin1.desc).map (fun d => d.parameters.length) = some 0 := by decide +kernel
theorem pe_J8_checkIndex : (parseMethodDescriptor yJ8_checkIndex.desc).map (fun d => d.parameters.length) = some 2 := by decide +kernel
theorem pe_J9_charAt : (parseMethodDescriptor yJ9_charAt.desc).map (fun d => d.parameters.length) = some 2 := by decide +kernel
theorem pe_J10_checkIndex : (parseMethodDescriptor yJ10_checkIndex.desc).map (fun d => d.parameters.length) = some 3 := by decide +kernel
theorem cg_J8_coder {l : Launch} {D : va_G} {T : Nat → ClassId} {Z : Heap} {G0 : Hp} {Q : Int32 → Hp → Prop} {i : Nat} (hi : i < 13) (h : Q 0 G0) : CT (twd D T Z) (Evd D T Z) l yJ8_coder (Cond.code yJ8_coder cJ8_coder 1 (some .byte)) 0 0 [va_rf (some (T (120 + i)))] G0 (qI Q) (fun _ _ => False) := by
  refine CT.ofW (cc := cJ8_coder) (nL := 1) (ret := (some .byte)) Ext.rf (by decide +kernel) (Or.inl rfl) ?_
  intro p e s m below meth c hx hb hml hown hr hlk hnm hcb hm hc hn hE I
  have C : Cx p s m meth c D T Z "java/lang/String" cJ8_coder 1 (some .byte) := ⟨hx, hb, hml, hown, hE, hr, hlk⟩
  refine w_entry [.inr (.inl (some (T (120 + i))))] (Nat.le_of_ble_eq_true rfl) (fun ls hl => ?_)
  have hl : LH ls 1 [(0, .inr (.inl (some (T (120 + i)))))] := hl
  refine z_st (ref := "") C.cs C I q788 dJ8_coder_0 ?_
  refine lv_if_eq (tgt := 13) C.1 C.2.1 dJ8_coder_3 (by decide) (fun c1 => absurd c1 (by decide)) (fun c1 => ?_)
  refine l_ald_n C dJ8_coder_6 hl 0 rfl rfl ?_
  refine z_of (C.str hi).2.2.1 C I q1961 dJ8_coder_7 ?_
  refine lv_goto (tgt := 14) C.1 C.2.1 dJ8_coder_10 (by decide) ?_
  exact r_int C.1 C.2.1 C.2.2.2.2.2.1 rfl C.2.2.2.2.2.2 ⟨rfl, rfl⟩ I dJ8_coder_14 ⟨_, rfl, h⟩
theorem cg_J8_isLatin1 {l : Launch} {D : va_G} {T : Nat → ClassId} {Z : Heap} {G0 : Hp} {Q : Int32 → Hp → Prop} {i : Nat} (hi : i < 13) (h : Q 1 G0) : CT (twd D T Z) (Evd D T Z) l yJ8_isLatin1 (Cond.code yJ8_isLatin1 cJ8_isLatin1 1 (some .boolean)) 0 0 [va_rf (some (T (120 + i)))] G0 (qI Q) (fun _ _ => False) := by
  refine CT.ofW (cc := cJ8_isLatin1) (nL := 1) (ret := (some .boolean)) Ext.rf (by decide +kernel) (Or.inl rfl) ?_
  intro p e s m below meth c hx hb hml hown hr hlk hnm hcb hm hc hn hE I
  have C : Cx p s m meth c D T Z "java/lang/String" cJ8_isLatin1 1 (some .boolean) := ⟨hx, hb, hml, hown, hE, hr, hlk⟩
  refine w_entry [.inr (.inl (some (T (120 + i))))] (Nat.le_of_ble_eq_true rfl) (fun ls hl => ?_)
  have hl : LH ls 1 [(0, .inr (.inl (some (T (120 + i)))))] := hl
  refine z_st (ref := "") C.cs C I q788 dJ8_isLatin1_0 ?_
  refine lv_if_eq (tgt := 17) C.1 C.2.1 dJ8_isLatin1_3 (by decide) (fun c1 => absurd c1 (by decide)) (fun c1 => ?_)
  refine l_ald_n C dJ8_isLatin1_6 hl 0 rfl rfl ?_
  refine z_of (C.str hi).2.2.1 C I q1961 dJ8_isLatin1_7 ?_
  refine lv_if_ne (tgt := 17) C.1 C.2.1 dJ8_isLatin1_10 (by decide) (fun c1 => absurd rfl c1) (fun c1 => ?_)
  refine lv_iconst (v := 1) C.1 C.2.1 dJ8_isLatin1_13 (by decide) ?_
  refine lv_goto (tgt := 18) C.1 C.2.1 dJ8_isLatin1_14 (by decide) ?_
  exact r_int C.1 C.2.1 C.2.2.2.2.2.1 rfl C.2.2.2.2.2.2 ⟨rfl, rfl⟩ I dJ8_isLatin1_18 ⟨_, rfl, h⟩
theorem cg_J10_checkIndex {l : Launch} {D : va_G} {T : Nat → ClassId} {Z : Heap} {G0 : Hp} {Q : Int32 → Hp → Prop} {p0 p1 : Int32} {p2 : Option Nat} (h0 : ¬ p0 < 0) (h1 : p0 < p1) (h : Q p0 G0) : CT (twd D T Z) (Evd D T Z) l yJ10_checkIndex (Cond.code yJ10_checkIndex cJ10_checkIndex 3 (some .int)) 0 0 [.int p0, .int p1, va_rf p2] G0 (qI Q) (fun _ _ => False) := by
  refine CT.ofW (cc := cJ10_checkIndex) (nL := 3) (ret := (some .int)) Ext.rf (by decide +kernel) (Or.inl rfl) ?_
  intro p e s m below meth c hx hb hml hown hr hlk hnm hcb hm hc hn hE I
  have C : Cx p s m meth c D T Z "jdk/internal/util/Preconditions" cJ10_checkIndex 3 (some .int) := ⟨hx, hb, hml, hown, hE, hr, hlk⟩
  refine w_entry [.inl p0, .inl p1, .inr (.inl p2)] (Nat.le_of_ble_eq_true rfl) (fun ls hl => ?_)
  have hl : LH ls 3 [(0, .inl p0), (1, .inl p1), (2, .inr (.inl p2))] := hl
  refine l_ild_n C dJ10_checkIndex_0 hl 0 rfl rfl ?_
  refine lv_if_lt (tgt := 9) C.1 C.2.1 dJ10_checkIndex_1 (by decide) (fun c2 => absurd c2 h0) (fun c2 => ?_)
  refine l_ild_n C dJ10_checkIndex_4 hl 0 rfl rfl ?_
  refine l_ild_n C dJ10_checkIndex_5 hl 1 rfl rfl ?_
  refine lv_icmp_lt (tgt := 16) C.1 C.2.1 dJ10_checkIndex_6 (by decide) (fun c1 => ?_) (fun c1 => absurd h1 c1)
  refine l_ild_n C dJ10_checkIndex_16 hl 0 rfl rfl ?_
  exact r_int C.1 C.2.1 C.2.2.2.2.2.1 rfl C.2.2.2.2.2.2 ⟨rfl, rfl⟩ I dJ10_checkIndex_17 ⟨_, rfl, h⟩
theorem cg_J8_checkIndex {l : Launch} {D : va_G} {T : Nat → ClassId} {Z : Heap} {G0 : Hp} {Q : Hp → Prop} {p0 p1 : Int32} (h0 : ¬ p0 < 0) (h1 : p0 < p1) (h : Q G0) : CT (twd D T Z) (Evd D T Z) l yJ8_checkIndex (Cond.code yJ8_checkIndex cJ8_checkIndex 2 none) 1 22 [.int p0, .int p1] G0 (qV Q) (fun _ _ => False) := by
  refine CT.ofW (cc := cJ8_checkIndex) (nL := 2) (ret := none) Ext.rf (by decide +kernel) (Or.inl rfl) ?_
  intro p e s m below meth c hx hb hml hown hr hlk hnm hcb hm hc hn hE I
  have C : Cx p s m meth c D T Z "java/lang/String" cJ8_checkIndex 2 none := ⟨hx, hb, hml, hown, hE, hr, hlk⟩
  refine w_entry [.inl p0, .inl p1] (Nat.le_of_ble_eq_true rfl) (fun ls hl => ?_)
  have hl : LH ls 2 [(0, .inl p0), (1, .inl p1)] := hl
  refine l_ild_n C dJ8_checkIndex_0 hl 0 rfl rfl ?_
  refine l_ild_n C dJ8_checkIndex_1 hl 1 rfl rfl ?_
  refine z_st (ref := "") C.fm C I q804 dJ8_checkIndex_2 ?_
  refine k_call Ext.tr C I (k_S (As := [.int p0, .int p1, va_rf (kq T 2)]) (rest := []) (y := yJ10_checkIndex) C q806 q445 q122 (Or.inl rfl) q446 (by decide) rfl pe_J10_checkIndex rfl dJ8_checkIndex_5) (cg_J10_checkIndex (Q := fun r G => r = p0 ∧ G = G0) h0 h1 ⟨rfl, rfl⟩) hl.1 dJ8_checkIndex_5 [] rfl (Nat.le_of_ble_eq_true rfl) (Or.inl rfl) q446 q122 ⟨Nat.le_of_ble_eq_true rfl, Nat.le_of_ble_eq_true rfl⟩ (fun v G1 H locs cells slots xG1 hq I => ?_) (fun a G9 H locs cells slots ex hq I => hq.elim)
  obtain ⟨r2, rfl, rfl, rfl⟩ := hq
  refine lv_pop C.1 C.2.1 dJ8_checkIndex_8 rfl ?_
  exact r_void C.1 C.2.1 C.2.2.2.2.2.1 C.2.2.2.2.2.2 ⟨rfl, rfl⟩ I dJ8_checkIndex_9 ⟨rfl, h⟩
theorem cg_J9_charAt {l : Launch} {D : va_G} {T : Nat → ClassId} {Z : Heap} {G0 : Hp} {Q : Int32 → Hp → Prop} {i : Nat} {p0 : Int32} (hi : i < 13) (hp : vp_in p0 (klen i)) (h : Q (nI ((kch i).getD p0.toNatClampNeg 0)) G0) : CT (twd D T Z) (Evd D T Z) l yJ9_charAt (Cond.code yJ9_charAt cJ9_charAt 2 (some .char)) 2 43 [va_rf (some (T (140 + i))), .int p0] G0 (qI Q) (fun _ _ => False) := by
  refine CT.ofW (cc := cJ9_charAt) (nL := 2) (ret := (some .char)) Ext.rf (by decide +kernel) (Or.inl rfl) ?_
  intro p e s m below meth c hx hb hml hown hr hlk hnm hcb hm hc hn hE I
  have C : Cx p s m meth c D T Z "java/lang/StringLatin1" cJ9_charAt 2 (some .char) := ⟨hx, hb, hml, hown, hE, hr, hlk⟩
  refine w_entry [.inr (.inl (some (T (140 + i)))), .inl p0] (Nat.le_of_ble_eq_true rfl) (fun ls hl => ?_)
  have hl : LH ls 2 [(0, .inr (.inl (some (T (140 + i))))), (1, .inl p0)] := hl
  refine l_ild_n C dJ9_charAt_0 hl 1 rfl rfl ?_
  refine l_ald_n C dJ9_charAt_1 hl 0 rfl rfl ?_
  refine z_al (C.str hi).2.2.2.2 C I dJ9_charAt_2 ?_
  refine k_call Ext.tr C I (k_S (As := [.int p0, .int (nI (klen i))]) (rest := []) (y := yJ8_checkIndex) C q801 q802 q120 (Or.inl rfl) q803 (by decide) rfl pe_J8_checkIndex rfl dJ9_charAt_3) (cg_J8_checkIndex (Q := fun G => G = G0) (fun z => hp (Or.inl z)) (vp_lt hp (by have := klen_le i hi; omega)) rfl) hl.1 dJ9_charAt_3 [] rfl (Nat.le_of_ble_eq_true rfl) (Or.inl rfl) q803 q120 ⟨Nat.le_of_ble_eq_true rfl, Nat.le_of_ble_eq_true rfl⟩ (fun v G1 H locs cells slots xG1 hq I => ?_) (fun a G9 H locs cells slots ex hq I => hq.elim)
  obtain ⟨rfl, rfl⟩ := hq
  have hj := vp_in_lt hp
  refine l_ald_n C dJ9_charAt_6 hl 0 rfl rfl ?_
  refine l_ild_n C dJ9_charAt_7 hl 1 rfl rfl ?_
  refine z_bl (C.str hi).2.2.2.2 C I hp dJ9_charAt_8 ?_
  refine lv_sipush (v := 255) C.1 C.2.1 dJ9_charAt_9 (by decide) ?_
  refine lv_iand C.1 C.2.1 dJ9_charAt_12 ?_
  refine lv_i2c (v := nI ((kch i).getD p0.toNatClampNeg 0)) C.1 C.2.1 dJ9_charAt_13 (kch_c i hi _ hj) ?_
  exact r_int C.1 C.2.1 C.2.2.2.2.2.1 (congrArg Value.int (kch_n i hi _ hj)) C.2.2.2.2.2.2 ⟨rfl, rfl⟩ I dJ9_charAt_14 ⟨_, rfl, h⟩
theorem ct_J8_length {l : Launch} {D : va_G} {T : Nat → ClassId} {Z : Heap} {G0 : Hp} {Q : Int32 → Hp → Prop} {th : Option Nat} (hw : w_J8_length T Q th G0) : CT (twd D T Z) (Evd D T Z) l yJ8_length (Cond.code yJ8_length cJ8_length 1 (some .int)) 2 60 [va_rf th] G0 (qI Q) (fun _ _ => False) := by
  obtain ⟨i, hi, rfl, h⟩ := hw
  refine CT.ofW (cc := cJ8_length) (nL := 1) (ret := (some .int)) Ext.rf (by decide +kernel) (Or.inl rfl) ?_
  intro p e s m below meth c hx hb hml hown hr hlk hnm hcb hm hc hn hE I
  have C : Cx p s m meth c D T Z "java/lang/String" cJ8_length 1 (some .int) := ⟨hx, hb, hml, hown, hE, hr, hlk⟩
  refine w_entry [.inr (.inl (some (T (120 + i))))] (Nat.le_of_ble_eq_true rfl) (fun ls hl => ?_)
  have hl : LH ls 1 [(0, .inr (.inl (some (T (120 + i)))))] := hl
  refine l_ald_n C dJ8_length_0 hl 0 rfl rfl ?_
  refine z_of (C.str hi).2.2.2.1 C I q1960 dJ8_length_1 ?_
  refine z_al (C.str hi).2.2.2.2 C I dJ8_length_4 ?_
  refine l_ald_n C dJ8_length_5 hl 0 rfl rfl ?_
  refine k_call Ext.tr C I (k_V (r := some (T (120 + i))) (As := []) (rest := [.int (nI (klen i))]) (y := yJ8_coder) C (z_str (P := fun _ => True) C I ⟨i, hi, rfl, trivial⟩) q784 q785 q786 (Or.inl rfl) q787 (by decide) rfl pe_J8_coder rfl dJ8_length_6) (cg_J8_coder (Q := fun r G => r = 0 ∧ G = G0) hi ⟨rfl, rfl⟩) hl.1 dJ8_length_6 [.inl (nI (klen i))] rfl (Nat.le_of_ble_eq_true rfl) (Or.inl rfl) q787 q120 ⟨Nat.le_of_ble_eq_true rfl, Nat.le_of_ble_eq_true rfl⟩ (fun v G1 H locs cells slots xG1 hq I => ?_) (fun a G9 H locs cells slots ex hq I => hq.elim)
  obtain ⟨r2, rfl, rfl, rfl⟩ := hq
  refine lv_ishr C.1 C.2.1 dJ8_length_9 ?_
  rw [klen_sh i hi]
  exact r_int C.1 C.2.1 C.2.2.2.2.2.1 rfl C.2.2.2.2.2.2 ⟨rfl, rfl⟩ I dJ8_length_10 ⟨_, rfl, h⟩
theorem ct_J8_charAt {l : Launch} {D : va_G} {T : Nat → ClassId} {Z : Heap} {G0 : Hp} {Q : Int32 → Hp → Prop} {th : Option Nat} {p0 : Int32} (hw : w_J8_charAt T Q th p0 G0) : CT (twd D T Z) (Evd D T Z) l yJ8_charAt (Cond.code yJ8_charAt cJ8_charAt 2 (some .char)) 4 120 [va_rf th, .int p0] G0 (qI Q) (fun _ _ => False) := by
  obtain ⟨i, hi, rfl, hp, h⟩ := hw
  refine CT.ofW (cc := cJ8_charAt) (nL := 2) (ret := (some .char)) Ext.rf (by decide +kernel) (Or.inl rfl) ?_
  intro p e s m below meth c hx hb hml hown hr hlk hnm hcb hm hc hn hE I
  have C : Cx p s m meth c D T Z "java/lang/String" cJ8_charAt 2 (some .char) := ⟨hx, hb, hml, hown, hE, hr, hlk⟩
  refine w_entry [.inr (.inl (some (T (120 + i)))), .inl p0] (Nat.le_of_ble_eq_true rfl) (fun ls hl => ?_)
  have hl : LH ls 2 [(0, .inr (.inl (some (T (120 + i))))), (1, .inl p0)] := hl
  refine l_ald_n C dJ8_charAt_0 hl 0 rfl rfl ?_
  refine k_call Ext.tr C I (k_V (r := some (T (120 + i))) (As := []) (rest := []) (y := yJ8_isLatin1) C (z_str (P := fun _ => True) C I ⟨i, hi, rfl, trivial⟩) q794 q795 q796 (Or.inl rfl) q797 (by decide) rfl pe_J8_isLatin1 rfl dJ8_charAt_1) (cg_J8_isLatin1 (Q := fun r G => r = 1 ∧ G = G0) hi ⟨rfl, rfl⟩) hl.1 dJ8_charAt_1 [] rfl (Nat.le_of_ble_eq_true rfl) (Or.inl rfl) q797 q120 ⟨Nat.le_of_ble_eq_true rfl, Nat.le_of_ble_eq_true rfl⟩ (fun v G1 H locs cells slots xG1 hq I => ?_) (fun a G9 H locs cells slots ex hq I => hq.elim)
  obtain ⟨r2, rfl, rfl, rfl⟩ := hq
  refine lv_if_eq (tgt := 16) C.1 C.2.1 dJ8_charAt_4 (by decide) (fun c1 => absurd c1 (by decide)) (fun c1 => ?_)
  refine l_ald_n C dJ8_charAt_7 hl 0 rfl rfl ?_
  refine z_of (C.str hi).2.2.2.1 C I q1960 dJ8_charAt_8 ?_
  refine l_ild_n C dJ8_charAt_11 hl 1 rfl rfl ?_
  refine k_call Ext.tr C I (k_S (As := [va_rf (some (T (140 + i))), .int p0]) (rest := []) (y := yJ9_charAt) C q798 q799 q121 (Or.inl rfl) q800 (by decide) rfl pe_J9_charAt rfl dJ8_charAt_12) (cg_J9_charAt (Q := fun r G => r = nI ((kch i).getD p0.toNatClampNeg 0) ∧ Q r G) hi hp ⟨rfl, h⟩) hl.1 dJ8_charAt_12 [] rfl (Nat.le_of_ble_eq_true rfl) (Or.inl rfl) q800 q121 ⟨Nat.le_of_ble_eq_true rfl, Nat.le_of_ble_eq_true rfl⟩ (fun v G1 H locs cells slots xG1 hq I => ?_) (fun a G9 H locs cells slots ex hq I => hq.elim)
  obtain ⟨r2, rfl, rfl, h⟩ := hq
  exact r_int C.1 C.2.1 C.2.2.2.2.2.1 (congrArg Value.int (kch_n i hi _ (vp_in_lt hp))) C.2.2.2.2.2.2 ⟨rfl, rfl⟩ I dJ8_charAt_15 ⟨_, rfl, h⟩
section PRL
variable {p : Program} {l : Launch} {e : Env} {R : Room} {s : State} {m : MethodId} {args : Array Value} {below : List Frame} {meth : Method} {c : Code} {H : Heap} {locs : List Loc} {cells slots : Nat} {Qm : State → Prop} {pc : Nat} {ls : Array Slot} {rest : List Value} {cc : ByteArray} {D : va_G} {T : Nat → ClassId} {Z : Heap} {own : String} {nL : Nat} {ret : Option FieldType} {G0 G : Hp} {idx : Nat} {r : Option Nat}
theorem a_len54 (C : Cx p s m meth c D T Z own cc nL ret) (I : HI (twd D T Z) G0 s R H locs cells slots G) (ho : isO G r 54 ∨ isO G r 57) (hdg : decode cc pc = .ok (.arraylength, 1))
    (kk : W p l e R s m args below meth c H locs cells slots Qm (F0 m (pc + 1) ls (.int (nI (gN G (ad r))) :: rest))) : W p l e R s m args below meth c H locs cells slots Qm (F0 m pc ls (va_rf r :: rest)) := by
  rcases ho with ho | ho
  · exact a_len C I ho (by decide) hdg kk
  · obtain ⟨h1, h2⟩ := ho.ad
    obtain ⟨⟨-, -, g⟩, gz⟩ := I.1.2.2.2 (ad r) (by rw [h2]; decide)
    obtain ⟨-, ga, gn, -⟩ := g (by rw [h2]; decide)
    have key : ∀ t : Nat, va_T (.object "java/lang/Object") t 0 (fun _ => .null) (fun _ => False) s Z → ad r = t → W p l e R s m args below meth c H locs cells slots Qm (F0 m pc ls (va_rf r :: rest)) := by
      intro t ht et
      obtain ⟨cell, g1, g2, g3, -, g5, -⟩ := ht
      have hlt : t < Z.size := (Array.getElem?_eq_some_iff.mp g1).1
      rw [gn] at kk
      rw [h1]
      exact W.alen C.1 C.2.1 (by rw [et, I.1.2.2.1 t hlt]; exact g1) g2 g5 rfl rfl hdg kk
    have hz := C.2.2.2.2.1.2.2
    rcases ga with ga | ga
    · exact key _ hz.2.2.1 ga
    · exact key _ hz.2.2.2.1 ga
end PRL
section PRC
variable {p : Program} {l : Launch} {e : Env} {R : Room} {s : State} {m : MethodId} {args : Array Value} {below : List Frame} {meth : Method} {c : Code} {H : Heap} {locs : List Loc} {cells slots : Nat} {Qm : State → Prop} {pc : Nat} {ls : Array Slot} {rest : List Value} {cc : ByteArray} {D : va_G} {T : Nat → ClassId} {Z : Heap} {own : String} {nL : Nat} {ret : Option FieldType} {G0 G : Hp} {idx : Nat} {r : Option Nat}
/-- the first n of f are laid into the array a -/
def cpF (G : Hp) (a n : Nat) (f : Nat → Option Nat) : Hp := (gK G, gN G, gI G, fun x j => if x = a ∧ j < n then f j else gR G x j, gL G, gZ G, gC G, gS G)
theorem sv_54 {a : Nat} (h : gK G a = 54) : sv G a = fun j => va_rf (gR G a j) := by
  funext j
  exact sv_1 (by rw [h]; rfl)
theorem sv_cpF_ne {a n b : Nat} {f : Nat → Option Nat} (h : b ≠ a) : sv (cpF G a n f) b = sv G b := by
  funext j
  have e : gR (cpF G a n f) b j = gR G b j := if_neg (fun z => h z.1)
  unfold sv
  rw [e]; rfl
set_option maxHeartbeats 1000000 in
theorem z_copy (C : Cx p s m meth c D T Z own cc nL ret) (I : HI (twd D T Z) G0 s R H locs cells slots G) (hsz : ls.size = nL) {a0 a : Nat} {cs : Cell} {n0 : Nat} {f : Nat → Option Nat} (hcs : H[a0]? = some cs) (hty : s.isArrayOf cs (.object "java/lang/Object")) (hu : cs.vm ≠ .unknown) (hst : cs.vm.isStatics = false) (hfs : ∀ j, j < n0 → cs.slots[j]? = some (va_rf (f j))) (hn0 : n0 ≤ cs.slots.size) (hka : gK G a = 54)
    {n : Int32} (h3 : ¬ n < 0) (h4 : n.toNatClampNeg ≤ n0) (h5 : n.toNatClampNeg ≤ gN G a) (hel : ∀ i, i < n.toNatClampNeg → okA G 54 (f i)) (q1 : Cond.methodLink own idx arraycopyName ∈ lw_all) (hR : 1 ≤ R.frames ∧ 50 ≤ R.locals) (hcat : (rest.map fun v => v.category).sum ≤ 8) (hdg : decode cc pc = .ok (.invokestatic idx, 3))
    (kk : ∀ (H' : Heap) (locs' : List Loc), HI (twd D T Z) G0 s R H' locs' cells slots (cpF G a n.toNatClampNeg f) → W p l e R s m args below meth c H' locs' cells slots Qm (F0 m (pc + 3) ls rest)) :
    W p l e R s m args below meth c H locs cells slots Qm (F0 m pc ls (.int n :: .int 0 :: .ref a :: .int 0 :: .ref a0 :: rest)) := by
  have nn : ∀ z : Int32, ¬ z < 0 → z.toInt = (z.toNatClampNeg : Int) := by
    intro z hz
    have hz0 : (0 : Int) ≤ z.toInt := by
      have := Int32.not_lt.mp hz
      simpa using Int32.le_iff_toInt_le.mp this
    show z.toInt = ((z.toInt.toNat : Nat) : Int)
    omega
  have hE := C.2.2.2.2.1
  obtain ⟨⟨-, hc1, -⟩, hza'⟩ := I.1.2.2.2 a (by rw [hka]; decide)
  have hza : Z.size ≤ a := by rcases hza' with q | q; exact q; omega
  have hc1 := hc1 (by rw [hka]; decide) (by rw [hka]; decide)
  rw [hka, sv_54 hka] at hc1
  have hXA : XA (twd D T Z) G0 s a := I.2.1 a ⟨by rw [hka]; decide, hza⟩
  have hAr := C.arr (kd := 54) (by decide) (by decide)
  have hRA := (hE.2.1.2 54 (by decide) (by decide)).2
  have hw : nativeFrameWords "java/lang/System" "arraycopy" 5 ≤ 20 := by decide
  have z0 : (0 : Int32).toNatClampNeg = 0 := rfl
  intro T1 hT X
  obtain ⟨-, k0, hk0, cm0, hkk0⟩ := hty
  obtain ⟨-, k1, hk1, cm1, hkk1⟩ := hAr (gN G a) (fun j => va_rf (gR G a j))
  obtain ⟨vm', X', step⟩ := X.arraycopy C.1 C.2.2.2.1 (hE.1.good q1 args) (hE.1.good q453 args) (hE.1.good q452 args) (hE.1.good q129 args) (src := a0) (dst := a) (cs := cs) (cd := arrV (T 54) (gN G a) (fun j => va_rf (gR G a j))) (srcPos := 0) (destPos := 0) (n := n) (by rw [hT]; exact hcs) (by rw [hT]; exact hc1)
    (fun _ h => by rw [h] at hst; cases hst) (fun _ h => by cases h) hu (fun h => by cases h) hk0 hk1 hkk0 hkk1 rfl (by decide) (by decide) h3
    (by rw [nn n h3]; show ¬ (0 : Int) + _ > _; omega)
    (by rw [nn n h3]; show ¬ (0 : Int) + _ > ((arrV (T 54) (gN G a) (fun j => va_rf (gR G a j))).slots.size : Int); rw [arrV_size]; omega)
    (fun vm₁ hal i hi => by
      have e : cs.slots.getD ((0 : Int32).toNatClampNeg + i) .null = va_rf (f i) := by
        rw [z0, Nat.zero_add, Array.getD_eq_getD_getElem?, hfs i (by omega)]
        rfl
      rw [e]
      rcases (hel i hi).use (kd := 54) (E0 := "java/lang/Object") rfl with hy | ⟨kv, v0, v1, hv, hcast⟩
      · rw [hy]
        exact ⟨rfl, trivial⟩
      · obtain ⟨hx1, hx2⟩ := hv.ad
        obtain ⟨cellV, g1, g2, g3⟩ := I.recv hE hv ⟨v0, v1⟩
        rw [hx1]
        obtain ⟨kA, comp, r1, r2, r3, -⟩ := hRA
        cases hk1.symm.trans r1
        cases hkk1.symm.trans r2
        obtain ⟨kC, hkC, -⟩ := Vm.findClass_spec g3
        obtain ⟨kE, hkE, -⟩ := Vm.findClass_spec r3
        obtain ⟨kC', hkC', -⟩ := hal.2.2 _ _ hkC
        obtain ⟨kE', hkE', -⟩ := hal.2.2 _ _ hkE
        have hasg : s.vm.assignable cellV.cls cm1 = true := by
          rcases hcast with hcast | hcast
          · obtain ⟨c0, t1, f1, f2, f3⟩ := Cond.castable_spec (hE.1.ca hcast args)
            cases g3.symm.trans f1
            cases r3.symm.trans f2
            exact f3
          · rw [hcast] at g3
            cases g3.symm.trans r3
            exact va_asg _ _
        refine ⟨rfl, cellV, (show T1.heap[ad (f i)]? = some cellV by rw [hT]; exact g1), (fun q h => by rw [h] at g2; cases g2), ⟨kC', hkC'⟩, ?_, ?_⟩
        · exact ⟨kE', hkE'⟩
        · show vm₁.assignable _ _ = true
          rw [hal.assignable]
          exact hasg)
    (g := F0 m pc ls (.int n :: .int 0 :: .ref a :: .int 0 :: .ref a0 :: rest)) rfl (by show ls.size = c.maxLocals; rw [C.2.2.1]; exact hsz) (rest := rest) rfl (by rw [C.2.1]; exact hdg) hR.1 (by show 2 * 0 + _ + _ ≤ _; omega)
  have e1 : copied cs (arrV (T 54) (gN G a) (fun j => va_rf (gR G a j))) 0 0 n = arrV (T 54) (gN G a) (fun j => va_rf (gR (cpF G a n.toNatClampNeg f) a j)) := by
    have h := va_copiedX (fun z => va_rf z) cs (T 54) (n0 := n0) (n1 := gN G a) (sp := 0) (dp := 0) (n := n.toNatClampNeg) f (gR G a) hfs (by omega)
    have ef : (fun j => va_rf (va_cpy f (gR G a) 0 0 n.toNatClampNeg j)) = fun j => va_rf (gR (cpF G a n.toNatClampNeg f) a j) := by
      funext j
      show va_rf (if 0 ≤ j ∧ j < 0 + n.toNatClampNeg then f (0 + (j - 0)) else gR G a j) = va_rf (if a = a ∧ j < n.toNatClampNeg then f j else gR G a j)
      by_cases hj : j < n.toNatClampNeg
      · rw [if_pos ⟨Nat.zero_le _, by omega⟩, if_pos ⟨rfl, hj⟩]; simp
      · rw [if_neg (by omega), if_neg (by omega)]
    rw [ef] at h
    exact h
  rw [e1] at X' step
  have hl : a < H.size := (Array.getElem?_eq_some_iff.mp hc1).1
  have z : (H.setIfInBounds a (arrV (T 54) (gN G a) (fun j => va_rf (gR (cpF G a n.toNatClampNeg f) a j)))).size = H.size := by simp
  have oq : ∀ q : Nat, q ≠ a → (H.setIfInBounds a (arrV (T 54) (gN G a) (fun j => va_rf (gR (cpF G a n.toNatClampNeg f) a j))))[q]? = H[q]? := fun q hq => by simp [Array.getElem?_setIfInBounds, Ne.symm hq]
  have eq1 : (H.setIfInBounds a (arrV (T 54) (gN G a) (fun j => va_rf (gR (cpF G a n.toNatClampNeg f) a j))))[a]? = some (arrV (T 54) (gN G a) (fun j => va_rf (gR (cpF G a n.toNatClampNeg f) a j))) := by simp [Array.getElem?_setIfInBounds, hl]
  have hKr : gK (cpF G a n.toNatClampNeg f) a = 54 := hka
  obtain ⟨t, a1, b1⟩ := kk _ _ ⟨I.1.set hza rfl rfl rfl (fun b hb => sv_cpF_ne hb) z oq ⟨fun h => absurd h (by rw [hKr]; decide), fun _ _ => by rw [hKr, sv_54 hKr]; exact eq1, fun h => absurd h (by rw [hKr]; decide)⟩, fun b h => I.2.1 b ⟨h.1, h.2⟩,
    ⟨by rw [z]; exact I.2.2.1.1, fun q h1 h2 => by rw [oq q (fun hq => h2 (by rw [hq]; exact hXA))]; exact I.2.2.1.2.1 q h1 h2, fun q hq => by
      rcases List.mem_append.mp hq with h | h
      · exact I.2.2.1.2.2 q h
      · obtain ⟨z, -, hz⟩ := List.mem_map.mp h
        rw [← hz]
        exact hXA⟩, I.2.2.2.1, I.2.2.2.2.1, Ext.tr _ _ _ I.2.2.2.2.2 (Ext.kn rfl rfl rfl)⟩ _ (by show T1.heap.setIfInBounds a _ = _; rw [hT]) X'
  exact ⟨t, step t a1, b1⟩
/-- what an array of objects is in the machine -/
theorem z_src (C : Cx p s m meth c D T Z own cc nL ret) (I : HI (twd D T Z) G0 s R H locs cells slots G) (ho : isO G r 54 ∨ isO G r 57) : r = some (ad r) ∧ ∃ cs : Cell, H[ad r]? = some cs ∧ s.isArrayOf cs (.object "java/lang/Object") ∧ cs.vm ≠ .unknown ∧ cs.vm.isStatics = false ∧ (∀ j, j < gN G (ad r) → cs.slots[j]? = some (va_rf (gR G (ad r) j))) ∧ gN G (ad r) ≤ cs.slots.size ∧ s.vm.findClass "[Ljava/lang/Object;" = some cs.cls := by
  have hE := C.2.2.2.2.1
  rcases ho with ho | ho
  · obtain ⟨h1, h2, h3⟩ := I.arr ho ⟨by decide, by decide⟩
    rw [sv_54 h2] at h3
    exact ⟨h1, _, h3, C.arr (kd := 54) (by decide) (by decide) _ _, (fun h => by cases h), rfl, fun j hj => arrV_read _ _ hj, by rw [arrV_size]; exact Nat.le_refl _, va_nmO (C := "java/lang/Object") (hE.2.1.2 54 (by decide) (by decide)).2 rfl⟩
  · obtain ⟨h1, h2⟩ := ho.ad
    obtain ⟨⟨-, -, g⟩, gz⟩ := I.1.2.2.2 (ad r) (by rw [h2]; decide)
    obtain ⟨-, ga, gn, -⟩ := g (by rw [h2]; decide)
    have key : ∀ t : Nat, va_T (.object "java/lang/Object") t 0 (fun _ => .null) (fun _ => False) s Z → va_O "[Ljava/lang/Object;" t (fun _ => False) s Z → ad r = t → r = some (ad r) ∧ ∃ cs : Cell, H[ad r]? = some cs ∧ s.isArrayOf cs (.object "java/lang/Object") ∧ cs.vm ≠ .unknown ∧ cs.vm.isStatics = false ∧ (∀ j, j < gN G (ad r) → cs.slots[j]? = some (va_rf (gR G (ad r) j))) ∧ gN G (ad r) ≤ cs.slots.size ∧ s.vm.findClass "[Ljava/lang/Object;" = some cs.cls := by
      intro t ht hO et
      obtain ⟨cell, g1, g2, g3, -, g5, -⟩ := ht
      obtain ⟨cell', k1, k2, k3, -⟩ := hO
      cases k1.symm.trans g1
      have hlt : t < Z.size := (Array.getElem?_eq_some_iff.mp g1).1
      exact ⟨h1, cell, by rw [et, I.1.2.2.1 t hlt]; exact g1, g2, g3, k2, fun j hj => absurd hj (by rw [gn]; exact Nat.not_lt_zero _), by rw [gn]; exact Nat.zero_le _, k3⟩
    have hz := hE.2.2
    rcases ga with ga | ga
    · exact key _ hz.2.2.1 hz.2.2.2.2.2.2.2.2.2.2.2.1.2.2.2.1 ga
    · exact key _ hz.2.2.2.1 hz.2.2.2.2.2.2.2.2.2.2.2.1.2.2.2.2.1 ga
end PRC
theorem cg_J7_min {l : Launch} {D : va_G} {T : Nat → ClassId} {Z : Heap} {G0 : Hp} {Q : Int32 → Hp → Prop} {p0 p1 : Int32} (h : (p1 < p0 → Q p1 G0) ∧ (¬ p1 < p0 → Q p0 G0)) : CT (twd D T Z) (Evd D T Z) l yJ7_min (Cond.code yJ7_min cJ7_min 2 (some .int)) 0 0 [.int p0, .int p1] G0 (qI Q) (fun _ _ => False) := by
  refine CT.ofW (cc := cJ7_min) (nL := 2) (ret := (some .int)) Ext.rf (by decide +kernel) (Or.inl rfl) ?_
  intro p e s m below meth c hx hb hml hown hr hlk hnm hcb hm hc hn hE I
  have C : Cx p s m meth c D T Z "java/lang/Math" cJ7_min 2 (some .int) := ⟨hx, hb, hml, hown, hE, hr, hlk⟩
  refine w_entry [.inl p0, .inl p1] (Nat.le_of_ble_eq_true rfl) (fun ls hl => ?_)
  have hl : LH ls 2 [(0, .inl p0), (1, .inl p1)] := hl
  refine l_ild_n C dJ7_min_0 hl 0 rfl rfl ?_
  refine l_ild_n C dJ7_min_1 hl 1 rfl rfl ?_
  refine lv_icmp_gt (tgt := 9) C.1 C.2.1 dJ7_min_2 (by decide) (fun c1 => ?_) (fun c1 => ?_)
  · refine l_ild_n C dJ7_min_9 hl 1 rfl rfl ?_
    exact r_int C.1 C.2.1 C.2.2.2.2.2.1 rfl C.2.2.2.2.2.2 ⟨rfl, rfl⟩ I dJ7_min_10 ⟨_, rfl, h.1 c1⟩
  · refine l_ild_n C dJ7_min_5 hl 0 rfl rfl ?_
    refine lv_goto (tgt := 10) C.1 C.2.1 dJ7_min_6 (by decide) ?_
    exact r_int C.1 C.2.1 C.2.2.2.2.2.1 rfl C.2.2.2.2.2.2 ⟨rfl, rfl⟩ I dJ7_min_10 ⟨_, rfl, h.2 c1⟩
theorem pe_J7_min : (parseMethodDescriptor yJ7_min.desc).map (fun d => d.parameters.length) = some 2 := by decide +kernel
theorem pe_J14_copyOf_2 : (parseMethodDescriptor yJ14_copyOf_2.desc).map (fun d => d.parameters.length) = some 3 := by decide +kernel
theorem min_ok {n0 : Nat} {p1 r : Int32} (hn : n0 < 2 ^ 31) (hp : ¬ p1 < 0) (hr : (p1 < nI n0 ∧ r = p1) ∨ (¬ p1 < nI n0 ∧ r = nI n0)) : ¬ r < 0 ∧ r.toNatClampNeg = min p1.toNatClampNeg n0 := by
  have nn : p1.toInt = (p1.toNatClampNeg : Int) := by
    have hz0 : (0 : Int) ≤ p1.toInt := by simpa using Int32.le_iff_toInt_le.mp (Int32.not_lt.mp hp)
    show p1.toInt = ((p1.toInt.toNat : Nat) : Int)
    omega
  have hi := nI_toInt hn
  rcases hr with ⟨h, rfl⟩ | ⟨h, rfl⟩
  · rw [Int32.lt_iff_toInt_lt, hi, nn] at h
    exact ⟨hp, by omega⟩
  · rw [Int32.lt_iff_toInt_lt, hi, nn] at h
    exact ⟨nI_pos hn, by rw [nI_clamp hn]; omega⟩
theorem okA.ext {G G' : Hp} {x : Option Nat} (h : okA G 54 x) (he : Ext G G') : okA G' 54 x := by
  rcases h with h | ⟨kv, h, ho⟩
  · exact Or.inl h
  · exact Or.inr ⟨kv, h, ho.ext (by omega) he⟩
set_option maxHeartbeats 1000000 in
theorem cg_J14_copyOf_2 {l : Launch} {D : va_G} {T : Nat → ClassId} {Z : Heap} {G0 : Hp} {Q : Option Nat → Hp → Prop} {p0 : Option Nat} {p1 : Int32} (hw : w_J14_copyOf T Q p0 p1 G0) : CT (twd D T Z) (Evd D T Z) l yJ14_copyOf_2 (Cond.code yJ14_copyOf_2 cJ14_copyOf_2 4 (some (.array (.object "java/lang/Object")))) 1 60 [va_rf p0, .int p1, va_rf (some (T 103))] G0 (qR Q) (fun _ _ => False) := by
  obtain ⟨ho, hp, hp2, hC, hS, hlen, hel, h⟩ := hw
  obtain ⟨a0, rfl⟩ : ∃ a0, p0 = some a0 := ho.elim (fun ⟨a, h, _⟩ => ⟨a, h⟩) (fun ⟨a, h, _⟩ => ⟨a, h⟩)
  have hk0 : gK G0 a0 ≠ 0 := by
    rcases ho with h | h
    · have : gK G0 a0 = 54 := h.ad.2
      rw [this]; decide
    · have : gK G0 a0 = 57 := h.ad.2
      rw [this]; decide
  refine CT.ofW (cc := cJ14_copyOf_2) (nL := 4) (ret := (some (.array (.object "java/lang/Object")))) Ext.rf (by decide +kernel) (Or.inl rfl) ?_
  intro p e s m below meth c hx hb hml hown hr hlk hnm hcb hm hc hn hE I
  have C : Cx p s m meth c D T Z "java/util/Arrays" cJ14_copyOf_2 4 (some (.array (.object "java/lang/Object"))) := ⟨hx, hb, hml, hown, hE, hr, hlk⟩
  have hne : a0 ≠ gZ G0 := by
    have h1 := (I.1.2.2.2 a0 hk0).1.lt
    have h2 : gZ G0 = s.heap.size := I.1.1
    omega
  refine w_entry [.inr (.inl (some a0)), .inl p1, .inr (.inl (some (T 103)))] (Nat.le_of_ble_eq_true rfl) (fun ls hl => ?_)
  have hl : LH ls 4 [(0, .inr (.inl (some a0))), (1, .inl p1), (2, .inr (.inl (some (T 103))))] := hl
  refine l_ald_n C dJ14_copyOf_2_0 hl 2 rfl rfl ?_
  refine va_ldcM C.1 C.2.1 C.2.2.2.1 (hE.1.good q609 _) hE.2.2.2.2.2.2.2.2.2.2.2.2.1 dJ14_copyOf_2_1 ?_
  refine lv_acmp_ne (rx := some (T 103)) (ry := some (T 103)) (tgt := 13) C.1 C.2.1 dJ14_copyOf_2_3 (by decide) (fun c1 => absurd rfl c1) (fun _ => ?_)
  refine l_ild_n C dJ14_copyOf_2_6 hl 1 rfl rfl ?_
  refine N_aarr (kd := 54) C I (by decide) rfl q611 q610 ⟨hp, hp2, hC, hS⟩ dJ14_copyOf_2_7 (fun H cells slots G1 eG1 xG1 I => ?_)
  refine lv_goto (tgt := 24) C.1 C.2.1 dJ14_copyOf_2_10 (by decide) ?_
  refine l_ast_n C dJ14_copyOf_2_24 rfl hl (by decide) rfl (fun ls hl => ?_)
  have hl : LH ls 4 [(3, .inr (.inl (some (gZ G0)))), (0, .inr (.inl (some a0))), (1, .inl p1), (2, .inr (.inl (some (T 103))))] := hl
  have ho1 : isO G1 (some a0) 54 ∨ isO G1 (some a0) 57 := ho.elim (fun h => Or.inl (h.ext (by decide) xG1)) (fun h => Or.inr (h.ext (by decide) xG1))
  refine l_ald_n C dJ14_copyOf_2_25 hl 1 rfl rfl ?_
  refine lv_iconst (v := 0) C.1 C.2.1 dJ14_copyOf_2_26 (by decide) ?_
  refine l_ald_n C dJ14_copyOf_2_27 hl 0 rfl rfl ?_
  refine lv_iconst (v := 0) C.1 C.2.1 dJ14_copyOf_2_28 (by decide) ?_
  refine l_ald_n C dJ14_copyOf_2_29 hl 1 rfl rfl ?_
  refine a_len54 C I ho1 dJ14_copyOf_2_30 ?_
  refine l_ild_n C dJ14_copyOf_2_31 hl 2 rfl rfl ?_
  refine k_call Ext.tr C I (k_S (As := [.int (nI (gN G1 a0)), .int p1]) (rest := [.int 0, va_rf (some (gZ G0)), .int 0, va_rf (some a0)]) (y := yJ7_min) C q612 q613 q119 (Or.inl rfl) q614 (by decide) rfl pe_J7_min rfl dJ14_copyOf_2_32) (cg_J7_min (Q := fun r G => ((p1 < nI (gN G1 a0) ∧ r = p1) ∨ (¬ p1 < nI (gN G1 a0) ∧ r = nI (gN G1 a0))) ∧ G = G1) ⟨fun z => ⟨Or.inl ⟨z, rfl⟩, rfl⟩, fun z => ⟨Or.inr ⟨z, rfl⟩, rfl⟩⟩) hl.1 dJ14_copyOf_2_32 [.inl 0, .inr (.inl (some (gZ G0))), .inl 0, .inr (.inl (some a0))] rfl (Nat.le_of_ble_eq_true rfl) (Or.inl rfl) q614 q119 ⟨Nat.le_of_ble_eq_true rfl, Nat.le_of_ble_eq_true rfl⟩ (fun v G2 H locs cells slots xG2 hq I2 => ?_) (fun a G9 H locs cells slots ex hq I => hq.elim)
  obtain ⟨r2, rfl, hr2, rfl⟩ := hq
  have hN : gN G2 a0 = gN G0 a0 := (xG1.1 a0 hk0).2
  have hlen' : gN G0 a0 ≤ 100000 := hlen
  obtain ⟨m1, m2⟩ := min_ok (by rw [hN]; omega) hp hr2
  rw [hN] at m2
  obtain ⟨-, cs, k1, k2, k3, k4, k5, k6, -⟩ := z_src C I2 ho1
  have hRR : gR G2 a0 = gR G0 a0 := by
    rw [eG1]
    funext j
    exact if_neg hne
  have hKZ : gK G2 (gZ G0) = 54 := by rw [eG1]; exact gK_nw
  have hNZ : gN G2 (gZ G0) = p1.toNatClampNeg := by rw [eG1]; exact gN_nw
  show W p l e _ s m _ below meth c H locs cells slots _ (F0 m 35 ls (.int r2 :: .int 0 :: .ref (gZ G0) :: .int 0 :: .ref a0 :: []))
  refine z_copy (rest := []) (n := r2) (a := gZ G0) (a0 := a0) (n0 := gN G2 a0) (f := gR G2 a0) C I2 hl.1 k1 k2 k3 k4 k5 k6 hKZ m1 (by rw [m2, hN]; exact Nat.min_le_right _ _) (by rw [m2, hNZ]; exact Nat.min_le_left _ _) (fun i hi => by rw [hRR]; exact (hel i (by show i < gN G0 a0; omega)).ext xG1) q615 ⟨Nat.le_of_ble_eq_true rfl, Nat.le_of_ble_eq_true rfl⟩ (by decide) dJ14_copyOf_2_35 (fun H locs I => ?_)
  refine l_ald_n C dJ14_copyOf_2_38 hl 0 rfl rfl ?_
  refine r_ref C.1 C.2.1 C.2.2.2.2.2.1 (Or.inr ⟨_, rfl⟩) C.2.2.2.2.2.2 ⟨rfl, rfl⟩ I dJ14_copyOf_2_39 ⟨_, rfl, h _ ?_⟩
  rw [m2, eG1]
  rfl
theorem ct_J14_copyOf {l : Launch} {D : va_G} {T : Nat → ClassId} {Z : Heap} {G0 : Hp} {Q : Option Nat → Hp → Prop} {p0 : Option Nat} {p1 : Int32} (hw : w_J14_copyOf T Q p0 p1 G0) : CT (twd D T Z) (Evd D T Z) l yJ14_copyOf (Cond.code yJ14_copyOf cJ14_copyOf 2 (some (.array (.object "java/lang/Object")))) 2 120 [va_rf p0, .int p1] G0 (qR Q) (fun _ _ => False) := by
  have ho := hw.1
  obtain ⟨a0, rfl⟩ : ∃ a0, p0 = some a0 := ho.elim (fun ⟨a, h, _⟩ => ⟨a, h⟩) (fun ⟨a, h, _⟩ => ⟨a, h⟩)
  refine CT.ofW (cc := cJ14_copyOf) (nL := 2) (ret := (some (.array (.object "java/lang/Object")))) Ext.rf (by decide +kernel) (Or.inl rfl) ?_
  intro p e s m below meth c hx hb hml hown hr hlk hnm hcb hm hc hn hE I
  have C : Cx p s m meth c D T Z "java/util/Arrays" cJ14_copyOf 2 (some (.array (.object "java/lang/Object"))) := ⟨hx, hb, hml, hown, hE, hr, hlk⟩
  refine w_entry [.inr (.inl (some a0)), .inl p1] (Nat.le_of_ble_eq_true rfl) (fun ls hl => ?_)
  have hl : LH ls 2 [(0, .inr (.inl (some a0))), (1, .inl p1)] := hl
  refine l_ald_n C dJ14_copyOf_0 hl 0 rfl rfl ?_
  refine l_ild_n C dJ14_copyOf_1 hl 1 rfl rfl ?_
  refine l_ald_n C dJ14_copyOf_2 hl 0 rfl rfl ?_
  obtain ⟨-, cs, k1, k2, k3, k4, k5, k6, k7⟩ := z_src C I ho
  refine va_getC C.1 C.2.1 (by rw [C.2.2.1]; exact hl.1.symm) C.2.2.2.1 (hE.1.good q583 _) (hE.1.de q619 _) (hE.1.good q1952 _) (hE.1.good q584 _) (hE.1.good q605 _) hE.2.2.2.2.2.2.2.2.2.2.2.2.1 ⟨cs, k1, k4, k7⟩ (Nat.le_of_ble_eq_true rfl) (Nat.le_of_ble_eq_true rfl) dJ14_copyOf_3 ?_
  refine k_call Ext.tr C I (k_S (As := [va_rf (some a0), .int p1, va_rf (some (T 103))]) (rest := []) (y := yJ14_copyOf_2) C q606 q607 q128 (Or.inl rfl) q608 (by decide) rfl pe_J14_copyOf_2 rfl dJ14_copyOf_6) (cg_J14_copyOf_2 hw) hl.1 dJ14_copyOf_6 [] rfl (Nat.le_of_ble_eq_true rfl) (Or.inl rfl) q608 q128 ⟨Nat.le_of_ble_eq_true rfl, Nat.le_of_ble_eq_true rfl⟩ (fun v G2 H locs cells slots xG2 hq I => ?_) (fun a G9 H locs cells slots ex hq I => hq.elim)
  obtain ⟨r2, rfl, h⟩ := hq
  exact r_ref C.1 C.2.1 C.2.2.2.2.2.1 (Or.inr ⟨_, rfl⟩) C.2.2.2.2.2.2 ⟨rfl, rfl⟩ I dJ14_copyOf_9 ⟨_, rfl, h⟩
/-- words of the tables that are not good by themselves, carried along -/
theorem TB.any {U : State} (h : TB U) {w : Cond} (hw : w ∈ lw_tbl) (hon : w.onTables = true) (hset : ∀ (s0 : State) (a0 : Array Value), s0.vm.Alike U.vm → w.before a0 (s0.setVm U.vm) = w.before a0 s0) (A : Array Value) : w.before A U = true := by
  obtain ⟨s0, a0, hW, h⟩ := h
  have e := Cond.onTables_vm (A := a0) (A' := A) (U := s0) (U' := U) U.vm w hon
  have hU : U.setVm U.vm = U := rfl
  rw [hU] at e
  rw [← e, hset s0 a0 hW.alike]
  exact h w hw
theorem TB.im {U : State} (h : TB U) {ref owner n d : String} (hw : Cond.interfaceMethod ref owner n d ∈ lw_tbl) (A : Array Value) : (Cond.interfaceMethod ref owner n d).before A U = true :=
  h.any hw rfl (fun s0 a0 hvm => by simp only [Cond.before, Cond.holds, Cond.value, State.vm_setVm, hvm.findClass, State.methodFound?_setVm hvm, State.methodNamed?_setVm hvm, arm_isInterface_setVm hvm]) A
section PR2
variable {p : Program} {l : Launch} {e : Env} {R : Room} {s : State} {m : MethodId} {args : Array Value} {below : List Frame} {meth : Method} {c : Code} {H : Heap} {locs : List Loc} {cells slots : Nat} {Qm : State → Prop} {pc : Nat} {ls : Array Slot} {rest : List Value} {cc : ByteArray} {D : va_G} {T : Nat → ClassId} {Z : Heap} {own : String} {nL : Nat} {ret : Option FieldType} {G0 G : Hp} {idx : Nat} {r : Option Nat}
theorem z_ls (C : Cx p s m meth c D T Z own cc nL ret) (I : HI (twd D T Z) G0 s R H locs cells slots G) {tx : String} {i : Nat} (q : Cond.stringRef own idx tx ∈ lw_tbl) (ho : own = "EndingTown$Reader") (hi : kidx[i]? = some idx) (hdg : decode cc pc = .ok (.ldc idx, 2))
    (kk : W p l e R s m args below meth c H locs cells slots Qm (F0 m (pc + 2) ls (va_rf (some (T (120 + i))) :: rest))) : W p l e R s m args below meth c H locs cells slots Qm (F0 m pc ls rest) := by
  subst ho
  have hi' : i < 13 := (List.getElem?_eq_some_iff.mp hi).1
  have e : kidx.getD i 0 = idx := by rw [List.getD_eq_getElem?_getD, hi]; rfl
  have h := (C.2.2.2.2.1.2.2.2.2.2.2.2.2.2.2.2.2.2.2 i hi').1
  rw [e] at h
  exact va_ldcS C.1 C.2.1 C.2.2.2.1 h hdg kk
theorem z_lc (C : Cx p s m meth c D T Z "java/util/ArrayList" cc nL ret) (I : HI (twd D T Z) G0 s R H locs cells slots G) (q : Cond.classLink "java/util/ArrayList" 10 "java/util/ArrayList" ∈ lw_all) (hdg : decode cc pc = .ok (.ldc 10, 2))
    (kk : W p l e R s m args below meth c H locs cells slots Qm (F0 m (pc + 2) ls (va_rf (some (T 102)) :: rest))) : W p l e R s m args below meth c H locs cells slots Qm (F0 m pc ls rest) :=
  va_ldcM C.1 C.2.1 C.2.2.2.1 (C.2.2.2.2.1.1.good q args) C.2.2.2.2.1.2.2.2.2.2.2.2.2.2.2.2.1 hdg kk
set_option maxHeartbeats 1000000 in
theorem z_gc (C : Cx p s m meth c D T Z "java/util/ArrayList" cc nL ret) (I : HI (twd D T Z) G0 s R H locs cells slots G) (ho : isO G r 16) (hsz : ls.size = nL) {n : Nat} (hdg : decode cc pc = .ok (.invokeinterface 52 n, 5)) (hR : 1 ≤ R.frames ∧ 40 ≤ R.locals) (hcat : (rest.map fun v => v.category).sum ≤ 8)
    (kk : W p l e R s m args below meth c H locs cells slots Qm (F0 m (pc + 5) ls (va_rf (some (T 102)) :: rest))) : W p l e R s m args below meth c H locs cells slots Qm (F0 m pc ls (va_rf r :: rest)) := by
  have hE := C.2.2.2.2.1
  obtain ⟨h1, h2⟩ := ho.ad
  obtain ⟨cell, g1, g2, g3⟩ := I.recv hE ho ⟨by decide, by decide⟩
  obtain ⟨c0, k0, m1, m2, m3⟩ := hE.2.2.2.2.2.2.2.2.2.2.2.1
  have hface := hE.1.im q618 args
  have hsel : (Cond.selects "java/util/ArrayList" ⟨"java/util/Collection", "getClass", "()Ljava/lang/Class;"⟩ Jvm.Stand.gcN).before args s = true := by
    obtain ⟨c2, r2, mm, k1, k2, k3, k4, mk, k5, k6⟩ := Cond.selects_spec (hE.1.good q603 args)
    obtain ⟨cL, kL, r1, hcL, hkL, hiL, hfoundL, hn1⟩ := Cond.interfaceMethod_spec hface
    have k3' : s.methodNamed? Jvm.Stand.gcN = some mm := k3
    have hn1' : s.methodNamed? Jvm.Stand.gcN = some r1 := hn1
    cases k3'.symm.trans hn1'
    cases Option.some.inj (k2.symm.trans (State.methodFound?_of_named k3' (by decide)))
    show (Cond.selects "java/util/ArrayList" ⟨"java/util/Collection", "getClass", "()Ljava/lang/Class;"⟩ Jvm.Stand.gcN).holds args s none s [] = true
    simp only [Cond.holds, Cond.value, k1, hfoundL, hn1', k4]
    simp [k5, k6]
  have hw : nativeFrameWords "java/lang/Object" "getClass" 1 = 3 := by decide
  rw [h1]
  intro T1 hT X
  obtain ⟨vm', X', st⟩ := X.getClassOfI C.1 (C := "java/util/ArrayList") (xi := ⟨"java/util/Collection", "getClass", "()Ljava/lang/Class;"⟩) C.2.2.2.1 (hE.1.good q617 args) (hE.1.de q619 args) hface hsel (hE.1.good q584 args)
    (hE.1.any q621 rfl (fun s0 a0 hvm => Cond.publicMethod_setVm hvm _) args) (hE.1.any q620 rfl (fun s0 a0 hvm => Cond.unhidden_setVm hvm _ _ _) args) (hE.1.ca q574 args) (hE.1.good q605 args) (by decide) (by decide) rfl rfl (b := ad r) (cB := cell.cls) (kB := k0) g3 (by cases m1.symm.trans g3; exact m2) ⟨cell, by rw [hT]; exact g1, rfl, g2⟩ m3
    (g := F0 m pc ls (.ref (ad r) :: rest)) rfl (by show ls.size = c.maxLocals; rw [C.2.2.1]; exact hsz) (rest := rest) rfl (by rw [C.2.1]; exact hdg) hR.1 (by show 2 * 0 + _ + _ ≤ _; omega)
  obtain ⟨t, a1, b1⟩ := kk (T1.setVm vm') hT X'
  exact ⟨t, st t a1, b1⟩
end PR2
