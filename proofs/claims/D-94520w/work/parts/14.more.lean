/-! MORE ROWS: locals with typed values, references, arrays, new cells, casts -/
set_option maxRecDepth 100000
abbrev Tv : Type := Int32 ⊕ Option Nat ⊕ Int64
def tv : Tv → Value
  | .inl x => .int x
  | .inr (.inl r) => va_rf r
  | .inr (.inr y) => .long y
def isL : Tv → Bool
  | .inr (.inr _) => true
  | _ => false
theorem cat_rf (r : Option Nat) : (va_rf r).category = 1 := by cases r <;> rfl
theorem cat_tv (t : Tv) : ((tv t).category == 2) = isL t := by
  rcases t with x | r | y
  · rfl
  · show ((va_rf r).category == 2) = false
    rw [cat_rf]; rfl
  · rfl
def tq (q : Nat × Tv) : Nat × Value := (q.1, tv q.2)
/-- the locals, by typed values -/
def LH (ls : Array Slot) (nL : Nat) (L : List (Nat × Tv)) : Prop := lv_has ls nL (L.map tq)
theorem LH.at {ls : Array Slot} {nL : Nat} {L : List (Nat × Tv)} (h : LH ls nL L) (k : Nat) {i : Nat} {t : Tv} (hk : L[k]? = some (i, t)) : ls[i]? = some (.val (tv t)) := lv_at h k (by rw [List.getElem?_map, hk]; rfl)
theorem LH.sub {ls : Array Slot} {nL : Nat} {L L' : List (Nat × Tv)} (h : LH ls nL L) (ks : List Nat) (hl : ks.filterMap (fun k => L[k]?) = L') : LH ls nL L' := by
  refine lv_sub h ks ?_
  rw [← hl]
  unfold lv_pick
  rw [List.map_filterMap]
  congr 1
  funext k
  rw [List.getElem?_map]
theorem lh_f1 (i : Nat) : ∀ (L : List (Nat × Tv)), (L.map tq).filter (fun q => !(q.1 == i) && !(q.1 + 1 == i && q.2.category == 2)) = (L.filter (fun q => !(q.1 == i) && !(q.1 + 1 == i && isL q.2))).map tq
  | [] => rfl
  | q :: L => by
    rw [List.map_cons, List.filter_cons, List.filter_cons, lh_f1 i L]
    simp only [tq, cat_tv]
    split <;> simp_all [tq]
theorem lh_f2 (i : Nat) : ∀ (L : List (Nat × Tv)), (L.map tq).filter (fun q => !(q.1 == i) && (!(q.1 == i + 1) && !(q.1 + 1 == i && q.2.category == 2))) = (L.filter (fun q => !(q.1 == i) && (!(q.1 == i + 1) && !(q.1 + 1 == i && isL q.2)))).map tq
  | [] => rfl
  | q :: L => by
    rw [List.map_cons, List.filter_cons, List.filter_cons, lh_f2 i L]
    simp only [tq, cat_tv]
    split <;> simp_all [tq]
abbrev s1 (i : Nat) (t : Tv) (L : List (Nat × Tv)) : List (Nat × Tv) := (i, t) :: L.filter (fun q => !(q.1 == i) && !(q.1 + 1 == i && isL q.2))
abbrev s2 (i : Nat) (t : Tv) (L : List (Nat × Tv)) : List (Nat × Tv) := (i, t) :: L.filter (fun q => !(q.1 == i) && (!(q.1 == i + 1) && !(q.1 + 1 == i && isL q.2)))
section MR
variable {p : Program} {l : Launch} {e : Env} {R : Room} {s : State} {m : MethodId} {args : Array Value} {below : List Frame} {meth : Method} {c : Code} {H : Heap} {locs : List Loc} {cells slots : Nat} {Qm : State → Prop} {pc : Nat} {ls : Array Slot} {rest : List Value} {cc : ByteArray} {D : va_G} {T : Nat → ClassId} {Z : Heap} {own : String} {nL : Nat} {ret : Option FieldType} {G0 G : Hp} {r : Option Nat} {idx kd k : Nat} {L L' : List (Nat × Tv)}
theorem l_ild_n (C : Cx p s m meth c D T Z own cc nL ret) {j : Fin 4} (hdg : decode cc pc = .ok (.iload_n j, 1)) (h : LH ls nL L) (q : Nat) {i : Nat} {x : Int32} (hi : (j : Nat) = i) (hq : L[q]? = some (i, .inl x))
    (kk : W p l e R s m args below meth c H locs cells slots Qm (F0 m (pc + 1) ls (.int x :: rest))) : W p l e R s m args below meth c H locs cells slots Qm (F0 m pc ls rest) := lv_iload_n C.1 C.2.1 hdg hi (h.at q hq) kk
theorem l_ild (C : Cx p s m meth c D T Z own cc nL ret) {i : Nat} (hdg : decode cc pc = .ok (.iload i, 2)) (h : LH ls nL L) (q : Nat) {x : Int32} (hq : L[q]? = some (i, .inl x))
    (kk : W p l e R s m args below meth c H locs cells slots Qm (F0 m (pc + 2) ls (.int x :: rest))) : W p l e R s m args below meth c H locs cells slots Qm (F0 m pc ls rest) := lv_iload C.1 C.2.1 hdg (h.at q hq) kk
theorem l_lld_n (C : Cx p s m meth c D T Z own cc nL ret) {j : Fin 4} (hdg : decode cc pc = .ok (.lload_n j, 1)) (h : LH ls nL L) (q : Nat) {i : Nat} {x : Int64} (hi : (j : Nat) = i) (hq : L[q]? = some (i, .inr (.inr x)))
    (kk : W p l e R s m args below meth c H locs cells slots Qm (F0 m (pc + 1) ls (.long x :: rest))) : W p l e R s m args below meth c H locs cells slots Qm (F0 m pc ls rest) := lv_lload_n C.1 C.2.1 hdg hi (h.at q hq) kk
theorem l_lld (C : Cx p s m meth c D T Z own cc nL ret) {i : Nat} (hdg : decode cc pc = .ok (.lload i, 2)) (h : LH ls nL L) (q : Nat) {x : Int64} (hq : L[q]? = some (i, .inr (.inr x)))
    (kk : W p l e R s m args below meth c H locs cells slots Qm (F0 m (pc + 2) ls (.long x :: rest))) : W p l e R s m args below meth c H locs cells slots Qm (F0 m pc ls rest) := lv_lload C.1 C.2.1 hdg (h.at q hq) kk
theorem l_ald_n (C : Cx p s m meth c D T Z own cc nL ret) {j : Fin 4} (hdg : decode cc pc = .ok (.aload_n j, 1)) (h : LH ls nL L) (q : Nat) {i : Nat} {x : Option Nat} (hi : (j : Nat) = i) (hq : L[q]? = some (i, .inr (.inl x)))
    (kk : W p l e R s m args below meth c H locs cells slots Qm (F0 m (pc + 1) ls (va_rf x :: rest))) : W p l e R s m args below meth c H locs cells slots Qm (F0 m pc ls rest) := by
  cases x with
  | none => exact lv_aload_nN C.1 C.2.1 hdg hi (h.at q hq) kk
  | some a => exact lv_aload_n C.1 C.2.1 hdg hi (h.at q hq) kk
theorem l_ald (C : Cx p s m meth c D T Z own cc nL ret) {i : Nat} (hdg : decode cc pc = .ok (.aload i, 2)) (h : LH ls nL L) (q : Nat) {x : Option Nat} (hq : L[q]? = some (i, .inr (.inl x)))
    (kk : W p l e R s m args below meth c H locs cells slots Qm (F0 m (pc + 2) ls (va_rf x :: rest))) : W p l e R s m args below meth c H locs cells slots Qm (F0 m pc ls rest) := by
  cases x with
  | none => exact lv_aloadN C.1 C.2.1 hdg (h.at q hq) kk
  | some a => exact lv_aload C.1 C.2.1 hdg (h.at q hq) kk
theorem l_ist_n (C : Cx p s m meth c D T Z own cc nL ret) {j : Fin 4} {i : Nat} {x : Int32} (hdg : decode cc pc = .ok (.istore_n j, 1)) (hi : (j : Nat) = i) (h : LH ls nL L) (hn : i < nL) (hl : s1 i (.inl x) L = L')
    (kk : ∀ ls' : Array Slot, LH ls' nL L' → W p l e R s m args below meth c H locs cells slots Qm (F0 m (pc + 1) ls' rest)) : W p l e R s m args below meth c H locs cells slots Qm (F0 m pc ls (.int x :: rest)) :=
  lv_istore_n C.1 C.2.1 hdg hi h hn (lv' := L'.map tq) (by rw [← hl, lh_f1]; rfl) kk
theorem l_ist (C : Cx p s m meth c D T Z own cc nL ret) {i : Nat} {x : Int32} (hdg : decode cc pc = .ok (.istore i, 2)) (h : LH ls nL L) (hn : i < nL) (hl : s1 i (.inl x) L = L')
    (kk : ∀ ls' : Array Slot, LH ls' nL L' → W p l e R s m args below meth c H locs cells slots Qm (F0 m (pc + 2) ls' rest)) : W p l e R s m args below meth c H locs cells slots Qm (F0 m pc ls (.int x :: rest)) :=
  lv_istore C.1 C.2.1 hdg h hn (lv' := L'.map tq) (by rw [← hl, lh_f1]; rfl) kk
theorem l_lst_n (C : Cx p s m meth c D T Z own cc nL ret) {j : Fin 4} {i : Nat} {x : Int64} (hdg : decode cc pc = .ok (.lstore_n j, 1)) (hi : (j : Nat) = i) (h : LH ls nL L) (hn : i + 1 < nL) (hl : s2 i (.inr (.inr x)) L = L')
    (kk : ∀ ls' : Array Slot, LH ls' nL L' → W p l e R s m args below meth c H locs cells slots Qm (F0 m (pc + 1) ls' rest)) : W p l e R s m args below meth c H locs cells slots Qm (F0 m pc ls (.long x :: rest)) :=
  lv_lstore_n C.1 C.2.1 hdg hi h hn (lv' := L'.map tq) (by rw [← hl, lh_f2]; rfl) kk
theorem l_lst (C : Cx p s m meth c D T Z own cc nL ret) {i : Nat} {x : Int64} (hdg : decode cc pc = .ok (.lstore i, 2)) (h : LH ls nL L) (hn : i + 1 < nL) (hl : s2 i (.inr (.inr x)) L = L')
    (kk : ∀ ls' : Array Slot, LH ls' nL L' → W p l e R s m args below meth c H locs cells slots Qm (F0 m (pc + 2) ls' rest)) : W p l e R s m args below meth c H locs cells slots Qm (F0 m pc ls (.long x :: rest)) :=
  lv_lstore C.1 C.2.1 hdg h hn (lv' := L'.map tq) (by rw [← hl, lh_f2]; rfl) kk
theorem l_ast_n (C : Cx p s m meth c D T Z own cc nL ret) {j : Fin 4} {i : Nat} {x : Option Nat} (hdg : decode cc pc = .ok (.astore_n j, 1)) (hi : (j : Nat) = i) (h : LH ls nL L) (hn : i < nL) (hl : s1 i (.inr (.inl x)) L = L')
    (kk : ∀ ls' : Array Slot, LH ls' nL L' → W p l e R s m args below meth c H locs cells slots Qm (F0 m (pc + 1) ls' rest)) : W p l e R s m args below meth c H locs cells slots Qm (F0 m pc ls (va_rf x :: rest)) := by
  cases x with
  | none => exact lv_astore_nN C.1 C.2.1 hdg hi h hn (lv' := L'.map tq) (by rw [← hl, lh_f1]; rfl) kk
  | some a => exact lv_astore_n C.1 C.2.1 hdg hi h hn (lv' := L'.map tq) (by rw [← hl, lh_f1]; rfl) kk
theorem l_ast (C : Cx p s m meth c D T Z own cc nL ret) {i : Nat} {x : Option Nat} (hdg : decode cc pc = .ok (.astore i, 2)) (h : LH ls nL L) (hn : i < nL) (hl : s1 i (.inr (.inl x)) L = L')
    (kk : ∀ ls' : Array Slot, LH ls' nL L' → W p l e R s m args below meth c H locs cells slots Qm (F0 m (pc + 2) ls' rest)) : W p l e R s m args below meth c H locs cells slots Qm (F0 m pc ls (va_rf x :: rest)) := by
  cases x with
  | none => exact lv_astoreN C.1 C.2.1 hdg h hn (lv' := L'.map tq) (by rw [← hl, lh_f1]; rfl) kk
  | some a => exact lv_astore C.1 C.2.1 hdg h hn (lv' := L'.map tq) (by rw [← hl, lh_f1]; rfl) kk
theorem l_inc (C : Cx p s m meth c D T Z own cc nL ret) {i q : Nat} {n : Int} {x v : Int32} (hdg : decode cc pc = .ok (.iinc i n, 3)) (h : LH ls nL L) (hq : L[q]? = some (i, .inl x)) (hv : Int32.ofInt n = v) (hn : i < nL) (hl : s1 i (.inl (x + v)) L = L')
    (kk : ∀ ls' : Array Slot, LH ls' nL L' → W p l e R s m args below meth c H locs cells slots Qm (F0 m (pc + 3) ls' rest)) : W p l e R s m args below meth c H locs cells slots Qm (F0 m pc ls rest) :=
  lv_iinc C.1 C.2.1 hdg h (k := q) (by rw [List.getElem?_map, hq]; rfl) (by rw [hv]) hn (lv' := L'.map tq) (by rw [← hl, lh_f1]; rfl) kk
theorem l_null (C : Cx p s m meth c D T Z own cc nL ret) (hdg : decode cc pc = .ok (.aconst_null, 1)) (kk : W p l e R s m args below meth c H locs cells slots Qm (F0 m (pc + 1) ls (va_rf none :: rest))) : W p l e R s m args below meth c H locs cells slots Qm (F0 m pc ls rest) := lv_null C.1 C.2.1 hdg kk
theorem l_ifnull (C : Cx p s m meth c D T Z own cc nL ret) {x : Option Nat} {off : Int} {tgt : Nat} (hdg : decode cc pc = .ok (.ifnull off, 3)) (ht : (pc : Int) + off = (tgt : Int)) (kt : x = none → W p l e R s m args below meth c H locs cells slots Qm (F0 m tgt ls rest)) (kf : ¬ x = none → W p l e R s m args below meth c H locs cells slots Qm (F0 m (pc + 3) ls rest)) : W p l e R s m args below meth c H locs cells slots Qm (F0 m pc ls (va_rf x :: rest)) := by
  cases x with
  | none => exact lv_ifnullN C.1 C.2.1 hdg ht (kt rfl)
  | some a => exact lv_ifnull C.1 C.2.1 hdg (kf (fun h => by cases h))
theorem l_ifnonnull (C : Cx p s m meth c D T Z own cc nL ret) {x : Option Nat} {off : Int} {tgt : Nat} (hdg : decode cc pc = .ok (.ifnonnull off, 3)) (ht : (pc : Int) + off = (tgt : Int)) (kt : ¬ x = none → W p l e R s m args below meth c H locs cells slots Qm (F0 m tgt ls rest)) (kf : x = none → W p l e R s m args below meth c H locs cells slots Qm (F0 m (pc + 3) ls rest)) : W p l e R s m args below meth c H locs cells slots Qm (F0 m pc ls (va_rf x :: rest)) := by
  cases x with
  | none => exact lv_ifnonnullN C.1 C.2.1 hdg (kf rfl)
  | some a => exact lv_ifnonnull C.1 C.2.1 hdg ht (kt (fun h => by cases h))
theorem a_in {f : Nat → Value} {n : Nat} {i : Int32} {cA : ClassId} (h : vp_in i n) : ¬ (i < 0 ∨ (arrV cA n f).slots.size ≤ i.toNatClampNeg) := by rw [arrV_size]; exact h
theorem a_rd {f : Nat → Value} {n : Nat} {i : Int32} {cA : ClassId} (h : vp_in i n) : (arrV cA n f).slots[i.toNatClampNeg]? = some (f i.toNatClampNeg) := arrV_read _ _ (Nat.not_le.mp fun q => h (Or.inr q))
theorem Cx.arr (C : Cx p s m meth c D T Z own cc nL ret) (h0 : 50 ≤ kd) (h1 : kd < 57) : ArrOfT s (T kd) (aty kd) := (C.2.2.2.2.1.2.1.2 kd h0 h1).1
theorem a_iald (C : Cx p s m meth c D T Z own cc nL ret) (I : HI (twd D T Z) G0 s R H locs cells slots G) (ho : isO G r 50) {i : Int32} (hin : vp_in i (gN G (ad r))) (hdg : decode cc pc = .ok (.iaload, 1))
    (kk : W p l e R s m args below meth c H locs cells slots Qm (F0 m (pc + 1) ls (.int (gI G (ad r) i.toNatClampNeg) :: rest))) : W p l e R s m args below meth c H locs cells slots Qm (F0 m pc ls (.int i :: va_rf r :: rest)) := by
  obtain ⟨h1, h2, h3⟩ := I.arr ho ⟨by omega, by omega⟩
  rw [h1]
  exact W.iald C.1 C.2.1 h3 (C.arr (kd := 50) (by omega) (by omega) _ _) (fun q => by cases q) (a_in hin) (by rw [a_rd hin, sv_0 (by rw [h2]; rfl)]) rfl rfl hdg kk
theorem a_bald (C : Cx p s m meth c D T Z own cc nL ret) (I : HI (twd D T Z) G0 s R H locs cells slots G) (ho : isO G r 51) {i : Int32} (hin : vp_in i (gN G (ad r))) (hdg : decode cc pc = .ok (.baload, 1))
    (kk : W p l e R s m args below meth c H locs cells slots Qm (F0 m (pc + 1) ls (.int (gI G (ad r) i.toNatClampNeg) :: rest))) : W p l e R s m args below meth c H locs cells slots Qm (F0 m pc ls (.int i :: va_rf r :: rest)) := by
  obtain ⟨h1, h2, h3⟩ := I.arr ho ⟨by omega, by omega⟩
  rw [h1]
  exact W.bald C.1 C.2.1 h3 (C.arr (kd := 51) (by omega) (by omega) _ _) (fun q => by cases q) (a_in hin) (by rw [a_rd hin, sv_0 (by rw [h2]; rfl)]) rfl rfl hdg kk
theorem a_zald (C : Cx p s m meth c D T Z own cc nL ret) (I : HI (twd D T Z) G0 s R H locs cells slots G) (ho : isO G r 52) {i : Int32} (hin : vp_in i (gN G (ad r))) (hdg : decode cc pc = .ok (.baload, 1))
    (kk : W p l e R s m args below meth c H locs cells slots Qm (F0 m (pc + 1) ls (.int (gI G (ad r) i.toNatClampNeg) :: rest))) : W p l e R s m args below meth c H locs cells slots Qm (F0 m pc ls (.int i :: va_rf r :: rest)) := by
  obtain ⟨h1, h2, h3⟩ := I.arr ho ⟨by omega, by omega⟩
  rw [h1]
  exact W.zald C.1 C.2.1 h3 (C.arr (kd := 52) (by omega) (by omega) _ _) (fun q => by cases q) (a_in hin) (by rw [a_rd hin, sv_0 (by rw [h2]; rfl)]) rfl rfl hdg kk
theorem a_lald (C : Cx p s m meth c D T Z own cc nL ret) (I : HI (twd D T Z) G0 s R H locs cells slots G) (ho : isO G r 53) {i : Int32} (hin : vp_in i (gN G (ad r))) (hdg : decode cc pc = .ok (.laload, 1))
    (kk : W p l e R s m args below meth c H locs cells slots Qm (F0 m (pc + 1) ls (.long (gL G (ad r) i.toNatClampNeg) :: rest))) : W p l e R s m args below meth c H locs cells slots Qm (F0 m pc ls (.int i :: va_rf r :: rest)) := by
  obtain ⟨h1, h2, h3⟩ := I.arr ho ⟨by omega, by omega⟩
  rw [h1]
  exact W.lald C.1 C.2.1 h3 (C.arr (kd := 53) (by omega) (by omega) _ _) (fun q => by cases q) (a_in hin) (by rw [a_rd hin, sv_2 (by rw [h2]; rfl)]) rfl rfl hdg kk
theorem a_aald (C : Cx p s m meth c D T Z own cc nL ret) (I : HI (twd D T Z) G0 s R H locs cells slots G) (ho : isO G r kd) (hkd : 54 ≤ kd ∧ kd < 57) {i : Int32} (hin : vp_in i (gN G (ad r))) (hdg : decode cc pc = .ok (.aaload, 1))
    (kk : W p l e R s m args below meth c H locs cells slots Qm (F0 m (pc + 1) ls (va_rf (gR G (ad r) i.toNatClampNeg) :: rest))) : W p l e R s m args below meth c H locs cells slots Qm (F0 m pc ls (.int i :: va_rf r :: rest)) := by
  obtain ⟨h1, h2, h3⟩ := I.arr ho ⟨by omega, by omega⟩
  have hst : sty kd i.toNatClampNeg = 1 := by unfold sty; rw [if_neg (by omega), if_neg (by omega), if_neg (by omega)]
  have hrf : (aty kd).isReference = true := by
    obtain ⟨q1, q2⟩ := hkd
    rcases (show kd = 54 ∨ kd = 55 ∨ kd = 56 by omega) with rfl | rfl | rfl <;> rfl
  rw [h1]
  exact W.aald C.1 C.2.1 h3 (C.arr (kd := kd) (by omega) (by omega) _ _) hrf (fun q => by cases q) (a_in hin) (by rw [a_rd hin, sv_1 (by rw [h2]; exact hst)]) rfl rfl hdg kk
theorem a_len (C : Cx p s m meth c D T Z own cc nL ret) (I : HI (twd D T Z) G0 s R H locs cells slots G) (ho : isO G r kd) (hkd : 50 ≤ kd ∧ kd < 57) (hdg : decode cc pc = .ok (.arraylength, 1))
    (kk : W p l e R s m args below meth c H locs cells slots Qm (F0 m (pc + 1) ls (.int (nI (gN G (ad r))) :: rest))) : W p l e R s m args below meth c H locs cells slots Qm (F0 m pc ls (va_rf r :: rest)) := by
  obtain ⟨h1, h2, h3⟩ := I.arr ho hkd
  rw [h1]
  exact W.alen C.1 C.2.1 h3 (C.arr hkd.1 hkd.2 _ _) (by rw [arrV_size]; rfl) rfl rfl hdg kk
/-- a store into an array -/
theorem HI.ast (I : HI (twd D T Z) G0 s R H locs cells slots G) (ho : isO G r kd) (hkd : 50 ≤ kd ∧ kd < 57) {j : Nat} (hj : j < gN G (ad r)) {v : Value} {H' : Heap} (e : H'[ad r]? = some ((arrV (T kd) (gN G (ad r)) (sv G (ad r))).setSlot j v)) (z : H'.size = H.size) (oq : ∀ q : Nat, q ≠ ad r → H'[q]? = H[q]?)
    (G' : Hp) (hK : gK G' = gK G) (hN : gN G' = gN G) (hZ : gZ G' = gZ G) (hC : gC G' = gC G) (hS : gS G' = gS G) (hv : ∀ b, b ≠ ad r → sv G' b = sv G b) (hv2 : sv G' (ad r) = updV (sv G (ad r)) j v) : HI (twd D T Z) G0 s R H' (locs ++ [⟨ad r, j⟩]) cells slots G' := by
  obtain ⟨h1, h2, h3⟩ := I.arr ho hkd
  have hz : Z.size ≤ ad r := by
    rcases (I.1.2.2.2 (ad r) (by rw [h2]; omega)).2 with q | q
    · exact q
    · omega
  have hKr : gK G' (ad r) = kd := by rw [hK]; exact h2
  refine ⟨I.1.set hz hK hN hZ hv z oq ⟨fun h => absurd h (by rw [hKr]; omega), fun _ _ => ?_, fun h => absurd h (by rw [hKr]; omega)⟩, fun a h => I.2.1 a ⟨by rw [← hK]; exact h.1, h.2⟩, I.2.2.1.put z oq (I.2.1 _ ⟨by rw [h2]; omega, hz⟩), by show cells + gC G' ≤ _; rw [hC]; exact I.2.2.2.1, by show slots + gS G' ≤ _; rw [hS]; exact I.2.2.2.2.1, Ext.tr _ _ _ I.2.2.2.2.2 (Ext.kn hK hN hZ)⟩
  rw [hKr, hv2, hN, e, arrV_store]
theorem vp_in_lt {i : Int32} {n : Nat} (h : vp_in i n) : i.toNatClampNeg < n := Nat.not_le.mp fun q => h (Or.inr q)
theorem a_iast (C : Cx p s m meth c D T Z own cc nL ret) (I : HI (twd D T Z) G0 s R H locs cells slots G) (ho : isO G r 50) {i x : Int32} (hin : vp_in i (gN G (ad r))) (hdg : decode cc pc = .ok (.iastore, 1))
    (kk : ∀ (H' : Heap) (locs' : List Loc), HI (twd D T Z) G0 s R H' locs' cells slots (wI G (ad r) i.toNatClampNeg x) → W p l e R s m args below meth c H' locs' cells slots Qm (F0 m (pc + 1) ls rest)) : W p l e R s m args below meth c H locs cells slots Qm (F0 m pc ls (.int x :: .int i :: va_rf r :: rest)) := by
  obtain ⟨h1, h2, h3⟩ := I.arr ho ⟨by omega, by omega⟩
  rw [h1]
  exact W.iast C.1 C.2.1 h3 (C.arr (kd := 50) (by omega) (by omega) _ _) (fun q => by cases q) (a_in hin) rfl rfl hdg fun H' e z oq => kk H' _ (I.ast ho ⟨by omega, by omega⟩ (vp_in_lt hin) e z oq _ rfl rfl rfl rfl rfl (fun b hb => sv_wI_ne hb) (sv_wI (by rw [h2]; rfl)))
theorem a_bast (C : Cx p s m meth c D T Z own cc nL ret) (I : HI (twd D T Z) G0 s R H locs cells slots G) (ho : isO G r 51) {i x : Int32} (hin : vp_in i (gN G (ad r))) (hdg : decode cc pc = .ok (.bastore, 1))
    (kk : ∀ (H' : Heap) (locs' : List Loc), HI (twd D T Z) G0 s R H' locs' cells slots (wI G (ad r) i.toNatClampNeg x.toInt8.toInt32) → W p l e R s m args below meth c H' locs' cells slots Qm (F0 m (pc + 1) ls rest)) : W p l e R s m args below meth c H locs cells slots Qm (F0 m pc ls (.int x :: .int i :: va_rf r :: rest)) := by
  obtain ⟨h1, h2, h3⟩ := I.arr ho ⟨by omega, by omega⟩
  rw [h1]
  exact W.bast C.1 C.2.1 h3 (C.arr (kd := 51) (by omega) (by omega) _ _) (fun q => by cases q) (a_in hin) rfl rfl hdg fun H' e z oq => kk H' _ (I.ast ho ⟨by omega, by omega⟩ (vp_in_lt hin) e z oq _ rfl rfl rfl rfl rfl (fun b hb => sv_wI_ne hb) (sv_wI (by rw [h2]; rfl)))
theorem a_zast (C : Cx p s m meth c D T Z own cc nL ret) (I : HI (twd D T Z) G0 s R H locs cells slots G) (ho : isO G r 52) {i x : Int32} (hin : vp_in i (gN G (ad r))) (hx : narrow .boolean (.int x) = .int x) (hdg : decode cc pc = .ok (.bastore, 1))
    (kk : ∀ (H' : Heap) (locs' : List Loc), HI (twd D T Z) G0 s R H' locs' cells slots (wI G (ad r) i.toNatClampNeg x) → W p l e R s m args below meth c H' locs' cells slots Qm (F0 m (pc + 1) ls rest)) : W p l e R s m args below meth c H locs cells slots Qm (F0 m pc ls (.int x :: .int i :: va_rf r :: rest)) := by
  obtain ⟨h1, h2, h3⟩ := I.arr ho ⟨by omega, by omega⟩
  rw [h1]
  exact W.zast C.1 C.2.1 h3 (C.arr (kd := 52) (by omega) (by omega) _ _) (fun q => by cases q) (a_in hin) rfl rfl hdg fun H' e z oq => kk H' _ (I.ast ho ⟨by omega, by omega⟩ (vp_in_lt hin) (by rw [e, hx]) z oq _ rfl rfl rfl rfl rfl (fun b hb => sv_wI_ne hb) (sv_wI (by rw [h2]; rfl)))
theorem a_last (C : Cx p s m meth c D T Z own cc nL ret) (I : HI (twd D T Z) G0 s R H locs cells slots G) (ho : isO G r 53) {i : Int32} {x : Int64} (hin : vp_in i (gN G (ad r))) (hdg : decode cc pc = .ok (.lastore, 1))
    (kk : ∀ (H' : Heap) (locs' : List Loc), HI (twd D T Z) G0 s R H' locs' cells slots (wL G (ad r) i.toNatClampNeg x) → W p l e R s m args below meth c H' locs' cells slots Qm (F0 m (pc + 1) ls rest)) : W p l e R s m args below meth c H locs cells slots Qm (F0 m pc ls (.long x :: .int i :: va_rf r :: rest)) := by
  obtain ⟨h1, h2, h3⟩ := I.arr ho ⟨by omega, by omega⟩
  rw [h1]
  exact W.last C.1 C.2.1 h3 (C.arr (kd := 53) (by omega) (by omega) _ _) (fun q => by cases q) (a_in hin) rfl rfl hdg fun H' e z oq => kk H' _ (I.ast ho ⟨by omega, by omega⟩ (vp_in_lt hin) e z oq _ rfl rfl rfl rfl rfl (fun b hb => sv_wL_ne hb) (sv_wL (by rw [h2]; rfl)))
end MR
