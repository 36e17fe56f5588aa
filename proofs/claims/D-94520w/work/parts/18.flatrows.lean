/-! ROWS OF THE FLAT MODEL -/
set_option maxRecDepth 100000
def mq (h z : Nat) (Q : Option Value → MS → Prop) : Option Value → Hp → Prop := fun v G => ∃ M, G = mG h z M ∧ Q v M
theorem mG_x {h z : Nat} {M M' : MS} : Ext (mG h z M) (mG h z M') := Ext.kn rfl rfl rfl
section FR
variable {p : Program} {l : Launch} {e : Env} {R : Room} {s : State} {m : MethodId} {args : Array Value} {below : List Frame} {meth : Method} {c : Code} {H : Heap} {locs : List Loc} {cells slots : Nat} {Qm : State → Prop} {pc : Nat} {ls : Array Slot} {rest : List Value} {cc : ByteArray} {D : va_G} {T : Nat → ClassId} {Z : Heap} {own : String} {nL : Nat} {ret : Option FieldType} {G0 : Hp} {idx k h z : Nat} {M : MS}
theorem f_recv (C : Cx p s m meth c D T Z own cc nL ret) (I : HI (twd D T Z) G0 s R H locs cells slots (mG h z M)) : (some h : Option Nat) = some (ad (some h)) ∧ ∃ cell : Cell, H[ad (some h)]? = some cell ∧ cell.vm.isStatics = false ∧ s.vm.findClass "EndingTownModel" = some cell.cls := ⟨rfl, I.recv C.2.2.2.2.1 mG_o (by decide)⟩
theorem f_I (C : Cx p s m meth c D T Z own cc nL ret) (I : HI (twd D T Z) G0 s R H locs cells slots (mG h z M)) (hf : FL D T Z own idx 19 k) (hk : k < (ftab 19).length ∧ sty 19 k = 0) (hdg : decode cc pc = .ok (.getfield idx, 3))
    (kk : W p l e R s m args below meth c H locs cells slots Qm (F0 m (pc + 3) ls (.int (mF M k) :: rest))) : W p l e R s m args below meth c H locs cells slots Qm (F0 m pc ls (va_rf (some h) :: rest)) :=
  g_I C I hf hk (by decide) mG_o hdg (by rw [show ad (some h) = h from rfl, mG_i]; exact kk)
theorem f_A (C : Cx p s m meth c D T Z own cc nL ret) (I : HI (twd D T Z) G0 s R H locs cells slots (mG h z M)) (hf : FL D T Z own idx 19 k) (hk : k < (ftab 19).length ∧ sty 19 k = 1) (hm : mlen k ≠ 0) (hdg : decode cc pc = .ok (.getfield idx, 3))
    (kk : W p l e R s m args below meth c H locs cells slots Qm (F0 m (pc + 3) ls (va_rf (some (h + moff k)) :: rest))) : W p l e R s m args below meth c H locs cells slots Qm (F0 m pc ls (va_rf (some h) :: rest)) :=
  g_R C I hf hk (by decide) mG_o hdg (by rw [show ad (some h) = h from rfl, mG_r hm]; exact kk)
theorem f_L (C : Cx p s m meth c D T Z own cc nL ret) (I : HI (twd D T Z) G0 s R H locs cells slots (mG h z M)) (hf : FL D T Z own idx 19 27) (hdg : decode cc pc = .ok (.getfield idx, 3))
    (kk : W p l e R s m args below meth c H locs cells slots Qm (F0 m (pc + 3) ls (.long (mW M) :: rest))) : W p l e R s m args below meth c H locs cells slots Qm (F0 m pc ls (va_rf (some h) :: rest)) :=
  g_get C I hf (by decide) (by decide) mG_o hdg ((sv_2 (by rw [mG_o.ad.2]; rfl)).trans (by rw [show ad (some h) = h from rfl, mG_w])) kk
theorem f_PI (C : Cx p s m meth c D T Z own cc nL ret) (I : HI (twd D T Z) G0 s R H locs cells slots (mG h z M)) (hf : FP D T Z own idx 19 k false) (hk : k < (ftab 19).length ∧ sty 19 k = 0) (hdg : decode cc pc = .ok (.putfield idx, 3)) {x : Int32} (hn : narrow (tyt 19 k) (.int x) = .int x ∧ fits (tyt 19 k) (.int x) = true)
    (kk : ∀ (H' : Heap) (locs' : List Loc) (M' : MS), M' = sF M k x → HI (twd D T Z) G0 s R H' locs' cells slots (mG h z M') → W p l e R s m args below meth c H' locs' cells slots Qm (F0 m (pc + 3) ls rest)) : W p l e R s m args below meth c H locs cells slots Qm (F0 m pc ls (.int x :: va_rf (some h) :: rest)) :=
  p_I C I hf (fun z => by cases z) hk (by decide) mG_o hdg hn.1 hn.2 fun H' locs' I' => kk H' locs' _ rfl (by rw [← mG_sF]; exact I')
theorem f_PL (C : Cx p s m meth c D T Z own cc nL ret) (I : HI (twd D T Z) G0 s R H locs cells slots (mG h z M)) (hf : FP D T Z own idx 19 27 false) (hdg : decode cc pc = .ok (.putfield idx, 3)) {x : Int64}
    (kk : ∀ (H' : Heap) (locs' : List Loc) (M' : MS), M' = sW M x → HI (twd D T Z) G0 s R H' locs' cells slots (mG h z M') → W p l e R s m args below meth c H' locs' cells slots Qm (F0 m (pc + 3) ls rest)) : W p l e R s m args below meth c H locs cells slots Qm (F0 m pc ls (.long x :: va_rf (some h) :: rest)) :=
  p_put C I hf (fun z => by cases z) (by decide) (by decide) mG_o hdg (v := .long x) rfl rfl (mG h z (sW M x)) rfl rfl rfl rfl rfl (fun b hb => by rw [← mG_sW]; exact sv_wL_ne hb) (by rw [← mG_sW]; exact sv_wL (by rw [show gK (mG h z M) h = 19 from if_pos rfl]; rfl)) fun H' locs' I' => kk H' locs' _ rfl I'
theorem f_ld (C : Cx p s m meth c D T Z own cc nL ret) (I : HI (twd D T Z) G0 s R H locs cells slots (mG h z M)) (hm : mlen k ≠ 0) {i : Int32} (hin : vp_in i (mlen k)) (hdg : decode cc pc = .ok (.iaload, 1))
    (kk : W p l e R s m args below meth c H locs cells slots Qm (F0 m (pc + 1) ls (.int (mA M k i.toNatClampNeg) :: rest))) : W p l e R s m args below meth c H locs cells slots Qm (F0 m pc ls (.int i :: va_rf (some (h + moff k)) :: rest)) :=
  a_iald C I (mG_a hm) (by rw [show ad (some (h + moff k)) = h + moff k from rfl, mG_n hm]; exact hin) hdg (by rw [show ad (some (h + moff k)) = h + moff k from rfl, mG_e hm]; exact kk)
theorem f_st (C : Cx p s m meth c D T Z own cc nL ret) (I : HI (twd D T Z) G0 s R H locs cells slots (mG h z M)) (hm : mlen k ≠ 0) {i x : Int32} (hin : vp_in i (mlen k)) (hdg : decode cc pc = .ok (.iastore, 1))
    (kk : ∀ (H' : Heap) (locs' : List Loc) (M' : MS), M' = sA M k i.toNatClampNeg x → HI (twd D T Z) G0 s R H' locs' cells slots (mG h z M') → W p l e R s m args below meth c H' locs' cells slots Qm (F0 m (pc + 1) ls rest)) : W p l e R s m args below meth c H locs cells slots Qm (F0 m pc ls (.int x :: .int i :: va_rf (some (h + moff k)) :: rest)) :=
  a_iast C I (mG_a hm) (by rw [show ad (some (h + moff k)) = h + moff k from rfl, mG_n hm]; exact hin) hdg fun H' locs' I' => kk H' locs' _ rfl (by rw [← mG_sA hm]; exact I')
theorem f_len (C : Cx p s m meth c D T Z own cc nL ret) (I : HI (twd D T Z) G0 s R H locs cells slots (mG h z M)) (hm : mlen k ≠ 0) (hdg : decode cc pc = .ok (.arraylength, 1))
    (kk : W p l e R s m args below meth c H locs cells slots Qm (F0 m (pc + 1) ls (.int (nI (mlen k)) :: rest))) : W p l e R s m args below meth c H locs cells slots Qm (F0 m pc ls (va_rf (some (h + moff k)) :: rest)) :=
  a_len C I (mG_a hm) (by decide) hdg (by rw [show ad (some (h + moff k)) = h + moff k from rfl, mG_n hm]; exact kk)
end FR
