/-! the recursion of eyes, closed (by program) -/
set_option maxRecDepth 100000
def wE (T : Nat → ClassId) : Nat → (Int32 → Hp → Prop) → Option Nat → Int32 → Int32 → Int32 → Int32 → Int32 → Hp → Prop
  | 0 => w_X10_eyes T (fun _ _ _ _ _ _ _ _ _ => False)
  | d + 1 => w_X10_eyes T (w_X8_eyes T (wE T d))
theorem ct_E {l : Launch} {D : va_G} {T : Nat → ClassId} {Z : Heap} : ∀ (d : Nat) (Q : Int32 → Hp → Prop) (th : Option Nat) (a0 : Int32) (a1 : Int32) (a2 : Int32) (a3 : Int32) (a4 : Int32) (G : Hp), wE T d Q th a0 a1 a2 a3 a4 G → CT (twd D T Z) (Evd D T Z) l yX10_eyes (Cond.code yX10_eyes cX10_eyes 9 (some .int)) (7 + 2 * d) (175 + 58 * d) [va_rf th, .int a0, .int a1, .int a2, .int a3, .int a4] G (qI Q) (fun _ _ => False)
  | 0, Q, th,a0,a1,a2,a3,a4, G, h => ct_X10_eyes (fr2 := 0) (lc2 := 0) ⟨by omega, by omega, by omega, by omega⟩ (fun _ _ _ _ _ _ _ _ _ h => h.elim) h
  | d + 1, Q, th,a0,a1,a2,a3,a4, G, h => ct_X10_eyes (fr2 := 7 + 2 * d + 1) (lc2 := 175 + 58 * d + 28) ⟨by omega, by omega, by omega, by omega⟩ (fun _ _ _ _ _ _ _ _ _ h => ct_X8_eyes (fr2 := 7 + 2 * d) (lc2 := 175 + 58 * d) ⟨by omega, by omega, by omega, by omega⟩ (ct_E d) h) h
def w_X8_eyesR (T : Nat → ClassId) (Q : Int32 → Hp → Prop) (th : Option Nat) (a0 : Option Nat) (a1 : Int32) (a2 : Int32) (a3 : Int32) (a4 : Int32) (a5 : Int32) (G : Hp) : Prop := w_X8_eyes T (wE T 8) Q th a0 a1 a2 a3 a4 a5 G
theorem ct_X8_eyesR {l : Launch} {D : va_G} {T : Nat → ClassId} {Z : Heap} {G : Hp} {Q : Int32 → Hp → Prop} {th : Option Nat} {a0 : Option Nat} {a1 : Int32} {a2 : Int32} {a3 : Int32} {a4 : Int32} {a5 : Int32} (hw : w_X8_eyesR T Q th a0 a1 a2 a3 a4 a5 G) : CT (twd D T Z) (Evd D T Z) l yX8_eyes (Cond.code yX8_eyes cX8_eyes 11 (some .int)) 24 667 [va_rf th, va_rf a0, .int a1, .int a2, .int a3, .int a4, .int a5] G (qI Q) (fun _ _ => False) := ct_X8_eyes (fr2 := 23) (lc2 := 639) (by decide) (ct_E 8) hw
