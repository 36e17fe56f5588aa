/-! CLASSES by number (1..19): name, fields, kinds of slots (0 int, 1 reference, 2 long); arrays: 50 int 51 byte 52 boolean 53 long 54 Object 55 Letters 56 How -/
set_option maxRecDepth 100000
def clt : Nat → vw_C
  | 1 => (RX1, TX1, 16)
  | 2 => (RX2, TX2, 11)
  | 3 => (RX5, TX5, 3)
  | 4 => (RX6, TX6, 3)
  | 5 => (RX7, TX7, 2)
  | 6 => (RX8, TX8, 3)
  | 7 => (RX9, TX9, 2)
  | 8 => (RX10, TX10, 6)
  | 9 => (RX12, TX12, 10)
  | 10 => (RX13, TX13, 7)
  | 11 => (RX14, TX14, 5)
  | 12 => (RX15, TX15, 3)
  | 13 => (RX16, TX16, 1)
  | 14 => (RX17, TX17, 3)
  | 15 => (RX18, TX18, 5)
  | 16 => (RJ2, TJ2, 3)
  | 17 => (RJ16, TJ16, 6)
  | 18 => (RJ6, TJ6, 6)
  | 19 => (RX11, TX11, 74)
  | _ => (RX1, TX1, 0)
def ftab : Nat → List Nat
  | 1 => [1, 1, 1, 1, 1, 0, 0, 1, 1, 0, 1, 0, 0, 1, 0, 0]
  | 2 => [1, 1, 1, 1, 1, 1, 1, 1, 1, 0, 0]
  | 3 => [1, 1, 1]
  | 4 => [1, 1, 1]
  | 5 => [1, 1]
  | 6 => [1, 1, 1]
  | 7 => [1, 1]
  | 8 => [1, 1, 1, 1, 0, 1]
  | 9 => [0, 1, 0, 0, 0, 0, 0, 0, 0, 1]
  | 10 => [1, 1, 1, 1, 1, 0, 0]
  | 11 => [0, 0, 0, 0, 0]
  | 12 => [1, 0, 0]
  | 13 => [1]
  | 14 => [1, 1, 1]
  | 15 => [0, 0, 0, 0, 0]
  | 16 => [0, 1, 0]
  | 17 => [1, 1, 1, 1, 1, 0]
  | 18 => [1, 1, 1, 1, 1, 0]
  | 19 => [0, 0, 0, 0, 0, 0, 0, 1, 1, 1, 1, 1, 1, 1, 1, 1, 1, 0, 0, 0, 1, 0, 0, 0, 0, 0, 0, 2, 0, 0, 0, 0, 0, 0, 0, 0, 0, 1, 1, 1, 1, 1, 1, 1, 1, 1, 1, 1, 0, 0, 0, 1, 1, 1, 1, 1, 1, 1, 1, 0, 0, 0, 0, 1, 1, 0, 1, 0, 0, 0, 0, 0, 0, 1]
  | _ => []
def tyt : Nat → Nat → FieldType
  | 1 => tyX1
  | 2 => tyX2
  | 3 => tyX5
  | 4 => tyX6
  | 5 => tyX7
  | 6 => tyX8
  | 7 => tyX9
  | 8 => tyX10
  | 9 => tyX12
  | 10 => tyX13
  | 11 => tyX14
  | 12 => tyX15
  | 13 => tyX16
  | 14 => tyX17
  | 15 => tyX18
  | 16 => tyJ2
  | 17 => tyJ16
  | 18 => tyJ6
  | 19 => tyX11
  | _ => tyX1
theorem clt_len : ∀ c, 0 < c → c < 20 → (clt c).2.2 = (ftab c).length := fun c _ h => (by decide +kernel : ∀ c, c < 20 → (clt c).2.2 = (ftab c).length ∨ c = 0) c h |>.resolve_right (by omega)
theorem clt_in : ∀ c, 0 < c → c < 20 → ∀ w ∈ u_ws (clt c).1 (clt c).2.1 (clt c).2.2, w ∈ lw_all := by
  intro c h0 h1
  match c, h0, h1 with
  | 1, _, _ => exact in_X1
  | 2, _, _ => exact in_X2
  | 3, _, _ => exact in_X5
  | 4, _, _ => exact in_X6
  | 5, _, _ => exact in_X7
  | 6, _, _ => exact in_X8
  | 7, _, _ => exact in_X9
  | 8, _, _ => exact in_X10
  | 9, _, _ => exact in_X12
  | 10, _, _ => exact in_X13
  | 11, _, _ => exact in_X14
  | 12, _, _ => exact in_X15
  | 13, _, _ => exact in_X16
  | 14, _, _ => exact in_X17
  | 15, _, _ => exact in_X18
  | 16, _, _ => exact in_J2
  | 17, _, _ => exact in_J16
  | 18, _, _ => exact in_J6
  | 19, _, _ => exact in_X11
  | k + 20, _, h => exact absurd h (by omega)
theorem tyk_X1 : ∀ k, k < 16 → parseFieldDescriptor (TX1 k).2.2.1 = some (tyX1 k) := by decide +kernel
theorem tyk_X2 : ∀ k, k < 11 → parseFieldDescriptor (TX2 k).2.2.1 = some (tyX2 k) := by decide +kernel
theorem tyk_X5 : ∀ k, k < 3 → parseFieldDescriptor (TX5 k).2.2.1 = some (tyX5 k) := by decide +kernel
theorem tyk_X6 : ∀ k, k < 3 → parseFieldDescriptor (TX6 k).2.2.1 = some (tyX6 k) := by decide +kernel
theorem tyk_X7 : ∀ k, k < 2 → parseFieldDescriptor (TX7 k).2.2.1 = some (tyX7 k) := by decide +kernel
theorem tyk_X8 : ∀ k, k < 3 → parseFieldDescriptor (TX8 k).2.2.1 = some (tyX8 k) := by decide +kernel
theorem tyk_X9 : ∀ k, k < 2 → parseFieldDescriptor (TX9 k).2.2.1 = some (tyX9 k) := by decide +kernel
theorem tyk_X10 : ∀ k, k < 6 → parseFieldDescriptor (TX10 k).2.2.1 = some (tyX10 k) := by decide +kernel
theorem tyk_X12 : ∀ k, k < 10 → parseFieldDescriptor (TX12 k).2.2.1 = some (tyX12 k) := by decide +kernel
theorem tyk_X13 : ∀ k, k < 7 → parseFieldDescriptor (TX13 k).2.2.1 = some (tyX13 k) := by decide +kernel
theorem tyk_X14 : ∀ k, k < 5 → parseFieldDescriptor (TX14 k).2.2.1 = some (tyX14 k) := by decide +kernel
theorem tyk_X15 : ∀ k, k < 3 → parseFieldDescriptor (TX15 k).2.2.1 = some (tyX15 k) := by decide +kernel
theorem tyk_X16 : ∀ k, k < 1 → parseFieldDescriptor (TX16 k).2.2.1 = some (tyX16 k) := by decide +kernel
theorem tyk_X17 : ∀ k, k < 3 → parseFieldDescriptor (TX17 k).2.2.1 = some (tyX17 k) := by decide +kernel
theorem tyk_X18 : ∀ k, k < 5 → parseFieldDescriptor (TX18 k).2.2.1 = some (tyX18 k) := by decide +kernel
theorem tyk_J2 : ∀ k, k < 3 → parseFieldDescriptor (TJ2 k).2.2.1 = some (tyJ2 k) := by decide +kernel
theorem tyk_J16 : ∀ k, k < 6 → parseFieldDescriptor (TJ16 k).2.2.1 = some (tyJ16 k) := by decide +kernel
theorem tyk_J6 : ∀ k, k < 6 → parseFieldDescriptor (TJ6 k).2.2.1 = some (tyJ6 k) := by decide +kernel
theorem tyk_X11 : ∀ k, k < 74 → parseFieldDescriptor (TX11 k).2.2.1 = some (tyX11 k) := by decide +kernel
theorem clt_ty : ∀ c, 0 < c → c < 20 → ∀ k, k < (clt c).2.2 → parseFieldDescriptor ((clt c).2.1 k).2.2.1 = some (tyt c k) := by
  intro c h0 h1
  match c, h0, h1 with
  | 1, _, _ => exact tyk_X1
  | 2, _, _ => exact tyk_X2
  | 3, _, _ => exact tyk_X5
  | 4, _, _ => exact tyk_X6
  | 5, _, _ => exact tyk_X7
  | 6, _, _ => exact tyk_X8
  | 7, _, _ => exact tyk_X9
  | 8, _, _ => exact tyk_X10
  | 9, _, _ => exact tyk_X12
  | 10, _, _ => exact tyk_X13
  | 11, _, _ => exact tyk_X14
  | 12, _, _ => exact tyk_X15
  | 13, _, _ => exact tyk_X16
  | 14, _, _ => exact tyk_X17
  | 15, _, _ => exact tyk_X18
  | 16, _, _ => exact tyk_J2
  | 17, _, _ => exact tyk_J16
  | 18, _, _ => exact tyk_J6
  | 19, _, _ => exact tyk_X11
  | k + 20, _, h => exact absurd h (by omega)
theorem ins_X1 : Cond.instantiable (clt 1).1 (clt 1).2.2 ∈ lw_all := q137
theorem ini_X1 : Cond.initialized (clt 1).1 ∈ lw_all := q100
theorem ins_X2 : Cond.instantiable (clt 2).1 (clt 2).2.2 ∈ lw_all := q145
theorem ini_X2 : Cond.initialized (clt 2).1 ∈ lw_all := q101
theorem ins_X5 : Cond.instantiable (clt 3).1 (clt 3).2.2 ∈ lw_all := q240
theorem ini_X5 : Cond.initialized (clt 3).1 ∈ lw_all := q107
theorem ins_X6 : Cond.instantiable (clt 4).1 (clt 4).2.2 ∈ lw_all := q262
theorem ini_X6 : Cond.initialized (clt 4).1 ∈ lw_all := q108
theorem ins_X7 : Cond.instantiable (clt 5).1 (clt 5).2.2 ∈ lw_all := q274
theorem ini_X7 : Cond.initialized (clt 5).1 ∈ lw_all := q109
theorem ins_X8 : Cond.instantiable (clt 6).1 (clt 6).2.2 ∈ lw_all := q285
theorem ini_X8 : Cond.initialized (clt 6).1 ∈ lw_all := q110
theorem ins_X9 : Cond.instantiable (clt 7).1 (clt 7).2.2 ∈ lw_all := q299
theorem ini_X9 : Cond.initialized (clt 7).1 ∈ lw_all := q111
theorem ins_X10 : Cond.instantiable (clt 8).1 (clt 8).2.2 ∈ lw_all := q310
theorem ini_X10 : Cond.initialized (clt 8).1 ∈ lw_all := q112
theorem ins_X12 : Cond.instantiable (clt 9).1 (clt 9).2.2 ∈ lw_all := q708
theorem ini_X12 : Cond.initialized (clt 9).1 ∈ lw_all := q118
theorem ins_X13 : Cond.instantiable (clt 10).1 (clt 10).2.2 ∈ lw_all := q835
theorem ini_X13 : Cond.initialized (clt 10).1 ∈ lw_all := q124
theorem ins_X14 : Cond.instantiable (clt 11).1 (clt 11).2.2 ∈ lw_all := q892
theorem ini_X14 : Cond.initialized (clt 11).1 ∈ lw_all := q125
theorem ins_X15 : Cond.instantiable (clt 12).1 (clt 12).2.2 ∈ lw_all := q974
theorem ini_X15 : Cond.initialized (clt 12).1 ∈ lw_all := q130
theorem ins_X16 : Cond.instantiable (clt 13).1 (clt 13).2.2 ∈ lw_all := q1018
theorem ini_X16 : Cond.initialized (clt 13).1 ∈ lw_all := q131
theorem ins_X17 : Cond.instantiable (clt 14).1 (clt 14).2.2 ∈ lw_all := q1040
theorem ini_X17 : Cond.initialized (clt 14).1 ∈ lw_all := q132
theorem ins_X18 : Cond.instantiable (clt 15).1 (clt 15).2.2 ∈ lw_all := q1173
theorem ini_X18 : Cond.initialized (clt 15).1 ∈ lw_all := q135
theorem ins_J2 : Cond.instantiable (clt 16).1 (clt 16).2.2 ∈ lw_all := q151
theorem ini_J2 : Cond.initialized (clt 16).1 ∈ lw_all := q104
theorem ins_J16 : Cond.instantiable (clt 17).1 (clt 17).2.2 ∈ lw_all := q1068
theorem ini_J16 : Cond.initialized (clt 17).1 ∈ lw_all := q134
theorem ins_J6 : Cond.instantiable (clt 18).1 (clt 18).2.2 ∈ lw_all := q644
theorem ini_J6 : Cond.initialized (clt 18).1 ∈ lw_all := q117
theorem ins_X11 : Cond.instantiable (clt 19).1 (clt 19).2.2 ∈ lw_all := q1359
theorem ini_X11 : Cond.initialized (clt 19).1 ∈ lw_all := q113
theorem clt_ins : ∀ c, 0 < c → c < 20 → Cond.instantiable (clt c).1 (clt c).2.2 ∈ lw_all := by
  intro c h0 h1
  match c, h0, h1 with
  | 1, _, _ => exact ins_X1
  | 2, _, _ => exact ins_X2
  | 3, _, _ => exact ins_X5
  | 4, _, _ => exact ins_X6
  | 5, _, _ => exact ins_X7
  | 6, _, _ => exact ins_X8
  | 7, _, _ => exact ins_X9
  | 8, _, _ => exact ins_X10
  | 9, _, _ => exact ins_X12
  | 10, _, _ => exact ins_X13
  | 11, _, _ => exact ins_X14
  | 12, _, _ => exact ins_X15
  | 13, _, _ => exact ins_X16
  | 14, _, _ => exact ins_X17
  | 15, _, _ => exact ins_X18
  | 16, _, _ => exact ins_J2
  | 17, _, _ => exact ins_J16
  | 18, _, _ => exact ins_J6
  | 19, _, _ => exact ins_X11
  | k + 20, _, h => exact absurd h (by omega)
theorem clt_ini : ∀ c, 0 < c → c < 20 → Cond.initialized (clt c).1 ∈ lw_all := by
  intro c h0 h1
  match c, h0, h1 with
  | 1, _, _ => exact ini_X1
  | 2, _, _ => exact ini_X2
  | 3, _, _ => exact ini_X5
  | 4, _, _ => exact ini_X6
  | 5, _, _ => exact ini_X7
  | 6, _, _ => exact ini_X8
  | 7, _, _ => exact ini_X9
  | 8, _, _ => exact ini_X10
  | 9, _, _ => exact ini_X12
  | 10, _, _ => exact ini_X13
  | 11, _, _ => exact ini_X14
  | 12, _, _ => exact ini_X15
  | 13, _, _ => exact ini_X16
  | 14, _, _ => exact ini_X17
  | 15, _, _ => exact ini_X18
  | 16, _, _ => exact ini_J2
  | 17, _, _ => exact ini_J16
  | 18, _, _ => exact ini_J6
  | 19, _, _ => exact ini_X11
  | k + 20, _, h => exact absurd h (by omega)
