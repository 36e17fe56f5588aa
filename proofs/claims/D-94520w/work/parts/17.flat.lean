/-! THE MODEL, flat: int fields, arrays by their fields, one long -/
set_option maxRecDepth 100000
def mlen : Nat → Nat
  | 7 => 108
  | 8 => 135
  | 9 => 162
  | 10 => 9
  | 11 => 40
  | 12 => 30
  | 13 => 6
  | 14 => 144
  | 15 => 10
  | 16 => 800
  | 20 => 3
  | 37 => 108
  | 38 => 135
  | 39 => 162
  | 40 => 9
  | 41 => 40
  | 42 => 30
  | 43 => 6
  | 44 => 144
  | 45 => 10
  | 46 => 32
  | 47 => 180
  | 51 => 100
  | 52 => 180
  | 53 => 20
  | 54 => 20
  | 55 => 21
  | 56 => 21
  | 57 => 20
  | 58 => 168
  | 63 => 20
  | 64 => 168
  | 66 => 20
  | 73 => 100
  | _ => 0
def moff : Nat → Nat
  | 7 => 1
  | 8 => 2
  | 9 => 3
  | 10 => 4
  | 11 => 5
  | 12 => 6
  | 13 => 7
  | 14 => 8
  | 15 => 9
  | 16 => 10
  | 20 => 11
  | 37 => 12
  | 38 => 13
  | 39 => 14
  | 40 => 15
  | 41 => 16
  | 42 => 17
  | 43 => 18
  | 44 => 19
  | 45 => 20
  | 46 => 21
  | 47 => 22
  | 51 => 23
  | 52 => 24
  | 53 => 25
  | 54 => 26
  | 55 => 27
  | 56 => 28
  | 57 => 29
  | 58 => 30
  | 63 => 31
  | 64 => 32
  | 66 => 33
  | 73 => 34
  | _ => 0
def mof : Nat → Nat
  | 1 => 7
  | 2 => 8
  | 3 => 9
  | 4 => 10
  | 5 => 11
  | 6 => 12
  | 7 => 13
  | 8 => 14
  | 9 => 15
  | 10 => 16
  | 11 => 20
  | 12 => 37
  | 13 => 38
  | 14 => 39
  | 15 => 40
  | 16 => 41
  | 17 => 42
  | 18 => 43
  | 19 => 44
  | 20 => 45
  | 21 => 46
  | 22 => 47
  | 23 => 51
  | 24 => 52
  | 25 => 53
  | 26 => 54
  | 27 => 55
  | 28 => 56
  | 29 => 57
  | 30 => 58
  | 31 => 63
  | 32 => 64
  | 33 => 66
  | 34 => 73
  | _ => 0
theorem mlen_lt : ∀ k, mlen k ≠ 0 → k < 74 := fun k h => by
  by_cases hk : k < 74
  · exact hk
  · refine absurd ?_ h
    match k, hk with
    | j + 74, _ => rfl
theorem moff_ok : ∀ k, mlen k ≠ 0 → 0 < moff k ∧ moff k ≤ 34 ∧ mof (moff k) = k := fun k h => (by decide +kernel : ∀ k, k < 74 → mlen k ≠ 0 → 0 < moff k ∧ moff k ≤ 34 ∧ mof (moff k) = k) k (mlen_lt k h) h
theorem mof_ok : ∀ i, i < 35 → 0 < i → mlen (mof i) ≠ 0 ∧ moff (mof i) = i := by decide +kernel
theorem mof_inj {x k : Nat} (e : mof x = k) (hk : mlen k ≠ 0) : x = moff k := by
  by_cases hx : x < 35
  · by_cases h0 : 0 < x
    · rw [← e]; exact (mof_ok x hx h0).2.symm
    · have : x = 0 := by omega
      subst this
      subst e
      exact absurd rfl hk
  · match x, hx, e with
    | j + 35, _, e => subst e; exact absurd rfl hk
theorem mlen_ty : ∀ k, k < 74 → (mlen k ≠ 0 ↔ sty 19 k = 1) := by decide +kernel
abbrev MS : Type := (Nat → Int32) × (Nat → Nat → Int32) × Int64
def mF (M : MS) : Nat → Int32 := M.1
def mA (M : MS) : Nat → Nat → Int32 := M.2.1
def mW (M : MS) : Int64 := M.2.2
def sF (M : MS) (k : Nat) (v : Int32) : MS := (fun j => if j = k then v else mF M j, mA M, mW M)
def sA (M : MS) (k i : Nat) (v : Int32) : MS := (mF M, fun j n => if j = k ∧ n = i then v else mA M j n, mW M)
def sW (M : MS) (v : Int64) : MS := (mF M, mA M, v)
def mG (h z : Nat) (M : MS) : Hp := (fun a => if a = h then 19 else if h < a ∧ a ≤ h + 34 then 50 else 0, fun a => if h < a ∧ a ≤ h + 34 then mlen (mof (a - h)) else 0, fun a j => if a = h then mF M j else mA M (mof (a - h)) j, fun a j => if a = h ∧ mlen j ≠ 0 then some (h + moff j) else none, fun a j => if a = h ∧ j = 27 then mW M else 0, z, 0, 0)
theorem mG_o {h z : Nat} {M : MS} : isO (mG h z M) (some h) 19 := ⟨h, rfl, if_pos rfl⟩
theorem mG_a {h z k : Nat} {M : MS} (hk : mlen k ≠ 0) : isO (mG h z M) (some (h + moff k)) 50 := by
  obtain ⟨h1, h2, h3⟩ := moff_ok k hk
  exact ⟨_, rfl, (if_neg (by omega)).trans (if_pos (by omega))⟩
theorem mG_i {h z k : Nat} {M : MS} : gI (mG h z M) h k = mF M k := if_pos rfl
theorem mG_w {h z : Nat} {M : MS} : gL (mG h z M) h 27 = mW M := if_pos ⟨rfl, rfl⟩
theorem mG_r {h z k : Nat} {M : MS} (hk : mlen k ≠ 0) : gR (mG h z M) h k = some (h + moff k) := if_pos ⟨rfl, hk⟩
theorem mG_e {h z k i : Nat} {M : MS} (hk : mlen k ≠ 0) : gI (mG h z M) (h + moff k) i = mA M k i := by
  obtain ⟨h1, h2, h3⟩ := moff_ok k hk
  refine (if_neg (by omega)).trans ?_
  rw [Nat.add_sub_cancel_left, h3]
theorem mG_n {h z k : Nat} {M : MS} (hk : mlen k ≠ 0) : gN (mG h z M) (h + moff k) = mlen k := by
  obtain ⟨h1, h2, h3⟩ := moff_ok k hk
  refine (if_pos (by omega)).trans ?_
  rw [Nat.add_sub_cancel_left, h3]
theorem mG_sF {h z k : Nat} {M : MS} {v : Int32} : wI (mG h z M) h k v = mG h z (sF M k v) := by
  unfold wI
  congr 3
  funext b j
  by_cases hb : b = h
  · subst hb
    by_cases hj : j = k
    · subst hj; simp [mG, gI, sF, mF]
    · simp [mG, gI, sF, mF, hj]
  · simp [mG, gI, sF, mF, mA, hb]
theorem mG_sA {h z k i : Nat} {M : MS} {v : Int32} (hk : mlen k ≠ 0) : wI (mG h z M) (h + moff k) i v = mG h z (sA M k i v) := by
  obtain ⟨h1, h2, h3⟩ := moff_ok k hk
  unfold wI
  congr 3
  funext b j
  by_cases hb : b = h + moff k
  · subst hb
    have e1 : gI (mG h z M) (h + moff k) j = mA M k j := mG_e hk
    rw [e1, if_neg (show ¬ h + moff k = h by omega), Nat.add_sub_cancel_left, h3]
    by_cases hj : j = i
    · subst hj; simp [sA, mA]
    · simp [sA, mA, hj]
  · have hne : mof (b - h) ≠ k := fun e => by
      have := mof_inj e hk
      omega
    simp [mG, gI, sA, mF, mA, hb, hne]
theorem mG_sW {h z : Nat} {M : MS} {v : Int64} : wL (mG h z M) h 27 v = mG h z (sW M v) := by
  unfold wL
  congr 5
  funext b j
  by_cases hb : b = h ∧ j = 27
  · simp [sW, mW, hb]
  · simp [mG, gL, sW, mW, hb]

