/-! THE PURE PART: the law's wp from the start -/
theorem pure_law (T : Nat → ClassId) (sz b L : Nat) (xs : Nat → Int32) (hL : L ≤ 384) (hne : T 100 ≠ T 101) (h0 : T 100 < sz) (h1 : T 101 < sz) : w_L_law T (fun r _ => r = 1) (some b) xs L (Gst T sz) := sorry
