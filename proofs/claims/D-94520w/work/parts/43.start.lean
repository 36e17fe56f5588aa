/-! THE START: what the claim's premises give -/
set_option maxRecDepth 100000
theorem arr_p {s : State} {ty : FieldType} (h : (Cond.arrayClass ty).before #[] s = true) (hr : ∀ cA, s.vm.findClass ("[" ++ ty.toString) = some cA → va_RA s cA ty) : ∃ cA : ClassId, ArrOfT s cA ty ∧ va_RA s cA ty := by
  obtain ⟨c, k, comp, h1, h2, h3⟩ := Cond.arrayClass_spec h
  exact ⟨c, fun n z => ⟨(fun k h => by cases h), k, h2, comp, h3⟩, hr c h1⟩
theorem arr_o {s : State} {C : String} (h : va_AO C s) : ∃ cA : ClassId, ArrOfT s cA (.object C) ∧ va_RA s cA (.object C) := by
  obtain ⟨comp, c, k, f1, f2, f3, f4, f5⟩ := Cond.arrayOver_spec h
  exact ⟨c, fun n z => ⟨(fun k h => by cases h), k, f3, comp, f4⟩, k, comp, f3, f4, f1, f5⟩
theorem arr_st {s : State} (h : TB s) : ∀ k, 50 ≤ k → k < 57 → ∃ cA : ClassId, ArrOfT s cA (aty k) ∧ va_RA s cA (aty k) := by
  intro k h0 h1
  rcases (show k = 50 ∨ k = 51 ∨ k = 52 ∨ k = 53 ∨ k = 54 ∨ k = 55 ∨ k = 56 by omega) with rfl | rfl | rfl | rfl | rfl | rfl | rfl
  · exact arr_p (h.good q234 _) (fun _ z => z)
  · exact arr_p (h.good q400 _) (fun _ z => z)
  · exact arr_p (h.good q341 _) (fun _ z => z)
  · exact arr_p (h.good q1922 _) (fun _ z => z)
  · exact arr_o (h.ao q610)
  · exact arr_o (h.ao q177)
  · exact arr_o (h.ao q238)
def nmB (c : Nat) : Bool := (List.range (clt c).2.2).all fun i => (List.range (clt c).2.2).all fun j => i == j || (!(((clt c).2.1 i).2.1 == ((clt c).2.1 j).2.1) || (((clt c).2.1 i).2.2.2 && (((clt c).2.1 j).2.2.2 && !(((clt c).2.1 i).1 == ((clt c).2.1 j).1))))
theorem nmB_ok : ∀ c, c < 20 → nmB c = true := by decide +kernel
theorem nm_ok (c : Nat) (hc : c < 20) (i : Nat) (hi : i < (clt c).2.2) (j : Nat) (hj : j < (clt c).2.2) (hne : i ≠ j) : ((clt c).2.1 i).2.1 ≠ ((clt c).2.1 j).2.1 ∨ (((clt c).2.1 i).2.2.2 = true ∧ ((clt c).2.1 j).2.2.2 = true ∧ ((clt c).2.1 i).1 ≠ ((clt c).2.1 j).1) := by
  have h := nmB_ok c hc
  unfold nmB at h
  have h1 := List.all_eq_true.mp (List.all_eq_true.mp h i (List.mem_range.mpr hi)) j (List.mem_range.mpr hj)
  simp only [Bool.or_eq_true, Bool.and_eq_true, beq_iff_eq, Bool.not_eq_true', beq_eq_false_iff_ne] at h1
  rcases h1 with h1 | h1 | h1
  · exact absurd h1 hne
  · exact Or.inl h1
  · exact Or.inr h1
theorem apart_o {args : Array Value} {s : State} {C O f d O' f' d' : String} (h : (Cond.laysFinal C O f d).before args s = true) (h' : (Cond.laysFinal C O' f' d').before args s = true)
    {cf kf fi fd cf' kf' fi' fd'} (hi : s.fieldFound? O f d = some (cf, kf, fi, fd)) (hi' : s.fieldFound? O' f' d' = some (cf', kf', fi', fd')) (hne : O ≠ O') : fd.slot ≠ fd'.slot := by
  obtain ⟨c, k, c1, k1, i1, f1, hc, hk, hf, -, -, -, hown, -, dd, hd, hdn, -⟩ := Cond.laysFinal_spec h
  obtain ⟨c', k', c1', k1', i1', f1', hc', hk', hf', -, -, -, hown', -, dd', hd', hdn', -⟩ := Cond.laysFinal_spec h'
  cases Option.some.inj (hf.symm.trans hi)
  cases Option.some.inj (hf'.symm.trans hi')
  cases Option.some.inj (hc.symm.trans hc')
  have n1 : kf.name = O := by
    obtain ⟨z, hz, hn⟩ := Vm.findClass_spec hown
    cases Option.some.inj (hz.symm.trans (State.fieldFound?_class hi))
    exact hn
  have n2 : kf'.name = O' := by
    obtain ⟨z, hz, hn⟩ := Vm.findClass_spec hown'
    cases Option.some.inj (hz.symm.trans (State.fieldFound?_class hi'))
    exact hn
  intro hs
  rw [hs] at hd
  cases Option.some.inj (hd.symm.trans hd')
  exact hne (by rw [← n1, ← n2, ← hdn, ← hdn'])
theorem kn_st {s : State} (h : TB s) : ∀ c, ∃ q : ClassId × (Nat → Nat), 0 < c → c < 20 → u_Kn s (clt c).1 (clt c).2.1 (clt c).2.2 q.1 q.2 ∧ ∀ i j, i < (clt c).2.2 → j < (clt c).2.2 → i ≠ j → q.2 i ≠ q.2 j := by
  intro c
  by_cases hc : 0 < c ∧ c < 20
  · obtain ⟨h0, h1⟩ := hc
    have hts : ∀ w ∈ lw_all, w.before #[] s = true := fun w hw => h.good hw #[]
    obtain ⟨cC, iS, hK⟩ := u_known hts (clt_in c h0 h1) (h.good (clt_ins c h0 h1) #[])
    refine ⟨(cC, iS), fun _ _ => ⟨hK, fun i j hi hj hne => ?_⟩⟩
    obtain ⟨cf, kf, fi, fd, e1, s1⟩ := hK.1 i hi
    obtain ⟨cf', kf', fi', fd', e2, s2⟩ := hK.1 j hj
    show iS i ≠ iS j
    rw [← s1, ← s2]
    rcases nm_ok c h1 i hi j hj hne with hn | ⟨f1, f2, ho⟩
    · exact u_apart (u_lays hts (clt_in c h0 h1) hi) (u_lays hts (clt_in c h0 h1) hj) e1 e2 (by rw [(State.fieldFound?_type e1 (clt_ty c h0 h1 i hi)).1, (State.fieldFound?_type e2 (clt_ty c h0 h1 j hj)).1]; exact hn)
    · have l1 := hts _ (clt_in c h0 h1 _ (u_in_lay hi))
      have l2 := hts _ (clt_in c h0 h1 _ (u_in_lay hj))
      unfold u_lay at l1 l2
      rw [if_pos f1] at l1
      rw [if_pos f2] at l2
      exact apart_o l1 l2 e1 e2 ho
  · exact ⟨(0, fun _ => 0), fun h0 h1 => absurd ⟨h0, h1⟩ hc⟩
theorem str_st {s : State} {A : Array Value} (hs : ∀ c ∈ flatC (Jvm.Cond.and given_1 narrow_1), c.before A s = true) : ∀ i, ∃ q : Nat × Nat, i < 13 → (Term.string "EndingTown$Reader" (kidx.getD i 0)).eval A s none [] s = some (.ref q.1) ∧ va_O "java/lang/String" q.1 (fun _ => False) s s.heap ∧ va_OF "java/lang/String" "coder" "B" (.int 0) q.1 (fun _ => False) s s.heap ∧ va_OF "java/lang/String" "value" "[B" (.ref q.2) q.1 (fun _ => False) s s.heap ∧ va_T .byte q.2 (klen i) (fun j => .int (Int32.ofNat ((kch i).getD j 0))) (fun _ => False) s s.heap := by
  have hex := fun i hi => hs _ ((by decide +kernel : ∀ i, i < 13 → Cond.exactly (Term.string "EndingTown$Reader" (kidx.getD i 0)) "java/lang/String" ∈ flatC (Jvm.Cond.and given_1 narrow_1)) i hi)
  have hco := fun i hi => hs _ ((by decide +kernel : ∀ i, i < 13 → Cond.eq (.field (Term.string "EndingTown$Reader" (kidx.getD i 0)) "java/lang/String" "coder" "B") (.int 0) ∈ flatC (Jvm.Cond.and given_1 narrow_1)) i hi)
  have har := fun i hi => hs _ ((by decide +kernel : ∀ i, i < 13 → Cond.arrayOf (.field (Term.string "EndingTown$Reader" (kidx.getD i 0)) "java/lang/String" "value" "[B") .byte ∈ flatC (Jvm.Cond.and given_1 narrow_1)) i hi)
  have hle := fun i hi => hs _ ((by decide +kernel : ∀ i, i < 13 → Cond.eq (.length (.field (Term.string "EndingTown$Reader" (kidx.getD i 0)) "java/lang/String" "value" "[B")) (.int (Int32.ofNat (klen i))) ∈ flatC (Jvm.Cond.and given_1 narrow_1)) i hi)
  have hel := fun i hi j hj => hs _ ((by decide +kernel : ∀ i, i < 13 → ∀ j, j < klen i → Cond.eq (.elem (.field (Term.string "EndingTown$Reader" (kidx.getD i 0)) "java/lang/String" "value" "[B") (.int (Int32.ofNat j))) (.int (Int32.ofNat ((kch i).getD j 0))) ∈ flatC (Jvm.Cond.and given_1 narrow_1)) i hi j hj)
  intro i
  by_cases hi : i < 13
  · obtain ⟨a, c, cA, kA, q1, q2, q3, q4, q5, q6, -⟩ := Cond.exactly_spec (args := A) (first := s) (o := none) (s := s) (idx := []) (t := Term.string "EndingTown$Reader" (kidx.getD i 0)) (cls := "java/lang/String") (hex i hi)
    obtain ⟨t, ht, hT⟩ := va_Tof (f := fun j => .int (Int32.ofNat ((kch i).getD j 0))) (A := fun _ => False) (by have := klen_le i hi; omega) (har i hi) (va_eqt (hle i hi)) (fun j hj => va_eqt (hel i hi j hj)) (fun _ _ h => h)
    exact ⟨(a, t), fun _ => ⟨q1, ⟨cA, q3, q5, by rw [q6]; exact q2, fun h => h⟩, vk_OFof q1 (va_eqt (hco i hi)) (fun _ _ h => h), vk_OFof q1 ht (fun _ _ h => h), hT⟩⟩
  · exact ⟨(0, 0), fun h => absurd h hi⟩
theorem sref_in : ∀ i, i < 13 → Cond.stringRef "EndingTown$Reader" (kidx.getD i 0) (ktx i) ∈ lw_tbl := by
  intro i hi
  rcases (show i = 0 ∨ i = 1 ∨ i = 2 ∨ i = 3 ∨ i = 4 ∨ i = 5 ∨ i = 6 ∨ i = 7 ∨ i = 8 ∨ i = 9 ∨ i = 10 ∨ i = 11 ∨ i = 12 by omega) with rfl | rfl | rfl | rfl | rfl | rfl | rfl | rfl | rfl | rfl | rfl | rfl | rfl
  · exact q775
  · exact q866
  · exact q883
  · exact q884
  · exact q935
  · exact q936
  · exact q968
  · exact q998
  · exact q1003
  · exact q1012
  · exact q1029
  · exact q1034
  · exact q1058
/-- an optional reference as a number -/
theorem kq_of {C n d : String} {s : State} {H : Heap} (h : va_Zq C n d (fun _ => False) s H) : ∃ z : Nat, va_Z C n d (va_rf (if z = 0 then none else some (z - 1))) (fun _ => False) s H := by
  rcases h with h | ⟨t, h⟩
  · exact ⟨0, h⟩
  · exact ⟨t + 1, h⟩
theorem empt_st {s : State} {A : Array Value} {n : String} (hl : (Cond.laysStatic "java/util/ArrayList" n "[Ljava/lang/Object;").before A s = true) (hi : (Cond.initialized "java/util/ArrayList").before A s = true) (h1 : (Cond.arrayOf (.static "java/util/ArrayList" n "[Ljava/lang/Object;") (.object "java/lang/Object")).before A s = true) (h2 : (Cond.exactly (.static "java/util/ArrayList" n "[Ljava/lang/Object;") "[Ljava/lang/Object;").before A s = true) (h3 : (Cond.eq (.length (.static "java/util/ArrayList" n "[Ljava/lang/Object;")) (.int 0)).before A s = true) :
    ∃ t : Nat, (Term.static "java/util/ArrayList" n "[Ljava/lang/Object;").eval A s none [] s = some (.ref t) ∧ va_Z "java/util/ArrayList" n "[Ljava/lang/Object;" (.ref t) (fun _ => False) s s.heap ∧ va_T (.object "java/lang/Object") t 0 (fun _ => .null) (fun _ => False) s s.heap ∧ va_O "[Ljava/lang/Object;" t (fun _ => False) s s.heap := by
  obtain ⟨t, ht, hT⟩ := va_Tof (N := 0) (f := fun _ => .null) (A := fun _ => False) (by decide) h1 (va_eqt h3) (fun j hj => absurd hj (Nat.not_lt_zero j)) (fun _ _ h => h)
  exact ⟨t, ht, va_Zof hl hi ht (fun _ _ h => h), hT, va_Oof h2 ht (fun _ _ h => h)⟩
def Gst (T : Nat → ClassId) (sz : Nat) : Hp := (fun a => if a = T 100 ∨ a = T 101 then 57 else 0, fun _ => 0, fun _ _ => 0, fun _ _ => none, fun _ _ => 0, sz, 1201024, 5493034)
set_option maxHeartbeats 4000000 in
theorem evd_st {s : State} {b : Nat} (hts : ∀ w ∈ lw_tbl, w.before #[Value.ref b] s = true) (hgv : (Jvm.Cond.and given_1 narrow_1).before #[Value.ref b] s = true) : ∃ (D : va_G) (T : Nat → ClassId), Evd D T s.heap s ∧ T 100 ≠ T 101 ∧ T 100 < s.heap.size ∧ T 101 < s.heap.size := by
  have hs := flat_of_before _ hgv
  have htb : TB s := ⟨s, #[Value.ref b], State.WarmedH.refl _, hts⟩
  obtain ⟨fD, hD⟩ := Classical.axiomOfChoice (kn_st htb)
  obtain ⟨fS, hS⟩ := Classical.axiomOfChoice (str_st hs)
  have harr : ∀ k, ∃ cA : ClassId, 50 ≤ k → k < 57 → ArrOfT s cA (aty k) ∧ va_RA s cA (aty k) := by
    intro k
    by_cases hk : 50 ≤ k ∧ k < 57
    · obtain ⟨cA, h⟩ := arr_st htb k hk.1 hk.2
      exact ⟨cA, fun _ _ => h⟩
    · exact ⟨0, fun h0 h1 => absurd ⟨h0, h1⟩ hk⟩
  obtain ⟨fA, hA⟩ := Classical.axiomOfChoice harr
  obtain ⟨t0, e0, z0, v0, o0⟩ := empt_st (A := #[Value.ref b]) (s := s) (n := "DEFAULTCAPACITY_EMPTY_ELEMENTDATA") (hts _ q163) (htb.good (clt_ini 16 (by decide) (by decide)) _) (hs _ (by decide +kernel)) (hs _ (by decide +kernel)) (hs _ (by decide +kernel))
  obtain ⟨t1, e1, z1, v1, o1⟩ := empt_st (A := #[Value.ref b]) (s := s) (n := "EMPTY_ELEMENTDATA") (hts _ q626) (htb.good (clt_ini 16 (by decide) (by decide)) _) (hs _ (by decide +kernel)) (hs _ (by decide +kernel)) (hs _ (by decide +kernel))
  have hne : t0 ≠ t1 := va_neR (hs (Cond.not (.eq (.static "java/util/ArrayList" "DEFAULTCAPACITY_EMPTY_ELEMENTDATA" "[Ljava/lang/Object;") (.static "java/util/ArrayList" "EMPTY_ELEMENTDATA" "[Ljava/lang/Object;"))) (by decide +kernel)) e0 e1
  obtain ⟨k0, hk0⟩ := kq_of (va_Zqof (A := fun _ => False) (hts _ q670) (htb.good q114 _) (hs (Cond.isRef (.static "java/lang/Throwable" "UNASSIGNED_STACK" "[Ljava/lang/StackTraceElement;")) (by decide +kernel)) (fun _ _ h => h))
  obtain ⟨k1, hk1⟩ := kq_of (va_Zqof (A := fun _ => False) (hts _ q672) (htb.good q114 _) (hs (Cond.isRef (.static "java/lang/Throwable" "SUPPRESSED_SENTINEL" "Ljava/util/List;")) (by decide +kernel)) (fun _ _ h => h))
  obtain ⟨k2, hk2⟩ := kq_of (va_Zqof (A := fun _ => False) (hts _ q805) (htb.good q122 _) (hs (Cond.isRef (.static "jdk/internal/util/Preconditions" "SIOOBE_FORMATTER" "Ljava/util/function/BiFunction;")) (by decide +kernel)) (fun _ _ h => h))
  have hcs := va_Zof (A := fun _ => False) (hts _ q789) (htb.good q120 _) (va_eqt (hs (Cond.eq (.static "java/lang/String" "COMPACT_STRINGS" "Z") (.int 1)) (by decide +kernel))) (fun _ _ h => h)
  obtain ⟨m0, hm0⟩ := va_Mi.of (hs (Cond.isRef (.mirror "java/util/ArrayList")) (by decide +kernel))
  obtain ⟨m1, hm1⟩ := va_Mi.of (hs (Cond.isRef (.mirror "[Ljava/lang/Object;")) (by decide +kernel))
  have hnc : ∀ c1 c2 : ClassId, s.vm.findClass "java/lang/IllegalArgumentException" = some c1 → s.vm.findClass "java/util/NoSuchElementException" = some c2 → s.vm.assignable c1 c2 = false := by
    intro c1 c2 g1 g2
    have h := hs (Cond.not (Cond.castable "java/lang/IllegalArgumentException" "java/util/NoSuchElementException")) (by decide +kernel)
    simpa [Cond.before, Cond.holds, Cond.value, g1, g2] using h
  refine ⟨(fun c => (fD c).1, fun c => (fD c).2), fun n => if n < 57 then fA n else if n = 100 then t0 else if n = 101 then t1 else if n = 102 then m0 else if n = 103 then m1 else if n = 110 then k0 else if n = 111 then k1 else if n = 112 then k2 else if n < 133 then (fS (n - 120)).1 else (fS (n - 140)).2, ⟨htb, ⟨fun c h0 h1 => hD c h0 h1, fun k h0 h1 => ?_⟩, ?_⟩, hne, (Array.getElem?_eq_some_iff.mp v0.choose_spec.1).1, (Array.getElem?_eq_some_iff.mp v1.choose_spec.1).1⟩
  · show ArrOfT s (if k < 57 then fA k else _) (aty k) ∧ va_RA s (if k < 57 then fA k else _) (aty k)
    rw [if_pos h1]
    exact hA k h0 h1
  · refine ⟨z0, z1, v0, v1, hne, hk0, hk1, hcs, hk2, hm0, hm1, ⟨va_Dc.of (hts _ q619), LSt.of (hts _ q670), LSt.of (hts _ q672), o0, o1, hnc⟩, fun i hi => ?_⟩
    obtain ⟨a1, a2, a3, a4, a5⟩ := hS i hi
    have ek : (fun n => if n < 57 then fA n else if n = 100 then t0 else if n = 101 then t1 else if n = 102 then m0 else if n = 103 then m1 else if n = 110 then k0 else if n = 111 then k1 else if n = 112 then k2 else if n < 133 then (fS (n - 120)).1 else (fS (n - 140)).2) (120 + i) = (fS i).1 := by
      show (if 120 + i < 57 then _ else _) = _
      rw [if_neg (by omega), if_neg (by omega), if_neg (by omega), if_neg (by omega), if_neg (by omega), if_neg (by omega), if_neg (by omega), if_neg (by omega), if_pos (by omega), Nat.add_sub_cancel_left]
    have ev : (fun n => if n < 57 then fA n else if n = 100 then t0 else if n = 101 then t1 else if n = 102 then m0 else if n = 103 then m1 else if n = 110 then k0 else if n = 111 then k1 else if n = 112 then k2 else if n < 133 then (fS (n - 120)).1 else (fS (n - 140)).2) (140 + i) = (fS i).2 := by
      show (if 140 + i < 57 then _ else _) = _
      rw [if_neg (by omega), if_neg (by omega), if_neg (by omega), if_neg (by omega), if_neg (by omega), if_neg (by omega), if_neg (by omega), if_neg (by omega), if_neg (by omega), Nat.add_sub_cancel_left]
    unfold ZS
    rw [ek, ev]
    exact ⟨vk_R.of (hts _ (sref_in i hi)) a1, a2, a3, a4, a5⟩
theorem hi_st {D : va_G} {T : Nat → ClassId} {s : State} (h0 : T 100 < s.heap.size) (h1 : T 101 < s.heap.size) : HI (twd D T s.heap) (Gst T s.heap.size) s (rmX (twd D T s.heap) 2048 84000 (Gst T s.heap.size)) s.heap [] 0 0 (Gst T s.heap.size) := by
  refine ⟨⟨rfl, Nat.le_refl _, fun _ _ => rfl, fun a ha => ?_⟩, fun a h => Or.inl h, va_S.rf, Nat.le_of_eq (Nat.zero_add _), Nat.le_of_eq (Nat.zero_add _), Ext.rf _⟩
  have hk : a = T 100 ∨ a = T 101 := by
    by_cases h : a = T 100 ∨ a = T 101
    · exact h
    · exact absurd (if_neg h) ha
  have e : gK (Gst T s.heap.size) a = 57 := if_pos hk
  exact ⟨⟨fun h => absurd h (by rw [e]; decide), fun _ h => absurd h (by rw [e]; decide), fun _ => ⟨e, hk, rfl, by rcases hk with rfl | rfl <;> assumption⟩⟩, Or.inr e⟩
