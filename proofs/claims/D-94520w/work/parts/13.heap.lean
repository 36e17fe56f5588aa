/-! HEAP: a component heap, tied to the machine's; its rows -/
set_option maxRecDepth 100000
/-- kinds, lengths, int slots, reference slots, long slots, size, cells left, slots left -/
abbrev Hp : Type := (Nat → Nat) × (Nat → Nat) × (Nat → Nat → Int32) × (Nat → Nat → Option Nat) × (Nat → Nat → Int64) × Nat × Nat × Nat
def gK (G : Hp) : Nat → Nat := G.1
def gN (G : Hp) : Nat → Nat := G.2.1
def gI (G : Hp) : Nat → Nat → Int32 := G.2.2.1
def gR (G : Hp) : Nat → Nat → Option Nat := G.2.2.2.1
def gL (G : Hp) : Nat → Nat → Int64 := G.2.2.2.2.1
def gZ (G : Hp) : Nat := G.2.2.2.2.2.1
def gC (G : Hp) : Nat := G.2.2.2.2.2.2.1
def gS (G : Hp) : Nat := G.2.2.2.2.2.2.2
def wI (G : Hp) (a k : Nat) (v : Int32) : Hp := (gK G, gN G, fun b j => if b = a ∧ j = k then v else gI G b j, gR G, gL G, gZ G, gC G, gS G)
def wR (G : Hp) (a k : Nat) (v : Option Nat) : Hp := (gK G, gN G, gI G, fun b j => if b = a ∧ j = k then v else gR G b j, gL G, gZ G, gC G, gS G)
def wL (G : Hp) (a k : Nat) (v : Int64) : Hp := (gK G, gN G, gI G, gR G, fun b j => if b = a ∧ j = k then v else gL G b j, gZ G, gC G, gS G)
def nw (G : Hp) (kd n sl : Nat) : Hp := (fun b => if b = gZ G then kd else gK G b, fun b => if b = gZ G then n else gN G b, fun b j => if b = gZ G then 0 else gI G b j, fun b j => if b = gZ G then none else gR G b j, fun b j => if b = gZ G then 0 else gL G b j, gZ G + 1, gC G - 1, gS G - sl)
def ad (r : Option Nat) : Nat := r.getD 0
def isO (G : Hp) (r : Option Nat) (kd : Nat) : Prop := ∃ a, r = some a ∧ gK G a = kd
theorem isO.ad {G : Hp} {r : Option Nat} {kd : Nat} (h : isO G r kd) : r = some (ad r) ∧ gK G (ad r) = kd := by
  obtain ⟨a, rfl, h⟩ := h
  exact ⟨rfl, h⟩
def sty (kd j : Nat) : Nat := if kd < 50 then (ftab kd).getD j 0 else if kd < 53 then 0 else if kd = 53 then 2 else 1
def sv (G : Hp) (a j : Nat) : Value := match sty (gK G a) j with
  | 0 => .int (gI G a j)
  | 1 => va_rf (gR G a j)
  | _ => .long (gL G a j)
theorem sv_0 {G : Hp} {a j : Nat} (h : sty (gK G a) j = 0) : sv G a j = .int (gI G a j) := by unfold sv; rw [h]; rfl
theorem sv_1 {G : Hp} {a j : Nat} (h : sty (gK G a) j = 1) : sv G a j = va_rf (gR G a j) := by unfold sv; rw [h]; rfl
theorem sv_2 {G : Hp} {a j : Nat} (h : sty (gK G a) j = 2) : sv G a j = .long (gL G a j) := by unfold sv; rw [h]; rfl
def aty : Nat → FieldType
  | 50 => .int
  | 51 => .byte
  | 52 => .boolean
  | 53 => .long
  | 54 => .object "java/lang/Object"
  | 55 => .object "EndingTown$Letters"
  | _ => .object "EndingTown$How"
def KN (D : va_G) (T : Nat → ClassId) (U : State) : Prop := (∀ c, 0 < c → c < 20 → u_Kn U (clt c).1 (clt c).2.1 (clt c).2.2 (D.1 c) (D.2 c) ∧ ∀ i j, i < (clt c).2.2 → j < (clt c).2.2 → i ≠ j → D.2 c i ≠ D.2 c j) ∧ ∀ k, 50 ≤ k → k < 57 → ArrOfT U (T k) (aty k) ∧ va_RA U (T k) (aty k)
def kq (T : Nat → ClassId) (i : Nat) : Option Nat := if T (110 + i) = 0 then none else some (T (110 + i) - 1)
def klen : Nat → Nat
  | 0 => 6 | 1 => 4 | 2 => 6 | 3 => 5 | 4 => 4 | 5 => 5 | 6 => 4 | 7 => 2 | 8 => 5 | 9 => 4 | 10 => 6 | 11 => 6 | _ => 3
/-- the keywords' letters: places near person thing loud never rule at weigh stem ending change not -/
def kch : Nat → List Nat
  | 0 => [112, 108, 97, 99, 101, 115] | 1 => [110, 101, 97, 114] | 2 => [112, 101, 114, 115, 111, 110] | 3 => [116, 104, 105, 110, 103] | 4 => [108, 111, 117, 100] | 5 => [110, 101, 118, 101, 114] | 6 => [114, 117, 108, 101] | 7 => [97, 116] | 8 => [119, 101, 105, 103, 104] | 9 => [115, 116, 101, 109] | 10 => [101, 110, 100, 105, 110, 103] | 11 => [99, 104, 97, 110, 103, 101] | _ => [110, 111, 116]
def kidx : List Nat := [221, 224, 227, 229, 168, 175, 232, 236, 239, 207, 208, 212, 216]
def ktx : Nat → String
  | 0 => "places" | 1 => "near" | 2 => "person" | 3 => "thing" | 4 => "loud" | 5 => "never" | 6 => "rule" | 7 => "at" | 8 => "weigh" | 9 => "stem" | 10 => "ending" | 11 => "change" | _ => "not"
/-- the keyword i as a String constant of the Reader: object T (120 + i), bytes T (140 + i) -/
def ZS (T : Nat → ClassId) (Z : Heap) (i : Nat) (U : State) : Prop := vk_R "EndingTown$Reader" (kidx.getD i 0) (ktx i) (T (120 + i)) U ∧ va_O "java/lang/String" (T (120 + i)) (fun _ => False) U Z ∧ va_OF "java/lang/String" "coder" "B" (.int 0) (T (120 + i)) (fun _ => False) U Z ∧ va_OF "java/lang/String" "value" "[B" (.ref (T (140 + i))) (T (120 + i)) (fun _ => False) U Z ∧ va_T .byte (T (140 + i)) (klen i) (fun j => .int (Int32.ofNat ((kch i).getD j 0))) (fun _ => False) U Z
/-- a static field of Throwable, as the tables lay it -/
def LSt (n d : String) (U : State) (Z : Heap) : Prop := ∃ (c : ClassId) (k : Class) (i : Nat) (f : Field) (a : Nat) (cell : Cell), U.vm.findClass "java/lang/Throwable" = some c ∧ U.fieldFound? "java/lang/Throwable" n d = some (c, k, i, f) ∧ f.isStatic = true ∧ k.statics = some a ∧ Z[a]? = some cell ∧ cell.vm.isStatics = true ∧ cell.cls = c ∧ f.slot < cell.slots.size ∧ k.staticTypes[f.slot]? = some f.type
theorem LSt.moved {n d : String} {u U : State} {Z : Heap} (hvm : u.vm.Alike U.vm) (h : LSt n d u Z) : LSt n d U Z := by
  obtain ⟨c, k, i, f, a, cell, h0, h1, h2, h3, h4, h5, h6, h7, h8⟩ := h
  obtain ⟨k', hi', he⟩ := State.fieldFound?_setVm hvm h1
  exact ⟨c, k', i, f, a, cell, by rw [hvm.findClass]; exact h0, hi', h2, by rw [he]; exact h3, h4, h5, h6, h7, by rw [he]; exact h8⟩
theorem LSt.same {n d : String} {u U : State} {Z : Heap} (hv : U.vm = u.vm) (h : LSt n d u Z) : LSt n d U Z := h.moved (by rw [hv]; exact Vm.Alike.refl _)
theorem LSt.word {n d : String} {U : State} {a : Array Value} (h : LSt n d U U.heap) : (Cond.laysStatic "java/lang/Throwable" n d).before a U = true := by
  obtain ⟨c, k, i, f, aa, cell, h0, h1, h2, h3, h4, h5, h6, h7, h8⟩ := h
  show (Cond.laysStatic "java/lang/Throwable" n d).holds a U none U [] = true
  simp [Cond.holds, Cond.value, h0, h1, h2, h3, h4, h5, h6, h7, h8]
theorem LSt.of {n d : String} {U : State} {a : Array Value} (h : (Cond.laysStatic "java/lang/Throwable" n d).before a U = true) : LSt n d U U.heap := by
  obtain ⟨c, k, i, f, aa, cell, h0, h1, h2, h3, h4, h5, h6, h7, h8⟩ := Cond.laysStatic_spec h
  exact ⟨c, k, i, f, aa, cell, h0, h1, h2, h3, h4, h5, h6, h7, h8⟩
/-- constants of the start: the two empty arrays of ArrayList (T 100, T 101), statics of Throwable and of the JDK, class objects (T 102, T 103), the keywords -/
def ZN (T : Nat → ClassId) (Z : Heap) (U : State) : Prop :=
  va_Z "java/util/ArrayList" "DEFAULTCAPACITY_EMPTY_ELEMENTDATA" "[Ljava/lang/Object;" (.ref (T 100)) (fun _ => False) U Z ∧ va_Z "java/util/ArrayList" "EMPTY_ELEMENTDATA" "[Ljava/lang/Object;" (.ref (T 101)) (fun _ => False) U Z ∧
  va_T (.object "java/lang/Object") (T 100) 0 (fun _ => .null) (fun _ => False) U Z ∧ va_T (.object "java/lang/Object") (T 101) 0 (fun _ => .null) (fun _ => False) U Z ∧ T 100 ≠ T 101 ∧
  va_Z "java/lang/Throwable" "UNASSIGNED_STACK" "[Ljava/lang/StackTraceElement;" (va_rf (kq T 0)) (fun _ => False) U Z ∧ va_Z "java/lang/Throwable" "SUPPRESSED_SENTINEL" "Ljava/util/List;" (va_rf (kq T 1)) (fun _ => False) U Z ∧
  va_Z "java/lang/String" "COMPACT_STRINGS" "Z" (.int 1) (fun _ => False) U Z ∧ va_Z "jdk/internal/util/Preconditions" "SIOOBE_FORMATTER" "Ljava/util/function/BiFunction;" (va_rf (kq T 2)) (fun _ => False) U Z ∧
  va_Mi "java/util/ArrayList" (T 102) U ∧ va_Mi "[Ljava/lang/Object;" (T 103) U ∧ (va_Dc U ∧ LSt "UNASSIGNED_STACK" "[Ljava/lang/StackTraceElement;" U Z ∧ LSt "SUPPRESSED_SENTINEL" "Ljava/util/List;" U Z ∧ va_O "[Ljava/lang/Object;" (T 100) (fun _ => False) U Z ∧ va_O "[Ljava/lang/Object;" (T 101) (fun _ => False) U Z ∧ ∀ c1 c2 : ClassId, U.vm.findClass "java/lang/IllegalArgumentException" = some c1 → U.vm.findClass "java/util/NoSuchElementException" = some c2 → U.vm.assignable c1 c2 = false) ∧ ∀ i, i < 13 → ZS T Z i U
theorem ZN.moved {T : Nat → ClassId} {Z : Heap} {u U : State} (hvm : u.vm.Alike U.vm) (hR : ∀ i, i < 13 → vk_R "EndingTown$Reader" (kidx.getD i 0) (ktx i) (T (120 + i)) u → vk_R "EndingTown$Reader" (kidx.getD i 0) (ktx i) (T (120 + i)) U) (h : ZN T Z u) : ZN T Z U := by
  obtain ⟨h1, h2, h3, h4, h5, h6, h7, h8, h9, h10, h11, h12, h13⟩ := h
  exact ⟨h1.moved hvm, h2.moved hvm, h3.moved hvm, h4.moved hvm, h5, h6.moved hvm, h7.moved hvm, h8.moved hvm, h9.moved hvm, h10.moved hvm, h11.moved hvm, ⟨h12.1.moved hvm, h12.2.1.moved hvm, h12.2.2.1.moved hvm, h12.2.2.2.1.moved hvm, h12.2.2.2.2.1.moved hvm, fun c1 c2 g1 g2 => by rw [hvm.findClass] at g1 g2; rw [hvm.assignable]; exact h12.2.2.2.2.2 c1 c2 g1 g2⟩, fun i hi => ⟨hR i hi (h13 i hi).1, (h13 i hi).2.1.moved hvm, (h13 i hi).2.2.1.moved hvm, (h13 i hi).2.2.2.1.moved hvm, (h13 i hi).2.2.2.2.moved hvm⟩⟩
def Evd (D : va_G) (T : Nat → ClassId) (Z : Heap) (U : State) : Prop := TB U ∧ KN D T U ∧ ZN T Z U
theorem KN.moved {D : va_G} {T : Nat → ClassId} {u U : State} (hvm : u.vm.Alike U.vm) (h : KN D T u) : KN D T U := ⟨fun c h0 h1 => ⟨u_Kn_moved hvm (h.1 c h0 h1).1, (h.1 c h0 h1).2⟩, fun k h0 h1 => ⟨arrOfT_moved hvm (h.2 k h0 h1).1, (h.2 k h0 h1).2.moved hvm⟩⟩
theorem Evd.warm {D : va_G} {T : Nat → ClassId} {Z : Heap} {u U : State} (h : Evd D T Z u) (hW : u.WarmedH U.vm) : Evd D T Z U := ⟨h.1.warm hW, h.2.1.moved hW.alike, h.2.2.moved hW.alike (fun _ _ hr => hr.warm hW)⟩
theorem Evd.same {D : va_G} {T : Nat → ClassId} {Z : Heap} {u U : State} (h : Evd D T Z u) (hv : U.vm = u.vm) : Evd D T Z U := ⟨h.1.same hv, h.2.1.moved (by rw [hv]; exact Vm.Alike.refl _), h.2.2.moved (by rw [hv]; exact Vm.Alike.refl _) (fun _ _ hr => hr.same hv)⟩
def cAt (D : va_G) (T : Nat → ClassId) (G : Hp) (a : Nat) (H : Heap) : Prop := (gK G a < 50 → gK G a < 20 ∧ t_OB a (D.1 (gK G a)) (ftab (gK G a)).length (D.2 (gK G a)) H (sv G a)) ∧ (50 ≤ gK G a → gK G a < 57 → H[a]? = some (arrV (T (gK G a)) (gN G a) (sv G a))) ∧ (57 ≤ gK G a → gK G a = 57 ∧ (a = T 100 ∨ a = T 101) ∧ gN G a = 0 ∧ a < H.size)
def Rep (D : va_G) (T : Nat → ClassId) (Z : Heap) (G : Hp) (H : Heap) : Prop := gZ G = H.size ∧ Z.size ≤ H.size ∧ (∀ q : Nat, q < Z.size → H[q]? = Z[q]?) ∧ ∀ a, gK G a ≠ 0 → cAt D T G a H ∧ (Z.size ≤ a ∨ gK G a = 57)
/-- kinds and lengths stay; the heap grows -/
def Ext (G G' : Hp) : Prop := (∀ a, gK G a ≠ 0 → gK G' a = gK G a ∧ gN G' a = gN G a) ∧ gZ G ≤ gZ G'
theorem Ext.rf (G : Hp) : Ext G G := ⟨fun _ _ => ⟨rfl, rfl⟩, Nat.le_refl _⟩
theorem Ext.tr (G1 G2 G3 : Hp) (h1 : Ext G1 G2) (h2 : Ext G2 G3) : Ext G1 G3 := ⟨fun a h => by
  obtain ⟨a1, a2⟩ := h1.1 a h
  obtain ⟨b1, b2⟩ := h2.1 a (by rw [a1]; exact h)
  exact ⟨b1.trans a1, b2.trans a2⟩, Nat.le_trans h1.2 h2.2⟩
theorem Ext.kn {G G' : Hp} (hK : gK G' = gK G) (hN : gN G' = gN G) (hZ : gZ G' = gZ G) : Ext G G' := ⟨fun a _ => by rw [hK, hN]; exact ⟨rfl, rfl⟩, by rw [hZ]; exact Nat.le_refl _⟩
theorem isO.ext {G G' : Hp} {r : Option Nat} {kd : Nat} (h : isO G r kd) (h0 : 0 < kd) (hx : Ext G G') : isO G' r kd := by
  obtain ⟨a, rfl, h⟩ := h
  exact ⟨a, rfl, by rw [(hx.1 a (by omega)).1]; exact h⟩
abbrev twd (D : va_G) (T : Nat → ClassId) (Z : Heap) : Wd Hp := (fun G H => Rep D T Z G H, fun G a => gK G a ≠ 0 ∧ Z.size ≤ a, gC, gS, Ext)
theorem cAt.lt {D : va_G} {T : Nat → ClassId} {G : Hp} {a : Nat} {H : Heap} (h : cAt D T G a H) : a < H.size := by
  by_cases h5 : gK G a < 50
  · obtain ⟨-, cell, h2, -⟩ := h.1 h5
    exact (Array.getElem?_eq_some_iff.mp h2).1
  · by_cases h7 : gK G a < 57
    · exact (Array.getElem?_eq_some_iff.mp (h.2.1 (by omega) h7)).1
    · exact (h.2.2 (by omega)).2.2.2
theorem cAt.kept {D : va_G} {T : Nat → ClassId} {G G' : Hp} {a : Nat} {H H' : Heap} (h : cAt D T G a H) (hK : gK G' a = gK G a) (hN : gN G' a = gN G a) (hv : sv G' a = sv G a) (hq : H'[a]? = H[a]?) (hz : H.size ≤ H'.size) : cAt D T G' a H' := by
  unfold cAt at h ⊢
  rw [hK, hN, hv]
  exact ⟨fun h5 => ⟨(h.1 h5).1, (h.1 h5).2.kept hq⟩, fun h5 h7 => by rw [hq]; exact h.2.1 h5 h7, fun h7 => ⟨(h.2.2 h7).1, (h.2.2 h7).2.1, (h.2.2 h7).2.2.1, Nat.lt_of_lt_of_le (h.2.2 h7).2.2.2 hz⟩⟩
/-- one cell is written -/
theorem Rep.set {D : va_G} {T : Nat → ClassId} {Z : Heap} {G G' : Hp} {H H' : Heap} {a : Nat} (h : Rep D T Z G H) (hz : Z.size ≤ a) (hK : gK G' = gK G) (hN : gN G' = gN G) (hZ : gZ G' = gZ G) (hv : ∀ b, b ≠ a → sv G' b = sv G b) (z : H'.size = H.size) (oq : ∀ q : Nat, q ≠ a → H'[q]? = H[q]?) (hc : cAt D T G' a H') : Rep D T Z G' H' := by
  obtain ⟨h1, h2, h3, h4⟩ := h
  refine ⟨by rw [hZ, z]; exact h1, by rw [z]; exact h2, fun q hq => by rw [oq q (by omega)]; exact h3 q hq, fun b hb => ?_⟩
  rw [hK] at hb
  obtain ⟨g1, g2⟩ := h4 b hb
  refine ⟨?_, by rw [hK]; exact g2⟩
  by_cases hba : b = a
  · subst hba; exact hc
  · exact g1.kept (by rw [hK]) (by rw [hN]) (hv b hba) (oq b hba) (by omega)
/-- a cell is made -/
theorem Rep.new {D : va_G} {T : Nat → ClassId} {Z : Heap} {G : Hp} {H H' : Heap} {kd n sl : Nat} (h : Rep D T Z G H) (z : H'.size = H.size + 1) (oq : ∀ q : Nat, q < H.size → H'[q]? = H[q]?) (hc : cAt D T (nw G kd n sl) H.size H') : Rep D T Z (nw G kd n sl) H' := by
  obtain ⟨h1, h2, h3, h4⟩ := h
  refine ⟨by rw [z, ← h1]; rfl, by omega, fun q hq => by rw [oq q (by omega)]; exact h3 q hq, fun b hb => ?_⟩
  by_cases hba : b = H.size
  · subst hba; exact ⟨hc, Or.inl h2⟩
  · have hbz : b ≠ gZ G := by rw [h1]; exact hba
    have eK : gK (nw G kd n sl) b = gK G b := if_neg hbz
    have eN : gN (nw G kd n sl) b = gN G b := if_neg hbz
    rw [eK] at hb
    obtain ⟨g1, g2⟩ := h4 b hb
    refine ⟨g1.kept eK eN ?_ (oq b g1.lt) (by omega), by rw [eK]; exact g2⟩
    funext j
    have eI : gI (nw G kd n sl) b j = gI G b j := if_neg hbz
    have eR : gR (nw G kd n sl) b j = gR G b j := if_neg hbz
    have eL : gL (nw G kd n sl) b j = gL G b j := if_neg hbz
    unfold sv
    rw [eK, eI, eR, eL]
theorem sv_wI_ne {G : Hp} {a k b : Nat} {v : Int32} (h : b ≠ a) : sv (wI G a k v) b = sv G b := by
  funext j
  have e : gI (wI G a k v) b j = gI G b j := if_neg (fun z => h z.1)
  unfold sv
  rw [e]; rfl
theorem sv_wR_ne {G : Hp} {a k b : Nat} {v : Option Nat} (h : b ≠ a) : sv (wR G a k v) b = sv G b := by
  funext j
  have e : gR (wR G a k v) b j = gR G b j := if_neg (fun z => h z.1)
  unfold sv
  rw [e]; rfl
theorem sv_wL_ne {G : Hp} {a k b : Nat} {v : Int64} (h : b ≠ a) : sv (wL G a k v) b = sv G b := by
  funext j
  have e : gL (wL G a k v) b j = gL G b j := if_neg (fun z => h z.1)
  unfold sv
  rw [e]; rfl
theorem sv_wI {G : Hp} {a k : Nat} {v : Int32} (h : sty (gK G a) k = 0) : sv (wI G a k v) a = updV (sv G a) k (.int v) := by
  funext j
  by_cases hj : j = k
  · subst hj
    rw [sv_0 (show sty (gK (wI G a j v) a) j = 0 from h)]
    simp [updV, gI, wI]
  · have e : gI (wI G a k v) a j = gI G a j := if_neg (fun z => hj z.2)
    have e2 : sv (wI G a k v) a j = sv G a j := by unfold sv; rw [e]; rfl
    rw [e2]; simp [updV, hj]
theorem sv_wR {G : Hp} {a k : Nat} {v : Option Nat} (h : sty (gK G a) k = 1) : sv (wR G a k v) a = updV (sv G a) k (va_rf v) := by
  funext j
  by_cases hj : j = k
  · subst hj
    rw [sv_1 (show sty (gK (wR G a j v) a) j = 1 from h)]
    simp [updV, gR, wR]
  · have e : gR (wR G a k v) a j = gR G a j := if_neg (fun z => hj z.2)
    have e2 : sv (wR G a k v) a j = sv G a j := by unfold sv; rw [e]; rfl
    rw [e2]; simp [updV, hj]
theorem sv_wL {G : Hp} {a k : Nat} {v : Int64} (h : sty (gK G a) k = 2) : sv (wL G a k v) a = updV (sv G a) k (.long v) := by
  funext j
  by_cases hj : j = k
  · subst hj
    rw [sv_2 (show sty (gK (wL G a j v) a) j = 2 from h)]
    simp [updV, gL, wL]
  · have e : gL (wL G a k v) a j = gL G a j := if_neg (fun z => hj z.2)
    have e2 : sv (wL G a k v) a j = sv G a j := by unfold sv; rw [e]; rfl
    rw [e2]; simp [updV, hj]
/-- a field by its reference in a class file, in an object of the class kd -/
def FL (D : va_G) (T : Nat → ClassId) (Z : Heap) (own : String) (idx kd k : Nat) : Prop := ∀ (s : State) (args : Array Value), Evd D T Z s → ∃ (ref name desc : String) (cf : Nat) (kf : Class) (fi : Nat) (f : Field), s.fieldFound? ref name desc = some (cf, kf, fi, f) ∧ s.fieldFound? ((clt kd).2.1 k).1 ((clt kd).2.1 k).2.1 ((clt kd).2.1 k).2.2.1 = some (cf, kf, fi, f) ∧ f.isStatic = false ∧ f.slot = D.2 kd k ∧ ((Cond.fieldLink own idx ref name desc).before args s = true ∨ ∃ host, (Cond.fieldLinkNest own idx ref name desc host).before args s = true)
theorem FL.mk {D : va_G} {T : Nat → ClassId} {Z : Heap} {own : String} {idx kd k : Nat} (h0 : 0 < kd) (h1 : kd < 20) (hk : k < (clt kd).2.2) (hl : Cond.fieldLink own idx ((clt kd).2.1 k).1 ((clt kd).2.1 k).2.1 ((clt kd).2.1 k).2.2.1 ∈ lw_all) : FL D T Z own idx kd k := by
  intro s args hE
  obtain ⟨⟨hS, hfc, kC, hkC, hkind⟩, -⟩ := hE.2.1.1 kd h0 h1
  obtain ⟨cf, kf, fi, f, hi, hsl⟩ := hS k hk
  exact ⟨_, _, _, cf, kf, fi, f, hi, hi, (u_facts hfc hkC (u_lays (ws := lw_all) (fun w h => hE.1.good h args) (clt_in kd h0 h1) hk) hi).1, hsl, Or.inl (hE.1.good hl args)⟩
theorem FL.mkN {D : va_G} {T : Nat → ClassId} {Z : Heap} {own host : String} {idx kd k : Nat} (h0 : 0 < kd) (h1 : kd < 20) (hk : k < (clt kd).2.2) (hl : Cond.fieldLinkNest own idx ((clt kd).2.1 k).1 ((clt kd).2.1 k).2.1 ((clt kd).2.1 k).2.2.1 host ∈ lw_tbl) : FL D T Z own idx kd k := by
  intro s args hE
  obtain ⟨⟨hS, hfc, kC, hkC, hkind⟩, -⟩ := hE.2.1.1 kd h0 h1
  obtain ⟨cf, kf, fi, f, hi, hsl⟩ := hS k hk
  exact ⟨_, _, _, cf, kf, fi, f, hi, hi, (u_facts hfc hkC (u_lays (ws := lw_all) (fun w h => hE.1.good h args) (clt_in kd h0 h1) hk) hi).1, hsl, Or.inr ⟨host, hE.1.nf hl args⟩⟩
theorem FL.mkS {D : va_G} {T : Nat → ClassId} {Z : Heap} {own ref : String} {idx kd k : Nat} (h0 : 0 < kd) (h1 : kd < 20) (hk : k < (clt kd).2.2) (hl : Cond.fieldLink own idx ref ((clt kd).2.1 k).2.1 ((clt kd).2.1 k).2.2.1 ∈ lw_all) (hs : Cond.sameField ref ((clt kd).2.1 k).1 ((clt kd).2.1 k).2.1 ((clt kd).2.1 k).2.2.1 ∈ lw_all) : FL D T Z own idx kd k := by
  intro s args hE
  obtain ⟨⟨hS, hfc, kC, hkC, hkind⟩, -⟩ := hE.2.1.1 kd h0 h1
  obtain ⟨cf, kf, fi, f, hi, hsl⟩ := hS k hk
  exact ⟨_, _, _, cf, kf, fi, f, u_same (hE.1.good hs args) _ hi, hi, (u_facts hfc hkC (u_lays (ws := lw_all) (fun w h => hE.1.good h args) (clt_in kd h0 h1) hk) hi).1, hsl, Or.inl (hE.1.good hl args)⟩
/-- .. and what may be stored in it -/
def FP (D : va_G) (T : Nat → ClassId) (Z : Heap) (own : String) (idx kd k : Nat) (ini : Bool) : Prop := ∀ (s : State) (args : Array Value) (m : MethodId), Evd D T Z s → s.vm.findClass own = some m.cls → ∃ (ref name desc : String) (cf : Nat) (kf : Class) (fi : Nat) (f : Field), s.fieldFound? ref name desc = some (cf, kf, fi, f) ∧ f.isStatic = false ∧ f.slot = D.2 kd k ∧ ((Cond.fieldLink own idx ref name desc).before args s = true ∨ ∃ host, (Cond.fieldLinkNest own idx ref name desc host).before args s = true) ∧ (hasFlag f.accessFlags Acc.final = false ∨ (ini = true ∧ m.cls = cf)) ∧
  ∀ v : Value, narrow (tyt kd k) v = v → fits (tyt kd k) v = true → narrow f.type v = v ∧ s.fitsSlot (D.1 kd) .none f.slot v = true
theorem FP.mk {D : va_G} {T : Nat → ClassId} {Z : Heap} {own : String} {idx kd k : Nat} (h0 : 0 < kd) (h1 : kd < 20) (hk : k < (clt kd).2.2) (hfin : ((clt kd).2.1 k).2.2.2 = false) (hf : FL D T Z own idx kd k) : FP D T Z own idx kd k false := by
  intro s args m hE hown
  obtain ⟨ref, name, desc, cf, kf, fi, f, g1, g1b, g2, g3, g4⟩ := hf s args hE
  obtain ⟨⟨hS, hfc, kC, hkC, hkind⟩, -⟩ := hE.2.1.1 kd h0 h1
  have hlay := hE.1.good (clt_in kd h0 h1 _ (u_in_lay hk)) args
  unfold u_lay at hlay
  rw [if_neg (by rw [hfin]; decide)] at hlay
  have hff : hasFlag f.accessFlags Acc.final = false := by
    obtain ⟨c, k', c', kk', i', f', r1, r2, hi', hst, hfn, -⟩ := Cond.lays_spec hlay
    cases g1b.symm.trans hi'
    exact hfn
  exact ⟨ref, name, desc, cf, kf, fi, f, g1, g2, g3, g4, Or.inl hff, fun v hn hfit => u_fits hfc hkC hkind (Or.inl hlay) g1b (clt_ty kd h0 h1 k hk) hn hfit⟩
theorem FP.mkF {D : va_G} {T : Nat → ClassId} {Z : Heap} {own : String} {idx kd k : Nat} (h0 : 0 < kd) (h1 : kd < 20) (hk : k < (clt kd).2.2) (hfin : ((clt kd).2.1 k).2.2.2 = true) (hdecl : ((clt kd).2.1 k).1 = own) (hf : FL D T Z own idx kd k) : FP D T Z own idx kd k true := by
  intro s args m hE hown
  obtain ⟨ref, name, desc, cf, kf, fi, f, g1, g1b, g2, g3, g4⟩ := hf s args hE
  obtain ⟨⟨hS, hfc, kC, hkC, hkind⟩, -⟩ := hE.2.1.1 kd h0 h1
  have hlay := hE.1.good (clt_in kd h0 h1 _ (u_in_lay hk)) args
  unfold u_lay at hlay
  rw [if_pos hfin] at hlay
  have hcf : m.cls = cf := by
    obtain ⟨_, _, c', _, _, _, -, -, hf', -, -, -, hown2, -⟩ := Cond.laysFinal_spec hlay
    have e1 : c' = cf := by have := g1b.symm.trans hf'; simp at this; exact this.1.symm
    rw [hdecl] at hown2
    rw [← e1]; exact Option.some.inj (hown.symm.trans hown2)
  exact ⟨ref, name, desc, cf, kf, fi, f, g1, g2, g3, g4, Or.inr ⟨rfl, hcf⟩, fun v hn hfit => u_fits hfc hkC hkind (Or.inr hlay) g1b (clt_ty kd h0 h1 k hk) hn hfit⟩
/-- what a method's walk has all along -/
def Cx (p : Program) (s : State) (m : MethodId) (meth : Method) (c : Code) (D : va_G) (T : Nat → ClassId) (Z : Heap) (own : String) (cc : ByteArray) (nL : Nat) (ret : Option FieldType) : Prop := p.tables.exec = Jvm.exec ∧ c.code = cc ∧ c.maxLocals = nL ∧ s.vm.findClass own = some m.cls ∧ Evd D T Z s ∧ meth.sig.returnType = ret ∧ meth.locks = false
section HR
variable {p : Program} {l : Launch} {e : Env} {R : Room} {s : State} {m : MethodId} {args : Array Value} {below : List Frame} {meth : Method} {c : Code} {H : Heap} {locs : List Loc} {cells slots : Nat} {Qm : State → Prop} {pc : Nat} {ls : Array Slot} {rest : List Value} {cc : ByteArray} {D : va_G} {T : Nat → ClassId} {Z : Heap} {own : String} {nL : Nat} {ret : Option FieldType} {G0 G : Hp} {r : Option Nat} {idx kd k : Nat}
theorem HI.obj (I : HI (twd D T Z) G0 s R H locs cells slots G) (ho : isO G r kd) (hkd : 0 < kd ∧ kd < 20) : r = some (ad r) ∧ gK G (ad r) = kd ∧ Z.size ≤ ad r ∧ t_OB (ad r) (D.1 kd) (ftab kd).length (D.2 kd) H (sv G (ad r)) := by
  obtain ⟨h1, h2⟩ := ho.ad
  obtain ⟨⟨g1, -⟩, g2⟩ := I.1.2.2.2 (ad r) (by rw [h2]; omega)
  rw [h2] at g1 g2
  exact ⟨h1, h2, by omega, (g1 (by omega)).2⟩
theorem HI.arr (I : HI (twd D T Z) G0 s R H locs cells slots G) (ho : isO G r kd) (hkd : 50 ≤ kd ∧ kd < 57) : r = some (ad r) ∧ gK G (ad r) = kd ∧ H[ad r]? = some (arrV (T kd) (gN G (ad r)) (sv G (ad r))) := by
  obtain ⟨h1, h2⟩ := ho.ad
  obtain ⟨⟨-, g1, -⟩, g2⟩ := I.1.2.2.2 (ad r) (by rw [h2]; omega)
  rw [h2] at g1
  exact ⟨h1, h2, g1 hkd.1 hkd.2⟩
theorem HI.recv (I : HI (twd D T Z) G0 s R H locs cells slots G) (hE : Evd D T Z s) (ho : isO G r kd) (hkd : 0 < kd ∧ kd < 20) : ∃ cell : Cell, H[ad r]? = some cell ∧ cell.vm.isStatics = false ∧ s.vm.findClass (clt kd).1 = some cell.cls := by
  obtain ⟨-, -, -, cell, g1, g2, g3, -⟩ := I.obj ho hkd
  exact ⟨cell, g1, by rw [g3]; rfl, by rw [g2]; exact (hE.2.1.1 kd hkd.1 hkd.2).1.2.1⟩
theorem g_get (C : Cx p s m meth c D T Z own cc nL ret) (I : HI (twd D T Z) G0 s R H locs cells slots G) (hf : FL D T Z own idx kd k) (hk : k < (ftab kd).length) (hkd : 0 < kd ∧ kd < 20) (ho : isO G r kd) (hdg : decode cc pc = .ok (.getfield idx, 3)) {v : Value} (hv : sv G (ad r) k = v)
    (kk : W p l e R s m args below meth c H locs cells slots Qm (F0 m (pc + 3) ls (v :: rest))) : W p l e R s m args below meth c H locs cells slots Qm (F0 m pc ls (va_rf r :: rest)) := by
  obtain ⟨h1, h2, -, cell, q1, q2, q3, q4⟩ := I.obj ho hkd
  obtain ⟨ref, name, desc, cf, kf, fi, f, g1, -, g2, g3, g4⟩ := hf s args C.2.2.2.2.1
  have hs : cell.slots[f.slot]? = some v := by rw [g3, q4 k hk, hv]
  rw [h1]
  rcases g4 with g4 | ⟨host, g4⟩
  · exact W.getf C.1 C.2.1 C.2.2.2.1 g4 g1 g2 q1 (by rw [q3]; exact fun h => by cases h) hs rfl rfl hdg kk
  · exact va_Wgetf C.1 C.2.1 C.2.2.2.1 g4 g1 g2 q1 (by rw [q3]; exact fun h => by cases h) hs rfl rfl hdg kk
theorem g_I (C : Cx p s m meth c D T Z own cc nL ret) (I : HI (twd D T Z) G0 s R H locs cells slots G) (hf : FL D T Z own idx kd k) (hk : k < (ftab kd).length ∧ sty kd k = 0) (hkd : 0 < kd ∧ kd < 20) (ho : isO G r kd) (hdg : decode cc pc = .ok (.getfield idx, 3))
    (kk : W p l e R s m args below meth c H locs cells slots Qm (F0 m (pc + 3) ls (.int (gI G (ad r) k) :: rest))) : W p l e R s m args below meth c H locs cells slots Qm (F0 m pc ls (va_rf r :: rest)) :=
  g_get C I hf hk.1 hkd ho hdg (sv_0 (by rw [ho.ad.2]; exact hk.2)) kk
theorem g_R (C : Cx p s m meth c D T Z own cc nL ret) (I : HI (twd D T Z) G0 s R H locs cells slots G) (hf : FL D T Z own idx kd k) (hk : k < (ftab kd).length ∧ sty kd k = 1) (hkd : 0 < kd ∧ kd < 20) (ho : isO G r kd) (hdg : decode cc pc = .ok (.getfield idx, 3))
    (kk : W p l e R s m args below meth c H locs cells slots Qm (F0 m (pc + 3) ls (va_rf (gR G (ad r) k) :: rest))) : W p l e R s m args below meth c H locs cells slots Qm (F0 m pc ls (va_rf r :: rest)) :=
  g_get C I hf hk.1 hkd ho hdg (sv_1 (by rw [ho.ad.2]; exact hk.2)) kk
theorem p_put (C : Cx p s m meth c D T Z own cc nL ret) (I : HI (twd D T Z) G0 s R H locs cells slots G) {ini : Bool} (hf : FP D T Z own idx kd k ini) (hini : ini = true → meth.name = "<init>") (hk : k < (ftab kd).length) (hkd : 0 < kd ∧ kd < 20) (ho : isO G r kd) (hdg : decode cc pc = .ok (.putfield idx, 3)) {v : Value} (hn : narrow (tyt kd k) v = v) (hfit : fits (tyt kd k) v = true)
    (G' : Hp) (hK : gK G' = gK G) (hN : gN G' = gN G) (hZ : gZ G' = gZ G) (hC : gC G' = gC G) (hS : gS G' = gS G) (hv : ∀ b, b ≠ ad r → sv G' b = sv G b) (hv2 : sv G' (ad r) = updV (sv G (ad r)) k v)
    (kk : ∀ (H' : Heap) (locs' : List Loc), HI (twd D T Z) G0 s R H' locs' cells slots G' → W p l e R s m args below meth c H' locs' cells slots Qm (F0 m (pc + 3) ls rest)) : W p l e R s m args below meth c H locs cells slots Qm (F0 m pc ls (v :: va_rf r :: rest)) := by
  obtain ⟨h1, h2, h3, cell, q1, q2, q3, q4⟩ := I.obj ho hkd
  obtain ⟨ref, name, desc, cf, kf, fi, f, g1, g2, g3, g4, g5, g6⟩ := hf s args m C.2.2.2.2.1 C.2.2.2.1
  obtain ⟨g7, g8⟩ := g6 v hn hfit
  have hap : ∀ i j, i < (ftab kd).length → j < (ftab kd).length → i ≠ j → D.2 kd i ≠ D.2 kd j := by
    rw [← clt_len kd hkd.1 hkd.2]
    exact (C.2.2.2.2.1.2.1.1 kd hkd.1 hkd.2).2
  have hlt : f.slot < cell.slots.size := by rw [g3]; exact k2_hasslot (q4 k hk)
  have hkn : cell.vm ≠ .unknown := by rw [q3]; exact fun h => by cases h
  have hfs : s.fitsSlot cell.cls cell.vm f.slot v = true := by rw [q2, q3]; exact g8
  have ha : ad r < H.size := (Array.getElem?_eq_some_iff.mp q1).1
  have hfn : hasFlag f.accessFlags Acc.final = false ∨ (m.cls = cf ∧ meth.name = "<init>") := by
    rcases g5 with g5 | ⟨g5, g5b⟩
    · exact Or.inl g5
    · exact Or.inr ⟨g5b, hini g5⟩
  have key : HI (twd D T Z) G0 s R (H.setIfInBounds (ad r) (cell.setSlot f.slot v)) (locs ++ [⟨ad r, f.slot⟩]) cells slots G' := by
    have z : (H.setIfInBounds (ad r) (cell.setSlot f.slot v)).size = H.size := by simp
    have oq : ∀ q : Nat, q ≠ ad r → (H.setIfInBounds (ad r) (cell.setSlot f.slot v))[q]? = H[q]? := fun q hq => by simp [Array.getElem?_setIfInBounds, Ne.symm hq]
    have e1 : (H.setIfInBounds (ad r) (cell.setSlot f.slot v))[ad r]? = some (cell.setSlot f.slot v) := by simp [Array.getElem?_setIfInBounds, ha]
    have hKr : gK G' (ad r) = kd := by rw [hK]; exact h2
    refine ⟨I.1.set h3 hK hN hZ hv z oq ⟨fun _ => ?_, fun h => absurd h (by rw [hKr]; omega), fun h => absurd h (by rw [hKr]; omega)⟩, fun a h => I.2.1 a ⟨by rw [← hK]; exact h.1, h.2⟩, I.2.2.1.put z oq (I.2.1 _ ⟨by rw [h2]; omega, h3⟩), by show cells + gC G' ≤ _; rw [hC]; exact I.2.2.2.1, by show slots + gS G' ≤ _; rw [hS]; exact I.2.2.2.2.1, Ext.tr _ _ _ I.2.2.2.2.2 (Ext.kn hK hN hZ)⟩
    rw [hKr, hv2]
    refine ⟨hkd.2, _, e1, q2, q3, ?_⟩
    rw [g3]
    exact t_set q4 hap hk v
  rw [h1]
  rcases g4 with g4 | ⟨host, g4⟩
  · exact W.putf C.1 C.2.1 C.2.2.2.1 g4 g1 g2 hfn q1 hkn hlt g7 hfs rfl rfl hdg (kk _ _ key)
  · exact va_Wputf C.1 C.2.1 C.2.2.2.1 g4 g1 g2 hfn q1 hkn hlt g7 hfs rfl rfl hdg (kk _ _ key)
theorem p_I (C : Cx p s m meth c D T Z own cc nL ret) (I : HI (twd D T Z) G0 s R H locs cells slots G) {ini : Bool} (hf : FP D T Z own idx kd k ini) (hini : ini = true → meth.name = "<init>") (hk : k < (ftab kd).length ∧ sty kd k = 0) (hkd : 0 < kd ∧ kd < 20) (ho : isO G r kd) (hdg : decode cc pc = .ok (.putfield idx, 3)) {x : Int32} (hn : narrow (tyt kd k) (.int x) = .int x) (hfit : fits (tyt kd k) (.int x) = true)
    (kk : ∀ (H' : Heap) (locs' : List Loc), HI (twd D T Z) G0 s R H' locs' cells slots (wI G (ad r) k x) → W p l e R s m args below meth c H' locs' cells slots Qm (F0 m (pc + 3) ls rest)) : W p l e R s m args below meth c H locs cells slots Qm (F0 m pc ls (.int x :: va_rf r :: rest)) :=
  p_put C I hf hini hk.1 hkd ho hdg hn hfit (wI G (ad r) k x) rfl rfl rfl rfl rfl (fun b hb => sv_wI_ne hb) (sv_wI (by rw [ho.ad.2]; exact hk.2)) kk
theorem p_R (C : Cx p s m meth c D T Z own cc nL ret) (I : HI (twd D T Z) G0 s R H locs cells slots G) {ini : Bool} (hf : FP D T Z own idx kd k ini) (hini : ini = true → meth.name = "<init>") (hk : k < (ftab kd).length ∧ sty kd k = 1) (hkd : 0 < kd ∧ kd < 20) (ho : isO G r kd) (hdg : decode cc pc = .ok (.putfield idx, 3)) {x : Option Nat} (hn : ∀ x, narrow (tyt kd k) (va_rf x) = va_rf x) (hfit : ∀ x, fits (tyt kd k) (va_rf x) = true)
    (kk : ∀ (H' : Heap) (locs' : List Loc), HI (twd D T Z) G0 s R H' locs' cells slots (wR G (ad r) k x) → W p l e R s m args below meth c H' locs' cells slots Qm (F0 m (pc + 3) ls rest)) : W p l e R s m args below meth c H locs cells slots Qm (F0 m pc ls (va_rf x :: va_rf r :: rest)) :=
  p_put C I hf hini hk.1 hkd ho hdg (hn x) (hfit x) (wR G (ad r) k x) rfl rfl rfl rfl rfl (fun b hb => sv_wR_ne hb) (sv_wR (by rw [ho.ad.2]; exact hk.2)) kk
end HR
