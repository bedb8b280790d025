/-! HEAP: an abstract heap of cells by address, all ints; rows of the methods that make and change objects -/
set_option maxRecDepth 100000
abbrev clA : List vw_C := [(RJ0, TJ0, 4), (RJ20, TJ20, 1), (RJ6, TJ6, 3), (RJ15, TJ15, 4), (RX9, TX9, 0), (RX1, TX1, 7), (RX2, TX2, 5), (RX3, TX3, 8), (RX5, TX5, 5), (RX6, TX6, 10), (RX7, TX7, 7), (RX8, TX8, 6), (RX10, TX10, 4), (RX11, TX11, 3), (RX12, TX12, 3), (RX14, TX14, 3), (RX15, TX15, 2), (RX16, TX16, 2), (RX17, TX17, 4), (RX18, TX18, 4), (RX19, TX19, 1), (RX20, TX20, 1), (RX21, TX21, 2), (RX22, TX22, 1), (RX23, TX23, 3), (RX24, TX24, 5), (RX25, TX25, 2), (RX26, TX26, 9), (RX28, TX28, 3), (RX29, TX29, 2), (RX30, TX30, 5), (RX31, TX31, 2), (RX32, TX32, 4), (RX33, TX33, 6), (RX4, TX4, 118)]
def nfL : List Nat := [4, 1, 3, 4, 0, 7, 5, 8, 5, 10, 7, 6, 4, 3, 3, 3, 2, 2, 4, 4, 1, 1, 2, 1, 3, 5, 2, 9, 3, 2, 5, 2, 4, 6, 118]
abbrev tyA : List FieldType := [.int, .boolean, .byte, .long, .object "java/lang/Object", .object "Syntaxspan$Line", .object "Syntaxspan$Row", .object "Syntaxspan$Tree", .object "java/lang/String", .array .int, .array .boolean, .array (.object "Syntaxspan$Line"), .array (.object "java/lang/String"), .array (.array .int), .object "java/lang/Integer", .int]
def ftL : List (List Nat) := [[5, 3, 0, 1], [0], [0, 5, 0], [5, 3, 1, 0], [], [5, 5, 0, 5, 5, 0, 0], [5, 5, 5, 5, 5], [5, 0, 0, 5, 5, 5, 5, 0], [5, 5, 5, 5, 0], [5, 5, 5, 5, 0, 5, 0, 0, 5, 1], [5, 1, 5, 5, 0, 0, 1], [5, 5, 5, 5, 5, 5], [0, 0, 5, 5], [0, 0, 0], [5, 0, 1], [0, 0, 5], [0, 0], [0, 5], [0, 0, 5, 5], [0, 0, 5, 0], [5], [5], [0, 5], [0], [5, 5, 5], [5, 5, 5, 5, 1], [5, 4], [5, 5, 5, 5, 0, 5, 5, 0, 5], [0, 0, 5], [0, 0], [0, 0, 0, 5, 5], [5, 0], [5, 5, 0, 0], [0, 5, 5, 1, 4, 5], [5, 5, 5, 5, 0, 5, 0, 0, 5, 5, 5, 5, 5, 5, 1, 0, 5, 5, 5, 5, 5, 5, 5, 1, 5, 0, 0, 0, 5, 5, 5, 5, 5, 5, 5, 5, 5, 0, 5, 5, 5, 0, 5, 5, 5, 5, 0, 5, 0, 0, 5, 0, 5, 0, 0, 5, 5, 5, 1, 0, 0, 5, 5, 1, 5, 5, 5, 5, 5, 5, 5, 0, 5, 0, 5, 5, 5, 5, 0, 5, 4, 5, 0, 5, 0, 5, 5, 0, 0, 5, 5, 0, 1, 5, 0, 5, 5, 5, 5, 5, 5, 0, 1, 5, 0, 0, 0, 0, 5, 5, 5, 5, 5, 5, 5, 5, 5, 0]]
def ftE : List Nat := [0, 1, 3, 4, 5, 5, 5, 5, 5, 5, 5, 5, 5, 5, 5]
abbrev AH : Type := Int × Int × (Int → Nat) × (Int → Int) × (Int → Int → Int)
def aN (h : AH) : Int := h.1
def aS (h : AH) : Int := h.2.1
def aT (h : AH) (a : Int) : Nat := h.2.2.1 a
def aL (h : AH) (a : Int) : Int := h.2.2.2.1 a
def aV (h : AH) (a i : Int) : Int := h.2.2.2.2 a i
def ft (t : Nat) (i : Int) : Nat := if t < 64 then (ftL.getD (t - 1) []).getD i.toNat 0 else ftE.getD (t - 64) 0
def nf (t : Nat) : Nat := nfL.getD (t - 1) 0
def kof (c : Nat) : Nat := if c = 4 then 1 else if c < 5 then 0 else 2
def dv (c : Nat) : Int := if c < 5 then 0 else -1
/-- environment: the classes' numbers and slots; the array classes; addresses of constants -/
abbrev EA : Type := va_G × (Nat → ClassId) × (Nat → Int)
/-- an array's cell, whatever its monitor and kept hash, as far as code can see it -/
def ArC (c : ClassId) (n : Nat) (f : Nat → Value) (cell : Cell) : Prop := cell.cls = c ∧ (cell.vm ≠ .unknown ∧ cell.vm.isStatics = false) ∧ n ≤ cell.slots.size ∧ cell.slots.size.toInt32 = Int32.ofNat n ∧ ∀ j, j < n → cell.slots[j]? = some (f j)
theorem no_stat {v : VmData} (h : v.isStatics = false) : ∀ k, v ≠ .statics k := fun k e => by rw [e] at h; cases h
theorem ArC.of {U : State} {ty : FieldType} {c : ClassId} {n : Nat} {f : Nat → Value} {cell : Cell} (a : ArC c n f cell) (h : ∀ (n : Nat) (z : Nat → Value), U.isArrayOf (arrV c n z) ty) : U.isArrayOf cell ty := by
  obtain ⟨-, k, hk, r⟩ := h 0 (fun _ => .null)
  exact ⟨no_stat a.2.1.2, k, by rw [a.1]; exact hk, r⟩
theorem ArC.unk {c : ClassId} {n : Nat} {f : Nat → Value} {cell : Cell} (a : ArC c n f cell) : cell.vm ≠ .unknown := a.2.1.1
theorem ArC.st {c : ClassId} {n : Nat} {f : Nat → Value} {cell : Cell} (a : ArC c n f cell) : ∀ k, cell.vm ≠ .statics k := no_stat a.2.1.2
theorem ArC.in {c : ClassId} {n : Nat} {f : Nat → Value} {cell : Cell} (a : ArC c n f cell) {i : Int32} (h : vp_in i n) : ¬ (i < 0 ∨ cell.slots.size ≤ i.toNatClampNeg) := fun q => h (q.imp id (Nat.le_trans a.2.2.1))
theorem arC_new {c : ClassId} {n : Nat} {f : Nat → Value} : ArC c n f (arrV c n f) := ⟨rfl, ⟨(fun q => by cases q), rfl⟩, Nat.le_of_eq (arrV_size c n f).symm, congrArg Nat.toInt32 (arrV_size c n f), fun j hj => arrV_read c f hj⟩
theorem ArC.store {c : ClassId} {n : Nat} {f : Nat → Value} {cell : Cell} {i : Nat} {v : Value} (a : ArC c n f cell) (hi : i < n) : ArC c n (updV f i v) (cell.setSlot i v) := by
  obtain ⟨a1, a2, a3, a4, a5⟩ := a
  have hz : (cell.setSlot i v).slots.size = cell.slots.size := by simp [Cell.setSlot]
  refine ⟨a1, a2, by rw [hz]; exact a3, by rw [hz]; exact a4, fun j hj => ?_⟩
  show (cell.slots.setIfInBounds i v)[j]? = some (if j = i then v else f j)
  rw [Array.getElem?_setIfInBounds]
  by_cases q : i = j
  · subst q
    rw [if_pos rfl, if_pos rfl, if_pos (Nat.lt_of_lt_of_le hi a3)]
  · rw [if_neg q, if_neg (Ne.symm q)]; exact a5 j hj
theorem ArC.to {c : ClassId} {n : Nat} {f g : Nat → Value} {cell : Cell} (a : ArC c n f cell) (h : ∀ j, j < n → f j = g j) : ArC c n g cell := ⟨a.1, a.2.1, a.2.2.1, a.2.2.2.1, fun j hj => by rw [← h j hj]; exact a.2.2.2.2 j hj⟩
/-- an object's cell -/
def t_OC (st : Prop) (o : Nat) (cC : ClassId) (N : Nat) (iS : Nat → Nat) (H : Heap) (V : Nat → Value) : Prop :=
  ∃ cell : Cell, H[o]? = some cell ∧ cell.cls = cC ∧ (cell.vm ≠ .unknown ∧ cell.vm.isStatics = false ∧ (st → cell.vm = .none)) ∧ ∀ k, k < N → cell.slots[iS k]? = some (V k)
theorem t_OC.kept {st : Prop} {o : Nat} {cC : ClassId} {N : Nat} {iS : Nat → Nat} {H H1 : Heap} {V : Nat → Value} (h : t_OC st o cC N iS H V) (h1 : H1[o]? = H[o]?) : t_OC st o cC N iS H1 V := by
  obtain ⟨cell, q, r⟩ := h
  exact ⟨cell, by rw [h1]; exact q, r⟩
theorem t_OC.to {st : Prop} {o : Nat} {cC : ClassId} {N : Nat} {iS : Nat → Nat} {H : Heap} {V V' : Nat → Value} (h : t_OC st o cC N iS H V) (hv : ∀ k, k < N → V k = V' k) : t_OC st o cC N iS H V' := by
  obtain ⟨cell, q, r1, r2, r3⟩ := h
  exact ⟨cell, q, r1, r2, fun k hk => by rw [← hv k hk]; exact r3 k hk⟩
theorem vm_new : (VmData.none ≠ .unknown ∧ VmData.none.isStatics = false) := ⟨(fun q => by cases q), rfl⟩
theorem oc_of {st : Prop} {o : Nat} {cC : ClassId} {N : Nat} {iS : Nat → Nat} {H : Heap} {V : Nat → Value} (h : t_OB o cC N iS H V) : t_OC st o cC N iS H V := by
  obtain ⟨cell, q, r1, r2, r3⟩ := h
  exact ⟨cell, q, r1, by rw [r2]; exact ⟨vm_new.1, vm_new.2, fun _ => rfl⟩, r3⟩
theorem t_OC.ob {st : Prop} {o : Nat} {cC : ClassId} {N : Nat} {iS : Nat → Nat} {H : Heap} {V : Nat → Value} (h : t_OC st o cC N iS H V) (hs : st) : t_OB o cC N iS H V := by
  obtain ⟨cell, q, r1, r2, r3⟩ := h
  exact ⟨cell, q, r1, r2.2.2 hs, r3⟩
def aCell (E : EA) (h : AH) (a : Nat) (H : Heap) : Prop :=
  if aT h a < 64 then t_OC (2 < aT h a) a (E.1.1 (aT h a - 1)) (nf (aT h a)) (E.1.2 (aT h a - 1)) H (fun k => ev (kof (ft (aT h a) k)) (aV h a k))
  else ∃ cell : Cell, H[a]? = some cell ∧ ArC (E.2.1 (aT h a - 64)) (aL h a).toNat (fun j => ev (kof (ft (aT h a) 0)) (aV h a j)) cell ∧ (E.2.2 (1000 + a) ≠ 1 → cell = arrV (E.2.1 (aT h a - 64)) (aL h a).toNat (fun j => ev (kof (ft (aT h a) 0)) (aV h a j)))
theorem aCell_new {E : EA} {a : Nat} {H : Heap} {c : ClassId} {n : Nat} {f : Nat → Value} (h1 : H[a]? = some (arrV c n f)) : ∃ cell : Cell, H[a]? = some cell ∧ ArC c n f cell ∧ (E.2.2 (1000 + a) ≠ 1 → cell = arrV c n f) := ⟨_, h1, arC_new, fun _ => rfl⟩
def RH (E : EA) (h : AH) (H : Heap) : Prop := (H.size : Int) = aN h ∧ ∀ a : Nat, aT h a ≠ 0 → aCell E h a H
/-- types of what stands in the cells -/
def TH (h : AH) : Prop := (∀ a i, TI (ft (aT h a) i) (aV h a i)) ∧ (∀ a, a < 0 ∨ aN h ≤ a → aT h a = 0) ∧ 0 ≤ aN h ∧ ∀ a, 0 ≤ aL h a ∧ aL h a ≤ 100000000
def KA (E : EA) (U : State) : Prop := (∀ (c : Nat) (q : vw_C), clA[c]? = some q → u_Kn U q.1 q.2.1 q.2.2 (E.1.1 c) (E.1.2 c)) ∧ (∀ (j : Nat) (ty : FieldType), tyA[j]? = some ty → ArrOfT U (E.2.1 j) ty ∧ (j < 14 → va_RA U (E.2.1 j) ty))
theorem KA.K {E : EA} {U : State} (h : KA E U) : va_K E.1 clA [] U := ⟨h.1, fun k q hk => by simp at hk⟩
def nwS : Cond → Bool
  | .fieldLinkNest .. => true
  | .methodLinkNest .. => true
  | .castable .. => true
  | .declares .. => true
  | .privateMethod .. => true
  | _ => false
theorem va_Nw.warmP {y : MethodName} {s U : State} (hW : s.WarmedH U.vm) (hZ : va_Nw (.privateMethod y) s) : va_Nw (.privateMethod y) U := va_tabs rfl (rfl : (s.setVm U.vm).vm = U.vm) (by rw [Cond.privateMethod_setVm hW.alike]; exact hZ)
/-- words that the tables alone decide but that don't ride in the lists -/
def NW (U : State) : Prop := ∀ w ∈ lw_tbl, nwS w = true → va_Nw w U
theorem nwS_on {w : Cond} (h : nwS w = true) : w.onTables = true := by
  cases w <;> first | rfl | cases h
theorem NW.warm {s U : State} (hW : s.WarmedH U.vm) (h : NW s) : NW U := by
  intro w hw hs
  have := h w hw hs
  cases w <;> first | (exact absurd hs (by decide)) | exact va_Nw.warmF hW this | exact va_Nw.warmM hW this | exact va_Nw.warmC hW this | exact va_Nw.warmD hW this | exact va_Nw.warmP hW this | cases hs
def tyc : FieldType → Nat
  | .int => 0
  | .boolean => 1
  | .char => 2
  | .byte => 3
  | .long => 4
  | .object _ => 5
  | .array _ => 5
  | _ => 9
theorem narrow_b {v : Int} (h : TI 3 v) : narrow .byte (.int (iI v)) = .int (iI v) := by
  show Value.int ((iI v).toInt8.toInt32) = .int (iI v)
  congr 1
  rw [← Int32.toInt_inj, Int8.toInt_toInt32, iI_toInt h.b]
  show (Int32.toInt8 (Int32.ofInt v)).toInt = v
  rw [Int32.toInt8_ofInt]
  exact Int8.toInt_ofInt_of_le h.1 h.2
theorem val_ok {ty : FieldType} {c : Nat} {v : Int} (h : tyc ty = c) (hc : c ≠ 9) (hv : TI c v) : narrow ty (ev (kof c) v) = ev (kof c) v ∧ fits ty (ev (kof c) v) = true := by
  subst h
  cases ty with
  | int => exact ⟨rfl, rfl⟩
  | boolean => exact ⟨narrow_z hv, fits_z hv⟩
  | char =>
    refine ⟨narrow_c hv, ?_⟩
    show (decide ((0 : Int32) ≤ iI v) && decide (iI v ≤ (65535 : Int32))) = true
    rw [Bool.and_eq_true, decide_eq_true_eq, decide_eq_true_eq]
    have h1 : (0 : Int) ≤ v := hv.1
    have h2 : v < 65536 := hv.2
    exact ⟨(iI_le (a := 0) in0 hv.c).mpr h1, (iI_le (b := 65535) hv.c ⟨by decide, by decide⟩).mpr (by omega)⟩
  | byte =>
    refine ⟨narrow_b hv, ?_⟩
    show (decide ((-128 : Int32) ≤ iI v) && decide (iI v ≤ (127 : Int32))) = true
    rw [Bool.and_eq_true, decide_eq_true_eq, decide_eq_true_eq]
    have h1 : (-128 : Int) ≤ v := hv.1
    have h2 : v < 128 := hv.2
    exact ⟨(iI_le (a := -128) ⟨by decide, by decide⟩ hv.b).mpr h1, (iI_le (b := 127) hv.b ⟨by decide, by decide⟩).mpr (by omega)⟩
  | long => exact ⟨rfl, rfl⟩
  | object C =>
    show narrow (.object C) (ev 2 v) = ev 2 v ∧ fits (.object C) (ev 2 v) = true
    rcases ev2_cases v with e | ⟨q, e⟩ <;> rw [e] <;> exact ⟨rfl, rfl⟩
  | array t =>
    show narrow (.array t) (ev 2 v) = ev 2 v ∧ fits (.array t) (ev 2 v) = true
    rcases ev2_cases v with e | ⟨q, e⟩ <;> rw [e] <;> exact ⟨rfl, rfl⟩
  | _ => exact absurd rfl hc
theorem dv_ev {ty : FieldType} (h : tyc ty ≠ 9) : defaultValue ty = ev (kof (tyc ty)) (dv (tyc ty)) := by
  cases ty <;> first | rfl | exact absurd rfl h
theorem dv_ti {c : Nat} : TI c (dv c) := by
  match c with
  | 0 => exact in0
  | 1 => exact Or.inl rfl
  | 2 => exact ⟨by decide, by decide⟩
  | 3 => exact ⟨by decide, by decide⟩
  | 4 => exact ⟨by decide, by decide⟩
  | n + 5 =>
    show (-1 : Int) ≤ dv (n + 5)
    unfold dv
    rw [if_neg (by omega)]
    decide
def ClF (t : Nat) (r : vw_C) : Prop := 0 < t ∧ t < 64 ∧ clA[t - 1]? = some r ∧ (∀ w ∈ u_ws r.1 r.2.1 r.2.2, w ∈ lw_all) ∧ ∃ ty : Nat → FieldType, (∀ k, k < r.2.2 → parseFieldDescriptor (r.2.1 k).2.2.1 = some (ty k)) ∧ (∀ k, k < r.2.2 → tyc (ty k) = ft t k ∧ ft t k ≠ 9) ∧ (∀ a, a < r.2.2 → ∀ b, b < r.2.2 → a ≠ b → (r.2.1 a).2.1 ≠ (r.2.1 b).2.1)
def SameF (ref O n d : String) : Prop := O = ref ∨ Cond.sameField ref O n d ∈ lw_all
def FdH (own : String) (t k idx : Nat) : Prop := ∃ (r : vw_C) (ref : String), ClF t r ∧ k < r.2.2 ∧ Cond.fieldLink own idx ref (r.2.1 k).2.1 (r.2.1 k).2.2.1 ∈ lw_all ∧ SameF ref (r.2.1 k).1 (r.2.1 k).2.1 (r.2.1 k).2.2.1
def FdN (own : String) (t k idx : Nat) : Prop := ∃ (r : vw_C) (ref host : String), ClF t r ∧ k < r.2.2 ∧ Cond.fieldLinkNest own idx ref (r.2.1 k).2.1 (r.2.1 k).2.2.1 host ∈ lw_tbl ∧ SameF ref (r.2.1 k).1 (r.2.1 k).2.1 (r.2.1 k).2.2.1
theorem SameF.ok {ref O n d : String} {args : Array Value} {s : State} (h : SameF ref O n d) (hts : ∀ w ∈ lw_all, w.before args s = true) (x : ClassId × Class × Nat × Field) (ho : s.fieldFound? O n d = some x) : s.fieldFound? ref n d = some x := by
  rcases h with rfl | h
  · exact ho
  · exact u_same (hts _ h) x ho
/-- operations -/
def setV (h : AH) (a i v : Int) : AH := (h.1, h.2.1, h.2.2.1, h.2.2.2.1, fun x j => if x = a ∧ j = i then v else h.2.2.2.2 x j)
def gf (h : AH) (t : Nat) (k a : Int) : Option Int := if aT h a = t then some (aV h a k) else none
def pf (h : AH) (t : Nat) (k a v : Int) : Option AH := if aT h a = t then some (setV h a k v) else none
def ga (h : AH) (t : Nat) (a i : Int) : Option Int := if aT h a = t ∧ 0 ≤ i ∧ i < aL h a then some (aV h a i) else none
def pa (h : AH) (t : Nat) (a i v : Int) : Option AH := if aT h a = t ∧ 0 ≤ i ∧ i < aL h a then some (setV h a i v) else none
def al (h : AH) (t : Nat) (a : Int) : Option Int := if aT h a = t then some (aL h a) else none
def mkc (h : AH) (t : Nat) (sl len : Int) : AH := (h.1 + 1, h.2.1 + sl, fun a => if a = h.1 then t else h.2.2.1 a, fun a => if a = h.1 then len else h.2.2.2.1 a, fun a i => if a = h.1 then dv (ft t i) else h.2.2.2.2 a i)
def nwo (h : AH) (t : Nat) (sl : Int) : Int × AH := (h.1, mkc h t sl 0)
def nwa (h : AH) (t : Nat) (n : Int) : Option (Int × AH) := if 0 ≤ n ∧ n ≤ 50000000 then some (h.1, mkc h t n n) else none
theorem aT_setV {h : AH} {a i v x : Int} : aT (setV h a i v) x = aT h x := rfl
theorem TH.set {h : AH} {a i v : Int} (hT : TH h) (hv : TI (ft (aT h a) i) v) : TH (setV h a i v) := by
  refine ⟨fun x j => ?_, hT.2⟩
  show TI (ft (aT h x) j) (if x = a ∧ j = i then v else aV h x j)
  split
  · rename_i q; rw [q.1, q.2]; exact hv
  · exact hT.1 x j
theorem TH.mk {h : AH} {t : Nat} {sl len : Int} (hT : TH h) (hl : 0 ≤ len ∧ len ≤ 100000000) : TH (mkc h t sl len) := by
  obtain ⟨h1, h2, h3, h4⟩ := hT
  refine ⟨fun x j => ?_, fun x hx => ?_, ?_, fun x => ?_⟩
  · show TI (ft (if x = h.1 then t else aT h x) j) (if x = h.1 then dv (ft t j) else aV h x j)
    by_cases q : x = h.1
    · rw [if_pos q, if_pos q]; exact dv_ti
    · rw [if_neg q, if_neg q]; exact h1 x j
  · show (if x = h.1 then t else aT h x) = 0
    have hx' : x < 0 ∨ h.1 + 1 ≤ x := hx
    have h3' : 0 ≤ h.1 := h3
    rw [if_neg (by omega)]
    exact h2 x (by rcases hx' with q | q; exact Or.inl q; exact Or.inr (by show h.1 ≤ x; omega))
  · show 0 ≤ h.1 + 1
    have h3' : 0 ≤ h.1 := h3
    omega
  · show 0 ≤ (if x = h.1 then len else aL h x) ∧ (if x = h.1 then len else aL h x) ≤ 100000000
    split
    · exact hl
    · exact h4 x
theorem TH.pos {h : AH} {a : Int} (hT : TH h) (ha : aT h a ≠ 0) : ∃ q : Nat, a = q ∧ a < aN h := by
  have h2 := hT.2.1 a
  have : ¬ (a < 0 ∨ aN h ≤ a) := fun q => ha (h2 q)
  exact ⟨a.toNat, by omega, by omega⟩
/-- the cell of a heap's address -/
theorem RH.cell {E : EA} {h : AH} {H : Heap} {a : Nat} (hR : RH E h H) (ha : aT h a ≠ 0) : aCell E h a H := hR.2 a ha
/-- one cell was written -/
theorem RH.set {E : EA} {h : AH} {H H1 : Heap} {a : Nat} {i v : Int} (hR : RH E h H) (ha : aT h a ≠ 0) (hc : aCell E (setV h a i v) a H1) (hz : H1.size = H.size) (ho : ∀ q : Nat, q ≠ a → H1[q]? = H[q]?) : RH E (setV h a i v) H1 := by
  refine ⟨by rw [hz]; exact hR.1, fun q hq => ?_⟩
  by_cases hqa : q = a
  · subst hqa; exact hc
  · have h1 := hR.2 q hq
    have e : ∀ j, aV (setV h a i v) q j = aV h q j := fun j => by
      show (if (q : Int) = a ∧ j = i then v else aV h q j) = aV h q j
      rw [if_neg (fun x => hqa (by have := x.1; omega))]
    unfold aCell at h1 ⊢
    rw [aT_setV]
    simp only [e]
    show (if aT h q < 64 then _ else _)
    by_cases ht : aT h q < 64
    · rw [if_pos ht] at h1 ⊢
      exact h1.kept (ho q hqa)
    · rw [if_neg ht] at h1 ⊢
      rw [ho q hqa]; exact h1
/-- one cell was made -/
theorem RH.mk {E : EA} {h : AH} {H H1 : Heap} {t : Nat} {sl len : Int} (hT : TH h) (hR : RH E h H) (hc : t = 0 ∨ aCell E (mkc h t sl len) H.size H1) (hz : H1.size = H.size + 1) (ho : ∀ q : Nat, q < H.size → H1[q]? = H[q]?) : RH E (mkc h t sl len) H1 := by
  have hN : (H.size : Int) = h.1 := hR.1
  refine ⟨by rw [hz]; show ((H.size + 1 : Nat) : Int) = h.1 + 1; omega, fun q hq => ?_⟩
  by_cases hqa : q = H.size
  · subst hqa
    rcases hc with hc | hc
    · refine absurd ?_ hq
      show (if ((H.size : Nat) : Int) = h.1 then t else aT h H.size) = 0
      rw [if_pos hN, hc]
    · exact hc
  · have hne : ¬ (q : Int) = h.1 := by omega
    have hq' : aT h q ≠ 0 := by
      have : aT (mkc h t sl len) q = aT h q := if_neg hne
      rwa [this] at hq
    have h1 := hR.2 q hq'
    have e0 : aT (mkc h t sl len) q = aT h q := if_neg hne
    have e1 : ∀ j, aV (mkc h t sl len) q j = aV h q j := fun j => if_neg hne
    have e2 : aL (mkc h t sl len) q = aL h q := if_neg hne
    have hlt : q < H.size := by
      obtain ⟨q', hq1, hq2⟩ := hT.pos hq'
      have : (q : Int) < h.1 := hq2
      omega
    unfold aCell at h1 ⊢
    rw [e0, e2]
    simp only [e1]
    by_cases ht : aT h q < 64
    · rw [if_pos ht] at h1 ⊢
      exact h1.kept (ho q hlt)
    · rw [if_neg ht] at h1 ⊢
      rw [ho q hlt]; exact h1
/-- which cells may change: those of the abstract heap at the method's start, and new ones -/
def AA (h0 : AH) : Nat → Prop := fun q => aT h0 q ≠ 0 ∨ aN h0 ≤ (q : Int)
/-- in a method: what is known all along -/
def Ga (C : Cx) (cc : ByteArray) (nL : Nat) (own : String) (E : EA) (h0 : AH) : Prop :=
  Gd C cc nL own ∧ KA E C.1.2.2.2.2 ∧ NW C.1.2.2.2.2 ∧ C.2.2.1 = AA h0 ∧ (C.2.2.2.1.size : Int) = aN h0 ∧ C.2.2.2.1 = C.1.2.2.2.2.heap
/-- the tags of old cells stay -/
def Old (h0 h : AH) : Prop := aN h0 ≤ aN h ∧ aS h0 ≤ aS h ∧ ∀ a, a < aN h0 → aT h a = aT h0 a
/-- heap description of a method: what is known of its context, the heap now; hF at its end, h0 at its start, ε what holds of its end -/
abbrev zA (γ ε : Prop) (E : EA) (hF h0 : AH) (h : AH) : Zs := (fun H => γ ∧ RH E h H, (aN h - aN h0).toNat, (aS h - aS h0).toNat, Old h hF ∧ ε)
theorem Old.in {h0 h : AH} (ho : Old h0 h) {a : Nat} (ha : aT h a ≠ 0) : AA h0 a := by
  by_cases q : (a : Int) < aN h0
  · exact Or.inl (by rw [← ho.2.2 a q]; exact ha)
  · exact Or.inr (by omega)
section HRows
variable {C : Cx} {cc : ByteArray} {nL : Nat} {own : String} {E : EA} {h0 : AH} {γ ε : Prop} {hF : AH} {h : AH} {lv : LV} {pc : Nat} {st : List TV}
theorem ClF.kn {t : Nat} {r : vw_C} (c : ClF t r) {U : State} (hK : KA E U) : u_Kn U r.1 r.2.1 r.2.2 (E.1.1 (t - 1)) (E.1.2 (t - 1)) := hK.1 (t - 1) r c.2.2.1
theorem nf_ok : ∀ j, j < 35 → ∀ r, clA[j]? = some r → nf (j + 1) = r.2.2 := by
  intro j hj r hr
  have : ∀ j, j < 35 → (clA[j]?).map (fun r => r.2.2) = some (nf (j + 1)) := by decide +kernel
  have h1 := this j hj
  rw [hr] at h1
  exact (Option.some.inj h1).symm
theorem ClF.nf {t : Nat} {r : vw_C} (c : ClF t r) : nf t = r.2.2 := by
  have h1 := c.2.2.1
  have h2 : t - 1 < 35 := (List.getElem?_eq_some_iff.mp h1).1
  have := nf_ok (t - 1) h2 r h1
  rwa [show t - 1 + 1 = t by have := c.1; omega] at this
theorem ev_refq {a : Int} {q : Nat} (h : a = q) : ev 2 a = .ref q := by rw [h]; exact ev_ref q
/-- a field is read -/
theorem h_getc (g : γ → Ga C cc nL own E h0) {t k idx : Nat} {r : vw_C} {ref : String} (c : ClF t r) (hk : k < r.2.2) (hs : SameF ref (r.2.1 k).1 (r.2.1 k).2.1 (r.2.1 k).2.2.1) {ρ : Type} {a : Int} {K : Int → Option ρ} {res : ρ} (hT : TH h)
    (row : ∀ (_ : γ) (H : Heap) (locs : List Loc) (ls : Array Slot) (q : Nat) (cf i : Nat) (kf : Class) (f : Field) (cell : Cell), C.1.2.2.2.2.fieldFound? ref (r.2.1 k).2.1 (r.2.1 k).2.2.1 = some (cf, kf, i, f) → f.isStatic = false → H[q]? = some cell → cell.vm ≠ .unknown → cell.slots[f.slot]? = some (ev (kof (ft t k)) (aV h q k)) → XW C H locs (aN h - aN h0).toNat (aS h - aS h0).toNat (pc + 3) ls (ev (kof (ft t k)) (aV h q k) :: evs st) → XW C H locs (aN h - aN h0).toNat (aS h - aS h0).toNat pc ls (.ref q :: evs st))
    (e : (gf h t k a).bind K = some res) (kk : ∀ v, TI (ft t k) v → K v = some res → X C (zA γ ε E hF h0 h) lv (pc + 3) ((kof (ft t k), v) :: st)) : X C (zA γ ε E hF h0 h) lv pc ((2, a) :: st) := by
  unfold gf at e
  split at e
  · rename_i ht
    obtain ⟨q, rfl, -⟩ := hT.pos (a := a) (by rw [ht]; have := c.1; omega)
    have k' := kk (aV h q k) (by have := hT.1 q k; rwa [ht] at this) e
    refine ⟨k'.1, fun H locs ls a b cc' => ?_⟩
    have g := g a.1
    have w := k'.2 H locs ls a b cc'
    show XW C H locs _ _ pc ls (ev 2 (q : Int) :: evs st)
    rw [ev_ref]
    obtain ⟨g0, gK, gN, -, -⟩ := g
    have hc := a.2.2 q (by rw [ht]; have := c.1; omega)
    unfold aCell at hc
    rw [ht, if_pos c.2.1, c.nf] at hc
    obtain ⟨cell, q1, q2, q3, q4⟩ := hc
    obtain ⟨hS, hfc, kC, hkC, hkind⟩ := c.kn gK
    obtain ⟨cf, kf, fi, f, hi, hsl⟩ := hS k hk
    exact row a.1 H locs ls q cf fi kf f cell (hs.ok g0.2.2.2.2.2.1 _ hi) (u_facts hfc hkC (u_lays g0.2.2.2.2.2.1 c.2.2.2.1 hk) hi).1 q1 q3.1 (by rw [hsl]; exact q4 k hk) w
  · cases e
theorem h_get {ρ : Type} (g : γ → Ga C cc nL own E h0) {t k idx : Nat} (hf : FdH own t k idx) {a : Int} {K : Int → Option ρ} {res : ρ} (hT : TH h) (hd : decode cc pc = .ok (.getfield idx, 3)) (e : (gf h t k a).bind K = some res) (kk : ∀ v, TI (ft t k) v → K v = some res → X C (zA γ ε E hF h0 h) lv (pc + 3) ((kof (ft t k), v) :: st)) : X C (zA γ ε E hF h0 h) lv pc ((2, a) :: st) := by
  obtain ⟨r, ref, c, hk, hl, hs⟩ := hf
  exact h_getc (idx := idx) g c hk hs hT (fun hγ H locs ls q cf i kf f cell h1 h2 h3 h4 h5 w => have g := g hγ; W.getf g.1.1 g.1.2.1 g.1.2.2.2.2.1 (g.1.2.2.2.2.2.1 _ hl) h1 h2 h3 h4 h5 rfl rfl hd w) e kk
theorem h_getN {ρ : Type} (g : γ → Ga C cc nL own E h0) {t k idx : Nat} (hf : FdN own t k idx) {a : Int} {K : Int → Option ρ} {res : ρ} (hT : TH h) (hd : decode cc pc = .ok (.getfield idx, 3)) (e : (gf h t k a).bind K = some res) (kk : ∀ v, TI (ft t k) v → K v = some res → X C (zA γ ε E hF h0 h) lv (pc + 3) ((kof (ft t k), v) :: st)) : X C (zA γ ε E hF h0 h) lv pc ((2, a) :: st) := by
  obtain ⟨r, ref, host, c, hk, hl, hs⟩ := hf
  exact h_getc (idx := idx) g c hk hs hT (fun hγ H locs ls q cf i kf f cell h1 h2 h3 h4 h5 w => have g := g hγ; va_Wgetf g.1.1 g.1.2.1 g.1.2.2.2.2.1 ((g.2.2.1 _ hl rfl).use rfl) h1 h2 h3 h4 h5 rfl rfl hd w) e kk
end HRows
