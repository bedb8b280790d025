/-! BASE: ints as Int, a compact walking predicate X, its rows -/
set_option maxRecDepth 100000
def InR (x : Int) : Prop := -2147483648 ≤ x ∧ x < 2147483648
def In64 (x : Int) : Prop := -9223372036854775808 ≤ x ∧ x < 9223372036854775808
def iI (x : Int) : Int32 := Int32.ofInt x
def lI (x : Int) : Int64 := Int64.ofInt x
def wr (x : Int) : Int := (iI x).toInt
def wl (x : Int) : Int := (lI x).toInt
theorem iI_toInt {x : Int} (h : InR x) : (iI x).toInt = x := Int32.toInt_ofInt_of_le h.1 h.2
theorem lI_toInt {x : Int} (h : In64 x) : (lI x).toInt = x := Int64.toInt_ofInt_of_le h.1 h.2
theorem wr_id {x : Int} (h : InR x) : wr x = x := iI_toInt h
theorem wl_id {x : Int} (h : In64 x) : wl x = x := lI_toInt h
theorem iI_wr (x : Int) : iI (wr x) = iI x := Int32.ofInt_toInt _
theorem lI_wl (x : Int) : lI (wl x) = lI x := Int64.ofInt_toInt _
theorem wr_in (x : Int) : InR (wr x) := ⟨Int32.le_toInt _, Int32.toInt_lt _⟩
theorem wl_in (x : Int) : In64 (wl x) := ⟨Int64.le_toInt _, Int64.toInt_lt _⟩
theorem iI_add (a b : Int) : iI a + iI b = iI (wr (a + b)) := by rw [iI_wr]; exact (Int32.ofInt_add a b).symm
theorem iI_sub (a b : Int) : iI a - iI b = iI (wr (a - b)) := by rw [iI_wr]; exact (Int32.ofInt_sub a b).symm
theorem iI_mul (a b : Int) : iI a * iI b = iI (wr (a * b)) := by rw [iI_wr]; exact (Int32.ofInt_mul a b).symm
theorem lI_add (a b : Int) : lI a + lI b = lI (wl (a + b)) := by rw [lI_wl]; exact (Int64.ofInt_add a b).symm
theorem lI_sub (a b : Int) : lI a - lI b = lI (wl (a - b)) := by rw [lI_wl]; exact (Int64.ofInt_sub a b).symm
theorem lI_mul (a b : Int) : lI a * lI b = lI (wl (a * b)) := by rw [lI_wl]; exact (Int64.ofInt_mul a b).symm
theorem iI_inj {a b : Int} (ha : InR a) (hb : InR b) : iI a = iI b ↔ a = b := by
  rw [← Int32.toInt_inj, iI_toInt ha, iI_toInt hb]
theorem iI_lt {a b : Int} (ha : InR a) (hb : InR b) : iI a < iI b ↔ a < b := by
  rw [Int32.lt_iff_toInt_lt, iI_toInt ha, iI_toInt hb]
theorem iI_le {a b : Int} (ha : InR a) (hb : InR b) : iI a ≤ iI b ↔ a ≤ b := by
  rw [Int32.le_iff_toInt_le, iI_toInt ha, iI_toInt hb]
theorem lI_inj {a b : Int} (ha : In64 a) (hb : In64 b) : lI a = lI b ↔ a = b := by
  rw [← Int64.toInt_inj, lI_toInt ha, lI_toInt hb]
theorem lI_lt {a b : Int} (ha : In64 a) (hb : In64 b) : lI a < lI b ↔ a < b := by
  rw [Int64.lt_iff_toInt_lt, lI_toInt ha, lI_toInt hb]
theorem in0 : InR 0 := ⟨by decide, by decide⟩
theorem iI_0 : (0 : Int32) = iI 0 := rfl
theorem iI_eq0 {a : Int} (ha : InR a) : iI a = 0 ↔ a = 0 := iI_inj (b := 0) ha in0
theorem iI_lt0 {a : Int} (ha : InR a) : iI a < 0 ↔ a < 0 := iI_lt (b := 0) ha in0
theorem iI_gt0 {a : Int} (ha : InR a) : 0 < iI a ↔ 0 < a := iI_lt (a := 0) in0 ha
theorem iI_le0 {a : Int} (ha : InR a) : iI a ≤ 0 ↔ a ≤ 0 := iI_le (b := 0) ha in0
theorem iI_ge0 {a : Int} (ha : InR a) : 0 ≤ iI a ↔ 0 ≤ a := iI_le (a := 0) in0 ha
/-- kinds of values: 0 an int, 1 a long, 2 (and more) a reference, -1 for null -/
def ev (t : Nat) (v : Int) : Value := match t with
  | 0 => .int (iI v)
  | 1 => .long (lI v)
  | _ => if v < 0 then .null else .ref v.toNat
abbrev TV : Type := Nat × Int
abbrev LV : Type := List (Nat × TV)
def evs (l : List TV) : List Value := l.map (fun q => ev q.1 q.2)
def lvm (l : LV) : List (Nat × Value) := l.map (fun q => (q.1, ev q.2.1 q.2.2))
def kcat (t : Nat) : Nat := if t = 1 then 2 else 1
theorem ev_cat (t : Nat) (v : Int) : (ev t v).category = kcat t := by
  match t with
  | 0 => rfl
  | 1 => rfl
  | n + 2 =>
    show Value.category (if v < 0 then .null else .ref v.toNat) = 1
    split <;> rfl
theorem ev_ref (a : Nat) : ev 2 (a : Int) = .ref a := by
  show (if (a : Int) < 0 then Value.null else .ref (a : Int).toNat) = .ref a
  rw [if_neg (by omega), Int.toNat_natCast]
def tpos : Nat → List TV → LV
  | _, [] => []
  | i, q :: l => (i, q) :: tpos (if kcat q.1 = 2 then i + 2 else i + 1) l
theorem tpos_args (l : List TV) : ∀ i, lv_args i (evs l) = lvm (tpos i l) := by
  induction l with
  | nil => intro i; rfl
  | cons q l ih =>
    intro i
    show (i, ev q.1 q.2) :: lv_args (if (ev q.1 q.2).category = 2 then i + 2 else i + 1) (evs l) = (i, ev q.1 q.2) :: lvm (tpos (if kcat q.1 = 2 then i + 2 else i + 1) l)
    rw [ev_cat, ih]
theorem evs_cat (l : List TV) : (evs l).map (fun v => v.category) = l.map (fun q => kcat q.1) := by
  induction l with
  | nil => rfl
  | cons q l ih =>
    show (ev q.1 q.2).category :: _ = _
    rw [ev_cat]
    exact congrArg _ ih
theorem evs_app (a b : List TV) : evs (a ++ b) = evs a ++ evs b := by simp [evs]
theorem evs_rev (a : List TV) : evs a.reverse = (evs a).reverse := by simp [evs]
def tsl (l : List TV) : Nat := (l.map (fun q => kcat q.1)).sum
theorem sl_len (l : List TV) : (lg_sl (evs l)).length = tsl l := by
  induction l with
  | nil => rfl
  | cons q l ih =>
    have h : lg_sl (evs (q :: l)) = (if (ev q.1 q.2).category = 2 then [.val (ev q.1 q.2), .second] else [.val (ev q.1 q.2)]) ++ lg_sl (evs l) := rfl
    rw [h, List.length_append, ih, ev_cat]
    show _ = kcat q.1 + _
    congr 1
    unfold kcat
    split <;> rfl
abbrev Cx : Type := (Program × Launch × Env × Room × State) × (MethodId × Array Value × List Frame × Method × Code) × ((Nat → Prop) × Heap × (State → Prop) × Nat)
def cS (C : Cx) : State := C.1.2.2.2.2
def cR (C : Cx) : Room := C.1.2.2.2.1
def cM (C : Cx) : Method := C.2.1.2.2.2.1
def cA (C : Cx) : Nat → Prop := C.2.2.1
def cH (C : Cx) : Heap := C.2.2.2.1
def cQ (C : Cx) : State → Prop := C.2.2.2.2.1
def cN (C : Cx) : Nat := C.2.2.2.2.2
def XW (C : Cx) (H : Heap) (locs : List Loc) (k n : Nat) (pc : Nat) (ls : Array Slot) (st : List Value) : Prop :=
  W C.1.1 C.1.2.1 C.1.2.2.1 C.1.2.2.2.1 C.1.2.2.2.2 C.2.1.1 C.2.1.2.1 C.2.1.2.2.1 C.2.1.2.2.2.1 C.2.1.2.2.2.2 H locs k n C.2.2.2.2.1 (F0 C.2.1.1 pc ls st)
def Gd (C : Cx) (cc : ByteArray) (nL : Nat) (own : String) : Prop :=
  C.1.1.tables.exec = Jvm.exec ∧ C.2.1.2.2.2.2.code = cc ∧ C.2.1.2.2.2.2.maxLocals = nL ∧ C.2.2.2.2.2 = nL ∧ C.1.2.2.2.2.vm.findClass own = some C.2.1.1.cls ∧ (∀ w ∈ lw_all, w.before C.2.1.2.1 C.1.2.2.2.2 = true) ∧ C.2.1.2.2.2.1.locks = false
abbrev Zs : Type := (Heap → Prop) × Nat × Nat × Prop
/-- walking: whatever heap the description z holds of, the machine comes from here to its end -/
def X (C : Cx) (z : Zs) (lv : LV) (pc : Nat) (st : List TV) : Prop :=
  z.2.2.2 ∧ ∀ (H : Heap) (locs : List Loc) (ls : Array Slot), z.1 H → va_S C.2.2.1 C.2.2.2.1 H locs → lv_has ls C.2.2.2.2.2 (lvm lv) → XW C H locs z.2.1 z.2.2.1 pc ls (evs st)
theorem X.step {C : Cx} {z : Zs} {lv : LV} {pc pc' : Nat} {st st' : List TV} (k : X C z lv pc' st') (h : ∀ (H : Heap) (locs : List Loc) (ls : Array Slot), z.1 H → lv_has ls C.2.2.2.2.2 (lvm lv) → XW C H locs z.2.1 z.2.2.1 pc' ls (evs st') → XW C H locs z.2.1 z.2.2.1 pc ls (evs st)) : X C z lv pc st :=
  ⟨k.1, fun H locs ls a b c => h H locs ls a c (k.2 H locs ls a b c)⟩
theorem lv_hold {ls : Array Slot} {n i : Nat} {lv : LV} (hl : lv_has ls n (lvm lv)) (j : Nat) {q : TV} (h : lv[j]? = some (i, q)) : ls[i]? = some (.val (ev q.1 q.2)) := by
  refine lv_at hl j ?_
  show (lv.map _)[j]? = _
  rw [List.getElem?_map, h]
  rfl
/-- a new list of locals behind a store: the place, and some of the old ones (by their places in the list) -/
def keep (lv : LV) (i : Nat) (w : Nat) (ks : List Nat) : LV := ks.filterMap (fun k => lv[k]?)
def keepOk (lv : LV) (i w : Nat) : Bool := lv.all (fun q => !(q.1 == i) && !(q.1 + 1 == i && kcat q.2.1 == 2) && !(w == 2 && q.1 == i + 1))
theorem lvm_mem {lv : LV} {q : Nat × Value} (h : q ∈ lvm lv) : ∃ x ∈ lv, q = (x.1, ev x.2.1 x.2.2) := by
  obtain ⟨x, hx, e⟩ := List.mem_map.mp h
  exact ⟨x, hx, e.symm⟩
theorem keep_store {lv : LV} {i : Nat} {q : TV} {ks : List Nat} {lv' : LV} {ls : Array Slot} {n : Nat} (h : lv_has ls n ((i, ev q.1 q.2) :: (lvm lv).filter (fun x => !(x.1 == i) && !(x.1 + 1 == i && x.2.category == 2))))
    (hk : (i, q) :: keep lv i 1 ks = lv') (ho : keepOk (keep lv i 1 ks) i 1 = true) : lv_has ls n (lvm lv') := by
  subst hk
  refine ⟨h.1, h.2.1, fun x hx => ?_⟩
  rcases List.mem_cons.mp hx with rfl | hx
  · exact h.2.2 _ List.mem_cons_self
  · obtain ⟨y, hy, rfl⟩ := lvm_mem hx
    obtain ⟨k, -, hk⟩ := List.mem_filterMap.mp hy
    refine h.2.2 _ (List.mem_cons_of_mem _ (List.mem_filter.mpr ⟨List.mem_map.mpr ⟨y, List.mem_of_getElem? hk, rfl⟩, ?_⟩))
    have hy2 := List.all_eq_true.mp ho y hy
    simp only [Bool.and_eq_true] at hy2
    simp only [Bool.and_eq_true]
    refine ⟨hy2.1.1, ?_⟩
    have := hy2.1.2
    rw [show (ev y.2.1 y.2.2).category = kcat y.2.1 from ev_cat _ _]
    exact this
theorem keep_store2 {lv : LV} {i : Nat} {q : TV} {ks : List Nat} {lv' : LV} {ls : Array Slot} {n : Nat} (h : lv_has ls n ((i, ev q.1 q.2) :: (lvm lv).filter (fun x => !(x.1 == i) && (!(x.1 == i + 1) && !(x.1 + 1 == i && x.2.category == 2)))))
    (hk : (i, q) :: keep lv i 2 ks = lv') (ho : keepOk (keep lv i 2 ks) i 2 = true) : lv_has ls n (lvm lv') := by
  subst hk
  refine ⟨h.1, h.2.1, fun x hx => ?_⟩
  rcases List.mem_cons.mp hx with rfl | hx
  · exact h.2.2 _ List.mem_cons_self
  · obtain ⟨y, hy, rfl⟩ := lvm_mem hx
    obtain ⟨k, -, hk⟩ := List.mem_filterMap.mp hy
    refine h.2.2 _ (List.mem_cons_of_mem _ (List.mem_filter.mpr ⟨List.mem_map.mpr ⟨y, List.mem_of_getElem? hk, rfl⟩, ?_⟩))
    have hy2 := List.all_eq_true.mp ho y hy
    simp only [Bool.and_eq_true] at hy2
    simp only [Bool.and_eq_true]
    refine ⟨hy2.1.1, ?_, ?_⟩
    · have := hy2.2
      simpa using this
    · have := hy2.1.2
      rw [show (ev y.2.1 y.2.2).category = kcat y.2.1 from ev_cat _ _]
      exact this
/-- fewer locals are listed -/
theorem x_drop {C : Cx} {z : Zs} {lv lv' : LV} {pc : Nat} {st : List TV} (ks : List Nat) (h : keep lv 0 0 ks = lv') (k : X C z lv' pc st) : X C z lv pc st := by
  subst h
  refine ⟨k.1, fun H locs ls a b c => k.2 H locs ls a b ⟨c.1, c.2.1, fun q hq => ?_⟩⟩
  obtain ⟨y, hy, rfl⟩ := lvm_mem hq
  obtain ⟨j, -, hj⟩ := List.mem_filterMap.mp hy
  exact c.2.2 _ (List.mem_map.mpr ⟨y, List.mem_of_getElem? hj, rfl⟩)
/-- what is known of the context, where the heap's description holds -/
abbrev Gz (C : Cx) (z : Zs) (cc : ByteArray) (nL : Nat) (own : String) : Prop := ∀ H : Heap, z.1 H → Gd C cc nL own

section Rows
variable {C : Cx} {cc : ByteArray} {nL : Nat} {own : String} {z : Zs} {lv : LV} {pc : Nat} {st : List TV}
theorem x_iconst (G : Gz C z cc nL own) {n : Int} (hd : decode cc pc = .ok (.iconst n, 1)) (k : X C z lv (pc + 1) ((0, n) :: st)) : X C z lv pc st :=
  X.step k fun H _ _ a0 _ w => have G := G H a0; lv_iconst G.1 G.2.1 hd rfl w
theorem x_bipush (G : Gz C z cc nL own) {n : Int} (hd : decode cc pc = .ok (.bipush n, 2)) (hn : (Int8.ofInt n).toInt32 = iI n) (k : X C z lv (pc + 2) ((0, n) :: st)) : X C z lv pc st :=
  X.step k fun H _ _ a0 _ w => have G := G H a0; lv_bipush G.1 G.2.1 hd hn w
theorem x_sipush (G : Gz C z cc nL own) {n : Int} (hd : decode cc pc = .ok (.sipush n, 3)) (hn : (Int16.ofInt n).toInt32 = iI n) (k : X C z lv (pc + 3) ((0, n) :: st)) : X C z lv pc st :=
  X.step k fun H _ _ a0 _ w => have G := G H a0; lv_sipush G.1 G.2.1 hd hn w
theorem x_lconst (G : Gz C z cc nL own) {n : Fin 2} {v : Int} (hd : decode cc pc = .ok (.lconst n, 1)) (hv : Int64.ofNat (n : Nat) = lI v) (k : X C z lv (pc + 1) ((1, v) :: st)) : X C z lv pc st :=
  X.step k fun H _ _ a0 _ w => have G := G H a0; lv_lconst G.1 G.2.1 hd hv w
theorem x_ldc (G : Gz C z cc nL own) {i : Nat} {v : Int32} {n : Int} (hd : decode cc pc = .ok (.ldc i, 2)) (hq : Jvm.Cond.constant own i v ∈ lw_all) (hv : v = iI n) (k : X C z lv (pc + 2) ((0, n) :: st)) : X C z lv pc st :=
  X.step k fun H _ _ a0 _ w => have G := G H a0; lv_ldc G.1 G.2.1 G.2.2.2.2.1 (G.2.2.2.2.2.1 _ hq) hd (by rw [hv]; exact w)
theorem x_ldc2 (G : Gz C z cc nL own) {i : Nat} {v : Int64} {n : Int} (hd : decode cc pc = .ok (.ldc2_w i, 3)) (hq : Jvm.Cond.constantLong own i v ∈ lw_all) (hv : v = lI n) (k : X C z lv (pc + 3) ((1, n) :: st)) : X C z lv pc st :=
  X.step k fun H _ _ a0 _ w => have G := G H a0; lv_ldc2 G.1 G.2.1 G.2.2.2.2.1 (G.2.2.2.2.2.1 _ hq) hd (by rw [hv]; exact w)
theorem x_null (G : Gz C z cc nL own) (hd : decode cc pc = .ok (.aconst_null, 1)) (k : X C z lv (pc + 1) ((2, -1) :: st)) : X C z lv pc st :=
  X.step k fun H _ _ a0 _ w => have G := G H a0; lv_null G.1 G.2.1 hd w
theorem x_iload_n (G : Gz C z cc nL own) {i : Fin 4} {a : Int} (hd : decode cc pc = .ok (.iload_n i, 1)) (j : Nat) (hj : lv[j]? = some ((i : Nat), (0, a))) (k : X C z lv (pc + 1) ((0, a) :: st)) : X C z lv pc st :=
  X.step k fun H _ _ a0 hl w => have G := G H a0; lv_iload_n G.1 G.2.1 hd rfl (lv_hold hl j hj) w
theorem x_iload (G : Gz C z cc nL own) {i : Nat} {a : Int} (hd : decode cc pc = .ok (.iload i, 2)) (j : Nat) (hj : lv[j]? = some (i, (0, a))) (k : X C z lv (pc + 2) ((0, a) :: st)) : X C z lv pc st :=
  X.step k fun H _ _ a0 hl w => have G := G H a0; lv_iload G.1 G.2.1 hd (lv_hold hl j hj) w
theorem x_lload_n (G : Gz C z cc nL own) {i : Fin 4} {a : Int} (hd : decode cc pc = .ok (.lload_n i, 1)) (j : Nat) (hj : lv[j]? = some ((i : Nat), (1, a))) (k : X C z lv (pc + 1) ((1, a) :: st)) : X C z lv pc st :=
  X.step k fun H _ _ a0 hl w => have G := G H a0; lv_lload_n G.1 G.2.1 hd rfl (lv_hold hl j hj) w
theorem x_lload (G : Gz C z cc nL own) {i : Nat} {a : Int} (hd : decode cc pc = .ok (.lload i, 2)) (j : Nat) (hj : lv[j]? = some (i, (1, a))) (k : X C z lv (pc + 2) ((1, a) :: st)) : X C z lv pc st :=
  X.step k fun H _ _ a0 hl w => have G := G H a0; lv_lload G.1 G.2.1 hd (lv_hold hl j hj) w
theorem ev2_cases (a : Int) : ev 2 a = .null ∨ ∃ q : Nat, ev 2 a = .ref q := by
  show (if a < 0 then Value.null else .ref a.toNat) = .null ∨ ∃ q : Nat, (if a < 0 then Value.null else .ref a.toNat) = .ref q
  split
  · exact Or.inl rfl
  · exact Or.inr ⟨_, rfl⟩
theorem x_aload_n (G : Gz C z cc nL own) {i : Fin 4} {a : Int} (hd : decode cc pc = .ok (.aload_n i, 1)) (j : Nat) (hj : lv[j]? = some ((i : Nat), (2, a))) (k : X C z lv (pc + 1) ((2, a) :: st)) : X C z lv pc st :=
  X.step k fun H _ _ a0 hl w => by
    have G := G H a0
    have h := lv_hold hl j hj
    change XW C _ _ _ _ _ _ (ev 2 a :: evs st) at w
    change _ = some (Slot.val (ev 2 a)) at h
    rcases ev2_cases a with e | ⟨q, e⟩ <;> rw [e] at w h
    · exact lv_aload_nN G.1 G.2.1 hd rfl h w
    · exact lv_aload_n G.1 G.2.1 hd rfl h w
theorem x_aload (G : Gz C z cc nL own) {i : Nat} {a : Int} (hd : decode cc pc = .ok (.aload i, 2)) (j : Nat) (hj : lv[j]? = some (i, (2, a))) (k : X C z lv (pc + 2) ((2, a) :: st)) : X C z lv pc st :=
  X.step k fun H _ _ a0 hl w => by
    have G := G H a0
    have h := lv_hold hl j hj
    change XW C _ _ _ _ _ _ (ev 2 a :: evs st) at w
    change _ = some (Slot.val (ev 2 a)) at h
    rcases ev2_cases a with e | ⟨q, e⟩ <;> rw [e] at w h
    · exact lv_aloadN G.1 G.2.1 hd h w
    · exact lv_aload G.1 G.2.1 hd h w
theorem X.store {i : Nat} {q : TV} {lv' : LV} {pc' : Nat} (ks : List Nat) (hk : (i, q) :: keep lv i 1 ks = lv') (ho : keepOk (keep lv i 1 ks) i 1 = true) (k : X C z lv' pc' st)
    (h : ∀ (H : Heap) (locs : List Loc) (ls : Array Slot) (nL' : Nat), z.1 H → C.2.2.2.2.2 = nL' → lv_has ls nL' (lvm lv) → (∀ ls' : Array Slot, lv_has ls' nL' ((i, ev q.1 q.2) :: (lvm lv).filter (fun x => !(x.1 == i) && !(x.1 + 1 == i && x.2.category == 2))) → XW C H locs z.2.1 z.2.2.1 pc' ls' (evs st)) → XW C H locs z.2.1 z.2.2.1 pc ls (evs (q :: st))) : X C z lv pc (q :: st) :=
  ⟨k.1, fun H locs ls a b c => h H locs ls _ a rfl c (fun ls' hl' => k.2 H locs ls' a b (keep_store hl' hk ho))⟩
theorem X.store2 {i : Nat} {q : TV} {lv' : LV} {pc' : Nat} (ks : List Nat) (hk : (i, q) :: keep lv i 2 ks = lv') (ho : keepOk (keep lv i 2 ks) i 2 = true) (k : X C z lv' pc' st)
    (h : ∀ (H : Heap) (locs : List Loc) (ls : Array Slot) (nL' : Nat), z.1 H → C.2.2.2.2.2 = nL' → lv_has ls nL' (lvm lv) → (∀ ls' : Array Slot, lv_has ls' nL' ((i, ev q.1 q.2) :: (lvm lv).filter (fun x => !(x.1 == i) && (!(x.1 == i + 1) && !(x.1 + 1 == i && x.2.category == 2)))) → XW C H locs z.2.1 z.2.2.1 pc' ls' (evs st)) → XW C H locs z.2.1 z.2.2.1 pc ls (evs (q :: st))) : X C z lv pc (q :: st) :=
  ⟨k.1, fun H locs ls a b c => h H locs ls _ a rfl c (fun ls' hl' => k.2 H locs ls' a b (keep_store2 hl' hk ho))⟩
theorem x_istore_n (G : Gz C z cc nL own) {i : Fin 4} {a : Int} {lv' : LV} (hd : decode cc pc = .ok (.istore_n i, 1)) (ks : List Nat) (hk : ((i : Nat), (0, a)) :: keep lv i 1 ks = lv') (ho : keepOk (keep lv i 1 ks) i 1 = true) (hn : (i : Nat) < nL) (k : X C z lv' (pc + 1) st) : X C z lv pc ((0, a) :: st) :=
  X.store ks hk ho k fun H _ _ nL' a0 e hl kk => have G := G H a0; lv_istore_n G.1 G.2.1 hd rfl hl (by rw [← e, G.2.2.2.1]; exact hn) rfl kk
theorem x_istore (G : Gz C z cc nL own) {i : Nat} {a : Int} {lv' : LV} (hd : decode cc pc = .ok (.istore i, 2)) (ks : List Nat) (hk : (i, (0, a)) :: keep lv i 1 ks = lv') (ho : keepOk (keep lv i 1 ks) i 1 = true) (hn : i < nL) (k : X C z lv' (pc + 2) st) : X C z lv pc ((0, a) :: st) :=
  X.store ks hk ho k fun H _ _ nL' a0 e hl kk => have G := G H a0; lv_istore G.1 G.2.1 hd hl (by rw [← e, G.2.2.2.1]; exact hn) rfl kk
theorem x_lstore_n (G : Gz C z cc nL own) {i : Fin 4} {a : Int} {lv' : LV} (hd : decode cc pc = .ok (.lstore_n i, 1)) (ks : List Nat) (hk : ((i : Nat), (1, a)) :: keep lv i 2 ks = lv') (ho : keepOk (keep lv i 2 ks) i 2 = true) (hn : (i : Nat) + 1 < nL) (k : X C z lv' (pc + 1) st) : X C z lv pc ((1, a) :: st) :=
  X.store2 ks hk ho k fun H _ _ nL' a0 e hl kk => have G := G H a0; lv_lstore_n G.1 G.2.1 hd rfl hl (by rw [← e, G.2.2.2.1]; exact hn) rfl kk
theorem x_lstore (G : Gz C z cc nL own) {i : Nat} {a : Int} {lv' : LV} (hd : decode cc pc = .ok (.lstore i, 2)) (ks : List Nat) (hk : (i, (1, a)) :: keep lv i 2 ks = lv') (ho : keepOk (keep lv i 2 ks) i 2 = true) (hn : i + 1 < nL) (k : X C z lv' (pc + 2) st) : X C z lv pc ((1, a) :: st) :=
  X.store2 ks hk ho k fun H _ _ nL' a0 e hl kk => have G := G H a0; lv_lstore G.1 G.2.1 hd hl (by rw [← e, G.2.2.2.1]; exact hn) rfl kk
theorem x_astore_n (G : Gz C z cc nL own) {i : Fin 4} {a : Int} {lv' : LV} (hd : decode cc pc = .ok (.astore_n i, 1)) (ks : List Nat) (hk : ((i : Nat), (2, a)) :: keep lv i 1 ks = lv') (ho : keepOk (keep lv i 1 ks) i 1 = true) (hn : (i : Nat) < nL) (k : X C z lv' (pc + 1) st) : X C z lv pc ((2, a) :: st) :=
  X.store ks hk ho k fun H _ _ nL' a0 e hl kk => by
    have G := G H a0
    have hn' : (i : Nat) < nL' := by rw [← e, G.2.2.2.1]; exact hn
    change ∀ ls' : Array Slot, lv_has ls' nL' (((i : Nat), ev 2 a) :: _) → _ at kk
    show XW C _ _ _ _ _ _ (ev 2 a :: evs st)
    rcases ev2_cases a with e | ⟨q, e⟩ <;> rw [e] at kk ⊢
    · exact lv_astore_nN G.1 G.2.1 hd rfl hl hn' rfl kk
    · exact lv_astore_n G.1 G.2.1 hd rfl hl hn' rfl kk
theorem x_astore (G : Gz C z cc nL own) {i : Nat} {a : Int} {lv' : LV} (hd : decode cc pc = .ok (.astore i, 2)) (ks : List Nat) (hk : (i, (2, a)) :: keep lv i 1 ks = lv') (ho : keepOk (keep lv i 1 ks) i 1 = true) (hn : i < nL) (k : X C z lv' (pc + 2) st) : X C z lv pc ((2, a) :: st) :=
  X.store ks hk ho k fun H _ _ nL' a0 e hl kk => by
    have G := G H a0
    have hn' : i < nL' := by rw [← e, G.2.2.2.1]; exact hn
    change ∀ ls' : Array Slot, lv_has ls' nL' ((i, ev 2 a) :: _) → _ at kk
    show XW C _ _ _ _ _ _ (ev 2 a :: evs st)
    rcases ev2_cases a with e | ⟨q, e⟩ <;> rw [e] at kk ⊢
    · exact lv_astoreN G.1 G.2.1 hd hl hn' rfl kk
    · exact lv_astore G.1 G.2.1 hd hl hn' rfl kk
theorem x_iinc (G : Gz C z cc nL own) {i : Nat} {n a : Int} {lv' : LV} (hd : decode cc pc = .ok (.iinc i n, 3)) (j : Nat) (hj : lv[j]? = some (i, (0, a))) (ks : List Nat) (hk : (i, (0, wr (a + n))) :: keep lv i 1 ks = lv') (ho : keepOk (keep lv i 1 ks) i 1 = true) (hn : i < nL) (k : X C z lv' (pc + 3) st) : X C z lv pc st := by
  refine ⟨k.1, fun H locs ls a' b c => ?_⟩
  have G := G H a'
  refine lv_iinc G.1 G.2.1 hd c (k := j) (x := iI a) (v := iI (wr (a + n))) (by show (lv.map _)[j]? = _; rw [List.getElem?_map, hj]; rfl) (iI_add a n) (by rw [G.2.2.2.1]; exact hn) rfl (fun ls' hl' => ?_)
  exact k.2 H locs ls' a' b (keep_store (q := (0, wr (a + n))) hl' hk ho)
theorem x_iadd (G : Gz C z cc nL own) {a b : Int} (hd : decode cc pc = .ok (.iadd, 1)) (k : X C z lv (pc + 1) ((0, wr (a + b)) :: st)) : X C z lv pc ((0, b) :: (0, a) :: st) :=
  X.step k fun H _ _ a0 _ w => have G := G H a0; lv_iadd (x := iI a) (y := iI b) G.1 G.2.1 hd (by rw [iI_add]; exact w)
theorem x_isub (G : Gz C z cc nL own) {a b : Int} (hd : decode cc pc = .ok (.isub, 1)) (k : X C z lv (pc + 1) ((0, wr (a - b)) :: st)) : X C z lv pc ((0, b) :: (0, a) :: st) :=
  X.step k fun H _ _ a0 _ w => have G := G H a0; lv_isub (x := iI a) (y := iI b) G.1 G.2.1 hd (by rw [iI_sub]; exact w)
theorem x_imul (G : Gz C z cc nL own) {a b : Int} (hd : decode cc pc = .ok (.imul, 1)) (k : X C z lv (pc + 1) ((0, wr (a * b)) :: st)) : X C z lv pc ((0, b) :: (0, a) :: st) :=
  X.step k fun H _ _ a0 _ w => have G := G H a0; lv_imul (x := iI a) (y := iI b) G.1 G.2.1 hd (by rw [iI_mul]; exact w)
theorem x_ladd (G : Gz C z cc nL own) {a b : Int} (hd : decode cc pc = .ok (.ladd, 1)) (k : X C z lv (pc + 1) ((1, wl (a + b)) :: st)) : X C z lv pc ((1, b) :: (1, a) :: st) :=
  X.step k fun H _ _ a0 _ w => have G := G H a0; lv_ladd (x := lI a) (y := lI b) G.1 G.2.1 hd (by rw [lI_add]; exact w)
theorem x_lsub (G : Gz C z cc nL own) {a b : Int} (hd : decode cc pc = .ok (.lsub, 1)) (k : X C z lv (pc + 1) ((1, wl (a - b)) :: st)) : X C z lv pc ((1, b) :: (1, a) :: st) :=
  X.step k fun H _ _ a0 _ w => have G := G H a0; lv_lsub (x := lI a) (y := lI b) G.1 G.2.1 hd (by rw [lI_sub]; exact w)
theorem x_lmul (G : Gz C z cc nL own) {a b : Int} (hd : decode cc pc = .ok (.lmul, 1)) (k : X C z lv (pc + 1) ((1, wl (a * b)) :: st)) : X C z lv pc ((1, b) :: (1, a) :: st) :=
  X.step k fun H _ _ a0 _ w => have G := G H a0; lv_lmul (x := lI a) (y := lI b) G.1 G.2.1 hd (by rw [lI_mul]; exact w)
/-- bits: by the machine's own ints -/
def or32 (a b : Int) : Int := (iI a ||| iI b).toInt
def and32 (a b : Int) : Int := (iI a &&& iI b).toInt
def shl32 (a b : Int) : Int := (iI a <<< (iI b &&& 31)).toInt
theorem or32_in (a b : Int) : InR (or32 a b) := ⟨Int32.le_toInt _, Int32.toInt_lt _⟩
theorem and32_in (a b : Int) : InR (and32 a b) := ⟨Int32.le_toInt _, Int32.toInt_lt _⟩
theorem shl32_in (a b : Int) : InR (shl32 a b) := ⟨Int32.le_toInt _, Int32.toInt_lt _⟩
theorem x_ior (G : Gz C z cc nL own) {a b : Int} (hd : decode cc pc = .ok (.ior, 1)) (k : X C z lv (pc + 1) ((0, or32 a b) :: st)) : X C z lv pc ((0, b) :: (0, a) :: st) :=
  X.step k fun H _ _ a0 _ w => have G := G H a0; lv_ior (x := iI a) (y := iI b) G.1 G.2.1 hd (by rw [show iI a ||| iI b = iI (or32 a b) from (Int32.ofInt_toInt _).symm]; exact w)
theorem x_iand (G : Gz C z cc nL own) {a b : Int} (hd : decode cc pc = .ok (.iand, 1)) (k : X C z lv (pc + 1) ((0, and32 a b) :: st)) : X C z lv pc ((0, b) :: (0, a) :: st) :=
  X.step k fun H _ _ a0 _ w => have G := G H a0; lv_iand (x := iI a) (y := iI b) G.1 G.2.1 hd (by rw [show iI a &&& iI b = iI (and32 a b) from (Int32.ofInt_toInt _).symm]; exact w)
theorem x_ishl (G : Gz C z cc nL own) {a b : Int} (hd : decode cc pc = .ok (.ishl, 1)) (k : X C z lv (pc + 1) ((0, shl32 a b) :: st)) : X C z lv pc ((0, b) :: (0, a) :: st) :=
  X.step k fun H _ _ a0 _ w => have G := G H a0; lv_ishl (x := iI a) (y := iI b) G.1 G.2.1 hd (by rw [show iI a <<< (iI b &&& 31) = iI (shl32 a b) from (Int32.ofInt_toInt _).symm]; exact w)
/-- division and rest: of what is not negative -/
def dvc (a b : Int) : Option Int := if 0 ≤ a ∧ 0 < b then some (a / b) else none
def rmc (a b : Int) : Option Int := if 0 ≤ a ∧ 0 < b then some (a % b) else none
theorem iI_div {a b : Int} (ha : InR a) (hb : InR b) (h0 : 0 ≤ a) (h1 : 0 < b) : iI a / iI b = iI (a / b) := by
  obtain ⟨m, rfl⟩ := Int.eq_ofNat_of_zero_le h0
  obtain ⟨n, rfl⟩ := Int.eq_ofNat_of_zero_le (Int.le_of_lt h1)
  have hm := ha.2
  have hn := hb.2
  exact pk_div (a := m) (d := n) (by omega) (by omega) (by omega)
theorem iI_rem {a b : Int} (ha : InR a) (hb : InR b) (h0 : 0 ≤ a) (h1 : 0 < b) : iI a - iI a / iI b * iI b = iI (a % b) := by
  obtain ⟨m, rfl⟩ := Int.eq_ofNat_of_zero_le h0
  obtain ⟨n, rfl⟩ := Int.eq_ofNat_of_zero_le (Int.le_of_lt h1)
  have hm := ha.2
  have hn := hb.2
  exact pk_rem (a := m) (d := n) (by omega) (by omega) (by omega)
theorem dvc_some {ρ : Type} {a b : Int} {K : Int → Option ρ} {r : Option ρ} {v : ρ} (e : (dvc a b).bind K = some v) : 0 ≤ a ∧ 0 < b ∧ K (a / b) = some v := by
  unfold dvc at e
  split at e
  · rename_i h; exact ⟨h.1, h.2, e⟩
  · cases e
theorem in_div {a b : Int} (ha : InR a) (h0 : 0 ≤ a) (h1 : 0 < b) : InR (a / b) := by
  have h2 : a / b ≤ a := Int.ediv_le_self b h0
  have h3 : 0 ≤ a / b := Int.ediv_nonneg h0 (Int.le_of_lt h1)
  exact ⟨by omega, by have := ha.2; omega⟩
theorem in_mod {a b : Int} (hb : InR b) (h1 : 0 < b) : InR (a % b) := by
  have h2 := Int.emod_lt_of_pos a h1
  have h3 := Int.emod_nonneg a (show b ≠ 0 by omega)
  exact ⟨by omega, by have := hb.2; omega⟩
theorem x_idiv {ρ : Type} (G : Gz C z cc nL own) {a b : Int} {K : Int → Option ρ} {r : ρ} (hd : decode cc pc = .ok (.idiv, 1)) (ha : InR a) (hb : InR b) (e : (dvc a b).bind K = some r) (k : ∀ v, InR v → 0 ≤ v → K v = some r → X C z lv (pc + 1) ((0, v) :: st)) : X C z lv pc ((0, b) :: (0, a) :: st) := by
  unfold dvc at e
  split at e
  · rename_i h
    have k' := k (a / b) (in_div ha h.1 h.2) (Int.ediv_nonneg h.1 (Int.le_of_lt h.2)) e
    exact X.step k' fun H _ _ a0 _ w => have G := G H a0; lv_idiv (x := iI a) (y := iI b) G.1 G.2.1 hd (fun q => by rw [iI_eq0 hb] at q; omega) (by rw [iI_div ha hb h.1 h.2]; exact w)
  · cases e
theorem x_irem {ρ : Type} (G : Gz C z cc nL own) {a b : Int} {K : Int → Option ρ} {r : ρ} (hd : decode cc pc = .ok (.irem, 1)) (ha : InR a) (hb : InR b) (e : (rmc a b).bind K = some r) (k : ∀ v, InR v → 0 ≤ v → K v = some r → X C z lv (pc + 1) ((0, v) :: st)) : X C z lv pc ((0, b) :: (0, a) :: st) := by
  unfold rmc at e
  split at e
  · rename_i h
    have k' := k (a % b) (in_mod hb h.2) (Int.emod_nonneg a (by omega)) e
    exact X.step k' fun H _ _ a0 _ w => have G := G H a0; lv_irem (x := iI a) (y := iI b) G.1 G.2.1 hd (fun q => by rw [iI_eq0 hb] at q; omega) (by rw [iI_rem ha hb h.1 h.2]; exact w)
  · cases e
theorem iI_i2l {a : Int} (h : InR a) : (iI a).toInt64 = lI a := by
  rw [← Int64.toInt_inj, Int32.toInt_toInt64, iI_toInt h, lI_toInt ⟨by have := h.1; omega, by have := h.2; omega⟩]
theorem x_i2l (G : Gz C z cc nL own) {a : Int} (hd : decode cc pc = .ok (.i2l, 1)) (ha : InR a) (k : X C z lv (pc + 1) ((1, a) :: st)) : X C z lv pc ((0, a) :: st) :=
  X.step k fun H _ _ a0 _ w => have G := G H a0; lv_i2l (x := iI a) G.1 G.2.1 hd (iI_i2l ha) w
def chr (a : Int) : Int := ((iI a).toUInt32 % 65536).toInt32.toInt
theorem chr_eq (a : Int) : iI (chr a) = ((iI a).toUInt32 % 65536).toInt32 := Int32.ofInt_toInt _
theorem x_i2c (G : Gz C z cc nL own) {a : Int} (hd : decode cc pc = .ok (.i2c, 1)) (k : X C z lv (pc + 1) ((0, chr a) :: st)) : X C z lv pc ((0, a) :: st) :=
  X.step k fun H _ _ a0 _ w => have G := G H a0; lv_i2c (x := iI a) G.1 G.2.1 hd (chr_eq a).symm w
def cmp64 (a b : Int) : Int := (lg_cmp (lI a) (lI b)).toInt
theorem cmp64_in (a b : Int) : InR (cmp64 a b) := ⟨Int32.le_toInt _, Int32.toInt_lt _⟩
theorem x_lcmp (G : Gz C z cc nL own) {a b : Int} (hd : decode cc pc = .ok (.lcmp, 1)) (k : X C z lv (pc + 1) ((0, cmp64 a b) :: st)) : X C z lv pc ((1, b) :: (1, a) :: st) :=
  X.step k fun H _ _ a0 _ w => have G := G H a0; W.lcmp (x := lI a) (y := lI b) G.1 G.2.1 hd (by rw [show lg_cmp (lI a) (lI b) = iI (cmp64 a b) from (Int32.ofInt_toInt _).symm]; exact w)
theorem x_dup (G : Gz C z cc nL own) {t : Nat} {a : Int} (hd : decode cc pc = .ok (.dup, 1)) (ht : kcat t = 1) (k : X C z lv (pc + 1) ((t, a) :: (t, a) :: st)) : X C z lv pc ((t, a) :: st) :=
  X.step k fun H _ _ a0 _ w => have G := G H a0; lv_dup (va := ev t a) G.1 G.2.1 hd ((ev_cat _ _).trans ht) w
theorem x_dup_x1 (G : Gz C z cc nL own) {t u : Nat} {a b : Int} (hd : decode cc pc = .ok (.dup_x1, 1)) (ht : kcat t = 1) (hu : kcat u = 1) (k : X C z lv (pc + 1) ((t, a) :: (u, b) :: (t, a) :: st)) : X C z lv pc ((t, a) :: (u, b) :: st) :=
  X.step k fun H _ _ a0 _ w => have G := G H a0; lv_dup_x1 (va := ev t a) (vb := ev u b) G.1 G.2.1 hd ((ev_cat _ _).trans ht) ((ev_cat _ _).trans hu) w
theorem x_dup2 (G : Gz C z cc nL own) {t u : Nat} {a b : Int} (hd : decode cc pc = .ok (.dup2, 1)) (ht : kcat t = 1) (hu : kcat u = 1) (k : X C z lv (pc + 1) ((t, a) :: (u, b) :: (t, a) :: (u, b) :: st)) : X C z lv pc ((t, a) :: (u, b) :: st) :=
  X.step k fun H _ _ a0 _ w => have G := G H a0; lv_dup2_11 (va := ev t a) (vb := ev u b) G.1 G.2.1 hd ((ev_cat _ _).trans ht) ((ev_cat _ _).trans hu) w
theorem x_pop (G : Gz C z cc nL own) {t : Nat} {a : Int} (hd : decode cc pc = .ok (.pop, 1)) (ht : kcat t = 1) (k : X C z lv (pc + 1) st) : X C z lv pc ((t, a) :: st) :=
  X.step k fun H _ _ a0 _ w => have G := G H a0; lv_pop (va := ev t a) G.1 G.2.1 hd ((ev_cat _ _).trans ht) w
theorem x_pop2 (G : Gz C z cc nL own) {a : Int} (hd : decode cc pc = .ok (.pop2, 1)) (k : X C z lv (pc + 1) st) : X C z lv pc ((1, a) :: st) :=
  X.step k fun H _ _ a0 _ w => have G := G H a0; lv_pop2_2 (va := ev 1 a) G.1 G.2.1 hd rfl w
theorem x_goto (G : Gz C z cc nL own) {off : Int} (tgt : Nat) (hd : decode cc pc = .ok (.goto off, 3)) (ht : (pc : Int) + off = (tgt : Int)) (k : X C z lv tgt st) : X C z lv pc st :=
  X.step k fun H _ _ a0 _ w => have G := G H a0; lv_goto G.1 G.2.1 hd ht w
/-- a branch: what the program's function does, by its own test -/
theorem X.br {P : Prop} [Decidable P] {α : Type} {A B r : α} {pt pf : Nat} {st' : List TV} (e : (if P then A else B) = r) (kt : A = r → X C z lv pt st) (kf : B = r → X C z lv pf st)
    (ht : P → ∀ (H : Heap) (locs : List Loc) (ls : Array Slot), z.1 H → XW C H locs z.2.1 z.2.2.1 pt ls (evs st) → XW C H locs z.2.1 z.2.2.1 pc ls (evs st'))
    (hf : ¬ P → ∀ (H : Heap) (locs : List Loc) (ls : Array Slot), z.1 H → XW C H locs z.2.1 z.2.2.1 pf ls (evs st) → XW C H locs z.2.1 z.2.2.1 pc ls (evs st')) : X C z lv pc st' := by
  by_cases h : P
  · rw [if_pos h] at e
    exact X.step (kt e) fun H locs ls a _ w => ht h H locs ls a w
  · rw [if_neg h] at e
    exact X.step (kf e) fun H locs ls a _ w => hf h H locs ls a w
section Br
variable {α : Type} {A B r : α} {off : Int} {a b : Int}
theorem x_icmp_eq (G : Gz C z cc nL own) (tgt : Nat) (hd : decode cc pc = .ok (.if_icmp .eq off, 3)) (ht : (pc : Int) + off = (tgt : Int)) (ra : InR a) (rb : InR b) (e : (if a = b then A else B) = r) (kt : A = r → X C z lv tgt st) (kf : B = r → X C z lv (pc + 3) st) : X C z lv pc ((0, b) :: (0, a) :: st) :=
  X.br e kt kf (fun h H _ _ a0 w => have G := G H a0; lv_icmp_eq (x := iI a) (y := iI b) G.1 G.2.1 hd ht (fun _ => w) (fun q => absurd ((iI_inj ra rb).mpr h) q)) (fun h H _ _ a0 w => have G := G H a0; lv_icmp_eq (x := iI a) (y := iI b) G.1 G.2.1 hd ht (fun q => absurd ((iI_inj ra rb).mp q) h) (fun _ => w))
theorem x_icmp_ne (G : Gz C z cc nL own) (tgt : Nat) (hd : decode cc pc = .ok (.if_icmp .ne off, 3)) (ht : (pc : Int) + off = (tgt : Int)) (ra : InR a) (rb : InR b) (e : (if a = b then A else B) = r) (kt : A = r → X C z lv (pc + 3) st) (kf : B = r → X C z lv tgt st) : X C z lv pc ((0, b) :: (0, a) :: st) :=
  X.br e kt kf (fun h H _ _ a0 w => have G := G H a0; lv_icmp_ne (x := iI a) (y := iI b) G.1 G.2.1 hd ht (fun q => absurd ((iI_inj ra rb).mpr h) q) (fun _ => w)) (fun h H _ _ a0 w => have G := G H a0; lv_icmp_ne (x := iI a) (y := iI b) G.1 G.2.1 hd ht (fun _ => w) (fun q => absurd ((iI_inj ra rb).mp q) h))
theorem x_icmp_lt (G : Gz C z cc nL own) (tgt : Nat) (hd : decode cc pc = .ok (.if_icmp .lt off, 3)) (ht : (pc : Int) + off = (tgt : Int)) (ra : InR a) (rb : InR b) (e : (if a < b then A else B) = r) (kt : A = r → X C z lv tgt st) (kf : B = r → X C z lv (pc + 3) st) : X C z lv pc ((0, b) :: (0, a) :: st) :=
  X.br e kt kf (fun h H _ _ a0 w => have G := G H a0; lv_icmp_lt (x := iI a) (y := iI b) G.1 G.2.1 hd ht (fun _ => w) (fun q => absurd ((iI_lt ra rb).mpr h) q)) (fun h H _ _ a0 w => have G := G H a0; lv_icmp_lt (x := iI a) (y := iI b) G.1 G.2.1 hd ht (fun q => absurd ((iI_lt ra rb).mp q) h) (fun _ => w))
theorem x_icmp_ge (G : Gz C z cc nL own) (tgt : Nat) (hd : decode cc pc = .ok (.if_icmp .ge off, 3)) (ht : (pc : Int) + off = (tgt : Int)) (ra : InR a) (rb : InR b) (e : (if a < b then A else B) = r) (kt : A = r → X C z lv (pc + 3) st) (kf : B = r → X C z lv tgt st) : X C z lv pc ((0, b) :: (0, a) :: st) :=
  X.br e kt kf (fun h H _ _ a0 w => have G := G H a0; lv_icmp_ge (x := iI a) (y := iI b) G.1 G.2.1 hd ht (fun q => absurd ((iI_le rb ra).mp q) (by omega)) (fun _ => w)) (fun h H _ _ a0 w => have G := G H a0; lv_icmp_ge (x := iI a) (y := iI b) G.1 G.2.1 hd ht (fun _ => w) (fun q => absurd ((iI_le rb ra).mpr (by omega)) q))
theorem x_icmp_gt (G : Gz C z cc nL own) (tgt : Nat) (hd : decode cc pc = .ok (.if_icmp .gt off, 3)) (ht : (pc : Int) + off = (tgt : Int)) (ra : InR a) (rb : InR b) (e : (if b < a then A else B) = r) (kt : A = r → X C z lv tgt st) (kf : B = r → X C z lv (pc + 3) st) : X C z lv pc ((0, b) :: (0, a) :: st) :=
  X.br e kt kf (fun h H _ _ a0 w => have G := G H a0; lv_icmp_gt (x := iI a) (y := iI b) G.1 G.2.1 hd ht (fun _ => w) (fun q => absurd ((iI_lt rb ra).mpr h) q)) (fun h H _ _ a0 w => have G := G H a0; lv_icmp_gt (x := iI a) (y := iI b) G.1 G.2.1 hd ht (fun q => absurd ((iI_lt rb ra).mp q) h) (fun _ => w))
theorem x_icmp_le (G : Gz C z cc nL own) (tgt : Nat) (hd : decode cc pc = .ok (.if_icmp .le off, 3)) (ht : (pc : Int) + off = (tgt : Int)) (ra : InR a) (rb : InR b) (e : (if b < a then A else B) = r) (kt : A = r → X C z lv (pc + 3) st) (kf : B = r → X C z lv tgt st) : X C z lv pc ((0, b) :: (0, a) :: st) :=
  X.br e kt kf (fun h H _ _ a0 w => have G := G H a0; lv_icmp_le (x := iI a) (y := iI b) G.1 G.2.1 hd ht (fun q => absurd ((iI_le ra rb).mp q) (by omega)) (fun _ => w)) (fun h H _ _ a0 w => have G := G H a0; lv_icmp_le (x := iI a) (y := iI b) G.1 G.2.1 hd ht (fun _ => w) (fun q => absurd ((iI_le ra rb).mpr (by omega)) q))
theorem x_if_eq (G : Gz C z cc nL own) (tgt : Nat) (hd : decode cc pc = .ok (.ifCond .eq off, 3)) (ht : (pc : Int) + off = (tgt : Int)) (ra : InR a) (e : (if a = 0 then A else B) = r) (kt : A = r → X C z lv tgt st) (kf : B = r → X C z lv (pc + 3) st) : X C z lv pc ((0, a) :: st) :=
  X.br e kt kf (fun h H _ _ a0 w => have G := G H a0; lv_if_eq (x := iI a) G.1 G.2.1 hd ht (fun _ => w) (fun q => absurd ((iI_eq0 ra).mpr h) q)) (fun h H _ _ a0 w => have G := G H a0; lv_if_eq (x := iI a) G.1 G.2.1 hd ht (fun q => absurd ((iI_eq0 ra).mp q) h) (fun _ => w))
theorem x_if_ne (G : Gz C z cc nL own) (tgt : Nat) (hd : decode cc pc = .ok (.ifCond .ne off, 3)) (ht : (pc : Int) + off = (tgt : Int)) (ra : InR a) (e : (if a = 0 then A else B) = r) (kt : A = r → X C z lv (pc + 3) st) (kf : B = r → X C z lv tgt st) : X C z lv pc ((0, a) :: st) :=
  X.br e kt kf (fun h H _ _ a0 w => have G := G H a0; lv_if_ne (x := iI a) G.1 G.2.1 hd ht (fun q => absurd ((iI_eq0 ra).mpr h) q) (fun _ => w)) (fun h H _ _ a0 w => have G := G H a0; lv_if_ne (x := iI a) G.1 G.2.1 hd ht (fun _ => w) (fun q => absurd ((iI_eq0 ra).mp q) h))
theorem x_if_lt (G : Gz C z cc nL own) (tgt : Nat) (hd : decode cc pc = .ok (.ifCond .lt off, 3)) (ht : (pc : Int) + off = (tgt : Int)) (ra : InR a) (e : (if a < 0 then A else B) = r) (kt : A = r → X C z lv tgt st) (kf : B = r → X C z lv (pc + 3) st) : X C z lv pc ((0, a) :: st) :=
  X.br e kt kf (fun h H _ _ a0 w => have G := G H a0; lv_if_lt (x := iI a) G.1 G.2.1 hd ht (fun _ => w) (fun q => absurd ((iI_lt0 ra).mpr h) q)) (fun h H _ _ a0 w => have G := G H a0; lv_if_lt (x := iI a) G.1 G.2.1 hd ht (fun q => absurd ((iI_lt0 ra).mp q) h) (fun _ => w))
theorem x_if_ge (G : Gz C z cc nL own) (tgt : Nat) (hd : decode cc pc = .ok (.ifCond .ge off, 3)) (ht : (pc : Int) + off = (tgt : Int)) (ra : InR a) (e : (if a < 0 then A else B) = r) (kt : A = r → X C z lv (pc + 3) st) (kf : B = r → X C z lv tgt st) : X C z lv pc ((0, a) :: st) :=
  X.br e kt kf (fun h H _ _ a0 w => have G := G H a0; lv_if_ge (x := iI a) G.1 G.2.1 hd ht (fun q => absurd ((iI_ge0 ra).mp q) (by omega)) (fun _ => w)) (fun h H _ _ a0 w => have G := G H a0; lv_if_ge (x := iI a) G.1 G.2.1 hd ht (fun _ => w) (fun q => absurd ((iI_ge0 ra).mpr (by omega)) q))
theorem x_if_gt (G : Gz C z cc nL own) (tgt : Nat) (hd : decode cc pc = .ok (.ifCond .gt off, 3)) (ht : (pc : Int) + off = (tgt : Int)) (ra : InR a) (e : (if 0 < a then A else B) = r) (kt : A = r → X C z lv tgt st) (kf : B = r → X C z lv (pc + 3) st) : X C z lv pc ((0, a) :: st) :=
  X.br e kt kf (fun h H _ _ a0 w => have G := G H a0; lv_if_gt (x := iI a) G.1 G.2.1 hd ht (fun _ => w) (fun q => absurd ((iI_gt0 ra).mpr h) q)) (fun h H _ _ a0 w => have G := G H a0; lv_if_gt (x := iI a) G.1 G.2.1 hd ht (fun q => absurd ((iI_gt0 ra).mp q) h) (fun _ => w))
theorem x_if_le (G : Gz C z cc nL own) (tgt : Nat) (hd : decode cc pc = .ok (.ifCond .le off, 3)) (ht : (pc : Int) + off = (tgt : Int)) (ra : InR a) (e : (if 0 < a then A else B) = r) (kt : A = r → X C z lv (pc + 3) st) (kf : B = r → X C z lv tgt st) : X C z lv pc ((0, a) :: st) :=
  X.br e kt kf (fun h H _ _ a0 w => have G := G H a0; lv_if_le (x := iI a) G.1 G.2.1 hd ht (fun q => absurd ((iI_le0 ra).mp q) (by omega)) (fun _ => w)) (fun h H _ _ a0 w => have G := G H a0; lv_if_le (x := iI a) G.1 G.2.1 hd ht (fun _ => w) (fun q => absurd ((iI_le0 ra).mpr (by omega)) q))
theorem ev_null {a : Int} (h : a < 0) : ev 2 a = .null := if_pos h
theorem ev_some {a : Int} (h : ¬ a < 0) : ev 2 a = .ref a.toNat := if_neg h
theorem x_ifnull (G : Gz C z cc nL own) (tgt : Nat) (hd : decode cc pc = .ok (.ifnull off, 3)) (ht : (pc : Int) + off = (tgt : Int)) (e : (if a < 0 then A else B) = r) (kt : A = r → X C z lv tgt st) (kf : B = r → X C z lv (pc + 3) st) : X C z lv pc ((2, a) :: st) :=
  X.br e kt kf (fun h H _ _ a0 w => by have G := G H a0; show XW C _ _ _ _ _ _ (ev 2 a :: evs st); rw [ev_null h]; exact lv_ifnullN G.1 G.2.1 hd ht w) (fun h H _ _ a0 w => by have G := G H a0; show XW C _ _ _ _ _ _ (ev 2 a :: evs st); rw [ev_some h]; exact lv_ifnull G.1 G.2.1 hd w)
theorem x_ifnonnull (G : Gz C z cc nL own) (tgt : Nat) (hd : decode cc pc = .ok (.ifnonnull off, 3)) (ht : (pc : Int) + off = (tgt : Int)) (e : (if a < 0 then A else B) = r) (kt : A = r → X C z lv (pc + 3) st) (kf : B = r → X C z lv tgt st) : X C z lv pc ((2, a) :: st) :=
  X.br e kt kf (fun h H _ _ a0 w => by have G := G H a0; show XW C _ _ _ _ _ _ (ev 2 a :: evs st); rw [ev_null h]; exact lv_ifnonnullN G.1 G.2.1 hd w) (fun h H _ _ a0 w => by have G := G H a0; show XW C _ _ _ _ _ _ (ev 2 a :: evs st); rw [ev_some h]; exact lv_ifnonnull G.1 G.2.1 hd ht w)
end Br
end Rows
/-! how functions are put together, and the rules that take them apart -/
def jn {α β : Type} (F : α → β) (G : (α → β) → β) : β := G F
def bd1 {α β : Type} (a : α) (K : α → β) : β := K a
def lp {α β : Type} (F : (α → Option β) → α → Option β) : Nat → α → Option β
  | 0, _ => none
  | n + 1, a => F (lp F n) a
def FU : Nat := 1000000
def sb {ρ α : Type} (o : Option (Sum ρ α)) (K : α → Option ρ) : Option ρ := match o with
  | none => none
  | some (.inl r) => some r
  | some (.inr a) => K a
def sbP {ρ α : Type} (r : ρ) (Y : α → Prop) (t : Sum ρ α) : Prop := match t with
  | .inl q => q = r
  | .inr a => Y a
theorem bd_rule {α ρ : Type} {R : Option α} {K : α → Option ρ} {r : ρ} (e : R.bind K = some r) {P : Prop} {Y : α → Prop} (h1 : ∀ a, K a = some r → Y a) (h2 : ∀ t, Y t → R = some t → P) : P := by
  cases h : R with
  | none => rw [h] at e; cases e
  | some t => rw [h] at e; exact h2 t (h1 t e) h
theorem jn_rule {α ρ : Type} {F : α → Option ρ} {G : (α → Option ρ) → Option ρ} {r : ρ} (e : jn F G = some r) {P : Prop} {Y : α → Prop} (h1 : ∀ a, F a = some r → Y a) (h2 : ∀ j : α → Option ρ, (∀ a, j a = some r → Y a) → G j = some r → P) : P := h2 F h1 e
theorem sb_rule {α ρ : Type} {R : Option (Sum ρ α)} {K : α → Option ρ} {r : ρ} (e : sb R K = some r) {P : Prop} {Y : α → Prop} (h1 : ∀ a, K a = some r → Y a) (h2 : ∀ t, sbP r Y t → R = some t → P) : P := by
  cases h : R with
  | none => rw [h] at e; cases e
  | some t =>
    rw [h] at e
    cases t with
    | inl q => exact h2 (.inl q) (Option.some.inj e) h
    | inr a => exact h2 (.inr a) (h1 a e) h
theorem lf {α : Type} {a t : α} {Y : α → Prop} (e : some a = some t) (h : Y t) : Y a := by cases e; exact h
theorem lfr {ρ α : Type} {a : α} {t : Sum ρ α} {r : ρ} {Y : α → Prop} (e : some (Sum.inr a) = some t) (h : sbP r Y t) : Y a := by cases e; exact h
theorem lfl {ρ α : Type} {q : ρ} {t : Sum ρ α} {r : ρ} {Y : α → Prop} (e : some (Sum.inl q) = some t) (h : sbP r Y t) : some q = some r := by cases e; exact congrArg some h
theorem lp_rule {α β : Type} {F : (α → Option β) → α → Option β} {P : α → Prop} {t : β} (h : ∀ rec : α → Option β, (∀ a, rec a = some t → P a) → ∀ a, F rec a = some t → P a) : ∀ (n : Nat) (a : α), lp F n a = some t → P a := by
  intro n
  induction n with
  | zero => intro a e; cases e
  | succ n ih => intro a e; exact h _ ih a e
theorem bd1_rule {α ρ : Type} {a : α} {K : α → Option ρ} {r : ρ} (e : bd1 a K = some r) {P : Prop} (h : ∀ b, b = a → K b = some r → P) : P := h a rfl e
/-- what a field or place of a type holds: 0 int, 1 boolean, 2 char, 3 byte, 4 long, else a reference -/
def TI (t : Nat) (x : Int) : Prop := match t with
  | 0 => InR x
  | 1 => x = 0 ∨ x = 1
  | 2 => 0 ≤ x ∧ x < 65536
  | 3 => -128 ≤ x ∧ x < 128
  | 4 => In64 x
  | _ => -1 ≤ x
theorem TI.z {x : Int} (h : TI 1 x) : InR x := by rcases h with rfl | rfl <;> exact ⟨by decide, by decide⟩
theorem TI.c {x : Int} (h : TI 2 x) : InR x := ⟨by have := h.1; omega, by have := h.2; omega⟩
theorem TI.b {x : Int} (h : TI 3 x) : InR x := ⟨by have := h.1; omega, by have := h.2; omega⟩
theorem TI.zc {x : Int} (h : TI 1 x) : TI 2 x := by rcases h with rfl | rfl <;> exact ⟨by decide, by decide⟩
theorem TI.l {x : Int} (h : InR x) : In64 x := ⟨by have := h.1; omega, by have := h.2; omega⟩
theorem chr_ti (a : Int) : TI 2 (chr a) := by
  have h : ∀ u : UInt32, u < 65536 → 0 ≤ u.toInt32.toInt ∧ u.toInt32.toInt < 65536 := by
    intro u hu
    have h1 : u.toNat < 65536 := hu
    have e : u.toInt32.toInt = u.toBitVec.toInt := rfl
    have e2 : u.toBitVec.toNat = u.toNat := rfl
    rw [e, BitVec.toInt_eq_toNat_of_lt (by omega)]
    omega
  exact h _ (UInt32.mod_lt _ (by decide))
theorem or32_z {a b : Int} (ha : TI 1 a) (hb : TI 1 b) : TI 1 (or32 a b) := by
  rcases ha with rfl | rfl <;> rcases hb with rfl | rfl
  · exact Or.inl (by decide)
  · exact Or.inr (by decide)
  · exact Or.inr (by decide)
  · exact Or.inr (by decide)
