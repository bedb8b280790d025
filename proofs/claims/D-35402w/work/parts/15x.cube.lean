/-! HEAP, cubes: arrays of arrays of arrays (after the library's proofs on two dimensions) -/
set_option maxRecDepth 100000
def out3 (c : ClassId) (P h0 st : Nat) : Nat → Cell
  | 0 => { cls := c, slots := Array.replicate P .null, vm := .none }
  | i + 1 => (out3 c P h0 st i).setSlot i (.ref (h0 + 1 + i * st))
def fil3 (s : State) (c3 c2 c1 : ClassId) (P N M : Nat) (dv : Value) : Nat → State
  | 0 => s.pushCell (out3 c3 P s.heap.size (1 + N) 0)
  | i + 1 => (Jvm.Free.Multi.fill (fil3 s c3 c2 c1 P N M dv i) c2 c1 N M dv N).setCell s.heap.size (out3 c3 P s.heap.size (1 + N) (i + 1))
theorem out3_facts (c : ClassId) (P h0 st : Nat) : ∀ i, (out3 c P h0 st i).cls = c ∧ (out3 c P h0 st i).vm = .none ∧ (out3 c P h0 st i).slots.size = P
  | 0 => ⟨rfl, rfl, by simp [out3]⟩
  | i + 1 => by
    obtain ⟨a, b, d⟩ := out3_facts c P h0 st i
    exact ⟨by simp [out3, Cell.setSlot, a], by simp [out3, Cell.setSlot, b], by simp [out3, Cell.setSlot, d]⟩
theorem fil3_facts (s : State) (c3 c2 c1 : ClassId) (P N M : Nat) (dv : Value) : ∀ i, (fil3 s c3 c2 c1 P N M dv i).heap.size = s.heap.size + 1 + i * (1 + N) ∧ (fil3 s c3 c2 c1 P N M dv i).heap[s.heap.size]? = some (out3 c3 P s.heap.size (1 + N) i) ∧
    (fil3 s c3 c2 c1 P N M dv i).vm = s.vm ∧ (fil3 s c3 c2 c1 P N M dv i).slotsUsed = s.slotsUsed + P + i * (N + N * M)
  | 0 => ⟨by simp [fil3], by simp [fil3], rfl, by simp [fil3, out3]⟩
  | i + 1 => by
    obtain ⟨a, b, d, u⟩ := fil3_facts s c3 c2 c1 P N M dv i
    obtain ⟨f1, f2, f3, f4⟩ := Jvm.Free.Multi.fill_facts (fil3 s c3 c2 c1 P N M dv i) c2 c1 N M dv N
    have hlt : s.heap.size < (fil3 s c3 c2 c1 P N M dv i).heap.size := by omega
    have hb' : (Jvm.Free.Multi.fill (fil3 s c3 c2 c1 P N M dv i) c2 c1 N M dv N).heap[s.heap.size]? = some (out3 c3 P s.heap.size (1 + N) i) := by rw [Jvm.Free.Multi.fill_old _ _ _ _ _ _ hlt]; exact b
    refine ⟨?_, State.heap_setCell_self hb', by simp [fil3, f3, d], ?_⟩
    · simp [fil3, State.setCell, f1, a, Nat.succ_mul]; omega
    · simp [fil3, f4, u, Nat.succ_mul]; omega
theorem fil3_old (s : State) (c3 c2 c1 : ClassId) (P N M : Nat) (dv : Value) {a : Addr} (ha : a < s.heap.size) : ∀ i, (fil3 s c3 c2 c1 P N M dv i).heap[a]? = s.heap[a]?
  | 0 => State.heap_pushCell_of_lt _ _ ha
  | i + 1 => by
    have f1 := (fil3_facts s c3 c2 c1 P N M dv i).1
    have hlt : a < (fil3 s c3 c2 c1 P N M dv i).heap.size := Nat.lt_of_lt_of_le ha (by rw [f1]; omega)
    show ((Jvm.Free.Multi.fill (fil3 s c3 c2 c1 P N M dv i) c2 c1 N M dv N).setCell s.heap.size _).heap[a]? = _
    rw [State.heap_setCell_other (Nat.ne_of_gt ha), Jvm.Free.Multi.fill_old _ _ _ _ _ _ hlt]
    exact fil3_old s c3 c2 c1 P N M dv ha i
theorem fil3_setTop (s : State) (f : JFrame) (c3 c2 c1 : ClassId) (P N M : Nat) (dv : Value) : ∀ i, fil3 (s.setTop f) c3 c2 c1 P N M dv i = (fil3 s c3 c2 c1 P N M dv i).setTop f
  | 0 => rfl
  | i + 1 => by simp only [fil3, fil3_setTop s f c3 c2 c1 P N M dv i, Jvm.Free.Multi.fill_setTop, State.heap_setTop, State.pushCell_setTop, State.setCell_setTop]
section
variable {E : CtlPost} {e : Env} {d : Bool} {acts : List Action} {s : State}
theorem c3_make {c3 c2 c1 cc : ClassId} {k3 k2 k1 : Class} {t3 t2 type : FieldType} {p n m : Int32} (hk : s.vm.classes[c3]? = some k3) (hkind : k3.kind = .array c2 t3) (href : t3.isReference = true)
    (hk2 : s.vm.classes[c2]? = some k2) (hkind2 : k2.kind = .array c1 t2) (href2 : t2.isReference = true) (hkc : s.vm.classes[c1]? = some k1) (hkindc : k1.kind = .array cc type) (hp : ¬ p < 0) (hn : ¬ n < 0) (hm : ¬ m < 0)
    (hl0 : ¬ p.toNatClampNeg > e.platform.arrayLengthLimit) (hh0 : ¬ p.toNatClampNeg * componentBytes t3 > e.platform.maxHeapBytes)
    (hl1 : ¬ n.toNatClampNeg > e.platform.arrayLengthLimit) (hh1 : ¬ n.toNatClampNeg * componentBytes t2 > e.platform.maxHeapBytes)
    (hl2 : ¬ m.toNatClampNeg > e.platform.arrayLengthLimit) (hh2 : ¬ m.toNatClampNeg * componentBytes type > e.platform.maxHeapBytes)
    (hdf : fits type (defaultValue type) = true) (hdd : (defaultValue type).isDefault = true)
    (hc : s.heap.size + 1 + p.toNatClampNeg * (1 + n.toNatClampNeg) ≤ e.platform.maxCells) (hs : s.slotsUsed + p.toNatClampNeg + p.toNatClampNeg * (n.toNatClampNeg + n.toNatClampNeg * m.toNatClampNeg) ≤ e.platform.maxSlots)
    {Q : Addr → Pre} (hq : ∀ d' acts', Q s.heap.size d' acts' (fil3 s c3 c2 c1 p.toNatClampNeg n.toNatClampNeg m.toNatClampNeg (defaultValue type) p.toNatClampNeg)) :
    wp (multianewarray.make c3 [p, n, m]) Q E e d acts s := by
  have hfind : ([n, m].find? (· < 0)) = none := by simp [hn, hm]
  rw [multianewarray.make]
  simp only [wp_bind', W.ite, hp, if_false, wp_pure', W.theClass, hk, hkind, Option.some.injEq, exists_eq_left']
  refine Jvm.Free.Multi.wp_newArray hk hkind hl0 hh0 (Jvm.Free.Multi.refFits href _ (Or.inl rfl)) rfl (by have := Nat.zero_le (p.toNatClampNeg * (1 + n.toNatClampNeg)); omega) (by have := Nat.zero_le (p.toNatClampNeg * (n.toNatClampNeg + n.toNatClampNeg * m.toNatClampNeg)); omega) ?_
  simp only [hfind]
  rw [ite_self, wp_bind', Std.Legacy.Range.forIn_eq_forIn_range']
  have hsz : ([:p.toNatClampNeg] : Std.Legacy.Range).size = p.toNatClampNeg := by simp [Std.Legacy.Range.size]
  rw [hsz]
  show wp (forIn (List.range' 0 p.toNatClampNeg 1) PUnit.unit _) _ E e d acts _
  refine wp_forIn_inv (fun rest s' => ∃ i, i ≤ p.toNatClampNeg ∧ rest = List.range' i (p.toNatClampNeg - i) ∧ s' = fil3 s c3 c2 c1 p.toNatClampNeg n.toNatClampNeg m.toNatClampNeg (defaultValue type) i) _ _ ⟨0, Nat.zero_le _, rfl, rfl⟩ ?_ ?_
  · rintro x rest s' d' acts' Q' ⟨i, hi, hl, rfl⟩ hnext
    have hlt : i < p.toNatClampNeg := by
      rcases Nat.lt_or_ge i p.toNatClampNeg with h | h
      · exact h
      · rw [show p.toNatClampNeg - i = 0 from by omega] at hl; simp at hl
    obtain ⟨rfl, hrest⟩ : x = i ∧ rest = List.range' (i + 1) (p.toNatClampNeg - (i + 1)) := by
      rw [show p.toNatClampNeg - i = (p.toNatClampNeg - (i + 1)) + 1 from by omega, List.range'_succ] at hl
      exact ⟨(List.cons.inj hl).1, (List.cons.inj hl).2⟩
    obtain ⟨f1, f2, f3, f4⟩ := fil3_facts s c3 c2 c1 p.toNatClampNeg n.toNatClampNeg m.toNatClampNeg (defaultValue type) x
    obtain ⟨o1, o2, o3⟩ := out3_facts c3 p.toNatClampNeg s.heap.size (1 + n.toNatClampNeg) x
    have hmul : x * (1 + n.toNatClampNeg) + (1 + n.toNatClampNeg) ≤ p.toNatClampNeg * (1 + n.toNatClampNeg) := by
      have := Nat.mul_le_mul_right (1 + n.toNatClampNeg) (show x + 1 ≤ p.toNatClampNeg from hlt)
      rw [Nat.succ_mul] at this; exact this
    have hmul2 : x * (n.toNatClampNeg + n.toNatClampNeg * m.toNatClampNeg) + (n.toNatClampNeg + n.toNatClampNeg * m.toNatClampNeg) ≤ p.toNatClampNeg * (n.toNatClampNeg + n.toNatClampNeg * m.toNatClampNeg) := by
      have := Nat.mul_le_mul_right (n.toNatClampNeg + n.toNatClampNeg * m.toNatClampNeg) (show x + 1 ≤ p.toNatClampNeg from hlt)
      rw [Nat.succ_mul] at this; exact this
    simp only [wp_bind']
    refine Jvm.Free.Multi.wp_make2 (by rw [f3]; exact hk2) hkind2 href2 (by rw [f3]; exact hkc) hkindc hn hm hl1 hh1 hl2 hh2 hdf hdd (by rw [f1]; omega) (by rw [f4]; omega) (fun d1 acts1 => ?_)
    have hlt0 : s.heap.size < (fil3 s c3 c2 c1 p.toNatClampNeg n.toNatClampNeg m.toNatClampNeg (defaultValue type) x).heap.size := by rw [f1]; omega
    have g3 := (Jvm.Free.Multi.fill_facts (fil3 s c3 c2 c1 p.toNatClampNeg n.toNatClampNeg m.toNatClampNeg (defaultValue type) x) c2 c1 n.toNatClampNeg m.toNatClampNeg (defaultValue type) n.toNatClampNeg).2.2.1
    simp only [wp_bind', W.writeLoc, wp_pure']
    refine ⟨out3 c3 p.toNatClampNeg s.heap.size (1 + n.toNatClampNeg) x, by rw [Jvm.Free.Multi.fill_old _ _ _ _ _ _ hlt0]; exact f2, by rw [o2]; simp, by rw [o3]; exact hlt, ?_, hnext _ _ _ ⟨x + 1, hlt, hrest, ?_⟩⟩
    · rw [o1, o2]
      simp [State.fitsSlot, State.slotType?, g3, f3, hk, hkind, Jvm.Free.Multi.refFits href _ (Or.inr ⟨_, rfl⟩)]
    · rw [f1]; rfl
  · rintro s' d' acts' ⟨i, hi, hl, rfl⟩
    have hiN : i = p.toNatClampNeg := by
      rcases Nat.lt_or_ge i p.toNatClampNeg with h | h
      · rw [show p.toNatClampNeg - i = (p.toNatClampNeg - (i + 1)) + 1 from by omega, List.range'_succ] at hl; cases hl
      · omega
    subst hiN
    simp only [wp_pure']
    exact hq _ _
end
section
variable {p : Program} {l : Launch} {e : Env} {R : Room} {s : State} {m : MethodId} {args : Array Value} {below : List Frame} {meth : Method} {c : Code} {T : State} {locs : List Loc} {cells slots : Nat}
theorem c3_filled (X : Stand p l e R s m args below meth c T locs cells slots) (c3 c2 c1 : ClassId) (P N M : Nat) (dv : Value) :
    ∀ i, ∃ L : List Loc, (∀ x ∈ L, T.heap.size ≤ x.base) ∧ Stand p l e R s m args below meth c (fil3 T c3 c2 c1 P N M dv i) (locs ++ L) (cells + 1 + i * (1 + N)) (slots + P + i * (N + N * M))
  | 0 => by
    have h := X.pushed (out3 c3 P T.heap.size (1 + N) 0)
    rw [(out3_facts c3 P T.heap.size (1 + N) 0).2.2] at h
    refine ⟨[], ?_, by simpa [fil3] using h⟩
    intro x hx
    cases hx
  | i + 1 => by
    obtain ⟨L, hL, Xi⟩ := c3_filled X c3 c2 c1 P N M dv i
    obtain ⟨f1, f2, f3, f4⟩ := fil3_facts T c3 c2 c1 P N M dv i
    have hlt0 : T.heap.size < (fil3 T c3 c2 c1 P N M dv i).heap.size := by rw [f1]; omega
    have hcell : (Jvm.Free.Multi.fill (fil3 T c3 c2 c1 P N M dv i) c2 c1 N M dv N).heap[T.heap.size]? = some (out3 c3 P T.heap.size (1 + N) i) := by rw [Jvm.Free.Multi.fill_old _ _ _ _ _ _ hlt0]; exact f2
    have h := (Xi.filled c2 c1 N M dv N).stored hcell i (.ref (T.heap.size + 1 + i * (1 + N)))
    refine ⟨L ++ ((List.range N).map fun j => (⟨(fil3 T c3 c2 c1 P N M dv i).heap.size, j⟩ : Loc)) ++ [⟨T.heap.size, i⟩], fun x hx => ?_, ?_⟩
    · rcases List.mem_append.mp hx with hx | hx
      · rcases List.mem_append.mp hx with hx | hx
        · exact hL x hx
        · obtain ⟨j, -, rfl⟩ := List.mem_map.mp hx
          exact Nat.le_of_lt hlt0
      · rw [List.mem_singleton.mp hx]; exact Nat.le_refl _
    · have e3 : slots + P + (i + 1) * (N + N * M) = slots + P + i * (N + N * M) + N + N * M := by rw [Nat.succ_mul]; omega
      have e4 : cells + 1 + (i + 1) * (1 + N) = cells + 1 + i * (1 + N) + 1 + N := by rw [Nat.succ_mul]; omega
      rw [e3, e4]
      rw [← List.append_assoc, ← List.append_assoc]
      exact h
theorem c3_multi (X : Stand p l e R s m args below meth c T locs cells slots) (hexec : p.tables.exec = Jvm.exec) {own : String} {index : Nat} {ty : FieldType}
    (hown : s.vm.findClass own = some m.cls) (hclink : (Cond.classLink own index ("[" ++ (FieldType.array (.array ty)).toString)).before args s = true)
    (hover3 : (Cond.arrayOver (.array (.array ty))).before args s = true) (hover : (Cond.arrayOver (.array ty)).before args s = true) (harr : (Cond.arrayClass ty).before args s = true)
    {g : JFrame} (hg : g.method = m) (hdg : decode c.code g.pc = .ok (.multianewarray index 3, 4)) {q n k : Int32} {rest : List Value} (hstack : g.stack = .int k :: .int n :: .int q :: rest)
    (hq0 : ¬ q < 0) (hn : ¬ n < 0) (hk : ¬ k < 0) (hb0 : q.toNatClampNeg * 4 ≤ 536870912) (hb1 : n.toNatClampNeg * 4 ≤ 536870912) (hb2 : k.toNatClampNeg * componentBytes ty ≤ 536870912) (hb3 : k.toNatClampNeg ≤ 536870912)
    (hdf : fits ty (defaultValue ty) = true) (hdd : (defaultValue ty).isDefault = true)
    (hcells : cells + (1 + q.toNatClampNeg * (1 + n.toNatClampNeg)) ≤ R.cells) (hslots : slots + (q.toNatClampNeg + q.toNatClampNeg * (n.toNatClampNeg + n.toNatClampNeg * k.toNatClampNeg)) ≤ R.slots) :
    ∃ (vm₁ : Vm) (c3 c2 c1 : ClassId), s.WarmedH vm₁ ∧ s.vm.findClass ("[" ++ (FieldType.array (.array ty)).toString) = some c3 ∧ s.vm.findClass (FieldType.array (.array ty)).toString = some c2 ∧ s.vm.findClass (FieldType.array ty).toString = some c1 ∧
      Stand p l e R s m args below meth c (fil3 (T.setVm vm₁) c3 c2 c1 q.toNatClampNeg n.toNatClampNeg k.toNatClampNeg (defaultValue ty) q.toNatClampNeg) locs (cells + 1 + q.toNatClampNeg * (1 + n.toNatClampNeg)) (slots + q.toNatClampNeg + q.toNatClampNeg * (n.toNatClampNeg + n.toNatClampNeg * k.toNatClampNeg)) ∧
      ∀ target, Steps p.tables e below ((fil3 (T.setVm vm₁) c3 c2 c1 q.toNatClampNeg n.toNatClampNeg k.toNatClampNeg (defaultValue ty) q.toNatClampNeg).setTop { g with pc := g.pc + 4, stack := .ref T.heap.size :: rest }) target →
        Steps p.tables e below (T.setTop g) target := by
  subst hg
  have hpl : e.platform.magicAccessors = ({} : Platform).magicAccessors := by rw [X.admits.platform]
  obtain ⟨c2, c3, k3, hc2, hk3, hkind3, hname3⟩ := Cond.arrayOver_specA hover3
  obtain ⟨c1, c2', k2, hc1, hk2, hkind2, hname2⟩ := Cond.arrayOver_specA hover
  obtain ⟨c1', k1, cc, hc1', hk1, hkind1⟩ := Cond.arrayClass_spec harr
  cases Option.some.inj (hc1'.symm.trans hc1)
  have e2 : (FieldType.array (.array ty)).toString = "[" ++ (FieldType.array ty).toString := rfl
  rw [e2] at hc2
  cases Option.some.inj (hc2.symm.trans hname2)
  obtain ⟨c0, hfc0, hcl⟩ := Cond.classLink_spec hown hclink e.platform hpl
  cases hname3.symm.trans hfc0
  obtain ⟨hg₁, hwarm₁, hready₁⟩ := State.classEntry (e := e) X.warmed hcl
  generalize T.vm.noted g.method.cls index (.cls c3) = vm₁ at hg₁ hwarm₁ hready₁
  have hal : s.vm.Alike vm₁ := hwarm₁.alike
  obtain ⟨k3₁, hk3₁, he3⟩ := hal.2.2 _ _ hk3
  obtain ⟨k2₁, hk2₁, he2⟩ := hal.2.2 _ _ hk2
  obtain ⟨k1₁, hk1₁, he1⟩ := hal.2.2 _ _ hk1
  have hkind3₁ : k3₁.kind = .array c2 (.array (.array ty)) := by rw [he3]; exact hkind3
  have hkind2₁ : k2₁.kind = .array c1 (.array ty) := by rw [he2]; exact hkind2
  have hkind1₁ : k1₁.kind = .array cc ty := by rw [he1]; exact hkind1
  have X₁ := X.noted hwarm₁
  obtain ⟨hr1, hr2⟩ := X.roomAbove hcells hslots
  obtain ⟨L, hL, XF⟩ := c3_filled X₁ c3 c2 c1 q.toNatClampNeg n.toNatClampNeg k.toNatClampNeg (defaultValue ty) q.toNatClampNeg
  refine ⟨vm₁, c3, c2, c1, hwarm₁, hname3, hc2, hc1, XF.dropFresh (fun x hx => Nat.le_trans X.heapGrown (hL x hx)), fun target hrest => ?_⟩
  have hl0 : ¬ q.toNatClampNeg > e.platform.arrayLengthLimit := by rw [Launch.admits_arrayLengthLimit X.admits]; omega
  have hh0 : ¬ q.toNatClampNeg * componentBytes (.array (.array ty)) > e.platform.maxHeapBytes := by
    rw [Launch.admits_maxHeapBytes X.admits]; show ¬ q.toNatClampNeg * 4 > 536870912; omega
  have hl1 : ¬ n.toNatClampNeg > e.platform.arrayLengthLimit := by rw [Launch.admits_arrayLengthLimit X.admits]; omega
  have hh1 : ¬ n.toNatClampNeg * componentBytes (.array ty) > e.platform.maxHeapBytes := by
    rw [Launch.admits_maxHeapBytes X.admits]; show ¬ n.toNatClampNeg * 4 > 536870912; omega
  have hl2 : ¬ k.toNatClampNeg > e.platform.arrayLengthLimit := by rw [Launch.admits_arrayLengthLimit X.admits]; omega
  have hh2 : ¬ k.toNatClampNeg * componentBytes ty > e.platform.maxHeapBytes := by rw [Launch.admits_maxHeapBytes X.admits]; omega
  jvm_step X.here [hexec, hdg]
  simp only [multianewarray.sem, wp_bind', W.resolveClassAt_links (State.method?_setTop g X.here.top) hg₁]
  rw [W.popN, if_neg (by decide)]
  refine ⟨g, State.topJava?_setTop' (s := T.setVm vm₁) g X.here.top, [.int q, .int n, .int k], rest, rfl, hstack, ?_⟩
  simp only [List.mapM_cons, List.mapM_nil, wp_bind', wp_pure']
  refine c3_make (k3 := k3₁) (k2 := k2₁) (k1 := k1₁) (c2 := c2) (c1 := c1) (cc := cc) (t3 := .array (.array ty)) (t2 := .array ty) (type := ty) hk3₁ hkind3₁ rfl hk2₁ hkind2₁ rfl hk1₁ hkind1₁ hq0 hn hk hl0 hh0 hl1 hh1 hl2 hh2 hdf hdd (by show T.heap.size + 1 + _ ≤ _; omega) (by show T.slotsUsed + _ + _ ≤ _; omega) (fun d' acts' => ?_)
  have eS : ((T.setTop g).setVm vm₁).setTop { g with stack := rest } = (T.setVm vm₁).setTop { g with stack := rest } := by
    show ((T.setVm vm₁).setTop g).setTop _ = _
    rw [State.setTop_setTop]
  rw [eS, fil3_setTop]
  simp only [wp_bind', W.mark, W.pushRef, State.topJava?_setTop' _ XF.here.top, Option.some.injEq, exists_eq_left', State.setTop_setTop, State.heap_setTop]
  intro acts
  simp [jvm, XF.here.top]
  exact hrest
end

theorem out3_arr (c : ClassId) (P h0 st : Nat) : ∀ i, out3 c P h0 st i = arrV c P (fun j => if j < i then .ref (h0 + 1 + j * st) else .null)
  | 0 => (arrV_new c P .null).trans (arrV_congr fun j _ => by rw [if_neg (Nat.not_lt_zero j)])
  | i + 1 => by
    show (out3 c P h0 st i).setSlot i (.ref (h0 + 1 + i * st)) = _
    rw [out3_arr c P h0 st i, arrV_store]
    refine arrV_congr fun j _ => ?_
    unfold updV
    by_cases e : j = i
    · rw [if_pos e, if_pos (by omega), e]
    · rw [if_neg e]
      show (if j < i then Value.ref (h0 + 1 + j * st) else Value.null) = _
      by_cases q : j < i
      · rw [if_pos q, if_pos (by omega)]
      · rw [if_neg q, if_neg (by omega)]
theorem rh_grid {E : EA} {h : AH} {s : State} {tO tI N Q : Nat} {fty : FieldType} (hT : TH h) (hR : RH E h s.heap) (t1 : 68 ≤ tO) (t4 : ft tO 0 = 5) (i1 : 64 ≤ tI) (hdd : defaultValue fty = ev (kof (ft tI 0)) (dv (ft tI 0))) :
    RH E (grd h tO tI N Q) (Jvm.Free.Multi.fill s (E.2.1 (tO - 64)) (E.2.1 (tI - 64)) N Q (defaultValue fty) N).heap := by
  have hsz : 0 ≤ aN h := hT.2.2.1
  obtain ⟨f1, f2, f3, f4⟩ := Jvm.Free.Multi.fill_facts s (E.2.1 (tO - 64)) (E.2.1 (tI - 64)) N Q (defaultValue fty) N
  have fO := fun (q : Nat) (hq : q < s.heap.size) => Jvm.Free.Multi.fill_old s (E.2.1 (tO - 64)) (E.2.1 (tI - 64)) N Q (defaultValue fty) hq N
  have fI := Jvm.Free.Multi.fill_inner s (E.2.1 (tO - 64)) (E.2.1 (tI - 64)) N Q (defaultValue fty) N
  generalize Jvm.Free.Multi.fill s (E.2.1 (tO - 64)) (E.2.1 (tI - 64)) N Q (defaultValue fty) N = T' at f1 f2 f3 f4 fO fI ⊢
  have hs1 : (s.heap.size : Int) = h.1 := hR.1
  refine RH.more hR (by rw [f1]; show ((s.heap.size + 1 + N : Nat) : Int) = h.1 + 1 + N; omega) fO (fun a ha => ?_) (fun q hq hq0 => ?_)
  · have ha' : a < h.1 := ha
    refine ⟨?_, ?_, fun j => ?_⟩
    · show (if a = h.1 then tO else if h.1 < a ∧ a ≤ h.1 + N then tI else aT h a) = aT h a
      rw [if_neg (by omega), if_neg (by omega)]
    · show (if a = h.1 then (N : Int) else if h.1 < a ∧ a ≤ h.1 + N then (Q : Int) else aL h a) = aL h a
      rw [if_neg (by omega), if_neg (by omega)]
    · show (if a = h.1 then _ else if h.1 < a ∧ a ≤ h.1 + N then dv (ft tI j) else aV h a j) = aV h a j
      rw [if_neg (by omega), if_neg (by omega)]
  · by_cases hqs : q = s.heap.size
    · subst hqs
      have z1 : aT (grd h tO tI N Q) s.heap.size = tO := if_pos hs1
      have z2 : aL (grd h tO tI N Q) s.heap.size = N := if_pos hs1
      have z3 : ∀ j : Int, aV (grd h tO tI N Q) s.heap.size j = (if 0 ≤ j ∧ j < N then h.1 + 1 + j else -1) := fun j => if_pos hs1
      unfold aCell
      rw [z1, z2, if_neg (by omega)]
      simp only [z3]
      refine aCell_new (f2.trans ?_)
      refine congrArg some (outer_arrV _ _ _ _ fun j hj => ?_)
      rw [t4, if_pos ⟨by omega, by omega⟩]
      show ev 2 (h.1 + 1 + (j : Int)) = _
      rw [show h.1 + 1 + (j : Int) = ((s.heap.size + 1 + j : Nat) : Int) by omega]
      exact ev_ref _
    · by_cases hqN : q ≤ s.heap.size + N
      · have hc1 : ¬ (q : Int) = h.1 := by omega
        have hc2 : h.1 < (q : Int) ∧ (q : Int) ≤ h.1 + N := by omega
        have z1 : aT (grd h tO tI N Q) q = tI := by
          show (if (q : Int) = h.1 then tO else if h.1 < (q : Int) ∧ (q : Int) ≤ h.1 + N then tI else aT h q) = tI
          rw [if_neg hc1, if_pos hc2]
        have z2 : aL (grd h tO tI N Q) q = Q := by
          show (if (q : Int) = h.1 then (N : Int) else if h.1 < (q : Int) ∧ (q : Int) ≤ h.1 + N then (Q : Int) else aL h q) = Q
          rw [if_neg hc1, if_pos hc2]
        have z3 : ∀ j : Int, aV (grd h tO tI N Q) q j = dv (ft tI j) := fun j => by
          show (if (q : Int) = h.1 then _ else if h.1 < (q : Int) ∧ (q : Int) ≤ h.1 + N then dv (ft tI j) else aV h q j) = _
          rw [if_neg hc1, if_pos hc2]
        have hi := fI (q - (s.heap.size + 1)) (by omega)
        rw [show s.heap.size + 1 + (q - (s.heap.size + 1)) = q by omega] at hi
        unfold aCell
        rw [z1, z2, if_neg (by omega)]
        simp only [z3, ft64 i1]
        refine aCell_new (hi.trans ?_)
        show some ({ cls := E.2.1 (tI - 64), slots := Array.replicate Q (defaultValue fty), vm := .none } : Cell) = _
        rw [arrV_new, hdd]
        rfl
      · exfalso
        apply hq0
        show (if (q : Int) = h.1 then tO else if h.1 < (q : Int) ∧ (q : Int) ≤ h.1 + N then tI else aT h q) = 0
        rw [if_neg (by omega), if_neg (by omega)]
        exact hT.2.1 q (Or.inr (by show h.1 ≤ (q : Int); omega))
/-- the cube as it is filled: i of its p grids are there -/
def cubS (h : AH) (t3 t2 t1 : Nat) (p n k : Int) : Nat → AH
  | 0 => mkc h t3 p p
  | i + 1 => setV (grd (cubS h t3 t2 t1 p n k i) t2 t1 n k) h.1 i (aN (cubS h t3 t2 t1 p n k i))
def nw3 (h : AH) (t3 t2 t1 : Nat) (p n k : Int) : Option (Int × AH) := if (0 ≤ p ∧ p ≤ 100) ∧ (0 ≤ n ∧ n ≤ 1000) ∧ 0 ≤ k ∧ k ≤ 10000 then some (h.1, cubS h t3 t2 t1 p n k p.toNat) else none
theorem cubS_facts {h : AH} {t3 t2 t1 : Nat} {p n k : Int} (h5 : ft t3 0 = 5) (h64 : 64 ≤ t3) (hn : 0 ≤ n) : ∀ i : Nat, aN (cubS h t3 t2 t1 p n k i) = aN h + 1 + i * (1 + n) ∧ aS (cubS h t3 t2 t1 p n k i) = aS h + p + i * (n + n * k) ∧ aT (cubS h t3 t2 t1 p n k i) h.1 = t3 ∧ aL (cubS h t3 t2 t1 p n k i) h.1 = p ∧
    ∀ j : Int, aV (cubS h t3 t2 t1 p n k i) h.1 j = if 0 ≤ j ∧ j < i then h.1 + 1 + j * (1 + n) else -1
  | 0 => ⟨by show h.1 + 1 = h.1 + 1 + ((0 : Nat) : Int) * (1 + n); simp, by show h.2.1 + p = h.2.1 + p + ((0 : Nat) : Int) * (n + n * k); simp, if_pos rfl, if_pos rfl, fun j => by
      rw [if_neg (by omega)]
      show (if h.1 = h.1 then dv (ft t3 j) else _) = _
      rw [if_pos rfl, ft64 h64, h5]; rfl⟩
  | i + 1 => by
    obtain ⟨a1, a2, a3, a4, a5⟩ := cubS_facts (h := h) (t2 := t2) (t1 := t1) (p := p) (k := k) h5 h64 hn i
    have hN : (cubS h t3 t2 t1 p n k i).1 = h.1 + 1 + i * (1 + n) := a1
    have hi0 : 0 ≤ (i : Int) * (1 + n) := Int.mul_nonneg (by omega) (by omega)
    have e : ((i + 1 : Nat) : Int) * (1 + n) = i * (1 + n) + (1 + n) := by rw [Int.natCast_add, Int.add_mul]; simp
    have e' : ((i + 1 : Nat) : Int) * (n + n * k) = i * (n + n * k) + (n + n * k) := by rw [Int.natCast_add, Int.add_mul]; simp
    refine ⟨?_, ?_, ?_, ?_, fun j => ?_⟩
    · show (cubS h t3 t2 t1 p n k i).1 + 1 + n = h.1 + 1 + _
      rw [hN, e]; omega
    · show (cubS h t3 t2 t1 p n k i).2.1 + n + n * k = h.2.1 + p + _
      rw [show (cubS h t3 t2 t1 p n k i).2.1 = h.2.1 + p + i * (n + n * k) from a2, e']; omega
    · show (if h.1 = (cubS h t3 t2 t1 p n k i).1 then t2 else if (cubS h t3 t2 t1 p n k i).1 < h.1 ∧ h.1 ≤ (cubS h t3 t2 t1 p n k i).1 + n then t1 else aT (cubS h t3 t2 t1 p n k i) h.1) = t3
      rw [if_neg (by omega), if_neg (by omega)]; exact a3
    · show (if h.1 = (cubS h t3 t2 t1 p n k i).1 then n else if (cubS h t3 t2 t1 p n k i).1 < h.1 ∧ h.1 ≤ (cubS h t3 t2 t1 p n k i).1 + n then k else aL (cubS h t3 t2 t1 p n k i) h.1) = p
      rw [if_neg (by omega), if_neg (by omega)]; exact a4
    · show (if h.1 = h.1 ∧ j = (i : Int) then aN (cubS h t3 t2 t1 p n k i) else if h.1 = (cubS h t3 t2 t1 p n k i).1 then _ else if (cubS h t3 t2 t1 p n k i).1 < h.1 ∧ h.1 ≤ (cubS h t3 t2 t1 p n k i).1 + n then _ else aV (cubS h t3 t2 t1 p n k i) h.1 j) = _
      by_cases hj : j = (i : Int)
      · rw [if_pos ⟨rfl, hj⟩, if_pos ⟨by omega, by omega⟩, a1, hj]; rfl
      · rw [if_neg (fun z => hj z.2), if_neg (by omega), if_neg (by omega), a5]
        by_cases q : 0 ≤ j ∧ j < (i : Int)
        · rw [if_pos q, if_pos ⟨q.1, by omega⟩]
        · rw [if_neg q, if_neg (by omega)]
theorem th_cub {h : AH} {t3 t2 t1 : Nat} {p n k : Int} (hT : TH h) (h3 : 68 ≤ t3 ∧ ft t3 0 = 5) (h2 : 68 ≤ t2 ∧ ft t2 0 = 5) (hp : 0 ≤ p ∧ p ≤ 100) (hn : (0 ≤ n ∧ n ≤ 1000) ∧ 0 ≤ k ∧ k ≤ 10000) : ∀ i : Nat, TH (cubS h t3 t2 t1 p n k i)
  | 0 => hT.mk ⟨hp.1, by omega⟩
  | i + 1 => by
    obtain ⟨a1, a2, a3, a4, a5⟩ := cubS_facts (h := h) (t2 := t2) (t1 := t1) (p := p) (k := k) h3.2 (by omega) hn.1.1 i
    have hN : (cubS h t3 t2 t1 p n k i).1 = h.1 + 1 + i * (1 + n) := a1
    have hi0 : 0 ≤ (i : Int) * (1 + n) := Int.mul_nonneg (by omega) (by omega)
    have h0 : 0 ≤ h.1 := hT.2.2.1
    refine ((th_cub hT h3 h2 hp hn i).grd h2 hn).set ?_
    have : aT (grd (cubS h t3 t2 t1 p n k i) t2 t1 n k) h.1 = t3 := by
      show (if h.1 = (cubS h t3 t2 t1 p n k i).1 then t2 else if (cubS h t3 t2 t1 p n k i).1 < h.1 ∧ h.1 ≤ (cubS h t3 t2 t1 p n k i).1 + n then t1 else aT (cubS h t3 t2 t1 p n k i) h.1) = t3
      rw [if_neg (by omega), if_neg (by omega)]; exact a3
    rw [this, ft64 (by omega), h3.2, a1]
    show (-1 : Int) ≤ h.1 + 1 + _
    omega
theorem old_cub {h0 h : AH} {t3 t2 t1 : Nat} {p n k : Int} (hO : Old h0 h) (hp : 0 ≤ p ∧ p ≤ 100) (hn : (0 ≤ n ∧ n ≤ 1000) ∧ 0 ≤ k ∧ k ≤ 10000) : ∀ i : Nat, Old h0 (cubS h t3 t2 t1 p n k i)
  | 0 => hO.mk hp.1
  | i + 1 => (old_cub hO hp hn i).grd hn
theorem rh_cub {E : EA} {h : AH} {s : State} {t3 t2 t1 P N Q : Nat} {fty : FieldType} (hT : TH h) (hR : RH E h s.heap) (h3 : 68 ≤ t3 ∧ ft t3 0 = 5) (h2 : 68 ≤ t2 ∧ ft t2 0 = 5) (i1 : 64 ≤ t1) (hp : P ≤ 100) (hn : N ≤ 1000 ∧ Q ≤ 10000) (hdd : defaultValue fty = ev (kof (ft t1 0)) (dv (ft t1 0))) :
    ∀ i : Nat, RH E (cubS h t3 t2 t1 P N Q i) (fil3 s (E.2.1 (t3 - 64)) (E.2.1 (t2 - 64)) (E.2.1 (t1 - 64)) P N Q (defaultValue fty) i).heap
  | 0 => by
    have hs1 : (s.heap.size : Int) = h.1 := hR.1
    have z1 : aT (mkc h t3 P P) s.heap.size = t3 := if_pos hs1
    have z2 : aL (mkc h t3 P P) s.heap.size = P := if_pos hs1
    have z3 : ∀ j : Int, aV (mkc h t3 P P) s.heap.size j = dv (ft t3 j) := fun j => if_pos hs1
    refine RH.mk hT hR (Or.inr ?_) (by simp [fil3]) (fun q hq => State.heap_pushCell_of_lt _ _ hq)
    unfold aCell
    rw [z1, z2, if_neg (by omega)]
    refine aCell_new ?_
    show (s.pushCell (out3 _ P s.heap.size (1 + N) 0)).heap[s.heap.size]? = _
    rw [State.heap_pushCell_size, out3_arr]
    refine congrArg some (arrV_congr fun j hj => ?_)
    rw [if_neg (Nat.not_lt_zero j), z3, show ft t3 (j : Int) = ft t3 0 from ft64 (by omega) _, h3.2]
    rfl
  | i + 1 => by
    obtain ⟨a1, a2, a3, a4, a5⟩ := cubS_facts (h := h) (t3 := t3) (t2 := t2) (t1 := t1) (p := P) (n := N) (k := Q) h3.2 (by omega) (by omega) i
    have hs1 : (s.heap.size : Int) = h.1 := hR.1
    have hN : (cubS h t3 t2 t1 P N Q i).1 = h.1 + 1 + i * (1 + (N : Int)) := a1
    have hi0 : 0 ≤ (i : Int) * (1 + (N : Int)) := Int.mul_nonneg (by omega) (by omega)
    have hT' := th_cub (t1 := t1) (p := P) (n := N) (k := Q) hT h3 h2 ⟨by omega, by omega⟩ ⟨⟨by omega, by omega⟩, by omega, by omega⟩ i
    have R1 := rh_grid hT' (rh_cub hT hR h3 h2 i1 hp hn hdd i) h2.1 h2.2 i1 (N := N) (Q := Q) hdd
    obtain ⟨f1, f2, f3, f4⟩ := fil3_facts s (E.2.1 (t3 - 64)) (E.2.1 (t2 - 64)) (E.2.1 (t1 - 64)) P N Q (defaultValue fty) i
    have hlt : s.heap.size < (fil3 s (E.2.1 (t3 - 64)) (E.2.1 (t2 - 64)) (E.2.1 (t1 - 64)) P N Q (defaultValue fty) i).heap.size := by rw [f1]; omega
    have hb := Jvm.Free.Multi.fill_old (fil3 s (E.2.1 (t3 - 64)) (E.2.1 (t2 - 64)) (E.2.1 (t1 - 64)) P N Q (defaultValue fty) i) (E.2.1 (t2 - 64)) (E.2.1 (t1 - 64)) N Q (defaultValue fty) hlt N
    rw [f2] at hb
    have tg : aT (grd (cubS h t3 t2 t1 P N Q i) t2 t1 N Q) s.heap.size = t3 := by
      rw [hs1]
      show (if h.1 = (cubS h t3 t2 t1 P N Q i).1 then t2 else if (cubS h t3 t2 t1 P N Q i).1 < h.1 ∧ h.1 ≤ (cubS h t3 t2 t1 P N Q i).1 + N then t1 else aT (cubS h t3 t2 t1 P N Q i) h.1) = t3
      rw [if_neg (by omega), if_neg (by omega)]; exact a3
    obtain ⟨b1, b2, b3, b4, b5⟩ := cubS_facts (h := h) (t3 := t3) (t2 := t2) (t1 := t1) (p := P) (n := N) (k := Q) h3.2 (by omega) (by omega) (i + 1)
    have key : RH E (setV (grd (cubS h t3 t2 t1 P N Q i) t2 t1 N Q) (s.heap.size : Nat) i (aN (cubS h t3 t2 t1 P N Q i))) (fil3 s (E.2.1 (t3 - 64)) (E.2.1 (t2 - 64)) (E.2.1 (t1 - 64)) P N Q (defaultValue fty) (i + 1)).heap := by
      refine RH.set R1 (by rw [tg]; omega) ?_ (by show (State.setCell _ _ _).heap.size = _; simp [State.setCell]) (fun q hq => State.heap_setCell_other (Ne.symm hq))
      have c1 : aT (setV (grd (cubS h t3 t2 t1 P N Q i) t2 t1 N Q) (s.heap.size : Nat) i (aN (cubS h t3 t2 t1 P N Q i))) s.heap.size = t3 := tg
      have c2 : aL (setV (grd (cubS h t3 t2 t1 P N Q i) t2 t1 N Q) (s.heap.size : Nat) i (aN (cubS h t3 t2 t1 P N Q i))) s.heap.size = P := by rw [hs1]; exact b4
      have c3 : ∀ j : Int, aV (setV (grd (cubS h t3 t2 t1 P N Q i) t2 t1 N Q) (s.heap.size : Nat) i (aN (cubS h t3 t2 t1 P N Q i))) s.heap.size j = if 0 ≤ j ∧ j < ((i + 1 : Nat) : Int) then h.1 + 1 + j * (1 + (N : Int)) else -1 := by rw [hs1]; exact b5
      unfold aCell
      rw [c1, c2, if_neg (by omega)]
      simp only [c3]
      refine aCell_new ((State.heap_setCell_self hb).trans (congrArg some ?_))
      rw [out3_arr]
      refine arrV_congr fun j hj => ?_
      rw [h3.2]
      by_cases q : j < i + 1
      · rw [if_pos q, if_pos ⟨by omega, by omega⟩]
        show _ = ev 2 _
        rw [show h.1 + 1 + (j : Int) * (1 + (N : Int)) = ((s.heap.size + 1 + j * (1 + N) : Nat) : Int) by rw [← hs1]; simp [Int.natCast_add, Int.natCast_mul]]
        exact (ev_ref _).symm
      · rw [if_neg q, if_neg (by omega)]
        rfl
    rw [hs1] at key
    exact key
section HCU
variable {C : Cx} {cc : ByteArray} {nL : Nat} {own : String} {E : EA} {l : Launch} {fr ty : Nat} {v : Int} {h0 hF h : AH} {ret : Option FieldType} {nm : String} {lv : LV} {pc : Nat} {st : List TV} {ε : Prop}
theorem h_cube {γ : Prop} (hB : γ → MaB C cc nL own E l fr h0 hF nm) {ρ : Type} {p n k : Int} {idx : Nat} {K : Int × AH → Option ρ} {res : ρ} (hT : TH h) (hO : Old h0 h) (hd : decode cc pc = .ok (.multianewarray idx 3, 4)) (q1 : Cond.classLink own idx ("[" ++ (FieldType.array (.array .int)).toString) ∈ lw_all) (q2 : Cond.arrayClass .int ∈ lw_all) (e : (nw3 h 77 73 64 p n k).bind K = some res) (kk : ∀ v1 h', TI 5 v1 → aT h' v1 = 77 → TH h' → Old h0 h' → K (v1, h') = some res → X C (zA γ ε E hF h0 h') lv (pc + 4) ((2, v1) :: st)) : X C (zA γ ε E hF h0 h) lv pc ((0, k) :: (0, n) :: (0, p) :: st) := by
  unfold nw3 at e
  split at e
  · rename_i hn
    obtain ⟨hp, hn⟩ := hn
    have hsz : 0 ≤ aN h := hT.2.2.1
    have F := cubS_facts (h := h) (t3 := 77) (t2 := 73) (t1 := 64) (p := p) (n := n) (k := k) rfl (by decide) hn.1.1 p.toNat
    have hTF := th_cub (t1 := 64) (p := p) (n := n) (k := k) hT (t3 := 77) (t2 := 73) ⟨by decide, rfl⟩ ⟨by decide, rfl⟩ hp hn p.toNat
    have hOF := old_cub (t3 := 77) (t2 := 73) (t1 := 64) (p := p) (n := n) (k := k) hO hp hn p.toNat
    have hOF' := old_cub (t3 := 77) (t2 := 73) (t1 := 64) (p := p) (n := n) (k := k) (Old.rf h) hp hn p.toNat
    have k' := kk (aN h) _ (by show -1 ≤ aN h; omega) F.2.2.1 hTF hOF e
    obtain ⟨⟨m1, m2, m3⟩, mε⟩ := k'.1
    rw [F.1] at m1
    rw [F.2.1] at m2
    have o1 := hO.1
    have o2 := hO.2.1
    have ep : ((p.toNat : Nat) : Int) = p := by omega
    rw [ep] at m1 m2
    have hmul : 0 ≤ n * k := Int.mul_nonneg hn.1.1 hn.2.1
    have hpm : 0 ≤ p * (1 + n) := Int.mul_nonneg hp.1 (by omega)
    have hpm2 : 0 ≤ p * (n + n * k) := Int.mul_nonneg hp.1 (by omega)
    refine ⟨⟨⟨by omega, by omega, fun x hx => (m3 x (by have := hOF'.1; omega)).trans (hOF'.2.2 x hx)⟩, mε⟩, fun H locs ls a' bS c => ?_⟩
    obtain ⟨M, hR⟩ := a'
    have hγ := M
    have M := hB M
    have g := M.1
    have hE := M.2.1
    obtain ⟨-, -, -, hrm, -, rm, -⟩ := M
    obtain ⟨p1, p2, p3⟩ := cl_in hp.1 (by omega)
    obtain ⟨n1, n2, n3⟩ := cl_in hn.1.1 (by omega)
    obtain ⟨k1, k2, k3⟩ := cl_in hn.2.1 (by omega)
    have hsize : (H.size : Int) = aN h := hR.1
    obtain ⟨P, rfl⟩ := Int.eq_ofNat_of_zero_le hp.1
    obtain ⟨N, rfl⟩ := Int.eq_ofNat_of_zero_le hn.1.1
    obtain ⟨Q, rfl⟩ := Int.eq_ofNat_of_zero_le hn.2.1
    have p3' : (iI (P : Int)).toNatClampNeg = P := by rw [p3]; rfl
    have n3' : (iI (N : Int)).toNatClampNeg = N := by rw [n3]; rfl
    have k3' : (iI (Q : Int)).toNatClampNeg = Q := by rw [k3]; rfl
    have cN1 : ((P * (1 + N) : Nat) : Int) = (P : Int) * (1 + (N : Int)) := by simp [Int.natCast_add, Int.natCast_mul]
    have cN2 : ((P * (N + N * Q) : Nat) : Int) = (P : Int) * ((N : Int) + (N : Int) * (Q : Int)) := by simp [Int.natCast_add, Int.natCast_mul]
    intro T hTH X0
    obtain ⟨vm₁, c3, c2, c1, hW, hf3, hf2, hf1, X1, step⟩ := c3_multi X0 g.1.1 g.1.2.2.2.2.1 (ty := .int) (q := iI (P : Int)) (n := iI (N : Int)) (k := iI (Q : Int)) (g.1.2.2.2.2.2.1 _ q1) ((hE.2.2.2.2.1 _ (.tail _ (.tail _ (.tail _ (.tail _ (.head _)))))).use) ((hE.2.2.2.2.1 _ (.head _)).use) (g.1.2.2.2.2.2.1 _ q2)
      (g := F0 C.2.1.1 pc ls (evs ((0, (Q : Int)) :: (0, (N : Int)) :: (0, (P : Int)) :: st))) rfl (by show decode C.2.1.2.2.2.2.code pc = _; rw [g.1.2.1]; exact hd) (rest := evs st) rfl p1 n1 k1 (by rw [p3']; omega) (by rw [n3']; omega) (by rw [k3']; show Q * 4 ≤ _; omega) (by rw [k3']; omega)
      rfl rfl (by rw [p3', n3', hrm.1]; show (aN h - aN h0).toNat + (1 + P * (1 + N)) ≤ _; omega) (by rw [p3', n3', k3', hrm.2]; show (aS h - aS h0).toNat + (P + P * (N + N * Q)) ≤ _; omega)
    rw [p3', n3', k3'] at X1 step
    have e3 : c3 = E.2.1 13 := Option.some.inj (hf3.symm.trans (g.2.1.arr (j := 13) rfl).2)
    have e2 : c2 = E.2.1 9 := Option.some.inj (hf2.symm.trans (g.2.1.arr (j := 9) rfl).2)
    have e1 : c1 = E.2.1 0 := Option.some.inj (hf1.symm.trans (g.2.1.arr (j := 0) rfl).2)
    subst e3
    subst e2
    subst e1
    have hz : (T.setVm vm₁).heap = H := hTH
    have hR' : RH E (cubS h 77 73 64 P N Q P) (fil3 (T.setVm vm₁) (E.2.1 13) (E.2.1 9) (E.2.1 0) P N Q (defaultValue .int) P).heap := rh_cub (s := T.setVm vm₁) (t3 := 77) (t2 := 73) (t1 := 64) hT (by rw [hz]; exact hR) ⟨by decide, rfl⟩ ⟨by decide, rfl⟩ (by decide) (by omega) ⟨by omega, by omega⟩ rfl P
    obtain ⟨f1, f2, f3, f4⟩ := fil3_facts (T.setVm vm₁) (E.2.1 13) (E.2.1 9) (E.2.1 0) P N Q (defaultValue .int) P
    have fO := fun (q : Nat) (hq : q < (T.setVm vm₁).heap.size) => fil3_old (T.setVm vm₁) (E.2.1 13) (E.2.1 9) (E.2.1 0) P N Q (defaultValue .int) hq P
    rw [hz] at f1 fO
    generalize hT' : fil3 (T.setVm vm₁) (E.2.1 13) (E.2.1 9) (E.2.1 0) P N Q (defaultValue .int) P = T' at X1 step f1 fO hR'
    have w := k'.2 T'.heap locs ls ⟨hγ, hR'⟩ (bS.more (by rw [f1]; omega) fO) c
    have F1 := F.1
    have F2 := F.2.1
    rw [ep] at F1 F2
    have w := XW.cs (k := (aN h - aN h0).toNat + 1 + P * (1 + N)) (n := (aS h - aS h0).toNat + P + P * (N + N * Q)) w (by show _ = (aN (cubS h 77 73 64 P N Q P) - aN h0).toNat; rw [show aN (cubS h 77 73 64 P N Q P) = _ from F1]; omega) (by show _ = (aS (cubS h 77 73 64 P N Q P) - aS h0).toNat; rw [show aS (cubS h 77 73 64 P N Q P) = _ from F2]; omega)
    obtain ⟨t', a1, b1⟩ := w _ rfl X1
    refine ⟨t', step t' ?_, b1⟩
    change Steps _ _ _ (State.setTop _ (F0 C.2.1.1 (pc + 4) ls (ev 2 (aN h) :: evs st))) t' at a1
    rw [ev_refq hsize.symm] at a1
    rw [← hTH] at a1
    exact a1
  · cases e
end HCU
theorem hlA_aaaI {own : String} {idx : Nat} (h : Cond.classLink own idx "[[[I" ∈ lw_all) : Cond.classLink own idx ("[" ++ (FieldType.array (.array .int)).toString) ∈ lw_all := by
  rw [show "[" ++ (FieldType.array (.array .int)).toString = "[[[I" by decide]
  exact h
