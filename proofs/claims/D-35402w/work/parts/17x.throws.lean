/-! THROWS: contracts of methods that may throw; methods with handlers; 'throw new E()' -/
set_option maxRecDepth 100000
abbrev OT : Type := Sum Nat Int
def xcN (c : Nat) : String := match c with
  | 5 => "Syntaxspan$Stop"
  | 101 => "java/lang/IndexOutOfBoundsException"
  | 102 => "java/lang/IllegalArgumentException"
  | _ => "java/lang/IllegalStateException"
def QT (E : EA) (h h' : AH) (ty : Nat) (o : OT) : Array Value → State → Outcome → State → Prop := fun _ st oc t => ∃ v, o = .inr v ∧ oc = .returned (rva ty v) ∧ RH E h' t.heap ∧ va_F (AA h) st t
def XT (E : EA) (h h' : AH) (o : OT) : String → State → State → Prop := fun Cn st t => ∃ c, o = .inl c ∧ Cn = xcN c ∧ RH E h' t.heap ∧ va_F (AA h) st t
def TIo (ty : Nat) (o : OT) : Prop := match o with
  | .inl _ => True
  | .inr v => TIr ty v
abbrev MetT (l : Launch) (y : MethodName) (cc : ByteArray) (maxL : Nat) (ret : Option FieldType) (fr : Nat) (E : EA) (h : AH) (av : List TV) (ty : Nat) (o : OT) (h' : AH) : Prop :=
  vx_Met l y (ws_ y cc maxL ret) (rmA fr h h') (PA E h av) (QT E h h' ty o) (XT E h h' o) (aN h' - aN h).toNat (aS h' - aS h).toNat (AA h)
abbrev MetW (l : Launch) (y : MethodName) (cc : ByteArray) (maxL : Nat) (ret : Option FieldType) (hh : List (Nat × Nat × Nat × Nat)) (fr : Nat) (E : EA) (h : AH) (av : List TV) (ty : Nat) (v : Int) (h' : AH) : Prop :=
  Met l y (wsW_ y cc maxL ret hh) (rmA fr h h') (PA E h av) (QA E h h' ty v) (aN h' - aN h).toNat (aS h' - aS h).toNat (AA h)
/-- in a method that may throw -/
def Mt (C : Cx) (cc : ByteArray) (nL : Nat) (own : String) (E : EA) (l : Launch) (fr : Nat) (h0 hF : AH) (ty : Nat) (o : OT) (ret : Option FieldType) (nm : String) : Prop :=
  MaB C cc nL own E l fr h0 hF nm ∧ C.2.2.2.2.1 = vx_MQ C.2.1.2.2.1 (QT E h0 hF ty o) (XT E h0 hF o) C.2.1.2.1 C.1.2.2.2.2 (aN hF - aN h0).toNat (aS hF - aS h0).toNat (AA h0) ∧ C.2.1.2.2.2.1.sig.returnType = ret ∧ ∀ x ∈ C.2.1.2.2.2.2.exceptionTable.toList, False
/-- in a method with handlers -/
def Mw (C : Cx) (cc : ByteArray) (nL : Nat) (own : String) (E : EA) (l : Launch) (fr : Nat) (h0 hF : AH) (ty : Nat) (v : Int) (ret : Option FieldType) (nm : String) (hh : List (Nat × Nat × Nat × Nat)) : Prop :=
  Ma C cc nL own E l fr h0 hF ty v ret nm ∧ C.2.1.2.2.2.2.exceptionTable.toList = tableOf hh
def Et (hF : AH) (ty : Nat) (o : OT) : Prop := TH hF ∧ TIo ty o
theorem t_start {l : Launch} {y : MethodName} {cc : ByteArray} {maxL : Nat} {ret : Option FieldType} {own : String} {E : EA} {h : AH} {ty : Nat} {o : OT} {h' : AH} {fr : Nat} (C0 : Cx) (av : List TV) (hT : TH h) (hy : y.cls = own) (hpl : plainName own = true) (hl : Nat.ble (tsl av) maxL = true)
    (body : ∀ C, X C (zA (Mt C cc maxL own E l fr h h' ty o ret y.name) (Et h' ty o) E h' h h) (tpos 0 av) 0 []) : MetT l y cc maxL ret fr E h av ty o h' ∧ Old h h' ∧ TH h' ∧ TIo ty o := by
  refine ⟨?_, (body C0).1.1, (body C0).1.2.1, (body C0).1.2.2⟩
  refine vx_ofW (cc := cc) (maxL := maxL) (ret := ret) (by rw [hy]; exact hpl) rfl ?_
  intro p e s m args below meth c s₁ B hml htab hv
  obtain ⟨rfl, hR, hE, hZ⟩ := hv
  have hts := atoms_spec (ws := ws_ y cc maxL ret) B.pre
  have hts : ∀ w ∈ lw_all, w.before _ s = true := fun w h => hts w (List.mem_cons_of_mem _ h)
  have hown : s.vm.findClass own = some m.cls := by rw [← hy]; exact findClass_of_methodNamed B.named
  have hnm : meth.name = y.name := (name_of_methodNamed B.named B.method).1
  rw [lg_entry_eq]
  have hle := lv_entry (evs av) (n := maxL) (by rw [sl_len]; exact Nat.le_of_ble_eq_true hl)
  rw [tpos_args] at hle
  have k := body ((p, l, e, (headSpec (ws_ y cc maxL ret) (rmA fr h h')).room, s), (m, (evs av).toArray, below, meth, c), (AA h, s.heap, vx_MQ below (QT E h h' ty o) (XT E h h' o) (evs av).toArray s (aN h' - aN h).toNat (aS h' - aS h).toNat (AA h), maxL))
  have g : Mt ((p, l, e, (headSpec (ws_ y cc maxL ret) (rmA fr h h')).room, s), (m, (evs av).toArray, below, meth, c), (AA h, s.heap, vx_MQ below (QT E h h' ty o) (XT E h h' o) (evs av).toArray s (aN h' - aN h).toNat (aS h' - aS h).toNat (AA h), maxL)) cc maxL own E l fr h h' ty o ret y.name :=
    ⟨⟨⟨⟨B.exec, B.bytes, hml, rfl, hown, hts, B.notSynchronized⟩, hE.1, hE.2.2.1, rfl, hR.1, rfl⟩, hE, hZ, ⟨rfl, rfl⟩, rfl, ⟨rfl, rfl⟩, hnm⟩, rfl, B.returns, htab⟩
  have w := k.2 s.heap [] _ ⟨g, hR⟩ va_S.rf hle
  exact XW.cs (k := 0) (n := 0) w (by show 0 = (aN h - aN h).toNat; omega) (by show 0 = (aS h - aS h).toNat; omega)
theorem w_start {l : Launch} {y : MethodName} {cc : ByteArray} {maxL : Nat} {ret : Option FieldType} {hh : List (Nat × Nat × Nat × Nat)} {own : String} {E : EA} {h : AH} {ty : Nat} {v : Int} {h' : AH} {fr : Nat} (C0 : Cx) (av : List TV) (hT : TH h) (hy : y.cls = own) (hpl : plainName own = true) (hl : Nat.ble (tsl av) maxL = true)
    (body : ∀ C, X C (zA (Mw C cc maxL own E l fr h h' ty v ret y.name hh) (Ea h' ty v) E h' h h) (tpos 0 av) 0 []) : MetW l y cc maxL ret hh fr E h av ty v h' ∧ Old h h' ∧ TH h' ∧ TIr ty v := by
  refine ⟨?_, (body C0).1.1, (body C0).1.2.1, (body C0).1.2.2⟩
  refine va_MetW (cc := cc) (maxL := maxL) (ret := ret) (hh := hh) (by rw [hy]; exact hpl) rfl ?_
  intro p e s m args below meth c s₁ B hml hv
  obtain ⟨rfl, hR, hE, hZ⟩ := hv
  have hts := atoms_spec (ws := wsW_ y cc maxL ret hh) B.pre
  have htab : c.exceptionTable.toList = tableOf hh := vx_table (x := y) (y := y) B (hts _ List.mem_cons_self)
  have hts : ∀ w ∈ lw_all, w.before _ s = true := fun w h => hts w (List.mem_cons_of_mem _ h)
  have hown : s.vm.findClass own = some m.cls := by rw [← hy]; exact findClass_of_methodNamed B.named
  have hnm : meth.name = y.name := (name_of_methodNamed B.named B.method).1
  rw [lg_entry_eq]
  have hle := lv_entry (evs av) (n := maxL) (by rw [sl_len]; exact Nat.le_of_ble_eq_true hl)
  rw [tpos_args] at hle
  have k := body ((p, l, e, (headSpec (wsW_ y cc maxL ret hh) (rmA fr h h')).room, s), (m, (evs av).toArray, below, meth, c), (AA h, s.heap, MQ below (QA E h h' ty v) (evs av).toArray s (aN h' - aN h).toNat (aS h' - aS h).toNat (AA h), maxL))
  have g : Mw ((p, l, e, (headSpec (wsW_ y cc maxL ret hh) (rmA fr h h')).room, s), (m, (evs av).toArray, below, meth, c), (AA h, s.heap, MQ below (QA E h h' ty v) (evs av).toArray s (aN h' - aN h).toNat (aS h' - aS h).toNat (AA h), maxL)) cc maxL own E l fr h h' ty v ret y.name hh :=
    ⟨⟨⟨⟨⟨B.exec, B.bytes, hml, rfl, hown, hts, B.notSynchronized⟩, hE.1, hE.2.2.1, rfl, hR.1, rfl⟩, hE, hZ, ⟨rfl, rfl⟩, rfl, ⟨rfl, rfl⟩, hnm⟩, rfl, B.returns⟩, htab⟩
  have w := k.2 s.heap [] _ ⟨g, hR⟩ va_S.rf hle
  exact XW.cs (k := 0) (n := 0) w (by show 0 = (aN h - aN h).toNat; omega) (by show 0 = (aS h - aS h).toNat; omega)
/-- the words of 'new E()' -/
def ThW (own : String) (ic : Nat) (cls : String) (names : List String) : Prop := ∀ w ∈ Bundle.ownAtoms0 own ic cls names, vx_no w = true → w ∈ lw_all ∨ (w ∈ lw_tbl ∧ nwS w = true)
theorem fa_c {P Q : Cond → Prop} {a : Cond} {l : List Cond} (h : Q a) (t : ∀ w ∈ l, P w → Q w) : ∀ w ∈ a :: l, P w → Q w := fun w hw p => (List.mem_cons.mp hw).elim (fun e => by rw [e]; exact h) (fun m => t w m p)
theorem fa_n {Q : Cond → Prop} {a : Cond} {l : List Cond} (h : vx_no a = false) (t : ∀ w ∈ l, vx_no w = true → Q w) : ∀ w ∈ a :: l, vx_no w = true → Q w := fun w hw p => (List.mem_cons.mp hw).elim (fun e => by rw [e, h] at p; cases p) (fun m => t w m p)
theorem fa_e {P Q : Cond → Prop} : ∀ w ∈ ([] : List Cond), P w → Q w := fun _ h => nomatch h
theorem ThW.ok {own : String} {ic : Nat} {cls : String} {names : List String} (h : ThW own ic cls names) {args : Array Value} {s : State} (hts : ∀ w ∈ lw_all, w.before args s = true) (hN : NW s) : (∀ w ∈ vx_at0 own ic cls names, w.before args s = true) ∧ ∀ w ∈ vx_at0 own ic cls names, vx_ot w = true := by
  have key : ∀ w ∈ vx_at0 own ic cls names, w.before args s = true ∧ vx_ot w = true := by
    intro w hw
    obtain ⟨hm, hn⟩ := List.mem_filter.mp hw
    rcases h w hm hn with q | ⟨q, g⟩
    · exact ⟨hts w q, by unfold vx_ot; rw [(List.mem_filter.mp q).2, Bool.or_true]⟩
    · exact ⟨va_Nw.use (nwS_on g) (hN w q g), by unfold vx_ot; rw [nwS_on g, Bool.true_or]⟩
  exact ⟨fun w hw => (key w hw).1, fun w hw => (key w hw).2⟩
theorem Old.mk0 {h : AH} {t : Nat} {sl len : Int} (hs : 0 ≤ sl) : Old h (mkc h t sl len) := ⟨by show aN h ≤ aN h + 1; omega, by show aS h ≤ aS h + sl; omega, fun a ha => if_neg (fun e => by have e' : a = aN h := e; omega)⟩
section TM
variable {p : Program} {l : Launch} {e : Env} {R : Room} {s : State} {m : MethodId} {args : Array Value} {below : List Frame} {meth : Method} {c : Code} {H : Heap} {locs : List Loc} {cells slots : Nat} {Q : State → Prop}
variable {mc ms : Nat} {free : Addr → Prop} {ls : Array Slot} {rest : List Value}
variable {Qc : Array Value → State → Outcome → State → Prop} {XC : String → State → State → Prop}
/-- 'throw new E()' (after vx_throw0, with the heap's size) -/
theorem t_thr0 {cc : ByteArray} {pc : Nat} (hexec : p.tables.exec = Jvm.exec) (hb : c.code = cc) (hl : l.stackTraces = false) {own cls : String} {names : List String} {ik ic mc ms : Nat} {A : Nat → Prop}
    (hown : s.vm.findClass own = some m.cls) (hcls : Bundle.fit cls = true) (hnames : ∀ n ∈ names, Bundle.fit n = true)
    (hk : (Cond.classLink own ik cls).before args s = true) (hini : (Cond.initialized cls).before args s = true) (hat : ∀ w ∈ vx_at0 own ic cls names, w.before args s = true)
    (hgood : ∀ w ∈ Cond.classLink own ik cls :: Cond.initialized cls :: vx_at0 own ic cls names, vx_ot w = true)
    (hU : vx_Zq Bundle.tN "UNASSIGNED_STACK" Bundle.steD A s s.heap) (hN : vx_Zq Bundle.tN "SUPPRESSED_SENTINEL" Bundle.listD A s s.heap) (hS : va_S A s.heap H locs) (hsize : ls.size = c.maxLocals)
    (d0 : decode cc pc = .ok (.new ik, 3)) (d3 : decode cc (pc + 3) = .ok (.dup, 1)) (d4 : decode cc (pc + 4) = .ok (.invokespecial ic, 3)) (d7 : decode cc (pc + 7) = .ok (.athrow, 1))
    (hout : ∀ x ∈ c.exceptionTable.toList, covers x (pc + 7) = false)
    (hRframes : names.length + 3 < R.frames) (hRlocals : (rest.map fun v => v.category).sum + (13 * (names.length + 1) + 42) ≤ R.locals) (hRcells : cells + 1 ≤ R.cells) (hRslots : slots + 6 ≤ R.slots) (hlocks : meth.locks = false)
    (hx : ∀ t : State, s.vm.Alike t.vm → t.heap.size = H.size + 1 → (∀ q : Nat, q < H.size → t.heap[q]? = H[q]?) → XC cls s t)
    (hf : ∀ z ∈ locs, free z.base) (hc : cells + 1 ≤ mc) (hs : slots + 6 ≤ ms) :
    W p l e R s m args below meth c H locs cells slots (vx_MQ below Qc XC args s mc ms free) (F0 m pc ls rest) := by
  intro T hT X
  have htr : e.platform.stackTraces = false := (show e.platform.stackTraces = l.stackTraces by rw [X.admits.platform]).trans hl
  have Y := vx_rebase X (R' := { frames := R.frames, locals := R.locals, cells := 1, slots := 6 }) (Nat.le_refl _) (Nat.le_refl _) hRcells hRslots
  obtain ⟨s', hA⟩ : ∃ z, z = (T.setVm s.vm).setFrames (.invoking m args :: below) := ⟨_, rfl⟩
  rw [← hA] at Y
  have hvm : s'.vm = s.vm := by rw [hA]; rfl
  have hhp : s'.heap = H := by rw [hA]; exact hT
  have hW0 : s.WarmedH s'.vm := by rw [hvm]; exact State.WarmedH.refl s
  have hat' : ∀ w ∈ vx_at0 own ic cls names, w.before args s' = true := fun w hw => vx_ot_at hW0 hvm.symm (hgood w (List.mem_cons_of_mem _ (List.mem_cons_of_mem _ hw))) (hat w hw)
  have hk' : (Cond.classLink own ik cls).before args s' = true := vx_ot_at hW0 hvm.symm (hgood _ List.mem_cons_self) hk
  have hini' : (Cond.initialized cls).before args s' = true := vx_ot_at hW0 hvm.symm (hgood _ (List.mem_cons_of_mem _ List.mem_cons_self)) hini
  have hU' : vx_Zq Bundle.tN "UNASSIGNED_STACK" Bundle.steD A s' s'.heap := by rw [hhp]; exact vx_Zq.moved hW0.alike (hU.kept hS.2.1)
  have hN' : vx_Zq Bundle.tN "SUPPRESSED_SENTINEL" Bundle.listD A s' s'.heap := by rw [hhp]; exact vx_Zq.moved hW0.alike (hN.kept hS.2.1)
  have h : ∀ w ∈ Bundle.ownAtoms0 own ic cls names, w.before args s' = true := vx_own hat' (vx_isRefq hU'.1) (vx_isRefq hN'.1) hU'.2.word hN'.2.word
  have hown' : s'.vm.findClass own = some m.cls := by rw [hvm]; exact hown
  have hins : (Cond.instantiable cls 6).before args s' = true := h _ (by simp [Bundle.ownAtoms0])
  obtain ⟨vm₁, cX, kX, hfX, hkX, -, -, X₁, st1⟩ := Y.newCold hexec (own := own) (C := cls) (index := ik) (n := 6) hown' hk' hins hini'
    (g := F0 m pc ls rest) rfl (by rw [hb]; exact d0) (Nat.le_refl _) (Nat.le_refl _)
  generalize hT1 : (T.setVm vm₁).pushCell { cls := cX, slots := kX.instanceTypes.map defaultValue, vm := .none } = T1 at X₁ st1
  have hcat : (Value.ref T.heap.size).category = 1 := rfl
  have hcellA : T1.heap[T.heap.size]? = some (freshCell cX kX) := by rw [← hT1]; exact State.heap_pushCell_size _ _
  have d3' : decode c.code (pc + 3) = .ok (.dup, 1) := by rw [hb]; exact d3
  obtain ⟨U, hsteps, hrun, hend, hW, hsame, ce, hce, hO⟩ := X₁.ctorThrow0 hexec htr (own := own) (cls := cls) (names := names) (ic := ic) hown' hcls hnames h (fun x hx => nomatch hx) hfX hkX hcellA (by rw [hhp, hT]; exact Nat.le_refl _)
    (g := { method := m, pc := pc + 4, locals := ls, stack := .ref T.heap.size :: .ref T.heap.size :: rest, locked := none }) rfl hsize rfl rfl (rest := rest) rfl
    (by rw [hb]; exact d4) (by rw [hb]; exact d7) hout hRframes (by simp only [List.map_cons, List.sum_cons, hcat]; omega) hlocks
  obtain ⟨f1, f2⟩ := vx_frame hsame
  rw [hhp] at f1 f2
  have hWs : s.WarmedH U.vm := State.WarmedH.trans hW0 hW
  have hcl : s.vm.findClass cls = some ce.cls := by
    have h9 := hO.cls
    rw [hvm] at h9
    exact h9
  have hup : U.heap.size ≤ H.size + 1 := by
    have := hsame.2.2.1
    rw [hhp] at this
    exact this
  have hlo : H.size < U.heap.size := by
    have := (Array.getElem?_eq_some_iff.mp hce).1
    rw [hT] at this
    exact this
  have hall : s.sameButNew ({ U with vm := s.vm } : State) locs mc ms := by
    subst hA
    obtain ⟨e1, e2⟩ := hsame
    rw [State.setFrames_setFrames] at e1
    have h2 : (T.setVm s.vm).sameButNew ({ U with vm := s.vm } : State) [] (0 + 1) (0 + 6) := ⟨e1, e2⟩
    have h3 := X.same.trans h2
    rw [List.append_nil] at h3
    exact h3.mono hc hs
  refine ⟨U, ?_, .threw T.heap.size, hrun, hend, Or.inr ⟨T.heap.size, rfl, cls, ce, locs, hx U hWs.alike (by omega) (fun q hq => f2 q hq (fun z hz => nomatch hz)), hce, hO.vm, hcl, hWs, hall, hf⟩⟩
  refine st1 _ ?_
  show Steps p.tables e below (T1.setTop { method := m, pc := pc + 3, locals := ls, stack := .ref T.heap.size :: rest, locked := none }) _
  jvm_step X₁.here [X₁.here.top, hexec, d3', Value.category]
  exact hsteps
/-- 'new E()' that isn't thrown at once (after vx_make0, without a world) -/
theorem t_mk0 {cc : ByteArray} {pc : Nat} (hexec : p.tables.exec = Jvm.exec) (hb : c.code = cc) (hl : l.stackTraces = false) {own cls : String} {names : List String} {ik ic : Nat} {A : Nat → Prop}
    (hown : s.vm.findClass own = some m.cls) (hcls : Bundle.fit cls = true) (hnames : ∀ n ∈ names, Bundle.fit n = true)
    (hk : (Cond.classLink own ik cls).before args s = true) (hini : (Cond.initialized cls).before args s = true) (hat : ∀ w ∈ vx_at0 own ic cls names, w.before args s = true)
    (hgood : ∀ w ∈ Cond.classLink own ik cls :: Cond.initialized cls :: vx_at0 own ic cls names, vx_ot w = true)
    (hU : vx_Zq Bundle.tN "UNASSIGNED_STACK" Bundle.steD A s s.heap) (hN : vx_Zq Bundle.tN "SUPPRESSED_SENTINEL" Bundle.listD A s s.heap) (hS : va_S A s.heap H locs) (hsize : ls.size = c.maxLocals)
    (d0 : decode cc pc = .ok (.new ik, 3)) (d3 : decode cc (pc + 3) = .ok (.dup, 1)) (d4 : decode cc (pc + 4) = .ok (.invokespecial ic, 3))
    (hRframes : names.length + 3 < R.frames) (hRlocals : (rest.map fun v => v.category).sum + (13 * (names.length + 1) + 42) ≤ R.locals) (hRcells : cells + 1 ≤ R.cells) (hRslots : slots + 6 ≤ R.slots)
    (kk : ∀ (H1 : Heap) (ce : Cell), H1.size = H.size + 1 → (∀ q : Nat, q < H.size → H1[q]? = H[q]?) → H1[H.size]? = some ce → s.vm.findClass cls = some ce.cls → ce.vm = .none → W p l e R s m args below meth c H1 locs (cells + 1) (slots + 6) Q (F0 m (pc + 7) ls (.ref H.size :: rest))) :
    W p l e R s m args below meth c H locs cells slots Q (F0 m pc ls rest) := by
  intro T hT X
  subst hT
  have htr : e.platform.stackTraces = false := (show e.platform.stackTraces = l.stackTraces by rw [X.admits.platform]).trans hl
  have Y := vx_rebase X (R' := { frames := R.frames, locals := R.locals, cells := 1, slots := 6 }) (Nat.le_refl _) (Nat.le_refl _) hRcells hRslots
  obtain ⟨s', hA'⟩ : ∃ z, z = (T.setVm s.vm).setFrames (.invoking m args :: below) := ⟨_, rfl⟩
  rw [← hA'] at Y
  have hvm : s'.vm = s.vm := by rw [hA']; rfl
  have hhp : s'.heap = T.heap := by rw [hA']; rfl
  have hW0 : s.WarmedH s'.vm := by rw [hvm]; exact State.WarmedH.refl s
  have hat' : ∀ w ∈ vx_at0 own ic cls names, w.before args s' = true := fun w hw => vx_ot_at hW0 hvm.symm (hgood w (List.mem_cons_of_mem _ (List.mem_cons_of_mem _ hw))) (hat w hw)
  have hk' : (Cond.classLink own ik cls).before args s' = true := vx_ot_at hW0 hvm.symm (hgood _ List.mem_cons_self) hk
  have hini' : (Cond.initialized cls).before args s' = true := vx_ot_at hW0 hvm.symm (hgood _ (List.mem_cons_of_mem _ List.mem_cons_self)) hini
  have hU' : vx_Zq Bundle.tN "UNASSIGNED_STACK" Bundle.steD A s' s'.heap := by rw [hhp]; exact vx_Zq.moved hW0.alike (hU.kept hS.2.1)
  have hN' : vx_Zq Bundle.tN "SUPPRESSED_SENTINEL" Bundle.listD A s' s'.heap := by rw [hhp]; exact vx_Zq.moved hW0.alike (hN.kept hS.2.1)
  have h : ∀ w ∈ Bundle.ownAtoms0 own ic cls names, w.before args s' = true := vx_own hat' (vx_isRefq hU'.1) (vx_isRefq hN'.1) hU'.2.word hN'.2.word
  have hown' : s'.vm.findClass own = some m.cls := by rw [hvm]; exact hown
  have hins : (Cond.instantiable cls 6).before args s' = true := h _ (by simp [Bundle.ownAtoms0])
  obtain ⟨vm₁, cX, kX, hfX, hkX, -, -, X₁, st1⟩ := Y.newCold hexec (own := own) (C := cls) (index := ik) (n := 6) hown' hk' hins hini'
    (g := F0 m pc ls rest) rfl (by rw [hb]; exact d0) (Nat.le_refl _) (Nat.le_refl _)
  generalize hT1 : (T.setVm vm₁).pushCell { cls := cX, slots := kX.instanceTypes.map defaultValue, vm := .none } = T1 at X₁ st1
  have hcat : (Value.ref T.heap.size).category = 1 := rfl
  have hcellA : T1.heap[T.heap.size]? = some (freshCell cX kX) := by rw [← hT1]; exact State.heap_pushCell_size _ _
  have d3' : decode c.code (pc + 3) = .ok (.dup, 1) := by rw [hb]; exact d3
  obtain ⟨V, ce, L, Z, hL, hlt, hcl9, hvm9, st⟩ := vx_ctorMade0 X₁ hexec htr (own := own) (cls := cls) (names := names) (ic := ic) hown' hcls hnames h (fun x hx => nomatch hx) hfX hkX hcellA (by rw [hhp]; exact Nat.le_refl _)
    (g := { method := m, pc := pc + 4, locals := ls, stack := .ref T.heap.size :: .ref T.heap.size :: rest, locked := none }) rfl hsize (rest := rest) rfl
    (by rw [hb]; exact d4) hRframes (by simp only [List.map_cons, List.sum_cons, hcat]; omega)
  have Z0 := Stand.forget (locs := []) Z (fun y hy => by rw [hL y hy, hhp]; exact Nat.le_refl _)
  obtain ⟨f1, f2⟩ := vx_frame Z0.same
  have hup := Z0.same.2.2.1
  rw [hhp] at f1 f2 hup
  have hh : (V.setCell T.heap.size ce).heap[T.heap.size]? = some ce := heapAt_setCell_self (s := V) ce hlt
  have hlo : T.heap.size < (V.setCell T.heap.size ce).heap.size := (Array.getElem?_eq_some_iff.mp hh).1
  have hup' : (V.setCell T.heap.size ce).heap.size ≤ T.heap.size + 1 := hup
  subst hA'
  have X5 := vx_back9 X Y Z0
  have X6 : Stand p l e R s m args below meth c (V.setCell T.heap.size ce) locs (cells + 1) (slots + 6) := { X5 with same := X5.same.mono (by omega) (by omega) }
  obtain ⟨t, a1, b1⟩ := kk (V.setCell T.heap.size ce).heap ce (by omega) (fun q hq => f2 q hq (fun z hz => nomatch hz)) hh (by rw [hvm] at hfX; rw [hcl9]; exact hfX) hvm9 _ rfl X6
  refine ⟨t, st1 _ ?_, b1⟩
  show Steps p.tables e below (T1.setTop { method := m, pc := pc + 3, locals := ls, stack := .ref T.heap.size :: rest, locked := none }) _
  jvm_step X₁.here [X₁.here.top, hexec, d3', Value.category]
  exact st _ a1
end TM
/-- an exception of a class, thrown over the frame at pc -/
def TX (C : Cx) (γ ε : Prop) (E : EA) (hF h0 h : AH) (lv : LV) (pc c : Nat) : Prop := (Old h hF ∧ ε) ∧ ∀ (H : Heap) (locs : List Loc) (ls : Array Slot), (γ ∧ RH E h H) → va_S C.2.2.1 C.2.2.2.1 H locs → lv_has ls C.2.2.2.2.2 (lvm lv) → ∀ (q : Nat) (ce : Cell) (rest : List Value), H[q]? = some ce → ce.vm = .none → C.1.2.2.2.2.vm.findClass (xcN c) = some ce.cls → vx_W C.1.1 C.1.2.1 C.1.2.2.1 C.1.2.2.2.1 C.1.2.2.2.2 C.2.1.1 C.2.1.2.1 C.2.1.2.2.1 C.2.1.2.2.2.1 C.2.1.2.2.2.2 H locs (aN h - aN h0).toNat (aS h - aS h0).toNat C.2.2.2.2.1 (F0 C.2.1.1 pc ls rest) q
section TR
variable {C : Cx} {cc : ByteArray} {nL : Nat} {own : String} {E : EA} {l : Launch} {fr ty : Nat} {v : Int} {o : OT} {h0 hF h : AH} {ret : Option FieldType} {nm : String} {lv : LV} {pc : Nat} {st : List TV} {ε : Prop} {hh : List (Nat × Nat × Nat × Nat)}
theorem Mt.x : Gz C (zA (Mt C cc nL own E l fr h0 hF ty o ret nm) ε E hF h0 h) cc nL own := fun _ a => a.1.1.1.1
theorem Mt.b (M : Mt C cc nL own E l fr h0 hF ty o ret nm) : MaB C cc nL own E l fr h0 hF nm := M.1
theorem Mt.ga (M : Mt C cc nL own E l fr h0 hF ty o ret nm) : Ga C cc nL own E h0 := M.1.1
theorem Mt.rm (M : Mt C cc nL own E l fr h0 hF ty o ret nm) : Rm C hF h0 := M.1.2.2.2.1
theorem Mt.kb (M : Mt C cc nL own E l fr h0 hF ty o ret nm) : KB E C.1.2.2.2.2 := M.1.2.1.2.1
theorem Mt.ao {Cn : String} (hc : Cn ∈ aoL) (M : Mt C cc nL own E l fr h0 hF ty o ret nm) : va_AO Cn C.1.2.2.2.2 := M.1.2.1.2.2.2.1 _ hc
theorem Mt.aoa {t : FieldType} (hc : t ∈ aaL) (M : Mt C cc nL own E l fr h0 hF ty o ret nm) : (Cond.arrayOver (.array t)).before C.2.1.2.1 C.1.2.2.2.2 = true := (M.1.2.1.2.2.2.2.1 _ hc).use
theorem Mt.nam (M : Mt C cc nL own E l fr h0 hF ty o ret nm) : C.2.1.2.2.2.1.name = nm := M.1.2.2.2.2.2.2
theorem Mw.x : Gz C (zA (Mw C cc nL own E l fr h0 hF ty v ret nm hh) ε E hF h0 h) cc nL own := fun _ a => a.1.1.1.1.1
theorem Mw.b (M : Mw C cc nL own E l fr h0 hF ty v ret nm hh) : MaB C cc nL own E l fr h0 hF nm := M.1.1
theorem Mw.ga (M : Mw C cc nL own E l fr h0 hF ty v ret nm hh) : Ga C cc nL own E h0 := M.1.ga
theorem Mw.rm (M : Mw C cc nL own E l fr h0 hF ty v ret nm hh) : Rm C hF h0 := M.1.rm
theorem Mw.kb (M : Mw C cc nL own E l fr h0 hF ty v ret nm hh) : KB E C.1.2.2.2.2 := M.1.kb
theorem Mw.ao {Cn : String} (hc : Cn ∈ aoL) (M : Mw C cc nL own E l fr h0 hF ty v ret nm hh) : va_AO Cn C.1.2.2.2.2 := M.1.ao hc
theorem Mw.nam (M : Mw C cc nL own E l fr h0 hF ty v ret nm hh) : C.2.1.2.2.2.1.name = nm := M.1.nam
theorem w_end (k : X C (zA (Ma C cc nL own E l fr h0 hF ty v ret nm) ε E hF h0 h) lv pc st) : X C (zA (Mw C cc nL own E l fr h0 hF ty v ret nm hh) ε E hF h0 h) lv pc st :=
  ⟨k.1, fun H locs ls a b c => k.2 H locs ls ⟨a.1.1, a.2⟩ b c⟩
/-- a method that may throw returns -/
theorem t_end (q : Sum.inr v = o) (k : ∀ C' : Cx, X C' (zA (Ma C' cc nL own E l fr h0 hF ty v ret nm) (Ea hF ty v) E hF h0 h) lv pc st) : X C (zA (Mt C cc nL own E l fr h0 hF ty o ret nm) (Et hF ty o) E hF h0 h) lv pc st := by
  subst q
  have k := k (C.1, C.2.1, (C.2.2.1, C.2.2.2.1, MQ C.2.1.2.2.1 (QA E h0 hF ty v) C.2.1.2.1 C.1.2.2.2.2 (aN hF - aN h0).toNat (aS hF - aS h0).toNat (AA h0), C.2.2.2.2.2))
  refine ⟨⟨k.1.1, k.1.2.1, k.1.2.2⟩, fun H locs ls a b c => ?_⟩
  obtain ⟨⟨M, hQ, hrt, htab⟩, hR⟩ := a
  have w := k.2 H locs ls ⟨⟨M, rfl, hrt⟩, hR⟩ b c
  unfold XW
  rw [hQ]
  intro T hT X
  obtain ⟨t, a1, oc, b1, b2, b3, b4⟩ := w T hT X
  exact ⟨t, a1, oc, b1, b2, Or.inl ⟨⟨v, rfl, b3.1, b3.2.1, b3.2.2⟩, b4⟩⟩
/-- not caught here -/
theorem t_out {c : Nat} (q1 : Sum.inl c = o) (q2 : h = hF) (hT : TH h) : TX C (Mt C cc nL own E l fr h0 hF ty o ret nm) (Et hF ty o) E hF h0 h lv pc c := by
  subst q1; subst q2
  refine ⟨⟨Old.rf _, hT, trivial⟩, fun H locs ls a b c' q ce rest hq hv hcl => ?_⟩
  obtain ⟨⟨M, hQ, hrt, htab⟩, hR⟩ := a
  have g := M.1
  have b' : va_S (AA h0) C.1.2.2.2.2.heap H locs := by
    have := b
    rw [g.2.2.2.1, g.2.2.2.2.2] at this
    exact this
  rw [hQ]
  exact vx_out (fun x hx => (htab x hx).elim) g.1.2.2.2.2.2.2 hq hv hcl (fun t ht hA => ⟨c, rfl, rfl, by rw [ht]; exact hR, b'.F ht⟩) b'.2.2 (Nat.le_refl _) (Nat.le_refl _)
theorem x_throw {γ : Prop} (hB : γ → MaB C cc nL own E l fr h0 hF nm) (hT : TH h) {a : Int} {t c : Nat} (ht : aT h a = t) (hc : ClT t (xcN c)) (hd : decode cc pc = .ok (.athrow, 1)) (k : TX C γ ε E hF h0 h lv pc c) (ht2 : 2 < t := by decide) : X C (zA γ ε E hF h0 h) lv pc ((2, a) :: st) := by
  refine ⟨k.1, fun H locs ls a' b c' => ?_⟩
  have M := hB a'.1
  have g := M.1
  obtain ⟨q, rfl, -⟩ := hT.pos (a := a) (by rw [ht]; have := hc.1; omega)
  obtain ⟨t0, t1, r, hr, hrn⟩ := hc
  obtain ⟨cell, c1, c2, -, c3⟩ := obj_at a'.2 ht t0 t1
  show XW C H locs _ _ pc ls (ev 2 (q : Int) :: evs st)
  rw [ev_ref]
  exact vx_athrow g.1.1 g.1.2.1 hd (k.2 H locs ls a' b c' q cell (evs st) c1 (c3 ht2) (by rw [c2, ← hrn]; exact (g.2.1.1 (t - 1) r hr).2.1))
/-- caught -/
theorem w_catch {γ : Prop} (hB : γ → MaB C cc nL own E l fr h0 hF nm) (hw : γ → C.2.1.2.2.2.2.exceptionTable.toList = tableOf hh) {c : Nat} {name : String} (pre : List ExceptionTableEntry) (x : ExceptionTableEntry) (suf : List ExceptionTableEntry) (hsplit : tableOf hh = pre ++ x :: suf)
    (hpass : ∀ z ∈ pre, covers z pc = false ∨ (z.catchType ≠ 0 ∧ ∃ n : String, Cond.classLink own z.catchType n ∈ lw_all ∧ (xcN c, n) ∈ ncA)) (hx : covers x pc = true) (h0x : x.catchType ≠ 0) (hlink : Cond.classLink own x.catchType name ∈ lw_all) (hcast : Cond.castable (xcN c) name ∈ lw_tbl)
    (kk : ∀ a : Int, TI 5 a → X C (zA γ ε E hF h0 h) lv x.handlerPc [(2, a)]) : TX C γ ε E hF h0 h lv pc c := by
  refine ⟨(kk 0 (by show (-1 : Int) ≤ 0; decide)).1, fun H locs ls a b c' q ce rest hq hv hcl => ?_⟩
  have M := hB a.1
  have g := M.1
  have w := (kk (q : Int) (by show (-1 : Int) ≤ q; omega)).2 H locs ls a b c'
  change XW C H locs _ _ x.handlerPc ls (ev 2 (q : Int) :: []) at w
  rw [ev_ref] at w
  exact vx_catch g.1.2.2.2.2.1 pre x suf ((hw a.1).trans hsplit) (fun z hz => (hpass z hz).imp id fun ⟨z0, n, hl, hn⟩ => ⟨z0, n, g.1.2.2.2.2.2.1 _ hl, M.2.1.2.2.2.2.2.2.1 _ hn⟩) hx h0x (g.1.2.2.2.2.2.1 _ hlink) (va_Nw.use rfl (g.2.2.1 _ hcast rfl)) hq hv hcl w
/-- 'throw new E()' -/
theorem t_throwNew {c : Nat} {cls : String} {names : List String} {ik ic : Nat} (hcls : cls = xcN c) (hth : ThW own ic cls names) (f1 : Bundle.fit cls = true) (f2 : ∀ n ∈ names, Bundle.fit n = true) (hlt : l.stackTraces = false) (hT : TH h) (hO : Old h0 h)
    (d0 : decode cc pc = .ok (.new ik, 3)) (d3 : decode cc (pc + 3) = .ok (.dup, 1)) (d4 : decode cc (pc + 4) = .ok (.invokespecial ic, 3)) (d7 : decode cc (pc + 7) = .ok (.athrow, 1)) (qk : Cond.classLink own ik cls ∈ lw_all) (qi : Cond.initialized cls ∈ lw_all)
    (hf : Nat.ble 6 fr = true) (hn : names.length ≤ 2) (hr : Nat.ble (tsl st) 8 = true) (q1 : Sum.inl c = o) (q2 : mkc h 0 6 0 = hF) : X C (zA (Mt C cc nL own E l fr h0 hF ty o ret nm) (Et hF ty o) E hF h0 h) lv pc st := by
  subst q1; subst q2
  refine ⟨⟨Old.mk0 (by omega), hT.mk ⟨by omega, by omega⟩, trivial⟩, fun H locs ls a b c' => ?_⟩
  obtain ⟨⟨M, hQ, hrt, htab⟩, hR⟩ := a
  have g := M.1
  have b' : va_S (AA h0) C.1.2.2.2.2.heap H locs := by
    have := b
    rw [g.2.2.2.1, g.2.2.2.2.2] at this
    exact this
  have hfr := Nat.le_of_ble_eq_true hf
  have hrm := M.2.2.2.2.2.1
  have hgr := M.2.2.2.1
  have hl : C.1.2.1 = l := M.2.2.2.2.1
  obtain ⟨w1, w2⟩ := hth.ok g.1.2.2.2.2.2.1 g.2.2.1
  have o1 := hO.1
  have o2 := hO.2.1
  have e1 : aN (mkc h 0 6 0) = aN h + 1 := rfl
  have e2 : aS (mkc h 0 6 0) = aS h + 6 := rfl
  unfold XW
  rw [hQ]
  refine t_thr0 g.1.1 g.1.2.1 (by rw [hl]; exact hlt) g.1.2.2.2.2.1 f1 f2 (g.1.2.2.2.2.2.1 _ qk) (g.1.2.2.2.2.2.1 _ qi) w1 (fun w hw => ?_) M.2.2.1.2.1 M.2.2.1.2.2 b' ((c'.1.trans g.1.2.2.2.1).trans g.1.2.2.1.symm) d0 d3 d4 d7 (fun x hx => (htab x hx).elim) (by rw [hrm.1]; omega) ?_ (by rw [hgr.1, e1]; show (aN h - aN h0).toNat + 1 ≤ _; omega) (by rw [hgr.2, e2]; show (aS h - aS h0).toNat + 6 ≤ _; omega) g.1.2.2.2.2.2.2
    (fun t hA hz hq => ⟨c, rfl, hcls, RH.mk hT hR (Or.inl rfl) hz hq, (b'.grow hz hq).F rfl⟩) b'.2.2 (by rw [e1]; show (aN h - aN h0).toNat + 1 ≤ _; omega) (by rw [e2]; show (aS h - aS h0).toNat + 6 ≤ _; omega)
  · rcases List.mem_cons.mp hw with e | hw
    · rw [e]; rfl
    · rcases List.mem_cons.mp hw with e | hw
      · rw [e]; rfl
      · exact w2 w hw
  · have := room_ok (st := st) hr (m := C.2.1.1) (pc := pc) (ls := ls) (rest := evs st)
    rw [hrm.2]
    have e : 2 * (F0 C.2.1.1 pc ls (evs st)).monitorRoom + ((evs st).map fun v => v.category).sum ≤ 8 := this
    omega
/-- 'new E()' that stays -/
theorem t_new {γ : Prop} (hB : γ → MaB C cc nL own E l fr h0 hF nm) {cls : String} {names : List String} {ik ic t : Nat} {ρ : Type} {K : Int × AH → Option ρ} {res : ρ} (t0 : 0 < t) (t1 : t < 64) {T0 : u_T} (hr9 : clA[t - 1]? = some (cls, T0, 0)) (hth : ThW own ic cls names) (f1 : Bundle.fit cls = true) (f2 : ∀ n ∈ names, Bundle.fit n = true) (hlt : l.stackTraces = false) (hT : TH h) (hO : Old h0 h)
    (d0 : decode cc pc = .ok (.new ik, 3)) (d3 : decode cc (pc + 3) = .ok (.dup, 1)) (d4 : decode cc (pc + 4) = .ok (.invokespecial ic, 3)) (qk : Cond.classLink own ik cls ∈ lw_all) (qi : Cond.initialized cls ∈ lw_all)
    (hf : Nat.ble 6 fr = true) (hn : names.length ≤ 2) (hr : Nat.ble (tsl st) 8 = true) (e : bd1 (nwo h t 6) K = some res) (kk : ∀ a h', TI 5 a → aT h' a = t → TH h' → Old h0 h' → K (a, h') = some res → X C (zA γ ε E hF h0 h') lv (pc + 7) ((2, a) :: st)) : X C (zA γ ε E hF h0 h) lv pc st := by
  have hsz : 0 ≤ aN h := hT.2.2.1
  have k' := kk (aN h) (mkc h t 6 0) (by show -1 ≤ aN h; omega) (by show (if aN h = h.1 then t else _) = t; exact if_pos rfl) (hT.mk ⟨by omega, by omega⟩) (hO.mk (by omega)) e
  obtain ⟨⟨m1, m2, m3⟩, mε⟩ := k'.1
  have e1 : aN (mkc h t 6 0) = aN h + 1 := rfl
  have e2 : aS (mkc h t 6 0) = aS h + 6 := rfl
  rw [e1] at m1
  rw [e2] at m2
  have o1 := hO.1
  have o2 := hO.2.1
  refine ⟨⟨⟨by omega, by omega, Old.tag m3⟩, mε⟩, fun H locs ls a b c' => ?_⟩
  have M := hB a.1
  have g := M.1
  have hR := a.2
  have b' : va_S (AA h0) C.1.2.2.2.2.heap H locs := by
    have := b
    rw [g.2.2.2.1, g.2.2.2.2.2] at this
    exact this
  have hfr := Nat.le_of_ble_eq_true hf
  have hrm := M.2.2.2.2.2.1
  have hgr := M.2.2.2.1
  have hl : C.1.2.1 = l := M.2.2.2.2.1
  have hsize : (H.size : Int) = aN h := hR.1
  obtain ⟨w1, w2⟩ := hth.ok g.1.2.2.2.2.2.1 g.2.2.1
  refine t_mk0 g.1.1 g.1.2.1 (by rw [hl]; exact hlt) g.1.2.2.2.2.1 f1 f2 (g.1.2.2.2.2.2.1 _ qk) (g.1.2.2.2.2.2.1 _ qi) w1 (fun w hw => ?_) M.2.2.1.2.1 M.2.2.1.2.2 b' ((c'.1.trans g.1.2.2.2.1).trans g.1.2.2.1.symm) d0 d3 d4 (by rw [hrm.1]; omega) ?_ (by rw [hgr.1]; show (aN h - aN h0).toNat + 1 ≤ _; omega) (by rw [hgr.2]; show (aS h - aS h0).toNat + 6 ≤ _; omega)
    (fun H1 ce z1 q1 hce hcl hv => ?_)
  · rcases List.mem_cons.mp hw with e | hw
    · rw [e]; rfl
    · rcases List.mem_cons.mp hw with e | hw
      · rw [e]; rfl
      · exact w2 w hw
  · have := room_ok (st := st) hr (m := C.2.1.1) (pc := pc) (ls := ls) (rest := evs st)
    rw [hrm.2]
    have e : 2 * (F0 C.2.1.1 pc ls (evs st)).monitorRoom + ((evs st).map fun v => v.category).sum ≤ 8 := this
    omega
  · have ht : aT (mkc h t 6 0) H.size = t := if_pos hsize
    have w := k'.2 H1 locs ls ⟨a.1, RH.mk hT hR (Or.inr ?_) z1 q1⟩ (b.grow z1 q1) c'
    · change XW C H1 locs _ _ (pc + 7) ls (ev 2 (aN h) :: evs st) at w
      rw [ev_refq hsize.symm] at w
      exact w.cs (by show (aN h - aN h0).toNat + 1 = (aN (mkc h t 6 0) - aN h0).toNat; rw [e1]; omega) (by show (aS h - aS h0).toNat + 6 = (aS (mkc h t 6 0) - aS h0).toNat; rw [e2]; omega)
    · have hcid := (g.2.1.1 (t - 1) _ hr9).2.1
      have hnf : nf t = 0 := by
        have := nf_ok (t - 1) (List.getElem?_eq_some_iff.mp hr9).1 _ hr9
        rwa [show t - 1 + 1 = t by omega] at this
      unfold aCell
      rw [ht, if_pos t1, hnf]
      exact oc_of ⟨ce, hce, Option.some.inj (hcl.symm.trans hcid), hv, fun k hk => absurd hk (Nat.not_lt_zero k)⟩
variable {h1 h2 : AH} {y : MethodName} {cc' : ByteArray} {maxL' : Nat} {ret' : Option FieldType} {idx fr' ty' t : Nat} {v' a : Int} {o' : OT}
theorem t_callS {γ : Prop} (hB : γ → MaB C cc nL own E l fr h0 hF nm) (hT : TH h1) (hO : Old h0 h1) (As rest : List TV) (sf : Int → List TV)
    (m : MetT l y cc' maxL' ret' fr' E h1 As ty' o' h2 ∧ Old h1 h2 ∧ TH h2 ∧ TIo ty' o') (hd : decode cc pc = .ok (.invokestatic idx, 3)) (q1 : Cond.methodLink own idx y ∈ lw_all) (q2 : Cond.static y ∈ lw_all) (q4 : Cond.initialized y.cls ∈ lw_all) (q5 : Cond.code y cc' maxL' ret' ∈ lw_all) (ck : CkA y As.length)
    (hf : Nat.ble (fr' + 1) fr = true) (hm : Nat.ble maxL' 40 = true) (hst : As.reverse ++ rest = st) (hr : Nat.ble (tsl rest) 8 = true) (hst' : ∀ v, rla ty' v ++ rest = sf v) (kx : ∀ c, o' = .inl c → TH h2 → Old h0 h2 → TX C γ ε E hF h0 h2 lv pc c) (kk : ∀ v', o' = .inr v' → TIr ty' v' → TH h2 → Old h0 h2 → X C (zA γ ε E hF h0 h2) lv (pc + 3) (sf v')) : X C (zA γ ε E hF h0 h1) lv pc st := by
  subst hst
  obtain ⟨hM, o1, hT2, hv2⟩ := m
  have hε : Old h2 hF ∧ ε := by
    cases o' with
    | inl c => exact (kx c rfl hT2 (hO.trans o1)).1
    | inr v => exact (kk v rfl hv2 hT2 (hO.trans o1)).1
  refine ⟨⟨o1.trans hε.1, hε.2⟩, fun H locs ls a' b c => ?_⟩
  obtain ⟨M, hR⟩ := a'
  have hγ := M
  have M := hB M
  have g := M.1
  have hl : C.1.2.1 = l := M.2.2.2.2.1
  have hpre : ∀ U : State, U.heap = H → C.1.2.2.2.2.WarmedH U.vm → PA E h1 As (evs As).toArray U := fun U hU hW => a_pre M hO hR b As U hU hW
  have hstk : evs (As.reverse ++ rest) = (evs As).reverse ++ evs rest := by rw [evs_app, evs_rev]
  have cf : CallFix C.1.1 C.2.1.1 C.2.1.2.2.2.2 cc nL C.1.2.2.2.2 C.2.1.2.1 lw_all own := ⟨g.1.1, g.1.2.1, g.1.2.2.1, g.1.2.2.2.2.1, g.1.2.2.2.2.2.1⟩
  have hM : vx_Met C.1.2.1 y (ws_ y cc' maxL' ret') (rmA fr' h1 h2) (PA E h1 As) (QT E h1 h2 ty' o') (XT E h1 h2 o') (aN h2 - aN h1).toNat (aS h2 - aS h1).toNat (AA h1) := by rw [hl]; exact hM
  intro T hTH X0
  have run := vx_runS (own := own) (index := idx) (nL := nL) (n := As.length) (As := evs As) (g := F0 C.2.1.1 pc ls (evs (As.reverse ++ rest))) cf hM (va_cwS As.length g.1.2.2.2.2.2.1 (lw_S q1 q2 q4 q5) rfl rfl rfl ck (a_frm M hf hm)) ⟨a_blind, hpre⟩ rfl (by simp [evs]) (c.1.trans g.1.2.2.2.1) hstk (room_ok hr) hd (a_room M hO o1 hε.1) T hTH X0
  have hA : C.2.2.1 = AA h0 := M.1.2.2.2.1
  have o1' := hO.1
  have o2' := hO.2.1
  have o3' := o1.1
  have o4' := o1.2.1
  cases o' with
  | inr v' =>
    rcases run with hl | hr
    · exact a_back (h1 := h1) (h2 := h2) (len := 3) M hO o1 b c (hst' v') hγ (kk v' rfl hv2 hT2 (hO.trans o1)) (Qa := QT E h1 h2 ty' (.inr v') (evs As).toArray) (fun st oc t hq => by obtain ⟨v, e, ho, r1, r2⟩ := hq; cases e; exact ⟨ho, r1, r2⟩) hl
    · obtain ⟨q, st₀, t, T', L, Ec, ce, e0, X', hL, e2, e3, ⟨c0, ec, -⟩, -⟩ := hr
      cases ec
  | inl c9 =>
    rcases run with hl | hr
    · obtain ⟨v, st₀, t, T', L, e0, X', hL, e2, e3, ⟨v0, ev0, -⟩, -⟩ := hl
      cases ev0
    · obtain ⟨q9, st₀, t, T', L, Ec, ce, e0, X', hL, e2, e3, ⟨c0, ec, hEc, hR2, hfr⟩, hce, hcv, hcl, st⟩ := hr
      cases ec
      subst hEc
      have w := (kx c9 rfl hT2 (hO.trans o1)).2 T'.heap (locs ++ L) ls ⟨hγ, by rw [e2]; exact hR2⟩ (va_S_call b e0 e2 hfr (fun q hq => by rw [hA]; exact AA.mono hO hq) hL) c q9 ce (evs rest) (by rw [e2]; exact hce) hcv hcl
      rw [show (aN h1 - aN h0).toNat + (aN h2 - aN h1).toNat = (aN h2 - aN h0).toNat by omega, show (aS h1 - aS h0).toNat + (aS h2 - aS h1).toNat = (aS h2 - aS h0).toNat by omega] at X'
      obtain ⟨tt, s1, s2⟩ := w T' rfl X'
      exact ⟨tt, st.trans s1, s2⟩
theorem t_callV {γ : Prop} (hB : γ → MaB C cc nL own E l fr h0 hF nm) (hT : TH h1) (hO : Old h0 h1) (As rest : List TV) (sf : Int → List TV)
    (m : MetT l y cc' maxL' ret' fr' E h1 ((2, a) :: As) ty' o' h2 ∧ Old h1 h2 ∧ TH h2 ∧ TIo ty' o') (ht : aT h1 a = t) (hc : ClT t y.cls) (hd : decode cc pc = .ok (.invokevirtual idx, 3)) (q1 : Cond.methodLink own idx y ∈ lw_all) (q2 : Cond.instanceMethod y ∈ lw_all) (q3 : Cond.selects y.cls y y ∈ lw_all) (q4 : Cond.initialized y.cls ∈ lw_all) (q5 : Cond.code y cc' maxL' ret' ∈ lw_all) (ck : CkA y As.length)
    (hf : Nat.ble (fr' + 1) fr = true) (hm : Nat.ble maxL' 40 = true) (hst : As.reverse ++ (2, a) :: rest = st) (hr : Nat.ble (tsl rest) 8 = true) (hst' : ∀ v, rla ty' v ++ rest = sf v) (kx : ∀ c, o' = .inl c → TH h2 → Old h0 h2 → TX C γ ε E hF h0 h2 lv pc c) (kk : ∀ v', o' = .inr v' → TIr ty' v' → TH h2 → Old h0 h2 → X C (zA γ ε E hF h0 h2) lv (pc + 3) (sf v')) : X C (zA γ ε E hF h0 h1) lv pc st := by
  subst hst
  obtain ⟨hM, o1, hT2, hv2⟩ := m
  have hε : Old h2 hF ∧ ε := by
    cases o' with
    | inl c => exact (kx c rfl hT2 (hO.trans o1)).1
    | inr v => exact (kk v rfl hv2 hT2 (hO.trans o1)).1
  refine ⟨⟨o1.trans hε.1, hε.2⟩, fun H locs ls a' b c => ?_⟩
  obtain ⟨M, hR⟩ := a'
  have hγ := M
  have M := hB M
  have g := M.1
  have hl : C.1.2.1 = l := M.2.2.2.2.1
  obtain ⟨q, rfl, -⟩ := hT.pos (a := a) (by rw [ht]; have := hc.1; omega)
  have hpre : ∀ U : State, U.heap = H → C.1.2.2.2.2.WarmedH U.vm → PA E h1 ((2, (q : Int)) :: As) (Value.ref q :: evs As).toArray U := fun U hU hW => by
    have := a_pre M hO hR b ((2, (q : Int)) :: As) U hU hW
    have e : (evs ((2, (q : Int)) :: As)).toArray = (Value.ref q :: evs As).toArray := by show (ev 2 (q : Int) :: evs As).toArray = _; rw [ev_ref]
    rw [e] at this; exact this
  have hstk : evs (As.reverse ++ (2, (q : Int)) :: rest) = (evs As).reverse ++ Value.ref q :: evs rest := by rw [evs_app, evs_rev]; show _ ++ (ev 2 (q : Int) :: evs rest) = _; rw [ev_ref]
  have cf : CallFix C.1.1 C.2.1.1 C.2.1.2.2.2.2 cc nL C.1.2.2.2.2 C.2.1.2.1 lw_all own := ⟨g.1.1, g.1.2.1, g.1.2.2.1, g.1.2.2.2.2.1, g.1.2.2.2.2.2.1⟩
  have hM : vx_Met C.1.2.1 y (ws_ y cc' maxL' ret') (rmA fr' h1 h2) (PA E h1 ((2, (q : Int)) :: As)) (QT E h1 h2 ty' o') (XT E h1 h2 o') (aN h2 - aN h1).toNat (aS h2 - aS h1).toNat (AA h1) := by rw [hl]; exact hM
  intro T hTH X0
  have run := vx_runV (b := q) (C := y.cls) (own := own) (index := idx) (nL := nL) (n := As.length) (As := evs As) (g := F0 C.2.1.1 pc ls (evs (As.reverse ++ (2, (q : Int)) :: rest))) cf hM (cwV As.length g.1.2.2.2.2.2.1 (lw_V q1 q2 q3 q4 q5) rfl rfl rfl ⟨rfl, ck⟩ (a_frm M hf hm)) ⟨a_blind, hc.recv g.2.1 hR ht, hpre⟩ rfl (by simp [evs]) (c.1.trans g.1.2.2.2.1) hstk (room_ok hr) hd (a_room M hO o1 hε.1) T hTH X0
  have hA : C.2.2.1 = AA h0 := M.1.2.2.2.1
  have o1' := hO.1
  have o2' := hO.2.1
  have o3' := o1.1
  have o4' := o1.2.1
  cases o' with
  | inr v' =>
    rcases run with hl | hr
    · exact a_back (h1 := h1) (h2 := h2) (len := 3) M hO o1 b c (hst' v') hγ (kk v' rfl hv2 hT2 (hO.trans o1)) (Qa := QT E h1 h2 ty' (.inr v') (Value.ref q :: evs As).toArray) (fun st oc t hq => by obtain ⟨v, e, ho, r1, r2⟩ := hq; cases e; exact ⟨ho, r1, r2⟩) hl
    · obtain ⟨q, st₀, t, T', L, Ec, ce, e0, X', hL, e2, e3, ⟨c0, ec, -⟩, -⟩ := hr
      cases ec
  | inl c9 =>
    rcases run with hl | hr
    · obtain ⟨v, st₀, t, T', L, e0, X', hL, e2, e3, ⟨v0, ev0, -⟩, -⟩ := hl
      cases ev0
    · obtain ⟨q9, st₀, t, T', L, Ec, ce, e0, X', hL, e2, e3, ⟨c0, ec, hEc, hR2, hfr⟩, hce, hcv, hcl, st⟩ := hr
      cases ec
      subst hEc
      have w := (kx c9 rfl hT2 (hO.trans o1)).2 T'.heap (locs ++ L) ls ⟨hγ, by rw [e2]; exact hR2⟩ (va_S_call b e0 e2 hfr (fun q hq => by rw [hA]; exact AA.mono hO hq) hL) c q9 ce (evs rest) (by rw [e2]; exact hce) hcv hcl
      rw [show (aN h1 - aN h0).toNat + (aN h2 - aN h1).toNat = (aN h2 - aN h0).toNat by omega, show (aS h1 - aS h0).toNat + (aS h2 - aS h1).toNat = (aS h2 - aS h0).toNat by omega] at X'
      obtain ⟨tt, s1, s2⟩ := w T' rfl X'
      exact ⟨tt, st.trans s1, s2⟩
/-- calls of methods with handlers -/
theorem w_callV {γ : Prop} (hB : γ → MaB C cc nL own E l fr h0 hF nm) (hT : TH h1) (hO : Old h0 h1) (As rest st' : List TV)
    (m : MetW l y cc' maxL' ret' hh fr' E h1 ((2, a) :: As) ty' v' h2 ∧ Old h1 h2 ∧ TH h2 ∧ TIr ty' v') (ht : aT h1 a = t) (hc : ClT t y.cls) (hd : decode cc pc = .ok (.invokevirtual idx, 3)) (q1 : Cond.methodLink own idx y ∈ lw_all) (q2 : Cond.instanceMethod y ∈ lw_all) (q3 : Cond.selects y.cls y y ∈ lw_all) (q4 : Cond.initialized y.cls ∈ lw_all) (q5 : Cond.codeWith y cc' maxL' ret' hh ∈ lw_all) (ck : CkA y As.length)
    (hf : Nat.ble (fr' + 1) fr = true) (hm : Nat.ble maxL' 40 = true) (hst : As.reverse ++ (2, a) :: rest = st) (hr : Nat.ble (tsl rest) 8 = true) (hst' : rla ty' v' ++ rest = st') (kk : TIr ty' v' → TH h2 → Old h0 h2 → X C (zA γ ε E hF h0 h2) lv (pc + 3) st') : X C (zA γ ε E hF h0 h1) lv pc st := by
  subst hst
  obtain ⟨hM, o1, hT2, hv2⟩ := m
  have k := kk hv2 hT2 (hO.trans o1)
  refine ⟨⟨o1.trans k.1.1, k.1.2⟩, fun H locs ls a' b c => ?_⟩
  obtain ⟨M, hR⟩ := a'
  have hγ := M
  have M := hB M
  obtain ⟨q, rfl, -⟩ := hT.pos (a := a) (by rw [ht]; have := hc.1; omega)
  have g := M.1
  have hl : C.1.2.1 = l := M.2.2.2.2.1
  intro T hTH X0
  refine a_back (h1 := h1) (h2 := h2) (len := 3) M hO o1 b c hst' hγ k (Qa := QA E h1 h2 ty' v' (evs ((2, (q : Int)) :: As)).toArray) (fun _ _ _ hq => hq) ?_
  have hM : Met C.1.2.1 y (wsW_ y cc' maxL' ret' hh) (rmA fr' h1 h2) (PA E h1 ((2, (q : Int)) :: As)) (QA E h1 h2 ty' v') (aN h2 - aN h1).toNat (aS h2 - aS h1).toNat (AA h1) := by rw [hl]; exact hM
  exact vx_runVW (b := q) (C := y.cls) (own := own) (index := idx) (nL := nL) (n := As.length) (As := evs As) ⟨g.1.1, g.1.2.1, g.1.2.2.1, g.1.2.2.2.2.1, g.1.2.2.2.2.2.1⟩ hM (vx_cwVW As.length g.1.2.2.2.2.2.1 (lw_VW q1 q2 q3 q4 q5) rfl rfl rfl ⟨rfl, ck⟩ (a_frm M hf hm)) ⟨a_blind, hc.recv g.2.1 hR ht, fun U hU hW => by
      have := a_pre M hO hR b ((2, (q : Int)) :: As) U hU hW
      have e : (evs ((2, (q : Int)) :: As)).toArray = (Value.ref q :: evs As).toArray := by show (ev 2 (q : Int) :: evs As).toArray = _; rw [ev_ref]
      rw [e] at this; exact this⟩ rfl (by simp [evs]) (c.1.trans g.1.2.2.2.1) (by show evs _ = _; rw [evs_app, evs_rev]; show _ ++ (ev 2 (q : Int) :: evs rest) = _; rw [ev_ref]) (room_ok hr) hd (a_room M hO o1 k.1.1) T hTH X0
theorem w_callS {γ : Prop} (hB : γ → MaB C cc nL own E l fr h0 hF nm) (hT : TH h1) (hO : Old h0 h1) (As rest st' : List TV)
    (m : MetW l y cc' maxL' ret' hh fr' E h1 As ty' v' h2 ∧ Old h1 h2 ∧ TH h2 ∧ TIr ty' v') (hd : decode cc pc = .ok (.invokestatic idx, 3)) (q1 : Cond.methodLink own idx y ∈ lw_all) (q2 : Cond.static y ∈ lw_all) (q4 : Cond.initialized y.cls ∈ lw_all) (q5 : Cond.codeWith y cc' maxL' ret' hh ∈ lw_all) (ck : CkA y As.length)
    (hf : Nat.ble (fr' + 1) fr = true) (hm : Nat.ble maxL' 40 = true) (hst : As.reverse ++ rest = st) (hr : Nat.ble (tsl rest) 8 = true) (hst' : rla ty' v' ++ rest = st') (kk : TIr ty' v' → TH h2 → Old h0 h2 → X C (zA γ ε E hF h0 h2) lv (pc + 3) st') : X C (zA γ ε E hF h0 h1) lv pc st := by
  subst hst
  obtain ⟨hM, o1, hT2, hv2⟩ := m
  have k := kk hv2 hT2 (hO.trans o1)
  refine ⟨⟨o1.trans k.1.1, k.1.2⟩, fun H locs ls a' b c => ?_⟩
  obtain ⟨M, hR⟩ := a'
  have hγ := M
  have M := hB M
  have g := M.1
  have hl : C.1.2.1 = l := M.2.2.2.2.1
  intro T hTH X0
  refine a_back (h1 := h1) (h2 := h2) (len := 3) M hO o1 b c hst' hγ k (Qa := QA E h1 h2 ty' v' (evs As).toArray) (fun _ _ _ hq => hq) ?_
  have hpre : ∀ U : State, U.heap = H → C.1.2.2.2.2.WarmedH U.vm → PA E h1 As (evs As).toArray U := fun U hU hW => a_pre M hO hR b As U hU hW
  have hstk : evs (As.reverse ++ rest) = (evs As).reverse ++ evs rest := by rw [evs_app, evs_rev]
  have hM : Met C.1.2.1 y (wsW_ y cc' maxL' ret' hh) (rmA fr' h1 h2) (PA E h1 As) (QA E h1 h2 ty' v') (aN h2 - aN h1).toNat (aS h2 - aS h1).toNat (AA h1) := by rw [hl]; exact hM
  exact vx_runSW (own := own) (index := idx) (nL := nL) (n := As.length) (As := evs As) ⟨g.1.1, g.1.2.1, g.1.2.2.1, g.1.2.2.2.2.1, g.1.2.2.2.2.2.1⟩ hM (vx_cwSW As.length g.1.2.2.2.2.2.1 (lw_SW q1 q2 q4 q5) rfl rfl rfl ck (a_frm M hf hm)) ⟨a_blind, hpre⟩ rfl (by simp [evs]) (c.1.trans g.1.2.2.2.1) hstk (room_ok hr) hd (a_room M hO o1 k.1.1) T hTH X0
end TR
/-- what a call of a method that may throw goes on with -/
def tcb {ρ : Type} (o : OT) (X : Nat → Option ρ) (K : Int → Option ρ) : Option ρ := match o with
  | .inl c => X c
  | .inr v => K v
theorem tcb_x {ρ : Type} {o : OT} {X : Nat → Option ρ} {K : Int → Option ρ} {r : ρ} (e : tcb o X K = some r) {c : Nat} (h : o = .inl c) : X c = some r := by subst h; exact e
theorem tcb_k {ρ : Type} {o : OT} {X : Nat → Option ρ} {K : Int → Option ρ} {r : ρ} (e : tcb o X K = some r) {v : Int} (h : o = .inr v) : K v = some r := by subst h; exact e
theorem tw_Stop {own : String} {ic : Nat} (hl : Cond.methodLink own ic (Bundle.init0 "Syntaxspan$Stop") ∈ lw_all) : ThW own ic "Syntaxspan$Stop" ["java/lang/Exception"] :=
  fa_c (Or.inl q227) <| fa_c (Or.inl q669) <| fa_c (Or.inl q678) <| fa_c (Or.inl q684) <| fa_c (Or.inl q687) <| fa_c (Or.inl q689) <| fa_c (Or.inl q670) <| fa_c (Or.inl q671) <| fa_c (Or.inl q280) <| fa_c (Or.inl q281) <| fa_c (Or.inl q672) <| fa_c (Or.inl q677) <| fa_c (Or.inl q685) <| fa_c (Or.inl q699) <| fa_c (Or.inl q659) <| fa_c (Or.inl q700) <| fa_c (Or.inl q661) <| fa_c (Or.inl q701) <| fa_c (Or.inl q663) <| fa_c (Or.inl q673) <| fa_n rfl <| fa_c (Or.inl q675) <| fa_n rfl <| fa_c (Or.inl q665) <| fa_c (Or.inl q691) <| fa_c (Or.inl q692) <| fa_c (Or.inl q693) <| fa_c (Or.inl q694) <| fa_c (Or.inr ⟨q652, rfl⟩) <| fa_c (Or.inl q694) <| fa_c (Or.inl q695) <| fa_c (Or.inl q696) <| fa_c (Or.inl q670) <| fa_c (Or.inr ⟨q654, rfl⟩) <| fa_c (Or.inl hl) <| fa_c (Or.inl q650) <| fa_c (Or.inr ⟨q651, rfl⟩) <| fa_c (Or.inl q656) <| fa_c (Or.inl q657) <| fa_c (Or.inl q658) <| fa_c (Or.inl q660) <| fa_c (Or.inl q662) <| fa_c (Or.inl q664) <| fa_n rfl <| fa_n rfl <| fa_c (Or.inl q697) <| fa_c (Or.inl q667) <| fa_c (Or.inl q666) <| fa_e
theorem tw_IOOBE {own : String} {ic : Nat} (hl : Cond.methodLink own ic (Bundle.init0 "java/lang/IndexOutOfBoundsException") ∈ lw_all) : ThW own ic "java/lang/IndexOutOfBoundsException" ["java/lang/RuntimeException", "java/lang/Exception"] :=
  fa_c (Or.inl q227) <| fa_c (Or.inl q669) <| fa_c (Or.inl q678) <| fa_c (Or.inl q684) <| fa_c (Or.inl q687) <| fa_c (Or.inl q689) <| fa_c (Or.inl q670) <| fa_c (Or.inl q671) <| fa_c (Or.inl q280) <| fa_c (Or.inl q281) <| fa_c (Or.inl q672) <| fa_c (Or.inl q677) <| fa_c (Or.inl q685) <| fa_c (Or.inl q699) <| fa_c (Or.inl q659) <| fa_c (Or.inl q700) <| fa_c (Or.inl q661) <| fa_c (Or.inl q701) <| fa_c (Or.inl q663) <| fa_c (Or.inl q673) <| fa_n rfl <| fa_c (Or.inl q675) <| fa_n rfl <| fa_c (Or.inl q665) <| fa_c (Or.inl q2125) <| fa_c (Or.inl q2126) <| fa_c (Or.inl q2127) <| fa_c (Or.inl q2128) <| fa_c (Or.inr ⟨q1779, rfl⟩) <| fa_c (Or.inl q2128) <| fa_c (Or.inl q2129) <| fa_c (Or.inl q2130) <| fa_c (Or.inl q694) <| fa_c (Or.inr ⟨q652, rfl⟩) <| fa_c (Or.inl q694) <| fa_c (Or.inl q695) <| fa_c (Or.inl q696) <| fa_c (Or.inl q670) <| fa_c (Or.inr ⟨q654, rfl⟩) <| fa_c (Or.inl hl) <| fa_c (Or.inl q2116) <| fa_c (Or.inr ⟨q2117, rfl⟩) <| fa_c (Or.inl q2118) <| fa_c (Or.inl q683) <| fa_c (Or.inl q2119) <| fa_c (Or.inl q2120) <| fa_c (Or.inl q2121) <| fa_c (Or.inl q2122) <| fa_n rfl <| fa_n rfl <| fa_c (Or.inl q697) <| fa_c (Or.inl q667) <| fa_c (Or.inl q2123) <| fa_e
theorem tw_IAE {own : String} {ic : Nat} (hl : Cond.methodLink own ic (Bundle.init0 "java/lang/IllegalArgumentException") ∈ lw_all) : ThW own ic "java/lang/IllegalArgumentException" ["java/lang/RuntimeException", "java/lang/Exception"] :=
  fa_c (Or.inl q227) <| fa_c (Or.inl q669) <| fa_c (Or.inl q678) <| fa_c (Or.inl q684) <| fa_c (Or.inl q687) <| fa_c (Or.inl q689) <| fa_c (Or.inl q670) <| fa_c (Or.inl q671) <| fa_c (Or.inl q280) <| fa_c (Or.inl q281) <| fa_c (Or.inl q672) <| fa_c (Or.inl q677) <| fa_c (Or.inl q685) <| fa_c (Or.inl q699) <| fa_c (Or.inl q659) <| fa_c (Or.inl q700) <| fa_c (Or.inl q661) <| fa_c (Or.inl q701) <| fa_c (Or.inl q663) <| fa_c (Or.inl q673) <| fa_n rfl <| fa_c (Or.inl q675) <| fa_n rfl <| fa_c (Or.inl q665) <| fa_c (Or.inl q2138) <| fa_c (Or.inl q2139) <| fa_c (Or.inl q2140) <| fa_c (Or.inl q2128) <| fa_c (Or.inr ⟨q1779, rfl⟩) <| fa_c (Or.inl q2128) <| fa_c (Or.inl q2129) <| fa_c (Or.inl q2130) <| fa_c (Or.inl q694) <| fa_c (Or.inr ⟨q652, rfl⟩) <| fa_c (Or.inl q694) <| fa_c (Or.inl q695) <| fa_c (Or.inl q696) <| fa_c (Or.inl q670) <| fa_c (Or.inr ⟨q654, rfl⟩) <| fa_c (Or.inl hl) <| fa_c (Or.inl q1777) <| fa_c (Or.inr ⟨q1778, rfl⟩) <| fa_c (Or.inl q1781) <| fa_c (Or.inl q681) <| fa_c (Or.inl q1782) <| fa_c (Or.inl q1783) <| fa_c (Or.inl q1784) <| fa_c (Or.inl q1785) <| fa_n rfl <| fa_n rfl <| fa_c (Or.inl q697) <| fa_c (Or.inl q667) <| fa_c (Or.inl q1786) <| fa_e
theorem tw_ISE {own : String} {ic : Nat} (hl : Cond.methodLink own ic (Bundle.init0 "java/lang/IllegalStateException") ∈ lw_all) : ThW own ic "java/lang/IllegalStateException" ["java/lang/RuntimeException", "java/lang/Exception"] :=
  fa_c (Or.inl q227) <| fa_c (Or.inl q669) <| fa_c (Or.inl q678) <| fa_c (Or.inl q684) <| fa_c (Or.inl q687) <| fa_c (Or.inl q689) <| fa_c (Or.inl q670) <| fa_c (Or.inl q671) <| fa_c (Or.inl q280) <| fa_c (Or.inl q281) <| fa_c (Or.inl q672) <| fa_c (Or.inl q677) <| fa_c (Or.inl q685) <| fa_c (Or.inl q699) <| fa_c (Or.inl q659) <| fa_c (Or.inl q700) <| fa_c (Or.inl q661) <| fa_c (Or.inl q701) <| fa_c (Or.inl q663) <| fa_c (Or.inl q673) <| fa_n rfl <| fa_c (Or.inl q675) <| fa_n rfl <| fa_c (Or.inl q665) <| fa_c (Or.inl q2154) <| fa_c (Or.inl q2155) <| fa_c (Or.inl q2156) <| fa_c (Or.inl q2128) <| fa_c (Or.inr ⟨q1779, rfl⟩) <| fa_c (Or.inl q2128) <| fa_c (Or.inl q2129) <| fa_c (Or.inl q2130) <| fa_c (Or.inl q694) <| fa_c (Or.inr ⟨q652, rfl⟩) <| fa_c (Or.inl q694) <| fa_c (Or.inl q695) <| fa_c (Or.inl q696) <| fa_c (Or.inl q670) <| fa_c (Or.inr ⟨q654, rfl⟩) <| fa_c (Or.inl hl) <| fa_c (Or.inl q2145) <| fa_c (Or.inr ⟨q2146, rfl⟩) <| fa_c (Or.inl q2147) <| fa_c (Or.inl q682) <| fa_c (Or.inl q2148) <| fa_c (Or.inl q2149) <| fa_c (Or.inl q2150) <| fa_c (Or.inl q2151) <| fa_n rfl <| fa_n rfl <| fa_c (Or.inl q697) <| fa_c (Or.inl q667) <| fa_c (Or.inl q2152) <| fa_e
theorem ft_Stop : Bundle.fit "Syntaxspan$Stop" = true := by decide +kernel
theorem ft_IOOBE : Bundle.fit "java/lang/IndexOutOfBoundsException" = true := by decide +kernel
theorem ft_IAE : Bundle.fit "java/lang/IllegalArgumentException" = true := by decide +kernel
theorem ft_ISE : Bundle.fit "java/lang/IllegalStateException" = true := by decide +kernel
theorem fn_Stop : ∀ n ∈ ["java/lang/Exception"], Bundle.fit n = true := by decide +kernel
theorem fn_IOOBE : ∀ n ∈ ["java/lang/RuntimeException", "java/lang/Exception"], Bundle.fit n = true := by decide +kernel
theorem fn_IAE : ∀ n ∈ ["java/lang/RuntimeException", "java/lang/Exception"], Bundle.fit n = true := by decide +kernel
theorem fn_ISE : ∀ n ∈ ["java/lang/RuntimeException", "java/lang/Exception"], Bundle.fit n = true := by decide +kernel
