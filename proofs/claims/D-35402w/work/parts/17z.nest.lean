/-! 'new E()' of a nest mate's own constructor; a field of four classes -/
set_option maxRecDepth 100000
def nstAtoms (X : String) (names : List String) : List Cond :=
  Bundle.throwableAtoms ++ Bundle.chain0Atoms X names ++
  [.instantiable X 6, .castable X X, .selects X Bundle.tFill0 Bundle.tFill0, .selects X Bundle.tFill Bundle.tFill,
   .lays X Bundle.tN "cause" "Ljava/lang/Throwable;", .lays X Bundle.tN "stackTrace" Bundle.steD, .lays X Bundle.tN "suppressedExceptions" Bundle.listD, .lays X Bundle.tN "detailMessage" "Ljava/lang/String;",
   .isRef (.static Bundle.tN "UNASSIGNED_STACK" Bundle.steD), .isRef (.static Bundle.tN "SUPPRESSED_SENTINEL" Bundle.listD),
   .fieldLink Bundle.tN 198 Bundle.tN "backtrace" "Ljava/lang/Object;", .lays Bundle.tN Bundle.tN "backtrace" "Ljava/lang/Object;", .lays X Bundle.tN "backtrace" "Ljava/lang/Object;"]
def ThN (cls : String) (names : List String) : Prop := ∀ w ∈ nstAtoms cls names, vx_no w = true → w ∈ lw_all ∨ (w ∈ lw_tbl ∧ nwS w = true)
theorem ThN.ok {cls : String} {names : List String} (h : ThN cls names) {args : Array Value} {s : State} (hts : ∀ w ∈ lw_all, w.before args s = true) (hN : NW s) : (∀ w ∈ (nstAtoms cls names).filter vx_no, w.before args s = true) ∧ ∀ w ∈ (nstAtoms cls names).filter vx_no, vx_ot w = true := by
  have key : ∀ w ∈ (nstAtoms cls names).filter vx_no, w.before args s = true ∧ vx_ot w = true := by
    intro w hw
    obtain ⟨hm, hn⟩ := List.mem_filter.mp hw
    rcases h w hm hn with q | ⟨q, g⟩
    · exact ⟨hts w q, by unfold vx_ot; rw [(List.mem_filter.mp q).2, Bool.or_true]⟩
    · exact ⟨va_Nw.use (nwS_on g) (hN w q g), by unfold vx_ot; rw [nwS_on g, Bool.true_or]⟩
  exact ⟨fun w hw => (key w hw).1, fun w hw => (key w hw).2⟩
section TNK
variable {p : Program} {l : Launch} {e : Env} {R : Room} {s : State} {m₀ : MethodId} {args : Array Value} {below : List Frame} {meth : Method} {c : Code} {W : State} {locs : List Loc} {cells slots : Nat}
theorem t_ctorMadeN (X : Stand p l e R s m₀ args below meth c W locs cells slots) (hexec : p.tables.exec = Jvm.exec) (htr : e.platform.stackTraces = false) {own cls : String} {names : List String} {ic : Nat} {host : String}
    (hown : s.vm.findClass own = some m₀.cls) (hcls : Bundle.fit cls = true) (hnames : ∀ n ∈ names, Bundle.fit n = true)
    (h : ∀ a ∈ nstAtoms cls names, a.before args s = true) (hnest : (Cond.methodLinkNest own ic (Bundle.init0 cls) host).before args s = true)
    (hlocs : ∀ x ∈ locs, ∀ cell, s.heap[x.base]? = some cell → cell.vm.isStatics = false)
    {a : Addr} {cX : ClassId} {kX : Class} (hfoundX : s.vm.findClass cls = some cX) (hkX : s.vm.classes[cX]? = some kX) (hcell : W.heap[a]? = some (freshCell cX kX)) (hnew : s.heap.size ≤ a)
    {g : JFrame} (hg : g.method = m₀) (hsize : g.locals.size = c.maxLocals) {rest : List Value} (hstack : g.stack = .ref a :: .ref a :: rest)
    (hd6 : decode c.code g.pc = .ok (.invokespecial ic, 3))
    (hRframes : names.length + 3 < R.frames) (hRlocals : 2 * g.monitorRoom + ((Value.ref a :: rest).map fun v => v.category).sum + (13 * (names.length + 1) + 41) ≤ R.locals) :
    ∃ (V : State) (ce : Cell) (L : List Loc), Stand p l e R s m₀ args below meth c (V.setCell a ce) (locs ++ L) cells slots ∧ (∀ y ∈ L, y.base = a) ∧ a < V.heap.size ∧ ce.cls = cX ∧ ce.vm = .none ∧
      ∀ target, Steps p.tables e below ((V.setCell a ce).setTop { g with stack := .ref a :: rest, pc := g.pc + 3 }) target → Steps p.tables e below (W.setTop g) target := by
  have howns : e.platform.frameOwnsMonitors = true := by rw [X.admits.platform]
  have hfin : e.platform.finalization = false := by rw [X.admits.platform]
  have hpl : e.platform.magicAccessors = ({} : Platform).magicAccessors := by rw [X.admits.platform]
  have a' : ∀ x, x ∈ nstAtoms cls names → x.holds args s none s [] = true := fun x hx => h x hx
  obtain ⟨T, Z, L, LZ, Y⟩ := ThrowableC.of_atoms (args := args) howns hfin hpl (fun x hx => h x (by simp [nstAtoms, hx]))
  obtain ⟨P1, Ps, hlen, L1, hL, hP1m, hlink1, hlink⟩ := Bundle.chain0 (args := args) hpl Y.init0 names cls hcls hnames (fun x hx => h x (by simp [nstAtoms, hx]))
  have hfound : s.vm.findClass cls = some P1.m.cls := findClass_of_methodNamed hP1m
  cases Option.some.inj (hfoundX.symm.trans hfound)
  obtain ⟨c1, kX', hc1, hk, hord, -, -, hn6⟩ := Cond.instantiable_spec (a' (.instantiable cls 6) (by simp [nstAtoms]))
  cases Option.some.inj (hc1.symm.trans hfound)
  cases Option.some.inj (hkX.symm.trans hk)
  have hsel0 : selectMethod e.platform s.vm P1.m.cls T.fill0 = .method T.fill0 := by
    obtain ⟨c2, r2, m2, q1, q2, q3, q4, -⟩ := Cond.selects_spec (a' (.selects cls Bundle.tFill0 Bundle.tFill0) (by simp [nstAtoms]))
    cases Option.some.inj (q1.symm.trans hfound)
    cases Option.some.inj (q2.symm.trans (State.methodFound?_of_named Y.fill0 (by decide)))
    cases Option.some.inj (q3.symm.trans Y.fill0)
    rw [Launch.admits_selectMethod X.admits]; exact q4
  have hselF : selectMethod e.platform s.vm P1.m.cls T.fill = .method T.fill := by
    obtain ⟨c2, r2, m2, q1, q2, q3, q4, -⟩ := Cond.selects_spec (a' (.selects cls Bundle.tFill Bundle.tFill) (by simp [nstAtoms]))
    cases Option.some.inj (q1.symm.trans hfound)
    cases Option.some.inj (q2.symm.trans (State.methodFound?_of_named Y.fill (by decide)))
    cases Option.some.inj (q3.symm.trans Y.fill)
    rw [Launch.admits_selectMethod X.admits]; exact q4
  obtain ⟨cellS0, hcS0, hiss⟩ := Y.statics
  obtain ⟨u0, hu0⟩ := Cond.staticRefV Y.unassigned L.unassignedStatic L.statics hcS0 hiss (a' (.isRef (.static Bundle.tN "UNASSIGNED_STACK" Bundle.steD)) (by simp [nstAtoms]))
  obtain ⟨sen, hsen⟩ := Cond.staticRefV Y.sentinel L.sentinelStatic L.statics hcS0 hiss (a' (.isRef (.static Bundle.tN "SUPPRESSED_SENTINEL" Bundle.listD)) (by simp [nstAtoms]))
  obtain ⟨ci198, i198, fB, hk198, hg198, ha198, hsB, -, hnB, htB, hffB⟩ := Cond.ownField (t := .object "java/lang/Object") Y.found L.cls (by decide +kernel) (a' (.fieldLink Bundle.tN 198 Bundle.tN "backtrace" "Ljava/lang/Object;") (by simp [nstAtoms])) (a' (.lays Bundle.tN Bundle.tN "backtrace" "Ljava/lang/Object;") (by simp [nstAtoms])) e.platform hpl
  obtain ⟨cellS, hcS', heS, -, hkeep⟩ := X.same.2.2.2.2.2 T.aS cellS0 hcS0
  have hcellS : W.heap[T.aS]? = some cellS := hcS'
  have hout' : ∀ i, (⟨T.aS, i⟩ : Loc) ∉ locs := fun i hmem => by
    have := hlocs _ hmem cellS0 hcS0
    rw [hiss] at this; cases this
  have hknownS : cellS.vm ≠ .unknown := by
    rw [heS]; intro hu
    rw [show cellS0.vm = .unknown from hu] at hiss
    cases hiss
  have hneS : T.aS ≠ a := Nat.ne_of_lt (Nat.lt_of_lt_of_le (Array.getElem?_eq_some_iff.mp hcS0).1 hnew)
  obtain ⟨iM, hffM⟩ := Y.msg
  obtain ⟨tyC, dC, hdC, hdnC⟩ := Cond.laysAt hfound hk Y.cause (a' (.lays cls Bundle.tN "cause" "Ljava/lang/Throwable;") (by simp [nstAtoms]))
  obtain ⟨tyS, dS, hdS, hdnS⟩ := Cond.laysAt hfound hk Y.stack (a' (.lays cls Bundle.tN "stackTrace" Bundle.steD) (by simp [nstAtoms]))
  obtain ⟨tyP, dP, hdP, hdnP⟩ := Cond.laysAt hfound hk Y.supp (a' (.lays cls Bundle.tN "suppressedExceptions" Bundle.listD) (by simp [nstAtoms]))
  obtain ⟨tyM, dM, hdM, hdnM⟩ := Cond.laysAt hfound hk hffM (a' (.lays cls Bundle.tN "detailMessage" "Ljava/lang/String;") (by simp [nstAtoms]))
  obtain ⟨tyB, dB, hdB, hdnB⟩ := Cond.laysAt hfound hk hffB (a' (.lays cls Bundle.tN "backtrace" "Ljava/lang/Object;") (by simp [nstAtoms]))
  have bC := Cond.laysApart hdB hdC hdnB hdnC (by rw [hnB, Y.causeName]; decide)
  have bS := Cond.laysApart hdB hdS hdnB hdnS (by rw [hnB, Y.stackName]; decide)
  have bP := Cond.laysApart hdB hdP hdnB hdnP (by rw [hnB, Y.suppName]; decide)
  have hskip : SkipFacts T e.platform s (fun u => u) u0 ((preparedCellV T.toThrowableT (freshCell P1.m.cls kX) a u0 sen).withEntry W.cur) :=
    ⟨{ ci198 := ci198, i198 := i198, fBack := fB }, ⟨hk198, hg198, ha198, hsB⟩, by
      have := fresh_default (c := P1.m.cls) tyB
      rw [htB] at this
      simpa [preparedCellV, Cell.setSlot, Cell.withEntry, Array.getElem?_setIfInBounds, bC, bS, bP, bC.symm, bS.symm, bP.symm, defaultValue] using this, fun _ _ => rfl⟩
  have hd0 : (parseMethodDescriptor "()V").map (fun d => d.parameters.length) = some 0 := by decide +kernel
  obtain ⟨tm, methC, cdC, kC, vm₁, hnC, -, -, -, -, -, -, -, hW₁, st1⟩ := Steps.initColdArgsNest (tb := p.tables) (e := e) (below := below) (s := s) (U := W) X.here hexec X.warmed hpl hown (t := Bundle.init0 cls) rfl (Bundle.fit_spec hcls).2
    hnest (h (.instanceMethod (Bundle.init0 cls)) (by cases names <;> simp [nstAtoms, Bundle.chain0Atoms, Bundle.passAtoms])) (bytes := Bundle.five) (maxL := 1) (h (.code (Bundle.init0 cls) Bundle.five 1 none) (by cases names <;> simp [nstAtoms, Bundle.chain0Atoms, Bundle.passAtoms]))
    (f := g) hg (a := a) (argsL := []) (rest := .ref a :: rest) (fun sig hs => by
      have hs' : parseMethodDescriptor "()V" = some sig := hs
      rw [hs'] at hd0
      exact (Option.some.inj hd0).symm) hstack hd6
  cases Option.some.inj (hnC.symm.trans hP1m)
  have X₁ := X.noted hW₁
  obtain ⟨vm₂, X₂, st2⟩ := X₁.ctorPlainOffV hexec (g := { g with stack := .ref a :: rest }) hg hsize T L Z LZ (P1 :: Ps)
    (fun P hP => by rcases List.mem_cons.mp hP with rfl | hP; exact L1; exact hL P hP) ⟨hlink1, hlink⟩ (u0 := u0) (sen := sen) (self := a) (cell := freshCell P1.m.cls kX) (cellS := cellS)
    hcell (fun _ => by simp) (by simp) rfl rfl hsel0 hselF hcellS hneS hknownS (by rw [hkeep _ (hout' _)]; exact hu0) (by rw [hkeep _ (hout' _)]; exact hsen)
    (Takes.of_laid hk hord tyC (by rw [Y.causeType]; rfl)) (Takes.of_laid hk hord tyS (by rw [Y.stackType]; exact fits_refV_array _ u0)) (Takes.of_laid hk hord tyP (by rw [Y.suppType]; exact fits_refV_object _ sen)) Y.objLocals hskip htr [] hd6
    (by simp only [List.length_cons, hlen]; omega) (by simp only [List.length_cons, hlen]; exact hRlocals)
  have hlt : a < ((W.setVm vm₁).setVm vm₂).heap.size := (Array.getElem?_eq_some_iff.mp hcell).1
  refine ⟨(W.setVm vm₁).setVm vm₂, _, _, X₂, fun y hy => ?_, hlt, rfl, rfl, fun target hwalk => st1 _ (fun acts => ?_)⟩
  · simp only [List.mem_cons, List.not_mem_nil, or_false] at hy
    rcases hy with rfl | rfl | rfl | rfl <;> rfl
  · rw [doInvoke_state]
    exact st2 _ hwalk
end TNK
section TM
variable {p : Program} {l : Launch} {e : Env} {R : Room} {s : State} {m : MethodId} {args : Array Value} {below : List Frame} {meth : Method} {c : Code} {H : Heap} {locs : List Loc} {cells slots : Nat} {Q : State → Prop}
variable {mc ms : Nat} {free : Addr → Prop} {ls : Array Slot} {rest : List Value}
variable {Qc : Array Value → State → Outcome → State → Prop} {XC : String → State → State → Prop}
theorem t_mkN {cc : ByteArray} {pc : Nat} (hexec : p.tables.exec = Jvm.exec) (hb : c.code = cc) (hl : l.stackTraces = false) {own cls : String} {names : List String} {ik ic : Nat} {host : String} {A : Nat → Prop}
    (hown : s.vm.findClass own = some m.cls) (hcls : Bundle.fit cls = true) (hnames : ∀ n ∈ names, Bundle.fit n = true)
    (hk : (Cond.classLink own ik cls).before args s = true) (hini : (Cond.initialized cls).before args s = true) (hat : ∀ w ∈ (nstAtoms cls names).filter vx_no, w.before args s = true) (hnest : (Cond.methodLinkNest own ic (Bundle.init0 cls) host).before args s = true)
    (hgood : ∀ w ∈ Cond.classLink own ik cls :: Cond.initialized cls :: (nstAtoms cls names).filter vx_no, vx_ot w = true)
    (hU : vx_Zq Bundle.tN "UNASSIGNED_STACK" Bundle.steD A s s.heap) (hN : vx_Zq Bundle.tN "SUPPRESSED_SENTINEL" Bundle.listD A s s.heap) (hS : va_S A s.heap H locs) (hsize : ls.size = c.maxLocals)
    (d0 : decode cc pc = .ok (.new ik, 3)) (d3 : decode cc (pc + 3) = .ok (.dup, 1)) (d4 : decode cc (pc + 4) = .ok (.invokespecial ic, 3))
    (hRframes : names.length + 3 < R.frames) (hRlocals : (rest.map fun v => v.category).sum + (13 * (names.length + 1) + 42) ≤ R.locals) (hRcells : cells + 1 ≤ R.cells) (hRslots : slots + 6 ≤ R.slots)
    (kk : ∀ (H1 : Heap) (ce : Cell), H1.size = H.size + 1 → (∀ q : Nat, q < H.size → H1[q]? = H[q]?) → H1[H.size]? = some ce → s.vm.findClass cls = some ce.cls → ce.vm = .none → W p l e R s m args below meth c H1 locs (cells + 1) (slots + 6) Q (F0 m (pc + 7) ls (.ref H.size :: rest))) :
    W p l e R s m args below meth c H locs cells slots Q (F0 m pc ls rest) := by
  intro T hT X
  subst hT
  have htr : e.platform.stackTraces = false := (show e.platform.stackTraces = l.stackTraces by rw [X.admits.platform]).trans hl
  have Y := vx_rebase X (R' := { frames := R.frames, locals := R.locals, cells := 1, slots := 6 }) (Nat.le_refl _) (Nat.le_refl _) hRcells hRslots
  obtain ⟨s', hA'⟩ : ∃ z, z = (T.setVm s.vm).setFrames (.invoking m args :: below) := ⟨_, rfl⟩
  rw [← hA'] at Y
  have hvm : s'.vm = s.vm := by rw [hA']; rfl
  have hhp : s'.heap = T.heap := by rw [hA']; rfl
  have hW0 : s.WarmedH s'.vm := by rw [hvm]; exact State.WarmedH.refl s
  have hat' : ∀ w ∈ (nstAtoms cls names).filter vx_no, w.before args s' = true := fun w hw => vx_ot_at hW0 hvm.symm (hgood w (List.mem_cons_of_mem _ (List.mem_cons_of_mem _ hw))) (hat w hw)
  have hk' : (Cond.classLink own ik cls).before args s' = true := vx_ot_at hW0 hvm.symm (hgood _ List.mem_cons_self) hk
  have hini' : (Cond.initialized cls).before args s' = true := vx_ot_at hW0 hvm.symm (hgood _ (List.mem_cons_of_mem _ List.mem_cons_self)) hini
  have hU' : vx_Zq Bundle.tN "UNASSIGNED_STACK" Bundle.steD A s' s'.heap := by rw [hhp]; exact vx_Zq.moved hW0.alike (hU.kept hS.2.1)
  have hN' : vx_Zq Bundle.tN "SUPPRESSED_SENTINEL" Bundle.listD A s' s'.heap := by rw [hhp]; exact vx_Zq.moved hW0.alike (hN.kept hS.2.1)
  have h : ∀ w ∈ nstAtoms cls names, w.before args s' = true := vx_own hat' (vx_isRefq hU'.1) (vx_isRefq hN'.1) hU'.2.word hN'.2.word
  have hown' : s'.vm.findClass own = some m.cls := by rw [hvm]; exact hown
  have hins : (Cond.instantiable cls 6).before args s' = true := h _ (by simp [nstAtoms])
  obtain ⟨vm₁, cX, kX, hfX, hkX, -, -, X₁, st1⟩ := Y.newCold hexec (own := own) (C := cls) (index := ik) (n := 6) hown' hk' hins hini'
    (g := F0 m pc ls rest) rfl (by rw [hb]; exact d0) (Nat.le_refl _) (Nat.le_refl _)
  generalize hT1 : (T.setVm vm₁).pushCell { cls := cX, slots := kX.instanceTypes.map defaultValue, vm := .none } = T1 at X₁ st1
  have hcat : (Value.ref T.heap.size).category = 1 := rfl
  have hcellA : T1.heap[T.heap.size]? = some (freshCell cX kX) := by rw [← hT1]; exact State.heap_pushCell_size _ _
  have d3' : decode c.code (pc + 3) = .ok (.dup, 1) := by rw [hb]; exact d3
  have hnest' : (Cond.methodLinkNest own ic (Bundle.init0 cls) host).before args s' = true := vx_ot_at hW0 hvm.symm rfl hnest
  obtain ⟨V, ce, L, Z, hL, hlt, hcl9, hvm9, st⟩ := t_ctorMadeN X₁ hexec htr (own := own) (cls := cls) (names := names) (ic := ic) hown' hcls hnames h hnest' (fun x hx => nomatch hx) hfX hkX hcellA (by rw [hhp]; exact Nat.le_refl _)
    (g := { method := m, pc := pc + 4, locals := ls, stack := .ref T.heap.size :: .ref T.heap.size :: rest, locked := none }) rfl hsize (rest := rest) rfl
    (by rw [hb]; exact d4) hRframes (by simp only [List.map_cons, List.sum_cons, hcat]; omega)
  have Z0 := Stand.forget (locs := []) Z (fun y hy => by rw [hL y hy, hhp]; exact Nat.le_refl _)
  obtain ⟨f1, f2⟩ := vx_frame Z0.same
  have hup := Z0.same.2.2.1
  rw [hhp] at f1 f2 hup
  have hh : (V.setCell T.heap.size ce).heap[T.heap.size]? = some ce := heapAt_setCell_self (s := V) ce hlt
  have hlo : T.heap.size < (V.setCell T.heap.size ce).heap.size := (Array.getElem?_eq_some_iff.mp hh).1
  have hup' : (V.setCell T.heap.size ce).heap.size ≤ T.heap.size + 1 := hup
  subst hA'
  have X5 := vx_back9 X Y Z0
  have X6 : Stand p l e R s m args below meth c (V.setCell T.heap.size ce) locs (cells + 1) (slots + 6) := { X5 with same := X5.same.mono (by omega) (by omega) }
  obtain ⟨t, a1, b1⟩ := kk (V.setCell T.heap.size ce).heap ce (by omega) (fun q hq => f2 q hq (fun z hz => nomatch hz)) hh (by rw [hvm] at hfX; rw [hcl9]; exact hfX) hvm9 _ rfl X6
  refine ⟨t, st1 _ ?_, b1⟩
  show Steps p.tables e below (T1.setTop { method := m, pc := pc + 3, locals := ls, stack := .ref T.heap.size :: rest, locked := none }) _
  jvm_step X₁.here [X₁.here.top, hexec, d3', Value.category]
  exact st _ a1
end TM
section TR
variable {C : Cx} {cc : ByteArray} {nL : Nat} {own : String} {E : EA} {l : Launch} {fr ty : Nat} {v : Int} {o : OT} {h0 hF h : AH} {ret : Option FieldType} {nm : String} {lv : LV} {pc : Nat} {st : List TV} {ε : Prop} {hh : List (Nat × Nat × Nat × Nat)}
/-- 'new E()' that stays -/
theorem t_newN {γ : Prop} (hB : γ → MaB C cc nL own E l fr h0 hF nm) {cls : String} {names : List String} {ik ic t : Nat} {host : String} {ρ : Type} {K : Int × AH → Option ρ} {res : ρ} (t0 : 0 < t) (t1 : t < 64) {T0 : u_T} (hr9 : clA[t - 1]? = some (cls, T0, 0)) (hth : ThN cls names) (hnl : Cond.methodLinkNest own ic (Bundle.init0 cls) host ∈ lw_tbl) (f1 : Bundle.fit cls = true) (f2 : ∀ n ∈ names, Bundle.fit n = true) (hlt : l.stackTraces = false) (hT : TH h) (hO : Old h0 h)
    (d0 : decode cc pc = .ok (.new ik, 3)) (d3 : decode cc (pc + 3) = .ok (.dup, 1)) (d4 : decode cc (pc + 4) = .ok (.invokespecial ic, 3)) (qk : Cond.classLink own ik cls ∈ lw_all) (qi : Cond.initialized cls ∈ lw_all)
    (hf : Nat.ble 6 fr = true) (hn : names.length ≤ 2) (hr : Nat.ble (tsl st) 8 = true) (e : bd1 (nwo h t 6) K = some res) (kk : ∀ a h', TI 5 a → aT h' a = t → TH h' → Old h0 h' → K (a, h') = some res → X C (zA γ ε E hF h0 h') lv (pc + 7) ((2, a) :: st)) : X C (zA γ ε E hF h0 h) lv pc st := by
  have hsz : 0 ≤ aN h := hT.2.2.1
  have k' := kk (aN h) (mkc h t 6 0) (by show -1 ≤ aN h; omega) (by show (if aN h = h.1 then t else _) = t; exact if_pos rfl) (hT.mk ⟨by omega, by omega⟩) (hO.mk (by omega)) e
  obtain ⟨⟨m1, m2, m3⟩, mε⟩ := k'.1
  have e1 : aN (mkc h t 6 0) = aN h + 1 := rfl
  have e2 : aS (mkc h t 6 0) = aS h + 6 := rfl
  rw [e1] at m1
  rw [e2] at m2
  have o1 := hO.1
  have o2 := hO.2.1
  refine ⟨⟨⟨by omega, by omega, Old.tag m3⟩, mε⟩, fun H locs ls a b c' => ?_⟩
  have M := hB a.1
  have g := M.1
  have hR := a.2
  have b' : va_S (AA h0) C.1.2.2.2.2.heap H locs := by
    have := b
    rw [g.2.2.2.1, g.2.2.2.2.2] at this
    exact this
  have hfr := Nat.le_of_ble_eq_true hf
  have hrm := M.2.2.2.2.2.1
  have hgr := M.2.2.2.1
  have hl : C.1.2.1 = l := M.2.2.2.2.1
  have hsize : (H.size : Int) = aN h := hR.1
  obtain ⟨w1, w2⟩ := hth.ok g.1.2.2.2.2.2.1 g.2.2.1
  refine t_mkN g.1.1 g.1.2.1 (by rw [hl]; exact hlt) g.1.2.2.2.2.1 f1 f2 (g.1.2.2.2.2.2.1 _ qk) (g.1.2.2.2.2.2.1 _ qi) w1 (va_Nw.use rfl (g.2.2.1 _ hnl rfl)) (fun w hw => ?_) M.2.2.1.2.1 M.2.2.1.2.2 b' ((c'.1.trans g.1.2.2.2.1).trans g.1.2.2.1.symm) d0 d3 d4 (by rw [hrm.1]; omega) ?_ (by rw [hgr.1]; show (aN h - aN h0).toNat + 1 ≤ _; omega) (by rw [hgr.2]; show (aS h - aS h0).toNat + 6 ≤ _; omega)
    (fun H1 ce z1 q1 hce hcl hv => ?_)
  · rcases List.mem_cons.mp hw with e | hw
    · rw [e]; rfl
    · rcases List.mem_cons.mp hw with e | hw
      · rw [e]; rfl
      · exact w2 w hw
  · have := room_ok (st := st) hr (m := C.2.1.1) (pc := pc) (ls := ls) (rest := evs st)
    rw [hrm.2]
    have e : 2 * (F0 C.2.1.1 pc ls (evs st)).monitorRoom + ((evs st).map fun v => v.category).sum ≤ 8 := this
    omega
  · have ht : aT (mkc h t 6 0) H.size = t := if_pos hsize
    have w := k'.2 H1 locs ls ⟨a.1, RH.mk hT hR (Or.inr ?_) z1 q1⟩ (b.grow z1 q1) c'
    · change XW C H1 locs _ _ (pc + 7) ls (ev 2 (aN h) :: evs st) at w
      rw [ev_refq hsize.symm] at w
      exact w.cs (by show (aN h - aN h0).toNat + 1 = (aN (mkc h t 6 0) - aN h0).toNat; rw [e1]; omega) (by show (aS h - aS h0).toNat + 6 = (aS (mkc h t 6 0) - aS h0).toNat; rw [e2]; omega)
    · have hcid := (g.2.1.1 (t - 1) _ hr9).2.1
      have hnf : nf t = 0 := by
        have := nf_ok (t - 1) (List.getElem?_eq_some_iff.mp hr9).1 _ hr9
        rwa [show t - 1 + 1 = t by omega] at this
      unfold aCell
      rw [ht, if_pos t1, hnf]
      exact oc_of ⟨ce, hce, Option.some.inj (hcl.symm.trans hcid), hv, fun k hk => absurd hk (Nat.not_lt_zero k)⟩
end TR
theorem tn_Stop : ThN "Syntaxspan$Stop" ["java/lang/Exception"] :=
  fa_c (Or.inl q227) <| fa_c (Or.inl q669) <| fa_c (Or.inl q678) <| fa_c (Or.inl q684) <| fa_c (Or.inl q687) <| fa_c (Or.inl q689) <| fa_c (Or.inl q670) <| fa_c (Or.inl q671) <| fa_c (Or.inl q280) <| fa_c (Or.inl q281) <| fa_c (Or.inl q672) <| fa_c (Or.inl q677) <| fa_c (Or.inl q685) <| fa_c (Or.inl q699) <| fa_c (Or.inl q659) <| fa_c (Or.inl q700) <| fa_c (Or.inl q661) <| fa_c (Or.inl q701) <| fa_c (Or.inl q663) <| fa_c (Or.inl q673) <| fa_n rfl <| fa_c (Or.inl q675) <| fa_n rfl <| fa_c (Or.inl q665) <| fa_c (Or.inl q691) <| fa_c (Or.inl q692) <| fa_c (Or.inl q693) <| fa_c (Or.inl q694) <| fa_c (Or.inr ⟨q652, rfl⟩) <| fa_c (Or.inl q694) <| fa_c (Or.inl q695) <| fa_c (Or.inl q696) <| fa_c (Or.inl q670) <| fa_c (Or.inr ⟨q654, rfl⟩) <| fa_c (Or.inl q650) <| fa_c (Or.inr ⟨q651, rfl⟩) <| fa_c (Or.inl q656) <| fa_c (Or.inl q657) <| fa_c (Or.inl q658) <| fa_c (Or.inl q660) <| fa_c (Or.inl q662) <| fa_c (Or.inl q664) <| fa_n rfl <| fa_n rfl <| fa_c (Or.inl q697) <| fa_c (Or.inl q667) <| fa_c (Or.inl q666) <| fa_e
theorem nM_X7_229 : ∀ t ∈ [16, 17, 18, 19], NoFin t 0 := by
  intro t ht
  simp only [List.mem_cons, List.not_mem_nil, or_false] at ht
  rcases ht with rfl | rfl | rfl | rfl
  · exact NoFin.of rfl
  · exact NoFin.of rfl
  · exact NoFin.of rfl
  · exact NoFin.of rfl
