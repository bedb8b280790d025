/-! HEAP, methods: contracts by functions over the abstract heap; entry, ends, calls -/
set_option maxRecDepth 100000
/-- arrays over arrays -/
def AOA (t : FieldType) (U : State) : Prop := (Cond.arrayOver (.array t)).before #[] U = true
theorem AOA.use {t : FieldType} {A : Array Value} {U : State} (h : AOA t U) : (Cond.arrayOver (.array t)).before A U = true := h
theorem AOA.moved {t : FieldType} {u U : State} (hvm : u.vm.Alike U.vm) (h : AOA t u) : AOA t U := by
  obtain ⟨comp, c, k, h1, h2, h3, h4, h5⟩ := arrayOverA_spec h
  obtain ⟨k', hk', he⟩ := hvm.2.2 _ _ h3
  have hi : (U.vm.classes.findIdx? fun (x : Class) => match x.kind with | .array component _ => component == comp | _ => false) = some c := by
    have e1 := va_idx_bare U.vm comp
    have e2 := va_idx_bare u.vm comp
    rw [hvm.bare_eq] at e1
    exact e1.symm.trans (e2.trans h2)
  have hkind : k'.kind = .array comp (.array t) := by rw [he]; exact h4
  have f1 : U.vm.findClass (FieldType.array t).toString = some comp := by rw [hvm.findClass]; exact h1
  have f2 : U.vm.findClass ("[" ++ (FieldType.array t).toString) = some c := by rw [hvm.findClass]; exact h5
  unfold AOA Cond.before Cond.holds
  simp only [Cond.value]
  rw [f1, Option.bind_some]
  refine (congrArg (fun o : Option Nat => (o.bind (fun c => (U.vm.classes[c]?).map fun (k : Class) => match k.kind with | .array _ ty => decide (ty = FieldType.array t) && decide (U.vm.findClass ("[" ++ (FieldType.array t).toString) = some c) | _ => false) == some true)) hi).trans ?_
  simp [hk', hkind, f2]
def aoL : List String := ["java/lang/Object", "Syntaxspan$Line", "Syntaxspan$Row", "Syntaxspan$Tree", "java/lang/String"]
def aaL : List FieldType := [.int, .boolean, .object "Syntaxspan$Line", .object "java/lang/String", .array .int]
def mLi (n d : String) : MethodName := ⟨"java/util/List", n, d⟩
def mAL (n d : String) : MethodName := ⟨"java/util/ArrayList", n, d⟩
def fwL : List (String × String) := [("add", "(Ljava/lang/Object;)Z"), ("size", "()I"), ("get", "(I)Ljava/lang/Object;"), ("clear", "()V"), ("isEmpty", "()Z")]
/-- what the tables say that doesn't ride in the lists -/
def EF (ncL : List (String × String)) (skL : List (String × Nat × String)) (E : EA) (U : State) : Prop :=
  KA E U ∧ KB E U ∧ NW U ∧ (∀ c ∈ aoL, va_AO c U) ∧ (∀ t ∈ aaL, AOA t U) ∧ (∀ x ∈ fwL, va_Fw "java/util/ArrayList" (mLi x.1 x.2) (mAL x.1 x.2) U) ∧ (∀ x ∈ ncL, va_Nc x.1 x.2 U) ∧ (∀ (i : Nat) (x : String × Nat × String), skL[i]? = some x → 0 ≤ E.2.2 (100 + i) ∧ vk_R x.1 x.2.1 x.2.2 (E.2.2 (100 + i)).toNat U) ∧ 0 ≤ E.2.2 5 ∧ va_Mi "[Ljava/lang/Object;" (E.2.2 5).toNat U
theorem KA.moved {E : EA} {u U : State} (hvm : u.vm.Alike U.vm) (h : KA E u) : KA E U := ⟨fun c q hq => u_Kn_moved hvm (h.1 c q hq), fun j ty hj => ⟨arrOfT_moved hvm (h.2 j ty hj).1, fun hi => ((h.2 j ty hj).2 hi).moved hvm⟩⟩
theorem EF.warm {ncL : List (String × String)} {skL : List (String × Nat × String)} {E : EA} {s U : State} (hW : s.WarmedH U.vm) (h : EF ncL skL E s) : EF ncL skL E U := by
  obtain ⟨h1, h2, h3, h4, h5, h6, h7, h8, h9, h10⟩ := h
  refine ⟨h1.moved hW.alike, h2.moved hW.alike, h3.warm hW, fun c hc => (h4 c hc).moved hW.alike, fun t ht => (h5 t ht).moved hW.alike, fun x hx => (h6 x hx).moved ⟨by show "java/util/List" ≠ _; decide, by show "java/util/List" ≠ _; decide⟩ hW.alike, fun x hx => (h7 x hx).moved hW.alike, fun i x hx => ⟨(h8 i x hx).1, (h8 i x hx).2.warm hW⟩, h9, h10.moved hW.alike⟩
/-- statics that are read -/
def zsL (E : EA) : List (String × String × String × Value) := [("java/lang/String", "COMPACT_STRINGS", "Z", .int 1), ("java/util/ArrayList", "DEFAULTCAPACITY_EMPTY_ELEMENTDATA", "[Ljava/lang/Object;", ev 2 (E.2.2 0)), ("java/lang/Integer$IntegerCache", "high", "I", .int 127), ("java/lang/Integer$IntegerCache", "cache", "[Ljava/lang/Integer;", ev 2 (E.2.2 1)), ("java/lang/Integer", "DigitOnes", "[B", ev 2 (E.2.2 2)), ("java/lang/Integer", "DigitTens", "[B", ev 2 (E.2.2 3)), ("jdk/internal/util/Preconditions", "SIOOBE_FORMATTER", "Ljava/util/function/BiFunction;", ev 2 (E.2.2 4))]
def ZS (E : EA) (h : AH) (U : State) : Prop := (∀ x ∈ zsL E, va_Z x.1 x.2.1 x.2.2.1 x.2.2.2 (AA h) U U.heap) ∧ vx_Zq Bundle.tN "UNASSIGNED_STACK" Bundle.steD (AA h) U U.heap ∧ vx_Zq Bundle.tN "SUPPRESSED_SENTINEL" Bundle.listD (AA h) U U.heap
theorem AA.mono {h0 h : AH} (ho : Old h0 h) {q : Nat} (hq : AA h q) : AA h0 q := by
  by_cases c : (q : Int) < aN h0
  · rcases hq with hq | hq
    · exact Or.inl (by rw [← ho.2.2 q c]; exact hq)
    · have := ho.1
      omega
  · exact Or.inr (by omega)
theorem ZS.call {E : EA} {h0 h : AH} {s U : State} {H : Heap} {locs : List Loc} (hZ : ZS E h0 s) (hS : va_S (AA h0) s.heap H locs) (ho : Old h0 h) (hU : U.heap = H) (hW : s.WarmedH U.vm) : ZS E h U := by
  obtain ⟨z1, z2, z3⟩ := hZ
  subst hU
  refine ⟨fun x hx => ?_, ?_, ?_⟩
  · exact va_Z.moved hW.alike (((z1 x hx).kept hS.2.1).narrow fun q hq => AA.mono ho hq)
  · exact vx_Zq.moved hW.alike ((z2.kept hS.2.1).narrow fun q hq => AA.mono ho hq)
  · exact vx_Zq.moved hW.alike ((z3.kept hS.2.1).narrow fun q hq => AA.mono ho hq)
def rva (ty : Nat) (v : Int) : Option Value := match ty with
  | 5 => some (ev 2 v)
  | t => rvo t v
def rla (ty : Nat) (v : Int) : List TV := match ty with
  | 5 => [(2, v)]
  | t => rvl t v
theorem rla_evs (ty : Nat) (v : Int) : (rva ty v).toList = evs (rla ty v) := by
  unfold rva rla
  split
  · rfl
  · exact rvl_evs _ v
theorem Old.rf (h : AH) : Old h h := ⟨Int.le_refl _, Int.le_refl _, fun _ _ => rfl⟩
theorem Old.trans {a b c : AH} (h1 : Old a b) (h2 : Old b c) : Old a c := ⟨Int.le_trans h1.1 h2.1, Int.le_trans h1.2.1 h2.2.1, fun x hx => (h2.2.2 x (Int.lt_of_lt_of_le hx h1.1)).trans (h1.2.2 x hx)⟩
def rmA (fr : Nat) (h h' : AH) : Room := { frames := fr, cells := (aN h' - aN h).toNat, slots := (aS h' - aS h).toNat, locals := 64 * fr }
def nmA (t : Nat) : String := ((clA[t - 1]?).map (fun r => r.1)).getD ""
def ncP : List (Nat × Nat) := (List.range' 13 13).flatMap fun t => ([1, 15, 16, 17, 18, 19, 20, 21, 22, 23, 24, 25].filter fun T => !(T == t)).map fun T => (t, T)
def ncA : List (String × String) := (ncP.map fun p => (nmA p.1, nmA p.2)) ++ [("java/lang/IllegalArgumentException", "java/lang/IndexOutOfBoundsException"), ("java/lang/IllegalStateException", "java/lang/IndexOutOfBoundsException"), ("java/lang/IllegalStateException", "java/lang/IllegalArgumentException")]
def skA : List (String × Nat × String) := [("Syntaxspan", 65, "use"), ("Syntaxspan", 67, "fn"), ("Syntaxspan", 69, "let"), ("Syntaxspan", 71, "if"), ("Syntaxspan", 73, "else"), ("Syntaxspan", 75, "ret"), ("Syntaxspan", 77, "yes"), ("Syntaxspan", 79, "no"), ("Syntaxspan", 199, ""), ("Syntaxspan", 1, "fn f(x) {"), ("Syntaxspan", 3, "fn g(x, y) {"), ("Syntaxspan", 5, "fn h() {"), ("Syntaxspan", 7, "}"), ("Syntaxspan", 9, "let y = x + 1;"), ("Syntaxspan", 11, "let x = 2;"), ("Syntaxspan", 13, "ret x;"), ("Syntaxspan", 15, "ret y * 2;"), ("Syntaxspan", 17, "if x < 3 {"), ("Syntaxspan", 19, "} else {"), ("Syntaxspan", 21, "x = x - 1;"), ("Syntaxspan", 23, "ret f(x);"), ("Syntaxspan", 25, "let z = g(x, y);"), ("Syntaxspan", 27, "use a;"), ("Syntaxspan", 29, "use b;"), ("Syntaxspan", 31, "use c;"), ("Syntaxspan", 33, "ret x == y;"), ("Syntaxspan", 35, "f(1);"), ("Syntaxspan", 37, "/* "), ("Syntaxspan", 39, " */"), ("Syntaxspan", 41, "let y = !no;"), ("Syntaxspan", 43, "ret f(g(x, 1));"), ("Syntaxspan", 45, "{"), ("Syntaxspan", 47, "let = x + ;"), ("Syntaxspan$Desk", 30, ""), ("Syntaxspan$Inlining", 166, " "), ("Syntaxspan$Inlining", 168, ""), ("Syntaxspan$Inlining", 173, "("), ("Syntaxspan$Inlining", 178, ")"), ("Syntaxspan$Moving", 138, ""), ("Syntaxspan$Moving", 152, "use "), ("Syntaxspan$Moving", 161, ";")]
def PA (E : EA) (h : AH) (av : List TV) : Array Value → State → Prop := va_Pc (evs av) (fun U => RH E h U.heap ∧ EF ncA skA E U ∧ ZS E h U)
def QA (E : EA) (h h' : AH) (ty : Nat) (v : Int) : Array Value → State → Outcome → State → Prop := fun _ st oc t => oc = .returned (rva ty v) ∧ RH E h' t.heap ∧ va_F (AA h) st t
abbrev MetA (l : Launch) (y : MethodName) (cc : ByteArray) (maxL : Nat) (ret : Option FieldType) (fr : Nat) (E : EA) (h : AH) (av : List TV) (ty : Nat) (v : Int) (h' : AH) : Prop :=
  Met l y (ws_ y cc maxL ret) (rmA fr h h') (PA E h av) (QA E h h' ty v) (aN h' - aN h).toNat (aS h' - aS h).toNat (AA h)
/-- in a method: what is known all along -/
def MaB (C : Cx) (cc : ByteArray) (nL : Nat) (own : String) (E : EA) (l : Launch) (fr : Nat) (h0 hF : AH) (nm : String) : Prop :=
  Ga C cc nL own E h0 ∧ EF ncA skA E C.1.2.2.2.2 ∧ ZS E h0 C.1.2.2.2.2 ∧ Rm C hF h0 ∧ C.1.2.1 = l ∧ (C.1.2.2.2.1.frames = fr ∧ C.1.2.2.2.1.locals = 64 * fr) ∧ C.2.1.2.2.2.1.name = nm
def Ma (C : Cx) (cc : ByteArray) (nL : Nat) (own : String) (E : EA) (l : Launch) (fr : Nat) (h0 hF : AH) (ty : Nat) (v : Int) (ret : Option FieldType) (nm : String) : Prop :=
  MaB C cc nL own E l fr h0 hF nm ∧ C.2.2.2.2.1 = MQ C.2.1.2.2.1 (QA E h0 hF ty v) C.2.1.2.1 C.1.2.2.2.2 (aN hF - aN h0).toNat (aS hF - aS h0).toNat (AA h0) ∧ C.2.1.2.2.2.1.sig.returnType = ret
/-- what holds at its end -/
def Ea (hF : AH) (ty : Nat) (v : Int) : Prop := TH hF ∧ TIr ty v
theorem a_start {l : Launch} {y : MethodName} {cc : ByteArray} {maxL : Nat} {ret : Option FieldType} {own : String} {E : EA} {h : AH} {ty : Nat} {v : Int} {h' : AH} {fr : Nat} (C0 : Cx) (av : List TV) (hT : TH h) (hy : y.cls = own) (hpl : plainName own = true) (hl : Nat.ble (tsl av) maxL = true)
    (body : ∀ C, X C (zA (Ma C cc maxL own E l fr h h' ty v ret y.name) (Ea h' ty v) E h' h h) (tpos 0 av) 0 []) : MetA l y cc maxL ret fr E h av ty v h' ∧ Old h h' ∧ TH h' ∧ TIr ty v := by
  refine ⟨?_, (body C0).1.1, (body C0).1.2.1, (body C0).1.2.2⟩
  refine Met.ofW (cc := cc) (maxL := maxL) (ret := ret) (by rw [hy]; exact hpl) rfl ?_
  intro p e s m args below meth c s₁ B hml hv
  obtain ⟨rfl, hR, hE, hZ⟩ := hv
  have hts := atoms_spec (ws := ws_ y cc maxL ret) B.pre
  have hts : ∀ w ∈ lw_all, w.before _ s = true := fun w h => hts w (List.mem_cons_of_mem _ h)
  have hown : s.vm.findClass own = some m.cls := by rw [← hy]; exact findClass_of_methodNamed B.named
  have hnm : meth.name = y.name := (name_of_methodNamed B.named B.method).1
  rw [lg_entry_eq]
  have hle := lv_entry (evs av) (n := maxL) (by rw [sl_len]; exact Nat.le_of_ble_eq_true hl)
  rw [tpos_args] at hle
  have k := body ((p, l, e, (headSpec (ws_ y cc maxL ret) (rmA fr h h')).room, s), (m, (evs av).toArray, below, meth, c), (AA h, s.heap, MQ below (QA E h h' ty v) (evs av).toArray s (aN h' - aN h).toNat (aS h' - aS h).toNat (AA h), maxL))
  have g : Ma ((p, l, e, (headSpec (ws_ y cc maxL ret) (rmA fr h h')).room, s), (m, (evs av).toArray, below, meth, c), (AA h, s.heap, MQ below (QA E h h' ty v) (evs av).toArray s (aN h' - aN h).toNat (aS h' - aS h).toNat (AA h), maxL)) cc maxL own E l fr h h' ty v ret y.name :=
    ⟨⟨⟨⟨B.exec, B.bytes, hml, rfl, hown, hts, B.notSynchronized⟩, hE.1, hE.2.2.1, rfl, hR.1, rfl⟩, hE, hZ, ⟨rfl, rfl⟩, rfl, ⟨rfl, rfl⟩, hnm⟩, rfl, B.returns⟩
  have w := k.2 s.heap [] _ ⟨g, hR⟩ va_S.rf hle
  exact XW.cs (k := 0) (n := 0) w (by show 0 = (aN h - aN h).toNat; omega) (by show 0 = (aS h - aS h).toNat; omega)
section AM
variable {C : Cx} {cc : ByteArray} {nL : Nat} {own : String} {E : EA} {l : Launch} {fr ty : Nat} {v : Int} {h0 hF h : AH} {ret : Option FieldType} {nm : String} {lv : LV} {pc : Nat} {st : List TV} {ε : Prop}
theorem Ma.x : Gz C (zA (Ma C cc nL own E l fr h0 hF ty v ret nm) ε E hF h0 h) cc nL own := fun _ a => a.1.1.1.1
theorem Ma.b (M : Ma C cc nL own E l fr h0 hF ty v ret nm) : MaB C cc nL own E l fr h0 hF nm := M.1
theorem MaB.g (M : MaB C cc nL own E l fr h0 hF nm) : Ga C cc nL own E h0 := M.1
theorem a_end (M : Ma C cc nL own E l fr h0 hF ty v ret nm) {H : Heap} {locs : List Loc} (a : RH E hF H) (b : va_S C.2.2.1 C.2.2.2.1 H locs) : (∀ t : State, t.heap = H → C.1.2.2.2.2.WarmedH t.vm → QA E h0 hF ty v C.2.1.2.1 C.1.2.2.2.2 (.returned (rva ty v)) t) ∧ ∀ q ∈ locs, AA h0 q.base := by
  obtain ⟨⟨g, -⟩, -⟩ := M
  obtain ⟨-, -, -, hA, -, hH⟩ := g
  rw [hA] at b
  rw [hH] at b
  exact ⟨fun t ht hW => ⟨rfl, by rw [ht]; exact a, b.F ht⟩, b.2.2⟩
theorem a_retn {rt : FieldType} (hd : decode cc pc = .ok (.ireturn, 1)) (hr : ret = some rt) (hty : rva ty v = some (.int (iI v))) (hn : narrow rt (.int (iI v)) = .int (iI v)) (hT : TH hF) (hv : TIr ty v) : X C (zA (Ma C cc nL own E l fr h0 hF ty v ret nm) (Ea hF ty v) E hF h0 hF) lv pc [(0, v)] := by
  refine ⟨⟨Old.rf _, hT, hv⟩, fun H locs ls a b c => ?_⟩
  obtain ⟨M, hR⟩ := a
  obtain ⟨h1, h2⟩ := a_end M hR b
  obtain ⟨⟨g, -⟩, hQ, hrt⟩ := M
  unfold XW
  rw [hQ]
  exact W.zret (ty := rt) g.1.1 g.1.2.1 (hrt.trans hr) hn (fun t ht hW => by have := h1 t ht hW; rw [hty] at this; exact this) h2 hd (hlocks := g.1.2.2.2.2.2.2)
theorem a_reti {v1 : Int} (hd : decode cc pc = .ok (.ireturn, 1)) (q1 : v1 = v) (q2 : h = hF) (hT : TH h) (hv : InR v1) : X C (zA (Ma C cc nL own E l fr h0 hF 0 v (some .int) nm) (Ea hF 0 v) E hF h0 h) lv pc [(0, v1)] := by
  subst q1; subst q2
  exact a_retn hd rfl rfl rfl hT hv
theorem a_retz {v1 : Int} (hd : decode cc pc = .ok (.ireturn, 1)) (q1 : v1 = v) (q2 : h = hF) (hT : TH h) (hv : TI 1 v1) : X C (zA (Ma C cc nL own E l fr h0 hF 1 v (some .boolean) nm) (Ea hF 1 v) E hF h0 h) lv pc [(0, v1)] := by
  subst q1; subst q2
  exact a_retn hd rfl rfl (narrow_z hv) hT hv
theorem a_retc {v1 : Int} (hd : decode cc pc = .ok (.ireturn, 1)) (q1 : v1 = v) (q2 : h = hF) (hT : TH h) (hv : TI 2 v1) : X C (zA (Ma C cc nL own E l fr h0 hF 2 v (some .char) nm) (Ea hF 2 v) E hF h0 h) lv pc [(0, v1)] := by
  subst q1; subst q2
  exact a_retn hd rfl rfl (narrow_c hv) hT hv
theorem a_retb {v1 : Int} (hd : decode cc pc = .ok (.ireturn, 1)) (q1 : v1 = v) (q2 : h = hF) (hT : TH h) (hv : TI 3 v1) : X C (zA (Ma C cc nL own E l fr h0 hF 3 v (some .byte) nm) (Ea hF 3 v) E hF h0 h) lv pc [(0, v1)] := by
  subst q1; subst q2
  exact a_retn hd rfl rfl (narrow_b hv) hT hv
theorem a_retl {v1 : Int} (hd : decode cc pc = .ok (.lreturn, 1)) (q1 : v1 = v) (q2 : h = hF) (hT : TH h) (hv : In64 v1) : X C (zA (Ma C cc nL own E l fr h0 hF 4 v (some .long) nm) (Ea hF 4 v) E hF h0 h) lv pc [(1, v1)] := by
  subst q1; subst q2
  refine ⟨⟨Old.rf _, hT, hv⟩, fun H locs ls a b c => ?_⟩
  obtain ⟨M, hR⟩ := a
  obtain ⟨h1, h2⟩ := a_end M hR b
  obtain ⟨⟨g, -⟩, hQ, hrt⟩ := M
  unfold XW
  rw [hQ]
  exact W.lret g.1.1 g.1.2.1 hrt (fun t ht hW => h1 t ht hW) h2 hd (hlocks := g.1.2.2.2.2.2.2)
theorem a_reta {v1 : Int} {rt : FieldType} (hd : decode cc pc = .ok (.areturn, 1)) (hrt : (∃ n, rt = .object n) ∨ ∃ t, rt = .array t) (q1 : v1 = v) (q2 : h = hF) (hT : TH h) (hv : TI 5 v1) : X C (zA (Ma C cc nL own E l fr h0 hF 5 v (some rt) nm) (Ea hF 5 v) E hF h0 h) lv pc [(2, v1)] := by
  subst q1; subst q2
  refine ⟨⟨Old.rf _, hT, hv⟩, fun H locs ls a b c => ?_⟩
  obtain ⟨M, hR⟩ := a
  obtain ⟨h1, h2⟩ := a_end M hR b
  obtain ⟨⟨g, -⟩, hQ, hrt'⟩ := M
  unfold XW
  rw [hQ]
  exact W.aret (v := ev 2 v1) g.1.1 g.1.2.1 hrt' hrt (ev2_cases v1) (fun t ht hW => h1 t ht hW) h2 hd (hlocks := g.1.2.2.2.2.2.2)
theorem a_retv (hd : decode cc pc = .ok (.return_, 1)) (q2 : h = hF) (hT : TH h) : X C (zA (Ma C cc nL own E l fr h0 hF 6 0 none nm) (Ea hF 6 0) E hF h0 h) lv pc [] := by
  subst q2
  refine ⟨⟨Old.rf _, hT, trivial⟩, fun H locs ls a b c => ?_⟩
  obtain ⟨M, hR⟩ := a
  obtain ⟨h1, h2⟩ := a_end M hR b
  obtain ⟨⟨g, -⟩, hQ, hrt⟩ := M
  unfold XW
  rw [hQ]
  exact W.vret g.1.1 g.1.2.1 hrt (fun t ht hW => h1 t ht hW) h2 hd (hlocks := g.1.2.2.2.2.2.2)
theorem a_blind {E : EA} {h : AH} {av : List TV} : FrameBlind (PA E h av) := fun a U g mk x => ⟨x.1, x.2.1, x.2.2.1.warm (U := U.calling g mk a) (State.WarmedH.refl U), x.2.2.2⟩
/-- the callee's start, as the caller's state gives it -/
theorem a_pre (M : MaB C cc nL own E l fr h0 hF nm) {H : Heap} {locs : List Loc} {h1 : AH} (hO : Old h0 h1) (hR : RH E h1 H) (b : va_S C.2.2.1 C.2.2.2.1 H locs) (av : List TV) (U : State) (hU : U.heap = H) (hW : C.1.2.2.2.2.WarmedH U.vm) : PA E h1 av (evs av).toArray U := by
  obtain ⟨g, hE, hZ, -⟩ := M
  obtain ⟨-, -, -, hA, -, hH⟩ := g
  rw [hA, hH] at b
  exact ⟨rfl, by rw [hU]; exact hR, hE.warm hW, hZ.call b hO hU hW⟩
/-- behind a call that has run -/
theorem a_back (M : MaB C cc nL own E l fr h0 hF nm) {H : Heap} {locs : List Loc} {h1 h2 : AH} (hO : Old h0 h1) (o1 : Old h1 h2) (b : va_S C.2.2.1 C.2.2.2.1 H locs) {ls : Array Slot} (c : lv_has ls C.2.2.2.2.2 (lvm lv)) {ty' : Nat} {v' : Int} {st' rest : List TV} {len : Nat} (hst' : rla ty' v' ++ rest = st') {γ : Prop} (hγ : γ) (kk : X C (zA γ ε E hF h0 h2) lv (pc + len) st') {T : State} {Qa : State → Outcome → State → Prop}
    (hq : ∀ st₀ oc t, Qa st₀ oc t → oc = .returned (rva ty' v') ∧ RH E h2 t.heap ∧ va_F (AA h1) st₀ t) {sk : List Value} (run : ∃ (v : Option Value) (st₀ t T' : State) (L : List Loc), st₀.heap = H ∧ Stand C.1.1 C.1.2.1 C.1.2.2.1 C.1.2.2.2.1 C.1.2.2.2.2 C.2.1.1 C.2.1.2.1 C.2.1.2.2.1 C.2.1.2.2.2.1 C.2.1.2.2.2.2 T' (locs ++ L) ((aN h1 - aN h0).toNat + (aN h2 - aN h1).toNat) ((aS h1 - aS h0).toNat + (aS h2 - aS h1).toNat) ∧ (∀ q ∈ L, AA h1 q.base) ∧ T'.heap = t.heap ∧ T'.vm = t.vm ∧ Qa st₀ (.returned v) t ∧ Goes C.1.1 C.1.2.2.1 C.2.1.2.2.1 T (F0 C.2.1.1 pc ls sk) T' { F0 C.2.1.1 pc ls sk with pc := pc + len, stack := v.toList ++ evs rest }) : ∃ t, Steps C.1.1.tables C.1.2.2.1 C.2.1.2.2.1 (T.setTop (F0 C.2.1.1 pc ls sk)) t ∧ C.2.2.2.2.1 t := by
  obtain ⟨vo, st₀, t, T', L, e0, X', hL, e2, e3, hqa, go⟩ := run
  obtain ⟨hv, hR2, hfr⟩ := hq _ _ _ hqa
  cases hv
  have hA : C.2.2.1 = AA h0 := M.1.2.2.2.1
  have w := kk.2 T'.heap (locs ++ L) ls ⟨hγ, by rw [e2]; exact hR2⟩ (va_S_call b e0 e2 hfr (fun q hq => by rw [hA]; exact AA.mono hO hq) hL) c
  have o1' := hO.1
  have o2' := hO.2.1
  have o3' := o1.1
  have o4' := o1.2.1
  have w := XW.cs (k := (aN h1 - aN h0).toNat + (aN h2 - aN h1).toNat) (n := (aS h1 - aS h0).toNat + (aS h2 - aS h1).toNat) w (by show _ = (aN h2 - aN h0).toNat; omega) (by show _ = (aS h2 - aS h0).toNat; omega)
  obtain ⟨tt, s1, s2⟩ := w T' rfl X'
  refine ⟨tt, go tt ?_, s2⟩
  rw [← hst', evs_app, ← rla_evs] at s1
  exact s1
theorem a_room {h1 h2 : AH} (M : MaB C cc nL own E l fr h0 hF nm) (hO : Old h0 h1) (o1 : Old h1 h2) (o2 : Old h2 hF) : (aN h1 - aN h0).toNat + (aN h2 - aN h1).toNat ≤ C.1.2.2.2.1.cells ∧ (aS h1 - aS h0).toNat + (aS h2 - aS h1).toNat ≤ C.1.2.2.2.1.slots := by
  obtain ⟨-, -, -, hr, -⟩ := M
  have a1 := hO.1
  have a2 := o1.1
  have a3 := o2.1
  have b1 := hO.2.1
  have b2 := o1.2.1
  have b3 := o2.2.1
  rw [hr.1, hr.2]
  omega
theorem a_frm {h1 h2 : AH} (M : MaB C cc nL own E l fr h0 hF nm) {fr' maxL' : Nat} (hf : Nat.ble (fr' + 1) fr = true) (hm : Nat.ble maxL' 40 = true) : (rmA fr' h1 h2).frames + 1 ≤ C.1.2.2.2.1.frames ∧ 8 + (maxL' + 11) + (rmA fr' h1 h2).locals ≤ C.1.2.2.2.1.locals := by
  obtain ⟨-, -, -, -, -, hr, -⟩ := M
  have e1 := Nat.le_of_ble_eq_true hf
  have e2 := Nat.le_of_ble_eq_true hm
  rw [hr.1, hr.2]
  exact ⟨e1, by show 8 + (maxL' + 11) + 64 * fr' ≤ 64 * fr; omega⟩
def CkA (y : MethodName) (n : Nat) : Prop := y.cls ≠ "java/lang/invoke/MethodHandle" ∧ y.cls ≠ "java/lang/invoke/VarHandle" ∧ (parseMethodDescriptor y.desc).map (fun d => d.parameters.length) = some n
def ClT (t : Nat) (C : String) : Prop := 0 < t ∧ t < 64 ∧ ∃ r : vw_C, clA[t - 1]? = some r ∧ r.1 = C
theorem ClT.recv {E : EA} {h : AH} {H : Heap} {U : State} {t : Nat} {Cn : String} (hc : ClT t Cn) (hK : KA E U) (hR : RH E h H) {q : Nat} (ht : aT h q = t) : ∃ cell : Cell, H[q]? = some cell ∧ cell.vm.isStatics = false ∧ U.vm.findClass Cn = some cell.cls := by
  obtain ⟨t0, t1, r, hr, rfl⟩ := hc
  obtain ⟨cell, c1, c2, c3, -⟩ := obj_at hR ht t0 t1
  exact ⟨cell, c1, c3, by rw [c2]; exact (hK.1 (t - 1) r hr).2.1⟩
theorem a_callV {γ : Prop} (hB : γ → MaB C cc nL own E l fr h0 hF nm) {h1 h2 : AH} (hT : TH h1) (hO : Old h0 h1) {y : MethodName} {cc' : ByteArray} {maxL' : Nat} {ret' : Option FieldType} {idx fr' ty' t : Nat} {v' a : Int} (As rest st' : List TV)
    (m : MetA l y cc' maxL' ret' fr' E h1 ((2, a) :: As) ty' v' h2 ∧ Old h1 h2 ∧ TH h2 ∧ TIr ty' v') (ht : aT h1 a = t) (hc : ClT t y.cls) (hd : decode cc pc = .ok (.invokevirtual idx, 3)) (q1 : Cond.methodLink own idx y ∈ lw_all) (q2 : Cond.instanceMethod y ∈ lw_all) (q3 : Cond.selects y.cls y y ∈ lw_all) (q4 : Cond.initialized y.cls ∈ lw_all) (q5 : Cond.code y cc' maxL' ret' ∈ lw_all)
    (ck : CkA y As.length) (hf : Nat.ble (fr' + 1) fr = true) (hm : Nat.ble maxL' 40 = true) (hst : As.reverse ++ (2, a) :: rest = st) (hr : Nat.ble (tsl rest) 8 = true) (hst' : rla ty' v' ++ rest = st') (kk : TIr ty' v' → TH h2 → Old h0 h2 → X C (zA γ ε E hF h0 h2) lv (pc + 3) st') : X C (zA γ ε E hF h0 h1) lv pc st := by
  subst hst
  obtain ⟨hM, o1, hT2, hv2⟩ := m
  have k := kk hv2 hT2 (hO.trans o1)
  refine ⟨⟨o1.trans k.1.1, k.1.2⟩, fun H locs ls a' b c => ?_⟩
  obtain ⟨M, hR⟩ := a'
  have hγ := M
  have M := hB M
  obtain ⟨q, rfl, -⟩ := hT.pos (a := a) (by rw [ht]; have := hc.1; omega)
  have g := M.1
  have hl : C.1.2.1 = l := M.2.2.2.2.1
  intro T hTH X0
  refine a_back (h1 := h1) (h2 := h2) (len := 3) M hO o1 b c hst' hγ k (Qa := QA E h1 h2 ty' v' (evs ((2, (q : Int)) :: As)).toArray) (fun _ _ _ hq => hq) ?_
  exact va_runV (b := q) (C := y.cls) (own := own) (index := idx) (nL := nL) (n := As.length) (As := evs As) ⟨g.1.1, g.1.2.1, g.1.2.2.1, g.1.2.2.2.2.1, g.1.2.2.2.2.2.1⟩ (by rw [hl]; exact hM) (cwV As.length g.1.2.2.2.2.2.1 (lw_V q1 q2 q3 q4 q5) rfl rfl rfl ⟨rfl, ck⟩ (a_frm M hf hm)) ⟨a_blind, hc.recv g.2.1 hR ht, fun U hU hW => by
      have := a_pre M hO hR b ((2, (q : Int)) :: As) U hU hW
      have e : (evs ((2, (q : Int)) :: As)).toArray = (Value.ref q :: evs As).toArray := by show (ev 2 (q : Int) :: evs As).toArray = _; rw [ev_ref]
      rw [e] at this; exact this⟩ rfl (by simp [evs]) (c.1.trans g.1.2.2.2.1) (by show evs _ = _; rw [evs_app, evs_rev]; show _ ++ (ev 2 (q : Int) :: evs rest) = _; rw [ev_ref]) (room_ok hr) hd (a_room M hO o1 k.1.1) T hTH X0
end AM
