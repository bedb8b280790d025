/-! HEAP, calls of all kinds -/
set_option maxRecDepth 100000
theorem bds1 {ρ : Type} {R : Option Unit} {K : Unit → Option ρ} {r : ρ} (e : R.bind K = some r) : R = some () ∧ K () = some r := by
  obtain ⟨u, h1, h2⟩ := bds e
  exact ⟨h1, h2⟩
/-- the kind of an object is looked at -/
def tgc (h : AH) (t : Nat) (a : Int) : Option Unit := if aT h a = t then some () else none
theorem tgc_s {h : AH} {t : Nat} {a : Int} (e : tgc h t a = some ()) : aT h a = t := by
  unfold tgc at e
  split at e
  · assumption
  · cases e
theorem ClT.at {E : EA} {U : State} {t : Nat} {Cn : String} (hc : ClT t Cn) (hK : KA E U) : ClassAt U Cn (E.1.1 (t - 1)) := by
  obtain ⟨t0, t1, r, hr, rfl⟩ := hc
  exact (hK.1 (t - 1) r hr).2
theorem sel_priv {y : MethodName} {s : State} {args : Array Value} {Cn : String} {c : ClassId} (hy : y.cls ≠ "java/lang/invoke/MethodHandle" ∧ y.cls ≠ "java/lang/invoke/VarHandle") (hc : s.vm.findClass Cn = some c) (hsame : (Cond.sameMethod y.cls y.cls y.name y.desc).before args s = true) (hpriv : (Cond.privateMethod y).before args s = true) (hinst : (Cond.instanceMethod y).before args s = true) : (Cond.selects Cn y y).before args s = true := by
  obtain ⟨mk, methM, hnamed, hmethM, -, -⟩ := Cond.instanceMethod_spec hinst
  have hfound : s.methodFound? y.cls y.name y.desc = some mk := State.methodFound?_of_named hnamed hy
  have hcls := findClass_of_methodNamed hnamed
  have hsel : selectMethod {} s.vm c mk = .method mk := selectMethod_private hmethM (Cond.privateMethod_at hpriv mk methM hnamed hmethM)
  have hni : (s.vm.classes[mk.cls]?).any (!·.isInterface) = true := by
    simp only [Cond.before, Cond.holds, Cond.value, hcls, hfound, hnamed] at hsame
    simpa using hsame
  simp only [Cond.before, Cond.holds, Cond.value, hc, hfound, hnamed, hsel]
  simpa using hni
section AC
variable {C : Cx} {cc : ByteArray} {nL : Nat} {own : String} {E : EA} {l : Launch} {fr ty : Nat} {v : Int} {h0 hF h : AH} {ret : Option FieldType} {nm : String} {lv : LV} {pc : Nat} {st : List TV} {ε : Prop}
variable {h1 h2 : AH} {x y : MethodName} {cc' : ByteArray} {maxL' : Nat} {ret' : Option FieldType} {idx fr' ty' t : Nat} {v' a : Int}
theorem a_callS {γ : Prop} (hB : γ → MaB C cc nL own E l fr h0 hF nm) (hT : TH h1) (hO : Old h0 h1) (As rest st' : List TV)
    (m : MetA l y cc' maxL' ret' fr' E h1 (As) ty' v' h2 ∧ Old h1 h2 ∧ TH h2 ∧ TIr ty' v') (hd : decode cc pc = .ok (.invokestatic idx, 3)) (q1 : Cond.methodLink own idx y ∈ lw_all) (q2 : Cond.static y ∈ lw_all) (q4 : Cond.initialized y.cls ∈ lw_all) (q5 : Cond.code y cc' maxL' ret' ∈ lw_all) (ck : CkA y As.length)
    (hf : Nat.ble (fr' + 1) fr = true) (hm : Nat.ble maxL' 40 = true) (hst : As.reverse ++ rest = st) (hr : Nat.ble (tsl rest) 8 = true) (hst' : rla ty' v' ++ rest = st') (kk : TIr ty' v' → TH h2 → Old h0 h2 → X C (zA γ ε E hF h0 h2) lv (pc + 3) st') : X C (zA γ ε E hF h0 h1) lv pc st := by
  subst hst
  obtain ⟨hM, o1, hT2, hv2⟩ := m
  have k := kk hv2 hT2 (hO.trans o1)
  refine ⟨⟨o1.trans k.1.1, k.1.2⟩, fun H locs ls a' b c => ?_⟩
  obtain ⟨M, hR⟩ := a'
  have hγ := M
  have M := hB M
  have g := M.1
  have hl : C.1.2.1 = l := M.2.2.2.2.1
  intro T hTH X0
  refine a_back (h1 := h1) (h2 := h2) (len := 3) M hO o1 b c hst' hγ k (Qa := QA E h1 h2 ty' v' (evs As).toArray) (fun _ _ _ hq => hq) ?_
  have hpre : ∀ U : State, U.heap = H → C.1.2.2.2.2.WarmedH U.vm → PA E h1 As (evs As).toArray U := fun U hU hW => a_pre M hO hR b As U hU hW
  have hstk : evs (As.reverse ++ rest) = (evs As).reverse ++ evs rest := by rw [evs_app, evs_rev]
  have cf : CallFix C.1.1 C.2.1.1 C.2.1.2.2.2.2 cc nL C.1.2.2.2.2 C.2.1.2.1 lw_all own := ⟨g.1.1, g.1.2.1, g.1.2.2.1, g.1.2.2.2.2.1, g.1.2.2.2.2.2.1⟩
  have hM : Met C.1.2.1 y (ws_ y cc' maxL' ret') (rmA fr' h1 h2) (PA E h1 (As)) (QA E h1 h2 ty' v') (aN h2 - aN h1).toNat (aS h2 - aS h1).toNat (AA h1) := by rw [hl]; exact hM
  exact va_runS (own := own) (index := idx) (nL := nL) (n := As.length) (As := evs As) cf hM (va_cwS As.length g.1.2.2.2.2.2.1 (lw_S q1 q2 q4 q5) rfl rfl rfl ck (a_frm M hf hm)) ⟨a_blind, hpre⟩ rfl (by simp [evs]) (c.1.trans g.1.2.2.2.1) hstk (room_ok hr) hd (a_room M hO o1 k.1.1) T hTH X0
theorem a_callI {γ : Prop} (hB : γ → MaB C cc nL own E l fr h0 hF nm) (hT : TH h1) (hO : Old h0 h1) (As rest st' : List TV)
    (m : MetA l y cc' maxL' none fr' E h1 ((2, a) :: As) ty' v' h2 ∧ Old h1 h2 ∧ TH h2 ∧ TIr ty' v') (ht : aT h1 a = t) (ht0 : t ≠ 0) (hd : decode cc pc = .ok (.invokespecial idx, 3)) (q1 : Cond.methodLink own idx y ∈ lw_all) (q2 : Cond.instanceMethod y ∈ lw_all) (q4 : Cond.initialized y.cls ∈ lw_all) (q5 : Cond.code y cc' maxL' none ∈ lw_all) (hy1 : y.name = "<init>") (ck : CkA y As.length)
    (hf : Nat.ble (fr' + 1) fr = true) (hm : Nat.ble maxL' 40 = true) (hst : As.reverse ++ (2, a) :: rest = st) (hr : Nat.ble (tsl rest) 8 = true) (hst' : rla ty' v' ++ rest = st') (kk : TIr ty' v' → TH h2 → Old h0 h2 → X C (zA γ ε E hF h0 h2) lv (pc + 3) st') : X C (zA γ ε E hF h0 h1) lv pc st := by
  subst hst
  obtain ⟨hM, o1, hT2, hv2⟩ := m
  have k := kk hv2 hT2 (hO.trans o1)
  refine ⟨⟨o1.trans k.1.1, k.1.2⟩, fun H locs ls a' b c => ?_⟩
  obtain ⟨M, hR⟩ := a'
  have hγ := M
  have M := hB M
  have g := M.1
  have hl : C.1.2.1 = l := M.2.2.2.2.1
  obtain ⟨q, rfl, -⟩ := hT.pos (a := a) (by rw [ht]; exact ht0)
  intro T hTH X0
  refine a_back (h1 := h1) (h2 := h2) (len := 3) M hO o1 b c hst' hγ k (Qa := QA E h1 h2 ty' v' (evs ((2, (q : Int)) :: As)).toArray) (fun _ _ _ hq => hq) ?_
  have hpre : ∀ U : State, U.heap = H → C.1.2.2.2.2.WarmedH U.vm → PA E h1 ((2, (q : Int)) :: As) (Value.ref q :: evs As).toArray U := fun U hU hW => by
    have := a_pre M hO hR b ((2, (q : Int)) :: As) U hU hW
    have e : (evs ((2, (q : Int)) :: As)).toArray = (Value.ref q :: evs As).toArray := by show (ev 2 (q : Int) :: evs As).toArray = _; rw [ev_ref]
    rw [e] at this; exact this
  have hstk : evs (As.reverse ++ (2, (q : Int)) :: rest) = (evs As).reverse ++ Value.ref q :: evs rest := by rw [evs_app, evs_rev]; show _ ++ (ev 2 (q : Int) :: evs rest) = _; rw [ev_ref]
  have cf : CallFix C.1.1 C.2.1.1 C.2.1.2.2.2.2 cc nL C.1.2.2.2.2 C.2.1.2.1 lw_all own := ⟨g.1.1, g.1.2.1, g.1.2.2.1, g.1.2.2.2.2.1, g.1.2.2.2.2.2.1⟩
  have hM : Met C.1.2.1 y (ws_ y cc' maxL' none) (rmA fr' h1 h2) (PA E h1 ((2, (q : Int)) :: As)) (QA E h1 h2 ty' v') (aN h2 - aN h1).toNat (aS h2 - aS h1).toNat (AA h1) := by rw [hl]; exact hM
  exact va_runI (b := q) (own := own) (index := idx) (nL := nL) (n := As.length) (As := evs As) cf hM (cwI As.length g.1.2.2.2.2.2.1 (lw_meth q5) rfl rfl rfl (g.1.2.2.2.2.2.1 _ q4) (g.1.2.2.2.2.2.1 _ q1) (g.1.2.2.2.2.2.1 _ q2) hy1 ck (a_frm M hf hm)) ⟨a_blind, hpre⟩ rfl (by simp [evs]) (c.1.trans g.1.2.2.2.1) hstk (room_ok hr) hd (a_room M hO o1 k.1.1) T hTH X0
theorem a_callVN {γ : Prop} (hB : γ → MaB C cc nL own E l fr h0 hF nm) (hT : TH h1) (hO : Old h0 h1) {host : String} (As rest st' : List TV)
    (m : MetA l y cc' maxL' ret' fr' E h1 ((2, a) :: As) ty' v' h2 ∧ Old h1 h2 ∧ TH h2 ∧ TIr ty' v') (ht : aT h1 a = t) (hc : ClT t y.cls) (hd : decode cc pc = .ok (.invokevirtual idx, 3)) (q1 : Cond.methodLinkNest own idx y host ∈ lw_tbl) (q2 : Cond.instanceMethod y ∈ lw_all) (q3 : Cond.selects y.cls y y ∈ lw_all) (q4 : Cond.initialized y.cls ∈ lw_all) (q5 : Cond.code y cc' maxL' ret' ∈ lw_all) (ck : CkA y As.length)
    (hf : Nat.ble (fr' + 1) fr = true) (hm : Nat.ble maxL' 40 = true) (hst : As.reverse ++ (2, a) :: rest = st) (hr : Nat.ble (tsl rest) 8 = true) (hst' : rla ty' v' ++ rest = st') (kk : TIr ty' v' → TH h2 → Old h0 h2 → X C (zA γ ε E hF h0 h2) lv (pc + 3) st') : X C (zA γ ε E hF h0 h1) lv pc st := by
  subst hst
  obtain ⟨hM, o1, hT2, hv2⟩ := m
  have k := kk hv2 hT2 (hO.trans o1)
  refine ⟨⟨o1.trans k.1.1, k.1.2⟩, fun H locs ls a' b c => ?_⟩
  obtain ⟨M, hR⟩ := a'
  have hγ := M
  have M := hB M
  have g := M.1
  have hl : C.1.2.1 = l := M.2.2.2.2.1
  obtain ⟨q, rfl, -⟩ := hT.pos (a := a) (by rw [ht]; have := hc.1; omega)
  intro T hTH X0
  refine a_back (h1 := h1) (h2 := h2) (len := 3) M hO o1 b c hst' hγ k (Qa := QA E h1 h2 ty' v' (evs ((2, (q : Int)) :: As)).toArray) (fun _ _ _ hq => hq) ?_
  have hpre : ∀ U : State, U.heap = H → C.1.2.2.2.2.WarmedH U.vm → PA E h1 ((2, (q : Int)) :: As) (Value.ref q :: evs As).toArray U := fun U hU hW => by
    have := a_pre M hO hR b ((2, (q : Int)) :: As) U hU hW
    have e : (evs ((2, (q : Int)) :: As)).toArray = (Value.ref q :: evs As).toArray := by show (ev 2 (q : Int) :: evs As).toArray = _; rw [ev_ref]
    rw [e] at this; exact this
  have hstk : evs (As.reverse ++ (2, (q : Int)) :: rest) = (evs As).reverse ++ Value.ref q :: evs rest := by rw [evs_app, evs_rev]; show _ ++ (ev 2 (q : Int) :: evs rest) = _; rw [ev_ref]
  have cf : CallFix C.1.1 C.2.1.1 C.2.1.2.2.2.2 cc nL C.1.2.2.2.2 C.2.1.2.1 lw_all own := ⟨g.1.1, g.1.2.1, g.1.2.2.1, g.1.2.2.2.2.1, g.1.2.2.2.2.2.1⟩
  have hM : Met C.1.2.1 y (ws_ y cc' maxL' ret') (rmA fr' h1 h2) (PA E h1 ((2, (q : Int)) :: As)) (QA E h1 h2 ty' v') (aN h2 - aN h1).toNat (aS h2 - aS h1).toNat (AA h1) := by rw [hl]; exact hM
  exact va_runVN (b := q) (C := y.cls) (own := own) (host := host) (index := idx) (nL := nL) (n := As.length) (As := evs As) cf hM ⟨va_cnB As.length g.1.2.2.2.2.2.1 (lw_meth q5) rfl rfl rfl (g.2.2.1 _ q1 rfl) (g.1.2.2.2.2.2.1 _ q4) ck (a_frm M hf hm), g.1.2.2.2.2.2.1 _ q2, g.1.2.2.2.2.2.1 _ q3⟩ ⟨a_blind, hc.recv g.2.1 hR ht, hpre⟩ rfl (by simp [evs]) (c.1.trans g.1.2.2.2.1) hstk (room_ok hr) hd (a_room M hO o1 k.1.1) T hTH X0
theorem a_callSN {γ : Prop} (hB : γ → MaB C cc nL own E l fr h0 hF nm) (hT : TH h1) (hO : Old h0 h1) {host : String} (As rest st' : List TV)
    (m : MetA l y cc' maxL' ret' fr' E h1 (As) ty' v' h2 ∧ Old h1 h2 ∧ TH h2 ∧ TIr ty' v') (hd : decode cc pc = .ok (.invokestatic idx, 3)) (q1 : Cond.methodLinkNest own idx y host ∈ lw_tbl) (q2 : Cond.static y ∈ lw_all) (q4 : Cond.initialized y.cls ∈ lw_all) (q5 : Cond.code y cc' maxL' ret' ∈ lw_all) (ck : CkA y As.length)
    (hf : Nat.ble (fr' + 1) fr = true) (hm : Nat.ble maxL' 40 = true) (hst : As.reverse ++ rest = st) (hr : Nat.ble (tsl rest) 8 = true) (hst' : rla ty' v' ++ rest = st') (kk : TIr ty' v' → TH h2 → Old h0 h2 → X C (zA γ ε E hF h0 h2) lv (pc + 3) st') : X C (zA γ ε E hF h0 h1) lv pc st := by
  subst hst
  obtain ⟨hM, o1, hT2, hv2⟩ := m
  have k := kk hv2 hT2 (hO.trans o1)
  refine ⟨⟨o1.trans k.1.1, k.1.2⟩, fun H locs ls a' b c => ?_⟩
  obtain ⟨M, hR⟩ := a'
  have hγ := M
  have M := hB M
  have g := M.1
  have hl : C.1.2.1 = l := M.2.2.2.2.1
  intro T hTH X0
  refine a_back (h1 := h1) (h2 := h2) (len := 3) M hO o1 b c hst' hγ k (Qa := QA E h1 h2 ty' v' (evs As).toArray) (fun _ _ _ hq => hq) ?_
  have hpre : ∀ U : State, U.heap = H → C.1.2.2.2.2.WarmedH U.vm → PA E h1 As (evs As).toArray U := fun U hU hW => a_pre M hO hR b As U hU hW
  have hstk : evs (As.reverse ++ rest) = (evs As).reverse ++ evs rest := by rw [evs_app, evs_rev]
  have cf : CallFix C.1.1 C.2.1.1 C.2.1.2.2.2.2 cc nL C.1.2.2.2.2 C.2.1.2.1 lw_all own := ⟨g.1.1, g.1.2.1, g.1.2.2.1, g.1.2.2.2.2.1, g.1.2.2.2.2.2.1⟩
  have hM : Met C.1.2.1 y (ws_ y cc' maxL' ret') (rmA fr' h1 h2) (PA E h1 (As)) (QA E h1 h2 ty' v') (aN h2 - aN h1).toNat (aS h2 - aS h1).toNat (AA h1) := by rw [hl]; exact hM
  exact va_runSN (own := own) (host := host) (index := idx) (nL := nL) (n := As.length) (As := evs As) cf hM ⟨va_cnB As.length g.1.2.2.2.2.2.1 (lw_meth q5) rfl rfl rfl (g.2.2.1 _ q1 rfl) (g.1.2.2.2.2.2.1 _ q4) ck (a_frm M hf hm), g.1.2.2.2.2.2.1 _ q2, trivial⟩ ⟨a_blind, hpre⟩ rfl (by simp [evs]) (c.1.trans g.1.2.2.2.1) hstk (room_ok hr) hd (a_room M hO o1 k.1.1) T hTH X0
theorem a_callIN {γ : Prop} (hB : γ → MaB C cc nL own E l fr h0 hF nm) (hT : TH h1) (hO : Old h0 h1) {host : String} (As rest st' : List TV)
    (m : MetA l y cc' maxL' none fr' E h1 ((2, a) :: As) ty' v' h2 ∧ Old h1 h2 ∧ TH h2 ∧ TIr ty' v') (ht : aT h1 a = t) (ht0 : t ≠ 0) (hd : decode cc pc = .ok (.invokespecial idx, 3)) (q1 : Cond.methodLinkNest own idx y host ∈ lw_tbl) (q2 : Cond.instanceMethod y ∈ lw_all) (q4 : Cond.initialized y.cls ∈ lw_all) (q5 : Cond.code y cc' maxL' none ∈ lw_all) (hy1 : y.name = "<init>") (ck : CkA y As.length)
    (hf : Nat.ble (fr' + 1) fr = true) (hm : Nat.ble maxL' 40 = true) (hst : As.reverse ++ (2, a) :: rest = st) (hr : Nat.ble (tsl rest) 8 = true) (hst' : rla ty' v' ++ rest = st') (kk : TIr ty' v' → TH h2 → Old h0 h2 → X C (zA γ ε E hF h0 h2) lv (pc + 3) st') : X C (zA γ ε E hF h0 h1) lv pc st := by
  subst hst
  obtain ⟨hM, o1, hT2, hv2⟩ := m
  have k := kk hv2 hT2 (hO.trans o1)
  refine ⟨⟨o1.trans k.1.1, k.1.2⟩, fun H locs ls a' b c => ?_⟩
  obtain ⟨M, hR⟩ := a'
  have hγ := M
  have M := hB M
  have g := M.1
  have hl : C.1.2.1 = l := M.2.2.2.2.1
  obtain ⟨q, rfl, -⟩ := hT.pos (a := a) (by rw [ht]; exact ht0)
  intro T hTH X0
  refine a_back (h1 := h1) (h2 := h2) (len := 3) M hO o1 b c hst' hγ k (Qa := QA E h1 h2 ty' v' (evs ((2, (q : Int)) :: As)).toArray) (fun _ _ _ hq => hq) ?_
  have hpre : ∀ U : State, U.heap = H → C.1.2.2.2.2.WarmedH U.vm → PA E h1 ((2, (q : Int)) :: As) (Value.ref q :: evs As).toArray U := fun U hU hW => by
    have := a_pre M hO hR b ((2, (q : Int)) :: As) U hU hW
    have e : (evs ((2, (q : Int)) :: As)).toArray = (Value.ref q :: evs As).toArray := by show (ev 2 (q : Int) :: evs As).toArray = _; rw [ev_ref]
    rw [e] at this; exact this
  have hstk : evs (As.reverse ++ (2, (q : Int)) :: rest) = (evs As).reverse ++ Value.ref q :: evs rest := by rw [evs_app, evs_rev]; show _ ++ (ev 2 (q : Int) :: evs rest) = _; rw [ev_ref]
  have cf : CallFix C.1.1 C.2.1.1 C.2.1.2.2.2.2 cc nL C.1.2.2.2.2 C.2.1.2.1 lw_all own := ⟨g.1.1, g.1.2.1, g.1.2.2.1, g.1.2.2.2.2.1, g.1.2.2.2.2.2.1⟩
  have hM : Met C.1.2.1 y (ws_ y cc' maxL' none) (rmA fr' h1 h2) (PA E h1 ((2, (q : Int)) :: As)) (QA E h1 h2 ty' v') (aN h2 - aN h1).toNat (aS h2 - aS h1).toNat (AA h1) := by rw [hl]; exact hM
  exact va_runIN (b := q) (own := own) (host := host) (index := idx) (nL := nL) (n := As.length) (As := evs As) cf hM ⟨va_cnB As.length g.1.2.2.2.2.2.1 (lw_meth q5) rfl rfl rfl (g.2.2.1 _ q1 rfl) (g.1.2.2.2.2.2.1 _ q4) ck (a_frm M hf hm), hy1, g.1.2.2.2.2.2.1 _ q2⟩ ⟨a_blind, hpre⟩ rfl (by simp [evs]) (c.1.trans g.1.2.2.2.1) hstk (room_ok hr) hd (a_room M hO o1 k.1.1) T hTH X0
theorem a_callU {γ : Prop} (hB : γ → MaB C cc nL own E l fr h0 hF nm) (hT : TH h1) (hO : Old h0 h1) {Cn owner : String} (As rest st' : List TV)
    (m : MetA l y cc' maxL' ret' fr' E h1 ((2, a) :: As) ty' v' h2 ∧ Old h1 h2 ∧ TH h2 ∧ TIr ty' v') (ht : aT h1 a = t) (hc : ClT t Cn) (hd : decode cc pc = .ok (.invokevirtual idx, 3)) (q1 : Cond.methodLink own idx x ∈ lw_all) (q2 : Cond.sameMethod x.cls owner x.name x.desc ∈ lw_all) (q3 : Cond.selects Cn x y ∈ lw_all) (q6 : Cond.instanceMethod y ∈ lw_all) (q4 : Cond.initialized y.cls ∈ lw_all) (q5 : Cond.code y cc' maxL' ret' ∈ lw_all) (hyx : y = ⟨owner, x.name, x.desc⟩) (ck : owner ≠ "java/lang/invoke/MethodHandle" ∧ owner ≠ "java/lang/invoke/VarHandle" ∧ (parseMethodDescriptor x.desc).map (fun d => d.parameters.length) = some As.length)
    (hf : Nat.ble (fr' + 1) fr = true) (hm : Nat.ble maxL' 40 = true) (hst : As.reverse ++ (2, a) :: rest = st) (hr : Nat.ble (tsl rest) 8 = true) (hst' : rla ty' v' ++ rest = st') (kk : TIr ty' v' → TH h2 → Old h0 h2 → X C (zA γ ε E hF h0 h2) lv (pc + 3) st') : X C (zA γ ε E hF h0 h1) lv pc st := by
  subst hst
  obtain ⟨hM, o1, hT2, hv2⟩ := m
  have k := kk hv2 hT2 (hO.trans o1)
  refine ⟨⟨o1.trans k.1.1, k.1.2⟩, fun H locs ls a' b c => ?_⟩
  obtain ⟨M, hR⟩ := a'
  have hγ := M
  have M := hB M
  have g := M.1
  have hl : C.1.2.1 = l := M.2.2.2.2.1
  obtain ⟨q, rfl, -⟩ := hT.pos (a := a) (by rw [ht]; have := hc.1; omega)
  intro T hTH X0
  refine a_back (h1 := h1) (h2 := h2) (len := 3) M hO o1 b c hst' hγ k (Qa := QA E h1 h2 ty' v' (evs ((2, (q : Int)) :: As)).toArray) (fun _ _ _ hq => hq) ?_
  have hpre : ∀ U : State, U.heap = H → C.1.2.2.2.2.WarmedH U.vm → PA E h1 ((2, (q : Int)) :: As) (Value.ref q :: evs As).toArray U := fun U hU hW => by
    have := a_pre M hO hR b ((2, (q : Int)) :: As) U hU hW
    have e : (evs ((2, (q : Int)) :: As)).toArray = (Value.ref q :: evs As).toArray := by show (ev 2 (q : Int) :: evs As).toArray = _; rw [ev_ref]
    rw [e] at this; exact this
  have hstk : evs (As.reverse ++ (2, (q : Int)) :: rest) = (evs As).reverse ++ Value.ref q :: evs rest := by rw [evs_app, evs_rev]; show _ ++ (ev 2 (q : Int) :: evs rest) = _; rw [ev_ref]
  have cf : CallFix C.1.1 C.2.1.1 C.2.1.2.2.2.2 cc nL C.1.2.2.2.2 C.2.1.2.1 lw_all own := ⟨g.1.1, g.1.2.1, g.1.2.2.1, g.1.2.2.2.2.1, g.1.2.2.2.2.2.1⟩
  have hM : Met C.1.2.1 y (ws_ y cc' maxL' ret') (rmA fr' h1 h2) (PA E h1 ((2, (q : Int)) :: As)) (QA E h1 h2 ty' v') (aN h2 - aN h1).toNat (aS h2 - aS h1).toNat (AA h1) := by rw [hl]; exact hM
  exact va_runU (b := q) (C := Cn) (owner := owner) (x := x) (own := own) (index := idx) (nL := nL) (n := As.length) (As := evs As) cf hM (va_cwU As.length g.1.2.2.2.2.2.1 (lw_app (by intro w hw; simp only [List.mem_cons, List.not_mem_nil, or_false] at hw; rcases hw with rfl | rfl | rfl | rfl | rfl <;> assumption) (lw_meth q5)) rfl rfl rfl hyx ck (a_frm M hf hm)) ⟨a_blind, hc.recv g.2.1 hR ht, hpre⟩ rfl (by simp [evs]) (c.1.trans g.1.2.2.2.1) hstk (room_ok hr) hd (a_room M hO o1 k.1.1) T hTH X0
theorem a_callP {γ : Prop} (hB : γ → MaB C cc nL own E l fr h0 hF nm) (hT : TH h1) (hO : Old h0 h1) {Cn : String} (As rest st' : List TV)
    (m : MetA l y cc' maxL' ret' fr' E h1 ((2, a) :: As) ty' v' h2 ∧ Old h1 h2 ∧ TH h2 ∧ TIr ty' v') (ht : aT h1 a = t) (hc : ClT t Cn) (hd : decode cc pc = .ok (.invokevirtual idx, 3)) (q1 : Cond.methodLink own idx y ∈ lw_all) (q2 : Cond.sameMethod y.cls y.cls y.name y.desc ∈ lw_all) (q3 : Cond.privateMethod y ∈ lw_tbl) (q6 : Cond.instanceMethod y ∈ lw_all) (q4 : Cond.initialized y.cls ∈ lw_all) (q5 : Cond.code y cc' maxL' ret' ∈ lw_all) (ck : CkA y As.length)
    (hf : Nat.ble (fr' + 1) fr = true) (hm : Nat.ble maxL' 40 = true) (hst : As.reverse ++ (2, a) :: rest = st) (hr : Nat.ble (tsl rest) 8 = true) (hst' : rla ty' v' ++ rest = st') (kk : TIr ty' v' → TH h2 → Old h0 h2 → X C (zA γ ε E hF h0 h2) lv (pc + 3) st') : X C (zA γ ε E hF h0 h1) lv pc st := by
  subst hst
  obtain ⟨hM, o1, hT2, hv2⟩ := m
  have k := kk hv2 hT2 (hO.trans o1)
  refine ⟨⟨o1.trans k.1.1, k.1.2⟩, fun H locs ls a' b c => ?_⟩
  obtain ⟨M, hR⟩ := a'
  have hγ := M
  have M := hB M
  have g := M.1
  have hl : C.1.2.1 = l := M.2.2.2.2.1
  obtain ⟨q, rfl, -⟩ := hT.pos (a := a) (by rw [ht]; have := hc.1; omega)
  intro T hTH X0
  refine a_back (h1 := h1) (h2 := h2) (len := 3) M hO o1 b c hst' hγ k (Qa := QA E h1 h2 ty' v' (evs ((2, (q : Int)) :: As)).toArray) (fun _ _ _ hq => hq) ?_
  have hpre : ∀ U : State, U.heap = H → C.1.2.2.2.2.WarmedH U.vm → PA E h1 ((2, (q : Int)) :: As) (Value.ref q :: evs As).toArray U := fun U hU hW => by
    have := a_pre M hO hR b ((2, (q : Int)) :: As) U hU hW
    have e : (evs ((2, (q : Int)) :: As)).toArray = (Value.ref q :: evs As).toArray := by show (ev 2 (q : Int) :: evs As).toArray = _; rw [ev_ref]
    rw [e] at this; exact this
  have hstk : evs (As.reverse ++ (2, (q : Int)) :: rest) = (evs As).reverse ++ Value.ref q :: evs rest := by rw [evs_app, evs_rev]; show _ ++ (ev 2 (q : Int) :: evs rest) = _; rw [ev_ref]
  have hsel : (Cond.selects Cn y y).before C.2.1.2.1 C.1.2.2.2.2 = true := sel_priv ⟨ck.1, ck.2.1⟩ (hc.at g.2.1).1 (g.1.2.2.2.2.2.1 _ q2) (va_Nw.use rfl (g.2.2.1 _ q3 rfl)) (g.1.2.2.2.2.2.1 _ q6)
  have cf : CallFix C.1.1 C.2.1.1 C.2.1.2.2.2.2 cc nL C.1.2.2.2.2 C.2.1.2.1 (Cond.selects Cn y y :: lw_all) own := ⟨g.1.1, g.1.2.1, g.1.2.2.1, g.1.2.2.2.2.1, fun w hw => (List.mem_cons.mp hw).elim (fun e => by rw [e]; exact hsel) (g.1.2.2.2.2.2.1 w)⟩
  have hgi : GoodIn (Cond.selects Cn y y :: lw_all) (va_wsU own idx Cn y.cls y y (ws_ y cc' maxL' ret')) := by
    have h5 : GoodIn lw_all ([Cond.methodLink own idx y, Cond.sameMethod y.cls y.cls y.name y.desc, Cond.instanceMethod y, Cond.initialized y.cls] ++ ws_ y cc' maxL' ret') := lw_app (by intro w hw; simp only [List.mem_cons, List.not_mem_nil, or_false] at hw; rcases hw with rfl | rfl | rfl | rfl <;> assumption) (lw_meth q5)
    intro w hw
    by_cases hsw : w = Cond.selects Cn y y
    · rw [hsw]; exact ⟨List.mem_cons_self, Or.inl rfl⟩
    · have : w ∈ [Cond.methodLink own idx y, Cond.sameMethod y.cls y.cls y.name y.desc, Cond.instanceMethod y, Cond.initialized y.cls] ++ ws_ y cc' maxL' ret' := by
        unfold va_wsU at hw
        simp only [List.mem_append, List.mem_cons, List.not_mem_nil, or_false] at hw ⊢
        rcases hw with h | h
        · left
          rcases h with h | h | h | h | h
          all_goals first | exact absurd h hsw | (simp [h]; done)
        · exact Or.inr h
      exact ⟨List.mem_cons_of_mem _ (h5 w this).1, (h5 w this).2⟩
  have hM : Met C.1.2.1 y (ws_ y cc' maxL' ret') (rmA fr' h1 h2) (PA E h1 ((2, (q : Int)) :: As)) (QA E h1 h2 ty' v') (aN h2 - aN h1).toNat (aS h2 - aS h1).toNat (AA h1) := by rw [hl]; exact hM
  exact va_runU (b := q) (C := Cn) (owner := y.cls) (x := y) (own := own) (index := idx) (nL := nL) (n := As.length) (As := evs As) cf hM (va_cwU As.length cf.2.2.2.2 hgi rfl rfl rfl rfl ck (a_frm M hf hm)) ⟨a_blind, hc.recv g.2.1 hR ht, hpre⟩ rfl (by simp [evs]) (c.1.trans g.1.2.2.2.1) hstk (room_ok hr) hd (a_room M hO o1 k.1.1) T hTH X0
theorem a_callO {γ : Prop} (hB : γ → MaB C cc nL own E l fr h0 hF nm) (hT : TH h1) (hO : Old h0 h1) {Cn owner : String} {b0 : ByteArray} {m0 : Nat} {r0 : Option FieldType} (As rest st' : List TV)
    (m : MetA l y cc' maxL' ret' fr' E h1 ((2, a) :: As) ty' v' h2 ∧ Old h1 h2 ∧ TH h2 ∧ TIr ty' v') (ht : aT h1 a = t) (hc : ClT t Cn) (hd : decode cc pc = .ok (.invokevirtual idx, 3)) (q1 : Cond.methodLink own idx x ∈ lw_all) (q2 : Cond.sameMethod x.cls owner x.name x.desc ∈ lw_all) (q7 : Cond.instanceMethod ⟨owner, x.name, x.desc⟩ ∈ lw_all) (q3 : Cond.selects Cn x y ∈ lw_all) (q6 : Cond.instanceMethod y ∈ lw_all) (q4 : Cond.initialized y.cls ∈ lw_all) (q5 : Cond.code y cc' maxL' ret' ∈ lw_all) (q8 : Cond.code ⟨owner, x.name, x.desc⟩ b0 m0 r0 ∈ lw_all) (ck : owner ≠ "java/lang/invoke/MethodHandle" ∧ owner ≠ "java/lang/invoke/VarHandle" ∧ (parseMethodDescriptor x.desc).map (fun d => d.parameters.length) = some As.length)
    (hf : Nat.ble (fr' + 1) fr = true) (hm : Nat.ble maxL' 40 = true) (hst : As.reverse ++ (2, a) :: rest = st) (hr : Nat.ble (tsl rest) 8 = true) (hst' : rla ty' v' ++ rest = st') (kk : TIr ty' v' → TH h2 → Old h0 h2 → X C (zA γ ε E hF h0 h2) lv (pc + 3) st') : X C (zA γ ε E hF h0 h1) lv pc st := by
  subst hst
  obtain ⟨hM, o1, hT2, hv2⟩ := m
  have k := kk hv2 hT2 (hO.trans o1)
  refine ⟨⟨o1.trans k.1.1, k.1.2⟩, fun H locs ls a' b c => ?_⟩
  obtain ⟨M, hR⟩ := a'
  have hγ := M
  have M := hB M
  have g := M.1
  have hl : C.1.2.1 = l := M.2.2.2.2.1
  obtain ⟨q, rfl, -⟩ := hT.pos (a := a) (by rw [ht]; have := hc.1; omega)
  intro T hTH X0
  refine a_back (h1 := h1) (h2 := h2) (len := 3) M hO o1 b c hst' hγ k (Qa := QA E h1 h2 ty' v' (evs ((2, (q : Int)) :: As)).toArray) (fun _ _ _ hq => hq) ?_
  have hpre : ∀ U : State, U.heap = H → C.1.2.2.2.2.WarmedH U.vm → PA E h1 ((2, (q : Int)) :: As) (Value.ref q :: evs As).toArray U := fun U hU hW => by
    have := a_pre M hO hR b ((2, (q : Int)) :: As) U hU hW
    have e : (evs ((2, (q : Int)) :: As)).toArray = (Value.ref q :: evs As).toArray := by show (ev 2 (q : Int) :: evs As).toArray = _; rw [ev_ref]
    rw [e] at this; exact this
  have hstk : evs (As.reverse ++ (2, (q : Int)) :: rest) = (evs As).reverse ++ Value.ref q :: evs rest := by rw [evs_app, evs_rev]; show _ ++ (ev 2 (q : Int) :: evs rest) = _; rw [ev_ref]
  have cf : CallFix C.1.1 C.2.1.1 C.2.1.2.2.2.2 cc nL C.1.2.2.2.2 C.2.1.2.1 lw_all own := ⟨g.1.1, g.1.2.1, g.1.2.2.1, g.1.2.2.2.2.1, g.1.2.2.2.2.2.1⟩
  have hM : Met C.1.2.1 y (ws_ y cc' maxL' ret') (rmA fr' h1 h2) (PA E h1 ((2, (q : Int)) :: As)) (QA E h1 h2 ty' v') (aN h2 - aN h1).toNat (aS h2 - aS h1).toNat (AA h1) := by rw [hl]; exact hM
  exact va_runU (b := q) (C := Cn) (owner := owner) (x := x) (own := own) (index := idx) (nL := nL) (n := As.length) (As := evs As) cf hM (va_cwO As.length g.1.2.2.2.2.2.1 (lw_app (by intro w hw; simp only [List.mem_cons, List.not_mem_nil, or_false] at hw; rcases hw with rfl | rfl | rfl | rfl | rfl | rfl <;> assumption) (lw_meth q5)) rfl rfl rfl q8 ck (a_frm M hf hm)) ⟨a_blind, hc.recv g.2.1 hR ht, hpre⟩ rfl (by simp [evs]) (c.1.trans g.1.2.2.2.1) hstk (room_ok hr) hd (a_room M hO o1 k.1.1) T hTH X0
theorem a_callSU {γ : Prop} (hB : γ → MaB C cc nL own E l fr h0 hF nm) (hT : TH h1) (hO : Old h0 h1) {Cn : String} (As rest st' : List TV)
    (m : MetA l y cc' maxL' ret' fr' E h1 ((2, a) :: As) ty' v' h2 ∧ Old h1 h2 ∧ TH h2 ∧ TIr ty' v') (ht : aT h1 a = t) (hc : ClT t Cn) (hd : decode cc pc = .ok (.invokespecial idx, 3)) (q1 : Cond.methodLink own idx y ∈ lw_all) (q2 : Cond.sameMethod y.cls y.cls y.name y.desc ∈ lw_all) (q3 : Cond.superclass own y.cls ∈ lw_all) (q6 : Cond.instanceMethod y ∈ lw_all) (q4 : Cond.initialized y.cls ∈ lw_all) (q5 : Cond.code y cc' maxL' ret' ∈ lw_all) (ck : y.name ≠ "<init>" ∧ (parseMethodDescriptor y.desc).map (fun d => d.parameters.length) = some As.length)
    (hf : Nat.ble (fr' + 1) fr = true) (hm : Nat.ble maxL' 40 = true) (hst : As.reverse ++ (2, a) :: rest = st) (hr : Nat.ble (tsl rest) 8 = true) (hst' : rla ty' v' ++ rest = st') (kk : TIr ty' v' → TH h2 → Old h0 h2 → X C (zA γ ε E hF h0 h2) lv (pc + 3) st') : X C (zA γ ε E hF h0 h1) lv pc st := by
  subst hst
  obtain ⟨hM, o1, hT2, hv2⟩ := m
  have k := kk hv2 hT2 (hO.trans o1)
  refine ⟨⟨o1.trans k.1.1, k.1.2⟩, fun H locs ls a' b c => ?_⟩
  obtain ⟨M, hR⟩ := a'
  have hγ := M
  have M := hB M
  have g := M.1
  have hl : C.1.2.1 = l := M.2.2.2.2.1
  obtain ⟨q, rfl, -⟩ := hT.pos (a := a) (by rw [ht]; have := hc.1; omega)
  intro T hTH X0
  refine a_back (h1 := h1) (h2 := h2) (len := 3) M hO o1 b c hst' hγ k (Qa := QA E h1 h2 ty' v' (evs ((2, (q : Int)) :: As)).toArray) (fun _ _ _ hq => hq) ?_
  have hpre : ∀ U : State, U.heap = H → C.1.2.2.2.2.WarmedH U.vm → PA E h1 ((2, (q : Int)) :: As) (Value.ref q :: evs As).toArray U := fun U hU hW => by
    have := a_pre M hO hR b ((2, (q : Int)) :: As) U hU hW
    have e : (evs ((2, (q : Int)) :: As)).toArray = (Value.ref q :: evs As).toArray := by show (ev 2 (q : Int) :: evs As).toArray = _; rw [ev_ref]
    rw [e] at this; exact this
  have hstk : evs (As.reverse ++ (2, (q : Int)) :: rest) = (evs As).reverse ++ Value.ref q :: evs rest := by rw [evs_app, evs_rev]; show _ ++ (ev 2 (q : Int) :: evs rest) = _; rw [ev_ref]
  have cf : CallFix C.1.1 C.2.1.1 C.2.1.2.2.2.2 cc nL C.1.2.2.2.2 C.2.1.2.1 lw_all own := ⟨g.1.1, g.1.2.1, g.1.2.2.1, g.1.2.2.2.2.1, g.1.2.2.2.2.2.1⟩
  have hM : Met C.1.2.1 y (ws_ y cc' maxL' ret') (rmA fr' h1 h2) (PA E h1 ((2, (q : Int)) :: As)) (QA E h1 h2 ty' v') (aN h2 - aN h1).toNat (aS h2 - aS h1).toNat (AA h1) := by rw [hl]; exact hM
  exact va_runSU (b := q) (C := Cn) (own := own) (index := idx) (nL := nL) (n := As.length) (As := evs As) (hc.at g.2.1) cf hM (va_cwSU As.length g.1.2.2.2.2.2.1 (lw_app (by intro w hw; simp only [List.mem_cons, List.not_mem_nil, or_false] at hw; rcases hw with rfl | rfl | rfl | rfl | rfl <;> assumption) (lw_meth q5)) rfl rfl rfl ck (a_frm M hf hm)) ⟨a_blind, hc.recv g.2.1 hR ht, hpre⟩ rfl (by simp [evs]) (c.1.trans g.1.2.2.2.1) hstk (room_ok hr) hd (a_room M hO o1 k.1.1) T hTH X0
theorem a_callF {γ : Prop} (hB : γ → MaB C cc nL own E l fr h0 hF nm) {cnt : Nat} (hT : TH h1) (hO : Old h0 h1) (As rest st' : List TV)
    (m : MetA l y cc' maxL' ret' fr' E h1 ((2, a) :: As) ty' v' h2 ∧ Old h1 h2 ∧ TH h2 ∧ TIr ty' v') (ht : aT h1 a = t) (hc : ClT t "java/util/ArrayList") (hd : decode cc pc = .ok (.invokeinterface idx cnt, 5)) {nm' ds : String} (hx : x = mLi nm' ds) (hy : y = mAL nm' ds) (hw : (nm', ds) ∈ fwL) (q1 : Cond.methodLink own idx x ∈ lw_all) (q3 : Cond.selects "java/util/ArrayList" x y ∈ lw_all) (q6 : Cond.instanceMethod y ∈ lw_all) (q4 : Cond.initialized y.cls ∈ lw_all) (q5 : Cond.code y cc' maxL' ret' ∈ lw_all) (ck : CkA x As.length)
    (hf : Nat.ble (fr' + 1) fr = true) (hm : Nat.ble maxL' 40 = true) (hst : As.reverse ++ (2, a) :: rest = st) (hr : Nat.ble (tsl rest) 8 = true) (hst' : rla ty' v' ++ rest = st') (kk : TIr ty' v' → TH h2 → Old h0 h2 → X C (zA γ ε E hF h0 h2) lv (pc + 5) st') : X C (zA γ ε E hF h0 h1) lv pc st := by
  subst hst
  obtain ⟨hM, o1, hT2, hv2⟩ := m
  have k := kk hv2 hT2 (hO.trans o1)
  refine ⟨⟨o1.trans k.1.1, k.1.2⟩, fun H locs ls a' b c => ?_⟩
  obtain ⟨M, hR⟩ := a'
  have hγ := M
  have M := hB M
  have g := M.1
  have hl : C.1.2.1 = l := M.2.2.2.2.1
  obtain ⟨q, rfl, -⟩ := hT.pos (a := a) (by rw [ht]; have := hc.1; omega)
  intro T hTH X0
  refine a_back (h1 := h1) (h2 := h2) (len := 5) M hO o1 b c hst' hγ k (Qa := QA E h1 h2 ty' v' (evs ((2, (q : Int)) :: As)).toArray) (fun _ _ _ hq => hq) ?_
  have hpre : ∀ U : State, U.heap = H → C.1.2.2.2.2.WarmedH U.vm → PA E h1 ((2, (q : Int)) :: As) (Value.ref q :: evs As).toArray U := fun U hU hW => by
    have := a_pre M hO hR b ((2, (q : Int)) :: As) U hU hW
    have e : (evs ((2, (q : Int)) :: As)).toArray = (Value.ref q :: evs As).toArray := by show (ev 2 (q : Int) :: evs As).toArray = _; rw [ev_ref]
    rw [e] at this; exact this
  have hstk : evs (As.reverse ++ (2, (q : Int)) :: rest) = (evs As).reverse ++ Value.ref q :: evs rest := by rw [evs_app, evs_rev]; show _ ++ (ev 2 (q : Int) :: evs rest) = _; rw [ev_ref]
  have cf : CallFix C.1.1 C.2.1.1 C.2.1.2.2.2.2 cc nL C.1.2.2.2.2 C.2.1.2.1 lw_all own := ⟨g.1.1, g.1.2.1, g.1.2.2.1, g.1.2.2.2.2.1, g.1.2.2.2.2.2.1⟩
  have hM : Met C.1.2.1 y (ws_ y cc' maxL' ret') (rmA fr' h1 h2) (PA E h1 ((2, (q : Int)) :: As)) (QA E h1 h2 ty' v') (aN h2 - aN h1).toNat (aS h2 - aS h1).toNat (AA h1) := by rw [hl]; exact hM
  exact va_runF (b := q) (C := "java/util/ArrayList") (x := x) (own := own) (index := idx) (nL := nL) (n := As.length) (As := evs As) (hc.at g.2.1) cf hM (va_cwF As.length g.1.2.2.2.2.2.1 (lw_app (by intro w hw; simp only [List.mem_cons, List.not_mem_nil, or_false] at hw; rcases hw with rfl | rfl | rfl | rfl <;> assumption) (lw_meth q5)) rfl rfl rfl (by rw [hx, hy]; exact M.2.1.2.2.2.2.2.1 _ hw) ck (a_frm M hf hm)) ⟨a_blind, hc.recv g.2.1 hR ht, hpre⟩ rfl (by simp [evs]) (c.1.trans g.1.2.2.2.1) hstk (room_ok hr) hd (a_room M hO o1 k.1.1) T hTH X0
/-- Object's own constructor does nothing -/
theorem a_objInit {γ : Prop} (hB : γ → MaB C cc nL own E l fr h0 hF nm) (hT : TH h) {a : Int} {t : Nat} (ht : aT h a = t) (ht0 : t ≠ 0) (hf : Nat.ble 1 fr = true) (hr : Nat.ble (tsl st) 8 = true) (hd : decode cc pc = .ok (.invokespecial idx, 3)) (q1 : Cond.methodLink own idx Lib.objectInit ∈ lw_all) (q2 : Cond.instanceMethod Lib.objectInit ∈ lw_all) (q3 : Cond.code Lib.objectInit ⟨#[0xb1]⟩ 1 none ∈ lw_all) (kk : X C (zA γ ε E hF h0 h) lv (pc + 3) st) : X C (zA γ ε E hF h0 h) lv pc ((2, a) :: st) := by
  refine ⟨kk.1, fun H locs ls a' b c => ?_⟩
  have M := hB a'.1
  have g := M.1
  obtain ⟨q, rfl, -⟩ := hT.pos (a := a) (by rw [ht]; exact ht0)
  show XW C H locs _ _ pc ls (ev 2 (q : Int) :: evs st)
  rw [ev_ref]
  have hfr := Nat.le_of_ble_eq_true hf
  have hrm := M.2.2.2.2.2.1
  refine W.objInit g.1.1 g.1.2.1 g.1.2.2.2.2.1 (g.1.2.2.2.2.2.1 _ q1) (g.1.2.2.2.2.2.1 _ q2) (g.1.2.2.2.2.2.1 _ q3) rfl (by show ls.size = _; rw [c.1, g.1.2.2.1]; exact g.1.2.2.2.1) rfl hd (by rw [hrm.1]; exact hfr) ?_ (kk.2 H locs ls a' b c)
  have := room_ok (st := st) hr (m := C.2.1.1) (pc := pc) (ls := ls) (rest := (Value.ref q :: evs st))
  rw [hrm.2]
  have e : 2 * (F0 C.2.1.1 pc ls (Value.ref q :: evs st)).monitorRoom + ((evs st).map fun v => v.category).sum ≤ 8 := this
  omega
end AC
