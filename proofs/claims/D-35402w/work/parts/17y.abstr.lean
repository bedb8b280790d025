/-! calls through a method that is declared alone (abstract, or never run) -/
set_option maxRecDepth 100000
section AC
variable {C : Cx} {cc : ByteArray} {nL : Nat} {own : String} {E : EA} {l : Launch} {fr ty : Nat} {v : Int} {h0 hF h : AH} {ret : Option FieldType} {nm : String} {lv : LV} {pc : Nat} {st : List TV} {ε : Prop}
variable {h1 h2 : AH} {x y : MethodName} {cc' : ByteArray} {maxL' : Nat} {ret' : Option FieldType} {idx fr' ty' t : Nat} {v' a : Int}
theorem a_callA {γ : Prop} (hB : γ → MaB C cc nL own E l fr h0 hF nm) (hT : TH h1) (hO : Old h0 h1) {Cn owner : String} (As rest st' : List TV)
    (m : MetA l y cc' maxL' ret' fr' E h1 ((2, a) :: As) ty' v' h2 ∧ Old h1 h2 ∧ TH h2 ∧ TIr ty' v') (ht : aT h1 a = t) (hc : ClT t Cn) (hd : decode cc pc = .ok (.invokevirtual idx, 3)) (q1 : Cond.methodLink own idx x ∈ lw_all) (q2 : Cond.sameMethod x.cls owner x.name x.desc ∈ lw_all) (q3 : Cond.selects Cn x y ∈ lw_all) (q6 : Cond.instanceMethod y ∈ lw_all) (q4 : Cond.initialized y.cls ∈ lw_all) (q5 : Cond.code y cc' maxL' ret' ∈ lw_all) (q8 : Cond.declares ⟨owner, x.name, x.desc⟩ ∈ lw_tbl) (ck : owner ≠ "java/lang/invoke/MethodHandle" ∧ owner ≠ "java/lang/invoke/VarHandle" ∧ (parseMethodDescriptor x.desc).map (fun d => d.parameters.length) = some As.length)
    (hf : Nat.ble (fr' + 1) fr = true) (hm : Nat.ble maxL' 40 = true) (hst : As.reverse ++ (2, a) :: rest = st) (hr : Nat.ble (tsl rest) 8 = true) (hst' : rla ty' v' ++ rest = st') (kk : TIr ty' v' → TH h2 → Old h0 h2 → X C (zA γ ε E hF h0 h2) lv (pc + 3) st') : X C (zA γ ε E hF h0 h1) lv pc st := by
  subst hst
  obtain ⟨hM, o1, hT2, hv2⟩ := m
  have k := kk hv2 hT2 (hO.trans o1)
  refine ⟨⟨o1.trans k.1.1, k.1.2⟩, fun H locs ls a' b c => ?_⟩
  obtain ⟨M, hR⟩ := a'
  have hγ := M
  have M := hB M
  have g := M.1
  have hl : C.1.2.1 = l := M.2.2.2.2.1
  obtain ⟨q, rfl, -⟩ := hT.pos (a := a) (by rw [ht]; have := hc.1; omega)
  intro T hTH X0
  refine a_back (h1 := h1) (h2 := h2) (len := 3) M hO o1 b c hst' hγ k (Qa := QA E h1 h2 ty' v' (evs ((2, (q : Int)) :: As)).toArray) (fun _ _ _ hq => hq) ?_
  have hpre : ∀ U : State, U.heap = H → C.1.2.2.2.2.WarmedH U.vm → PA E h1 ((2, (q : Int)) :: As) (Value.ref q :: evs As).toArray U := fun U hU hW => by
    have := a_pre M hO hR b ((2, (q : Int)) :: As) U hU hW
    have e : (evs ((2, (q : Int)) :: As)).toArray = (Value.ref q :: evs As).toArray := by show (ev 2 (q : Int) :: evs As).toArray = _; rw [ev_ref]
    rw [e] at this; exact this
  have hstk : evs (As.reverse ++ (2, (q : Int)) :: rest) = (evs As).reverse ++ Value.ref q :: evs rest := by rw [evs_app, evs_rev]; show _ ++ (ev 2 (q : Int) :: evs rest) = _; rw [ev_ref]
  have cf : CallFix C.1.1 C.2.1.1 C.2.1.2.2.2.2 cc nL C.1.2.2.2.2 C.2.1.2.1 lw_all own := ⟨g.1.1, g.1.2.1, g.1.2.2.1, g.1.2.2.2.2.1, g.1.2.2.2.2.2.1⟩
  have hM : Met C.1.2.1 y (ws_ y cc' maxL' ret') (rmA fr' h1 h2) (PA E h1 ((2, (q : Int)) :: As)) (QA E h1 h2 ty' v') (aN h2 - aN h1).toNat (aS h2 - aS h1).toNat (AA h1) := by rw [hl]; exact hM
  exact va_runU (b := q) (C := Cn) (owner := owner) (x := x) (own := own) (index := idx) (nL := nL) (n := As.length) (As := evs As) cf hM (va_cwA As.length g.1.2.2.2.2.2.1 (lw_app (by intro w hw; simp only [List.mem_cons, List.not_mem_nil, or_false] at hw; rcases hw with rfl | rfl | rfl | rfl | rfl <;> assumption) (lw_meth q5)) rfl rfl rfl (g.2.2.1 _ q8 rfl) ck (a_frm M hf hm)) ⟨a_blind, hc.recv g.2.1 hR ht, hpre⟩ rfl (by simp [evs]) (c.1.trans g.1.2.2.2.1) hstk (room_ok hr) hd (a_room M hO o1 k.1.1) T hTH X0
end AC
