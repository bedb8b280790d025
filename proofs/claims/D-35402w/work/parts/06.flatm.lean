/-! FLAT, methods: contracts of SyntaxspanModel's methods by functions over its flat state; entry, ends, calls -/
set_option maxRecDepth 100000
/-- how a value of a kind comes back: 6 nothing -/
def rvo (ty : Nat) (v : Int) : Option Value := match ty with
  | 4 => some (.long (lI v))
  | 6 => none
  | _ => some (.int (iI v))
def rvl (ty : Nat) (v : Int) : List TV := match ty with
  | 4 => [(1, v)]
  | 6 => []
  | _ => [(0, v)]
def TIr (ty : Nat) (v : Int) : Prop := match ty with
  | 6 => True
  | t => TI t v
theorem rvl_evs (ty : Nat) (v : Int) : (rvo ty v).toList = evs (rvl ty v) := by
  unfold rvo rvl
  split <;> rfl
def rmF (fr : Nat) : Room := { frames := fr, cells := 0, slots := 0, locals := 64 * fr }
def PF (G : GF) (n : Nat) (av : List TV) (σ : MS) : Array Value → State → Prop := va_Pc (evs av) (fun U => Fl G σ U.heap ∧ U.heap.size = n ∧ KF G U)
def QF (G : GF) (n ty : Nat) (v : Int) (σ' : MS) : Array Value → State → Outcome → State → Prop := fun _ st oc t =>
  oc = .returned (rvo ty v) ∧ Fl G σ' t.heap ∧ t.heap.size = n ∧ KF G t ∧ TIr ty v ∧ TF σ' ∧ va_F (AF G) st t
abbrev MetF (l : Launch) (y : MethodName) (cc : ByteArray) (maxL : Nat) (ret : Option FieldType) (fr : Nat) (G : GF) (n : Nat) (av : List TV) (σ : MS) (ty : Nat) (v : Int) (σ' : MS) : Prop :=
  Met l y (ws_ y cc maxL ret) (rmF fr) (PF G n av σ) (QF G n ty v σ') 0 0 (AF G)
/-- in a method of the model: what is known all along -/
def Fm (C : Cx) (cc : ByteArray) (nL : Nat) (G : GF) (l : Launch) (fr n ty : Nat) (v : Int) (σ' : MS) (ret : Option FieldType) : Prop :=
  Gf C cc nL G ∧ C.1.2.1 = l ∧ C.1.2.2.2.1 = rmF fr ∧ C.2.2.2.2.1 = MQ C.2.1.2.2.1 (QF G n ty v σ') C.2.1.2.1 C.1.2.2.2.2 0 0 (AF G) ∧ C.2.1.2.2.2.1.sig.returnType = ret ∧ C.2.2.1 = AF G ∧ C.2.2.2.1 = C.1.2.2.2.2.heap
theorem f_start {l : Launch} {y : MethodName} {cc : ByteArray} {maxL : Nat} {ret : Option FieldType} {G : GF} {n : Nat} {σ : MS} {ty : Nat} {v : Int} {σ' : MS} {fr : Nat} (av : List TV) (hD : FD G) (hy : y.cls = RX4) (hl : Nat.ble (tsl av) maxL = true)
    (body : ∀ C, Fm C cc maxL G l fr n ty v σ' ret → X C (zF G n σ) (tpos 0 av) 0 []) : MetF l y cc maxL ret fr G n av σ ty v σ' := by
  refine Met.ofW (cc := cc) (maxL := maxL) (ret := ret) (by rw [hy]; decide) rfl ?_
  intro p e s m args below meth c s₁ B hml hv
  obtain ⟨rfl, hF, hsz, hK⟩ := hv
  have hts := atoms_spec (ws := ws_ y cc maxL ret) B.pre
  have hts : ∀ w ∈ lw_all, w.before _ s = true := fun w h => hts w (List.mem_cons_of_mem _ h)
  have hown : s.vm.findClass RX4 = some m.cls := by rw [← hy]; exact findClass_of_methodNamed B.named
  rw [lg_entry_eq]
  have hle := lv_entry (evs av) (n := maxL) (by rw [sl_len]; exact Nat.le_of_ble_eq_true hl)
  rw [tpos_args] at hle
  have k := body ((p, l, e, (headSpec (ws_ y cc maxL ret) (rmF fr)).room, s), (m, (evs av).toArray, below, meth, c), (AF G, s.heap, MQ below (QF G n ty v σ') (evs av).toArray s 0 0 (AF G), maxL))
    ⟨⟨⟨B.exec, B.bytes, hml, rfl, hown, hts, B.notSynchronized⟩, hK, hD, fun q h => h⟩, rfl, rfl, rfl, B.returns, rfl, rfl⟩
  exact k.2 s.heap [] _ ⟨hF, hsz⟩ va_S.rf hle
section FM
variable {C : Cx} {cc : ByteArray} {nL : Nat} {G : GF} {l : Launch} {fr n ty : Nat} {v : Int} {σ' : MS} {ret : Option FieldType} {lv : LV} {pc : Nat} {st : List TV}
theorem f_end (M : Fm C cc nL G l fr n ty v σ' ret) {H : Heap} {locs : List Loc} (a : Fl G σ' H ∧ H.size = n) (b : va_S C.2.2.1 C.2.2.2.1 H locs) (hT : TF σ') (hv : TIr ty v) : (∀ t : State, t.heap = H → C.1.2.2.2.2.WarmedH t.vm → QF G n ty v σ' C.2.1.2.1 C.1.2.2.2.2 (.returned (rvo ty v)) t) ∧ ∀ q ∈ locs, AF G q.base := by
  obtain ⟨g, -, -, -, -, hA, hH⟩ := M
  rw [hA] at b
  rw [hH] at b
  exact ⟨fun t ht hW => ⟨rfl, by rw [ht]; exact a.1, by rw [ht]; exact a.2, va_K.moved hW.alike g.2.1, hv, hT, b.F ht⟩, b.2.2⟩
theorem f_retn (M : Fm C cc nL G l fr n ty v σ' ret) {rt : FieldType} (hd : decode cc pc = .ok (.ireturn, 1)) (hr : ret = some rt) (hty : rvo ty v = some (.int (iI v))) (hn : narrow rt (.int (iI v)) = .int (iI v)) (hT : TF σ') (hv : TIr ty v) : X C (zF G n σ') lv pc [(0, v)] := by
  refine ⟨trivial, fun H locs ls a b c => ?_⟩
  obtain ⟨h1, h2⟩ := f_end M a b hT hv
  obtain ⟨g, -, -, hQ, hrt, -, -⟩ := M
  unfold XW
  rw [hQ]
  exact W.zret (ty := rt) g.1.1 g.1.2.1 (hrt.trans hr) hn (fun t ht hW => by have := h1 t ht hW; rw [hty] at this; exact this) h2 hd (hlocks := g.1.2.2.2.2.2.2)
theorem f_reti {σ1 : MS} {v1 : Int} (M : Fm C cc nL G l fr n 0 v σ' (some .int)) (hd : decode cc pc = .ok (.ireturn, 1)) (h : v1 = v) (h2 : σ1 = σ') (hT : TF σ1) (hv : InR v1) : X C (zF G n σ1) lv pc [(0, v1)] := by
  subst h; subst h2
  exact f_retn M hd rfl rfl rfl hT hv
theorem f_retz {σ1 : MS} {v1 : Int} (M : Fm C cc nL G l fr n 1 v σ' (some .boolean)) (hd : decode cc pc = .ok (.ireturn, 1)) (h : v1 = v) (h2 : σ1 = σ') (hT : TF σ1) (hv : TI 1 v1) : X C (zF G n σ1) lv pc [(0, v1)] := by
  subst h; subst h2
  exact f_retn M hd rfl rfl (narrow_z hv) hT hv
theorem narrow_c {v : Int} (h : TI 2 v) : narrow .char (.int (iI v)) = .int (iI v) := by
  show Value.int ((iI v).toUInt32.toUInt16.toUInt32.toInt32) = .int (iI v)
  obtain ⟨m, rfl⟩ := Int.eq_ofNat_of_zero_le h.1
  have hm : m < 65536 := by have := h.2; omega
  congr 1
  rw [← Int32.toInt_inj]
  show ((iI (m : Int)).toUInt32.toUInt16.toUInt32).toBitVec.toInt = (iI (m : Int)).toInt
  rw [iI_toInt ⟨by omega, by omega⟩, BitVec.toInt_eq_toNat_of_lt]
  all_goals
    have e1 : (iI (m : Int)).toUInt32.toNat = m := by
      have : (iI (m : Int)).toBitVec = BitVec.ofInt 32 m := rfl
      show (iI (m : Int)).toBitVec.toNat = m
      rw [this, BitVec.toNat_ofInt]
      omega
    show _
    first
      | (show (((iI (m : Int)).toUInt32.toUInt16.toUInt32.toNat : Nat) : Int) = m
         rw [UInt16.toNat_toUInt32, UInt32.toNat_toUInt16, e1]
         omega)
      | (show 2 * (iI (m : Int)).toUInt32.toUInt16.toUInt32.toNat < _
         rw [UInt16.toNat_toUInt32, UInt32.toNat_toUInt16, e1]
         omega)
theorem f_retc {σ1 : MS} {v1 : Int} (M : Fm C cc nL G l fr n 2 v σ' (some .char)) (hd : decode cc pc = .ok (.ireturn, 1)) (h : v1 = v) (h2 : σ1 = σ') (hT : TF σ1) (hv : TI 2 v1) : X C (zF G n σ1) lv pc [(0, v1)] := by
  subst h; subst h2
  exact f_retn M hd rfl rfl (narrow_c hv) hT hv
theorem f_retl {σ1 : MS} {v1 : Int} (M : Fm C cc nL G l fr n 4 v σ' (some .long)) (hd : decode cc pc = .ok (.lreturn, 1)) (h : v1 = v) (h2 : σ1 = σ') (hT : TF σ1) (hv : In64 v1) : X C (zF G n σ1) lv pc [(1, v1)] := by
  subst h; subst h2
  refine ⟨trivial, fun H locs ls a b c => ?_⟩
  obtain ⟨h1, h2⟩ := f_end M a b hT hv
  obtain ⟨g, -, -, hQ, hrt, -, -⟩ := M
  unfold XW
  rw [hQ]
  exact W.lret g.1.1 g.1.2.1 hrt (fun t ht hW => h1 t ht hW) h2 hd (hlocks := g.1.2.2.2.2.2.2)
theorem f_retv {σ1 : MS} (M : Fm C cc nL G l fr n 6 0 σ' none) (hd : decode cc pc = .ok (.return_, 1)) (h2 : σ1 = σ') (hT : TF σ1) : X C (zF G n σ1) lv pc [] := by
  subst h2
  refine ⟨trivial, fun H locs ls a b c => ?_⟩
  obtain ⟨h1, h2⟩ := f_end M a b hT trivial
  obtain ⟨g, -, -, hQ, hrt, -, -⟩ := M
  unfold XW
  rw [hQ]
  exact W.vret g.1.1 g.1.2.1 hrt (fun t ht hW => h1 t ht hW) h2 hd (hlocks := g.1.2.2.2.2.2.2)
theorem va_S_call {A A1 : Nat → Prop} {H0 H : Heap} {locs L : List Loc} {st t T' : State} (h : va_S A H0 H locs) (h0 : st.heap = H) (e1 : T'.heap = t.heap) (hF : va_F A1 st t) (hA : ∀ q, A1 q → A q) (hL : ∀ q ∈ L, A1 q.base) : va_S A H0 T'.heap (locs ++ L) := by
  refine ⟨by rw [e1]; have := hF.1; rw [h0] at this; exact Nat.le_trans h.1 this, fun q hq hn => ?_, fun q hq => ?_⟩
  · rw [e1, hF.2 q (by rw [h0]; exact Nat.lt_of_lt_of_le hq h.1) (fun x => hn (hA q x)), h0]
    exact h.2.1 q hq hn
  · rcases List.mem_append.mp hq with q1 | q1
    · exact h.2.2 _ q1
    · exact hA _ (hL _ q1)
theorem f_blind {G : GF} {n : Nat} {av : List TV} {σ : MS} : FrameBlind (PF G n av σ) := fun a U g mk h => ⟨h.1, h.2.1, h.2.2.1, va_K.moved (u := U) (U := U.calling g mk a) (Vm.Alike.refl U.vm) h.2.2.2⟩
theorem room_ok {st : List TV} (h : Nat.ble (tsl st) 8 = true) {m : MethodId} {pc : Nat} {ls : Array Slot} {rest : List Value} : 2 * (F0 m pc ls rest).monitorRoom + ((evs st).map fun v => v.category).sum ≤ 8 := by
  rw [evs_cat]
  have := Nat.le_of_ble_eq_true h
  show 2 * 0 + (st.map fun q => kcat q.1).sum ≤ 8
  unfold tsl at this
  omega
def CallOk (y : MethodName) (n maxL fr fr' : Nat) : Prop := (y.cls = RX4 ∧ y.cls ≠ "java/lang/invoke/MethodHandle" ∧ y.cls ≠ "java/lang/invoke/VarHandle" ∧ (parseMethodDescriptor y.desc).map (fun d => d.parameters.length) = some n) ∧ Nat.ble (fr' + 1) fr = true ∧ Nat.ble maxL 40 = true
theorem CallOk.room {y : MethodName} {n maxL fr fr' : Nat} (h : CallOk y n maxL fr fr') : (rmF fr').frames + 1 ≤ (rmF fr).frames ∧ 8 + (maxL + 11) + (rmF fr').locals ≤ (rmF fr).locals := by
  have h1 := Nat.le_of_ble_eq_true h.2.1
  have h2 := Nat.le_of_ble_eq_true h.2.2
  exact ⟨h1, by show 8 + (maxL + 11) + 64 * fr' ≤ 64 * fr; omega⟩
theorem f_callV (M : Fm C cc nL G l fr n ty v σ' ret) {y : MethodName} {cc' : ByteArray} {maxL' : Nat} {ret' : Option FieldType} {idx fr' ty' : Nat} {v' : Int} {σ1 σ2 : MS} {As rest : List TV}
    (hM : MetF l y cc' maxL' ret' fr' G n ((2, (gM G : Int)) :: As) σ1 ty' v' σ2) (hd : decode cc pc = .ok (.invokevirtual idx, 3)) (h1 : Cond.methodLink RX4 idx y ∈ lw_all) (h2 : Cond.instanceMethod y ∈ lw_all) (h3 : Cond.selects RX4 y y ∈ lw_all) (h4 : Cond.initialized RX4 ∈ lw_all) (h5 : Cond.code y cc' maxL' ret' ∈ lw_all)
    (ok : CallOk y As.length maxL' fr fr') (hst : As.reverse ++ (2, (gM G : Int)) :: rest = st) (hr : Nat.ble (tsl rest) 8 = true) (kk : TIr ty' v' → TF σ2 → X C (zF G n σ2) lv (pc + 3) (rvl ty' v' ++ rest)) : X C (zF G n σ1) lv pc st := by
  subst hst
  refine ⟨trivial, fun H locs ls a b c => ?_⟩
  obtain ⟨g, hl, hR, -, -, -, -⟩ := M
  obtain ⟨⟨hx, hb, hml, hnn, hown, hts, -⟩, gK, gD, gA⟩ := g
  intro T hT X0
  obtain ⟨r1, e1, cell, q1, q2, q3, q4⟩ := a.1.1
  have hcl : C.1.2.2.2.2.vm.findClass RX4 = some cell.cls := by rw [q2]; exact (gK.1 0 (RX4, TX4, 118) rfl).2.1
  have run := va_runV (p := C.1.1) (l := C.1.2.1) (e := C.1.2.2.1) (R := C.1.2.2.2.1) (s := C.1.2.2.2.2) (m := C.2.1.1) (args := C.2.1.2.1) (below := C.2.1.2.2.1) (meth := C.2.1.2.2.2.1) (c := C.2.1.2.2.2.2) (H := H) (locs := locs) (cells := 0) (slots := 0) (As := evs As) (rest := evs rest) (g := F0 C.2.1.1 pc ls (evs (As.reverse ++ (2, (gM G : Int)) :: rest))) (b := gM G) (C := RX4) (own := RX4) (index := idx) (nL := nL) (n := As.length)
    ⟨hx, hb, hml, hown, hts⟩ (hl ▸ hM) (cwV (C := RX4) As.length hts (lw_V h1 h2 h3 h4 h5) rfl rfl rfl ok.1 (by rw [hR]; exact ok.room)) ⟨f_blind, ⟨cell, q1, by rw [q3]; rfl, hcl⟩, fun U hU hW => ⟨by show _ = (ev 2 (gM G : Int) :: evs As).toArray; rw [ev_ref], by rw [hU]; exact a.1, by rw [hU]; exact a.2, va_K.moved hW.alike gK⟩⟩ rfl (by simp [evs]) (c.1.trans hnn) (by show evs _ = _; rw [evs_app, evs_rev]; show _ ++ (ev 2 (gM G : Int) :: evs rest) = _; rw [ev_ref]) (room_ok hr) hd ⟨Nat.zero_le _, Nat.zero_le _⟩
  obtain ⟨vo, st₀, t, T', L, h0, X', hL, e2, e3, hq, go⟩ := run T hT X0
  obtain ⟨hv, hF, hsz, hK, hTI, hTF, hfr⟩ := hq
  have k := kk hTI hTF
  have w := k.2 T'.heap (locs ++ L) ls ⟨by rw [e2]; exact hF, by rw [e2]; exact hsz⟩ (va_S_call b h0 e2 hfr gA hL) c
  cases hv
  obtain ⟨tt, s1, s2⟩ := w T' rfl X'
  refine ⟨tt, go tt ?_, s2⟩
  rw [evs_app, ← rvl_evs] at s1
  exact s1
theorem f_callS (M : Fm C cc nL G l fr n ty v σ' ret) {y : MethodName} {cc' : ByteArray} {maxL' : Nat} {ret' : Option FieldType} {idx fr' ty' : Nat} {v' : Int} {σ1 σ2 : MS} {As rest : List TV}
    (hM : MetF l y cc' maxL' ret' fr' G n As σ1 ty' v' σ2) (hd : decode cc pc = .ok (.invokestatic idx, 3)) (h1 : Cond.methodLink RX4 idx y ∈ lw_all) (h2 : Cond.static y ∈ lw_all) (h3 : Cond.initialized y.cls ∈ lw_all) (h5 : Cond.code y cc' maxL' ret' ∈ lw_all)
    (ok : CallOk y As.length maxL' fr fr') (hst : As.reverse ++ rest = st) (hr : Nat.ble (tsl rest) 8 = true) (kk : TIr ty' v' → TF σ2 → X C (zF G n σ2) lv (pc + 3) (rvl ty' v' ++ rest)) : X C (zF G n σ1) lv pc st := by
  subst hst
  refine ⟨trivial, fun H locs ls a b c => ?_⟩
  obtain ⟨g, hl, hR, -, -, -, -⟩ := M
  obtain ⟨⟨hx, hb, hml, hnn, hown, hts, -⟩, gK, gD, gA⟩ := g
  intro T hT X0
  have run := va_runS (p := C.1.1) (l := C.1.2.1) (e := C.1.2.2.1) (R := C.1.2.2.2.1) (s := C.1.2.2.2.2) (m := C.2.1.1) (args := C.2.1.2.1) (below := C.2.1.2.2.1) (meth := C.2.1.2.2.2.1) (c := C.2.1.2.2.2.2) (H := H) (locs := locs) (cells := 0) (slots := 0) (As := evs As) (rest := evs rest) (g := F0 C.2.1.1 pc ls (evs (As.reverse ++ rest))) (own := RX4) (index := idx) (nL := nL) (n := As.length)
    ⟨hx, hb, hml, hown, hts⟩ (hl ▸ hM) (va_cwS As.length hts (lw_S h1 h2 h3 h5) rfl rfl rfl ok.1.2 (by rw [hR]; exact ok.room)) ⟨f_blind, fun U hU hW => ⟨rfl, by rw [hU]; exact a.1, by rw [hU]; exact a.2, va_K.moved hW.alike gK⟩⟩ rfl (by simp [evs]) (c.1.trans hnn) (by show evs _ = _; rw [evs_app, evs_rev]) (room_ok hr) hd ⟨Nat.zero_le _, Nat.zero_le _⟩
  obtain ⟨vo, st₀, t, T', L, h0, X', hL, e2, e3, hq, go⟩ := run T hT X0
  obtain ⟨hv, hF, hsz, hK, hTI, hTF, hfr⟩ := hq
  have k := kk hTI hTF
  have w := k.2 T'.heap (locs ++ L) ls ⟨by rw [e2]; exact hF, by rw [e2]; exact hsz⟩ (va_S_call b h0 e2 hfr gA hL) c
  cases hv
  obtain ⟨tt, s1, s2⟩ := w T' rfl X'
  refine ⟨tt, go tt ?_, s2⟩
  rw [evs_app, ← rvl_evs] at s1
  exact s1
end FM
theorem litI {x : Int} (h : decide (-2147483648 ≤ x ∧ x < 2147483648) = true) : InR x := by
  have := of_decide_eq_true h
  exact this
theorem litC {x : Int} (h : decide (0 ≤ x ∧ x < 65536) = true) : TI 2 x := by
  have := of_decide_eq_true h
  exact this
theorem litL {x : Int} (h : decide (-9223372036854775808 ≤ x ∧ x < 9223372036854775808) = true) : In64 x := by
  have := of_decide_eq_true h
  exact this
theorem litZ0 : TI 1 0 := Or.inl rfl
theorem litZ1 : TI 1 1 := Or.inr rfl
theorem bds {α ρ : Type} {R : Option α} {K : α → Option ρ} {r : ρ} (e : R.bind K = some r) : ∃ a, R = some a ∧ K a = some r := by
  cases h : R with
  | none => rw [h] at e; cases e
  | some t => rw [h] at e; exact ⟨t, rfl, e⟩
def CkM (y : MethodName) (n : Nat) : Prop := y.cls = RX4 ∧ y.cls ≠ "java/lang/invoke/MethodHandle" ∧ y.cls ≠ "java/lang/invoke/VarHandle" ∧ (parseMethodDescriptor y.desc).map (fun d => d.parameters.length) = some n
section FM2
variable {C : Cx} {cc : ByteArray} {nL : Nat} {G : GF} {l : Launch} {fr n ty : Nat} {v : Int} {σ' : MS} {ret : Option FieldType} {lv : LV} {pc : Nat} {st : List TV}
theorem Fm.g (M : Fm C cc nL G l fr n ty v σ' ret) : Gf C cc nL G := M.1
theorem Fm.x (M : Fm C cc nL G l fr n ty v σ' ret) {z : Zs} : Gz C z cc nL RX4 := fun _ _ => M.1.1
theorem f_cV (M : Fm C cc nL G l fr n ty v σ' ret) {y : MethodName} {cc' : ByteArray} {maxL' : Nat} {ret' : Option FieldType} {idx fr' ty' : Nat} {v' : Int} {σ1 σ2 : MS} (As rest : List TV) (st' : List TV)
    (hM : MetF l y cc' maxL' ret' fr' G n ((2, (gM G : Int)) :: As) σ1 ty' v' σ2) (hd : decode cc pc = .ok (.invokevirtual idx, 3)) (h1 : Cond.methodLink RX4 idx y ∈ lw_all) (h2 : Cond.instanceMethod y ∈ lw_all) (h3 : Cond.selects RX4 y y ∈ lw_all) (h4 : Cond.initialized RX4 ∈ lw_all) (h5 : Cond.code y cc' maxL' ret' ∈ lw_all)
    (ck : CkM y As.length) (hf : Nat.ble (fr' + 1) fr = true) (hm : Nat.ble maxL' 40 = true) (hst : As.reverse ++ (2, (gM G : Int)) :: rest = st) (hr : Nat.ble (tsl rest) 8 = true) (hst' : rvl ty' v' ++ rest = st') (kk : TIr ty' v' → TF σ2 → X C (zF G n σ2) lv (pc + 3) st') : X C (zF G n σ1) lv pc st :=
  f_callV M hM hd h1 h2 h3 h4 h5 ⟨ck, hf, hm⟩ hst hr (fun a b => by rw [hst']; exact kk a b)
theorem f_cS (M : Fm C cc nL G l fr n ty v σ' ret) {y : MethodName} {cc' : ByteArray} {maxL' : Nat} {ret' : Option FieldType} {idx fr' ty' : Nat} {v' : Int} {σ1 σ2 : MS} (As rest : List TV) (st' : List TV)
    (hM : MetF l y cc' maxL' ret' fr' G n As σ1 ty' v' σ2) (hd : decode cc pc = .ok (.invokestatic idx, 3)) (h1 : Cond.methodLink RX4 idx y ∈ lw_all) (h2 : Cond.static y ∈ lw_all) (h4 : Cond.initialized RX4 ∈ lw_all) (h5 : Cond.code y cc' maxL' ret' ∈ lw_all)
    (ck : CkM y As.length) (hf : Nat.ble (fr' + 1) fr = true) (hm : Nat.ble maxL' 40 = true) (hst : As.reverse ++ rest = st) (hr : Nat.ble (tsl rest) 8 = true) (hst' : rvl ty' v' ++ rest = st') (kk : TIr ty' v' → TF σ2 → X C (zF G n σ2) lv (pc + 3) st') : X C (zF G n σ1) lv pc st :=
  f_callS M hM hd h1 h2 (by rw [ck.1]; exact h4) h5 ⟨ck, hf, hm⟩ hst hr (fun a b => by rw [hst']; exact kk a b)
end FM2
section SB
variable {C : Cx} {cc : ByteArray} {nL : Nat} {own : String} {z : Zs} {lv : LV} {pc : Nat} {st : List TV} {ρ : Type} {K : Int → Option ρ} {r : ρ}
/-- stores that give what is stored a name -/
theorem x_istoreb (G : Gz C z cc nL own) {i : Nat} {a : Int} (lv' : Int → LV) (hd : decode cc pc = .ok (.istore i, 2)) (ks : List Nat) (hk : ∀ b, (i, (0, b)) :: keep lv i 1 ks = lv' b) (ho : keepOk (keep lv i 1 ks) i 1 = true) (hn : Nat.ble (i + 1) nL = true) {t : Nat} (hv : TI t a) (e : bd1 a K = some r) (k : ∀ b, TI t b → K b = some r → X C z (lv' b) (pc + 2) st) : X C z lv pc ((0, a) :: st) :=
  x_istore G hd ks (hk a) ho (Nat.le_of_ble_eq_true hn) (k a hv e)
theorem x_istore_nb (G : Gz C z cc nL own) {i : Fin 4} {a : Int} (lv' : Int → LV) (hd : decode cc pc = .ok (.istore_n i, 1)) (ks : List Nat) (hk : ∀ b, ((i : Nat), (0, b)) :: keep lv i 1 ks = lv' b) (ho : keepOk (keep lv i 1 ks) i 1 = true) (hn : Nat.ble ((i : Nat) + 1) nL = true) {t : Nat} (hv : TI t a) (e : bd1 a K = some r) (k : ∀ b, TI t b → K b = some r → X C z (lv' b) (pc + 1) st) : X C z lv pc ((0, a) :: st) :=
  x_istore_n G hd ks (hk a) ho (Nat.le_of_ble_eq_true hn) (k a hv e)
theorem x_lstoreb (G : Gz C z cc nL own) {i : Nat} {a : Int} (lv' : Int → LV) (hd : decode cc pc = .ok (.lstore i, 2)) (ks : List Nat) (hk : ∀ b, (i, (1, b)) :: keep lv i 2 ks = lv' b) (ho : keepOk (keep lv i 2 ks) i 2 = true) (hn : Nat.ble (i + 2) nL = true) {t : Nat} (hv : TI t a) (e : bd1 a K = some r) (k : ∀ b, TI t b → K b = some r → X C z (lv' b) (pc + 2) st) : X C z lv pc ((1, a) :: st) :=
  x_lstore G hd ks (hk a) ho (Nat.le_of_ble_eq_true hn) (k a hv e)
theorem x_lstore_nb (G : Gz C z cc nL own) {i : Fin 4} {a : Int} (lv' : Int → LV) (hd : decode cc pc = .ok (.lstore_n i, 1)) (ks : List Nat) (hk : ∀ b, ((i : Nat), (1, b)) :: keep lv i 2 ks = lv' b) (ho : keepOk (keep lv i 2 ks) i 2 = true) (hn : Nat.ble ((i : Nat) + 2) nL = true) {t : Nat} (hv : TI t a) (e : bd1 a K = some r) (k : ∀ b, TI t b → K b = some r → X C z (lv' b) (pc + 1) st) : X C z lv pc ((1, a) :: st) :=
  x_lstore_n G hd ks (hk a) ho (Nat.le_of_ble_eq_true hn) (k a hv e)
theorem x_iincb (G : Gz C z cc nL own) {i : Nat} {n a : Int} (lv' : Int → LV) (hd : decode cc pc = .ok (.iinc i n, 3)) (j : Nat) (hj : lv[j]? = some (i, (0, a))) (ks : List Nat) (hk : ∀ b, (i, (0, b)) :: keep lv i 1 ks = lv' b) (ho : keepOk (keep lv i 1 ks) i 1 = true) (hn : Nat.ble (i + 1) nL = true) (e : bd1 (wr (a + n)) K = some r) (k : ∀ b, InR b → K b = some r → X C z (lv' b) (pc + 3) st) : X C z lv pc st :=
  x_iinc G hd j hj ks (hk _) ho (Nat.le_of_ble_eq_true hn) (k _ (wr_in _) e)
end SB
theorem bip_ok : ∀ n : Nat, n < 256 → (Int8.ofInt ((n : Int) - 128)).toInt32 = iI ((n : Int) - 128) := by decide +kernel
theorem x_bip {C : Cx} {cc : ByteArray} {nL : Nat} {own : String} {z : Zs} {lv : LV} {pc : Nat} {st : List TV} (G : Gz C z cc nL own) {n : Int} (hd : decode cc pc = .ok (.bipush n, 2)) (hn : (decide (-128 ≤ n) && decide (n < 128)) = true) (k : X C z lv (pc + 2) ((0, n) :: st)) : X C z lv pc st := by
  simp only [Bool.and_eq_true, decide_eq_true_eq] at hn
  refine x_bipush G hd ?_ k
  have := bip_ok (n + 128).toNat (by omega)
  rw [show (((n + 128).toNat : Nat) : Int) - 128 = n by omega] at this
  exact this
theorem x_sip {C : Cx} {cc : ByteArray} {nL : Nat} {own : String} {z : Zs} {lv : LV} {pc : Nat} {st : List TV} (G : Gz C z cc nL own) {n : Int} (hd : decode cc pc = .ok (.sipush n, 3)) (hn : (decide (-32768 ≤ n) && decide (n < 32768)) = true) (k : X C z lv (pc + 3) ((0, n) :: st)) : X C z lv pc st := by
  simp only [Bool.and_eq_true, decide_eq_true_eq] at hn
  refine x_sipush G hd ?_ k
  rw [← Int32.toInt_inj, Int16.toInt_toInt32, iI_toInt ⟨by omega, by omega⟩]
  exact Int16.toInt_ofInt_of_le (by omega) (by omega)
def GtI (k idx : Nat) : Prop := FdM k idx ∧ LN k = 0 ∧ (FY k == 4) = false
def GtL (k idx : Nat) : Prop := FdM k idx ∧ LN k = 0 ∧ FY k = 4
def GtA (k idx : Nat) : Prop := FdM k idx ∧ decide (0 < LN k) = true
def PtM (k idx : Nat) (ty : FieldType) (t : Nat) : Prop := FdM k idx ∧ LN k = 0 ∧ FY k = t ∧ tyX4 k = ty ∧ (TX4 k).2.2.2 = false
section FM3
variable {C : Cx} {cc : ByteArray} {nL : Nat} {G : GF} {n : Nat} {σ : MS} {lv : LV} {pc : Nat} {st : List TV}
theorem f_gi (g : Gf C cc nL G) {k idx : Nat} (h : GtI k idx) (hd : decode cc pc = .ok (.getfield idx, 3)) (kk : X C (zF G n σ) lv (pc + 3) ((0, σ k 0) :: st)) : X C (zF G n σ) lv pc ((2, (gM G : Int)) :: st) := f_geti g h.1 hd h.2.1 h.2.2 kk
theorem f_gl (g : Gf C cc nL G) {k idx : Nat} (h : GtL k idx) (hd : decode cc pc = .ok (.getfield idx, 3)) (kk : X C (zF G n σ) lv (pc + 3) ((1, σ k 0) :: st)) : X C (zF G n σ) lv pc ((2, (gM G : Int)) :: st) := f_getl g h.1 hd h.2.1 h.2.2 kk
theorem f_ga (g : Gf C cc nL G) {k idx : Nat} (h : GtA k idx) (hd : decode cc pc = .ok (.getfield idx, 3)) (kk : X C (zF G n σ) lv (pc + 3) ((2, (gA G k : Int)) :: st)) : X C (zF G n σ) lv pc ((2, (gM G : Int)) :: st) := f_geta g h.1 hd h.2 kk
theorem PtM.ty {k idx : Nat} {ty : FieldType} {t : Nat} (h : PtM k idx ty t) : parseFieldDescriptor (TX4 k).2.2.1 = some ty := by rw [tyX4_ok k h.1.1, h.2.2.2.1]
theorem f_pi {ρ : Type} (g : Gf C cc nL G) {k idx : Nat} (h : PtM k idx .int 0) {v : Int} {K : MS → Option ρ} {r : ρ} (hd : decode cc pc = .ok (.putfield idx, 3)) (hT : TF σ) (hv : InR v) (e : bd1 (up σ k 0 v) K = some r) (kk : ∀ σ', TF σ' → K σ' = some r → X C (zF G n σ') lv (pc + 3) st) : X C (zF G n σ) lv pc ((0, v) :: (2, (gM G : Int)) :: st) :=
  f_puti g h.1 hd h.2.1 h.2.2.1 hT h.ty h.2.2.2.2 hv e kk
theorem f_pz {ρ : Type} (g : Gf C cc nL G) {k idx : Nat} (h : PtM k idx .boolean 1) {v : Int} {K : MS → Option ρ} {r : ρ} (hd : decode cc pc = .ok (.putfield idx, 3)) (hT : TF σ) (hv : TI 1 v) (e : bd1 (up σ k 0 v) K = some r) (kk : ∀ σ', TF σ' → K σ' = some r → X C (zF G n σ') lv (pc + 3) st) : X C (zF G n σ) lv pc ((0, v) :: (2, (gM G : Int)) :: st) :=
  f_putz g h.1 hd h.2.1 h.2.2.1 hT h.ty h.2.2.2.2 hv e kk
theorem f_pl {ρ : Type} (g : Gf C cc nL G) {k idx : Nat} (h : PtM k idx .long 4) {v : Int} {K : MS → Option ρ} {r : ρ} (hd : decode cc pc = .ok (.putfield idx, 3)) (hT : TF σ) (hv : In64 v) (e : bd1 (up σ k 0 v) K = some r) (kk : ∀ σ', TF σ' → K σ' = some r → X C (zF G n σ') lv (pc + 3) st) : X C (zF G n σ) lv pc ((1, v) :: (2, (gM G : Int)) :: st) :=
  f_putl g h.1 hd h.2.1 h.2.2.1 hT h.ty h.2.2.2.2 hv e kk
end FM3
theorem fM_0 : FdM 0 7 := ⟨Nat.le_of_ble_eq_true rfl, q2806, rfl⟩
theorem FYe_0 : FY 0 = 0 := rfl
theorem gM_0 : GtA 0 7 := ⟨fM_0, rfl⟩
theorem LNe_0 : LN 0 = 576 := rfl
theorem fM_1 : FdM 1 13 := ⟨Nat.le_of_ble_eq_true rfl, q2807, rfl⟩
theorem FYe_1 : FY 1 = 0 := rfl
theorem gM_1 : GtA 1 13 := ⟨fM_1, rfl⟩
theorem LNe_1 : LN 1 = 24 := rfl
theorem fM_2 : FdM 2 16 := ⟨Nat.le_of_ble_eq_true rfl, q2808, rfl⟩
theorem FYe_2 : FY 2 = 0 := rfl
theorem gM_2 : GtA 2 16 := ⟨fM_2, rfl⟩
theorem LNe_2 : LN 2 = 576 := rfl
theorem fM_3 : FdM 3 19 := ⟨Nat.le_of_ble_eq_true rfl, q2809, rfl⟩
theorem FYe_3 : FY 3 = 0 := rfl
theorem gM_3 : GtA 3 19 := ⟨fM_3, rfl⟩
theorem LNe_3 : LN 3 = 24 := rfl
theorem fM_4 : FdM 4 249 := ⟨Nat.le_of_ble_eq_true rfl, q2810, rfl⟩
theorem FYe_4 : FY 4 = 0 := rfl
theorem gM_4 : GtI 4 249 := ⟨fM_4, rfl, rfl⟩
theorem pM_4 : PtM 4 249 .int 0 := ⟨fM_4, rfl, rfl, rfl, rfl⟩
theorem fM_5 : FdM 5 22 := ⟨Nat.le_of_ble_eq_true rfl, q2811, rfl⟩
theorem FYe_5 : FY 5 = 0 := rfl
theorem gM_5 : GtA 5 22 := ⟨fM_5, rfl⟩
theorem LNe_5 : LN 5 = 6 := rfl
theorem fM_6 : FdM 6 640 := ⟨Nat.le_of_ble_eq_true rfl, q2812, rfl⟩
theorem FYe_6 : FY 6 = 0 := rfl
theorem gM_6 : GtI 6 640 := ⟨fM_6, rfl, rfl⟩
theorem pM_6 : PtM 6 640 .int 0 := ⟨fM_6, rfl, rfl, rfl, rfl⟩
theorem fM_7 : FdM 7 757 := ⟨Nat.le_of_ble_eq_true rfl, q2813, rfl⟩
theorem FYe_7 : FY 7 = 0 := rfl
theorem gM_7 : GtI 7 757 := ⟨fM_7, rfl, rfl⟩
theorem pM_7 : PtM 7 757 .int 0 := ⟨fM_7, rfl, rfl, rfl, rfl⟩
theorem fM_8 : FdM 8 25 := ⟨Nat.le_of_ble_eq_true rfl, q2814, rfl⟩
theorem FYe_8 : FY 8 = 0 := rfl
theorem gM_8 : GtA 8 25 := ⟨fM_8, rfl⟩
theorem LNe_8 : LN 8 = 3 := rfl
theorem fM_9 : FdM 9 28 := ⟨Nat.le_of_ble_eq_true rfl, q2815, rfl⟩
theorem FYe_9 : FY 9 = 0 := rfl
theorem gM_9 : GtA 9 28 := ⟨fM_9, rfl⟩
theorem LNe_9 : LN 9 = 3 := rfl
theorem fM_10 : FdM 10 31 := ⟨Nat.le_of_ble_eq_true rfl, q2816, rfl⟩
theorem FYe_10 : FY 10 = 0 := rfl
theorem gM_10 : GtA 10 31 := ⟨fM_10, rfl⟩
theorem LNe_10 : LN 10 = 3 := rfl
theorem fM_11 : FdM 11 34 := ⟨Nat.le_of_ble_eq_true rfl, q2817, rfl⟩
theorem FYe_11 : FY 11 = 0 := rfl
theorem gM_11 : GtA 11 34 := ⟨fM_11, rfl⟩
theorem LNe_11 : LN 11 = 3 := rfl
theorem fM_12 : FdM 12 37 := ⟨Nat.le_of_ble_eq_true rfl, q2818, rfl⟩
theorem FYe_12 : FY 12 = 0 := rfl
theorem gM_12 : GtA 12 37 := ⟨fM_12, rfl⟩
theorem LNe_12 : LN 12 = 18 := rfl
theorem fM_13 : FdM 13 40 := ⟨Nat.le_of_ble_eq_true rfl, q2819, rfl⟩
theorem FYe_13 : FY 13 = 0 := rfl
theorem gM_13 : GtA 13 40 := ⟨fM_13, rfl⟩
theorem LNe_13 : LN 13 = 3 := rfl
theorem fM_14 : FdM 14 760 := ⟨Nat.le_of_ble_eq_true rfl, q2820, rfl⟩
theorem FYe_14 : FY 14 = 1 := rfl
theorem gM_14 : GtI 14 760 := ⟨fM_14, rfl, rfl⟩
theorem pM_14 : PtM 14 760 .boolean 1 := ⟨fM_14, rfl, rfl, rfl, rfl⟩
theorem fM_15 : FdM 15 253 := ⟨Nat.le_of_ble_eq_true rfl, q2821, rfl⟩
theorem FYe_15 : FY 15 = 0 := rfl
theorem gM_15 : GtI 15 253 := ⟨fM_15, rfl, rfl⟩
theorem pM_15 : PtM 15 253 .int 0 := ⟨fM_15, rfl, rfl, rfl, rfl⟩
theorem fM_16 : FdM 16 43 := ⟨Nat.le_of_ble_eq_true rfl, q2822, rfl⟩
theorem FYe_16 : FY 16 = 0 := rfl
theorem gM_16 : GtA 16 43 := ⟨fM_16, rfl⟩
theorem LNe_16 : LN 16 = 600 := rfl
theorem fM_17 : FdM 17 46 := ⟨Nat.le_of_ble_eq_true rfl, q2823, rfl⟩
theorem FYe_17 : FY 17 = 0 := rfl
theorem gM_17 : GtA 17 46 := ⟨fM_17, rfl⟩
theorem LNe_17 : LN 17 = 600 := rfl
theorem fM_18 : FdM 18 49 := ⟨Nat.le_of_ble_eq_true rfl, q2824, rfl⟩
theorem FYe_18 : FY 18 = 0 := rfl
theorem gM_18 : GtA 18 49 := ⟨fM_18, rfl⟩
theorem LNe_18 : LN 18 = 600 := rfl
theorem fM_19 : FdM 19 52 := ⟨Nat.le_of_ble_eq_true rfl, q2825, rfl⟩
theorem FYe_19 : FY 19 = 0 := rfl
theorem gM_19 : GtA 19 52 := ⟨fM_19, rfl⟩
theorem LNe_19 : LN 19 = 600 := rfl
theorem fM_20 : FdM 20 55 := ⟨Nat.le_of_ble_eq_true rfl, q2826, rfl⟩
theorem FYe_20 : FY 20 = 0 := rfl
theorem gM_20 : GtA 20 55 := ⟨fM_20, rfl⟩
theorem LNe_20 : LN 20 = 3 := rfl
theorem fM_21 : FdM 21 58 := ⟨Nat.le_of_ble_eq_true rfl, q2827, rfl⟩
theorem FYe_21 : FY 21 = 1 := rfl
theorem gM_21 : GtA 21 58 := ⟨fM_21, rfl⟩
theorem LNe_21 : LN 21 = 24 := rfl
theorem fM_22 : FdM 22 62 := ⟨Nat.le_of_ble_eq_true rfl, q2828, rfl⟩
theorem FYe_22 : FY 22 = 1 := rfl
theorem gM_22 : GtA 22 62 := ⟨fM_22, rfl⟩
theorem LNe_22 : LN 22 = 576 := rfl
theorem fM_23 : FdM 23 268 := ⟨Nat.le_of_ble_eq_true rfl, q2829, rfl⟩
theorem FYe_23 : FY 23 = 1 := rfl
theorem gM_23 : GtI 23 268 := ⟨fM_23, rfl, rfl⟩
theorem pM_23 : PtM 23 268 .boolean 1 := ⟨fM_23, rfl, rfl, rfl, rfl⟩
theorem fM_24 : FdM 24 65 := ⟨Nat.le_of_ble_eq_true rfl, q2830, rfl⟩
theorem FYe_24 : FY 24 = 0 := rfl
theorem gM_24 : GtA 24 65 := ⟨fM_24, rfl⟩
theorem LNe_24 : LN 24 = 210 := rfl
theorem fM_25 : FdM 25 438 := ⟨Nat.le_of_ble_eq_true rfl, q2831, rfl⟩
theorem FYe_25 : FY 25 = 0 := rfl
theorem gM_25 : GtI 25 438 := ⟨fM_25, rfl, rfl⟩
theorem pM_25 : PtM 25 438 .int 0 := ⟨fM_25, rfl, rfl, rfl, rfl⟩
theorem fM_26 : FdM 26 355 := ⟨Nat.le_of_ble_eq_true rfl, q2832, rfl⟩
theorem FYe_26 : FY 26 = 0 := rfl
theorem gM_26 : GtI 26 355 := ⟨fM_26, rfl, rfl⟩
theorem pM_26 : PtM 26 355 .int 0 := ⟨fM_26, rfl, rfl, rfl, rfl⟩
theorem fM_27 : FdM 27 315 := ⟨Nat.le_of_ble_eq_true rfl, q2833, rfl⟩
theorem FYe_27 : FY 27 = 0 := rfl
theorem gM_27 : GtI 27 315 := ⟨fM_27, rfl, rfl⟩
theorem pM_27 : PtM 27 315 .int 0 := ⟨fM_27, rfl, rfl, rfl, rfl⟩
theorem fM_28 : FdM 28 68 := ⟨Nat.le_of_ble_eq_true rfl, q2834, rfl⟩
theorem FYe_28 : FY 28 = 0 := rfl
theorem gM_28 : GtA 28 68 := ⟨fM_28, rfl⟩
theorem LNe_28 : LN 28 = 1600 := rfl
theorem fM_29 : FdM 29 71 := ⟨Nat.le_of_ble_eq_true rfl, q2835, rfl⟩
theorem FYe_29 : FY 29 = 0 := rfl
theorem gM_29 : GtA 29 71 := ⟨fM_29, rfl⟩
theorem LNe_29 : LN 29 = 1600 := rfl
theorem fM_30 : FdM 30 74 := ⟨Nat.le_of_ble_eq_true rfl, q2836, rfl⟩
theorem FYe_30 : FY 30 = 0 := rfl
theorem gM_30 : GtA 30 74 := ⟨fM_30, rfl⟩
theorem LNe_30 : LN 30 = 1600 := rfl
theorem fM_31 : FdM 31 77 := ⟨Nat.le_of_ble_eq_true rfl, q2837, rfl⟩
theorem FYe_31 : FY 31 = 0 := rfl
theorem gM_31 : GtA 31 77 := ⟨fM_31, rfl⟩
theorem LNe_31 : LN 31 = 1600 := rfl
theorem fM_32 : FdM 32 80 := ⟨Nat.le_of_ble_eq_true rfl, q2838, rfl⟩
theorem FYe_32 : FY 32 = 0 := rfl
theorem gM_32 : GtA 32 80 := ⟨fM_32, rfl⟩
theorem LNe_32 : LN 32 = 1600 := rfl
theorem fM_33 : FdM 33 83 := ⟨Nat.le_of_ble_eq_true rfl, q2839, rfl⟩
theorem FYe_33 : FY 33 = 0 := rfl
theorem gM_33 : GtA 33 83 := ⟨fM_33, rfl⟩
theorem LNe_33 : LN 33 = 1600 := rfl
theorem fM_34 : FdM 34 86 := ⟨Nat.le_of_ble_eq_true rfl, q2840, rfl⟩
theorem FYe_34 : FY 34 = 0 := rfl
theorem gM_34 : GtA 34 86 := ⟨fM_34, rfl⟩
theorem LNe_34 : LN 34 = 1600 := rfl
theorem fM_35 : FdM 35 89 := ⟨Nat.le_of_ble_eq_true rfl, q2841, rfl⟩
theorem FYe_35 : FY 35 = 0 := rfl
theorem gM_35 : GtA 35 89 := ⟨fM_35, rfl⟩
theorem LNe_35 : LN 35 = 1600 := rfl
theorem fM_36 : FdM 36 92 := ⟨Nat.le_of_ble_eq_true rfl, q2842, rfl⟩
theorem FYe_36 : FY 36 = 0 := rfl
theorem gM_36 : GtA 36 92 := ⟨fM_36, rfl⟩
theorem LNe_36 : LN 36 = 1600 := rfl
theorem fM_37 : FdM 37 318 := ⟨Nat.le_of_ble_eq_true rfl, q2843, rfl⟩
theorem FYe_37 : FY 37 = 0 := rfl
theorem gM_37 : GtI 37 318 := ⟨fM_37, rfl, rfl⟩
theorem pM_37 : PtM 37 318 .int 0 := ⟨fM_37, rfl, rfl, rfl, rfl⟩
theorem fM_38 : FdM 38 95 := ⟨Nat.le_of_ble_eq_true rfl, q2844, rfl⟩
theorem FYe_38 : FY 38 = 0 := rfl
theorem gM_38 : GtA 38 95 := ⟨fM_38, rfl⟩
theorem LNe_38 : LN 38 = 600 := rfl
theorem fM_39 : FdM 39 98 := ⟨Nat.le_of_ble_eq_true rfl, q2845, rfl⟩
theorem FYe_39 : FY 39 = 0 := rfl
theorem gM_39 : GtA 39 98 := ⟨fM_39, rfl⟩
theorem LNe_39 : LN 39 = 600 := rfl
theorem fM_40 : FdM 40 101 := ⟨Nat.le_of_ble_eq_true rfl, q2846, rfl⟩
theorem FYe_40 : FY 40 = 0 := rfl
theorem gM_40 : GtA 40 101 := ⟨fM_40, rfl⟩
theorem LNe_40 : LN 40 = 600 := rfl
theorem fM_41 : FdM 41 395 := ⟨Nat.le_of_ble_eq_true rfl, q2847, rfl⟩
theorem FYe_41 : FY 41 = 0 := rfl
theorem gM_41 : GtI 41 395 := ⟨fM_41, rfl, rfl⟩
theorem pM_41 : PtM 41 395 .int 0 := ⟨fM_41, rfl, rfl, rfl, rfl⟩
theorem fM_42 : FdM 42 104 := ⟨Nat.le_of_ble_eq_true rfl, q2848, rfl⟩
theorem FYe_42 : FY 42 = 0 := rfl
theorem gM_42 : GtA 42 104 := ⟨fM_42, rfl⟩
theorem LNe_42 : LN 42 = 210 := rfl
theorem fM_43 : FdM 43 107 := ⟨Nat.le_of_ble_eq_true rfl, q2849, rfl⟩
theorem FYe_43 : FY 43 = 0 := rfl
theorem gM_43 : GtA 43 107 := ⟨fM_43, rfl⟩
theorem LNe_43 : LN 43 = 210 := rfl
theorem fM_44 : FdM 44 110 := ⟨Nat.le_of_ble_eq_true rfl, q2850, rfl⟩
theorem FYe_44 : FY 44 = 0 := rfl
theorem gM_44 : GtA 44 110 := ⟨fM_44, rfl⟩
theorem LNe_44 : LN 44 = 210 := rfl
theorem fM_45 : FdM 45 113 := ⟨Nat.le_of_ble_eq_true rfl, q2851, rfl⟩
theorem FYe_45 : FY 45 = 0 := rfl
theorem gM_45 : GtA 45 113 := ⟨fM_45, rfl⟩
theorem LNe_45 : LN 45 = 210 := rfl
theorem fM_46 : FdM 46 426 := ⟨Nat.le_of_ble_eq_true rfl, q2852, rfl⟩
theorem FYe_46 : FY 46 = 0 := rfl
theorem gM_46 : GtI 46 426 := ⟨fM_46, rfl, rfl⟩
theorem pM_46 : PtM 46 426 .int 0 := ⟨fM_46, rfl, rfl, rfl, rfl⟩
theorem fM_47 : FdM 47 116 := ⟨Nat.le_of_ble_eq_true rfl, q2853, rfl⟩
theorem FYe_47 : FY 47 = 0 := rfl
theorem gM_47 : GtA 47 116 := ⟨fM_47, rfl⟩
theorem LNe_47 : LN 47 = 210 := rfl
theorem fM_48 : FdM 48 382 := ⟨Nat.le_of_ble_eq_true rfl, q2854, rfl⟩
theorem FYe_48 : FY 48 = 0 := rfl
theorem gM_48 : GtI 48 382 := ⟨fM_48, rfl, rfl⟩
theorem pM_48 : PtM 48 382 .int 0 := ⟨fM_48, rfl, rfl, rfl, rfl⟩
theorem fM_49 : FdM 49 385 := ⟨Nat.le_of_ble_eq_true rfl, q2855, rfl⟩
theorem FYe_49 : FY 49 = 0 := rfl
theorem gM_49 : GtI 49 385 := ⟨fM_49, rfl, rfl⟩
theorem pM_49 : PtM 49 385 .int 0 := ⟨fM_49, rfl, rfl, rfl, rfl⟩
theorem fM_50 : FdM 50 119 := ⟨Nat.le_of_ble_eq_true rfl, q2856, rfl⟩
theorem FYe_50 : FY 50 = 0 := rfl
theorem gM_50 : GtA 50 119 := ⟨fM_50, rfl⟩
theorem LNe_50 : LN 50 = 420 := rfl
theorem fM_51 : FdM 51 321 := ⟨Nat.le_of_ble_eq_true rfl, q2857, rfl⟩
theorem FYe_51 : FY 51 = 0 := rfl
theorem gM_51 : GtI 51 321 := ⟨fM_51, rfl, rfl⟩
theorem pM_51 : PtM 51 321 .int 0 := ⟨fM_51, rfl, rfl, rfl, rfl⟩
theorem fM_52 : FdM 52 122 := ⟨Nat.le_of_ble_eq_true rfl, q2858, rfl⟩
theorem FYe_52 : FY 52 = 0 := rfl
theorem gM_52 : GtA 52 122 := ⟨fM_52, rfl⟩
theorem LNe_52 : LN 52 = 420 := rfl
theorem fM_53 : FdM 53 324 := ⟨Nat.le_of_ble_eq_true rfl, q2859, rfl⟩
theorem FYe_53 : FY 53 = 0 := rfl
theorem gM_53 : GtI 53 324 := ⟨fM_53, rfl, rfl⟩
theorem pM_53 : PtM 53 324 .int 0 := ⟨fM_53, rfl, rfl, rfl, rfl⟩
theorem fM_54 : FdM 54 339 := ⟨Nat.le_of_ble_eq_true rfl, q2860, rfl⟩
theorem FYe_54 : FY 54 = 0 := rfl
theorem gM_54 : GtI 54 339 := ⟨fM_54, rfl, rfl⟩
theorem pM_54 : PtM 54 339 .int 0 := ⟨fM_54, rfl, rfl, rfl, rfl⟩
theorem fM_55 : FdM 55 125 := ⟨Nat.le_of_ble_eq_true rfl, q2861, rfl⟩
theorem FYe_55 : FY 55 = 0 := rfl
theorem gM_55 : GtA 55 125 := ⟨fM_55, rfl⟩
theorem LNe_55 : LN 55 = 210 := rfl
theorem fM_56 : FdM 56 128 := ⟨Nat.le_of_ble_eq_true rfl, q2862, rfl⟩
theorem FYe_56 : FY 56 = 0 := rfl
theorem gM_56 : GtA 56 128 := ⟨fM_56, rfl⟩
theorem LNe_56 : LN 56 = 210 := rfl
theorem fM_57 : FdM 57 131 := ⟨Nat.le_of_ble_eq_true rfl, q2863, rfl⟩
theorem FYe_57 : FY 57 = 1 := rfl
theorem gM_57 : GtA 57 131 := ⟨fM_57, rfl⟩
theorem LNe_57 : LN 57 = 210 := rfl
theorem fM_58 : FdM 58 365 := ⟨Nat.le_of_ble_eq_true rfl, q2864, rfl⟩
theorem FYe_58 : FY 58 = 1 := rfl
theorem gM_58 : GtI 58 365 := ⟨fM_58, rfl, rfl⟩
theorem pM_58 : PtM 58 365 .boolean 1 := ⟨fM_58, rfl, rfl, rfl, rfl⟩
theorem fM_59 : FdM 59 379 := ⟨Nat.le_of_ble_eq_true rfl, q2865, rfl⟩
theorem FYe_59 : FY 59 = 0 := rfl
theorem gM_59 : GtI 59 379 := ⟨fM_59, rfl, rfl⟩
theorem pM_59 : PtM 59 379 .int 0 := ⟨fM_59, rfl, rfl, rfl, rfl⟩
theorem fM_60 : FdM 60 342 := ⟨Nat.le_of_ble_eq_true rfl, q2866, rfl⟩
theorem FYe_60 : FY 60 = 0 := rfl
theorem gM_60 : GtI 60 342 := ⟨fM_60, rfl, rfl⟩
theorem pM_60 : PtM 60 342 .int 0 := ⟨fM_60, rfl, rfl, rfl, rfl⟩
theorem fM_61 : FdM 61 134 := ⟨Nat.le_of_ble_eq_true rfl, q2867, rfl⟩
theorem FYe_61 : FY 61 = 0 := rfl
theorem gM_61 : GtA 61 134 := ⟨fM_61, rfl⟩
theorem LNe_61 : LN 61 = 210 := rfl
theorem fM_62 : FdM 62 137 := ⟨Nat.le_of_ble_eq_true rfl, q2868, rfl⟩
theorem FYe_62 : FY 62 = 0 := rfl
theorem gM_62 : GtA 62 137 := ⟨fM_62, rfl⟩
theorem LNe_62 : LN 62 = 210 := rfl
theorem fM_63 : FdM 63 368 := ⟨Nat.le_of_ble_eq_true rfl, q2869, rfl⟩
theorem FYe_63 : FY 63 = 1 := rfl
theorem gM_63 : GtI 63 368 := ⟨fM_63, rfl, rfl⟩
theorem pM_63 : PtM 63 368 .boolean 1 := ⟨fM_63, rfl, rfl, rfl, rfl⟩
theorem fM_64 : FdM 64 140 := ⟨Nat.le_of_ble_eq_true rfl, q2870, rfl⟩
theorem FYe_64 : FY 64 = 0 := rfl
theorem gM_64 : GtA 64 140 := ⟨fM_64, rfl⟩
theorem LNe_64 : LN 64 = 3 := rfl
theorem fM_65 : FdM 65 143 := ⟨Nat.le_of_ble_eq_true rfl, q2871, rfl⟩
theorem FYe_65 : FY 65 = 0 := rfl
theorem gM_65 : GtA 65 143 := ⟨fM_65, rfl⟩
theorem LNe_65 : LN 65 = 3 := rfl
theorem fM_66 : FdM 66 146 := ⟨Nat.le_of_ble_eq_true rfl, q2872, rfl⟩
theorem FYe_66 : FY 66 = 0 := rfl
theorem gM_66 : GtA 66 146 := ⟨fM_66, rfl⟩
theorem LNe_66 : LN 66 = 600 := rfl
theorem fM_67 : FdM 67 149 := ⟨Nat.le_of_ble_eq_true rfl, q2873, rfl⟩
theorem FYe_67 : FY 67 = 0 := rfl
theorem gM_67 : GtA 67 149 := ⟨fM_67, rfl⟩
theorem LNe_67 : LN 67 = 600 := rfl
theorem fM_68 : FdM 68 152 := ⟨Nat.le_of_ble_eq_true rfl, q2874, rfl⟩
theorem FYe_68 : FY 68 = 0 := rfl
theorem gM_68 : GtA 68 152 := ⟨fM_68, rfl⟩
theorem LNe_68 : LN 68 = 600 := rfl
theorem fM_69 : FdM 69 155 := ⟨Nat.le_of_ble_eq_true rfl, q2875, rfl⟩
theorem FYe_69 : FY 69 = 0 := rfl
theorem gM_69 : GtA 69 155 := ⟨fM_69, rfl⟩
theorem LNe_69 : LN 69 = 4 := rfl
theorem fM_70 : FdM 70 158 := ⟨Nat.le_of_ble_eq_true rfl, q2876, rfl⟩
theorem FYe_70 : FY 70 = 0 := rfl
theorem gM_70 : GtA 70 158 := ⟨fM_70, rfl⟩
theorem LNe_70 : LN 70 = 1600 := rfl
theorem fM_71 : FdM 71 456 := ⟨Nat.le_of_ble_eq_true rfl, q2877, rfl⟩
theorem FYe_71 : FY 71 = 0 := rfl
theorem gM_71 : GtI 71 456 := ⟨fM_71, rfl, rfl⟩
theorem pM_71 : PtM 71 456 .int 0 := ⟨fM_71, rfl, rfl, rfl, rfl⟩
theorem fM_72 : FdM 72 161 := ⟨Nat.le_of_ble_eq_true rfl, q2878, rfl⟩
theorem FYe_72 : FY 72 = 0 := rfl
theorem gM_72 : GtA 72 161 := ⟨fM_72, rfl⟩
theorem LNe_72 : LN 72 = 3200 := rfl
theorem fM_73 : FdM 73 450 := ⟨Nat.le_of_ble_eq_true rfl, q2879, rfl⟩
theorem FYe_73 : FY 73 = 0 := rfl
theorem gM_73 : GtI 73 450 := ⟨fM_73, rfl, rfl⟩
theorem pM_73 : PtM 73 450 .int 0 := ⟨fM_73, rfl, rfl, rfl, rfl⟩
theorem fM_74 : FdM 74 164 := ⟨Nat.le_of_ble_eq_true rfl, q2880, rfl⟩
theorem FYe_74 : FY 74 = 0 := rfl
theorem gM_74 : GtA 74 164 := ⟨fM_74, rfl⟩
theorem LNe_74 : LN 74 = 600 := rfl
theorem fM_75 : FdM 75 167 := ⟨Nat.le_of_ble_eq_true rfl, q2881, rfl⟩
theorem FYe_75 : FY 75 = 0 := rfl
theorem gM_75 : GtA 75 167 := ⟨fM_75, rfl⟩
theorem LNe_75 : LN 75 = 1600 := rfl
theorem fM_76 : FdM 76 170 := ⟨Nat.le_of_ble_eq_true rfl, q2882, rfl⟩
theorem FYe_76 : FY 76 = 0 := rfl
theorem gM_76 : GtA 76 170 := ⟨fM_76, rfl⟩
theorem LNe_76 : LN 76 = 2200 := rfl
theorem fM_77 : FdM 77 173 := ⟨Nat.le_of_ble_eq_true rfl, q2883, rfl⟩
theorem FYe_77 : FY 77 = 0 := rfl
theorem gM_77 : GtA 77 173 := ⟨fM_77, rfl⟩
theorem LNe_77 : LN 77 = 2200 := rfl
theorem fM_78 : FdM 78 502 := ⟨Nat.le_of_ble_eq_true rfl, q2884, rfl⟩
theorem FYe_78 : FY 78 = 0 := rfl
theorem gM_78 : GtI 78 502 := ⟨fM_78, rfl, rfl⟩
theorem pM_78 : PtM 78 502 .int 0 := ⟨fM_78, rfl, rfl, rfl, rfl⟩
theorem fM_79 : FdM 79 176 := ⟨Nat.le_of_ble_eq_true rfl, q2885, rfl⟩
theorem FYe_79 : FY 79 = 0 := rfl
theorem gM_79 : GtA 79 176 := ⟨fM_79, rfl⟩
theorem LNe_79 : LN 79 = 2000 := rfl
theorem fM_80 : FdM 80 537 := ⟨Nat.le_of_ble_eq_true rfl, q2886, rfl⟩
theorem FYe_80 : FY 80 = 4 := rfl
theorem gM_80 : GtL 80 537 := ⟨fM_80, rfl, rfl⟩
theorem pM_80 : PtM 80 537 .long 4 := ⟨fM_80, rfl, rfl, rfl, rfl⟩
theorem fM_81 : FdM 81 179 := ⟨Nat.le_of_ble_eq_true rfl, q2887, rfl⟩
theorem FYe_81 : FY 81 = 0 := rfl
theorem gM_81 : GtA 81 179 := ⟨fM_81, rfl⟩
theorem LNe_81 : LN 81 = 4000 := rfl
theorem fM_82 : FdM 82 553 := ⟨Nat.le_of_ble_eq_true rfl, q2888, rfl⟩
theorem FYe_82 : FY 82 = 0 := rfl
theorem gM_82 : GtI 82 553 := ⟨fM_82, rfl, rfl⟩
theorem pM_82 : PtM 82 553 .int 0 := ⟨fM_82, rfl, rfl, rfl, rfl⟩
theorem fM_83 : FdM 83 182 := ⟨Nat.le_of_ble_eq_true rfl, q2889, rfl⟩
theorem FYe_83 : FY 83 = 4 := rfl
theorem gM_83 : GtA 83 182 := ⟨fM_83, rfl⟩
theorem LNe_83 : LN 83 = 2000 := rfl
theorem fM_84 : FdM 84 556 := ⟨Nat.le_of_ble_eq_true rfl, q2890, rfl⟩
theorem FYe_84 : FY 84 = 0 := rfl
theorem gM_84 : GtI 84 556 := ⟨fM_84, rfl, rfl⟩
theorem pM_84 : PtM 84 556 .int 0 := ⟨fM_84, rfl, rfl, rfl, rfl⟩
theorem fM_85 : FdM 85 186 := ⟨Nat.le_of_ble_eq_true rfl, q2891, rfl⟩
theorem FYe_85 : FY 85 = 4 := rfl
theorem gM_85 : GtA 85 186 := ⟨fM_85, rfl⟩
theorem LNe_85 : LN 85 = 2400 := rfl
theorem fM_86 : FdM 86 189 := ⟨Nat.le_of_ble_eq_true rfl, q2892, rfl⟩
theorem FYe_86 : FY 86 = 0 := rfl
theorem gM_86 : GtA 86 189 := ⟨fM_86, rfl⟩
theorem LNe_86 : LN 86 = 5 := rfl
theorem fM_87 : FdM 87 559 := ⟨Nat.le_of_ble_eq_true rfl, q2893, rfl⟩
theorem FYe_87 : FY 87 = 0 := rfl
theorem gM_87 : GtI 87 559 := ⟨fM_87, rfl, rfl⟩
theorem pM_87 : PtM 87 559 .int 0 := ⟨fM_87, rfl, rfl, rfl, rfl⟩
theorem fM_88 : FdM 88 562 := ⟨Nat.le_of_ble_eq_true rfl, q2894, rfl⟩
theorem FYe_88 : FY 88 = 0 := rfl
theorem gM_88 : GtI 88 562 := ⟨fM_88, rfl, rfl⟩
theorem pM_88 : PtM 88 562 .int 0 := ⟨fM_88, rfl, rfl, rfl, rfl⟩
theorem fM_89 : FdM 89 192 := ⟨Nat.le_of_ble_eq_true rfl, q2895, rfl⟩
theorem FYe_89 : FY 89 = 0 := rfl
theorem gM_89 : GtA 89 192 := ⟨fM_89, rfl⟩
theorem LNe_89 : LN 89 = 3751 := rfl
theorem fM_90 : FdM 90 195 := ⟨Nat.le_of_ble_eq_true rfl, q2896, rfl⟩
theorem FYe_90 : FY 90 = 0 := rfl
theorem gM_90 : GtA 90 195 := ⟨fM_90, rfl⟩
theorem LNe_90 : LN 90 = 10 := rfl
theorem fM_91 : FdM 91 618 := ⟨Nat.le_of_ble_eq_true rfl, q2897, rfl⟩
theorem FYe_91 : FY 91 = 0 := rfl
theorem gM_91 : GtI 91 618 := ⟨fM_91, rfl, rfl⟩
theorem pM_91 : PtM 91 618 .int 0 := ⟨fM_91, rfl, rfl, rfl, rfl⟩
theorem fM_92 : FdM 92 615 := ⟨Nat.le_of_ble_eq_true rfl, q2898, rfl⟩
theorem FYe_92 : FY 92 = 1 := rfl
theorem gM_92 : GtI 92 615 := ⟨fM_92, rfl, rfl⟩
theorem pM_92 : PtM 92 615 .boolean 1 := ⟨fM_92, rfl, rfl, rfl, rfl⟩
theorem fM_93 : FdM 93 198 := ⟨Nat.le_of_ble_eq_true rfl, q2899, rfl⟩
theorem FYe_93 : FY 93 = 0 := rfl
theorem gM_93 : GtA 93 198 := ⟨fM_93, rfl⟩
theorem LNe_93 : LN 93 = 800 := rfl
theorem fM_94 : FdM 94 646 := ⟨Nat.le_of_ble_eq_true rfl, q2900, rfl⟩
theorem FYe_94 : FY 94 = 0 := rfl
theorem gM_94 : GtI 94 646 := ⟨fM_94, rfl, rfl⟩
theorem pM_94 : PtM 94 646 .int 0 := ⟨fM_94, rfl, rfl, rfl, rfl⟩
theorem fM_95 : FdM 95 201 := ⟨Nat.le_of_ble_eq_true rfl, q2901, rfl⟩
theorem FYe_95 : FY 95 = 0 := rfl
theorem gM_95 : GtA 95 201 := ⟨fM_95, rfl⟩
theorem LNe_95 : LN 95 = 210 := rfl
theorem fM_96 : FdM 96 204 := ⟨Nat.le_of_ble_eq_true rfl, q2902, rfl⟩
theorem FYe_96 : FY 96 = 0 := rfl
theorem gM_96 : GtA 96 204 := ⟨fM_96, rfl⟩
theorem LNe_96 : LN 96 = 210 := rfl
theorem fM_97 : FdM 97 207 := ⟨Nat.le_of_ble_eq_true rfl, q2903, rfl⟩
theorem FYe_97 : FY 97 = 0 := rfl
theorem gM_97 : GtA 97 207 := ⟨fM_97, rfl⟩
theorem LNe_97 : LN 97 = 576 := rfl
theorem fM_98 : FdM 98 210 := ⟨Nat.le_of_ble_eq_true rfl, q2904, rfl⟩
theorem FYe_98 : FY 98 = 0 := rfl
theorem gM_98 : GtA 98 210 := ⟨fM_98, rfl⟩
theorem LNe_98 : LN 98 = 24 := rfl
theorem fM_99 : FdM 99 213 := ⟨Nat.le_of_ble_eq_true rfl, q2905, rfl⟩
theorem FYe_99 : FY 99 = 0 := rfl
theorem gM_99 : GtA 99 213 := ⟨fM_99, rfl⟩
theorem LNe_99 : LN 99 = 1200 := rfl
theorem fM_100 : FdM 100 216 := ⟨Nat.le_of_ble_eq_true rfl, q2906, rfl⟩
theorem FYe_100 : FY 100 = 0 := rfl
theorem gM_100 : GtA 100 216 := ⟨fM_100, rfl⟩
theorem LNe_100 : LN 100 = 24 := rfl
theorem fM_101 : FdM 101 664 := ⟨Nat.le_of_ble_eq_true rfl, q2907, rfl⟩
theorem FYe_101 : FY 101 = 0 := rfl
theorem gM_101 : GtI 101 664 := ⟨fM_101, rfl, rfl⟩
theorem pM_101 : PtM 101 664 .int 0 := ⟨fM_101, rfl, rfl, rfl, rfl⟩
theorem fM_102 : FdM 102 667 := ⟨Nat.le_of_ble_eq_true rfl, q2908, rfl⟩
theorem FYe_102 : FY 102 = 1 := rfl
theorem gM_102 : GtI 102 667 := ⟨fM_102, rfl, rfl⟩
theorem pM_102 : PtM 102 667 .boolean 1 := ⟨fM_102, rfl, rfl, rfl, rfl⟩
theorem fM_103 : FdM 103 219 := ⟨Nat.le_of_ble_eq_true rfl, q2909, rfl⟩
theorem FYe_103 : FY 103 = 0 := rfl
theorem gM_103 : GtA 103 219 := ⟨fM_103, rfl⟩
theorem LNe_103 : LN 103 = 120 := rfl
theorem fM_104 : FdM 104 670 := ⟨Nat.le_of_ble_eq_true rfl, q2910, rfl⟩
theorem FYe_104 : FY 104 = 0 := rfl
theorem gM_104 : GtI 104 670 := ⟨fM_104, rfl, rfl⟩
theorem pM_104 : PtM 104 670 .int 0 := ⟨fM_104, rfl, rfl, rfl, rfl⟩
theorem fM_105 : FdM 105 679 := ⟨Nat.le_of_ble_eq_true rfl, q2911, rfl⟩
theorem FYe_105 : FY 105 = 0 := rfl
theorem gM_105 : GtI 105 679 := ⟨fM_105, rfl, rfl⟩
theorem pM_105 : PtM 105 679 .int 0 := ⟨fM_105, rfl, rfl, rfl, rfl⟩
theorem fM_106 : FdM 106 682 := ⟨Nat.le_of_ble_eq_true rfl, q2912, rfl⟩
theorem FYe_106 : FY 106 = 0 := rfl
theorem gM_106 : GtI 106 682 := ⟨fM_106, rfl, rfl⟩
theorem pM_106 : PtM 106 682 .int 0 := ⟨fM_106, rfl, rfl, rfl, rfl⟩
theorem fM_107 : FdM 107 685 := ⟨Nat.le_of_ble_eq_true rfl, q2913, rfl⟩
theorem FYe_107 : FY 107 = 0 := rfl
theorem gM_107 : GtI 107 685 := ⟨fM_107, rfl, rfl⟩
theorem pM_107 : PtM 107 685 .int 0 := ⟨fM_107, rfl, rfl, rfl, rfl⟩
theorem fM_108 : FdM 108 222 := ⟨Nat.le_of_ble_eq_true rfl, q2914, rfl⟩
theorem FYe_108 : FY 108 = 0 := rfl
theorem gM_108 : GtA 108 222 := ⟨fM_108, rfl⟩
theorem LNe_108 : LN 108 = 600 := rfl
theorem fM_109 : FdM 109 225 := ⟨Nat.le_of_ble_eq_true rfl, q2915, rfl⟩
theorem FYe_109 : FY 109 = 0 := rfl
theorem gM_109 : GtA 109 225 := ⟨fM_109, rfl⟩
theorem LNe_109 : LN 109 = 600 := rfl
theorem fM_110 : FdM 110 228 := ⟨Nat.le_of_ble_eq_true rfl, q2916, rfl⟩
theorem FYe_110 : FY 110 = 1 := rfl
theorem gM_110 : GtA 110 228 := ⟨fM_110, rfl⟩
theorem LNe_110 : LN 110 = 600 := rfl
theorem fM_111 : FdM 111 231 := ⟨Nat.le_of_ble_eq_true rfl, q2917, rfl⟩
theorem FYe_111 : FY 111 = 0 := rfl
theorem gM_111 : GtA 111 231 := ⟨fM_111, rfl⟩
theorem LNe_111 : LN 111 = 24 := rfl
theorem fM_112 : FdM 112 234 := ⟨Nat.le_of_ble_eq_true rfl, q2918, rfl⟩
theorem FYe_112 : FY 112 = 0 := rfl
theorem gM_112 : GtA 112 234 := ⟨fM_112, rfl⟩
theorem LNe_112 : LN 112 = 24 := rfl
theorem fM_113 : FdM 113 237 := ⟨Nat.le_of_ble_eq_true rfl, q2919, rfl⟩
theorem FYe_113 : FY 113 = 0 := rfl
theorem gM_113 : GtA 113 237 := ⟨fM_113, rfl⟩
theorem LNe_113 : LN 113 = 601 := rfl
theorem fM_114 : FdM 114 240 := ⟨Nat.le_of_ble_eq_true rfl, q2920, rfl⟩
theorem FYe_114 : FY 114 = 0 := rfl
theorem gM_114 : GtA 114 240 := ⟨fM_114, rfl⟩
theorem LNe_114 : LN 114 = 601 := rfl
theorem fM_115 : FdM 115 243 := ⟨Nat.le_of_ble_eq_true rfl, q2921, rfl⟩
theorem FYe_115 : FY 115 = 1 := rfl
theorem gM_115 : GtA 115 243 := ⟨fM_115, rfl⟩
theorem LNe_115 : LN 115 = 8 := rfl
theorem fM_116 : FdM 116 246 := ⟨Nat.le_of_ble_eq_true rfl, q2922, rfl⟩
theorem FYe_116 : FY 116 = 0 := rfl
theorem gM_116 : GtA 116 246 := ⟨fM_116, rfl⟩
theorem LNe_116 : LN 116 = 24 := rfl
theorem fM_117 : FdM 117 781 := ⟨Nat.le_of_ble_eq_true rfl, q2923, rfl⟩
theorem FYe_117 : FY 117 = 0 := rfl
theorem gM_117 : GtI 117 781 := ⟨fM_117, rfl, rfl⟩
theorem pM_117 : PtM 117 781 .int 0 := ⟨fM_117, rfl, rfl, rfl, rfl⟩
