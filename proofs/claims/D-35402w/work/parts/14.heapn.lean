/-! HEAP, natives: System.arraycopy, an array's clone, class objects -/
set_option maxRecDepth 100000
def cpH (h : AH) (a sp b dp n : Int) : AH := (h.1, h.2.1, h.2.2.1, h.2.2.2.1, fun x j => if x = b ∧ dp ≤ j ∧ j < dp + n then h.2.2.2.2 a (sp + (j - dp)) else h.2.2.2.2 x j)
abbrev cpOk (h : AH) (t : Nat) (a sp b dp n : Int) : Prop := (aT h a = t ∧ aT h b = t) ∧ 0 ≤ sp ∧ 0 ≤ dp ∧ 0 ≤ n ∧ sp + n ≤ aL h a ∧ dp + n ≤ aL h b
def cpc (h : AH) (t : Nat) (a sp b dp n : Int) : Option AH := if cpOk h t a sp b dp n then some (cpH h a sp b dp n) else none
/-- of references: each is null or of a kind that the array takes -/
def cpo (h : AH) (t : Nat) (a sp b dp n : Int) : Option AH := if cpOk h t a sp b dp n ∧ ((List.range n.toNat).all fun i => decide (aV h a (sp + i) < 0) || elok t (aT h (aV h a (sp + i)))) = true then some (cpH h a sp b dp n) else none
theorem ft64 {t : Nat} (h : 64 ≤ t) (x : Int) : ft t x = ft t 0 := by unfold ft; rw [if_neg (by omega), if_neg (by omega)]
theorem TH.cp {h : AH} {t : Nat} {a sp b dp n : Int} (hT : TH h) (t64 : 64 ≤ t) (hk : cpOk h t a sp b dp n) : TH (cpH h a sp b dp n) := by
  refine ⟨fun x j => ?_, hT.2⟩
  show TI (ft (aT h x) j) (if x = b ∧ dp ≤ j ∧ j < dp + n then aV h a (sp + (j - dp)) else aV h x j)
  split
  · rename_i q
    have := hT.1 a (sp + (j - dp))
    rw [hk.1.1, ft64 t64] at this
    rw [q.1, hk.1.2, ft64 t64]
    exact this
  · exact hT.1 x j
theorem pairs_C {c : ClassId} {m : Nat} (d : Nat) : ∀ (xs : List Value) (i : Nat) (g : Nat → Value) (cell : Cell), ArC c m g cell → d + i + xs.length ≤ m → ArC c m (fun k => if d + i ≤ k ∧ k < d + i + xs.length then xs.getD (k - (d + i)) .null else g k) (cell.storePairs d (xs.zipIdx i))
  | [], i, g, c0, a, _ => a.to fun j _ => by rw [if_neg (by simp only [List.length_nil]; omega)]
  | x :: xs, i, g, c0, a, hm => by
    rw [List.zipIdx_cons]
    simp only [List.length_cons] at hm
    have := pairs_C d xs (i + 1) _ _ (a.store (i := d + i) (v := x) (by omega)) (by omega)
    refine ArC.to this fun k _ => ?_
    simp only [updV, List.length_cons]
    by_cases hk : k = d + i
    · subst hk
      rw [if_neg (by omega), if_pos rfl, if_pos (by omega), Nat.sub_self]; rfl
    · by_cases h1 : d + i ≤ k ∧ k < d + i + (xs.length + 1)
      · rw [if_pos h1, if_pos (by omega), show k - (d + i) = (k - (d + (i + 1))) + 1 by omega, List.getD_cons_succ]
      · rw [if_neg h1, if_neg (by omega), if_neg hk]
theorem cp_store {c : ClassId} {n0 m : Nat} {f g : Nat → Value} {cs cd : Cell} (hf : ∀ j, j < n0 → cs.slots[j]? = some (f j)) (a : ArC c m g cd) {sp dp n : Nat} (h0 : sp + n ≤ n0) (h1 : dp + n ≤ m) : ArC c m (fun j => if dp ≤ j ∧ j < dp + n then f (sp + (j - dp)) else g j) (cd.storeRun dp (cs.stretch sp n)) := by
  have e : cs.stretch sp n = (List.range n).map (fun i => f (sp + i)) := by
    unfold Cell.stretch
    apply List.map_congr_left
    intro i hi
    have hi' := List.mem_range.mp hi
    rw [Array.getD_eq_getD_getElem?, hf _ (by omega)]
    rfl
  rw [e, Cell.storeRun]
  have := pairs_C dp ((List.range n).map (fun i => f (sp + i))) 0 g cd a (by simp; omega)
  refine ArC.to this fun k _ => ?_
  simp only [List.length_map, List.length_range, Nat.add_zero]
  by_cases h : dp ≤ k ∧ k < dp + n
  · rw [if_pos h, if_pos h, List.getD_eq_getElem?_getD, List.getElem?_map, List.getElem?_range (by omega)]
    rfl
  · rw [if_neg h, if_neg h]
theorem RH.cp {E : EA} {h : AH} {H H1 : Heap} {t : Nat} {b : Nat} {a sp dp n : Int} (hR : RH E h H) (t64 : 64 ≤ t) (hk : cpOk h t a sp b dp n) (hc : ∃ cell : Cell, H1[b]? = some cell ∧ ArC (E.2.1 (t - 64)) (aL h b).toNat (fun j => ev (kof (ft t 0)) (aV (cpH h a sp b dp n) b j)) cell ∧ (E.2.2 (1000 + b) ≠ 1 → cell = arrV (E.2.1 (t - 64)) (aL h b).toNat (fun j => ev (kof (ft t 0)) (aV (cpH h a sp b dp n) b j)))) (hz : H1.size = H.size) (ho : ∀ q : Nat, q ≠ b → H1[q]? = H[q]?) : RH E (cpH h a sp b dp n) H1 := by
  refine ⟨by rw [hz]; exact hR.1, fun q hq => ?_⟩
  have eT : aT (cpH h a sp b dp n) q = aT h q := rfl
  have eL : aL (cpH h a sp b dp n) q = aL h q := rfl
  by_cases hqa : q = b
  · subst hqa
    unfold aCell
    rw [eT, eL, hk.1.2, if_neg (by omega)]
    exact hc
  · rw [eT] at hq
    have h1 := hR.2 q hq
    have e : ∀ j, aV (cpH h a sp b dp n) q j = aV h q j := fun j => by
      show (if (q : Int) = b ∧ _ then _ else aV h q j) = aV h q j
      rw [if_neg (fun x => hqa (by have := x.1; omega))]
    unfold aCell at h1 ⊢
    rw [eT, eL]
    simp only [e]
    by_cases ht : aT h q < 64
    · rw [if_pos ht] at h1 ⊢
      exact h1.kept (ho q hqa)
    · rw [if_neg ht] at h1 ⊢
      rw [ho q hqa]; exact h1
theorem cl_in {x : Int} (h0 : 0 ≤ x) (h1 : x ≤ 100000000) : ¬ iI x < 0 ∧ (iI x).toInt = x ∧ (iI x).toNatClampNeg = x.toNat := by
  have hin : InR x := ⟨by omega, by omega⟩
  refine ⟨fun q => ?_, iI_toInt hin, ?_⟩
  · rw [iI_lt0 hin] at q; omega
  · show (iI x).toInt.toNat = _
    rw [iI_toInt hin]
section HN
variable {C : Cx} {cc : ByteArray} {nL : Nat} {own : String} {E : EA} {l : Launch} {fr ty : Nat} {v : Int} {h0 hF h : AH} {ret : Option FieldType} {nm : String} {lv : LV} {pc : Nat} {st : List TV} {ε : Prop}
theorem h_copyc {γ : Prop} (hB : γ → MaB C cc nL own E l fr h0 hF nm) {t : Nat} {fty : FieldType} {a sp b dp n : Int} {idx : Nat} (t64 : 64 ≤ t) (hty : tyA[t - 64]? = some fty) (hk : cpOk h t a sp b dp n)
    (hv : ∀ (T : State) (vm₁ : Vm) (kA : Class) (comp : ClassId), MaB C cc nL own E l fr h0 hF nm → RH E h T.heap → C.1.2.2.2.2.vm.Alike vm₁ → C.1.2.2.2.2.vm.classes[E.2.1 (t - 64)]? = some kA → kA.kind = .array comp fty → ∀ i : Nat, i < n.toNat → fits fty (ev (kof (ft t 0)) (aV h a (sp + i))) = true ∧ (T.setVm vm₁).takes comp (ev (kof (ft t 0)) (aV h a (sp + i))))
    (hT : TH h) (hO : Old h0 h) (hd : decode cc pc = .ok (.invokestatic idx, 3)) (q1 : Cond.methodLink own idx arraycopyName ∈ lw_all) (hf : Nat.ble 1 fr = true) (hr : Nat.ble (tsl st) 8 = true) (kk : X C (zA γ ε E hF h0 (cpH h a sp b dp n)) lv (pc + 3) st) : X C (zA γ ε E hF h0 h) lv pc ((0, n) :: (0, dp) :: (2, b) :: (0, sp) :: (2, a) :: st) := by
  refine ⟨kk.1, fun H locs ls a' bS c => ?_⟩
  obtain ⟨M, hR⟩ := a'
  have hγ := M
  have M := hB M
  have g := M.1
  have hta : aT h a ≠ 0 := by rw [hk.1.1]; omega
  have htb : aT h b ≠ 0 := by rw [hk.1.2]; omega
  obtain ⟨qa, rfl, -⟩ := hT.pos (a := a) hta
  obtain ⟨qb, rfl, -⟩ := hT.pos (a := b) htb
  have la := hT.2.2.2 qa
  have lb := hT.2.2.2 qb
  obtain ⟨-, k1, k2, k3, k4, k5⟩ := id hk
  obtain ⟨s1, s2, s3⟩ := cl_in k1 (by omega)
  obtain ⟨d1, d2, d3⟩ := cl_in k2 (by omega)
  obtain ⟨n1, n2, n3⟩ := cl_in k3 (by omega)
  have hca := hR.2 qa hta
  have hcb := hR.2 qb htb
  unfold aCell at hca hcb
  rw [hk.1.1, if_neg (by omega)] at hca
  rw [hk.1.2, if_neg (by omega)] at hcb
  obtain ⟨ca, hca, hAa, -⟩ := hca
  obtain ⟨cb, hcb, hAb, hexb⟩ := hcb
  intro T hTH X0
  obtain ⟨-, kA, hkA, comp, hkind⟩ := (g.2.1.ar1 hty) 0 (fun _ => .null)
  have hkA' : C.1.2.2.2.2.vm.classes[E.2.1 (t - 64)]? = some kA := hkA
  have nw : nativeFrameWords "java/lang/System" "arraycopy" 5 + 11 ≤ 40 := by decide
  have hfr := Nat.le_of_ble_eq_true hf
  have hrr := Nat.le_of_ble_eq_true hr
  obtain ⟨-, -, -, -, -, rm, -⟩ := M
  obtain ⟨vm', X', step⟩ := X0.arraycopy g.1.1 g.1.2.2.2.2.1 (g.1.2.2.2.2.2.1 _ q1) (g.1.2.2.2.2.2.1 _ q858) (g.1.2.2.2.2.2.1 _ q857) (g.1.2.2.2.2.2.1 _ q239) (src := qa) (dst := qb) (cs := ca) (cd := cb) (srcPos := iI sp) (destPos := iI dp) (n := iI n) (by rw [hTH]; exact hca) (by rw [hTH]; exact hcb)
    hAa.st hAb.st hAa.unk hAb.unk (by rw [hAa.1]; exact hkA') (by rw [hAb.1]; exact hkA') hkind hkind (by simp) s1 d1 n1
    (by rw [s2, n2]; have := hAa.2.2.1; omega)
    (by rw [d2, n2]; have := hAb.2.2.1; omega)
    (fun vm₁ hal i hi => by
      rw [n3] at hi
      have e : ca.slots.getD ((iI sp).toNatClampNeg + i) .null = ev (kof (ft t 0)) (aV h qa (sp + i)) := by
        rw [s3, Array.getD_eq_getD_getElem?, hAa.2.2.2.2 _ (by omega)]
        show ev _ (aV h qa ((sp.toNat + i : Nat) : Int)) = _
        rw [show ((sp.toNat + i : Nat) : Int) = sp + i by omega]
      rw [e]
      exact hv T vm₁ kA comp (hB hγ) (by rw [hTH]; exact hR) hal hkA' hkind i hi)
    (g := F0 C.2.1.1 pc ls (evs ((0, n) :: (0, dp) :: (2, (qb : Int)) :: (0, sp) :: (2, (qa : Int)) :: st))) rfl (by show ls.size = _; rw [c.1]; exact g.1.2.2.2.1.trans g.1.2.2.1.symm) (rest := evs st) (by show [_, _, ev 2 (qb : Int), _, ev 2 (qa : Int)] ++ evs st = _; rw [ev_ref, ev_ref]; rfl) (by show decode C.2.1.2.2.2.2.code pc = _; rw [g.1.2.1]; exact hd) (by rw [rm.1]; exact hfr) (by
      have e1 : ((evs st).map fun v => v.category).sum = tsl st := by rw [evs_cat]; rfl
      rw [e1, rm.2]
      show 2 * 0 + _ + _ ≤ _
      omega)
  have e0 : ∀ j : Nat, (if dp.toNat ≤ j ∧ j < dp.toNat + n.toNat then aV h qa ((sp.toNat + (j - dp.toNat) : Nat) : Int) else aV h qb j) = aV (cpH h qa sp qb dp n) qb j := fun j => by
    show _ = (if (qb : Int) = qb ∧ dp ≤ (j : Int) ∧ (j : Int) < dp + n then aV h qa (sp + ((j : Int) - dp)) else aV h qb j)
    by_cases hj : dp.toNat ≤ j ∧ j < dp.toNat + n.toNat
    · rw [if_pos hj, if_pos ⟨rfl, by omega, by omega⟩, show ((sp.toNat + (j - dp.toNat) : Nat) : Int) = sp + ((j : Int) - dp) by omega]
    · rw [if_neg hj, if_neg (fun q => hj ⟨by omega, by omega⟩)]
  have e1 : ArC (E.2.1 (t - 64)) (aL h qb).toNat (fun j => ev (kof (ft t 0)) (aV (cpH h qa sp qb dp n) qb j)) (copied ca cb (iI sp) (iI dp) (iI n)) := by
    have hcp := cp_store (f := fun j => ev (kof (ft t 0)) (aV h qa j)) hAa.2.2.2.2 hAb (sp := (iI sp).toNatClampNeg) (dp := (iI dp).toNatClampNeg) (n := (iI n).toNatClampNeg) (by rw [s3, n3]; omega) (by rw [d3, n3]; omega)
    refine hcp.to (fun j _ => ?_)
    rw [s3, d3, n3]
    show (if dp.toNat ≤ j ∧ j < dp.toNat + n.toNat then ev (kof (ft t 0)) (aV h qa ((sp.toNat + (j - dp.toNat) : Nat) : Int)) else ev (kof (ft t 0)) (aV h qb j)) = _
    rw [← e0 j]
    split <;> rfl
  have e2 : E.2.2 (1000 + qb) ≠ 1 → copied ca cb (iI sp) (iI dp) (iI n) = arrV (E.2.1 (t - 64)) (aL h qb).toNat (fun j => ev (kof (ft t 0)) (aV (cpH h qa sp qb dp n) qb j)) := fun hk => by
    have hc := hexb hk
    rw [hc]
    have := va_copiedX (fun z : Int => ev (kof (ft t 0)) z) ca (E.2.1 (t - 64)) (n0 := (aL h qa).toNat) (n1 := (aL h qb).toNat) (sp := (iI sp).toNatClampNeg) (dp := (iI dp).toNatClampNeg) (n := (iI n).toNatClampNeg) (fun j => aV h qa j) (fun j => aV h qb j) hAa.2.2.2.2 (by rw [s3, n3]; omega)
    refine Eq.trans this ?_
    refine congrArg (arrV _ _) (funext fun j => ?_)
    rw [s3, d3, n3]
    exact congrArg _ (e0 j)
  generalize copied ca cb (iI sp) (iI dp) (iI n) = cell at X' step e1 e2
  have hl : qb < H.size := (Array.getElem?_eq_some_iff.mp hcb).1
  have hheap : ((T.setVm vm').setCell qb cell).heap = H.setIfInBounds qb cell := by rw [← hTH]; rfl
  have oq : ∀ q : Nat, q ≠ qb → (H.setIfInBounds qb cell)[q]? = H[q]? := fun q hq => by simp [Array.getElem?_setIfInBounds, Ne.symm hq]
  have hA : C.2.2.1 = AA h0 := g.2.2.2.1
  have hS' : ∀ L : List Loc, (∀ q ∈ L, q.base = qb) → va_S C.2.2.1 C.2.2.2.1 (H.setIfInBounds qb cell) (locs ++ L) := fun L hL => ⟨by simp; exact bS.1, fun q g1 g2 => by
      rw [oq q (fun e => g2 (by rw [e, hA]; exact hO.in htb))]
      exact bS.2.1 q g1 g2, fun q hq => by
      rcases List.mem_append.mp hq with h | h
      · exact bS.2.2 q h
      · rw [hL q h, hA]
        exact hO.in htb⟩
  have w := fun L hL => kk.2 (H.setIfInBounds qb cell) (locs ++ L) ls ⟨hγ, RH.cp hR t64 hk ⟨cell, by simp [Array.getElem?_setIfInBounds, hl], e1, e2⟩ (by simp) oq⟩ (hS' L hL) c
  obtain ⟨t', a1, b1⟩ := w _ (fun q hq => by
    obtain ⟨z, -, hz⟩ := List.mem_map.mp hq
    rw [← hz]) _ hheap X'
  exact ⟨t', step t' a1, b1⟩
theorem h_copyp {γ : Prop} (hB : γ → MaB C cc nL own E l fr h0 hF nm) {ρ : Type} {t : Nat} {fty : FieldType} {a sp b dp n : Int} {idx : Nat} {K : AH → Option ρ} {res : ρ} (t64 : 64 ≤ t) (hty : tyA[t - 64]? = some fty) (hk0 : kof (ft t 0) = 0) (htc : tyc fty = ft t 0 ∧ ft t 0 ≠ 9)
    (hT : TH h) (hO : Old h0 h) (hd : decode cc pc = .ok (.invokestatic idx, 3)) (q1 : Cond.methodLink own idx arraycopyName ∈ lw_all) (hf : Nat.ble 1 fr = true) (hr : Nat.ble (tsl st) 8 = true) (e : (cpc h t a sp b dp n).bind K = some res) (kk : ∀ h', TH h' → Old h0 h' → h' = cpH h a sp b dp n → K h' = some res → X C (zA γ ε E hF h0 h') lv (pc + 3) st) : X C (zA γ ε E hF h0 h) lv pc ((0, n) :: (0, dp) :: (2, b) :: (0, sp) :: (2, a) :: st) := by
  unfold cpc at e
  split at e
  · rename_i hk
    refine h_copyc hB (t := t) t64 hty hk (fun T vm₁ kA comp M hR hal hkA hkind i hi => ?_) hT hO hd q1 hf hr (kk _ (hT.cp t64 hk) ⟨hO.1, hO.2⟩ rfl e)
    have hv := hT.1 a (sp + i)
    rw [hk.1.1, ft64 t64] at hv
    refine ⟨(val_ok htc.1 htc.2 hv).2, ?_⟩
    rw [hk0]
    exact trivial
  · cases e
theorem h_copyo {γ : Prop} (hB : γ → MaB C cc nL own E l fr h0 hF nm) {ρ : Type} {t : Nat} {Cn : String} {a sp b dp n : Int} {idx : Nat} {K : AH → Option ρ} {res : ρ} (ht : (t = 68 ∧ Cn = "java/lang/Object") ∨ (t = 69 ∧ Cn = "Syntaxspan$Line"))
    (hT : TH h) (hO : Old h0 h) (hd : decode cc pc = .ok (.invokestatic idx, 3)) (q1 : Cond.methodLink own idx arraycopyName ∈ lw_all) (hf : Nat.ble 1 fr = true) (hr : Nat.ble (tsl st) 8 = true) (e : (cpo h t a sp b dp n).bind K = some res) (kk : ∀ h', TH h' → Old h0 h' → h' = cpH h a sp b dp n → K h' = some res → X C (zA γ ε E hF h0 h') lv (pc + 3) st) : X C (zA γ ε E hF h0 h) lv pc ((0, n) :: (0, dp) :: (2, b) :: (0, sp) :: (2, a) :: st) := by
  unfold cpo at e
  have t64 : 64 ≤ t := by rcases ht with h | h <;> omega
  have hty : tyA[t - 64]? = some (.object Cn) := by rcases ht with ⟨rfl, rfl⟩ | ⟨rfl, rfl⟩ <;> rfl
  have hk0 : kof (ft t 0) = 2 := by rcases ht with ⟨rfl, -⟩ | ⟨rfl, -⟩ <;> rfl
  split at e
  · rename_i hh
    obtain ⟨hk, hel⟩ := hh
    refine h_copyc hB (t := t) t64 hty hk (fun T vm₁ kA comp M hR hal hkA hkind i hi => ?_) hT hO hd q1 hf hr (kk _ (hT.cp t64 hk) ⟨hO.1, hO.2⟩ rfl e)
    have he := List.all_eq_true.mp hel i (List.mem_range.mpr hi)
    rw [Bool.or_eq_true, decide_eq_true_eq] at he
    rw [hk0]
    rcases he with he | he
    · rw [ev_null he]
      refine ⟨?_, trivial⟩
      rcases ht with ⟨rfl, rfl⟩ | ⟨rfl, rfl⟩ <;> rfl
    · have hu : 0 < aT h (aV h a (sp + i)) ∧ aT h (aV h a (sp + i)) < 36 := by
        rcases ht with ⟨rfl, rfl⟩ | ⟨rfl, rfl⟩
        · unfold elok at he
          simp only [Bool.and_eq_true, decide_eq_true_eq] at he
          exact he.1
        · unfold elok at he
          have := eq_of_beq he
          omega
      obtain ⟨y, hy, -⟩ := hT.pos (a := aV h a (sp + i)) (by omega)
      rw [hy, ev_ref]
      rw [hy] at hu he
      have g := M.1
      have hl : aT h y - 1 < clA.length := by show aT h y - 1 < 35; omega
      have hr := List.getElem?_eq_getElem hl
      have hcl := (g.2.1.1 (aT h y - 1) _ hr).2
      obtain ⟨cell, c1, c2, c3, -⟩ := obj_at hR (rfl : aT h y = aT h y) hu.1 (by omega)
      obtain ⟨kC, hkC, -⟩ := hcl.2
      obtain ⟨kA', comp', k1, k2, k3, -⟩ := (g.2.1.arr hty (by rcases ht with ⟨rfl, -⟩ | ⟨rfl, -⟩ <;> decide)).2
      have hkA2 := hkA.symm.trans k1
      cases hkA2
      cases hkind.symm.trans k2
      have hasg : C.1.2.2.2.2.vm.assignable cell.cls comp = true ∧ ∃ kE, C.1.2.2.2.2.vm.classes[comp]? = some kE := by
        rw [c2]
        rcases ht with ⟨rfl, rfl⟩ | ⟨rfl, rfl⟩
        · unfold elok at he
          simp only [Bool.and_eq_true, decide_eq_true_eq, Bool.not_eq_true', beq_eq_false_iff_ne] at he
          obtain ⟨r, hr1, hcast⟩ := cast_obj (aT h y - 1) (by omega) (by omega)
          cases hr1.symm.trans hr
          obtain ⟨kO, hkO, -⟩ := Vm.findClass_spec k3
          exact ⟨vb_asgC (g.2.2.1 _ hcast rfl) comp _ k3 hcl.1, kO, hkO⟩
        · unfold elok at he
          have hu8 := eq_of_beq he
          have hcl8 := (g.2.1.1 7 _ (rfl : clA[7]? = some (RX3, TX3, 8))).2
          have hcomp : comp = E.1.1 7 := Option.some.inj (k3.symm.trans hcl8.1)
          rw [hu8]
          subst hcomp
          obtain ⟨kE, hkE, -⟩ := hcl8.2
          exact ⟨va_assign hcl8, kE, hkE⟩
      obtain ⟨kE, hkE⟩ := hasg.2
      obtain ⟨kC', hkC', -⟩ := hal.2.2 _ _ hkC
      obtain ⟨kE', hkE', -⟩ := hal.2.2 _ _ hkE
      refine ⟨by rcases ht with ⟨rfl, rfl⟩ | ⟨rfl, rfl⟩ <;> rfl, cell, c1, no_stat c3, ⟨kC', by rw [c2]; exact hkC'⟩, ⟨kE', hkE'⟩, ?_⟩
      show vm₁.assignable _ _ = true
      rw [hal.assignable]
      exact hasg.1
  · cases e
/-- an array's clone -/
def clB (h : AH) (a : Int) : AH := (h.1 + 1, h.2.1 + aL h a, fun x => if x = h.1 then 66 else h.2.2.1 x, fun x => if x = h.1 then aL h a else h.2.2.2.1 x, fun x i => if x = h.1 then aV h a i else h.2.2.2.2 x i)
def clc (k : Nat → Int) (h : AH) (a : Int) : Option (Int × AH) := if aT h a = 66 ∧ k (1000 + a.toNat) ≠ 1 then some (h.1, clB h a) else none
def cloneName : MethodName := ⟨"[B", "clone", "()Ljava/lang/Object;"⟩
theorem TH.cl {h : AH} {a : Int} (hT : TH h) (ha : aT h a = 66) : TH (clB h a) := by
  obtain ⟨h1, h2, h3, h4⟩ := hT
  refine ⟨fun x j => ?_, fun x hx => ?_, ?_, fun x => ?_⟩
  · show TI (ft (if x = h.1 then 66 else aT h x) j) (if x = h.1 then aV h a j else aV h x j)
    by_cases q : x = h.1
    · rw [if_pos q, if_pos q]
      have := h1 a j
      rwa [ha] at this
    · rw [if_neg q, if_neg q]; exact h1 x j
  · show (if x = h.1 then 66 else aT h x) = 0
    have hx' : x < 0 ∨ h.1 + 1 ≤ x := hx
    have h3' : 0 ≤ h.1 := h3
    rw [if_neg (by omega)]
    exact h2 x (by rcases hx' with q | q; exact Or.inl q; exact Or.inr (by show h.1 ≤ x; omega))
  · show 0 ≤ h.1 + 1
    have h3' : 0 ≤ h.1 := h3
    omega
  · show 0 ≤ (if x = h.1 then aL h a else aL h x) ∧ (if x = h.1 then aL h a else aL h x) ≤ 100000000
    split
    · exact h4 a
    · exact h4 x
theorem Old.cl {h0 h : AH} {a : Int} (hO : Old h0 h) (hl : 0 ≤ aL h a) : Old h0 (clB h a) := by
  have h1 : aN h0 ≤ h.1 := hO.1
  have h2 : aS h0 ≤ h.2.1 := hO.2.1
  refine ⟨by show aN h0 ≤ h.1 + 1; omega, by show aS h0 ≤ h.2.1 + aL h a; omega, fun x hx => ?_⟩
  show (if x = h.1 then 66 else aT h x) = aT h0 x
  rw [if_neg (by omega)]
  exact hO.2.2 x hx
theorem h_clone {γ : Prop} (hB : γ → MaB C cc nL own E l fr h0 hF nm) {ρ : Type} {a : Int} {idx : Nat} {K : Int × AH → Option ρ} {res : ρ} (hT : TH h) (hO : Old h0 h) (hd : decode cc pc = .ok (.invokevirtual idx, 3)) (q1 : Cond.methodLink own idx cloneName ∈ lw_all) (hf : Nat.ble 1 fr = true) (hr : Nat.ble (tsl st) 8 = true) (e : (clc E.2.2 h a).bind K = some res) (kk : ∀ v1 h', TI 5 v1 → aT h' v1 = 66 → TH h' → Old h0 h' → K (v1, h') = some res → X C (zA γ ε E hF h0 h') lv (pc + 3) ((2, v1) :: st)) : X C (zA γ ε E hF h0 h) lv pc ((2, a) :: st) := by
  unfold clc at e
  split at e
  · rename_i ha
    obtain ⟨ha, hka⟩ := ha
    have hsz : 0 ≤ aN h := hT.2.2.1
    have la := hT.2.2.2 a
    have k' := kk (aN h) (clB h a) (by show -1 ≤ aN h; omega) (by show (if aN h = h.1 then 66 else _) = 66; exact if_pos rfl) (hT.cl ha) (hO.cl la.1) e
    obtain ⟨⟨m1, m2, m3⟩, mε⟩ := k'.1
    have e1 : aN (clB h a) = aN h + 1 := rfl
    have e2 : aS (clB h a) = aS h + aL h a := rfl
    rw [e1] at m1
    rw [e2] at m2
    have o1 := hO.1
    have o2 := hO.2.1
    refine ⟨⟨⟨by omega, by omega, fun x hx => ?_⟩, mε⟩, fun H locs ls a' bS c => ?_⟩
    · rw [m3 x (by rw [e1]; omega)]
      show (if x = h.1 then 66 else aT h x) = aT h x
      rw [if_neg (by have : x < h.1 := hx; omega)]
    obtain ⟨M, hR⟩ := a'
    have hγ := M
    have M := hB M
    have g := M.1
    obtain ⟨qa, rfl, -⟩ := hT.pos (a := a) (by rw [ha]; decide)
    have hca := hR.2 qa (by rw [ha]; decide)
    unfold aCell at hca
    rw [ha, if_neg (by decide)] at hca
    have hft : kof (ft 66 0) = 0 := rfl
    rw [hft] at hca
    obtain ⟨cell0, hca, -, hex0⟩ := hca
    rw [hex0 hka] at hca
    have hsize : (H.size : Int) = aN h := hR.1
    have hty : tyA[2]? = some .byte := rfl
    obtain ⟨-, kA, hkA, comp, hkind⟩ := (g.2.1.ar1 hty) 0 (fun _ => .null)
    have hkA' : C.1.2.2.2.2.vm.classes[E.2.1 2]? = some kA := hkA
    have hnm := va_nm_byte (g.2.1.arr hty (by decide)).2
    obtain ⟨c0, t0', f1, f2, f3⟩ := Cond.castable_spec (va_Nw.use (A := C.2.1.2.1) rfl (g.2.2.1 _ q1661 rfl))
    cases hnm.symm.trans f1
    have hfr := Nat.le_of_ble_eq_true hf
    have hrr := Nat.le_of_ble_eq_true hr
    obtain ⟨-, -, -, hrm, -, rm, -⟩ := M
    intro T hTH X0
    obtain ⟨kA2, hkA2, hkind2⟩ : ∃ k : Class, T.vm.classes[E.2.1 2]? = some k ∧ k.kind = .array comp .byte := by
      obtain ⟨k', hk', he⟩ := X0.warmed.alike.2.2 _ _ hkA'
      exact ⟨k', hk', by rw [he]; exact hkind⟩
    obtain ⟨vm', X', step⟩ := X0.cloneArray g.1.1 g.1.2.2.2.2.1 (g.1.2.2.2.2.2.1 _ q1) (g.1.2.2.2.2.2.1 _ q1657) (g.1.2.2.2.2.2.1 _ q1658) (g.1.2.2.2.2.2.1 _ q1659) (g.1.2.2.2.2.2.1 _ q1660) (a := qa) (cell := arrV (E.2.1 2) (aL h qa).toNat (fun j => ev 0 (aV h qa j))) (by rw [hTH]; exact hca) (fun k h => by cases h) (fun h => by cases h) hnm f2 f3
      (fun i v hv => by
        have hv' := hv
        by_cases hi : i < (aL h qa).toNat
        · rw [arrV_read _ _ hi] at hv
          cases hv
          have hval := hT.1 qa i
          rw [ha] at hval
          have hf2 : fits .byte (ev 0 (aV h qa i)) = true := (val_ok (ty := .byte) (c := 3) (v := aV h qa i) rfl (by decide) hval).2
          show T.fitsSlot (E.2.1 2) _ _ _ = true
          simpa [State.fitsSlot, State.slotType?, hkA2, hkind2] using hf2
        · rw [Array.getElem?_eq_none (by rw [arrV_size]; omega)] at hv
          cases hv)
      (g := F0 C.2.1.1 pc ls (evs ((2, (qa : Int)) :: st))) rfl (by show ls.size = _; rw [c.1]; exact g.1.2.2.2.1.trans g.1.2.2.1.symm) (rest := evs st) (by show ev 2 (qa : Int) :: evs st = _; rw [ev_ref]) (by show decode C.2.1.2.2.2.2.code pc = _; rw [g.1.2.1]; exact hd) (by rw [rm.1]; exact hfr) (by
        have e1 : ((evs st).map fun v => v.category).sum = tsl st := by rw [evs_cat]; rfl
        rw [e1, rm.2]
        show 2 * 0 + _ + _ ≤ _
        omega) (by rw [hrm.1]; show (aN h - aN h0).toNat + 1 ≤ _; omega) (by rw [hrm.2, arrV_size]; show (aS h - aS h0).toNat + _ ≤ _; omega) (hloader := Vm.clonesLoader_of_array hkA' hkind)
    rw [arrV_size] at X'
    obtain ⟨p1, p2, p3⟩ := push_facts (H := H) (x := arrV (E.2.1 2) (aL h qa).toNat (fun j => ev 0 (aV h qa j)))
    have hheap : ((T.setVm vm').pushCell { cls := (arrV (E.2.1 2) (aL h qa).toNat (fun j => ev 0 (aV h qa j))).cls, slots := (arrV (E.2.1 2) (aL h qa).toNat (fun j => ev 0 (aV h qa j))).slots }).heap = H.push (arrV (E.2.1 2) (aL h qa).toNat (fun j => ev 0 (aV h qa j))) := by rw [← hTH]; rfl
    have hR' : RH E (clB h qa) (H.push (arrV (E.2.1 2) (aL h qa).toNat (fun j => ev 0 (aV h qa j)))) := by
      refine ⟨by rw [p2]; show ((H.size + 1 : Nat) : Int) = h.1 + 1; have : (H.size : Int) = h.1 := hsize; omega, fun q hq => ?_⟩
      have hsz' : (H.size : Int) = h.1 := hsize
      by_cases hqa : q = H.size
      · subst hqa
        have z1 : aT (clB h qa) H.size = 66 := if_pos hsz'
        have z2 : aL (clB h qa) H.size = aL h qa := if_pos hsz'
        have z3 : ∀ j, aV (clB h qa) H.size j = aV h qa j := fun j => if_pos hsz'
        unfold aCell
        rw [z1, z2, if_neg (by decide)]
        simp only [z3]
        exact aCell_new p1
      · have hne : ¬ (q : Int) = h.1 := by omega
        have z1 : aT (clB h qa) q = aT h q := if_neg hne
        have z2 : aL (clB h qa) q = aL h q := if_neg hne
        have z3 : ∀ j, aV (clB h qa) q j = aV h q j := fun j => if_neg hne
        rw [z1] at hq
        have hcq := hR.2 q hq
        have hlt : q < H.size := by
          obtain ⟨q', hq1, hq2⟩ := hT.pos hq
          have : (q : Int) < h.1 := hq2
          omega
        unfold aCell at hcq ⊢
        rw [z1, z2]
        simp only [z3]
        by_cases ht : aT h q < 64
        · rw [if_pos ht] at hcq ⊢
          exact hcq.kept (p3 q hlt)
        · rw [if_neg ht] at hcq ⊢
          rw [p3 q hlt]; exact hcq
    have w := k'.2 _ locs ls ⟨hγ, hR'⟩ (bS.grow p2 p3) c
    have w := XW.cs (k := (aN h - aN h0).toNat + 1) (n := (aS h - aS h0).toNat + (aL h qa).toNat) w (by show _ = (aN (clB h qa) - aN h0).toNat; rw [e1]; omega) (by show _ = (aS (clB h qa) - aS h0).toNat; rw [e2]; omega)
    obtain ⟨t', a1, b1⟩ := w _ hheap X'
    refine ⟨t', step t' ?_, b1⟩
    change Steps _ _ _ (State.setTop _ (F0 C.2.1.1 (pc + 3) ls (ev 2 (aN h) :: evs st))) t' at a1
    rw [ev_refq hsize.symm] at a1
    rw [← hTH] at a1
    exact a1
  · cases e
/-- the class object of an array of objects, and the same as a constant -/
theorem h_getC {γ : Prop} (hB : γ → MaB C cc nL own E l fr h0 hF nm) {a : Int} {idx : Nat} (ha : aT h a = 68) (hT : TH h) (hd : decode cc pc = .ok (.invokevirtual idx, 3)) (q1 : Cond.methodLink own idx ⟨"java/lang/Object", "getClass", "()Ljava/lang/Class;"⟩ ∈ lw_all) (hf : Nat.ble 1 fr = true) (hr : Nat.ble (tsl st) 8 = true) (k : X C (zA γ ε E hF h0 h) lv (pc + 3) ((2, E.2.2 5) :: st)) : X C (zA γ ε E hF h0 h) lv pc ((2, a) :: st) := by
  refine ⟨k.1, fun H locs ls a' b c => ?_⟩
  have w := k.2 H locs ls a' b c
  obtain ⟨M, hR⟩ := a'
  have hγ := M
  have M := hB M
  have g := M.1
  have hE := M.2.1
  obtain ⟨h5, hMi⟩ := hE.2.2.2.2.2.2.2.2
  obtain ⟨qa, rfl, -⟩ := hT.pos (a := a) (by rw [ha]; decide)
  obtain ⟨cell', n', f', hcell, hA'⟩ := arr_at hR ha (by decide)
  have hnm := va_nmO (nm := "[Ljava/lang/Object;") (g.2.1.arr (j := 4) rfl).2 (by decide +kernel)
  have hfr := Nat.le_of_ble_eq_true hf
  have hrr := Nat.le_of_ble_eq_true hr
  obtain ⟨-, -, -, hrm, -, rm, -⟩ := M
  change XW C H locs _ _ (pc + 3) ls (ev 2 (E.2.2 5) :: evs st) at w
  rw [ev_some (by omega)] at w
  show XW C H locs _ _ pc ls (ev 2 (qa : Int) :: evs st)
  rw [ev_ref]
  exact va_getC g.1.1 g.1.2.1 (by rw [c.1]; exact g.1.2.2.1.trans g.1.2.2.2.1.symm) g.1.2.2.2.2.1 (g.1.2.2.2.2.2.1 _ q1) (va_Nw.use rfl (g.2.2.1 _ q3960 rfl)) (g.1.2.2.2.2.2.1 _ q3959) (g.1.2.2.2.2.2.1 _ q805) (g.1.2.2.2.2.2.1 _ q846) hMi ⟨_, hcell, hA'.2.1.2, by rw [hA'.1]; exact hnm⟩ (by rw [rm.1]; exact hfr) (by
      have e1 : ((evs st).map fun v => v.category).sum = tsl st := by rw [evs_cat]; rfl
      rw [e1, rm.2]
      omega) hd w
theorem h_ldcM {γ : Prop} (hB : γ → MaB C cc nL own E l fr h0 hF nm) {idx : Nat} (hd : decode cc pc = .ok (.ldc idx, 2)) (q1 : Cond.classLink own idx "[Ljava/lang/Object;" ∈ lw_all) (k : X C (zA γ ε E hF h0 h) lv (pc + 2) ((2, E.2.2 5) :: st)) : X C (zA γ ε E hF h0 h) lv pc st := by
  refine ⟨k.1, fun H locs ls a' b c => ?_⟩
  have w := k.2 H locs ls a' b c
  obtain ⟨M, hR⟩ := a'
  have hγ := M
  have M := hB M
  have g := M.1
  obtain ⟨h5, hMi⟩ := M.2.1.2.2.2.2.2.2.2.2
  change XW C H locs _ _ (pc + 2) ls (ev 2 (E.2.2 5) :: evs st) at w
  rw [ev_some (by omega)] at w
  exact va_ldcM g.1.1 g.1.2.1 g.1.2.2.2.2.1 (g.1.2.2.2.2.2.1 _ q1) hMi hd w
end HN
