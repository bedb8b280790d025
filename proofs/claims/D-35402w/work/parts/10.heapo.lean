/-! HEAP rows: references into arrays, new objects and arrays, casts, kinds -/
set_option maxRecDepth 100000
def elok (t u : Nat) : Bool := match t with
  | 68 => decide (0 < u) && decide (u < 36) && !(u == 5)
  | 69 => u == 8
  | 70 => u == 9
  | 71 => u == 12
  | 72 => u == 1
  | 73 => u == 64
  | 74 => u == 65
  | 75 => u == 69
  | 76 => u == 72
  | 77 => u == 73
  | _ => false
def nulok (t : Nat) : Bool := match t with
  | 68 => true
  | 69 => true
  | 70 => true
  | 71 => true
  | 72 => true
  | _ => false
def pao (h : AH) (t : Nat) (a i v : Int) : Option AH := if (aT h a = t ∧ 0 ≤ i ∧ i < aL h a) ∧ ((v < 0 ∧ nulok t = true) ∨ (0 ≤ v ∧ elok t (aT h v) = true)) then some (setV h a i v) else none
/-- arrays over arrays: the component's class -/
def KB (E : EA) (U : State) : Prop := ∀ j i : Nat, (j, i) ∈ [(9, 0), (10, 1), (11, 5), (12, 8), (13, 9)] → ∃ (kA : Class) (ty : FieldType), tyA[i]? = some ty ∧ U.vm.classes[E.2.1 j]? = some kA ∧ kA.kind = .array (E.2.1 i) (.array ty)
theorem KB.moved {E : EA} {u U : State} (hvm : u.vm.Alike U.vm) (h : KB E u) : KB E U := by
  intro j i hm
  obtain ⟨kA, ty, h0, h1, h2⟩ := h j i hm
  obtain ⟨k', hk', he⟩ := hvm.2.2 _ _ h1
  exact ⟨k', ty, h0, hk', by rw [he]; exact h2⟩
theorem obj_at {E : EA} {h : AH} {H : Heap} (hR : RH E h H) {v : Nat} {u : Nat} (hu : aT h v = u) (h0 : 0 < u) (h64 : u < 64) : ∃ cell : Cell, H[v]? = some cell ∧ cell.cls = E.1.1 (u - 1) ∧ cell.vm.isStatics = false ∧ (2 < u → cell.vm = .none) := by
  have hc := hR.2 v (by rw [hu]; omega)
  unfold aCell at hc
  rw [hu, if_pos h64] at hc
  obtain ⟨cell, q1, q2, q3, -⟩ := hc
  exact ⟨cell, q1, q2, q3.2.1, q3.2.2⟩
theorem arr_at {E : EA} {h : AH} {H : Heap} (hR : RH E h H) {v : Nat} {u : Nat} (hu : aT h v = u) (h64 : 64 ≤ u) : ∃ (cell : Cell) (n : Nat) (f : Nat → Value), H[v]? = some cell ∧ ArC (E.2.1 (u - 64)) n f cell := by
  have hc := hR.2 v (by rw [hu]; omega)
  unfold aCell at hc
  rw [hu, if_neg (by omega)] at hc
  obtain ⟨cell, hc, hA, -⟩ := hc
  exact ⟨_, _, _, hc, hA⟩
theorem asg_arr {U : State} {c d : ClassId} {k : Class} {t : FieldType} (h : U.vm.classes[c]? = some k) (hk : k.kind = .array d t) : U.vm.assignable c c = true := by
  show Vm.assignableAux U.vm (255 + 1) c c = true
  unfold Vm.assignableAux
  rw [beq_self_eq_true, Bool.true_or]
theorem cast_obj : ∀ j, j < 35 → j ≠ 4 → ∃ r : vw_C, clA[j]? = some r ∧ Cond.castable r.1 "java/lang/Object" ∈ lw_tbl := by
  intro j hj h4
  have key : ∀ (r : vw_C) (w : Cond) (_ : Cond.castable r.1 "java/lang/Object" = w) (_ : w ∈ lw_tbl), Cond.castable r.1 "java/lang/Object" ∈ lw_tbl := fun r w e hw => e ▸ hw
  match j, hj with
  | 0, _ => exact ⟨(RJ0, TJ0, 4), rfl, q3921⟩
  | 1, _ => exact ⟨(RJ20, TJ20, 1), rfl, q3934⟩
  | 2, _ => exact ⟨(RJ6, TJ6, 3), rfl, q3924⟩
  | 3, _ => exact ⟨(RJ15, TJ15, 4), rfl, q3930⟩
  | 4, _ => exact absurd rfl h4
  | 5, _ => exact ⟨(RX1, TX1, 7), rfl, q3922⟩
  | 6, _ => exact ⟨(RX2, TX2, 5), rfl, q3923⟩
  | 7, _ => exact ⟨(RX3, TX3, 8), rfl, q3918⟩
  | 8, _ => exact ⟨(RX5, TX5, 5), rfl, q3919⟩
  | 9, _ => exact ⟨(RX6, TX6, 10), rfl, q3931⟩
  | 10, _ => exact ⟨(RX7, TX7, 7), rfl, q3932⟩
  | 11, _ => exact ⟨(RX8, TX8, 6), rfl, q3920⟩
  | 12, _ => exact ⟨(RX10, TX10, 4), rfl, q3935⟩
  | 13, _ => exact ⟨(RX11, TX11, 3), rfl, q3936⟩
  | 14, _ => exact ⟨(RX12, TX12, 3), rfl, q3937⟩
  | 15, _ => exact ⟨(RX14, TX14, 3), rfl, q3938⟩
  | 16, _ => exact ⟨(RX15, TX15, 2), rfl, q3939⟩
  | 17, _ => exact ⟨(RX16, TX16, 2), rfl, q3940⟩
  | 18, _ => exact ⟨(RX17, TX17, 4), rfl, q3941⟩
  | 19, _ => exact ⟨(RX18, TX18, 4), rfl, q3942⟩
  | 20, _ => exact ⟨(RX19, TX19, 1), rfl, q3943⟩
  | 21, _ => exact ⟨(RX20, TX20, 1), rfl, q3944⟩
  | 22, _ => exact ⟨(RX21, TX21, 2), rfl, q3945⟩
  | 23, _ => exact ⟨(RX22, TX22, 1), rfl, q3946⟩
  | 24, _ => exact ⟨(RX23, TX23, 3), rfl, q3947⟩
  | 25, _ => exact ⟨(RX24, TX24, 5), rfl, q3948⟩
  | 26, _ => exact ⟨(RX25, TX25, 2), rfl, q3949⟩
  | 27, _ => exact ⟨(RX26, TX26, 9), rfl, q3950⟩
  | 28, _ => exact ⟨(RX28, TX28, 3), rfl, q3951⟩
  | 29, _ => exact ⟨(RX29, TX29, 2), rfl, q3952⟩
  | 30, _ => exact ⟨(RX30, TX30, 5), rfl, q3953⟩
  | 31, _ => exact ⟨(RX31, TX31, 2), rfl, q3954⟩
  | 32, _ => exact ⟨(RX32, TX32, 4), rfl, q3955⟩
  | 33, _ => exact ⟨(RX33, TX33, 6), rfl, q3956⟩
  | 34, _ => exact ⟨(RX4, TX4, 118), rfl, q3925⟩
  | n + 35, hj => omega
section HO
variable {C : Cx} {cc : ByteArray} {nL : Nat} {own : String} {E : EA} {h0 : AH} {γ ε : Prop} {hF : AH} {h : AH} {lv : LV} {pc : Nat} {st : List TV}
theorem h_aast {ρ : Type} (g : γ → Ga C cc nL own E h0) (gB : γ → KB E C.1.2.2.2.2) {t : Nat} {ty : FieldType} (hr : RfT t ty) {a i v : Int} {K : AH → Option ρ} {res : ρ} (hT : TH h) (hO : Old h0 h) (hv : TI 5 v) (hd : decode cc pc = .ok (.aastore, 1)) (e : (pao h t a i v).bind K = some res) (kk : ∀ h', TH h' → Old h0 h' → h' = setV h a i v → K h' = some res → X C (zA γ ε E hF h0 h') lv (pc + 1) st) : X C (zA γ ε E hF h0 h) lv pc ((2, v) :: (0, i) :: (2, a) :: st) := by
  obtain ⟨h1, h2, h3, h4⟩ := hr
  have := h_astc (lv := lv) (pc := pc) (st := st) (hF := hF) (ε := ε) g (t := t) (P := (v < 0 ∧ nulok t = true) ∨ (0 ≤ v ∧ elok t (aT h v) = true)) (a := a) (i := i) (v := v) (by omega) hT hO (by rw [h4]; exact hv) (fun hγ H locs ls q cellA hp hR hc hA q1 w => ?_) e kk
  · rw [h4] at this; exact this
  · have g := g hγ
    have gB := gB hγ
    rw [h4] at w hA ⊢
    change ∀ H' : Heap, H'[q]? = some (cellA.setSlot _ (ev 2 v)) → _ at w
    show XW C H locs _ _ pc ls (ev 2 v :: .int (iI i) :: .ref q :: evs st)
    rcases hp with ⟨hv0, hn⟩ | ⟨hv0, hel⟩
    · rw [ev_null hv0] at w ⊢
      have hobj : ∃ Cn, ty = .object Cn := by
        have h5 : t = 68 ∨ t = 69 ∨ t = 70 ∨ t = 71 ∨ t = 72 := by
          unfold nulok at hn
          split at hn <;> first | omega | cases hn
        rcases h5 with rfl | rfl | rfl | rfl | rfl <;> cases h2 <;> exact ⟨_, rfl⟩
      obtain ⟨Cn, rfl⟩ := hobj
      exact va_WaastN (C := Cn) g.1.1 g.1.2.1 hc (hA.of (g.2.1.ar1 h2)) hA.unk q1 rfl rfl hd w
    · obtain ⟨vq, rfl⟩ := Int.eq_ofNat_of_zero_le hv0
      rw [ev_ref] at w ⊢
      have hin : ¬ iI i < 0 ∧ (iI i).toNatClampNeg < cellA.slots.size := ⟨fun z => q1 (Or.inl z), Nat.not_le.mp fun z => q1 (Or.inr z)⟩
      have fin : ∀ (kA : Class) (comp : ClassId) (t' : FieldType) (kcomp : Class) (cv : Cell) (kv : Class), C.1.2.2.2.2.vm.classes[E.2.1 (t - 64)]? = some kA → kA.kind = .array comp t' → t'.isReference = true → C.1.2.2.2.2.vm.classes[comp]? = some kcomp → H[vq]? = some cv → cv.vm.isStatics = false → C.1.2.2.2.2.vm.classes[cv.cls]? = some kv → C.1.2.2.2.2.vm.assignable cv.cls comp = true → XW C H locs (aN h - aN h0).toNat (aS h - aS h0).toNat pc ls (.ref vq :: .int (iI i) :: .ref q :: evs st) :=
        fun kA comp t' kcomp cv kv z1 z2 z3 z4 z5 z6 z7 z8 => W.aast g.1.1 g.1.2.1 hc hA.st hA.unk (by rw [hA.1]; exact z1) z2 z3 z4 hin z5 (no_stat z6) z7 z8 rfl rfl hd w
      have cls : ∀ u, 0 < u → u < 36 → ∃ r : vw_C, clA[u - 1]? = some r ∧ ClassAt C.1.2.2.2.2 r.1 (E.1.1 (u - 1)) := fun u u0 u1 => by
        have hl : u - 1 < clA.length := by show u - 1 < 35; omega
        exact ⟨_, List.getElem?_eq_getElem hl, (g.2.1.1 (u - 1) _ (List.getElem?_eq_getElem hl)).2⟩
      have exact1 : ∀ u Cn, ty = .object Cn → aT h vq = u → 0 < u → u < 36 → (∃ r : vw_C, clA[u - 1]? = some r ∧ r.1 = Cn) → t - 64 < 14 → XW C H locs (aN h - aN h0).toNat (aS h - aS h0).toNat pc ls (.ref vq :: .int (iI i) :: .ref q :: evs st) := by
        rintro u Cn rfl hu u0 u1 ⟨r, hr1, rfl⟩ hnI
        obtain ⟨r', hr', hcl⟩ := cls u u0 u1
        cases hr1.symm.trans hr'
        obtain ⟨kA, comp, k1, k2, k3, -⟩ := (g.2.1.arr h2 hnI).2
        obtain ⟨cell, c1, c2, c3, -⟩ := obj_at hR hu u0 (by omega)
        have hcomp : comp = E.1.1 (u - 1) := Option.some.inj (k3.symm.trans hcl.1)
        subst hcomp
        obtain ⟨kC, hkC, -⟩ := hcl.2
        exact fin kA _ _ kC cell kC k1 k2 rfl hkC c1 c3 (by rw [c2]; exact hkC) (by rw [c2]; exact va_assign hcl)
      have arr1 : ∀ j i' , t - 64 = j → aT h vq = 64 + i' → (j, i') ∈ [(9, 0), (10, 1), (11, 5), (12, 8), (13, 9)] → XW C H locs (aN h - aN h0).toNat (aS h - aS h0).toNat pc ls (.ref vq :: .int (iI i) :: .ref q :: evs st) := by
        intro j i' hj hu hm
        obtain ⟨kA, ty', t0, t1, t2⟩ := gB j i' hm
        obtain ⟨cv', n', f', hv', hA'⟩ := arr_at hR hu (by omega)
        rw [show 64 + i' - 64 = i' by omega] at hA'
        have hA := (g.2.1.ar1 t0) n' f'
        obtain ⟨-, kI, hkI, c2, hkI2⟩ := hA
        exact fin kA _ _ kI cv' kI (by rw [hj]; exact t1) t2 rfl hkI hv' hA'.2.1.2 (by rw [hA'.1]; exact hkI) (by rw [hA'.1]; exact asg_arr hkI hkI2)
      unfold elok at hel
      split at hel
      · simp only [Bool.and_eq_true, decide_eq_true_eq, Bool.not_eq_true', beq_eq_false_iff_ne] at hel
        obtain ⟨⟨u0, u1⟩, u5⟩ := hel
        cases h2
        obtain ⟨r, hr1, hcast⟩ := cast_obj (aT h vq - 1) (by omega) (by omega)
        obtain ⟨r', hr', hcl⟩ := cls (aT h vq) u0 u1
        cases hr1.symm.trans hr'
        obtain ⟨kA, comp, k1, k2, k3, -⟩ := (g.2.1.arr (j := 4) rfl).2
        obtain ⟨cell, c1, c2, c3, -⟩ := obj_at hR rfl u0 (by omega)
        obtain ⟨kC, hkC, -⟩ := hcl.2
        obtain ⟨kO, hkO, -⟩ := Vm.findClass_spec k3
        exact fin kA comp _ kO cell kC k1 k2 rfl hkO c1 c3 (by rw [c2]; exact hkC) (by rw [c2]; exact vb_asgC (g.2.2.1 _ hcast rfl) comp _ k3 hcl.1)
      all_goals first
        | (have hu := eq_of_beq hel
           cases h2
           first
             | exact exact1 _ _ rfl hu (by decide) (by decide) ⟨_, rfl, rfl⟩ (by decide)
             | exact arr1 _ 0 rfl hu (by decide)
             | exact arr1 _ 1 rfl hu (by decide)
             | exact arr1 _ 5 rfl hu (by decide)
             | exact arr1 _ 8 rfl hu (by decide)
             | exact arr1 _ 9 rfl hu (by decide))
        | cases hel
/-- a new object -/
def NwC (own : String) (t idx : Nat) (sl : Int) : Prop := 0 < t ∧ t < 36 ∧ ∃ (r : vw_C) (N : Nat), clA[t - 1]? = some r ∧ (N : Int) = sl ∧ Cond.classLink own idx r.1 ∈ lw_all ∧ Cond.instantiable r.1 N ∈ lw_all ∧ Cond.initialized r.1 ∈ lw_all ∧ (nf t = 0 ∨ ClF t r)
theorem Old.mk {h0 h : AH} {t : Nat} {sl len : Int} (hO : Old h0 h) (hsl : 0 ≤ sl) : Old h0 (mkc h t sl len) := by
  have h1 : aN h0 ≤ h.1 := hO.1
  have h2 : aS h0 ≤ h.2.1 := hO.2.1
  refine ⟨by show aN h0 ≤ h.1 + 1; omega, by show aS h0 ≤ h.2.1 + sl; omega, fun a ha => ?_⟩
  show (if a = h.1 then t else aT h a) = aT h0 a
  rw [if_neg (by omega)]
  exact hO.2.2 a ha
theorem Old.tag {h hF : AH} {t : Nat} {sl len : Int} (m3 : ∀ a, a < aN (mkc h t sl len) → aT hF a = aT (mkc h t sl len) a) : ∀ a, a < aN h → aT hF a = aT h a := fun a ha => by
  rw [m3 a (by show a < h.1 + 1; have : a < h.1 := ha; omega)]
  show (if a = h.1 then t else aT h a) = aT h a
  rw [if_neg (by have : a < h.1 := ha; omega)]
theorem va_S.grow {A : Nat → Prop} {H0 H H1 : Heap} {locs : List Loc} (hS : va_S A H0 H locs) (z : H1.size = H.size + 1) (o : ∀ q : Nat, q < H.size → H1[q]? = H[q]?) : va_S A H0 H1 locs :=
  ⟨Nat.le_trans hS.1 (by omega), fun x h1 h2 => (o x (Nat.lt_of_lt_of_le h1 hS.1)).trans (hS.2.1 x h1 h2), hS.2.2⟩
/-- room: what is made is paid for by the method's own end -/
def Rm (C : Cx) (hF h0 : AH) : Prop := C.1.2.2.2.1.cells = (aN hF - aN h0).toNat ∧ C.1.2.2.2.1.slots = (aS hF - aS h0).toNat
theorem XW.cs {C : Cx} {H : Heap} {locs : List Loc} {k n k' n' : Nat} {pc : Nat} {ls : Array Slot} {st : List Value} (h : XW C H locs k' n' pc ls st) (hk : k = k') (hn : n = n') : XW C H locs k n pc ls st := by subst hk; subst hn; exact h
theorem h_new {ρ : Type} (g : γ → Ga C cc nL own E h0) (gr : γ → Rm C hF h0) {t idx : Nat} {sl : Int} (hc : NwC own t idx sl) {K : Int × AH → Option ρ} {res : ρ} (hT : TH h) (hO : Old h0 h) (hd : decode cc pc = .ok (.new idx, 3)) (e : bd1 (nwo h t sl) K = some res) (kk : ∀ a h', TI 5 a → aT h' a = t → TH h' → Old h0 h' → K (a, h') = some res → X C (zA γ ε E hF h0 h') lv (pc + 3) ((2, a) :: st)) : X C (zA γ ε E hF h0 h) lv pc st := by
  obtain ⟨t0, t36, r, N, hr, rfl, hl, hi, hini, hcl⟩ := hc
  have hsz : 0 ≤ aN h := hT.2.2.1
  have k' := kk (aN h) (mkc h t N 0) (by show -1 ≤ aN h; omega) (by show (if aN h = h.1 then t else _) = t; exact if_pos rfl) (hT.mk ⟨by omega, by omega⟩) (hO.mk (by omega)) e
  obtain ⟨⟨m1, m2, m3⟩, mε⟩ := k'.1
  have e1 : aN (mkc h t N 0) = aN h + 1 := rfl
  have e2 : aS (mkc h t N 0) = aS h + N := rfl
  rw [e1] at m1
  rw [e2] at m2
  have o1 := hO.1
  have o2 := hO.2.1
  refine ⟨⟨⟨by omega, by omega, Old.tag m3⟩, mε⟩, fun H locs ls a b c => ?_⟩
  have g := g a.1
  have gr := gr a.1
  have hsize : (H.size : Int) = aN h := a.2.1
  refine W.newcK g.1.1 g.1.2.1 g.1.2.2.2.2.1 (g.1.2.2.2.2.2.1 _ hl) (g.1.2.2.2.2.2.1 _ hi) (g.1.2.2.2.2.2.1 _ hini) rfl hd (by rw [gr.1]; show (aN h - aN h0).toNat + 1 ≤ _; omega) (by rw [gr.2]; show (aS h - aS h0).toNat + N ≤ _; omega) ((g.2.1.1 (t - 1) r hr).2.1) rfl fun H1 kC hkC f1 z1 q1 => ?_
  have w := k'.2 H1 locs ls ⟨a.1, RH.mk hT a.2 (Or.inr ?_) z1 q1⟩ (b.grow z1 q1) c
  · change XW C H1 locs _ _ (pc + 3) ls (ev 2 (aN h) :: evs st) at w
    rw [ev_refq hsize.symm] at w
    exact w.cs (by show (aN h - aN h0).toNat + 1 = (aN (mkc h t N 0) - aN h0).toNat; rw [e1]; omega) (by show (aS h - aS h0).toNat + N = (aS (mkc h t N 0) - aS h0).toNat; rw [e2]; omega)
  · have ht : aT (mkc h t N 0) H.size = t := if_pos hsize
    have hv : ∀ k, aV (mkc h t N 0) H.size k = dv (ft t k) := fun k => if_pos hsize
    unfold aCell
    rw [ht, if_pos (by omega)]
    rcases hcl with h0' | hcl
    · rw [h0']
      exact oc_of ⟨_, f1, rfl, rfl, fun k hk => absurd hk (Nat.not_lt_zero k)⟩
    · rw [hcl.nf]
      have hr' : hcl.2.2.1 = hr := rfl
      obtain ⟨ty, hty, htc, -⟩ := hcl.2.2.2.2
      refine oc_of ((u_born ty g.1.2.2.2.2.2.1 hcl.2.2.2.1 (hcl.kn g.2.1) hkC f1 hty).to (fun k hk => ?_))
      show defaultValue (ty k) = ev (kof (ft t k)) (aV (mkc h t N 0) H.size k)
      rw [hv, ← (htc k hk).1]
      exact dv_ev (by rw [(htc k hk).1]; exact (htc k hk).2)
/-- a new array -/
theorem h_mka {ρ : Type} (g : γ → Ga C cc nL own E h0) {t : Nat} (t64 : 64 ≤ t) {n : Int} {ln : Nat} {K : Int × AH → Option ρ} {res : ρ} (hT : TH h) (hO : Old h0 h) (e : (nwa h t n).bind K = some res) (kk : ∀ a h', TI 5 a → aT h' a = t → TH h' → Old h0 h' → K (a, h') = some res → X C (zA γ ε E hF h0 h') lv (pc + ln) ((2, a) :: st))
    (row : ∀ (_ : γ) (H : Heap) (locs : List Loc) (ls : Array Slot), ¬ iI n < 0 → (iI n).toNatClampNeg = n.toNat → n.toNat ≤ 50000000 → aN h + 1 ≤ aN hF → aS h + n ≤ aS hF → 0 ≤ n → (∀ H1 : Heap, H1[H.size]? = some (arrV (E.2.1 (t - 64)) n.toNat (fun _ => ev (kof (ft t 0)) (dv (ft t 0)))) → H1.size = H.size + 1 → (∀ q : Nat, q < H.size → H1[q]? = H[q]?) → XW C H1 locs ((aN h - aN h0).toNat + 1) ((aS h - aS h0).toNat + n.toNat) (pc + ln) ls (.ref H.size :: evs st)) → XW C H locs (aN h - aN h0).toNat (aS h - aS h0).toNat pc ls (.int (iI n) :: evs st)) : X C (zA γ ε E hF h0 h) lv pc ((0, n) :: st) := by
  unfold nwa at e
  split at e
  · rename_i hn
    have hsz : 0 ≤ aN h := hT.2.2.1
    have k' := kk (aN h) (mkc h t n n) (by show -1 ≤ aN h; omega) (by show (if aN h = h.1 then t else _) = t; exact if_pos rfl) (hT.mk ⟨by omega, by omega⟩) (hO.mk (by omega)) e
    obtain ⟨⟨m1, m2, m3⟩, mε⟩ := k'.1
    have e1 : aN (mkc h t n n) = aN h + 1 := rfl
    have e2 : aS (mkc h t n n) = aS h + n := rfl
    rw [e1] at m1
    rw [e2] at m2
    have o1 := hO.1
    have o2 := hO.2.1
    have hin : InR n := ⟨by omega, by omega⟩
    refine ⟨⟨⟨by omega, by omega, Old.tag m3⟩, mε⟩, fun H locs ls a b c => ?_⟩
    have g := g a.1
    have hsize : (H.size : Int) = aN h := a.2.1
    refine row a.1 H locs ls (fun q => by rw [iI_lt0 hin] at q; omega) (by show (iI n).toInt.toNat = _; rw [iI_toInt hin]) (by omega) (by omega) (by omega) hn.1 (fun H1 f1 z1 q1 => ?_)
    have w := k'.2 H1 locs ls ⟨a.1, RH.mk hT a.2 (Or.inr ?_) z1 q1⟩ (b.grow z1 q1) c
    · change XW C H1 locs _ _ (pc + ln) ls (ev 2 (aN h) :: evs st) at w
      rw [ev_refq hsize.symm] at w
      exact w.cs (by show (aN h - aN h0).toNat + 1 = (aN (mkc h t n n) - aN h0).toNat; rw [e1]; omega) (by show (aS h - aS h0).toNat + n.toNat = (aS (mkc h t n n) - aS h0).toNat; rw [e2]; omega)
    · have ht : aT (mkc h t n n) H.size = t := if_pos hsize
      have hv : ∀ k, aV (mkc h t n n) H.size k = dv (ft t k) := fun k => if_pos hsize
      have hl : aL (mkc h t n n) H.size = n := if_pos hsize
      unfold aCell
      rw [ht, if_neg (by omega), hl]
      refine aCell_new (f1.trans ?_)
      congr 2
      funext j
      have hft : ft t (j : Int) = ft t 0 := by unfold ft; rw [if_neg (by omega), if_neg (by omega)]
      rw [hv, hft]
  · cases e
theorem push_facts {H : Heap} {x : Cell} : (H.push x)[H.size]? = some x ∧ (H.push x).size = H.size + 1 ∧ ∀ q : Nat, q < H.size → (H.push x)[q]? = H[q]? :=
  ⟨Array.getElem?_push_size, Array.size_push x, fun q hq => by rw [Array.getElem?_push, if_neg (Nat.ne_of_lt hq)]⟩
theorem h_newa {ρ : Type} (g : γ → Ga C cc nL own E h0) (gr : γ → Rm C hF h0) {t : Nat} {atype : ArrayType} {n : Int} {K : Int × AH → Option ρ} {res : ρ} (ht : 64 ≤ t ∧ t < 68 ∧ tyA[t - 64]? = some (newarray.typeOf atype) ∧ Cond.arrayClass (newarray.typeOf atype) ∈ lw_all ∧ componentBytes (newarray.typeOf atype) ≤ 8 ∧ defaultValue (newarray.typeOf atype) = ev (kof (ft t 0)) (dv (ft t 0)) ∧ ∀ C : String, newarray.typeOf atype ≠ .object C) (hT : TH h) (hO : Old h0 h) (hd : decode cc pc = .ok (.newarray atype, 2)) (e : (nwa h t n).bind K = some res) (kk : ∀ a h', TI 5 a → aT h' a = t → TH h' → Old h0 h' → K (a, h') = some res → X C (zA γ ε E hF h0 h') lv (pc + 2) ((2, a) :: st)) : X C (zA γ ε E hF h0 h) lv pc ((0, n) :: st) := by
  obtain ⟨t1, t2, t3, t4, t5, t6, t7⟩ := ht
  refine h_mka g t1 hT hO e kk (fun hγ H locs ls n1 n2 n3 m1 m2 n4 w => ?_)
  have g := g hγ
  have gr := gr hγ
  have o1 := hO.1
  have o2 := hO.2.1
  refine W.newa g.1.1 g.1.2.1 (g.1.2.2.2.2.2.1 _ t4) rfl hd rfl n1 (by rw [n2]; exact Nat.le_trans (Nat.mul_le_mul n3 t5) (by decide)) (by rw [gr.1]; omega) (by rw [gr.2, n2]; omega) fun cA' kA comp f1 f2 f3 => ?_
  have hra := (g.2.1.arr t3 (by omega)).2
  have hfc : C.1.2.2.2.2.vm.findClass ("[" ++ (newarray.typeOf atype).toString) = some (E.2.1 (t - 64)) := by
    generalize newarray.typeOf atype = T at hra t7
    cases T <;> first | exact hra | exact absurd rfl (t7 _)
  cases Option.some.inj (f1.symm.trans hfc)
  rw [n2]
  obtain ⟨p1, p2, p3⟩ := push_facts (H := H) (x := { cls := E.2.1 (t - 64), slots := Array.replicate n.toNat (defaultValue (newarray.typeOf atype)), vm := .none })
  exact w _ (by rw [p1, ← arrV_new, t6]) p2 p3
theorem h_anew {ρ : Type} (g : γ → Ga C cc nL own E h0) (gr : γ → Rm C hF h0) {t : Nat} {Cn : String} {idx : Nat} {n : Int} {K : Int × AH → Option ρ} {res : ρ} (hao : γ → va_AO Cn C.1.2.2.2.2) (ht : RfT t (.object Cn)) (hl : Cond.classLink own idx Cn ∈ lw_all) (hT : TH h) (hO : Old h0 h) (hd : decode cc pc = .ok (.anewarray idx, 3)) (e : (nwa h t n).bind K = some res) (kk : ∀ a h', TI 5 a → aT h' a = t → TH h' → Old h0 h' → K (a, h') = some res → X C (zA γ ε E hF h0 h') lv (pc + 3) ((2, a) :: st)) (hnI : t - 64 < 14 := by decide) : X C (zA γ ε E hF h0 h) lv pc ((0, n) :: st) := by
  obtain ⟨t1, t2, t3, t4⟩ := ht
  refine h_mka g (t := t) (by omega) hT hO e kk (fun hγ H locs ls n1 n2 n3 m1 m2 n4 w => ?_)
  have g := g hγ
  have gr := gr hγ
  have o1 := hO.1
  have o2 := hO.2.1
  refine W.anew g.1.1 g.1.2.1 g.1.2.2.2.2.1 (g.1.2.2.2.2.2.1 _ hl) (hao hγ) rfl hd rfl n1 (by rw [n2]; omega) (by rw [gr.1]; omega) (by rw [gr.2, n2]; omega) fun cA' kA comp f1 f2 f3 f4 => ?_
  obtain ⟨kA', comp', -, -, -, hfc⟩ := (g.2.1.arr t2 hnI).2
  cases Option.some.inj (f1.symm.trans hfc)
  rw [n2]
  obtain ⟨p1, p2, p3⟩ := push_facts (H := H) (x := { cls := E.2.1 (t - 64), slots := Array.replicate n.toNat .null, vm := .none })
  exact w _ (by rw [p1, ← arrV_new, t4]; rfl) p2 p3
theorem h_anewA {ρ : Type} (g : γ → Ga C cc nL own E h0) (gr : γ → Rm C hF h0) {t : Nat} {ty : FieldType} {idx : Nat} {n : Int} {K : Int × AH → Option ρ} {res : ρ} (hao : γ → (Cond.arrayOver (.array ty)).before C.2.1.2.1 C.1.2.2.2.2 = true) (ht : RfT t (.array ty)) (hl : Cond.classLink own idx (FieldType.array ty).toString ∈ lw_all) (hT : TH h) (hO : Old h0 h) (hd : decode cc pc = .ok (.anewarray idx, 3)) (e : (nwa h t n).bind K = some res) (kk : ∀ a h', TI 5 a → aT h' a = t → TH h' → Old h0 h' → K (a, h') = some res → X C (zA γ ε E hF h0 h') lv (pc + 3) ((2, a) :: st)) (hnI : t - 64 < 14 := by decide) : X C (zA γ ε E hF h0 h) lv pc ((0, n) :: st) := by
  obtain ⟨t1, t2, t3, t4⟩ := ht
  refine h_mka g (t := t) (by omega) hT hO e kk (fun hγ H locs ls n1 n2 n3 m1 m2 n4 w => ?_)
  have g := g hγ
  have gr := gr hγ
  have o1 := hO.1
  have o2 := hO.2.1
  refine W.anewA g.1.1 g.1.2.1 g.1.2.2.2.2.1 (g.1.2.2.2.2.2.1 _ hl) (hao hγ) rfl hd rfl n1 (by rw [n2]; omega) (by rw [gr.1]; omega) (by rw [gr.2, n2]; omega) fun cA' kA comp f1 f2 f3 f4 => ?_
  have hfc : C.1.2.2.2.2.vm.findClass ("[" ++ (FieldType.array ty).toString) = some (E.2.1 (t - 64)) := (g.2.1.arr t2 hnI).2
  cases Option.some.inj (f1.symm.trans hfc)
  rw [n2]
  obtain ⟨p1, p2, p3⟩ := push_facts (H := H) (x := { cls := E.2.1 (t - 64), slots := Array.replicate n.toNat .null, vm := .none })
  exact w _ (by rw [p1, ← arrV_new, t4]; rfl) p2 p3
end HO
