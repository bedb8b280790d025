/-! HEAP rows, stores and arrays -/
set_option maxRecDepth 100000
theorem fits_vm {s : State} {c : ClassId} {d : VmData} {i : Nat} {v : Value} (h : d.isStatics = false) : s.fitsSlot c d i v = s.fitsSlot c .none i v := by
  cases d <;> first | rfl | cases h
theorem sib_hit {H : Heap} {a : Nat} {cell x : Cell} (h : H[a]? = some cell) : (H.setIfInBounds a x)[a]? = some x := by
  have ha : a < H.size := (Array.getElem?_eq_some_iff.mp h).1
  simp [Array.getElem?_setIfInBounds, ha]
theorem sib_oth {H : Heap} {a q : Nat} {x : Cell} (h : q ≠ a) : (H.setIfInBounds a x)[q]? = H[q]? := by
  simp [Array.getElem?_setIfInBounds, Ne.symm h]
section HP
variable {C : Cx} {cc : ByteArray} {nL : Nat} {own : String} {E : EA} {h0 : AH} {γ ε : Prop} {hF : AH} {h : AH} {lv : LV} {pc : Nat} {st : List TV}
theorem h_putc {ρ : Type} (g : γ → Ga C cc nL own E h0) {t k : Nat} {r : vw_C} {ref : String} (c : ClF t r) (hk : k < r.2.2) (hs : SameF ref (r.2.1 k).1 (r.2.1 k).2.1 (r.2.1 k).2.2.1) {a v : Int} {K : AH → Option ρ} {res : ρ} (hT : TH h) (hO : Old h0 h) (hv : TI (ft t k) v)
    (row : ∀ (_ : γ) (H : Heap) (locs : List Loc) (ls : Array Slot) (q : Nat) (cf i : Nat) (kf : Class) (f : Field) (cell : Cell), C.1.2.2.2.2.fieldFound? (r.2.1 k).1 (r.2.1 k).2.1 (r.2.1 k).2.2.1 = some (cf, kf, i, f) → f.isStatic = false → H[q]? = some cell → (cell.vm ≠ .unknown ∧ cell.vm.isStatics = false) → f.slot < cell.slots.size → narrow f.type (ev (kof (ft t k)) v) = ev (kof (ft t k)) v → C.1.2.2.2.2.fitsSlot cell.cls .none f.slot (ev (kof (ft t k)) v) = true →
      (∀ H' : Heap, H'[q]? = some (cell.setSlot f.slot (ev (kof (ft t k)) v)) → H'.size = H.size → (∀ x, x ≠ q → H'[x]? = H[x]?) → XW C H' (locs ++ [⟨q, f.slot⟩]) (aN h - aN h0).toNat (aS h - aS h0).toNat (pc + 3) ls (evs st)) → XW C H locs (aN h - aN h0).toNat (aS h - aS h0).toNat pc ls (ev (kof (ft t k)) v :: .ref q :: evs st))
    (e : (pf h t k a v).bind K = some res) (kk : ∀ h', TH h' → Old h0 h' → h' = setV h a k v → K h' = some res → X C (zA γ ε E hF h0 h') lv (pc + 3) st) : X C (zA γ ε E hF h0 h) lv pc ((kof (ft t k), v) :: (2, a) :: st) := by
  unfold pf at e
  split at e
  · rename_i ht
    have ht0 : aT h a ≠ 0 := by rw [ht]; have := c.1; omega
    obtain ⟨q, rfl, -⟩ := hT.pos (a := a) ht0
    have k' := kk (setV h q k v) (hT.set (by rw [ht]; exact hv)) ⟨hO.1, hO.2⟩ rfl e
    refine ⟨k'.1, fun H locs ls a b cc' => ?_⟩
    have g := g a.1
    show XW C H locs _ _ pc ls (ev _ v :: ev 2 (q : Int) :: evs st)
    rw [ev_ref]
    obtain ⟨g0, gK, gN, gA, -, -⟩ := g
    have hc := a.2.2 q ht0
    unfold aCell at hc
    rw [ht, if_pos c.2.1, c.nf] at hc
    obtain ⟨cell, q1, q2, q3, q4⟩ := hc
    obtain ⟨hS, hfc, kC, hkC, hkind⟩ := c.kn gK
    obtain ⟨cf, kf, fi, f, hi, hsl⟩ := hS k hk
    obtain ⟨ty, hty, htc, hnm⟩ := c.2.2.2.2
    have hap : ∀ x y, x < r.2.2 → y < r.2.2 → x ≠ y → (E.1.2 (t - 1)) x ≠ (E.1.2 (t - 1)) y := va_apart (own := own) g0.2.2.2.2.2.1 c.2.2.2.1 ty hty hnm gK.K c.2.2.1
    obtain ⟨n1, n2⟩ := val_ok (ty := ty k) (v := v) (htc k hk).1 (htc k hk).2 hv
    have hfit := u_fits hfc hkC hkind (u_lays g0.2.2.2.2.2.1 c.2.2.2.1 hk) hi (hty k hk) n1 n2
    refine row a.1 H locs ls q cf fi kf f cell hi (u_facts hfc hkC (u_lays g0.2.2.2.2.2.1 c.2.2.2.1 hk) hi).1 q1 ⟨q3.1, q3.2.1⟩ (by rw [hsl]; exact k2_hasslot (q4 k hk)) hfit.1 (by rw [q2]; exact hfit.2) (fun H' e1 e2 e3 => ?_)
    rw [hsl] at e1 ⊢
    refine k'.2 H' _ ls ⟨a.1, RH.set a.2 ht0 ?_ e2 e3⟩ (b.put e2 e3 (by rw [gA]; exact hO.in ht0)) cc'
    unfold aCell
    rw [aT_setV, ht, if_pos c.2.1, c.nf]
    refine t_OC.to (V := updV (fun k => ev (kof (ft t k)) (aV h q k)) k (ev (kof (ft t k)) v)) ⟨_, e1, q2, q3, t_set q4 hap hk _⟩ (fun j hj => ?_)
    show updV _ k _ j = ev (kof (ft t j)) (if (q : Int) = q ∧ (j : Int) = k then v else aV h q j)
    unfold updV
    by_cases hjk : j = k
    · subst hjk; rw [if_pos rfl, if_pos ⟨rfl, rfl⟩]
    · rw [if_neg hjk, if_neg (fun x => hjk (by have := x.2; omega))]
  · cases e
/-- a field of an own object that is not final -/
def NoFin (t k : Nat) : Prop := ∀ r : vw_C, clA[t - 1]? = some r → (r.2.1 k).2.2.2 = false
theorem NoFin.of {t k : Nat} (h : (clA[t - 1]?.map fun r => (r.2.1 k).2.2.2) = some false) : NoFin t k := by
  intro r hr
  rw [hr] at h
  exact Option.some.inj h
theorem lay_nf {t k : Nat} {r : vw_C} (c : ClF t r) (hk : k < r.2.2) (hn : NoFin t k) {args : Array Value} {s : State} (hts : ∀ w ∈ lw_all, w.before args s = true) : (Cond.lays r.1 (r.2.1 k).1 (r.2.1 k).2.1 (r.2.1 k).2.2.1).before args s = true := by
  have := hts _ (c.2.2.2.1 _ (u_in_lay hk))
  unfold u_lay at this
  rwa [if_neg (by rw [hn r c.2.2.1]; decide)] at this
theorem nofin_acc {args : Array Value} {s : State} {C O f d : String} {cf fi : Nat} {kf : Class} {fd : Field} (hl : (Cond.lays C O f d).before args s = true) (hi : s.fieldFound? O f d = some (cf, kf, fi, fd)) : hasFlag fd.accessFlags Acc.final = false := by
  obtain ⟨c, k, cf', kf', fi', fd', r1, r2, hi', hst, hfin, hcast, hty, -⟩ := Cond.lays_spec hl
  cases hi.symm.trans hi'
  exact hfin
theorem h_put {ρ : Type} (g : γ → Ga C cc nL own E h0) {t k idx : Nat} (hf : FdH own t k idx) (hn : NoFin t k) {a v : Int} {K : AH → Option ρ} {res : ρ} (hT : TH h) (hO : Old h0 h) (hv : TI (ft t k) v) (hd : decode cc pc = .ok (.putfield idx, 3)) (e : (pf h t k a v).bind K = some res) (kk : ∀ h', TH h' → Old h0 h' → h' = setV h a k v → K h' = some res → X C (zA γ ε E hF h0 h') lv (pc + 3) st) : X C (zA γ ε E hF h0 h) lv pc ((kof (ft t k), v) :: (2, a) :: st) := by
  obtain ⟨r, ref, c, hk, hl, hs⟩ := hf
  refine h_putc g c hk hs hT hO hv (fun hγ H locs ls q cf i kf f cell h1 h2 h3 h4 h5 h6 h7 w => ?_) e kk
  have g := g hγ
  exact W.putf g.1.1 g.1.2.1 (own := own) (ref := ref) (f := f) g.1.2.2.2.2.1 (g.1.2.2.2.2.2.1 _ hl) (hs.ok g.1.2.2.2.2.2.1 _ h1) h2 (Or.inl (nofin_acc (lay_nf c hk hn g.1.2.2.2.2.2.1) h1)) h3 h4.1 h5 h6 (by rw [fits_vm h4.2]; exact h7) rfl rfl hd (w _ (sib_hit h3) (by simp) (fun x hx => sib_oth hx))
theorem h_putN {ρ : Type} (g : γ → Ga C cc nL own E h0) {t k idx : Nat} (hf : FdN own t k idx) (hn : NoFin t k) {a v : Int} {K : AH → Option ρ} {res : ρ} (hT : TH h) (hO : Old h0 h) (hv : TI (ft t k) v) (hd : decode cc pc = .ok (.putfield idx, 3)) (e : (pf h t k a v).bind K = some res) (kk : ∀ h', TH h' → Old h0 h' → h' = setV h a k v → K h' = some res → X C (zA γ ε E hF h0 h') lv (pc + 3) st) : X C (zA γ ε E hF h0 h) lv pc ((kof (ft t k), v) :: (2, a) :: st) := by
  obtain ⟨r, ref, host, c, hk, hl, hs⟩ := hf
  refine h_putc g c hk hs hT hO hv (fun hγ H locs ls q cf i kf f cell h1 h2 h3 h4 h5 h6 h7 w => ?_) e kk
  have g := g hγ
  exact va_Wputf g.1.1 g.1.2.1 (own := own) (ref := ref) (f := f) g.1.2.2.2.2.1 ((g.2.2.1 _ hl rfl).use rfl) (hs.ok g.1.2.2.2.2.2.1 _ h1) h2 (Or.inl (nofin_acc (lay_nf c hk hn g.1.2.2.2.2.2.1) h1)) h3 h4.1 h5 h6 (by rw [fits_vm h4.2]; exact h7) rfl rfl hd (w _ (sib_hit h3) (by simp) (fun x hx => sib_oth hx))
/-- a final field, in its class's constructor -/
def IsFin (own : String) (t k : Nat) : Prop := ∀ r : vw_C, clA[t - 1]? = some r → (r.2.1 k).2.2.2 = true ∧ (r.2.1 k).1 = own
theorem IsFin.of {own : String} {t k : Nat} (h : (clA[t - 1]?.map fun r => ((r.2.1 k).2.2.2, (r.2.1 k).1)) = some (true, own)) : IsFin own t k := by
  intro r hr
  rw [hr] at h
  have := Option.some.inj h
  exact ⟨congrArg Prod.fst this, congrArg Prod.snd this⟩
theorem h_putF {ρ : Type} (g : γ → Ga C cc nL own E h0) {t k idx : Nat} (hf : FdH own t k idx) (hn : IsFin own t k) (hin : γ → C.2.1.2.2.2.1.name = "<init>") {a v : Int} {K : AH → Option ρ} {res : ρ} (hT : TH h) (hO : Old h0 h) (hv : TI (ft t k) v) (hd : decode cc pc = .ok (.putfield idx, 3)) (e : (pf h t k a v).bind K = some res) (kk : ∀ h', TH h' → Old h0 h' → h' = setV h a k v → K h' = some res → X C (zA γ ε E hF h0 h') lv (pc + 3) st) : X C (zA γ ε E hF h0 h) lv pc ((kof (ft t k), v) :: (2, a) :: st) := by
  obtain ⟨r, ref, c, hk, hl, hs⟩ := hf
  refine h_putc g c hk hs hT hO hv (fun hγ H locs ls q cf i kf f cell h1 h2 h3 h4 h5 h6 h7 w => ?_) e kk
  have g := g hγ
  have hlay := g.1.2.2.2.2.2.1 _ (c.2.2.2.1 _ (u_in_lay hk))
  unfold u_lay at hlay
  rw [if_pos (hn r c.2.2.1).1] at hlay
  have hcf : C.2.1.1.cls = cf := by
    obtain ⟨_, _, c', _, _, _, -, -, hf', -, -, -, hown2, -⟩ := Cond.laysFinal_spec hlay
    have e1 : c' = cf := by have := h1.symm.trans hf'; simp at this; exact this.1.symm
    rw [(hn r c.2.2.1).2] at hown2
    rw [← e1]; exact Option.some.inj (g.1.2.2.2.2.1.symm.trans hown2)
  exact W.putf g.1.1 g.1.2.1 g.1.2.2.2.2.1 (g.1.2.2.2.2.2.1 _ hl) (hs.ok g.1.2.2.2.2.2.1 _ h1) h2 (Or.inr ⟨hcf, hin hγ⟩) h3 h4.1 h5 h6 (by rw [fits_vm h4.2]; exact h7) rfl rfl hd (w _ (sib_hit h3) (by simp) (fun x hx => sib_oth hx))
/-! arrays -/
theorem KA.ar1 {E : EA} {U : State} (hK : KA E U) {j : Nat} {ty : FieldType} (h : tyA[j]? = some ty) : ArrOfT U (E.2.1 j) ty := (hK.2 j ty h).1
theorem KA.arr {E : EA} {U : State} (hK : KA E U) {j : Nat} {ty : FieldType} (h : tyA[j]? = some ty) (hi : j < 14 := by decide) : ArrOfT U (E.2.1 j) ty ∧ va_RA U (E.2.1 j) ty := ⟨(hK.2 j ty h).1, (hK.2 j ty h).2 hi⟩
theorem in_iL {i n : Int} (h : 0 ≤ i ∧ i < n) (hn : n ≤ 100000000) : vp_in (iI i) n.toNat ∧ (iI i).toNatClampNeg = i.toNat := by
  have hi : (iI i).toInt = i := iI_toInt ⟨by omega, by omega⟩
  refine ⟨vp_in_iff.mpr ?_, ?_⟩
  · rw [hi]; omega
  · show (iI i).toInt.toNat = _
    rw [hi]
theorem h_aldc {ρ : Type} (g : γ → Ga C cc nL own E h0) {t : Nat} (ht64 : 64 ≤ t) {a i : Int} {K : Int → Option ρ} {res : ρ} (hT : TH h)
    (row : ∀ (_ : γ) (H : Heap) (locs : List Loc) (ls : Array Slot) (q : Nat) (cell : Cell), H[q]? = some cell → ArC (E.2.1 (t - 64)) (aL h q).toNat (fun j => ev (kof (ft t 0)) (aV h q j)) cell → ¬ (iI i < 0 ∨ cell.slots.size ≤ (iI i).toNatClampNeg) → cell.slots[(iI i).toNatClampNeg]? = some (ev (kof (ft t 0)) (aV h q i)) → XW C H locs (aN h - aN h0).toNat (aS h - aS h0).toNat (pc + 1) ls (ev (kof (ft t 0)) (aV h q i) :: evs st) → XW C H locs (aN h - aN h0).toNat (aS h - aS h0).toNat pc ls (.int (iI i) :: .ref q :: evs st))
    (e : (ga h t a i).bind K = some res) (kk : ∀ v, TI (ft t 0) v → K v = some res → X C (zA γ ε E hF h0 h) lv (pc + 1) ((kof (ft t 0), v) :: st)) : X C (zA γ ε E hF h0 h) lv pc ((0, i) :: (2, a) :: st) := by
  unfold ga at e
  split at e
  · rename_i hh
    obtain ⟨ht, hi⟩ := hh
    have ht0 : aT h a ≠ 0 := by rw [ht]; omega
    obtain ⟨q, rfl, -⟩ := hT.pos (a := a) ht0
    have hft : ∀ x, ft t x = ft t 0 := fun x => by unfold ft; rw [if_neg (by omega), if_neg (by omega)]
    have k' := kk (aV h q i) (by have := hT.1 q i; rw [ht, hft] at this; exact this) e
    refine ⟨k'.1, fun H locs ls a b cc' => ?_⟩
    have g := g a.1
    show XW C H locs _ _ pc ls (.int (iI i) :: ev 2 (q : Int) :: evs st)
    rw [ev_ref]
    have hc := a.2.2 q ht0
    unfold aCell at hc
    rw [ht, if_neg (by omega)] at hc
    obtain ⟨z1, z2⟩ := in_iL hi (hT.2.2.2 q).2
    obtain ⟨cell, hc, hA, -⟩ := hc
    refine row a.1 H locs ls q cell hc hA (hA.in z1) ?_ (k'.2 H locs ls a b cc')
    rw [hA.2.2.2.2 _ (by rw [z2]; omega), z2]
    show some (ev (kof (ft t 0)) (aV h q ((i.toNat : Nat) : Int))) = _
    rw [Int.toNat_of_nonneg hi.1]
  · cases e
theorem not_unk {c : ClassId} {n : Nat} {f : Nat → Value} : (arrV c n f).vm ≠ .unknown := fun q => by cases q
theorem h_iald {ρ : Type} (g : γ → Ga C cc nL own E h0) {a i : Int} {K : Int → Option ρ} {res : ρ} (hT : TH h) (hd : decode cc pc = .ok (.iaload, 1)) (e : (ga h 64 a i).bind K = some res) (kk : ∀ v, InR v → K v = some res → X C (zA γ ε E hF h0 h) lv (pc + 1) ((0, v) :: st)) : X C (zA γ ε E hF h0 h) lv pc ((0, i) :: (2, a) :: st) :=
  h_aldc g (t := 64) (by decide) hT (fun hγ H locs ls q cell hc hA h1 h2 w => have g := g hγ; W.iald g.1.1 g.1.2.1 hc (hA.of (g.2.1.arr (j := 0) rfl).1) hA.unk h1 h2 rfl rfl hd w) e kk
/-- the script, an array of the caller's -/
theorem h_iald9 {ρ : Type} (g : γ → Ga C cc nL own E h0) {a i : Int} {K : Int → Option ρ} {res : ρ} (hT : TH h) (hd : decode cc pc = .ok (.iaload, 1)) (e : (ga h 79 a i).bind K = some res) (kk : ∀ v, InR v → K v = some res → X C (zA γ ε E hF h0 h) lv (pc + 1) ((0, v) :: st)) : X C (zA γ ε E hF h0 h) lv pc ((0, i) :: (2, a) :: st) :=
  h_aldc g (t := 79) (by decide) hT (fun hγ H locs ls q cell hc hA h1 h2 w => have g := g hγ; W.iald g.1.1 g.1.2.1 hc (hA.of (g.2.1.ar1 (j := 15) rfl)) hA.unk h1 h2 rfl rfl hd w) e kk
theorem h_zald {ρ : Type} (g : γ → Ga C cc nL own E h0) {a i : Int} {K : Int → Option ρ} {res : ρ} (hT : TH h) (hd : decode cc pc = .ok (.baload, 1)) (e : (ga h 65 a i).bind K = some res) (kk : ∀ v, TI 1 v → K v = some res → X C (zA γ ε E hF h0 h) lv (pc + 1) ((0, v) :: st)) : X C (zA γ ε E hF h0 h) lv pc ((0, i) :: (2, a) :: st) :=
  h_aldc g (t := 65) (by decide) hT (fun hγ H locs ls q cell hc hA h1 h2 w => have g := g hγ; W.zald g.1.1 g.1.2.1 hc (hA.of (g.2.1.arr (j := 1) rfl).1) hA.unk h1 h2 rfl rfl hd w) e kk
theorem h_bald {ρ : Type} (g : γ → Ga C cc nL own E h0) {a i : Int} {K : Int → Option ρ} {res : ρ} (hT : TH h) (hd : decode cc pc = .ok (.baload, 1)) (e : (ga h 66 a i).bind K = some res) (kk : ∀ v, TI 3 v → K v = some res → X C (zA γ ε E hF h0 h) lv (pc + 1) ((0, v) :: st)) : X C (zA γ ε E hF h0 h) lv pc ((0, i) :: (2, a) :: st) :=
  h_aldc g (t := 66) (by decide) hT (fun hγ H locs ls q cell hc hA h1 h2 w => have g := g hγ; W.bald g.1.1 g.1.2.1 hc (hA.of (g.2.1.arr (j := 2) rfl).1) hA.unk h1 h2 rfl rfl hd w) e kk
theorem h_lald {ρ : Type} (g : γ → Ga C cc nL own E h0) {a i : Int} {K : Int → Option ρ} {res : ρ} (hT : TH h) (hd : decode cc pc = .ok (.laload, 1)) (e : (ga h 67 a i).bind K = some res) (kk : ∀ v, In64 v → K v = some res → X C (zA γ ε E hF h0 h) lv (pc + 1) ((1, v) :: st)) : X C (zA γ ε E hF h0 h) lv pc ((0, i) :: (2, a) :: st) :=
  h_aldc g (t := 67) (by decide) hT (fun hγ H locs ls q cell hc hA h1 h2 w => have g := g hγ; W.lald g.1.1 g.1.2.1 hc (hA.of (g.2.1.arr (j := 3) rfl).1) hA.unk h1 h2 rfl rfl hd w) e kk
/-- arrays of references: t - 64 is the place in tyA -/
def RfT (t : Nat) (ty : FieldType) : Prop := 68 ≤ t ∧ tyA[t - 64]? = some ty ∧ ty.isReference = true ∧ ft t 0 = 5
theorem h_aald {ρ : Type} (g : γ → Ga C cc nL own E h0) {t : Nat} {ty : FieldType} (hr : RfT t ty) {a i : Int} {K : Int → Option ρ} {res : ρ} (hT : TH h) (hd : decode cc pc = .ok (.aaload, 1)) (e : (ga h t a i).bind K = some res) (kk : ∀ v, TI 5 v → K v = some res → X C (zA γ ε E hF h0 h) lv (pc + 1) ((2, v) :: st)) : X C (zA γ ε E hF h0 h) lv pc ((0, i) :: (2, a) :: st) := by
  obtain ⟨h1, h2, h3, h4⟩ := hr
  refine h_aldc g (t := t) (by omega) hT (fun hγ H locs ls q cell hc hA q1 q2 w => ?_) e (fun v hv e => by rw [h4] at hv ⊢; exact kk v hv e)
  have g := g hγ
  exact W.aald g.1.1 g.1.2.1 hc (hA.of (g.2.1.ar1 h2)) h3 hA.unk q1 q2 rfl rfl hd w
/-- a place of an array is written -/
theorem h_astc {ρ : Type} (g : γ → Ga C cc nL own E h0) {t : Nat} (ht64 : 64 ≤ t) {a i v : Int} {K : AH → Option ρ} {res : ρ} (hT : TH h) (hO : Old h0 h) (hv : TI (ft t 0) v) {P : Prop} [Decidable P]
    (row : ∀ (_ : γ) (H : Heap) (locs : List Loc) (ls : Array Slot) (q : Nat) (cell : Cell), P → RH E h H → H[q]? = some cell → ArC (E.2.1 (t - 64)) (aL h q).toNat (fun j => ev (kof (ft t 0)) (aV h q j)) cell → ¬ (iI i < 0 ∨ cell.slots.size ≤ (iI i).toNatClampNeg) →
      (∀ H' : Heap, H'[q]? = some (cell.setSlot (iI i).toNatClampNeg (ev (kof (ft t 0)) v)) → H'.size = H.size → (∀ x, x ≠ q → H'[x]? = H[x]?) → XW C H' (locs ++ [⟨q, (iI i).toNatClampNeg⟩]) (aN h - aN h0).toNat (aS h - aS h0).toNat (pc + 1) ls (evs st)) → XW C H locs (aN h - aN h0).toNat (aS h - aS h0).toNat pc ls (ev (kof (ft t 0)) v :: .int (iI i) :: .ref q :: evs st))
    (e : (if (aT h a = t ∧ 0 ≤ i ∧ i < aL h a) ∧ P then some (setV h a i v) else none).bind K = some res) (kk : ∀ h', TH h' → Old h0 h' → h' = setV h a i v → K h' = some res → X C (zA γ ε E hF h0 h') lv (pc + 1) st) : X C (zA γ ε E hF h0 h) lv pc ((kof (ft t 0), v) :: (0, i) :: (2, a) :: st) := by
  split at e
  · rename_i hh
    obtain ⟨⟨ht, hi⟩, hp⟩ := hh
    have ht0 : aT h a ≠ 0 := by rw [ht]; omega
    obtain ⟨q, rfl, -⟩ := hT.pos (a := a) ht0
    have hft : ∀ x, ft t x = ft t 0 := fun x => by unfold ft; rw [if_neg (by omega), if_neg (by omega)]
    have k' := kk (setV h q i v) (hT.set (by rw [ht, hft]; exact hv)) ⟨hO.1, hO.2⟩ rfl e
    refine ⟨k'.1, fun H locs ls a b cc' => ?_⟩
    have g := g a.1
    show XW C H locs _ _ pc ls (ev _ v :: .int (iI i) :: ev 2 (q : Int) :: evs st)
    rw [ev_ref]
    have hc := a.2.2 q ht0
    unfold aCell at hc
    rw [ht, if_neg (by omega)] at hc
    obtain ⟨z1, z2⟩ := in_iL hi (hT.2.2.2 q).2
    obtain ⟨cell, hc, hA, hex⟩ := hc
    refine row a.1 H locs ls q cell hp a.2 hc hA (hA.in z1) (fun H' e1 e2 e3 => ?_)
    refine k'.2 H' _ ls ⟨a.1, RH.set a.2 ht0 ?_ e2 e3⟩ (b.put e2 e3 (by rw [g.2.2.2.1]; exact hO.in ht0)) cc'
    unfold aCell
    rw [aT_setV, ht, if_neg (by omega)]
    have hE : ∀ j : Nat, updV (fun j => ev (kof (ft t 0)) (aV h q j)) (iI i).toNatClampNeg (ev (kof (ft t 0)) v) j = ev (kof (ft t 0)) (aV (setV h q i v) q j) := fun j => by
      show updV _ _ _ j = ev (kof (ft t 0)) (if (q : Int) = q ∧ (j : Int) = i then v else aV h q j)
      unfold updV
      rw [z2]
      by_cases hj : j = i.toNat
      · rw [if_pos hj, if_pos ⟨rfl, by omega⟩]
      · rw [if_neg hj, if_neg (fun x => hj (by have := x.2; omega))]
    refine ⟨_, e1, (hA.store (by rw [z2]; omega)).to (fun j _ => hE j), fun hk => ?_⟩
    rw [hex hk, arrV_store]
    exact congrArg (arrV _ _) (funext hE)
  · cases e
theorem pa_T {h : AH} {t : Nat} {a i v : Int} : pa h t a i v = (if (aT h a = t ∧ 0 ≤ i ∧ i < aL h a) ∧ True then some (setV h a i v) else none) := by
  unfold pa
  by_cases hp : aT h a = t ∧ 0 ≤ i ∧ i < aL h a
  · rw [if_pos hp, if_pos ⟨hp, trivial⟩]
  · rw [if_neg hp, if_neg (fun q => hp q.1)]
theorem h_iast {ρ : Type} (g : γ → Ga C cc nL own E h0) {a i v : Int} {K : AH → Option ρ} {res : ρ} (hT : TH h) (hO : Old h0 h) (hv : InR v) (hd : decode cc pc = .ok (.iastore, 1)) (e : (pa h 64 a i v).bind K = some res) (kk : ∀ h', TH h' → Old h0 h' → h' = setV h a i v → K h' = some res → X C (zA γ ε E hF h0 h') lv (pc + 1) st) : X C (zA γ ε E hF h0 h) lv pc ((0, v) :: (0, i) :: (2, a) :: st) :=
  h_astc g (t := 64) (P := True) (by decide) hT hO hv (fun hγ H locs ls q cell _ _ hc hA h1 w => have g := g hγ; W.iast g.1.1 g.1.2.1 hc (hA.of (g.2.1.arr (j := 0) rfl).1) hA.unk h1 rfl rfl hd w) (by rw [← pa_T]; exact e) kk
theorem h_zast {ρ : Type} (g : γ → Ga C cc nL own E h0) {a i v : Int} {K : AH → Option ρ} {res : ρ} (hT : TH h) (hO : Old h0 h) (hv : TI 1 v) (hd : decode cc pc = .ok (.bastore, 1)) (e : (pa h 65 a i v).bind K = some res) (kk : ∀ h', TH h' → Old h0 h' → h' = setV h a i v → K h' = some res → X C (zA γ ε E hF h0 h') lv (pc + 1) st) : X C (zA γ ε E hF h0 h) lv pc ((0, v) :: (0, i) :: (2, a) :: st) :=
  h_astc g (t := 65) (P := True) (by decide) hT hO hv (fun hγ H locs ls q cell _ _ hc hA h1 w => have g := g hγ; W.zast g.1.1 g.1.2.1 hc (hA.of (g.2.1.arr (j := 1) rfl).1) hA.unk h1 rfl rfl hd (fun H' e1 => w H' (by rw [narrow_z hv] at e1; exact e1))) (by rw [← pa_T]; exact e) kk
theorem h_bast {ρ : Type} (g : γ → Ga C cc nL own E h0) {a i v : Int} {K : AH → Option ρ} {res : ρ} (hT : TH h) (hO : Old h0 h) (hv : TI 3 v) (hd : decode cc pc = .ok (.bastore, 1)) (e : (pa h 66 a i v).bind K = some res) (kk : ∀ h', TH h' → Old h0 h' → h' = setV h a i v → K h' = some res → X C (zA γ ε E hF h0 h') lv (pc + 1) st) : X C (zA γ ε E hF h0 h) lv pc ((0, v) :: (0, i) :: (2, a) :: st) :=
  h_astc g (t := 66) (P := True) (by decide) hT hO hv (fun hγ H locs ls q cell _ _ hc hA h1 w => have g := g hγ; W.bast g.1.1 g.1.2.1 hc (hA.of (g.2.1.arr (j := 2) rfl).1) hA.unk h1 rfl rfl hd (fun H' e1 => w H' (by rw [narrow_b hv] at e1; exact e1))) (by rw [← pa_T]; exact e) kk
theorem h_last {ρ : Type} (g : γ → Ga C cc nL own E h0) {a i v : Int} {K : AH → Option ρ} {res : ρ} (hT : TH h) (hO : Old h0 h) (hv : In64 v) (hd : decode cc pc = .ok (.lastore, 1)) (e : (pa h 67 a i v).bind K = some res) (kk : ∀ h', TH h' → Old h0 h' → h' = setV h a i v → K h' = some res → X C (zA γ ε E hF h0 h') lv (pc + 1) st) : X C (zA γ ε E hF h0 h) lv pc ((1, v) :: (0, i) :: (2, a) :: st) :=
  h_astc g (t := 67) (P := True) (by decide) hT hO hv (fun hγ H locs ls q cell _ _ hc hA h1 w => have g := g hγ; W.last g.1.1 g.1.2.1 hc (hA.of (g.2.1.arr (j := 3) rfl).1) hA.unk h1 rfl rfl hd w) (by rw [← pa_T]; exact e) kk
theorem h_len {ρ : Type} (g : γ → Ga C cc nL own E h0) {t : Nat} (ht64 : 64 ≤ t) {ty : FieldType} (hty : tyA[t - 64]? = some ty) {a : Int} {K : Int → Option ρ} {res : ρ} (hT : TH h) (hd : decode cc pc = .ok (.arraylength, 1)) (e : (al h t a).bind K = some res) (kk : ∀ v, InR v → K v = some res → X C (zA γ ε E hF h0 h) lv (pc + 1) ((0, v) :: st)) : X C (zA γ ε E hF h0 h) lv pc ((2, a) :: st) := by
  unfold al at e
  split at e
  · rename_i ht
    have ht0 : aT h a ≠ 0 := by rw [ht]; omega
    obtain ⟨q, rfl, -⟩ := hT.pos (a := a) ht0
    have hl := hT.2.2.2 q
    have k' := kk (aL h q) ⟨by omega, by omega⟩ e
    refine ⟨k'.1, fun H locs ls a b cc' => ?_⟩
    have g := g a.1
    show XW C H locs _ _ pc ls (ev 2 (q : Int) :: evs st)
    rw [ev_ref]
    have hc := a.2.2 q ht0
    unfold aCell at hc
    rw [ht, if_neg (by omega)] at hc
    obtain ⟨cell, hc, hA, -⟩ := hc
    refine W.alen (n := iI (aL h q)) g.1.1 g.1.2.1 hc (hA.of (g.2.1.ar1 hty)) ?_ rfl rfl hd (k'.2 H locs ls a b cc')
    rw [hA.2.2.2.1]
    show Int32.ofNat (aL h q).toNat = Int32.ofInt (aL h q)
    rw [← Int32.ofInt_eq_ofNat, Int.toNat_of_nonneg hl.1]
  · cases e
end HP
