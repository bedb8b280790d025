/-! FLAT: the state of SyntaxspanModel as one function: field number, index; rows of its methods -/
set_option maxRecDepth 100000
def LN : Nat → Int := fun k => match k with
  | 0 => 576
  | 1 => 24
  | 2 => 576
  | 3 => 24
  | 5 => 6
  | 8 => 3
  | 9 => 3
  | 10 => 3
  | 11 => 3
  | 12 => 18
  | 13 => 3
  | 16 => 600
  | 17 => 600
  | 18 => 600
  | 19 => 600
  | 20 => 3
  | 21 => 24
  | 22 => 576
  | 24 => 210
  | 28 => 1600
  | 29 => 1600
  | 30 => 1600
  | 31 => 1600
  | 32 => 1600
  | 33 => 1600
  | 34 => 1600
  | 35 => 1600
  | 36 => 1600
  | 38 => 600
  | 39 => 600
  | 40 => 600
  | 42 => 210
  | 43 => 210
  | 44 => 210
  | 45 => 210
  | 47 => 210
  | 50 => 420
  | 52 => 420
  | 55 => 210
  | 56 => 210
  | 57 => 210
  | 61 => 210
  | 62 => 210
  | 64 => 3
  | 65 => 3
  | 66 => 600
  | 67 => 600
  | 68 => 600
  | 69 => 4
  | 70 => 1600
  | 72 => 3200
  | 74 => 600
  | 75 => 1600
  | 76 => 2200
  | 77 => 2200
  | 79 => 2000
  | 81 => 4000
  | 83 => 2000
  | 85 => 2400
  | 86 => 5
  | 89 => 3751
  | 90 => 10
  | 93 => 800
  | 95 => 210
  | 96 => 210
  | 97 => 576
  | 98 => 24
  | 99 => 1200
  | 100 => 24
  | 103 => 120
  | 108 => 600
  | 109 => 600
  | 110 => 600
  | 111 => 24
  | 112 => 24
  | 113 => 601
  | 114 => 601
  | 115 => 8
  | 116 => 24
  | _ => 0
def FY : Nat → Nat := fun k => match k with
  | 14 => 1
  | 21 => 1
  | 22 => 1
  | 23 => 1
  | 57 => 1
  | 58 => 1
  | 63 => 1
  | 80 => 4
  | 83 => 4
  | 85 => 4
  | 92 => 1
  | 102 => 1
  | 110 => 1
  | 115 => 1
  | _ => 0
abbrev arL : List Nat := [0, 1, 2, 3, 5, 8, 9, 10, 11, 12, 13, 16, 17, 18, 19, 20, 21, 22, 24, 28, 29, 30, 31, 32, 33, 34, 35, 36, 38, 39, 40, 42, 43, 44, 45, 47, 50, 52, 55, 56, 57, 61, 62, 64, 65, 66, 67, 68, 69, 70, 72, 74, 75, 76, 77, 79, 81, 83, 85, 86, 89, 90, 93, 95, 96, 97, 98, 99, 100, 103, 108, 109, 110, 111, 112, 113, 114, 115, 116]
abbrev MS : Type := Nat → Int → Int
def up (σ : MS) (k : Nat) (i v : Int) : MS := fun d j => if d = k ∧ j = i then v else σ d j
def TF (σ : MS) : Prop := ∀ k i, TI (FY k) (σ k i)
theorem TF.up {σ : MS} (h : TF σ) {k : Nat} {i v : Int} (hv : TI (FY k) v) : TF (up σ k i v) := by
  intro d j
  show TI (FY d) (if d = k ∧ j = i then v else σ d j)
  split
  · rename_i q; rw [q.1]; exact hv
  · exact h d j
def rdc (σ : MS) (k : Nat) (i : Int) : Option Int := if 0 ≤ i ∧ i < LN k then some (σ k i) else none
def wrc (σ : MS) (k : Nat) (i v : Int) : Option MS := if 0 ≤ i ∧ i < LN k then some (up σ k i v) else none
abbrev GF : Type := Nat × (Nat → Nat) × va_G × (Nat → ClassId)
def gM (G : GF) : Nat := G.1
def gA (G : GF) (k : Nat) : Nat := G.2.1 k
abbrev clM : List vw_C := [(RX4, TX4, 118)]
def fv (G : GF) (σ : MS) (k : Nat) : Value := if LN k = 0 then (if FY k = 4 then .long (lI (σ k 0)) else .int (iI (σ k 0))) else .ref (gA G k)
def arc (σ : MS) (k : Nat) : vp_A := ((LN k).toNat, if FY k = 4 then .inr (.inl (fun j => lI (σ k j))) else .inl (fun j => iI (σ k j)))
def fvl (G : GF) (σ : MS) : List Value := (List.range 118).map (fv G σ)
def Fl (G : GF) (σ : MS) (H : Heap) : Prop := va_at G.2.2.1 clM (gM G, .inr (0, fvl G σ)) H ∧ ∀ k, k < 118 → 0 < LN k → H[gA G k]? = some (vp_cell (G.2.2.2 (FY k)) (arc σ k))
def FD (G : GF) : Prop := (∀ k k', k < 118 → k' < 118 → 0 < LN k → 0 < LN k' → gA G k = gA G k' → k = k') ∧ ∀ k, k < 118 → 0 < LN k → gA G k ≠ gM G
def AF (G : GF) : Nat → Prop := fun q => q = gM G ∨ ∃ k, k < 118 ∧ 0 < LN k ∧ q = gA G k
abbrev tysM (G : GF) : List (ClassId × FieldType) := [(G.2.2.2 0, .int), (G.2.2.2 1, .boolean), (G.2.2.2 4, .long)]
def KF (G : GF) (U : State) : Prop := va_K G.2.2.1 clM (tysM G) U
abbrev zF (G : GF) (n : Nat) (σ : MS) : Zs := (fun H => Fl G σ H ∧ H.size = n, 0, 0, True)
def Gf (C : Cx) (cc : ByteArray) (nL : Nat) (G : GF) : Prop := Gd C cc nL RX4 ∧ KF G C.1.2.2.2.2 ∧ FD G ∧ ∀ q, AF G q → C.2.2.1 q
def FdM (k idx : Nat) : Prop := k < 118 ∧ Cond.fieldLink RX4 idx RX4 (TX4 k).2.1 (TX4 k).2.2.1 ∈ lw_all ∧ (TX4 k).1 = RX4
theorem fvl_at {G : GF} {σ : MS} {k : Nat} (hk : k < 118) : (fvl G σ)[k]? = some (fv G σ k) := by
  unfold fvl
  rw [List.getElem?_map, List.getElem?_range hk]
  rfl
theorem LN_small : ∀ k, k < 118 → 0 ≤ LN k ∧ LN k ≤ 4000 := by decide +kernel
theorem LN_pos {k : Nat} (h : 0 < LN k) : k < 118 := by
  rcases Nat.lt_or_ge k 118 with q | q
  · exact q
  · have : LN k = 0 := by
      unfold LN
      split <;> first | rfl | omega
    omega
theorem FY_4 : ∀ k, k < 118 → FY k = 0 ∨ FY k = 1 ∨ FY k = 4 := by decide +kernel
theorem in_iI {i n : Int} (h : 0 ≤ i ∧ i < n) (hn : n ≤ 4000) : vp_in (iI i) n.toNat ∧ (iI i).toNatClampNeg = i.toNat := by
  have hi : (iI i).toInt = i := iI_toInt ⟨by omega, by omega⟩
  refine ⟨vp_in_iff.mpr ?_, ?_⟩
  · rw [hi]; omega
  · show (iI i).toInt.toNat = _
    rw [hi]
section FRows
variable {C : Cx} {cc : ByteArray} {nL : Nat} {G : GF} {n : Nat} {σ : MS} {lv : LV} {pc : Nat} {st : List TV}
theorem f_get (g : Gf C cc nL G) {k idx : Nat} (hf : FdM k idx) {q : TV} (hd : decode cc pc = .ok (.getfield idx, 3)) (hq : fv G σ k = ev q.1 q.2) (kk : X C (zF G n σ) lv (pc + 3) (q :: st)) : X C (zF G n σ) lv pc ((2, (gM G : Int)) :: st) := by
  obtain ⟨g0, gK, gD, gA⟩ := g
  refine ⟨kk.1, fun H locs ls a b c => ?_⟩
  have w := kk.2 H locs ls a b c
  change XW C H locs 0 0 (pc + 3) ls (ev q.1 q.2 :: evs st) at w
  rw [← hq] at w
  show XW C H locs 0 0 pc ls (ev 2 (gM G : Int) :: evs st)
  rw [ev_ref]
  have hP : va_P G.2.2.1 clM [(gM G, .inr (0, fvl G σ))] H := by
    intro j x hx
    match j, hx with
    | 0, hx => cases hx; exact a.1.1
    | j + 1, hx => cases hx
  exact va_get (ws := [(gM G, .inr (0, fvl G σ))]) g0.1 g0.2.1 g0.2.2.2.2.2.1 in_X4 g0.2.2.2.2.1 gK hP 0 rfl rfl k hf.1 (g0.2.2.2.2.2.1 _ hf.2.1) (fun x hx => by rw [hf.2.2] at hx; exact hx) (fvl_at hf.1) hd w
theorem f_geti (g : Gf C cc nL G) {k idx : Nat} (hf : FdM k idx) (hd : decode cc pc = .ok (.getfield idx, 3)) (h1 : LN k = 0) (h2 : (FY k == 4) = false) (kk : X C (zF G n σ) lv (pc + 3) ((0, σ k 0) :: st)) : X C (zF G n σ) lv pc ((2, (gM G : Int)) :: st) :=
  f_get g hf hd (q := (0, σ k 0)) (by unfold fv; rw [if_pos h1, if_neg (by simpa using h2)]; rfl) kk
theorem f_getl (g : Gf C cc nL G) {k idx : Nat} (hf : FdM k idx) (hd : decode cc pc = .ok (.getfield idx, 3)) (h1 : LN k = 0) (h2 : FY k = 4) (kk : X C (zF G n σ) lv (pc + 3) ((1, σ k 0) :: st)) : X C (zF G n σ) lv pc ((2, (gM G : Int)) :: st) :=
  f_get g hf hd (q := (1, σ k 0)) (by unfold fv; rw [if_pos h1, if_pos h2]; rfl) kk
theorem f_geta (g : Gf C cc nL G) {k idx : Nat} (hf : FdM k idx) (hd : decode cc pc = .ok (.getfield idx, 3)) (h1 : decide (0 < LN k) = true) (kk : X C (zF G n σ) lv (pc + 3) ((2, (gA G k : Int)) :: st)) : X C (zF G n σ) lv pc ((2, (gM G : Int)) :: st) :=
  f_get g hf hd (q := (2, (gA G k : Int))) (by unfold fv; rw [if_neg (by have := of_decide_eq_true h1; omega)]; exact (ev_ref _).symm) kk
/-- the value that a scalar field of number k takes -/
def sv (k : Nat) (v : Int) : TV := if FY k = 4 then (1, v) else (0, v)
theorem up_other {σ : MS} {k d : Nat} {i v : Int} (h : d ≠ k) : up σ k i v d = σ d := by
  funext j
  show (if d = k ∧ j = i then v else σ d j) = _
  rw [if_neg (fun q => h q.1)]
theorem fv_up0 {G : GF} {σ : MS} {k : Nat} {v : Int} (h1 : LN k = 0) (d : Nat) (hd : d < 118) (hk : k < 118) : vp_V ((fvl G σ).set k (ev (sv k v).1 (sv k v).2)) d = vp_V (fvl G (up σ k 0 v)) d := by
  unfold vp_V
  rw [List.getD_eq_getElem?_getD, List.getD_eq_getElem?_getD, fvl_at hd, List.getElem?_set]
  by_cases h : k = d
  · subst h
    rw [if_pos rfl, if_pos (by simp [fvl]; exact hk)]
    show ev (sv k v).1 (sv k v).2 = fv G (up σ k 0 v) k
    unfold fv sv
    rw [if_pos h1]
    split
    · rename_i h4; simp [ev, up]
    · rename_i h4; simp [ev, up]
  · rw [if_neg h, fvl_at hd]
    show fv G σ d = fv G (up σ k 0 v) d
    unfold fv
    rw [up_other (fun q => h q.symm)]
theorem fl_put0 {G : GF} {σ : MS} {H H1 : Heap} {k : Nat} {v : Int} (hD : FD G) (h1 : LN k = 0) (h : Fl G σ H) (hs : va_at G.2.2.1 clM (gM G, .inr (0, fvl G (up σ k 0 v))) H1) (oq : ∀ q : Nat, q ≠ gM G → H1[q]? = H[q]?) : Fl G (up σ k 0 v) H1 := by
  refine ⟨hs, fun d hd hd0 => ?_⟩
  rw [oq _ (hD.2 d hd hd0), h.2 d hd hd0]
  have : arc (up σ k 0 v) d = arc σ d := by
    unfold arc
    rw [up_other (fun q => by rw [q] at hd0; omega)]
  rw [this]
theorem f_put (g : Gf C cc nL G) {k idx : Nat} (hf : FdM k idx) {v : Int} {ty : FieldType} (hd : decode cc pc = .ok (.putfield idx, 3)) (h1 : LN k = 0) (hfin : (TX4 k).2.2.2 = false) (hty : parseFieldDescriptor (TX4 k).2.2.1 = some ty) (hn : narrow ty (ev (sv k v).1 (sv k v).2) = ev (sv k v).1 (sv k v).2) (hfit : fits ty (ev (sv k v).1 (sv k v).2) = true) (kk : X C (zF G n (up σ k 0 v)) lv (pc + 3) st) : X C (zF G n σ) lv pc (sv k v :: (2, (gM G : Int)) :: st) := by
  obtain ⟨g0, gK, gD, gA⟩ := g
  refine ⟨kk.1, fun H locs ls a b c => ?_⟩
  show XW C H locs 0 0 pc ls (ev (sv k v).1 (sv k v).2 :: ev 2 (gM G : Int) :: evs st)
  rw [ev_ref]
  obtain ⟨hx, hb, hml, hnn, hown, hts, -⟩ := g0
  have hc : clM[0]? = some (RX4, TX4, 118) := rfl
  have hap := va_apart (own := RX4) hts in_X4 tyX4 tyX4_ok nmX4 gK hc
  obtain ⟨r, e1, cell, q1, q2, q3, q4⟩ := a.1.1
  have hr : r = (RX4, TX4, 118) := Option.some.inj (e1.symm.trans hc)
  subst hr
  obtain ⟨hS, hfc, kC, hkC, hkind⟩ := gK.1 0 _ hc
  obtain ⟨cf, kf, fi, f, hi, hsl⟩ := hS k hf.1
  have hlay := hts _ (in_X4 _ (u_in_lay hf.1))
  unfold u_lay at hlay
  rw [if_neg (by rw [hfin]; decide)] at hlay
  have hst := (u_facts hfc hkC (u_lays hts in_X4 hf.1) hi).1
  have h6 := u_store hfc hkC hkind hlay hi hty hn hfit
  refine W.putK hx hb (own := RX4) (ref := RX4) (f := f) ⟨hown, hts _ hf.2.1, ⟨_, _, _, by rw [hf.2.2] at hi; exact hi⟩, hst⟩ (by rw [q2]; exact h6) q1 q3 (by rw [hsl]; exact k2_hasslot (q4 k hf.1)) rfl rfl hd fun H' e1 e2 e3 => ?_
  rw [hsl] at e1 ⊢
  refine kk.2 H' _ ls ⟨fl_put0 gD h1 a.1 ⟨_, hc, t_OB.to (V := updV (vp_V (fvl G σ)) k (ev (sv k v).1 (sv k v).2)) ⟨_, e1, q2, q3, t_set q4 hap hf.1 _⟩ (fun j hj => ?_)⟩ e3, e2.trans a.2⟩ (b.put e2 e3 (gA _ (Or.inl rfl))) c
  rw [vp_updV_set (by simp [fvl]; exact hf.1)]
  exact fv_up0 h1 j hj hf.1
theorem f_puti {ρ : Type} (g : Gf C cc nL G) {k idx : Nat} (hf : FdM k idx) {v : Int} {K : MS → Option ρ} {r : ρ} (hd : decode cc pc = .ok (.putfield idx, 3)) (h1 : LN k = 0) (h2 : FY k = 0) (hT : TF σ) (hty : parseFieldDescriptor (TX4 k).2.2.1 = some .int) (hfin : (TX4 k).2.2.2 = false) (hv : InR v) (e : bd1 (up σ k 0 v) K = some r) (kk : ∀ σ', TF σ' → K σ' = some r → X C (zF G n σ') lv (pc + 3) st) : X C (zF G n σ) lv pc ((0, v) :: (2, (gM G : Int)) :: st) := by
  have hs : sv k v = (0, v) := by unfold sv; rw [if_neg (by rw [h2]; decide)]
  have := f_put g hf (v := v) hd h1 hfin hty (by rw [hs]; rfl) (by rw [hs]; rfl) (kk _ (hT.up (by rw [h2]; exact hv)) e)
  rw [hs] at this
  exact this
theorem narrow_z {v : Int} (h : TI 1 v) : narrow .boolean (.int (iI v)) = .int (iI v) := by
  rcases h with rfl | rfl <;> decide
theorem fits_z {v : Int} (h : TI 1 v) : fits .boolean (.int (iI v)) = true := by
  rcases h with rfl | rfl <;> decide
theorem f_putz {ρ : Type} (g : Gf C cc nL G) {k idx : Nat} (hf : FdM k idx) {v : Int} {K : MS → Option ρ} {r : ρ} (hd : decode cc pc = .ok (.putfield idx, 3)) (h1 : LN k = 0) (h2 : FY k = 1) (hT : TF σ) (hty : parseFieldDescriptor (TX4 k).2.2.1 = some .boolean) (hfin : (TX4 k).2.2.2 = false) (hv : TI 1 v) (e : bd1 (up σ k 0 v) K = some r) (kk : ∀ σ', TF σ' → K σ' = some r → X C (zF G n σ') lv (pc + 3) st) : X C (zF G n σ) lv pc ((0, v) :: (2, (gM G : Int)) :: st) := by
  have hs : sv k v = (0, v) := by unfold sv; rw [if_neg (by rw [h2]; decide)]
  have := f_put g hf (v := v) hd h1 hfin hty (by rw [hs]; exact narrow_z hv) (by rw [hs]; exact fits_z hv) (kk _ (hT.up (by rw [h2]; exact hv)) e)
  rw [hs] at this
  exact this
theorem f_putl {ρ : Type} (g : Gf C cc nL G) {k idx : Nat} (hf : FdM k idx) {v : Int} {K : MS → Option ρ} {r : ρ} (hd : decode cc pc = .ok (.putfield idx, 3)) (h1 : LN k = 0) (h2 : FY k = 4) (hT : TF σ) (hty : parseFieldDescriptor (TX4 k).2.2.1 = some .long) (hfin : (TX4 k).2.2.2 = false) (hv : In64 v) (e : bd1 (up σ k 0 v) K = some r) (kk : ∀ σ', TF σ' → K σ' = some r → X C (zF G n σ') lv (pc + 3) st) : X C (zF G n σ) lv pc ((1, v) :: (2, (gM G : Int)) :: st) := by
  have hs : sv k v = (1, v) := by unfold sv; rw [if_pos h2]
  have := f_put g hf (v := v) hd h1 hfin hty (by rw [hs]; rfl) (by rw [hs]; rfl) (kk _ (hT.up (by rw [h2]; exact hv)) e)
  rw [hs] at this
  exact this
theorem fl_arr {G : GF} {σ : MS} {H : Heap} (h : Fl G σ H) {k : Nat} (hk : 0 < LN k) : va_P G.2.2.1 clM [(gA G k, .inl (G.2.2.2 (FY k), arc σ k))] H := by
  intro j x hx
  match j, hx with
  | 0, hx => cases hx; exact h.2 k (LN_pos hk) hk
  | j + 1, hx => cases hx
theorem f_ald {ρ : Type} (g : Gf C cc nL G) {k : Nat} {i : Int} {K : Int → Option ρ} {r : ρ} (hT : TF σ) (e : (rdc σ k i).bind K = some r) {t0 : Nat} {ins : Instr}
    (row : ∀ (H : Heap) (locs : List Loc) (ls : Array Slot), vp_in (iI i) (LN k).toNat → (iI i).toNatClampNeg = i.toNat → 0 < LN k → 0 ≤ i → va_P G.2.2.1 clM [(gA G k, .inl (G.2.2.2 (FY k), arc σ k))] H → XW C H locs 0 0 (pc + 1) ls (ev (if FY k = 4 then 1 else 0) (σ k i) :: evs st) → XW C H locs 0 0 pc ls (.int (iI i) :: .ref (gA G k) :: evs st))
    (kk : ∀ v, TI (FY k) v → K v = some r → X C (zF G n σ) lv (pc + 1) (((if FY k = 4 then 1 else 0), v) :: st)) : X C (zF G n σ) lv pc ((0, i) :: (2, (gA G k : Int)) :: st) := by
  unfold rdc at e
  split at e
  · rename_i h
    have k' := kk (σ k i) (hT k i) e
    refine ⟨k'.1, fun H locs ls a b c => ?_⟩
    have hL : 0 < LN k := by omega
    have w := k'.2 H locs ls a b c
    show XW C H locs 0 0 pc ls (.int (iI i) :: ev 2 (gA G k : Int) :: evs st)
    rw [ev_ref]
    obtain ⟨z1, z2⟩ := in_iI h (LN_small k (LN_pos hL)).2
    exact row H locs ls z1 z2 hL h.1 (fl_arr a.1 hL) w
  · cases e
theorem f_iald {ρ : Type} (g : Gf C cc nL G) {k : Nat} {i : Int} {K : Int → Option ρ} {r : ρ} (hT : TF σ) (hd : decode cc pc = .ok (.iaload, 1)) (h2 : FY k = 0) (e : (rdc σ k i).bind K = some r) (kk : ∀ v, InR v → K v = some r → X C (zF G n σ) lv (pc + 1) ((0, v) :: st)) : X C (zF G n σ) lv pc ((0, i) :: (2, (gA G k : Int)) :: st) := by
  refine f_ald g hT e (t0 := 0) (ins := .iaload) (fun H locs ls z1 z2 hL hi hP w => ?_) (fun v hv e => by rw [h2] at hv ⊢; exact kk v hv e)
  rw [h2] at hP w
  have ha : arc σ k = ((LN k).toNat, .inl (fun j => iI (σ k j))) := by unfold arc; rw [if_neg (by rw [h2]; decide)]
  rw [ha] at hP
  exact va_iald g.1.1 g.1.2.1 g.2.1 hP 0 0 rfl rfl z1 hd (by show XW C _ _ _ _ _ _ (.int (iI (σ k ((iI i).toNatClampNeg : Int))) :: _); rw [z2, Int.toNat_of_nonneg hi]; exact w)
theorem f_zald {ρ : Type} (g : Gf C cc nL G) {k : Nat} {i : Int} {K : Int → Option ρ} {r : ρ} (hT : TF σ) (hd : decode cc pc = .ok (.baload, 1)) (h2 : FY k = 1) (e : (rdc σ k i).bind K = some r) (kk : ∀ v, TI 1 v → K v = some r → X C (zF G n σ) lv (pc + 1) ((0, v) :: st)) : X C (zF G n σ) lv pc ((0, i) :: (2, (gA G k : Int)) :: st) := by
  refine f_ald g hT e (t0 := 0) (ins := .baload) (fun H locs ls z1 z2 hL hi hP w => ?_) (fun v hv e => by rw [h2] at hv ⊢; exact kk v hv e)
  rw [h2] at hP w
  have ha : arc σ k = ((LN k).toNat, .inl (fun j => iI (σ k j))) := by unfold arc; rw [if_neg (by rw [h2]; decide)]
  rw [ha] at hP
  exact va_zald g.1.1 g.1.2.1 g.2.1 hP 0 1 rfl rfl z1 hd (by show XW C _ _ _ _ _ _ (.int (iI (σ k ((iI i).toNatClampNeg : Int))) :: _); rw [z2, Int.toNat_of_nonneg hi]; exact w)
theorem f_lald {ρ : Type} (g : Gf C cc nL G) {k : Nat} {i : Int} {K : Int → Option ρ} {r : ρ} (hT : TF σ) (hd : decode cc pc = .ok (.laload, 1)) (h2 : FY k = 4) (e : (rdc σ k i).bind K = some r) (kk : ∀ v, In64 v → K v = some r → X C (zF G n σ) lv (pc + 1) ((1, v) :: st)) : X C (zF G n σ) lv pc ((0, i) :: (2, (gA G k : Int)) :: st) := by
  refine f_ald g hT e (t0 := 0) (ins := .laload) (fun H locs ls z1 z2 hL hi hP w => ?_) (fun v hv e => by rw [h2] at hv ⊢; exact kk v hv e)
  rw [h2] at hP w
  have ha : arc σ k = ((LN k).toNat, .inr (.inl (fun j => lI (σ k j)))) := by unfold arc; rw [if_pos h2]
  rw [ha] at hP
  exact va_lald g.1.1 g.1.2.1 g.2.1 hP 0 2 rfl rfl z1 hd (by show XW C _ _ _ _ _ _ (.long (lI (σ k ((iI i).toNatClampNeg : Int))) :: _); rw [z2, Int.toNat_of_nonneg hi]; exact w)
/-- a place of an array is written -/
theorem fl_wr {G : GF} {σ : MS} {H H1 : Heap} {k : Nat} {i v : Int} (hD : FD G) (hk : 0 < LN k) (h : Fl G σ H) (hs : H1[gA G k]? = some (vp_cell (G.2.2.2 (FY k)) (arc (up σ k i v) k))) (oq : ∀ q : Nat, q ≠ gA G k → H1[q]? = H[q]?) : Fl G (up σ k i v) H1 := by
  have hk8 := LN_pos hk
  refine ⟨?_, fun d hd hd0 => ?_⟩
  · have e : fvl G (up σ k i v) = fvl G σ := by
      unfold fvl
      refine List.map_congr_left fun d _ => ?_
      unfold fv
      by_cases hdk : d = k
      · subst hdk
        rw [if_neg (by omega), if_neg (by omega)]
      · rw [up_other hdk]
    rw [e]
    exact h.1.kept (oq _ (fun q => hD.2 k hk8 hk q.symm))
  · by_cases hdk : d = k
    · subst hdk; exact hs
    · rw [oq _ (fun q => hdk (hD.1 d k hd hk8 hd0 hk q)), h.2 d hd hd0]
      have : arc (up σ k i v) d = arc σ d := by unfold arc; rw [up_other hdk]
      rw [this]
theorem arc_up {σ : MS} {k : Nat} {i v : Int} (h0 : 0 ≤ i) (h2 : (FY k == 4) = false) (j : Nat) : iI (up σ k i v k (j : Int)) = if j = i.toNat then iI v else iI (σ k (j : Int)) := by
  show iI (if k = k ∧ (j : Int) = i then v else σ k (j : Int)) = _
  by_cases h : j = i.toNat
  · rw [if_pos h, if_pos ⟨rfl, by omega⟩]
  · rw [if_neg h, if_neg (fun q => h (by omega))]
theorem f_ast {ρ : Type} (g : Gf C cc nL G) {k : Nat} {i v : Int} {t : Nat} {K : MS → Option ρ} {r : ρ} (hT : TF σ) (hv : TI (FY k) v) (e : (wrc σ k i v).bind K = some r)
    (row : ∀ (H : Heap) (locs : List Loc) (ls : Array Slot), vp_in (iI i) (LN k).toNat → (iI i).toNatClampNeg = i.toNat → 0 < LN k → 0 ≤ i → H[gA G k]? = some (vp_cell (G.2.2.2 (FY k)) (arc σ k)) → (∀ H' : Heap, H'[gA G k]? = some (vp_cell (G.2.2.2 (FY k)) (arc (up σ k i v) k)) → H'.size = H.size → (∀ q, q ≠ gA G k → H'[q]? = H[q]?) → XW C H' (locs ++ [⟨gA G k, i.toNat⟩]) 0 0 (pc + 1) ls (evs st)) → XW C H locs 0 0 pc ls (ev t v :: .int (iI i) :: .ref (gA G k) :: evs st))
    (kk : ∀ σ', TF σ' → K σ' = some r → X C (zF G n σ') lv (pc + 1) st) : X C (zF G n σ) lv pc ((t, v) :: (0, i) :: (2, (gA G k : Int)) :: st) := by
  unfold wrc at e
  split at e
  · rename_i h
    have k' := kk (up σ k i v) (hT.up hv) e
    refine ⟨k'.1, fun H locs ls a b c => ?_⟩
    have hL : 0 < LN k := by omega
    show XW C H locs 0 0 pc ls (ev t v :: .int (iI i) :: ev 2 (gA G k : Int) :: evs st)
    rw [ev_ref]
    obtain ⟨z1, z2⟩ := in_iI h (LN_small k (LN_pos hL)).2
    exact row H locs ls z1 z2 hL h.1 (a.1.2 k (LN_pos hL) hL) fun H' e1 e2 e3 => k'.2 H' _ ls ⟨fl_wr g.2.2.1 hL a.1 e1 e3, e2.trans a.2⟩ (b.put e2 e3 (g.2.2.2 _ (Or.inr ⟨k, LN_pos hL, hL, rfl⟩))) c
  · cases e
theorem f_iast {ρ : Type} (g : Gf C cc nL G) {k : Nat} {i v : Int} {K : MS → Option ρ} {r : ρ} (hT : TF σ) (hd : decode cc pc = .ok (.iastore, 1)) (h2 : FY k = 0) (hv : InR v) (e : (wrc σ k i v).bind K = some r) (kk : ∀ σ', TF σ' → K σ' = some r → X C (zF G n σ') lv (pc + 1) st) : X C (zF G n σ) lv pc ((0, v) :: (0, i) :: (2, (gA G k : Int)) :: st) := by
  refine f_ast g hT (by rw [h2]; exact hv) e (fun H locs ls z1 z2 hL hi hc w => ?_) kk
  have ha : ∀ σ, arc σ k = ((LN k).toNat, .inl (fun j => iI (σ k j))) := fun σ => by unfold arc; rw [if_neg (by rw [h2]; decide)]
  rw [ha, h2] at hc
  simp only [ha, h2] at w
  refine W.iast g.1.1 g.1.2.1 hc ((g.2.1.2 0 _ rfl).1 _ (fun j => .int (iI (σ k j)))) (fun q => by cases q) (by show ¬ (iI i < 0 ∨ (arrV _ _ _).slots.size ≤ _); rw [arrV_size]; exact z1) rfl rfl hd fun H1 e z oq => ?_
  rw [z2] at e ⊢
  refine w H1 ?_ z oq
  rw [e, vp_cell_i, vp_cell_i, arrV_store]
  congr 2
  funext q
  show updV _ _ _ q = .int (iI (up σ k i v k (q : Int)))
  rw [arc_up hi (by rw [h2]; rfl)]
  unfold updV
  split <;> rfl
theorem f_zast {ρ : Type} (g : Gf C cc nL G) {k : Nat} {i v : Int} {K : MS → Option ρ} {r : ρ} (hT : TF σ) (hd : decode cc pc = .ok (.bastore, 1)) (h2 : FY k = 1) (hv : TI 1 v) (e : (wrc σ k i v).bind K = some r) (kk : ∀ σ', TF σ' → K σ' = some r → X C (zF G n σ') lv (pc + 1) st) : X C (zF G n σ) lv pc ((0, v) :: (0, i) :: (2, (gA G k : Int)) :: st) := by
  refine f_ast g hT (by rw [h2]; exact hv) e (fun H locs ls z1 z2 hL hi hc w => ?_) kk
  have ha : ∀ σ, arc σ k = ((LN k).toNat, .inl (fun j => iI (σ k j))) := fun σ => by unfold arc; rw [if_neg (by rw [h2]; decide)]
  rw [ha, h2] at hc
  simp only [ha, h2] at w
  refine W.zast g.1.1 g.1.2.1 hc ((g.2.1.2 1 _ rfl).1 _ (fun j => .int (iI (σ k j)))) (fun q => by cases q) (by show ¬ (iI i < 0 ∨ (arrV _ _ _).slots.size ≤ _); rw [arrV_size]; exact z1) rfl rfl hd fun H1 e z oq => ?_
  rw [z2, narrow_z hv] at e
  rw [z2]
  refine w H1 ?_ z oq
  rw [e, vp_cell_i, vp_cell_i, arrV_store]
  congr 2
  funext q
  show updV _ _ _ q = .int (iI (up σ k i v k (q : Int)))
  rw [arc_up hi (by rw [h2]; rfl)]
  unfold updV
  split <;> rfl
theorem f_last {ρ : Type} (g : Gf C cc nL G) {k : Nat} {i v : Int} {K : MS → Option ρ} {r : ρ} (hT : TF σ) (hd : decode cc pc = .ok (.lastore, 1)) (h2 : FY k = 4) (hv : In64 v) (e : (wrc σ k i v).bind K = some r) (kk : ∀ σ', TF σ' → K σ' = some r → X C (zF G n σ') lv (pc + 1) st) : X C (zF G n σ) lv pc ((1, v) :: (0, i) :: (2, (gA G k : Int)) :: st) := by
  refine f_ast g hT (by rw [h2]; exact hv) e (fun H locs ls z1 z2 hL hi hc w => ?_) kk
  have ha : ∀ σ, arc σ k = ((LN k).toNat, .inr (.inl (fun j => lI (σ k j)))) := fun σ => by unfold arc; rw [if_pos h2]
  rw [ha, h2] at hc
  simp only [ha, h2] at w
  refine W.last g.1.1 g.1.2.1 hc ((g.2.1.2 2 _ rfl).1 _ (fun j => .long (lI (σ k j)))) (fun q => by cases q) (by show ¬ (iI i < 0 ∨ (arrV _ _ _).slots.size ≤ _); rw [arrV_size]; exact z1) rfl rfl hd fun H1 e z oq => ?_
  rw [z2] at e ⊢
  refine w H1 ?_ z oq
  rw [e, vp_cell_l, vp_cell_l, arrV_store]
  congr 2
  funext q
  show updV _ _ _ q = .long (lI (if k = k ∧ (q : Int) = i then v else σ k (q : Int)))
  unfold updV
  by_cases hq : q = i.toNat
  · rw [if_pos hq, if_pos ⟨rfl, by omega⟩]
  · rw [if_neg hq, if_neg (fun x => hq (by omega))]
end FRows
