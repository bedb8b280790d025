/-! MIXED: the model's flat state inside the abstract heap; calls of its methods from the law -/
set_option maxRecDepth 100000
def tgF (c : Nat) : Nat := if c = 4 then 67 else 64 + c
def sgm (h : AH) (m : Int) : MS := fun k i => if LN k = 0 then aV h m k else aV h (aV h m k) i
/-- a value cut to its kind's range -/
def nrm (c : Nat) (v : Int) : Int := match c with
  | 1 => if v = 0 ∨ v = 1 then v else 0
  | 2 => if 0 ≤ v ∧ v < 65536 then v else 0
  | 4 => if -9223372036854775808 ≤ v ∧ v < 9223372036854775808 then v else 0
  | 6 => v
  | _ => if -2147483648 ≤ v ∧ v < 2147483648 then v else 0
def arK (h : AH) (m a : Int) : Option Nat := (List.range 118).find? fun k => decide (0 < LN k) && decide (aV h m k = a)
def upm (h : AH) (m : Int) (s : MS) : AH := (h.1, h.2.1, h.2.2.1, h.2.2.2.1, fun a i => if a = m then (if 0 ≤ i ∧ i < 118 ∧ LN i.toNat = 0 then nrm (FY i.toNat) (s i.toNat 0) else h.2.2.2.2 a i) else match arK h m a with
  | some k => nrm (FY k) (s k i)
  | none => h.2.2.2.2 a i)
def mokB (h : AH) (m : Int) : Bool := decide (aT h m = 35) && ((List.range 118).all fun k => decide (LN k = 0) || (decide (aT h (aV h m k) = tgF (FY k)) && decide (aL h (aV h m k) = LN k))) && ((List.range 118).all fun k => (List.range 118).all fun k' => decide (LN k = 0) || decide (LN k' = 0) || decide (k = k') || decide (aV h m k ≠ aV h m k'))
/-- the model's arrays are no constants -/
def exB (kc : Nat → Int) (h : AH) (m : Int) : Bool := (List.range 118).all fun k => decide (LN k = 0) || decide (kc (1000 + (aV h m k).toNat) ≠ 1)
theorem exB_spec {kc : Nat → Int} {h : AH} {m : Int} (e : exB kc h m = true) : ∀ k, k < 118 → 0 < LN k → kc (1000 + (aV h m k).toNat) ≠ 1 := by
  unfold exB at e
  simp only [decide_eq_true_eq, List.all_eq_true, List.mem_range, Bool.or_eq_true] at e
  intro k hk h0
  rcases e k hk with q | q
  · omega
  · exact q
def mcv (kc : Nat → Int) (h : AH) (m : Int) (t : Nat) (r : Option (Int × MS)) : Option (Int × AH) := if mokB h m = true ∧ exB kc h m = true then r.bind fun q => some (nrm t q.1, upm h m q.2) else none
theorem nrm_ti {c : Nat} (hc : c = 0 ∨ c = 1 ∨ c = 2 ∨ c = 4 ∨ c = 6) (v : Int) : TIr c (nrm c v) := by
  rcases hc with rfl | rfl | rfl | rfl | rfl
  · show InR (if _ then v else 0)
    split
    · assumption
    · exact in0
  · show (if v = 0 ∨ v = 1 then v else 0) = 0 ∨ (if v = 0 ∨ v = 1 then v else 0) = 1
    split
    · assumption
    · exact Or.inl rfl
  · show 0 ≤ (if 0 ≤ v ∧ v < 65536 then v else 0) ∧ (if 0 ≤ v ∧ v < 65536 then v else 0) < 65536
    split
    · assumption
    · exact ⟨by decide, by decide⟩
  · show In64 (if _ then v else 0)
    split
    · assumption
    · exact ⟨by decide, by decide⟩
  · trivial
theorem nrm_id {c : Nat} (hc : c = 0 ∨ c = 1 ∨ c = 2 ∨ c = 4 ∨ c = 6) {v : Int} (h : TIr c v) : nrm c v = v := by
  rcases hc with rfl | rfl | rfl | rfl | rfl
  · exact if_pos h
  · exact if_pos h
  · exact if_pos h
  · exact if_pos h
  · rfl
theorem FY_k (k : Nat) : FY k = 0 ∨ FY k = 1 ∨ FY k = 2 ∨ FY k = 4 ∨ FY k = 6 := by
  rcases Nat.lt_or_ge k 118 with q | q
  · rcases FY_4 k q with h | h | h
    · exact Or.inl h
    · exact Or.inr (Or.inl h)
    · exact Or.inr (Or.inr (Or.inr (Or.inl h)))
  · left
    unfold FY
    split <;> first | rfl | omega
theorem TIr_TI {k : Nat} {v : Int} : TIr (FY k) v ↔ TI (FY k) v := by
  rcases Nat.lt_or_ge k 118 with q | q
  · rcases FY_4 k q with h | h | h <;> rw [h] <;> exact Iff.rfl
  · have : FY k = 0 := by
      unfold FY
      split <;> first | rfl | omega
    rw [this]; exact Iff.rfl
theorem mok_spec {h : AH} {m : Int} (e : mokB h m = true) : aT h m = 35 ∧ (∀ k, k < 118 → 0 < LN k → aT h (aV h m k) = tgF (FY k) ∧ aL h (aV h m k) = LN k) ∧ ∀ k k', k < 118 → k' < 118 → 0 < LN k → 0 < LN k' → aV h m k = aV h m k' → k = k' := by
  unfold mokB at e
  simp only [Bool.and_eq_true, decide_eq_true_eq, List.all_eq_true, List.mem_range, Bool.or_eq_true] at e
  obtain ⟨⟨e1, e2⟩, e3⟩ := e
  refine ⟨e1, fun k hk h0 => ?_, fun k k' hk hk' h0 h0' he => ?_⟩
  · rcases e2 k hk with q | q
    · omega
    · exact q
  · rcases e3 k hk k' hk' with ((q | q) | q) | q
    · omega
    · omega
    · exact q
    · exact absurd he q
theorem ft35 : ∀ k, k < 118 → (LN k = 0 → ft 35 k = FY k) ∧ (0 < LN k → ft 35 k = 5) := by decide +kernel
theorem ft35_big {i : Int} (h : 118 ≤ i) : ft 35 i = 0 := by
  obtain ⟨n, rfl⟩ := Int.eq_ofNat_of_zero_le (show 0 ≤ i by omega)
  unfold ft
  rw [if_pos (by decide)]
  have hl : (ftL.getD (35 - 1) []).length = 118 := rfl
  rw [List.getD_eq_getElem?_getD, List.getElem?_eq_none (by rw [hl]; show 118 ≤ n; omega)]
  rfl
theorem ft_tg {c : Nat} (h : c = 0 ∨ c = 1 ∨ c = 4) (i : Int) : ft (tgF c) i = c := by
  rcases h with rfl | rfl | rfl <;> rfl
theorem arK_some {h : AH} {m a : Int} {k : Nat} (e : arK h m a = some k) : k < 118 ∧ 0 < LN k ∧ aV h m k = a := by
  unfold arK at e
  have h1 := List.find?_some e
  have h2 := List.mem_of_find?_eq_some e
  simp only [Bool.and_eq_true, decide_eq_true_eq] at h1
  exact ⟨List.mem_range.mp h2, h1.1, h1.2⟩
theorem arK_hit {h : AH} {m : Int} {k : Nat} (mok : mokB h m = true) (hk : k < 118) (h0 : 0 < LN k) : arK h m (aV h m k) = some k := by
  cases e : arK h m (aV h m k) with
  | none =>
    unfold arK at e
    have := List.find?_eq_none.mp e k (List.mem_range.mpr hk)
    simp [h0] at this
  | some k' =>
    obtain ⟨q1, q2, q3⟩ := arK_some e
    rw [(mok_spec mok).2.2 k' k q1 hk q2 h0 q3]
theorem arK_none {h : AH} {m a : Int} (e : arK h m a = none) {k : Nat} (hk : k < 118) (h0 : 0 < LN k) : aV h m k ≠ a := by
  unfold arK at e
  have := List.find?_eq_none.mp e k (List.mem_range.mpr hk)
  simpa [h0] using this
theorem tf_sgm {h : AH} {m : Int} (hT : TH h) (mok : mokB h m = true) : TF (sgm h m) := by
  obtain ⟨m1, m2, m3⟩ := mok_spec mok
  intro k i
  show TI (FY k) (if LN k = 0 then aV h m k else aV h (aV h m k) i)
  by_cases h0 : LN k = 0
  · rw [if_pos h0]
    have := hT.1 m k
    rw [m1] at this
    rcases Nat.lt_or_ge k 118 with q | q
    · rw [(ft35 k q).1 h0] at this; exact this
    · rw [ft35_big (by omega)] at this
      have e : FY k = 0 := by
        unfold FY
        split <;> first | rfl | omega
      rw [e]; exact this
  · rw [if_neg h0]
    have hp : 0 < LN k := by
      rcases Nat.lt_or_ge k 118 with q | q
      · have := (LN_small k q).1; omega
      · exfalso
        apply h0
        unfold LN
        split <;> first | rfl | omega
    have hk := LN_pos hp
    have := hT.1 (aV h m k) i
    rw [(m2 k hk hp).1, ft_tg (FY_4 k hk)] at this
    exact this
theorem TH.upm {h : AH} {m : Int} {s : MS} (hT : TH h) (mok : mokB h m = true) : TH (upm h m s) := by
  obtain ⟨m1, m2, m3⟩ := mok_spec mok
  refine ⟨fun x j => ?_, hT.2⟩
  show TI (ft (aT h x) j) (if x = m then (if 0 ≤ j ∧ j < 118 ∧ LN j.toNat = 0 then nrm (FY j.toNat) (s j.toNat 0) else aV h x j) else match arK h m x with | some k => nrm (FY k) (s k j) | none => aV h x j)
  by_cases hx : x = m
  · rw [if_pos hx]
    by_cases q : 0 ≤ j ∧ j < 118 ∧ LN j.toNat = 0
    · rw [if_pos q, hx, m1]
      obtain ⟨n, rfl⟩ := Int.eq_ofNat_of_zero_le q.1
      have hn : n < 118 := by omega
      rw [(ft35 n hn).1 q.2.2]
      exact TIr_TI.mp (nrm_ti (FY_k _) _)
    · rw [if_neg q]; exact hT.1 x j
  · rw [if_neg hx]
    cases e : arK h m x with
    | none => exact hT.1 x j
    | some k =>
      obtain ⟨q1, q2, q3⟩ := arK_some e
      have := (m2 k q1 q2).1
      rw [q3] at this
      rw [this, ft_tg (FY_4 k q1)]
      exact TIr_TI.mp (nrm_ti (FY_k _) _)
theorem Old.upm {h0 h : AH} {m : Int} {s : MS} (hO : Old h0 h) : Old h0 (upm h m s) := hO
/-- the model's environment in the abstract heap -/
def mG (E : EA) (h : AH) (m : Int) : GF := (m.toNat, fun k => (aV h m k).toNat, (fun _ => E.1.1 34, fun _ => E.1.2 34), fun c => E.2.1 (tgF c - 64))
theorem mok_pos {h : AH} {m : Int} (hT : TH h) (mok : mokB h m = true) : ((m.toNat : Nat) : Int) = m ∧ ∀ k, k < 118 → 0 < LN k → (((aV h m k).toNat : Nat) : Int) = aV h m k := by
  obtain ⟨m1, m2, m3⟩ := mok_spec mok
  refine ⟨?_, fun k hk h0 => ?_⟩
  · obtain ⟨q, hq, -⟩ := hT.pos (a := m) (by rw [m1]; decide)
    omega
  · obtain ⟨q, hq, -⟩ := hT.pos (a := aV h m k) (by rw [(m2 k hk h0).1]; unfold tgF; split <;> omega)
    omega
theorem fd_mG {E : EA} {h : AH} {m : Int} (hT : TH h) (mok : mokB h m = true) : FD (mG E h m) := by
  obtain ⟨m1, m2, m3⟩ := mok_spec mok
  obtain ⟨p1, p2⟩ := mok_pos hT mok
  refine ⟨fun k k' hk hk' h0 h0' e => ?_, fun k hk h0 e => ?_⟩
  · have e' : (aV h m k).toNat = (aV h m k').toNat := e
    exact m3 k k' hk hk' h0 h0' (by have := p2 k hk h0; have := p2 k' hk' h0'; omega)
  · have e' : (aV h m k).toNat = m.toNat := e
    have e2 : aV h m k = m := by have := p2 k hk h0; omega
    have := (m2 k hk h0).1
    rw [e2, m1] at this
    unfold tgF at this
    split at this <;> omega
theorem kf_mG {E : EA} {h : AH} {m : Int} {U : State} (hK : KA E U) : KF (mG E h m) U := by
  refine ⟨fun c q hq => ?_, fun k q hq => ?_⟩
  · match c, hq with
    | 0, hq => cases hq; exact hK.1 34 _ rfl
    | c + 1, hq => cases hq
  · match k, hq with
    | 0, hq => cases hq; exact hK.arr (j := 0) (ty := .int) rfl
    | 1, hq => cases hq; exact hK.arr (j := 1) (ty := .boolean) rfl
    | 2, hq => cases hq; exact hK.arr (j := 3) (ty := .long) rfl
    | k + 3, hq => cases hq
theorem fl_of {E : EA} {h : AH} {m : Int} {H : Heap} (hR : RH E h H) (hT : TH h) (mok : mokB h m = true) (mex : exB E.2.2 h m = true) : Fl (mG E h m) (sgm h m) H := by
  obtain ⟨m1, m2, m3⟩ := mok_spec mok
  obtain ⟨p1, p2⟩ := mok_pos hT mok
  refine ⟨⟨(RX4, TX4, 118), rfl, ?_⟩, fun k hk h0 => ?_⟩
  · have c := hR.2 m.toNat (by rw [p1, m1]; decide)
    unfold aCell at c
    rw [p1, m1, if_pos (by decide)] at c
    refine t_OB.to (c.ob (by decide)) fun k hk => ?_
    have hk' : k < 118 := hk
    show ev (kof (ft 35 k)) (aV h m k) = vp_V (fvl (mG E h m) (sgm h m)) k
    have ev1 : vp_V (fvl (mG E h m) (sgm h m)) k = fv (mG E h m) (sgm h m) k := by
      unfold vp_V
      rw [List.getD_eq_getElem?_getD, fvl_at hk']
      rfl
    rw [ev1]
    unfold fv
    by_cases h0 : LN k = 0
    · rw [if_pos h0, (ft35 k hk').1 h0]
      have es : sgm h m k 0 = aV h m k := if_pos h0
      rw [es]
      rcases FY_4 k hk' with q | q | q <;> rw [q] <;> rfl
    · have hp : 0 < LN k := by have := (LN_small k hk').1; omega
      rw [if_neg h0, (ft35 k hk').2 hp]
      show ev 2 (aV h m k) = .ref ((aV h m k).toNat)
      have := ev_ref (aV h m k).toNat
      rw [p2 k hk' hp] at this
      exact this
  · have hp := p2 k hk h0
    have c := hR.2 (aV h m k).toNat (by rw [hp, (m2 k hk h0).1]; unfold tgF; split <;> omega)
    unfold aCell at c
    rw [hp, (m2 k hk h0).1, if_neg (by unfold tgF; split <;> omega), (m2 k hk h0).2, ft_tg (FY_4 k hk)] at c
    obtain ⟨cell, c, -, hex⟩ := c
    rw [hex (exB_spec mex k hk h0)] at c
    show H[(aV h m k).toNat]? = _
    rw [c]
    have es : ∀ j : Int, sgm h m k j = aV h (aV h m k) j := fun j => if_neg (by omega)
    unfold vp_cell arc
    rcases FY_4 k hk with q | q | q
    · rw [q, if_neg (by decide)]
      simp only [es]
      rfl
    · rw [q, if_neg (by decide)]
      simp only [es]
      rfl
    · rw [q, if_pos rfl]
      simp only [es]
      rfl
theorem rh_of {E : EA} {h : AH} {m : Int} {s : MS} {H H1 : Heap} (hR : RH E h H) (hT : TH h) (mok : mokB h m = true) (hF : Fl (mG E h m) s H1) (hs : TF s) (hz : H1.size = H.size) (ho : ∀ q : Nat, q < H.size → ¬ AF (mG E h m) q → H1[q]? = H[q]?) : RH E (upm h m s) H1 := by
  obtain ⟨m1, m2, m3⟩ := mok_spec mok
  obtain ⟨p1, p2⟩ := mok_pos hT mok
  have nid : ∀ (k : Nat) (i : Int), nrm (FY k) (s k i) = s k i := fun k i => nrm_id (FY_k k) (TIr_TI.mpr (hs k i))
  have vm : ∀ k : Nat, k < 118 → LN k = 0 → aV (upm h m s) m k = s k 0 := fun k hk h0 => by
    show (if m = m then (if 0 ≤ (k : Int) ∧ (k : Int) < 118 ∧ LN (k : Int).toNat = 0 then nrm (FY (k : Int).toNat) (s (k : Int).toNat 0) else aV h m k) else _) = _
    rw [if_pos rfl, if_pos ⟨by omega, by omega, h0⟩]
    exact nid k 0
  have vm' : ∀ k : Nat, 0 < LN k → aV (upm h m s) m k = aV h m k := fun k h0 => by
    show (if m = m then (if 0 ≤ (k : Int) ∧ (k : Int) < 118 ∧ LN (k : Int).toNat = 0 then _ else aV h m k) else _) = _
    rw [if_pos rfl, if_neg (fun z => by have : LN k = 0 := z.2.2; omega)]
  refine ⟨by rw [hz]; exact hR.1, fun q hq => ?_⟩
  have hq' : aT h q ≠ 0 := hq
  by_cases hqm : (q : Int) = m
  · obtain ⟨r, hr, c⟩ := hF.1
    cases hr
    have em : (mG E h m).1 = q := by show m.toNat = q; omega
    unfold aCell
    have tq : aT (upm h m s) q = 35 := by show aT h q = 35; rw [hqm]; exact m1
    rw [tq, if_pos (by decide)]
    have c' : t_OB q (E.1.1 34) 118 (E.1.2 34) H1 (vp_V (fvl (mG E h m) s)) := by
      have := c
      change t_OB ((mG E h m).1) _ _ _ _ _ at this
      rw [em] at this
      exact this
    refine oc_of (t_OB.to c' fun k hk => ?_)
    have hk' : k < 118 := hk
    rw [hqm]
    have ev1 : vp_V (fvl (mG E h m) s) k = fv (mG E h m) s k := by
      unfold vp_V
      rw [List.getD_eq_getElem?_getD, fvl_at hk']
      rfl
    rw [ev1]
    unfold fv
    by_cases h0 : LN k = 0
    · rw [if_pos h0, (ft35 k hk').1 h0, vm k hk' h0]
      rcases FY_4 k hk' with q | q | q <;> rw [q] <;> rfl
    · have hp : 0 < LN k := by have := (LN_small k hk').1; omega
      rw [if_neg h0, (ft35 k hk').2 hp, vm' k hp]
      show Value.ref ((aV h m k).toNat) = ev 2 (aV h m k)
      have := ev_ref (aV h m k).toNat
      rw [p2 k hk' hp] at this
      exact this.symm
  · cases e : arK h m q with
    | some k =>
      obtain ⟨k1, k2, k3⟩ := arK_some e
      have c := hF.2 k k1 k2
      have ea : gA (mG E h m) k = q := by show (aV h m k).toNat = q; rw [k3]; omega
      rw [ea] at c
      unfold aCell
      have tq : aT (upm h m s) q = tgF (FY k) := by show aT h q = _; rw [← k3]; exact (m2 k k1 k2).1
      have lq : aL (upm h m s) q = LN k := by show aL h q = _; rw [← k3]; exact (m2 k k1 k2).2
      have vq : ∀ j : Int, aV (upm h m s) q j = s k j := fun j => by
        show (if (q : Int) = m then _ else match arK h m q with | some k => nrm (FY k) (s k j) | none => aV h q j) = _
        rw [if_neg hqm, e]
        exact nid k j
      rw [tq, lq, if_neg (by unfold tgF; split <;> omega), ft_tg (FY_4 k k1)]
      refine aCell_new (c.trans ?_)
      simp only [vq]
      unfold vp_cell arc
      rcases FY_4 k k1 with q | q | q
      · rw [q, if_neg (by decide)]; rfl
      · rw [q, if_neg (by decide)]; rfl
      · rw [q, if_pos rfl]; rfl
    | none =>
      have hlt : q < H.size := by
        obtain ⟨q', hq1, hq2⟩ := hT.pos hq'
        have := hR.1
        omega
      have hn : ¬ AF (mG E h m) q := by
        rintro (z | ⟨k, k1, k2, k3⟩)
        · have : q = m.toNat := z
          omega
        · have : q = (aV h m k).toNat := k3
          have := p2 k k1 k2
          exact arK_none e k1 k2 (by omega)
      have c := hR.2 q hq'
      have vq : ∀ j : Int, aV (upm h m s) q j = aV h q j := fun j => by
        show (if (q : Int) = m then _ else match arK h m q with | some k => nrm (FY k) (s k j) | none => aV h q j) = _
        rw [if_neg hqm, e]
      unfold aCell at c ⊢
      simp only [vq]
      show (if aT h q < 64 then _ else _)
      by_cases ht : aT h q < 64
      · rw [if_pos ht] at c ⊢
        exact c.kept (ho q hlt hn)
      · rw [if_neg ht] at c ⊢
        rw [ho q hlt hn]; exact c
section MX
variable {C : Cx} {cc : ByteArray} {nL : Nat} {own : String} {E : EA} {l : Launch} {fr : Nat} {h0 hF h1 : AH} {nm : String} {lv : LV} {pc : Nat} {st : List TV} {ε : Prop}
theorem m_callV {γ : Prop} (hB : γ → MaB C cc nL own E l fr h0 hF nm) (hT : TH h1) (hO : Old h0 h1) {y : MethodName} {cc' : ByteArray} {maxL' : Nat} {ret' : Option FieldType} {idx fr' ty' : Nat} {v' m : Int} {s' : MS} (As rest st' : List TV) (hy : y.cls = RX4)
    (hM : mokB h1 m = true → ∀ n : Nat, MetF l y cc' maxL' ret' fr' (mG E h1 m) n ((2, (gM (mG E h1 m) : Int)) :: As) (sgm h1 m) ty' v' s') (mok : mokB h1 m = true) (mex : exB E.2.2 h1 m = true) (ht' : ty' = 0 ∨ ty' = 1 ∨ ty' = 2 ∨ ty' = 4 ∨ ty' = 6) (hd : decode cc pc = .ok (.invokevirtual idx, 3)) (q1 : Cond.methodLink own idx y ∈ lw_all) (q2 : Cond.instanceMethod y ∈ lw_all) (q3 : Cond.selects y.cls y y ∈ lw_all) (q4 : Cond.initialized y.cls ∈ lw_all) (q5 : Cond.code y cc' maxL' ret' ∈ lw_all)
    (ck : CkA y As.length) (hf : Nat.ble (fr' + 1) fr = true) (hm : Nat.ble maxL' 40 = true) (hst : As.reverse ++ (2, m) :: rest = st) (hr : Nat.ble (tsl rest) 8 = true) (hst' : rla ty' (nrm ty' v') ++ rest = st') (kk : TIr ty' (nrm ty' v') → TH (upm h1 m s') → Old h0 (upm h1 m s') → X C (zA γ ε E hF h0 (upm h1 m s')) lv (pc + 3) st') : X C (zA γ ε E hF h0 h1) lv pc st := by
  subst hst
  have o1 : Old h1 (upm h1 m s') := (Old.rf h1).upm
  have k := kk (nrm_ti ht' v') (hT.upm mok) hO.upm
  refine ⟨⟨o1.trans k.1.1, k.1.2⟩, fun H locs ls a' b c => ?_⟩
  obtain ⟨M, hR⟩ := a'
  have hγ := M
  have M := hB M
  have g := M.1
  have hl : C.1.2.1 = l := M.2.2.2.2.1
  obtain ⟨p1, p2⟩ := mok_pos hT mok
  obtain ⟨m1, m2, m3⟩ := mok_spec mok
  have hM := hM mok H.size
  have eN : (aN (upm h1 m s') - aN h1).toNat = 0 := by show (aN h1 - aN h1).toNat = 0; omega
  have eS : (aS (upm h1 m s') - aS h1).toNat = 0 := by show (aS h1 - aS h1).toNat = 0; omega
  have hAF : ∀ q : Nat, AF (mG E h1 m) q → AA h1 q := by
    rintro q (z | ⟨k, k1, k2, k3⟩)
    · have : q = m.toNat := z
      exact Or.inl (by rw [show (q : Int) = m by omega, m1]; decide)
    · have : q = (aV h1 m k).toNat := k3
      have := p2 k k1 k2
      exact Or.inl (by rw [show (q : Int) = aV h1 m k by omega, (m2 k k1 k2).1]; unfold tgF; split <;> omega)
  intro T hTH X0
  have ap := a_pre M hO hR b
  refine a_back (h1 := h1) (h2 := upm h1 m s') (len := 3) M hO o1 b c hst' hγ k (Qa := fun st₀ oc t => oc = .returned (rva ty' (nrm ty' v')) ∧ RH E (upm h1 m s') t.heap ∧ va_F (AA h1) st₀ t) (fun _ _ _ hq => hq) ?_
  have run := va_runV (b := m.toNat) (C := y.cls) (own := own) (index := idx) (nL := nL) (n := As.length) (As := evs As) (H := H) (locs := locs) (rest := evs rest) (g := F0 C.2.1.1 pc ls (evs (As.reverse ++ (2, m) :: rest))) (cells := (aN h1 - aN h0).toNat) (slots := (aS h1 - aS h0).toNat) (⟨g.1.1, g.1.2.1, g.1.2.2.1, g.1.2.2.2.2.1, g.1.2.2.2.2.2.1⟩ : CallFix C.1.1 C.2.1.1 C.2.1.2.2.2.2 cc nL C.1.2.2.2.2 C.2.1.2.1 lw_all own)
    (show Met C.1.2.1 y (ws_ y cc' maxL' ret') (rmF fr') (PF (mG E h1 m) H.size ((2, (gM (mG E h1 m) : Int)) :: As) (sgm h1 m)) (QF (mG E h1 m) H.size ty' v' s') 0 0 (AF (mG E h1 m)) by rw [hl]; exact hM)
    (cwV As.length g.1.2.2.2.2.2.1 (lw_V q1 q2 q3 q4 q5) rfl rfl rfl ⟨rfl, ck⟩ (by
      obtain ⟨-, -, -, -, -, hr, -⟩ := M
      have e1 := Nat.le_of_ble_eq_true hf
      have e2 := Nat.le_of_ble_eq_true hm
      rw [hr.1, hr.2]
      exact ⟨e1, by show 8 + (maxL' + 11) + 64 * fr' ≤ 64 * fr; omega⟩))
    ⟨fun a U g mk x => x, (by
      obtain ⟨cell, c1, c2, c3, -⟩ := obj_at hR (v := m.toNat) (u := 35) (by rw [p1]; exact m1) (by decide) (by decide)
      exact ⟨cell, c1, c3, by rw [c2, hy]; exact (g.2.1.1 34 _ rfl).2.1⟩), fun U hU hW => ⟨by show _ = (ev 2 ((m.toNat : Nat) : Int) :: evs As).toArray; rw [ev_ref], by rw [hU]; exact fl_of hR hT mok mex, by rw [hU], kf_mG (g.2.1.moved hW.alike)⟩⟩
    rfl (by simp [evs]) (c.1.trans g.1.2.2.2.1) (by show evs _ = _; rw [evs_app, evs_rev]; show _ ++ (ev 2 m :: evs rest) = _; rw [← p1, ev_ref]; rfl) (room_ok hr) hd (by have := a_room M hO (Old.rf h1) (o1.trans k.1.1); omega) T hTH X0
  obtain ⟨vo, st₀, t, T', L, e0, X', hL, e2, e3, ⟨hv, hFl, hsz, hKF, hti, htf, hfr⟩, go⟩ := run
  refine ⟨vo, st₀, t, T', L, e0, by rw [eN, eS]; exact X', fun q hq => hAF _ (hL q hq), e2, e3, ⟨?_, ?_, ?_⟩, go⟩
  · rw [hv, nrm_id ht' hti]
    rcases ht' with rfl | rfl | rfl | rfl | rfl <;> rfl
  · exact rh_of hR hT mok hFl htf hsz (fun q hq hn => by have := hfr.2 q (by rw [e0]; exact hq) hn; rw [e0] at this; exact this)
  · exact ⟨hfr.1, fun q hq hn => hfr.2 q hq (fun z => hn (hAF q z))⟩
theorem m_bind {ρ : Type} {kc : Nat → Int} {h : AH} {m : Int} {t : Nat} {r : Option (Int × MS)} {K : Int × AH → Option ρ} {res : ρ} (e : (mcv kc h m t r).bind K = some res) : ∃ (mok : mokB h m = true) (_ : exB kc h m = true) (v : Int) (s : MS), r = some (v, s) ∧ K (nrm t v, upm h m s) = some res := by
  unfold mcv at e
  by_cases mok : mokB h m = true ∧ exB kc h m = true
  · rw [if_pos mok] at e
    cases r with
    | none => cases e
    | some q => exact ⟨mok.1, mok.2, q.1, q.2, rfl, e⟩
  · rw [if_neg mok] at e; cases e
end MX
theorem m_bind2 {ρ : Type} {kc : Nat → Int} {h : AH} {m : Int} {t : Nat} {r : Option (Int × MS)} {K : Int × AH → Option ρ} {res : ρ} (e : (mcv kc h m t r).bind K = some res) : ∃ (_ : mokB h m = true) (_ : exB kc h m = true) (w : Int) (s : MS) (_ : r = some (w, s)) (v : Int) (_ : v = nrm t w) (h2 : AH) (_ : h2 = upm h m s), K (v, h2) = some res := by
  obtain ⟨mok, mex, w, s, h1, h2⟩ := m_bind e
  exact ⟨mok, mex, w, s, h1, _, rfl, _, rfl, h2⟩
section MX2
variable {C : Cx} {cc : ByteArray} {nL : Nat} {own : String} {E : EA} {l : Launch} {fr : Nat} {h0 hF h1 : AH} {nm : String} {lv : LV} {pc : Nat} {st : List TV} {ε : Prop}
theorem m_callV2 {γ : Prop} (hB : γ → MaB C cc nL own E l fr h0 hF nm) (hT : TH h1) (hO : Old h0 h1) {y : MethodName} {cc' : ByteArray} {maxL' : Nat} {ret' : Option FieldType} {idx fr' ty' : Nat} {w' v2 m : Int} {s' : MS} {h2 : AH} (As rest st' : List TV) (hy : y.cls = RX4)
    (hM : mokB h1 m = true → ∀ n : Nat, MetF l y cc' maxL' ret' fr' (mG E h1 m) n ((2, (gM (mG E h1 m) : Int)) :: As) (sgm h1 m) ty' w' s') (mok : mokB h1 m = true) (mex : exB E.2.2 h1 m = true) (ht' : ty' = 0 ∨ ty' = 1 ∨ ty' = 2 ∨ ty' = 4 ∨ ty' = 6) (r9 : v2 = nrm ty' w') (i9 : h2 = upm h1 m s') (hd : decode cc pc = .ok (.invokevirtual idx, 3)) (q1 : Cond.methodLink own idx y ∈ lw_all) (q2 : Cond.instanceMethod y ∈ lw_all) (q3 : Cond.selects y.cls y y ∈ lw_all) (q4 : Cond.initialized y.cls ∈ lw_all) (q5 : Cond.code y cc' maxL' ret' ∈ lw_all)
    (ck : CkA y As.length) (hf : Nat.ble (fr' + 1) fr = true) (hm : Nat.ble maxL' 40 = true) (hst : As.reverse ++ (2, m) :: rest = st) (hr : Nat.ble (tsl rest) 8 = true) (hst' : rla ty' v2 ++ rest = st') (kk : TIr ty' v2 → TH h2 → Old h0 h2 → X C (zA γ ε E hF h0 h2) lv (pc + 3) st') : X C (zA γ ε E hF h0 h1) lv pc st := by
  subst r9
  subst i9
  exact m_callV hB hT hO As rest st' hy hM mok mex ht' hd q1 q2 q3 q4 q5 ck hf hm hst hr hst' kk
end MX2
