/-! HEAP, arrays of arrays -/
set_option maxRecDepth 100000
theorem RH.more {E : EA} {h h' : AH} {H H1 : Heap} (hR : RH E h H) (hz : (H1.size : Int) = aN h') (ho : ∀ q : Nat, q < H.size → H1[q]? = H[q]?) (hold : ∀ a, a < aN h → aT h' a = aT h a ∧ aL h' a = aL h a ∧ ∀ j, aV h' a j = aV h a j) (hnew : ∀ q : Nat, H.size ≤ q → aT h' q ≠ 0 → aCell E h' q H1) : RH E h' H1 := by
  refine ⟨hz, fun q hq => ?_⟩
  by_cases hl : q < H.size
  · obtain ⟨z1, z2, z3⟩ := hold q (by have := hR.1; omega)
    rw [z1] at hq
    have h1 := hR.2 q hq
    unfold aCell at h1 ⊢
    rw [z1, z2]
    simp only [z3]
    by_cases ht : aT h q < 64
    · rw [if_pos ht] at h1 ⊢
      exact h1.kept (ho q hl)
    · rw [if_neg ht] at h1 ⊢
      rw [ho q hl]; exact h1
  · exact hnew q (by omega) hq
theorem va_S.more {A : Nat → Prop} {H0 H H1 : Heap} {locs : List Loc} (hS : va_S A H0 H locs) (z : H.size ≤ H1.size) (o : ∀ q : Nat, q < H.size → H1[q]? = H[q]?) : va_S A H0 H1 locs :=
  ⟨Nat.le_trans hS.1 z, fun x h1 h2 => (o x (Nat.lt_of_lt_of_le h1 hS.1)).trans (hS.2.1 x h1 h2), hS.2.2⟩
def grd (h : AH) (tO tI : Nat) (n k : Int) : AH := (h.1 + 1 + n, h.2.1 + n + n * k, fun a => if a = h.1 then tO else if h.1 < a ∧ a ≤ h.1 + n then tI else h.2.2.1 a, fun a => if a = h.1 then n else if h.1 < a ∧ a ≤ h.1 + n then k else h.2.2.2.1 a,
  fun a i => if a = h.1 then (if 0 ≤ i ∧ i < n then h.1 + 1 + i else -1) else if h.1 < a ∧ a ≤ h.1 + n then dv (ft tI i) else h.2.2.2.2 a i)
def nwg (h : AH) (tO tI : Nat) (n k : Int) : Option (Int × AH) := if (0 ≤ n ∧ n ≤ 1000) ∧ 0 ≤ k ∧ k ≤ 10000 then some (h.1, grd h tO tI n k) else none
theorem TH.grd {h : AH} {tO tI : Nat} {n k : Int} (hT : TH h) (hO : 68 ≤ tO ∧ ft tO 0 = 5) (hn : (0 ≤ n ∧ n ≤ 1000) ∧ 0 ≤ k ∧ k ≤ 10000) : TH (grd h tO tI n k) := by
  obtain ⟨h1, h2, h3, h4⟩ := hT
  have h3' : 0 ≤ h.1 := h3
  refine ⟨fun x j => ?_, fun x hx => ?_, ?_, fun x => ?_⟩
  · show TI (ft (if x = h.1 then tO else if h.1 < x ∧ x ≤ h.1 + n then tI else aT h x) j) (if x = h.1 then (if 0 ≤ j ∧ j < n then h.1 + 1 + j else -1) else if h.1 < x ∧ x ≤ h.1 + n then dv (ft tI j) else aV h x j)
    by_cases q : x = h.1
    · rw [if_pos q, if_pos q, ft64 (by omega), hO.2]
      show (-1 : Int) ≤ _
      split <;> omega
    · rw [if_neg q, if_neg q]
      by_cases q' : h.1 < x ∧ x ≤ h.1 + n
      · rw [if_pos q', if_pos q']; exact dv_ti
      · rw [if_neg q', if_neg q']; exact h1 x j
  · show (if x = h.1 then tO else if h.1 < x ∧ x ≤ h.1 + n then tI else aT h x) = 0
    have hx' : x < 0 ∨ h.1 + 1 + n ≤ x := hx
    rw [if_neg (by omega), if_neg (by omega)]
    exact h2 x (by rcases hx' with q | q; exact Or.inl q; exact Or.inr (by show h.1 ≤ x; omega))
  · show 0 ≤ h.1 + 1 + n
    omega
  · show 0 ≤ (if x = h.1 then n else if h.1 < x ∧ x ≤ h.1 + n then k else aL h x) ∧ (if x = h.1 then n else if h.1 < x ∧ x ≤ h.1 + n then k else aL h x) ≤ 100000000
    split
    · omega
    · split
      · omega
      · exact h4 x
theorem Old.grd {h0 h : AH} {tO tI : Nat} {n k : Int} (hO : Old h0 h) (hn : (0 ≤ n ∧ n ≤ 1000) ∧ 0 ≤ k ∧ k ≤ 10000) : Old h0 (grd h tO tI n k) := by
  have h1 : aN h0 ≤ h.1 := hO.1
  have h2 : aS h0 ≤ h.2.1 := hO.2.1
  have h3 : 0 ≤ n * k := Int.mul_nonneg hn.1.1 hn.2.1
  refine ⟨by show aN h0 ≤ h.1 + 1 + n; omega, by show aS h0 ≤ h.2.1 + n + n * k; omega, fun a ha => ?_⟩
  show (if a = h.1 then tO else if h.1 < a ∧ a ≤ h.1 + n then tI else aT h a) = aT h0 a
  rw [if_neg (by omega), if_neg (by omega)]
  exact hO.2.2 a ha
theorem arrV_congr {c : ClassId} {N : Nat} {f g : Nat → Value} (h : ∀ j, j < N → f j = g j) : arrV c N f = arrV c N g := by
  unfold arrV
  congr 1
  congr 1
  funext j
  exact h j.val j.isLt
theorem outer_arrV (cA : ClassId) (N h0 : Nat) (f : Nat → Value) (hf : ∀ j, j < N → f j = .ref (h0 + 1 + j)) : Jvm.Free.Multi.outerC cA N h0 N = arrV cA N f := by
  have key : ∀ i, Jvm.Free.Multi.outerC cA N h0 i = arrV cA N (fun j => if j < i then .ref (h0 + 1 + j) else .null) := by
    intro i
    induction i with
    | zero =>
      refine (arrV_new cA N .null).trans (arrV_congr fun j _ => ?_)
      rw [if_neg (Nat.not_lt_zero j)]
    | succ i ih =>
      show (Jvm.Free.Multi.outerC cA N h0 i).setSlot i (.ref (h0 + 1 + i)) = _
      rw [ih, arrV_store]
      refine arrV_congr fun j _ => ?_
      unfold updV
      by_cases e : j = i
      · rw [if_pos e, if_pos (by omega), e]
      · rw [if_neg e]
        show (if j < i then Value.ref (h0 + 1 + j) else Value.null) = _
        by_cases q : j < i
        · rw [if_pos q, if_pos (by omega)]
        · rw [if_neg q, if_neg (by omega)]
  rw [key]
  exact arrV_congr fun j hj => by rw [if_pos hj, hf j hj]
section HG
variable {C : Cx} {cc : ByteArray} {nL : Nat} {own : String} {E : EA} {l : Launch} {fr ty : Nat} {v : Int} {h0 hF h : AH} {ret : Option FieldType} {nm : String} {lv : LV} {pc : Nat} {st : List TV} {ε : Prop}
theorem h_grid {γ : Prop} (hB : γ → MaB C cc nL own E l fr h0 hF nm) {ρ : Type} {tO tI : Nat} {fty : FieldType} {n k : Int} {idx : Nat} {K : Int × AH → Option ρ} {res : ρ} (hO1 : RfT tO (.array fty)) (hI : 64 ≤ tI ∧ tyA[tI - 64]? = some fty ∧ tyc fty = ft tI 0 ∧ ft tI 0 ≠ 9 ∧ componentBytes fty ≤ 8) (hrI : (∃ s, fty = .object s) ∨ fty = .int ∨ fty = .boolean) (hao : fty ∈ aaL)
    (hT : TH h) (hO : Old h0 h) (hd : decode cc pc = .ok (.multianewarray idx 2, 4)) (q1 : Cond.classLink own idx ("[" ++ (FieldType.array fty).toString) ∈ lw_all) (q2 : Cond.arrayClass fty ∈ lw_all) (e : (nwg h tO tI n k).bind K = some res) (kk : ∀ v1 h', TI 5 v1 → aT h' v1 = tO → TH h' → Old h0 h' → h' = grd h tO tI n k → v1 = aN h → K (v1, h') = some res → X C (zA γ ε E hF h0 h') lv (pc + 4) ((2, v1) :: st)) (hnO : tO - 64 < 14 := by decide) (hnI : tI - 64 < 14 := by decide) : X C (zA γ ε E hF h0 h) lv pc ((0, k) :: (0, n) :: st) := by
  unfold nwg at e
  split at e
  · rename_i hn
    obtain ⟨t1, t2, t3, t4⟩ := hO1
    obtain ⟨i1, i2, i3, i4, i5⟩ := hI
    have hsz : 0 ≤ aN h := hT.2.2.1
    have k' := kk (aN h) (grd h tO tI n k) (by show -1 ≤ aN h; omega) (by show (if aN h = h.1 then tO else _) = tO; exact if_pos rfl) (hT.grd ⟨t1, t4⟩ hn) (hO.grd hn) rfl rfl e
    have hmul : 0 ≤ n * k := Int.mul_nonneg hn.1.1 hn.2.1
    obtain ⟨⟨m1, m2, m3⟩, mε⟩ := k'.1
    have e1 : aN (grd h tO tI n k) = aN h + 1 + n := rfl
    have e2 : aS (grd h tO tI n k) = aS h + n + n * k := rfl
    rw [e1] at m1
    rw [e2] at m2
    have o1 := hO.1
    have o2 := hO.2.1
    refine ⟨⟨⟨by omega, by omega, fun x hx => ?_⟩, mε⟩, fun H locs ls a' bS c => ?_⟩
    · rw [m3 x (by rw [e1]; omega)]
      show (if x = h.1 then tO else if h.1 < x ∧ x ≤ h.1 + n then tI else aT h x) = aT h x
      have : x < h.1 := hx
      rw [if_neg (by omega), if_neg (by omega)]
    obtain ⟨M, hR⟩ := a'
    have hγ := M
    have M := hB M
    have g := M.1
    have hE := M.2.1
    obtain ⟨-, -, -, hrm, -, rm, -⟩ := M
    obtain ⟨n1, n2, n3⟩ := cl_in hn.1.1 (by omega)
    obtain ⟨k1, k2, k3⟩ := cl_in hn.2.1 (by omega)
    have hsize : (H.size : Int) = aN h := hR.1
    obtain ⟨N, rfl⟩ := Int.eq_ofNat_of_zero_le hn.1.1
    obtain ⟨Q, rfl⟩ := Int.eq_ofNat_of_zero_le hn.2.1
    have n3' : (iI (N : Int)).toNatClampNeg = N := by rw [n3]; rfl
    have k3' : (iI (Q : Int)).toNatClampNeg = Q := by rw [k3]; rfl
    have hmulN : ((N * Q : Nat) : Int) = (N : Int) * (Q : Int) := Int.natCast_mul N Q
    intro T hTH X0
    have hdd : defaultValue fty = ev (kof (ft tI 0)) (dv (ft tI 0)) := by rw [← i3]; exact dv_ev (by rw [i3]; exact i4)
    obtain ⟨vm₁, cA, comp, hW, hfA, hfC, -, -, X1, step⟩ := X0.multianewarray2F g.1.1 g.1.2.2.2.2.1 (ty := fty) (n := iI (N : Int)) (k := iI (Q : Int)) (g.1.2.2.2.2.2.1 _ q1) ((hE.2.2.2.2.1 _ hao).use) (g.1.2.2.2.2.2.1 _ q2)
      (g := F0 C.2.1.1 pc ls (evs ((0, (Q : Int)) :: (0, (N : Int)) :: st))) rfl (by show decode C.2.1.2.2.2.2.code pc = _; rw [g.1.2.1]; exact hd) (rest := evs st) rfl n1 k1 (by rw [n3']; omega) (by rw [k3']; exact Nat.le_trans (Nat.mul_le_mul (show Q ≤ 10000 by omega) i5) (by decide)) (by rw [k3']; omega)
      (by rcases hrI with ⟨s, rfl⟩ | rfl | rfl <;> rfl) (by rcases hrI with ⟨s, rfl⟩ | rfl | rfl <;> rfl) (by rw [n3', hrm.1]; show (aN h - aN h0).toNat + (1 + N) ≤ _; omega) (by rw [n3', k3', hrm.2]; show (aS h - aS h0).toNat + (N + N * Q) ≤ _; omega)
    rw [n3', k3'] at X1 step
    have hcA : cA = E.2.1 (tO - 64) := by
      have hra : C.1.2.2.2.2.vm.findClass ("[" ++ (FieldType.array fty).toString) = some (E.2.1 (tO - 64)) := (g.2.1.arr t2 hnO).2
      exact Option.some.inj (hfA.symm.trans hra)
    have hcI : comp = E.2.1 (tI - 64) := by
      have hra := (g.2.1.arr i2 hnI).2
      refine Option.some.inj (hfC.symm.trans ?_)
      rcases hrI with ⟨s, rfl⟩ | rfl | rfl
      · obtain ⟨-, -, -, -, -, hh⟩ := hra
        exact hh
      · exact hra
      · exact hra
    subst hcA
    subst hcI
    obtain ⟨f1, f2, f3, f4⟩ := Jvm.Free.Multi.fill_facts (T.setVm vm₁) (E.2.1 (tO - 64)) (E.2.1 (tI - 64)) N Q (defaultValue fty) N
    have fO := fun (q : Nat) (hq : q < (T.setVm vm₁).heap.size) => Jvm.Free.Multi.fill_old (T.setVm vm₁) (E.2.1 (tO - 64)) (E.2.1 (tI - 64)) N Q (defaultValue fty) hq N
    have fI := Jvm.Free.Multi.fill_inner (T.setVm vm₁) (E.2.1 (tO - 64)) (E.2.1 (tI - 64)) N Q (defaultValue fty) N
    generalize hT' : Jvm.Free.Multi.fill (T.setVm vm₁) (E.2.1 (tO - 64)) (E.2.1 (tI - 64)) N Q (defaultValue fty) N = T' at X1 step f1 f2 f3 f4 fO fI
    have hz : (T.setVm vm₁).heap = H := hTH
    rw [hz] at f1 f2 fO fI
    have hs1 : (H.size : Int) = h.1 := hsize
    have hR' : RH E (grd h tO tI N Q) T'.heap := by
      refine RH.more hR (by rw [f1]; show ((H.size + 1 + N : Nat) : Int) = h.1 + 1 + N; omega) fO (fun a ha => ?_) (fun q hq hq0 => ?_)
      · have ha' : a < h.1 := ha
        refine ⟨?_, ?_, fun j => ?_⟩
        · show (if a = h.1 then tO else if h.1 < a ∧ a ≤ h.1 + N then tI else aT h a) = aT h a
          rw [if_neg (by omega), if_neg (by omega)]
        · show (if a = h.1 then (N : Int) else if h.1 < a ∧ a ≤ h.1 + N then (Q : Int) else aL h a) = aL h a
          rw [if_neg (by omega), if_neg (by omega)]
        · show (if a = h.1 then _ else if h.1 < a ∧ a ≤ h.1 + N then dv (ft tI j) else aV h a j) = aV h a j
          rw [if_neg (by omega), if_neg (by omega)]
      · by_cases hqs : q = H.size
        · subst hqs
          have z1 : aT (grd h tO tI N Q) H.size = tO := if_pos hs1
          have z2 : aL (grd h tO tI N Q) H.size = N := if_pos hs1
          have z3 : ∀ j : Int, aV (grd h tO tI N Q) H.size j = (if 0 ≤ j ∧ j < N then h.1 + 1 + j else -1) := fun j => if_pos hs1
          unfold aCell
          rw [z1, z2, if_neg (by omega)]
          simp only [z3]
          refine aCell_new (f2.trans ?_)
          refine congrArg some (outer_arrV _ _ _ _ fun j hj => ?_)
          rw [t4, if_pos ⟨by omega, by omega⟩]
          show ev 2 (h.1 + 1 + (j : Int)) = _
          rw [show h.1 + 1 + (j : Int) = ((H.size + 1 + j : Nat) : Int) by omega]
          exact ev_ref _
        · by_cases hqN : q ≤ H.size + N
          · have hc1 : ¬ (q : Int) = h.1 := by omega
            have hc2 : h.1 < (q : Int) ∧ (q : Int) ≤ h.1 + N := by omega
            have z1 : aT (grd h tO tI N Q) q = tI := by
              show (if (q : Int) = h.1 then tO else if h.1 < (q : Int) ∧ (q : Int) ≤ h.1 + N then tI else aT h q) = tI
              rw [if_neg hc1, if_pos hc2]
            have z2 : aL (grd h tO tI N Q) q = Q := by
              show (if (q : Int) = h.1 then (N : Int) else if h.1 < (q : Int) ∧ (q : Int) ≤ h.1 + N then (Q : Int) else aL h q) = Q
              rw [if_neg hc1, if_pos hc2]
            have z3 : ∀ j : Int, aV (grd h tO tI N Q) q j = dv (ft tI j) := fun j => by
              show (if (q : Int) = h.1 then _ else if h.1 < (q : Int) ∧ (q : Int) ≤ h.1 + N then dv (ft tI j) else aV h q j) = _
              rw [if_neg hc1, if_pos hc2]
            have hi := fI (q - (H.size + 1)) (by omega)
            rw [show H.size + 1 + (q - (H.size + 1)) = q by omega] at hi
            unfold aCell
            rw [z1, z2, if_neg (by omega)]
            simp only [z3, ft64 i1]
            refine aCell_new (hi.trans ?_)
            show some ({ cls := E.2.1 (tI - 64), slots := Array.replicate Q (defaultValue fty), vm := .none } : Cell) = _
            rw [arrV_new, hdd]
            rfl
          · exfalso
            apply hq0
            show (if (q : Int) = h.1 then tO else if h.1 < (q : Int) ∧ (q : Int) ≤ h.1 + N then tI else aT h q) = 0
            rw [if_neg (by omega), if_neg (by omega)]
            exact hT.2.1 q (Or.inr (by omega))
    have w := k'.2 T'.heap locs ls ⟨hγ, hR'⟩ (bS.more (by rw [f1]; omega) fO) c
    have w := XW.cs (k := (aN h - aN h0).toNat + 1 + N) (n := (aS h - aS h0).toNat + N + N * Q) w (by show _ = (aN (grd h tO tI N Q) - aN h0).toNat; rw [e1]; omega) (by show _ = (aS (grd h tO tI N Q) - aS h0).toNat; rw [e2]; omega)
    obtain ⟨t', a1, b1⟩ := w _ rfl X1
    refine ⟨t', step t' ?_, b1⟩
    change Steps _ _ _ (State.setTop _ (F0 C.2.1.1 (pc + 4) ls (ev 2 (aN h) :: evs st))) t' at a1
    rw [ev_refq hsize.symm] at a1
    rw [← hTH] at a1
    exact a1
  · cases e
end HG
