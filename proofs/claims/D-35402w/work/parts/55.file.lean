/-! N12: the model reads items, a file, all files -/
set_option maxRecDepth 100000
set_option linter.unusedVariables false
section Itm
variable {s0 s : MS} {K : List Int} {n0 nb : Int} {I : List IT} {F : List Flt} {O : List EX} {p : Nat}
theorem STK_hi0 {nx hi hi' : Int} (h : STK s K n0 I [] hi nx) (q : hi ≤ hi') : STK s K n0 I [] hi' nx := by
  obtain ⟨z, h1, h2⟩ := h
  exact ⟨z, IL_wk h1 q, h2⟩
/-- an item fails -/
theorem m_fail {q : Nat} (h : RSm s0 s K n0 nb [] I F p) (h46 : s 46 0 = 0) (hq : q ≤ K.length) (hN : s 27 0 ≤ nb + 2 * (skI K q : Int)) (hp : F.length + 1 ≤ skI K q) : Ok (M_failItem s q) fun s' => RSM s0 s' K n0 nb (fiS K q I F []) := by
  obtain ⟨⟨a1, a2, a3, a4, a5, a6⟩, ⟨b1, b2⟩, c1, d1⟩ := h
  have hl := a1.1
  refine (m_failItem a1 hq d1 (by omega)).imp fun s' hs => ?_
  obtain ⟨e1, e2, e3⟩ := hs
  refine ⟨⟨⟨a1.ex (fun i => e3 24 i (by omega) (by omega)), a2.ex (fun k i z => e3 k i (fun y => z (by unfold ZR; omega)) (fun y => z (by unfold ZR; omega))), (skI_pos hq).2.1, a4, ?_, a6⟩, ⟨(e3 41 0 (by omega) (by omega)).trans b1, ?_⟩, ?_, e2⟩, e1, Or.inl ⟨rfl, (e3 46 0 (by omega) (by omega)).trans h46⟩⟩
  · rw [e3 27 0 (by omega) (by omega)]; exact hN
  · show (F ++ [_]).length + 0 ≤ skI K q
    rw [List.length_append, List.length_singleton]; omega
  · rw [e3 27 0 (by omega) (by omega)]
    exact c1.ag (AgS.of (fun k i u1 u2 u3 u4 u5 u6 u7 u8 u9 v w => e3 k i (by omega) (by omega)))
/-- an item is laid behind the others -/
theorem m_addItem {n hi : Int} (h : STK s K n0 I [] hi (-1)) (h0 : 0 ≤ n0) (hn : hi ≤ n ∧ n < 1600) : Ok (M_addItem s n) fun s' => STK s' K n0 I [] hi n ∧ (∀ k i, 28 ≤ k → k ≤ 36 → hi ≤ i → s' k i = s k i) ∧ (∀ k i, ¬ (28 ≤ k ∧ k ≤ 36) → k ≠ 48 → k ≠ 49 → s' k i = s k i) ∧ (∀ k i, 28 ≤ k → k ≤ 36 → i < n0 → s' k i = s k i) := by
  obtain ⟨z, h1, h2⟩ := h
  rw [if_pos rfl] at h2
  unfold M_addItem bd1
  have hz : (I = [] ∧ s 48 0 = -1) ∨ (I ≠ [] ∧ (n0 ≤ z ∧ z < hi) ∧ n0 ≤ s 48 0) := by
    by_cases q : I = []
    · subst q; exact Or.inl ⟨rfl, h1.1⟩
    · have := IL_in q h1; exact Or.inr ⟨q, by omega⟩
  rcases hz with ⟨rfl, q⟩ | ⟨q, q1, q2⟩
  · rw [if_pos q, Option.bind_some, Ok_some]
    refine ⟨⟨z, ⟨?_, h1.2⟩, ?_⟩, fun k i a b c => by simp (disch := omega) only [up_o], fun k i a b c => by simp (disch := omega) only [up_o], fun k i a b c => by simp (disch := omega) only [up_o]⟩
    · simp (disch := omega) only [up_o, up_hit]
    · rw [if_neg (by have := h1.2.2; omega)]; simp (disch := omega) only [up_hit]
  · rw [if_neg (by omega), h2, wt_34 (by omega) (by omega), Option.bind_some, Option.bind_some, Ok_some]
    have g : ∀ k i, ¬ (k = 34 ∧ i = z) → ¬ (k = 49 ∧ i = 0) → up (up s 34 z n) 49 0 n k i = s k i := fun k i a b => by simp (disch := omega) only [up_o]
    have e34 : up (up s 34 z n) 49 0 n 34 z = n := by simp (disch := omega) only [up_o, up_hit]
    have e49 : up (up s 34 z n) 49 0 n 49 0 = n := up_hit
    generalize up (up s 34 z n) 49 0 n = t at g e34 e49 ⊢
    refine ⟨⟨z, ?_, ?_⟩, fun k i a b c => g k i (by omega) (by omega), fun k i a b c => g k i (by omega) (by omega), fun k i a b c => g k i (by omega) (by omega)⟩
    · have := IL_nx (s' := t) (nx' := n) h1 (fun k i a b c d e => g k i (e q) (by omega)) (fun _ => e34)
      rw [if_neg q] at this
      rw [g 48 0 (by omega) (by omega)]
      exact this
    · rw [if_neg (by omega)]; exact e49
theorem paF_fuel : ∀ (n m p : Nat), K.length < n + p → K.length < m + p → p ≤ K.length → paF K n p = paF K m p
  | 0, m, p, h, _, h3 => by omega
  | n + 1, 0, p, _, h, h3 => by omega
  | n + 1, m + 1, p, h1, h2, h3 => by
    unfold paF
    by_cases q : kd K p = 0
    · rw [if_pos q, if_pos q]
      by_cases q2 : kd K (p + 1) = 14
      · have := kd_eq q2 (by decide)
        rw [if_pos q2, if_pos q2, paF_fuel n m (p + 2) (by omega) (by omega) this]
      · rw [if_neg q2, if_neg q2]
    · rw [if_neg q, if_neg q]
/-- what comes of the parameters, with those that were read -/
def paX (K : List Int) (l : List Nat) (p : Nat) : Sum Nat (List Nat × Nat) := match paF K (K.length + 1) p with
  | .inl q => .inl q
  | .inr y => .inr (l ++ y.1, y.2)
theorem paX_no {l : List Nat} (h : kd K p ≠ 0) : paX K l p = .inl p := by unfold paX paF; rw [if_neg h]
theorem paX_go {l : List Nat} (h : kd K p = 0) (h2 : kd K (p + 1) = 14) : paX K l p = paX K (l ++ [p]) (p + 2) := by
  have hl := kd_eq h2 (by decide)
  unfold paX
  conv => lhs; unfold paF
  rw [if_pos h, if_pos h2, paF_fuel K.length (K.length + 1) (p + 2) (by omega) (by omega) hl]
  cases paF K (K.length + 1) (p + 2) with
  | inl q => rfl
  | inr y => show Sum.inr (l ++ p :: y.1, y.2) = Sum.inr (l ++ [p] ++ y.1, y.2); rw [List.append_assoc]; rfl
theorem paX_end {l : List Nat} (h : kd K p = 0) (h2 : kd K (p + 1) ≠ 14) : paX K l p = .inr (l ++ [p], p + 1) := by unfold paX paF; rw [if_pos h, if_neg h2]
def PaR (s : MS) (K : List Int) (h : Int) (r : Nat) (X : Sum Nat (List Nat × Nat)) (x : Int × Int × MS) : Prop := match X with
  | .inl q => x.1 = q ∧ x.2.1 = 0 ∧ q ≤ K.length ∧ r ≤ q ∧ x.2.2 27 0 ≤ s 27 0 + (q - r)
  | .inr y => x.1 = y.2 ∧ x.2.1 = b01 (decide (kd K y.2 = 11)) ∧ y.2 ≤ K.length ∧ r ≤ y.2 ∧ x.2.2 27 0 ≤ s 27 0 + (y.2 - r) ∧ ∃ z, PAs x.2.2 y.1 (h + 1) (x.2.2 27 0) (x.2.2 31 h) z
/-- the parameters are read -/
theorem m_params {h r0 : Int} {r : Nat} (hS : SeqR s K) (hr : r ≤ K.length) (hh : 0 ≤ h ∧ h + 1 = s 27 0) (h31 : s 31 h = -1) (hB : s 27 0 + ((K.length : Int) - r) < 1600) {X : Sum Nat (List Nat × Nat)} (hX : paX K [] r = X ∧ r0 = 1 ∨ (r0 = 0 ∧ X = .inr ([], r) ∧ kd K r = 11)) :
    Ok (lp (B_readFunction_109 h) FU ((r : Int), 1, -1, r0, s)) fun x => PaR s K h r X x ∧ s 27 0 ≤ x.2.2 27 0 ∧ (∀ k i, ¬ (28 ≤ k ∧ k ≤ 36) → k ≠ 27 → x.2.2 k i = s k i) ∧ (∀ k i, 28 ≤ k → k ≤ 36 → i < h + 1 → ¬ (k = 31 ∧ i = h) → x.2.2 k i = s k i) := by
  have hl := hS.1
  let J : (Int × Int × Int × Int × MS) → Prop := fun a => (SeqR a.2.2.2.2 K ∧ s 27 0 ≤ a.2.2.2.2 27 0 ∧ (∀ k i, ¬ (28 ≤ k ∧ k ≤ 36) → k ≠ 27 → a.2.2.2.2 k i = s k i) ∧ (∀ k i, 28 ≤ k → k ≤ 36 → i < h + 1 → ¬ (k = 31 ∧ i = h) → a.2.2.2.2 k i = s k i)) ∧
    ((∃ (q : Nat) (l : List Nat), a.1 = q ∧ r ≤ q ∧ q ≤ K.length ∧ a.2.1 = 1 ∧ a.2.2.2.1 = 1 ∧ paX K l q = X ∧ PAs a.2.2.2.2 l (h + 1) (a.2.2.2.2 27 0) (a.2.2.2.2 31 h) a.2.2.1 ∧ a.2.2.2.2 27 0 ≤ s 27 0 + (q - r)) ∨
     ((a.2.2.2.1 = 0 ∨ a.2.1 = 0) ∧ PaR s K h r X (a.1, a.2.1, a.2.2.2.2)))
  have hp0 : PAs s [] (h + 1) (s 27 0) (s 31 h) (-1) := ⟨h31, rfl, by omega⟩
  refine lp_ok (F := B_readFunction_109 h) (μ := fun a => if a.2.2.2.1 = 0 ∨ a.2.1 = 0 then 0 else ((K.length : Int) + 1 - a.1).toNat + 1) (I := J) (P := fun _ x => PaR s K h r X x ∧ s 27 0 ≤ x.2.2 27 0 ∧ (∀ k i, ¬ (28 ≤ k ∧ k ≤ 36) → k ≠ 27 → x.2.2 k i = s k i) ∧ (∀ k i, 28 ≤ k → k ≤ 36 → i < h + 1 → ¬ (k = 31 ∧ i = h) → x.2.2 k i = s k i)) (fun rec a hI ih => ?_) FU ((r : Int), 1, -1, r0, s) ⟨⟨hS, Int.le_refl _, fun _ _ _ _ => rfl, fun _ _ _ _ _ _ => rfl⟩, ?_⟩ (FU_lt (by dsimp only; split <;> omega))
  · obtain ⟨l1, l3, l4, l5, s1⟩ := a
    obtain ⟨⟨g1, g2, g3, g4⟩, hI⟩ := hI
    dsimp only at g1 g2 g3 g4
    unfold B_readFunction_109
    dsimp only
    rcases hI with ⟨q, l, rfl, c1, c2, c3, c4, c5, c6, c7⟩ | ⟨c1, c2⟩
    · dsimp only at c3 c4 c6 c7
      subst c3 c4
      rw [if_neg (by decide), if_neg (by decide), rd_24 (by omega) (by omega), Option.bind_some, g1.2 q (by omega)]
      by_cases z0 : kd K q = 0
      · rw [if_pos z0, Option.bind_some, if_neg (by decide)]
        have hql := kd_eq z0 (by decide)
        refine (m_make (s := s1) (kind := 31) (tok := (q : Int)) (by omega)).bd fun y hy => ?_
        obtain ⟨n, s2⟩ := y
        obtain ⟨rfl, m1, ⟨m2, m3, m4, m5, m6, m7, m8, m9, m10⟩, m11⟩ := hy
        dsimp only at m1 m2 m3 m4 m5 m6 m7 m8 m9 m10 m11 ⊢
        have hz : (l = [] ∧ l4 = -1) ∨ (l ≠ [] ∧ h + 1 ≤ l4 ∧ l4 < s1 27 0) := by
          by_cases w : l = []
          · subst w; exact Or.inl ⟨rfl, c6.2.1⟩
          · have := PAs_in w c6; exact Or.inr ⟨w, by omega⟩
        have link : Ok (if l4 = (-1) then (wrc s2 31 h (s1 27 0)).bind fun s59 => some s59 else (wrc s2 34 l4 (s1 27 0)).bind fun s60 => some s60 : Option MS) fun s3 => PAs s3 (l ++ [q]) (h + 1) (s1 27 0 + 1) (s3 31 h) (s1 27 0) ∧ (∀ k i, ¬ (28 ≤ k ∧ k ≤ 36) → s3 k i = s2 k i) ∧ (∀ k i, 28 ≤ k → k ≤ 36 → i < h + 1 → ¬ (k = 31 ∧ i = h) → s3 k i = s2 k i) := by
          rcases hz with ⟨w1, w2⟩ | ⟨w1, w2⟩
          · rw [if_pos w2, wt_31 (by omega) (by omega), Option.bind_some, Ok_some]
            refine ⟨?_, fun k i u => up_o (by omega), fun k i u v w y => up_o (by omega)⟩
            have := PAs_snoc (s' := up s2 31 h (s1 27 0)) (p := q) (n := s1 27 0) (hi' := s1 27 0 + 1) ⟨(up_o (by omega)).trans m2, (up_o (by omega)).trans m3, (up_o (by omega)).trans m8⟩ c6 (Int.le_refl _) (by omega) (fun k i a b c d e => (up_o (by omega)).trans (m11 k i (by omega) (by omega))) (fun w => absurd w1 w)
            rw [if_pos w1] at this
            rw [up_hit]
            exact this
          · rw [if_neg (by omega), wt_34 (by omega) (by omega), Option.bind_some, Ok_some]
            refine ⟨?_, fun k i u => up_o (by omega), fun k i u v w y => up_o (by omega)⟩
            have := PAs_snoc (s' := up s2 34 l4 (s1 27 0)) (p := q) (n := s1 27 0) (hi' := s1 27 0 + 1) ⟨(up_o (by omega)).trans m2, (up_o (by omega)).trans m3, (up_o (by omega)).trans m8⟩ c6 (Int.le_refl _) (by omega) (fun k i a b c d e => (up_o (e w1)).trans (m11 k i (by omega) (by omega))) (fun w => up_hit)
            rw [if_neg w1] at this
            rw [up_o (by omega), m11 31 h (by omega) (by omega)]
            exact this
        refine link.bd fun s3 hs => ?_
        obtain ⟨p1, p2, p3⟩ := hs
        have gS : SeqR s3 K := g1.ex (fun i => (p2 24 i (by omega)).trans (m11 24 i (by omega) (by omega)))
        have q27 : s3 27 0 = s1 27 0 + 1 := (p2 27 0 (by omega)).trans m1
        have gg : ∀ k i, ¬ (28 ≤ k ∧ k ≤ 36) → k ≠ 27 → s3 k i = s k i := fun k i u v => (p2 k i u).trans ((m11 k i (by omega) (by omega)).trans (g3 k i u v))
        have gh : ∀ k i, 28 ≤ k → k ≤ 36 → i < h + 1 → ¬ (k = 31 ∧ i = h) → s3 k i = s k i := fun k i u v w y => (p3 k i u v w y).trans ((m11 k i (by omega) (by omega)).trans (g4 k i u v w y))
        unfold bd1
        dsimp only
        rw [wr_id' (by omega) (by omega), show (q : Int) + 1 = ((q + 1 : Nat) : Int) by push_cast; rfl, rd_24 (by omega) (by omega), Option.bind_some, gS.2 (q + 1) (by omega)]
        by_cases z14 : kd K (q + 1) = 14
        · have hq2 := kd_eq z14 (by decide)
          rw [if_pos z14, Option.bind_some, if_neg (by decide), Option.bind_some, if_neg (by decide), Option.bind_some, wr_id' (by omega) (by omega)]
          rw [paX_go z0 z14] at c5
          refine ih _ ⟨⟨gS, by dsimp only; omega, gg, gh⟩, Or.inl ⟨q + 2, l ++ [q], by dsimp only; push_cast; omega, by omega, hq2, rfl, rfl, c5, by dsimp only; rw [q27]; exact p1, by dsimp only; push_cast; omega⟩⟩ (by dsimp only; rw [if_neg (by omega), if_neg (by omega)]; push_cast; omega)
        · rw [if_neg z14, Option.bind_some, if_pos rfl]
          rw [paX_end z0 z14] at c5
          subst c5
          have e11 : ((some (kd K (q + 1))).bind fun v56 => if v56 = 11 then some 1 else some 0 : Option Int) = some (b01 (decide (kd K (q + 1) = 11))) := by
            rw [Option.bind_some]
            by_cases w : kd K (q + 1) = 11
            · rw [if_pos w, decide_eq_true w]; rfl
            · rw [if_neg w, decide_eq_false w]; rfl
          rw [e11, Option.bind_some, if_pos rfl, Option.bind_some, wr_id' (by omega) (by omega), Int.add_zero]
          refine ih _ ⟨⟨gS, by dsimp only; omega, gg, gh⟩, Or.inr ⟨Or.inl rfl, rfl, rfl, by omega, by omega, by dsimp only; push_cast; omega, s1 27 0, by dsimp only; rw [q27]; exact p1⟩⟩ (by dsimp only; rw [if_pos (Or.inl rfl), if_neg (by omega)]; omega)
      · rw [if_neg z0, Option.bind_some, if_pos rfl]
        rw [paX_no z0] at c5
        subst c5
        refine ih _ ⟨⟨g1, g2, g3, g4⟩, Or.inr ⟨Or.inr rfl, rfl, rfl, c2, c1, c7⟩⟩ (by dsimp only; rw [if_pos (Or.inr rfl), if_neg (by omega)]; omega)
    · dsimp only at c1 c2
      have fin : Ok (some (l1, l3, s1)) (fun x => PaR s K h r X x ∧ s 27 0 ≤ x.2.2 27 0 ∧ (∀ k i, ¬ (28 ≤ k ∧ k ≤ 36) → k ≠ 27 → x.2.2 k i = s k i) ∧ (∀ k i, 28 ≤ k → k ≤ 36 → i < h + 1 → ¬ (k = 31 ∧ i = h) → x.2.2 k i = s k i)) := Ok_some.mpr ⟨c2, g2, g3, g4⟩
      by_cases z5 : l5 = 0
      · rw [if_pos z5]; exact fin
      · rw [if_neg z5, if_pos (c1.resolve_left z5)]; exact fin
  · rcases hX with ⟨h1, rfl⟩ | ⟨rfl, rfl, h2⟩
    · exact Or.inl ⟨r, [], rfl, Nat.le_refl _, hr, rfl, rfl, h1, hp0, by dsimp only; omega⟩
    · exact Or.inr ⟨Or.inl rfl, rfl, by dsimp only; rw [decide_eq_true h2]; rfl, hr, Nat.le_refl _, by dsimp only; omega, -1, hp0⟩
end Itm
