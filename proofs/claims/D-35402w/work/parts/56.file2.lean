/-! N13: the model reads items, a file -/
set_option maxRecDepth 100000
set_option linter.unusedVariables false
theorem one_z : ((1 : Int) = 0) = False := eq_false (by decide)
section Itm2
variable {s0 s : MS} {K : List Int} {n0 nb : Int} {I : List IT} {F : List Flt} {O : List EX} {p : Nat}
theorem b01_t : b01 true = 1 := rfl
theorem b01_f : b01 false = 0 := rfl
theorem m_readFunction (h : RSM s0 s K n0 nb ([], p, I, F, [])) (hk : kd K p = 3) (h46 : s 46 0 = 0) : Ok (M_readFunction s) fun s' => RSM s0 s' K n0 nb (match heF K p with
    | .inl q => fiS K q I F []
    | .inr y => ([([], .inl (p + 1, y.1))], y.2 + 1, I, F, [])) := by
  obtain ⟨hm, h26, -⟩ := h
  dsimp only at hm h26
  have hm' := hm
  obtain ⟨⟨a1, a2, a3, a4, a5, a6⟩, ⟨b1, b2⟩, c1, d1⟩ := hm
  have hl := a1.1
  have lb := STK_lb c1
  have hpl := kd_eq hk (by decide)
  have k1 : s 24 ((p : Int) + 1) = kd K (p + 1) := by have := a1.2 (p + 1) (by omega); push_cast at this; exact this
  have k2 : s 24 ((p : Int) + 1 + 1) = kd K (p + 2) := by have := a1.2 (p + 2) (by omega); push_cast at this; rw [show (p : Int) + 1 + 1 = (p : Int) + 2 by omega]; exact this
  -- it fails at a place
  have fail : ∀ (s1 : MS) (q : Nat), q ≤ K.length → p < q → SeqR s1 K → Fmz (ZR n0) s0 s1 → s 27 0 ≤ s1 27 0 → s1 27 0 ≤ nb + 2 * (q : Int) → s1 41 0 = 0 → STK s1 K n0 I [] (s1 27 0) (-1) → ERR s1 F → s1 46 0 = 0 → Ok ((M_failItem s1 (q : Int)).bind fun s19 => some s19) fun s' => RSM s0 s' K n0 nb (fiS K q I F []) := fun s1 q u1 u2 u3 u4 u5 u6 u7 u8 u9 u10 => by
    have hkk := skI_pos u1
    have b2' : F.length + 0 ≤ p := b2
    exact Ok_bind.mpr ((m_fail (p := skI K q) ⟨⟨u3, u4, hkk.2.1, a4, by omega, a6⟩, ⟨u7, by show F.length + 0 ≤ skI K q; omega⟩, u8, u9⟩ u10 u1 (by omega) (by omega)).imp fun s' hs => Ok_some.mpr hs)
  unfold M_readFunction
  rw [h26]
  simp (disch := omega) only [bd1, Option.bind_some, wr_id', up_o, up_hit, rd_24, wt_24, k1]
  by_cases q1 : kd K (p + 1) = 0
  · have hl1 := kd_eq q1 (by decide)
    rw [if_pos q1]
    simp (disch := omega) only [bd1, Option.bind_some, wr_id', up_o, up_hit, rd_24, wt_24, one_z, ite_false, k2]
    by_cases q2 : kd K (p + 2) = 10
    · have hl2 := kd_eq q2 (by decide)
      have k3 : ∀ t : MS, SeqR t K → t 24 ((p : Int) + 1 + 1 + 1) = kd K (p + 3) := fun t ht => by have := ht.2 (p + 3) (by omega); push_cast at this; rw [show (p : Int) + 1 + 1 + 1 = (p : Int) + 3 by omega]; exact this
      rw [if_pos q2]
      simp (disch := omega) only [bd1, Option.bind_some, wr_id', up_o, up_hit, rd_24, wt_24, one_z, ite_false]
      rw [Option.bind_assoc]
      refine (m_make (s := s) (kind := 2) (tok := (p : Int) + 1) (by omega)).bd fun y hy => ?_
      obtain ⟨n, s2⟩ := y
      obtain ⟨rfl, m1, ⟨m2, m3, m4, m5, m6, m7, m8, m9, m10⟩, m11⟩ := hy
      dsimp only at m1 m2 m3 m4 m5 m6 m7 m8 m9 m10 m11 ⊢
      have hS2 : SeqR s2 K := a1.ex (fun i => m11 24 i (by omega) (by omega))
      simp (disch := omega) only [bd1, Option.bind_some, wr_id', up_o, up_hit, rd_24, wt_24, k3 s2 hS2]
      -- which way it goes
      obtain ⟨X, r0, hX1, hX2, hX3⟩ : ∃ (X : Sum Nat (List Nat × Nat)) (r0 : Int), (if kd K (p + 3) = 11 then some 0 else some 1 : Option Int) = some r0 ∧ (paX K [] (p + 3) = X ∧ r0 = 1 ∨ (r0 = 0 ∧ X = .inr ([], p + 3) ∧ kd K (p + 3) = 11)) ∧ heF K p = (match X with
          | .inl q => .inl q
          | .inr y => if kd K y.2 = 11 then heE K y.1 (y.2 + 1) else .inl y.2) := by
        unfold heF
        rw [if_pos q1, if_pos q2]
        by_cases q3 : kd K (p + 3) = 11
        · refine ⟨.inr ([], p + 3), 0, if_pos q3, Or.inr ⟨rfl, rfl, q3⟩, ?_⟩
          rw [if_pos q3]
          show _ = if kd K (p + 3) = 11 then heE K [] (p + 3 + 1) else _
          rw [if_pos q3]
        · refine ⟨paX K [] (p + 3), 1, if_neg q3, Or.inl ⟨rfl, rfl⟩, ?_⟩
          rw [if_neg q3]
          unfold paX
          cases paF K (K.length + 1) (p + 3) with
          | inl q => rfl
          | inr y => rfl
      rw [hX1, hX3, Option.bind_some, Option.bind_assoc]
      rw [show (p : Int) + 1 + 1 + 1 = ((p + 3 : Nat) : Int) by push_cast; omega]
      refine (m_params (s := s2) (h := s 27 0) (r := p + 3) (X := X) hS2 hl2 ⟨by omega, by omega⟩ m5 (by push_cast; omega) hX2).bd fun x hx => ?_
      obtain ⟨x1, x2, s3⟩ := x
      obtain ⟨p1, p2, p3, p4⟩ := hx
      dsimp only at p1 p2 p3 p4 ⊢
      have g3 : ∀ k i, ¬ (28 ≤ k ∧ k ≤ 36) → k ≠ 27 → s3 k i = s k i := fun k i u v => (p3 k i u v).trans (m11 k i (by omega) (by omega))
      have g4 : ∀ k i, 28 ≤ k → k ≤ 36 → i < s 27 0 → s3 k i = s k i := fun k i u v w => (p4 k i u v (by omega) (by omega)).trans (m11 k i (by omega) (by omega))
      have hS3 : SeqR s3 K := a1.ex (fun i => g3 24 i (by omega) (by omega))
      have hF3 : Fmz (ZR n0) s0 s3 := a2.ex (fun k i z => by
        unfold ZR at z
        by_cases w : 28 ≤ k ∧ k ≤ 36
        · exact g4 k i w.1 w.2 (by omega)
        · exact g3 k i w (by omega))
      have c3 : STK s3 K n0 I [] (s 27 0) (-1) := c1.ag (AgS.of (fun k i u1 u2 u3 u4 u5 u6 u7 u8 u9 v w => by
        by_cases y : 28 ≤ k ∧ k ≤ 36
        · exact g4 k i y.1 y.2 (v y)
        · exact g3 k i y (by omega)))
      have d3 : ERR s3 F := d1.ag (fun k i u v => g3 k i (by omega) (by omega))
      have e46 : s3 46 0 = 0 := (g3 46 0 (by omega) (by omega)).trans h46
      have e41 : s3 41 0 = 0 := (g3 41 0 (by omega) (by omega)).trans b1
      rw [m1] at p2
      cases X with
      | inl q =>
        obtain ⟨rfl, rfl, v3, v4, v5⟩ := p1
        dsimp only at v5
        simp (disch := omega) only [bd1, Option.bind_some, wr_id', up_o, up_hit, eq_self, ite_true, Int.add_zero]
        exact fail s3 q v3 (by omega) hS3 hF3 (by omega) (by omega) e41 (STK_hi0 c3 (by omega)) d3 e46
      | inr y =>
        obtain ⟨rfl, rfl, v3, v4, v5, z, v6⟩ := p1
        dsimp only at v5 v6 ⊢
        by_cases q3 : kd K y.2 = 11
        · have hly := kd_eq q3 (by decide)
          rw [if_pos q3, decide_eq_true q3, b01_t]
          have k4 : s3 24 ((y.2 : Int) + 1) = kd K (y.2 + 1) := by have := hS3.2 (y.2 + 1) (by omega); push_cast at this; exact this
          simp (disch := omega) only [bd1, Option.bind_some, wr_id', up_o, up_hit, rd_24, wt_24, one_z, ite_false, k4]
          unfold heE
          by_cases q4 : kd K (y.2 + 1) = 12
          · have hly2 := kd_eq q4 (by decide)
            rw [if_pos q4, if_pos q4, Option.bind_some, Option.bind_some]
            dsimp only
            rw [if_neg (by decide)]
            refine (m_addItem c3 a4 (n := s 27 0) (by omega)).bd fun s4 hs => ?_
            obtain ⟨w1, w2, w3, w4⟩ := hs
            have f27 : s4 27 0 = s3 27 0 := w3 27 0 (by omega) (by decide) (by decide)
            refine Ok_bind.mpr ((m_openB (s := s4) (why := 0) (h := s 27 0) (tok := (y.2 : Int) + 1) (d := 0) (fld := 32) (oo := -1) (by decide) ((w3 41 0 (by omega) (by decide) (by decide)).trans e41) (by omega) (by omega) (by omega) (Or.inl ⟨rfl, rfl, rfl⟩)).imp fun t ht => Ok_some.mpr ?_)
            rw [f27] at ht
            obtain ⟨t27, ⟨t28, t31, t33, t34, t35, t36⟩, ⟨t42, t43, t44, t45, t41, t26⟩, t32, tg⟩ := ht
            have g5 : ∀ k i, ¬ (28 ≤ k ∧ k ≤ 36) → k ≠ 26 → k ≠ 27 → ¬ (41 ≤ k ∧ k ≤ 45) → k ≠ 48 → k ≠ 49 → t k i = s k i := fun k i u v w x y z => (tg k i (by omega) (by omega) (by omega) (by omega)).trans ((w3 k i u y z).trans (g3 k i u w))
            have g6 : ∀ k i, 28 ≤ k → k ≤ 36 → s 27 0 ≤ i → i < s3 27 0 → ¬ (k = 32 ∧ i = s 27 0) → t k i = s3 k i := fun k i u v w x y => (tg k i (by omega) (by omega) (by omega) y).trans (w2 k i u v w)
            have n2 : ∀ k, 28 ≤ k → k ≤ 36 → k ≠ 31 → k ≠ 32 → t k (s 27 0) = s2 k (s 27 0) := fun k u v w x => (g6 k _ u v (Int.le_refl _) (by omega) (by omega)).trans (p4 k _ u v (by omega) (by omega))
            have hx1 : STK t K n0 I [] (s 27 0) (s 27 0) := w1.ag (AgS.of (fun k i u1 u2 u3 u4 u5 u6 u7 u8 u9 v w => tg k i (by omega) (by omega) (by have : ((([] : List OB).length : Nat) : Int) = 0 := rfl; omega) (by omega)))
            refine ⟨⟨⟨a1.ex (fun i => g5 24 i (by omega) (by omega) (by omega) (by omega) (by omega) (by omega)), a2.ex (fun k i z => ?_), hly2, a4, by show t 27 0 ≤ nb + 2 * ((y.2 + 1 + 1 : Nat) : Int); push_cast; omega, a6⟩, ⟨t41, ?_⟩, ?_, d1.ag (fun k i u v => g5 k i (by omega) (by omega) (by omega) (by omega) (by omega) (by omega))⟩, ?_, Or.inl ⟨rfl, (g5 46 0 (by omega) (by omega) (by omega) (by omega) (by omega) (by omega)).trans h46⟩⟩
            · unfold ZR at z
              by_cases w : 28 ≤ k ∧ k ≤ 36
              · exact (tg k i (by omega) (by omega) (by omega) (by omega)).trans ((w4 k i w.1 w.2 (by omega)).trans (g4 k i w.1 w.2 (by omega)))
              · exact g5 k i w (by omega) (by omega) (by omega) (by omega) (by omega)
            · have b2' : F.length + 0 ≤ p := b2
              show F.length + 1 ≤ y.2 + 1 + 1
              omega
            · show STK t K n0 I [([], .inl (p + 1, y.1))] (t 27 0) (-1)
              rw [t27]
              have hpa := v6.ag (s' := t) (fun k i u v w x => g6 k i u v (by omega) x (by omega))
              refine ⟨s3 27 0, -1, -1, -1, s 27 0, s3 27 0, ⟨t42, by rw [if_pos rfl]; exact t43⟩, ⟨by omega, t28, t36, t33, t31⟩, ⟨rfl, rfl, Int.le_refl _⟩, ⟨rfl, t44, rfl⟩, s 27 0, s3 31 (s 27 0), z, s 27 0, ⟨t45, rfl, Int.le_refl _, by omega⟩, ⟨(n2 28 (by decide) (by decide) (by decide) (by decide)).trans m2, (n2 29 (by decide) (by decide) (by decide) (by decide)).trans (by rw [m3]; push_cast; rfl), g6 31 _ (by decide) (by decide) (Int.le_refl _) (by omega) (by omega), t32, (n2 34 (by decide) (by decide) (by decide) (by decide)).trans m8⟩, hpa, hx1⟩
            · show t 26 0 = ((y.2 + 1 + 1 : Nat) : Int)
              rw [t26]; push_cast; rfl
          · rw [if_neg q4, if_neg q4, Option.bind_some, Option.bind_some]
            dsimp only
            rw [if_pos rfl]
            have := fail s3 (y.2 + 1) hly (by omega) hS3 hF3 (by omega) (by push_cast; omega) e41 (STK_hi0 c3 (by omega)) d3 e46
            push_cast at this
            exact this
        · rw [if_neg q3, decide_eq_false q3, b01_f]
          simp (disch := omega) only [bd1, Option.bind_some, wr_id', up_o, up_hit, eq_self, ite_true, Int.add_zero]
          exact fail s3 y.2 v3 (by omega) hS3 hF3 (by omega) (by omega) e41 (STK_hi0 c3 (by omega)) d3 e46
    · rw [if_neg q2, show heF K p = .inl (p + 2) by unfold heF; rw [if_pos q1, if_neg q2]]
      simp (disch := omega) only [bd1, Option.bind_some, wr_id', up_o, up_hit, eq_self, ite_true, Int.add_zero]
      have := fail s (p + 2) hl1 (by omega) a1 a2 (Int.le_refl _) (by push_cast; omega) b1 c1 d1 h46
      rw [show (p : Int) + 1 + 1 = ((p + 2 : Nat) : Int) by push_cast; omega]
      exact this
  · rw [if_neg q1, show heF K p = .inl (p + 1) by unfold heF; rw [if_neg q1]]
    simp (disch := omega) only [bd1, Option.bind_some, wr_id', up_o, up_hit, eq_self, ite_true, Int.add_zero]
    have := fail s (p + 1) hpl (by omega) a1 a2 (Int.le_refl _) (by push_cast; omega) b1 c1 d1 h46
    rw [show (p : Int) + 1 = ((p + 1 : Nat) : Int) by push_cast; omega]
    exact this
theorem m_readItem (h : RSM s0 s K n0 nb ([], p, I, F, O)) (hk : kd K p ≠ 24) : Ok (M_readItem s) fun s' => RSM s0 s' K n0 nb (itS K p I F O) := by
  have hz := h.2.2.z hk
  obtain ⟨hO, h46⟩ := hz
  dsimp only at hO
  subst hO
  have h' := h
  obtain ⟨hm, h26, -⟩ := h
  dsimp only at hm h26
  have hm' := hm
  obtain ⟨⟨a1, a2, a3, a4, a5, a6⟩, ⟨b1, b2⟩, c1, d1⟩ := hm
  have hl := a1.1
  have lb := STK_lb c1
  have b2' : F.length + 0 ≤ p := b2
  have hpl := kd_lt hk
  have k0 := a1.2 p (by omega)
  have k1 : s 24 ((p : Int) + 1) = kd K (p + 1) := by have := a1.2 (p + 1) (by omega); push_cast at this; exact this
  have k2 : s 24 ((p : Int) + 2) = kd K (p + 2) := by have := a1.2 (p + 2) (by omega); push_cast at this; exact this
  have fail : ∀ q : Nat, q ≤ K.length → p < skI K q → Ok ((M_failItem s (q : Int)).bind fun s19 => some s19) fun s' => RSM s0 s' K n0 nb (fiS K q I F []) := fun q u1 u2 =>
    Ok_bind.mpr ((m_fail hm' h46 u1 (by omega) (by omega)).imp fun s' hs => Ok_some.mpr hs)
  unfold M_readItem itS
  rw [h26, rd_24 (by omega) (by omega), Option.bind_some, k0]
  by_cases q3 : kd K p = 3
  · rw [if_pos q3, if_pos q3]
    refine Ok_bind.mpr ((m_readFunction h' q3 h46).imp fun s' hs => Ok_some.mpr ?_)
    cases e : heF K p with
    | inl q => rw [e] at hs; exact hs
    | inr y => rw [e] at hs; exact hs
  · rw [if_neg q3, if_neg q3]
    by_cases q2 : kd K p = 2
    · rw [if_pos q2, if_pos q2]
      simp (disch := omega) only [bd1, Option.bind_some, wr_id', up_o, up_hit, rd_24, wt_24, k1]
      by_cases q0 : kd K (p + 1) = 0
      · have hl1 := kd_eq q0 (by decide)
        rw [if_pos q0, if_pos q0, Option.bind_some, jn_e]
        dsimp only
        rw [if_neg (by decide)]
        simp (disch := omega) only [bd1, Option.bind_some, wr_id', up_o, up_hit, rd_24, wt_24, h26, k2]
        by_cases q5 : kd K (p + 2) = 15
        · have hl2 := kd_eq q5 (by decide)
          rw [if_pos q5, if_pos q5]
          refine (m_make (s := s) (kind := 1) (tok := (p : Int) + 1) (by omega)).bd fun y hy => ?_
          obtain ⟨n, s2⟩ := y
          obtain ⟨rfl, m1, ⟨m2, m3, m4, m5, m6, m7, m8, m9, m10⟩, m11⟩ := hy
          dsimp only at m1 m2 m3 m4 m5 m6 m7 m8 m9 m10 m11 ⊢
          have c2 : STK s2 K n0 I [] (s 27 0) (-1) := c1.ag (AgS.of (fun k i u1 u2 u3 u4 u5 u6 u7 u8 u9 v w => m11 k i (by omega) (by omega)))
          refine (m_addItem c2 a4 (n := s 27 0) (by omega)).bd fun s4 hs => ?_
          obtain ⟨w1, w2, w3, w4⟩ := hs
          have f26 : s4 26 0 = p := (w3 26 0 (by omega) (by decide) (by decide)).trans ((m11 26 0 (by omega) (by omega)).trans h26)
          rw [Ok_some, f26, wr_id' (by omega) (by omega)]
          have u0 : ∀ k i, ¬ (k = 26 ∧ i = 0) → up s4 26 0 ((p : Int) + 3) k i = s4 k i := fun k i z => up_o z
          have u1 : up s4 26 0 ((p : Int) + 3) 26 0 = (p : Int) + 3 := up_hit
          generalize up s4 26 0 ((p : Int) + 3) = t at u0 u1 ⊢
          have g5 : ∀ k i, ¬ (28 ≤ k ∧ k ≤ 36) → k ≠ 26 → k ≠ 27 → k ≠ 48 → k ≠ 49 → t k i = s k i := fun k i u v w x y => (u0 k i (by omega)).trans ((w3 k i u x y).trans (m11 k i (by omega) (by omega)))
          have t27 : t 27 0 = s 27 0 + 1 := (u0 27 0 (by omega)).trans ((w3 27 0 (by omega) (by decide) (by decide)).trans m1)
          have nd : ∀ k, 28 ≤ k → k ≤ 36 → t k (s 27 0) = s2 k (s 27 0) := fun k u v => (u0 k _ (by omega)).trans (w2 k _ u v (Int.le_refl _))
          refine ⟨⟨⟨a1.ex (fun i => g5 24 i (by omega) (by omega) (by omega) (by omega) (by omega)), a2.ex (fun k i z => ?_), hl2, a4, by show t 27 0 ≤ nb + 2 * ((p + 3 : Nat) : Int); push_cast; omega, a6⟩, ⟨(g5 41 0 (by omega) (by omega) (by omega) (by omega) (by omega)).trans b1, by show F.length + 0 ≤ p + 3; omega⟩, ?_, d1.ag (fun k i u v => g5 k i (by omega) (by omega) (by omega) (by omega) (by omega))⟩, by show t 26 0 = ((p + 3 : Nat) : Int); push_cast; exact u1, Or.inl ⟨rfl, (g5 46 0 (by omega) (by omega) (by omega) (by omega) (by omega)).trans h46⟩⟩
          · unfold ZR at z
            by_cases w : 28 ≤ k ∧ k ≤ 36
            · exact (u0 k i (by omega)).trans ((w4 k i w.1 w.2 (by omega)).trans (m11 k i (by omega) (by omega)))
            · exact g5 k i w (by omega) (by omega) (by omega) (by omega)
          · have hx1 : STK t K n0 I [] (s 27 0) (s 27 0) := w1.ag (AgS.of (fun k i u1 u2 u3 u4 u5 u6 u7 u8 u9 v w => u0 k i (by omega)))
            obtain ⟨z, y1, y2⟩ := hx1
            rw [if_neg (by omega)] at y2
            show STK t K n0 (I ++ [.inl (p + 1)]) [] (t 27 0) (-1)
            rw [t27]
            refine ⟨s 27 0, IL_fin (e := .inl (p + 1)) ((nd 34 (by decide) (by decide)).trans m8) y1 ⟨by omega, (nd 28 (by decide) (by decide)).trans m2, (nd 29 (by decide) (by decide)).trans (by rw [m3]; push_cast; rfl)⟩, by rw [if_pos rfl]; exact y2⟩
        · rw [if_neg q5, if_neg q5, if_neg (by decide), Option.bind_some, wr_id' (by omega) (by omega), show (p : Int) + 2 = ((p + 2 : Nat) : Int) by push_cast; rfl]
          exact fail (p + 2) hl1 (by have := (skI_pos (K := K) (p := p + 2) hl1).1; omega)
      · rw [if_neg q0, if_neg q0, Option.bind_some, jn_e]
        dsimp only
        rw [if_pos rfl, if_pos rfl, Option.bind_some, h26, wr_id' (by omega) (by omega), show (p : Int) + 1 = ((p + 1 : Nat) : Int) by push_cast; rfl]
        exact fail (p + 1) hpl (by have := (skI_pos (K := K) (p := p + 1) hpl).1; omega)
    · rw [if_neg q2, if_neg q2]
      refine fail p a3 ((skI_pos a3).2.2.2 ?_)
      unfold isIt
      rw [decide_eq_false_iff_not]
      rintro (z | z | z)
      · exact q3 z
      · exact q2 z
      · exact hk z
end Itm2
