/-! N9: the model reads statements -/
set_option maxRecDepth 100000
set_option linter.unusedVariables false
def FNa (s : MS) (n0 : Int) (I : List IT) : Prop := ∃ (f : Nat × List Nat × EX) (h a z hi : Int), I.getLast? = some (.inr f) ∧ s 33 (s 47 0) = h ∧ s 31 h = a ∧ PAs s f.2.1 (h + 1) hi a z ∧ hi ≤ s 27 0 ∧ n0 ≤ h
def ATE (s : MS) (K : List Int) (n0 : Int) (I : List IT) (st : List OB) (O : List EX) (p : Nat) : Prop := (O = [] ∧ s 46 0 = 0) ∨ (O ≠ [] ∧ kd K p = 24 ∧ s 46 0 = (st.length : Int) + O.length ∧ s 46 0 ≤ 200 ∧ (∀ j : Nat, j < st.length → s 47 j = s 42 j) ∧
  (∀ (i : Nat) (e : EX), O[i]? = some e → ∃ b lo hi o th : Int, s 47 (s 46 0 - 1 - i) = b ∧ (isS e = true ∧ WS e 0) ∧ NS s K e 0 lo hi b o th ∧ hi ≤ s 27 0 ∧ n0 ≤ lo ∧ ∀ j : Nat, j < st.length → s 42 j < lo) ∧ (st = [] → FNa s n0 I))
def ZR (n0 : Int) : Nat → Int → Prop := fun k i => ((28 ≤ k ∧ k ≤ 36) ∧ n0 ≤ i) ∨ k = 26 ∨ k = 27 ∨ (37 ≤ k ∧ k ≤ 63)
theorem ZR_E {n0 n1 : Int} (h : n0 ≤ n1) {k : Nat} {i : Int} (z : ZE n1 k i) : ZR n0 k i := by unfold ZE at z; unfold ZR; omega
def RSm (s0 s : MS) (K : List Int) (n0 nb : Int) (st : List OB) (I : List IT) (F : List Flt) (p : Nat) : Prop :=
  (SeqR s K ∧ Fmz (ZR n0) s0 s ∧ p ≤ K.length ∧ 0 ≤ n0 ∧ s 27 0 ≤ nb + 2 * (p : Int) ∧ nb + 2 * (K.length : Int) + 2 < 1600) ∧ (s 41 0 = (st.length : Int) ∧ F.length + st.length ≤ p) ∧ STK s K n0 I st (s 27 0) (-1) ∧ ERR s F
def RSM (s0 s : MS) (K : List Int) (n0 nb : Int) (t : RS) : Prop := RSm s0 s K n0 nb t.1 t.2.2.1 t.2.2.2.1 t.2.1 ∧ s 26 0 = (t.2.1 : Int) ∧ ATE s K n0 t.2.2.1 t.1 t.2.2.2.2 t.2.1
section Stm
variable {s0 s : MS} {K : List Int} {n0 nb : Int} {I : List IT} {F : List Flt} {O : List EX} {x : OB} {st : List OB} {p : Nat}
theorem ATE.z (h : ATE s K n0 I st O p) (hk : kd K p ≠ 24) : O = [] ∧ s 46 0 = 0 := by
  rcases h with h | h
  · exact h
  · exact absurd h.2.1 hk
theorem AgS.of {s' : MS} {hi d : Int} (h : ∀ k i, 28 ≤ k → k ≤ 49 → k ≠ 37 → k ≠ 38 → k ≠ 39 → k ≠ 40 → k ≠ 41 → k ≠ 46 → k ≠ 47 → (28 ≤ k ∧ k ≤ 36 → i < hi) → (42 ≤ k ∧ k ≤ 45 → i < d) → s' k i = s k i) : AgS s s' hi d :=
  ⟨fun k i a b c => h k i a (by omega) (by omega) (by omega) (by omega) (by omega) (by omega) (by omega) (by omega) (fun _ => c) (fun _ => by omega), fun k i a b c => h k i (by omega) (by omega) (by omega) (by omega) (by omega) (by omega) (by omega) (by omega) (by omega) (fun _ => by omega) (fun _ => c), h 48 0 (by decide) (by decide) (by decide) (by decide) (by decide) (by decide) (by decide) (by decide) (by decide) (fun z => by omega) (fun z => by omega), h 49 0 (by decide) (by decide) (by decide) (by decide) (by decide) (by decide) (by decide) (by decide) (by decide) (fun z => by omega) (fun z => by omega)⟩
theorem m_break {q fr : Nat} (h : RSm s0 s K n0 nb (x :: st) I F p) (hq : q ≤ K.length) (h46 : s 46 0 = 0) (hp : F.length + st.length + 2 ≤ skS K q) (hN : s 27 0 + 1 ≤ nb + 2 * (skS K q : Int)) : Ok (M_breakStatement s fr q) fun s' => RSM s0 s' K n0 nb (brS K (x :: st) fr q I F []) := by
  obtain ⟨⟨a1, a2, a3, a4, a5, a6⟩, ⟨b1, b2⟩, c1, d1⟩ := h
  have hk := skS_pos hq
  have hl := a1.1
  have lb := STK_lb c1
  rw [List.length_cons] at b1 b2
  push_cast at b1
  unfold M_breakStatement bd1
  have hS1 : SeqR (up s 26 0 q) K := a1.ex (fun i => up_o (by omega))
  refine (m_skip hS1 hq up_hit).bd fun s1 hs => ?_
  obtain ⟨e1, e2⟩ := hs
  have e2' : ∀ k i, ¬ (k = 26 ∧ i = 0) → s1 k i = s k i := fun k i z => (e2 k i z).trans (up_o z)
  have d2 : ERR s1 F := d1.ag (fun k i u v => e2' k i (by omega))
  rw [e1, wr_id' (by omega) (by omega)]
  have et : ((skS K q : Int) - 1) = toM ((q : Int), (fr : Int), (skS K q : Int)) := by unfold toM; rw [if_neg (by dsimp only; omega)]
  rw [et]
  refine (m_tellError d2 (by omega) (x := ((q : Int), (fr : Int), (skS K q : Int)))).bd fun s2 hs => ?_
  obtain ⟨d3, e3⟩ := hs
  have e27 : s2 27 0 = s 27 0 := (e3 27 0 (by omega)).trans (e2' 27 0 (by omega))
  refine (m_make (s := s2) (kind := 12) (tok := fr) (by omega)).bd fun y hy => ?_
  obtain ⟨n, s3⟩ := y
  obtain ⟨rfl, m1, ⟨m2, m3, m4, m5, m6, m7, m8, m9, m10⟩, m11⟩ := hy
  dsimp only at m1 m2 m3 m4 m5 m6 m7 m8 m9 m10 m11 ⊢
  have g3 : ∀ k i, ¬ (k = 26 ∧ i = 0) → ¬ (37 ≤ k ∧ k ≤ 40) → ¬ (k = 27 ∧ i = 0) → ¬ ((28 ≤ k ∧ k ≤ 36) ∧ i = s2 27 0) → s3 k i = s k i := fun k i u v w y => (m11 k i w y).trans ((e3 k i v).trans (e2' k i u))
  have c2 : STK s3 K n0 I (x :: st) (s 27 0) (-1) := c1.ag (AgS.of (fun k i u1 u2 u3 u4 u5 u6 u7 u8 u9 v w => g3 k i (by omega) (by omega) (by omega) (by omega)))
  refine Ok_bind.mpr ((STK_link c2 a4 ((g3 41 0 (by omega) (by omega) (by omega) (by omega)).trans b1) (by omega) (n := s2 27 0) (by omega)).imp fun s4 hs => Ok_some.mpr ?_)
  obtain ⟨k1, k2, k3, k4, k5, k6⟩ := hs
  have e42 : s4 42 (st.length : Int) = s3 42 (st.length : Int) := k5 42 _ (by omega) (by omega)
  have f27 : s4 27 0 = s 27 0 + 1 := (k5 27 0 (by omega) (by omega)).trans (by omega)
  have h36 : s4 36 (s 27 0) = s4 42 (st.length : Int) := by rw [← e27, k2, e42]
  have h28 : s4 28 (s 27 0) = 12 := by rw [k4 28 _ (by omega) (by omega) (by omega) (by omega), ← e27]; exact m2
  have h34 : s4 34 (s 27 0) = -1 := by rw [k4 34 _ (by omega) (by omega) (by omega) (by omega), ← e27]; exact m8
  rw [e27] at k1
  have fin := STK_fin (hi' := s 27 0 + 1) (e := .var fr) k1 (by omega) rfl rfl ⟨⟨Int.le_refl _, by omega⟩, h28, h36⟩ h34
  refine ⟨⟨⟨a1.ex (fun i => (k5 24 i (by omega) (by omega)).trans (g3 24 i (by omega) (by omega) (by omega) (by omega))), a2.ex (fun k i z => ?_), hk.2.1, a4, by show s4 27 0 ≤ nb + 2 * (skS K q : Int); omega, a6⟩, ⟨?_, ?_⟩, ?_, ?_⟩, ?_, Or.inl ⟨rfl, ?_⟩⟩
  · unfold ZR at z
    by_cases w : 28 ≤ k ∧ k ≤ 36
    · by_cases v : s 27 0 ≤ i
      · omega
      · exact (k6 k i w.1 w.2 (by omega)).trans (g3 k i (by omega) (by omega) (by omega) (by omega))
    · exact (k5 k i w (by omega)).trans (g3 k i (by omega) (by omega) (by omega) (by omega))
  · show s4 41 0 = (((x.1 ++ [_], x.2) :: st : List OB).length : Int)
    rw [List.length_cons, k5 41 0 (by omega) (by omega), g3 41 0 (by omega) (by omega) (by omega) (by omega), b1]; push_cast; rfl
  · show (F ++ [_]).length + (((x.1 ++ [_], x.2) :: st : List OB)).length ≤ skS K q
    simp only [List.length_append, List.length_cons, List.length_nil]; omega
  · show STK s4 K n0 I ((x.1 ++ [_], x.2) :: st) (s4 27 0) (-1)
    rw [f27]; exact fin
  · exact d3.ag (fun k i u v => (k5 k i (by omega) (by omega)).trans (m11 k i (by omega) (by omega)))
  · exact (k5 26 0 (by omega) (by omega)).trans ((m11 26 0 (by omega) (by omega)).trans ((e3 26 0 (by omega)).trans e1))
  · exact (k5 46 0 (by omega) (by omega)).trans ((g3 46 0 (by omega) (by omega) (by omega) (by omega)).trans h46)
theorem STK_hi {nx hi hi' : Int} (h : STK s K n0 I (x :: st) hi nx) (q : hi ≤ hi') : STK s K n0 I (x :: st) hi' nx := by
  obtain ⟨b, a, z, o, th, lo, h1, ⟨h2, h3⟩, h4, h5⟩ := h
  exact ⟨b, a, z, o, th, lo, h1, ⟨by omega, h3⟩, SL_wk h4 q, h5⟩
/-- a block is begun -/
theorem m_openB {why tok h d : Int} (hd : 0 ≤ d ∧ d < 209) (h41 : s 41 0 = d) (hn : 0 ≤ s 27 0 ∧ s 27 0 < 1600) (hh : 0 ≤ h ∧ h < s 27 0) (ht : 0 ≤ tok ∧ tok < 1000) {fld : Nat} {oo : Int} (hw : (why = 0 ∧ fld = 32 ∧ oo = -1) ∨ (why = 1 ∧ fld = 32 ∧ oo = s 42 (d - 1) ∧ 1 ≤ d) ∨ (why = 2 ∧ fld = 33 ∧ oo = s 42 (d - 1) ∧ 1 ≤ d)) :
    Ok (M_openBlock s why h tok) fun s' => s' 27 0 = s 27 0 + 1 ∧ (s' 28 (s 27 0) = 3 ∧ s' 31 (s 27 0) = -1 ∧ s' 33 (s 27 0) = h ∧ s' 34 (s 27 0) = -1 ∧ s' 35 (s 27 0) = -1 ∧ s' 36 (s 27 0) = oo) ∧ (s' 42 d = s 27 0 ∧ s' 43 d = -1 ∧ s' 44 d = why ∧ s' 45 d = h ∧ s' 41 0 = d + 1 ∧ s' 26 0 = tok + 1) ∧ s' fld h = s 27 0 ∧ ∀ k i, ¬ ((k = 26 ∨ k = 27 ∨ k = 41) ∧ i = 0) → ¬ ((28 ≤ k ∧ k ≤ 36) ∧ i = s 27 0) → ¬ ((42 ≤ k ∧ k ≤ 45) ∧ i = d) → ¬ (k = fld ∧ i = h) → s' k i = s k i := by
  unfold M_openBlock
  refine (m_make (s := s) (kind := 3) (tok := tok) hn).bd fun y hy => ?_
  obtain ⟨n, s2⟩ := y
  obtain ⟨rfl, m1, ⟨m2, m3, m4, m5, m6, m7, m8, m9, m10⟩, m11⟩ := hy
  dsimp only at m1 m2 m3 m4 m5 m6 m7 m8 m9 m10 m11 ⊢
  have u41 : s2 41 0 = d := (m11 41 0 (by omega) (by omega)).trans h41
  have u42 : s2 42 (d - 1) = s 42 (d - 1) := m11 42 _ (by omega) (by omega)
  rcases hw with ⟨rfl, rfl, rfl⟩ | ⟨rfl, rfl, rfl, h1⟩ | ⟨rfl, rfl, rfl, h1⟩
  · simp (disch := omega) only [bd1, Option.bind_some, wr_id', up_o, up_hit, rd_32, wt_32, rd_33, wt_33, rd_36, wt_36, rd_42, wt_42, rd_43, wt_43, rd_44, wt_44, rd_45, wt_45, u41, ite_true, ite_false, show ((0 : Int) = 3) ↔ False by decide, show ((0 : Int) = 2) ↔ False by decide, show ((0 : Int) < 3) ↔ True by decide]
    rw [Ok_some]
    refine ⟨?_, ⟨?_, ?_, ?_, ?_, ?_, ?_⟩, ⟨?_, ?_, ?_, ?_, ?_, ?_⟩, ?_, fun k i z1 z2 z3 z4 => ?_⟩
    all_goals simp (disch := omega) only [up_o, up_hit]
    all_goals first | assumption | exact m11 k i (by omega) (by omega)
  · simp (disch := omega) only [bd1, Option.bind_some, wr_id', up_o, up_hit, rd_32, wt_32, rd_33, wt_33, rd_36, wt_36, rd_42, wt_42, rd_43, wt_43, rd_44, wt_44, rd_45, wt_45, u41, u42, ite_true, ite_false, show ((1 : Int) = 0) ↔ False by decide, show ((1 : Int) = 3) ↔ False by decide, show ((1 : Int) = 2) ↔ False by decide, show ((1 : Int) < 3) ↔ True by decide]
    rw [Ok_some]
    refine ⟨?_, ⟨?_, ?_, ?_, ?_, ?_, ?_⟩, ⟨?_, ?_, ?_, ?_, ?_, ?_⟩, ?_, fun k i z1 z2 z3 z4 => ?_⟩
    all_goals simp (disch := omega) only [up_o, up_hit]
    all_goals first | assumption | exact m11 k i (by omega) (by omega)
  · simp (disch := omega) only [bd1, Option.bind_some, wr_id', up_o, up_hit, rd_32, wt_32, rd_33, wt_33, rd_36, wt_36, rd_42, wt_42, rd_43, wt_43, rd_44, wt_44, rd_45, wt_45, u41, u42, ite_true, ite_false, show ((2 : Int) = 0) ↔ False by decide, show ((2 : Int) = 3) ↔ False by decide, show ((2 : Int) = 2) ↔ True by decide, show ((2 : Int) < 3) ↔ True by decide]
    rw [Ok_some]
    refine ⟨?_, ⟨?_, ?_, ?_, ?_, ?_, ?_⟩, ⟨?_, ?_, ?_, ?_, ?_, ?_⟩, ?_, fun k i z1 z2 z3 z4 => ?_⟩
    all_goals simp (disch := omega) only [up_o, up_hit]
    all_goals first | assumption | exact m11 k i (by omega) (by omega)
/-- a block that is a statement -/
theorem m_open3 (h : RSm s0 s K n0 nb (x :: st) I F p) (h46 : s 46 0 = 0) (hk : kd K p = 12) : Ok (M_openBlock s 3 (-1) p) fun s' => RSM s0 s' K n0 nb (([], .inr none) :: x :: st, p + 1, I, F, []) := by
  obtain ⟨⟨a1, a2, a3, a4, a5, a6⟩, ⟨b1, b2⟩, c1, d1⟩ := h
  have hpl := kd_eq hk (by decide)
  have hl := a1.1
  have lb := STK_lb c1
  rw [List.length_cons] at b1 b2
  push_cast at b1
  unfold M_openBlock
  refine (m_make (s := s) (kind := 3) (tok := p) (by omega)).bd fun y hy => ?_
  obtain ⟨n, s2⟩ := y
  obtain ⟨rfl, m1, ⟨m2, m3, m4, m5, m6, m7, m8, m9, m10⟩, m11⟩ := hy
  dsimp only at m1 m2 m3 m4 m5 m6 m7 m8 m9 m10 m11 ⊢
  have u41 : s2 41 0 = (st.length : Int) + 1 := (m11 41 0 (by omega) (by omega)).trans b1
  have u42 : s2 42 (st.length : Int) = s 42 (st.length : Int) := m11 42 _ (by omega) (by omega)
  simp (disch := omega) only [bd1, Option.bind_some, wr_id', up_o, up_hit, rd_36, wt_36, rd_42, wt_42, u41, ite_true, ite_false, show ((3 : Int) = 0) ↔ False by decide, show ((3 : Int) < 3) ↔ False by decide, show (st.length : Int) + 1 - 1 = st.length by omega, u42]
  have c2 : STK (up s2 36 (s 27 0) (s 42 (st.length : Int))) K n0 I (x :: st) (s 27 0) (-1) := c1.ag (AgS.of (fun k i u1 u2 u3 u4 u5 u6 u7 u8 u9 v w => (up_o (by omega)).trans (m11 k i (by omega) (by omega))))
  refine Ok_bind.mpr (Ok_bind.mpr ((STK_link c2 a4 ((up_o (by omega)).trans u41) (by omega) (n := s 27 0) (by omega)).imp fun s4 hs => Ok_some.mpr ?_))
  obtain ⟨k1, k2, k3, k4, k5, k6⟩ := hs
  have e5 : ∀ k i, ¬ (28 ≤ k ∧ k ≤ 36) → ¬ (k = 43 ∧ i = (st.length : Int)) → s4 k i = s2 k i := fun k i u v => (k5 k i u v).trans (up_o (by omega))
  have e4 : ∀ k, 28 ≤ k → k ≤ 36 → k ≠ 36 → s4 k (s 27 0) = s2 k (s 27 0) := fun k u v w => (k4 k _ u v (Int.le_refl _) (by omega)).trans (up_o (by omega))
  have v41 : s4 41 0 = (st.length : Int) + 1 := (e5 41 0 (by omega) (by omega)).trans u41
  simp (disch := omega) only [bd1, Option.bind_some, wr_id', up_o, up_hit, rd_42, wt_42, rd_43, wt_43, rd_44, wt_44, rd_45, wt_45, v41]
  rw [Ok_some]
  have g0 : ∀ k i, ¬ (k = 26 ∨ k = 41) → ¬ ((42 ≤ k ∧ k ≤ 45) ∧ i = (st.length : Int) + 1) → up (up (up (up (up (up s4 42 ((st.length : Int) + 1) (s 27 0)) 43 ((st.length : Int) + 1) (-1)) 44 ((st.length : Int) + 1) 3) 45 ((st.length : Int) + 1) (-1)) 41 0 ((st.length : Int) + 1 + 1)) 26 0 ((p : Int) + 1) k i = s4 k i := fun k i u v => by simp (disch := omega) only [up_o]
  have h42 : up (up (up (up (up (up s4 42 ((st.length : Int) + 1) (s 27 0)) 43 ((st.length : Int) + 1) (-1)) 44 ((st.length : Int) + 1) 3) 45 ((st.length : Int) + 1) (-1)) 41 0 ((st.length : Int) + 1 + 1)) 26 0 ((p : Int) + 1) 42 ((st.length : Int) + 1) = s 27 0 := by simp (disch := omega) only [up_o, up_hit]
  have h43 : up (up (up (up (up (up s4 42 ((st.length : Int) + 1) (s 27 0)) 43 ((st.length : Int) + 1) (-1)) 44 ((st.length : Int) + 1) 3) 45 ((st.length : Int) + 1) (-1)) 41 0 ((st.length : Int) + 1 + 1)) 26 0 ((p : Int) + 1) 43 ((st.length : Int) + 1) = -1 := by simp (disch := omega) only [up_o, up_hit]
  have h44 : up (up (up (up (up (up s4 42 ((st.length : Int) + 1) (s 27 0)) 43 ((st.length : Int) + 1) (-1)) 44 ((st.length : Int) + 1) 3) 45 ((st.length : Int) + 1) (-1)) 41 0 ((st.length : Int) + 1 + 1)) 26 0 ((p : Int) + 1) 44 ((st.length : Int) + 1) = 3 := by simp (disch := omega) only [up_o, up_hit]
  have h41 : up (up (up (up (up (up s4 42 ((st.length : Int) + 1) (s 27 0)) 43 ((st.length : Int) + 1) (-1)) 44 ((st.length : Int) + 1) 3) 45 ((st.length : Int) + 1) (-1)) 41 0 ((st.length : Int) + 1 + 1)) 26 0 ((p : Int) + 1) 41 0 = (st.length : Int) + 1 + 1 := by simp (disch := omega) only [up_o, up_hit]
  have h26 : up (up (up (up (up (up s4 42 ((st.length : Int) + 1) (s 27 0)) 43 ((st.length : Int) + 1) (-1)) 44 ((st.length : Int) + 1) 3) 45 ((st.length : Int) + 1) (-1)) 41 0 ((st.length : Int) + 1 + 1)) 26 0 ((p : Int) + 1) 26 0 = (p : Int) + 1 := up_hit
  generalize up (up (up (up (up (up s4 42 ((st.length : Int) + 1) (s 27 0)) 43 ((st.length : Int) + 1) (-1)) 44 ((st.length : Int) + 1) 3) 45 ((st.length : Int) + 1) (-1)) 41 0 ((st.length : Int) + 1 + 1)) 26 0 ((p : Int) + 1) = t at g0 h42 h43 h44 h41 h26 ⊢
  have f27 : t 27 0 = s 27 0 + 1 := (g0 27 0 (by omega) (by omega)).trans ((e5 27 0 (by omega) (by omega)).trans m1)
  have hx1 : STK t K n0 I (x :: st) (s 27 0) (s 27 0) := k1.ag (AgS.of (fun k i u1 u2 u3 u4 u5 u6 u7 u8 u9 v w => g0 k i (by omega) (by rw [List.length_cons] at w; push_cast at w; omega)))
  have hnode : ∀ k, 28 ≤ k → k ≤ 36 → k ≠ 36 → t k (s 27 0) = s2 k (s 27 0) := fun k a b c => (g0 k _ (by omega) (by omega)).trans (e4 k a b c)
  refine ⟨⟨⟨a1.ex (fun i => (g0 24 i (by omega) (by omega)).trans ((e5 24 i (by omega) (by omega)).trans (m11 24 i (by omega) (by omega)))), a2.ex (fun k i z => ?_), hpl, a4, by show t 27 0 ≤ nb + 2 * ((p + 1 : Nat) : Int); push_cast; omega, a6⟩, ⟨?_, ?_⟩, ?_, d1.ag (fun k i u v => (g0 k i (by omega) (by omega)).trans ((e5 k i (by omega) (by omega)).trans (m11 k i (by omega) (by omega))))⟩, ?_, Or.inl ⟨rfl, (g0 46 0 (by omega) (by omega)).trans ((e5 46 0 (by omega) (by omega)).trans ((m11 46 0 (by omega) (by omega)).trans h46))⟩⟩
  · unfold ZR at z
    rw [g0 k i (by omega) (by omega)]
    by_cases w : 28 ≤ k ∧ k ≤ 36
    · exact (k6 k i w.1 w.2 (by omega)).trans ((up_o (by omega)).trans (m11 k i (by omega) (by omega)))
    · exact (e5 k i w (by omega)).trans (m11 k i (by omega) (by omega))
  · show t 41 0 = (((([], .inr none) : OB) :: x :: st : List OB).length : Int)
    simp only [List.length_cons]; push_cast; exact h41
  · show F.length + ((([], .inr none) : OB) :: x :: st : List OB).length ≤ p + 1
    simp only [List.length_cons]; omega
  · show STK t K n0 I (([], .inr none) :: x :: st) (t 27 0) (-1)
    rw [f27]
    refine ⟨s 27 0, -1, -1, s 42 (st.length : Int), -1, s 27 0, ⟨?_, ?_⟩, ⟨by omega, (hnode 28 (by decide) (by decide) (by decide)).trans m2, ?_, (hnode 33 (by decide) (by decide) (by decide)).trans m7, (hnode 31 (by decide) (by decide) (by decide)).trans m5⟩, ⟨rfl, rfl, Int.le_refl _⟩, ⟨by simp, ?_, ?_⟩, rfl, (hnode 34 (by decide) (by decide) (by decide)).trans m8, hx1⟩
    · rw [List.length_cons]; push_cast; exact h42
    · rw [List.length_cons]; push_cast; exact h43
    · rw [g0 36 _ (by omega) (by omega), k2, up_o (by omega), u42]
    · rw [List.length_cons]; push_cast; exact h44
    · rw [List.length_cons]; push_cast
      rw [show (st.length : Int) + 1 - 1 = st.length by omega, g0 42 _ (by omega) (by omega), e5 42 _ (by omega) (by omega), u42]
  · show t 26 0 = ((p + 1 : Nat) : Int)
    push_cast; exact h26
/-- what an expr and what has to be behind it is read for -/
theorem m_readRest {ki tokn closing : Int} {k fr start : Nat} {al : Bool} (h : RSm s0 s K n0 nb (x :: st) I F p) (h46 : s 46 0 = 0) (hal : (if ki = 7 then some 1 else some 0 : Option Int) = some (b01 al)) (hfr : p ≤ fr ∧ fr ≤ K.length) (hc : closing ≠ 24)
    (hkk : (ki ≠ 10 ∧ ∀ v, frm v = fr → kiS k = ki ∧ (tkS k v : Int) = tokn ∧ fiT k v = start) ∨ (ki = 10 ∧ closing = 12 ∧ ∀ v, frm v = fr → frm v - 1 = start ∧ tokn = start))
    (hP : match SYQ K al (sy0 fr) with
      | .inl q => fr ≤ q ∧ q ≤ K.length ∧ p < skS K q
      | .inr y => frm y.1 = fr ∧ fr < y.2 ∧ y.2 ≤ K.length ∧ p < skS K y.2) :
    Ok (M_readRest s ki tokn fr start closing) fun s' => RSM s0 s' K n0 nb (match SYQ K al (sy0 fr) with
      | .inl q => brS K (x :: st) start q I F []
      | .inr y => if kd K y.2 = closing then (if ki = 10 then (([], .inr (some (y.1, none))) :: x :: st, y.2 + 1, I, F, []) else (addS (x :: st) (.pow y.1 k), y.2 + 1, I, F, [])) else brS K (x :: st) start y.2 I F []) := by
  obtain ⟨⟨a1, a2, a3, a4, a5, a6⟩, ⟨b1, b2⟩, c1, d1⟩ := h
  have hl := a1.1
  have lb := STK_lb c1
  rw [List.length_cons] at b1 b2
  push_cast at b1
  unfold M_readRest
  unfold bd1
  dsimp only
  rw [hal, Option.bind_some]
  have hS1 : SeqR (up s 26 0 fr) K := a1.ex (fun i => up_o (by omega))
  have e27 : up s 26 0 (fr : Int) 27 0 = s 27 0 := up_o (by omega)
  refine (m_readExpr (al := al) (p := fr) hS1 hfr.2 up_hit (by omega) (by omega)).bd fun s4 hs => ?_
  rw [e27] at hs
  obtain ⟨⟨r1, r2, r3⟩, r4⟩ := hs
  have g4 : ∀ k i, ¬ ZE (s 27 0) k i → s4 k i = s k i := fun k i z => (r2 k i z).trans (up_o (fun y => z (by unfold ZE; omega)))
  have hF4 : Fmz (ZR n0) s0 s4 := a2.ex (fun k i z => g4 k i (fun y => z (ZR_E lb y)))
  have c4 : STK s4 K n0 I (x :: st) (s 27 0) (-1) := c1.ag (AgS.of (fun k i u1 u2 u3 u4 u5 u6 u7 u8 u9 v w => g4 k i (by unfold ZE; omega)))
  have d4 : ERR s4 F := d1.ag (fun k i u v => g4 k i (by unfold ZE; omega))
  have f41 : s4 41 0 = (st.length : Int) + 1 := (g4 41 0 (by unfold ZE; omega)).trans b1
  have f46 : s4 46 0 = 0 := (g4 46 0 (by unfold ZE; omega)).trans h46
  have brk : ∀ q : Nat, s4 26 0 = q → q ≤ K.length → fr ≤ q → p < skS K q → s4 27 0 ≤ s 27 0 - fr + q → Ok ((M_breakStatement s4 start (s4 26 0)).bind fun s7 => some s7) fun s' => RSM s0 s' K n0 nb (brS K (x :: st) start q I F []) := fun q z1 z2 z3 z4 z5 => by
    have hk := skS_pos z2
    rw [z1]
    refine Ok_bind.mpr ((m_break (p := skS K q) (q := q) ⟨⟨r1, hF4, hk.2.1, a4, by omega, a6⟩, ⟨by rw [List.length_cons]; push_cast; exact f41, by rw [List.length_cons]; omega⟩, ?_, d4⟩ z2 f46 (by omega) (by omega)).imp fun s' hs => Ok_some.mpr hs)
    exact STK_hi c4 r3
  rw [jn_e]
  dsimp only
  cases hr : SYQ K al (sy0 fr) with
  | inl q =>
    rw [hr] at r4 hP
    obtain ⟨q1, q2, q3⟩ := r4
    rw [q1, if_neg (by decide)]
    exact brk q q2 hP.2.1 hP.1 hP.2.2 q3
  | inr y =>
    rw [hr] at r4 hP
    obtain ⟨q1, q2, q3, q4, q5, q6⟩ := r4
    obtain ⟨p1, p2, p3, p4⟩ := hP
    rw [q1, if_pos rfl, q2, rd_24 (by omega) (by omega), Option.bind_some, r1.2 _ (by omega)]
    by_cases hcl : kd K y.2 = closing
    · rw [if_pos hcl]
      dsimp only
      rw [if_pos hcl]
      have hyl := kd_eq hcl hc
      refine (m_make (s := s4) (kind := ki) (tok := tokn) (by omega)).bd fun w hw => ?_
      obtain ⟨n, s5⟩ := w
      obtain ⟨rfl, m1, ⟨m2, m3, m4, m5, m6, m7, m8, m9, m10⟩, m11⟩ := hw
      dsimp only at m1 m2 m3 m4 m5 m6 m7 m8 m9 m10 m11 ⊢
      have h59 : s5 59 0 = s4 59 0 := m11 59 0 (by omega) (by omega)
      simp (disch := omega) only [bd1, Option.bind_some, wr_id', up_o, up_hit, rd_30, wt_30, rd_31, wt_31, h59]
      have nin := NE_in q4 q5
      -- the node as it is laid
      have g6 : ∀ k i, ¬ (k = 27 ∧ i = 0) → ¬ ((28 ≤ k ∧ k ≤ 36) ∧ i = s4 27 0) → up (up s5 30 (s4 27 0) (start : Int)) 31 (s4 27 0) (s4 59 0) k i = s4 k i := fun k i u v => by
        simp (disch := omega) only [up_o]
        exact m11 k i u v
      have n28 : up (up s5 30 (s4 27 0) (start : Int)) 31 (s4 27 0) (s4 59 0) 28 (s4 27 0) = ki := by simp (disch := omega) only [up_o]; exact m2
      have n29 : up (up s5 30 (s4 27 0) (start : Int)) 31 (s4 27 0) (s4 59 0) 29 (s4 27 0) = tokn := by simp (disch := omega) only [up_o]; exact m3
      have n30 : up (up s5 30 (s4 27 0) (start : Int)) 31 (s4 27 0) (s4 59 0) 30 (s4 27 0) = start := by simp (disch := omega) only [up_o, up_hit]
      have n31 : up (up s5 30 (s4 27 0) (start : Int)) 31 (s4 27 0) (s4 59 0) 31 (s4 27 0) = s4 59 0 := up_hit
      have n33 : up (up s5 30 (s4 27 0) (start : Int)) 31 (s4 27 0) (s4 59 0) 33 (s4 27 0) = -1 := by simp (disch := omega) only [up_o]; exact m7
      have n34 : up (up s5 30 (s4 27 0) (start : Int)) 31 (s4 27 0) (s4 59 0) 34 (s4 27 0) = -1 := by simp (disch := omega) only [up_o]; exact m8
      have n27 : up (up s5 30 (s4 27 0) (start : Int)) 31 (s4 27 0) (s4 59 0) 27 0 = s4 27 0 + 1 := by simp (disch := omega) only [up_o]; exact m1
      generalize up (up s5 30 (s4 27 0) (start : Int)) 31 (s4 27 0) (s4 59 0) = s6 at g6 n28 n29 n30 n31 n33 n34 n27 ⊢
      have c6 : STK s6 K n0 I (x :: st) (s 27 0) (-1) := c4.ag (AgS.of (fun k i u1 u2 u3 u4 u5 u6 u7 u8 u9 v w => g6 k i (by omega) (by omega)))
      refine (STK_link c6 a4 ((g6 41 0 (by omega) (by omega)).trans f41) (by omega) (n := s4 27 0) (by omega)).bd fun s7 hs => ?_
      obtain ⟨k1, k2, k3, k4, k5, k6⟩ := hs
      have e42 : s7 42 (st.length : Int) = s6 42 (st.length : Int) := k5 42 _ (by omega) (by omega)
      have h7 : ∀ k, 28 ≤ k → k ≤ 36 → k ≠ 36 → s7 k (s4 27 0) = s6 k (s4 27 0) := fun k a b c => k4 k _ a b (by omega) (by omega)
      have hne : NE s7 K y.1 (s 27 0) (s4 27 0) (s4 59 0) (frm y.1) := (q5.ag (s' := s6) (fun k i a b c d => g6 k i (by omega) (by omega))).ag (fun k i a b c d => k4 k i a b c (by omega))
      have hn34 : s7 34 (s4 59 0) = -1 := (k4 34 _ (by decide) (by decide) (by omega) (by omega)).trans ((g6 34 _ (by omega) (by omega)).trans q6)
      have e36 : s7 36 (s4 27 0) = s7 42 (st.length : Int) := k2.trans e42.symm
      have v26 : s7 26 0 = y.2 := (k5 26 0 (by omega) (by omega)).trans ((g6 26 0 (by omega) (by omega)).trans q2)
      have v27 : s7 27 0 = s4 27 0 + 1 := (k5 27 0 (by omega) (by omega)).trans n27
      have v41 : s7 41 0 = (st.length : Int) + 1 := (k5 41 0 (by omega) (by omega)).trans ((g6 41 0 (by omega) (by omega)).trans f41)
      have g7 : ∀ k i, ¬ (28 ≤ k ∧ k ≤ 36) → ¬ (k = 43 ∧ i = (st.length : Int)) → ¬ (k = 27 ∧ i = 0) → s7 k i = s4 k i := fun k i u v w => (k5 k i u v).trans (g6 k i w (by omega))
      have hF7 : Fmz (ZR n0) s0 s7 := hF4.ex (fun k i z => by
        unfold ZR at z
        by_cases w : 28 ≤ k ∧ k ≤ 36
        · exact (k6 k i w.1 w.2 (by omega)).trans (g6 k i (by omega) (by omega))
        · exact g7 k i w (by omega) (by omega))
      rcases hkk with ⟨hk0, hkk⟩ | ⟨rfl, rfl, hkk⟩
      · obtain ⟨w1, w2, w3⟩ := hkk y.1 p1
        rw [if_neg hk0]
        rw [if_neg hk0]
        rw [Ok_some, v26, wr_id' (by omega) (by omega)]
        have fin := STK_fin (hi' := s4 27 0 + 1) (e := .pow y.1 k) k1 (by omega) rfl rfl ⟨q4, s4 27 0, s4 59 0, by omega, ⟨(h7 28 (by decide) (by decide) (by decide)).trans (n28.trans w1.symm), (h7 29 (by decide) (by decide) (by decide)).trans (n29.trans w2.symm), (h7 30 (by decide) (by decide) (by decide)).trans (n30.trans (by rw [w3])), (h7 31 (by decide) (by decide) (by decide)).trans n31, e36⟩, hne, hn34⟩ ((h7 34 (by decide) (by decide) (by decide)).trans n34)
        have u0 : ∀ k i, ¬ (k = 26 ∧ i = 0) → up s7 26 0 ((y.2 : Int) + 1) k i = s7 k i := fun k i z => up_o z
        have u1 : up s7 26 0 ((y.2 : Int) + 1) 26 0 = (y.2 : Int) + 1 := up_hit
        generalize up s7 26 0 ((y.2 : Int) + 1) = t at u0 u1 ⊢
        have t27 : t 27 0 = s4 27 0 + 1 := (u0 27 0 (by omega)).trans v27
        refine ⟨⟨⟨r1.ex (fun i => (u0 24 i (by omega)).trans (g7 24 i (by omega) (by omega) (by omega))), hF7.ex (fun k i z => u0 k i (fun w => z (by unfold ZR; omega))), hyl, a4, by show t 27 0 ≤ nb + 2 * ((y.2 + 1 : Nat) : Int); push_cast; omega, a6⟩, ⟨?_, ?_⟩, ?_, d4.ag (fun k i u v => (u0 k i (by omega)).trans (g7 k i (by omega) (by omega) (by omega)))⟩, ?_, Or.inl ⟨rfl, (u0 46 0 (by omega)).trans ((g7 46 0 (by omega) (by omega) (by omega)).trans f46)⟩⟩
        · show t 41 0 = (((x.1 ++ [_], x.2) :: st : List OB).length : Int)
          rw [List.length_cons, u0 41 0 (by omega), v41]; push_cast; rfl
        · show F.length + (((x.1 ++ [_], x.2) :: st : List OB)).length ≤ y.2 + 1
          rw [List.length_cons]; omega
        · show STK t K n0 I ((x.1 ++ [_], x.2) :: st) (t 27 0) (-1)
          rw [t27]; exact fin.ag (AgS.of (fun k i u1 u2 u3 u4 u5 u6 u7 u8 u9 v w => u0 k i (by omega)))
        · show t 26 0 = ((y.2 + 1 : Nat) : Int)
          push_cast; exact u1
      · obtain ⟨w1, w2⟩ := hkk y.1 p1
        rw [if_pos rfl]
        rw [if_pos rfl]
        refine Ok_bind.mpr ((m_openB (s := s7) (why := 1) (h := s4 27 0) (tok := s7 26 0) (d := (st.length : Int) + 1) (fld := 32) (oo := s7 42 ((st.length : Int) + 1 - 1)) (by omega) v41 (by omega) (by omega) (by omega) (Or.inr (Or.inl ⟨rfl, rfl, rfl, by omega⟩))).imp fun t ht => Ok_some.mpr ?_)
        rw [v27] at ht
        obtain ⟨t27, ⟨t28, t31, t33, t34, t35, t36⟩, ⟨t42, t43, t44, t45, t41, t26⟩, t32, tg⟩ := ht
        rw [show (st.length : Int) + 1 - 1 = st.length by omega] at t36
        have hx1 : STK t K n0 I (x :: st) (s 27 0) (s4 27 0) := k1.ag (AgS.of (fun k i u1 u2 u3 u4 u5 u6 u7 u8 u9 v w => tg k i (by omega) (by omega) (by rw [List.length_cons] at w; push_cast at w; omega) (by omega)))
        have th : ∀ k, 28 ≤ k → k ≤ 36 → k ≠ 36 → k ≠ 32 → t k (s4 27 0) = s6 k (s4 27 0) := fun k a b c d => (tg k _ (by omega) (by omega) (by omega) (by omega)).trans (h7 k a b c)
        refine ⟨⟨⟨r1.ex (fun i => (tg 24 i (by omega) (by omega) (by omega) (by omega)).trans (g7 24 i (by omega) (by omega) (by omega))), hF7.ex (fun k i z => tg k i (fun w => z ?_) (fun w => z ?_) (fun w => z ?_) (fun w => z ?_)), hyl, a4, by show t 27 0 ≤ nb + 2 * ((y.2 + 1 : Nat) : Int); push_cast; omega, a6⟩, ⟨?_, ?_⟩, ?_, d4.ag (fun k i u v => (tg k i (by omega) (by omega) (by omega) (by omega)).trans (g7 k i (by omega) (by omega) (by omega)))⟩, ?_, Or.inl ⟨rfl, (tg 46 0 (by omega) (by omega) (by omega) (by omega)).trans ((g7 46 0 (by omega) (by omega) (by omega)).trans f46)⟩⟩
        · unfold ZR; omega
        · unfold ZR; omega
        · unfold ZR; omega
        · unfold ZR; omega
        · show t 41 0 = (((([], .inr (some (y.1, none))) : OB) :: x :: st : List OB).length : Int)
          simp only [List.length_cons]; push_cast; exact t41
        · show F.length + ((([], .inr (some (y.1, none))) : OB) :: x :: st : List OB).length ≤ y.2 + 1
          simp only [List.length_cons]; omega
        · show STK t K n0 I (([], .inr (some (y.1, none))) :: x :: st) (t 27 0) (-1)
          rw [t27]
          refine ⟨s4 27 0 + 1, -1, -1, s7 42 (st.length : Int), s4 27 0, s4 27 0 + 1, ⟨?_, ?_⟩, ⟨by omega, t28, t36, t33, t31⟩, ⟨rfl, rfl, Int.le_refl _⟩, ⟨by simp, ?_, ?_⟩, q4, s4 27 0, s 27 0, s4 27 0, s4 59 0, ⟨?_, rfl, Int.le_refl _, by omega⟩, ⟨(th 28 (by decide) (by decide) (by decide) (by decide)).trans n28, (th 29 (by decide) (by decide) (by decide) (by decide)).trans (n29.trans (by rw [w2, w1])), (th 30 (by decide) (by decide) (by decide) (by decide)).trans (n30.trans (by rw [w1])), (th 31 (by decide) (by decide) (by decide) (by decide)).trans n31, ?_⟩, ⟨t32, (th 33 (by decide) (by decide) (by decide) (by decide)).trans n33, (th 34 (by decide) (by decide) (by decide) (by decide)).trans n34⟩, hne.ag (fun k i a b c d => tg k i (by omega) (by omega) (by omega) (by omega)), (tg 34 _ (by omega) (by omega) (by omega) (by omega)).trans hn34, hx1⟩
          · rw [List.length_cons]; push_cast; exact t42
          · rw [List.length_cons]; push_cast; exact t43
          · rw [List.length_cons]; push_cast; exact t44
          · rw [List.length_cons]; push_cast; rw [show (st.length : Int) + 1 - 1 = st.length by omega]; exact (tg 42 _ (by omega) (by omega) (by omega) (by omega)).symm
          · rw [List.length_cons]; push_cast; exact t45
          · exact (tg 36 _ (by omega) (by omega) (by omega) (by omega)).trans e36
        · show t 26 0 = ((y.2 + 1 : Nat) : Int)
          rw [t26, v26]; push_cast; rfl
    · rw [if_neg hcl]
      dsimp only
      rw [if_neg hcl]
      rw [← q2]
      exact brk y.2 q2 p3 (by omega) p4 q3
end Stm
