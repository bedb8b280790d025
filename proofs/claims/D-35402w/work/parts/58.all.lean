/-! N15: the model reads all files -/
set_option maxRecDepth 100000
set_option linter.unusedVariables false
/-- errors as they are kept for a file -/
def ErF (s : MS) (f : Nat) (F : List Flt) : Prop := s 65 f = (F.length : Int) ∧ ∀ (j : Nat) (x : Flt), F[j]? = some x → s 66 (200 * (f : Int) + j) = x.1 ∧ s 67 (200 * (f : Int) + j) = x.2.1 ∧ s 68 (200 * (f : Int) + j) = toM x
def trF (T : TxT) (f : Nat) : TR := rdT (ksF T f)
/-- the trees of the first files -/
def RdF (s : MS) (T : TxT) (f : Nat) : Prop := (∃ lo hi z : Int, (0 ≤ lo ∧ hi ≤ s 27 0) ∧ IL s (ksF T f) (trF T f).1 lo hi (s 64 f) z (-1)) ∧ ErF s f (trF T f).2.1 ∧ (trF T f).2.1.length ≤ 192
def RdA (s : MS) (T : TxT) : Prop := (0 ≤ s 27 0 ∧ s 27 0 ≤ 1152) ∧ ∀ f : Nat, f < 3 → RdF s T f
theorem m_errs {s : MS} {f : Nat} {F : List Flt} (hf : f < 3) (h : ERR s F) (hl : F.length ≤ 192) : Ok (lp (B_readAll_63 f) FU (0, s)) fun s' => (∀ (j : Nat) (x : Flt), F[j]? = some x → s' 66 (200 * (f : Int) + j) = x.1 ∧ s' 67 (200 * (f : Int) + j) = x.2.1 ∧ s' 68 (200 * (f : Int) + j) = toM x) ∧ ∀ k i, ¬ ((66 ≤ k ∧ k ≤ 68) ∧ 200 * (f : Int) ≤ i ∧ i < 200 * (f : Int) + 200) → s' k i = s k i := by
  refine lp_ok (F := B_readAll_63 f) (μ := fun a => ((F.length : Int) - a.1).toNat) (I := fun a => ∃ n : Nat, a.1 = n ∧ n ≤ F.length ∧ (∀ (j : Nat) (x : Flt), j < n → F[j]? = some x → a.2 66 (200 * (f : Int) + j) = x.1 ∧ a.2 67 (200 * (f : Int) + j) = x.2.1 ∧ a.2 68 (200 * (f : Int) + j) = toM x) ∧ ∀ k i, ¬ ((66 ≤ k ∧ k ≤ 68) ∧ 200 * (f : Int) ≤ i ∧ i < 200 * (f : Int) + 200) → a.2 k i = s k i) (P := fun _ s' => (∀ (j : Nat) (x : Flt), F[j]? = some x → s' 66 (200 * (f : Int) + j) = x.1 ∧ s' 67 (200 * (f : Int) + j) = x.2.1 ∧ s' 68 (200 * (f : Int) + j) = toM x) ∧ ∀ k i, ¬ ((66 ≤ k ∧ k ≤ 68) ∧ 200 * (f : Int) ≤ i ∧ i < 200 * (f : Int) + 200) → s' k i = s k i) (fun rec a hI ih => ?_) FU (0, s) ⟨0, rfl, Nat.zero_le _, fun j x h => absurd h (Nat.not_lt_zero _), fun _ _ _ => rfl⟩ (FU_lt (by dsimp only; omega))
  obtain ⟨y, s1⟩ := a
  obtain ⟨n, rfl, hn, h1, h2⟩ := hI
  dsimp only at h1 h2
  unfold B_readAll_63
  dsimp only
  have e37 : s1 37 0 = (F.length : Int) := (h2 37 0 (by omega)).trans h.1
  rw [e37]
  by_cases q : (n : Int) < F.length
  · rw [if_pos q]
    obtain ⟨x, hx⟩ : ∃ x, F[n]? = some x := ⟨_, List.getElem?_eq_getElem (by omega)⟩
    obtain ⟨x1, x2, x3⟩ := h.2 n x hx
    have e38 : s1 38 (n : Int) = x.1 := (h2 38 _ (by omega)).trans x1
    have e39 : s1 39 (n : Int) = x.2.1 := (h2 39 _ (by omega)).trans x2
    have e40 : s1 40 (n : Int) = toM x := (h2 40 _ (by omega)).trans x3
    simp (disch := omega) only [bd1, Option.bind_some, wr_id', up_o, up_hit, rd_38, wt_38, rd_39, wt_39, rd_40, wt_40, rd_66, wt_66, rd_67, wt_67, rd_68, wt_68, e38, e39, e40]
    refine ih _ ⟨n + 1, by push_cast; rfl, by omega, fun j z hj hz => ?_, fun k i w => ?_⟩ (by dsimp only; omega)
    · dsimp only
      by_cases w : j = n
      · subst w
        rw [hx] at hz; cases hz
        simp (disch := omega) only [up_o, up_hit]
        exact ⟨trivial, trivial, trivial⟩
      · simp (disch := omega) only [up_o]
        exact h1 j z (by omega) hz
    · simp (disch := omega) only [up_o]
      exact h2 k i w
  · rw [if_neg q, Ok_some]
    have : n = F.length := by omega
    subst this
    exact ⟨fun j x hx => h1 j x (List.getElem?_eq_some_iff.mp hx).1 hx, h2⟩
theorem RdF.ag {s s' : MS} {T : TxT} {f : Nat} {n : Int} (h : RdF s T f) (hn : s 27 0 ≤ n) (hn' : n ≤ s' 27 0) (g : ∀ k i, 28 ≤ k → k ≤ 36 → 0 ≤ i → i < s 27 0 → s' k i = s k i) (g2 : s' 64 f = s 64 f ∧ s' 65 f = s 65 f) (g3 : ∀ (k : Nat) (i : Int), 66 ≤ k → k ≤ 68 → 200 * (f : Int) ≤ i → i < 200 * (f : Int) + 200 → s' k i = s k i) : RdF s' T f := by
  obtain ⟨⟨lo, hi, z, h1, h2⟩, ⟨h3, h4⟩, h5⟩ := h
  refine ⟨⟨lo, hi, z, by omega, by rw [g2.1]; exact h2.ag (fun k i a b c d => g k i a b (by omega) (by omega))⟩, ⟨g2.2.trans h3, fun j x hx => ?_⟩, h5⟩
  have hj := (List.getElem?_eq_some_iff.mp hx).1
  obtain ⟨a, b, c⟩ := h4 j x hx
  exact ⟨(g3 66 _ (by decide) (by decide) (by omega) (by omega)).trans a, (g3 67 _ (by decide) (by decide) (by omega) (by omega)).trans b, (g3 68 _ (by decide) (by decide) (by omega) (by omega)).trans c⟩
theorem m_readAll {s : MS} {T : TxT} (hT : TxR s T) : Ok (M_readAll s) fun s' => TxR s' T ∧ LexA s' T ∧ RdA s' T ∧ Fmz (fun k _ => 16 ≤ k ∧ k ≤ 69) s s' := by
  unfold M_readAll
  refine (m_lexAll hT).bd fun s1 hs => ?_
  obtain ⟨hL1, hf1⟩ := hs
  unfold bd1
  dsimp only
  have hTo := hT.ok
  have hT1 : TxR s1 T := hT.fm hf1 (fun i z => by unfold ZA at z; omega) (fun i z => by unfold ZA at z; omega)
  have lxm : ∀ (a b : MS), LexA a T → (∀ k i, 16 ≤ k → k ≤ 22 → b k i = a k i) → LexA b T := fun a b h g f hf => (h f hf).fm (Z := fun k _ => ¬ (16 ≤ k ∧ k ≤ 22)) hTo hf (fun k i z => by have z' := Decidable.not_not.mp z; exact g k i z'.1 z'.2) (fun k i z z2 z3 => by
    rcases z with (⟨⟨z, _⟩, _⟩ | ⟨z, _⟩) | z | ⟨z, _⟩ | ⟨z, _⟩ <;> omega)
  have u27 : ∀ k i, k ≠ 27 → up s1 27 0 0 k i = s1 k i := fun k i h => up_o (by omega)
  have lp := lp_ok (F := B_readAll_11) (μ := fun a => ((3 : Int) - a.1).toNat) (I := fun a => ∃ n : Nat, a.1 = n ∧ n ≤ 3 ∧ TxR a.2 T ∧ LexA a.2 T ∧ (0 ≤ a.2 27 0 ∧ a.2 27 0 ≤ 384 * (n : Int)) ∧ (∀ f : Nat, f < n → RdF a.2 T f) ∧ Fmz (fun k _ => 16 ≤ k ∧ k ≤ 69) s a.2) (P := fun _ s' => TxR s' T ∧ LexA s' T ∧ RdA s' T ∧ Fmz (fun k _ => 16 ≤ k ∧ k ≤ 69) s s') (fun rec a hI ih => ?_) FU (0, up s1 27 0 0) ⟨0, rfl, Nat.zero_le _, fun r hr => (hT1 r hr).same (fun i => u27 0 i (by decide)) (fun i => u27 1 i (by decide)), lxm _ _ hL1 (fun k i a b => u27 k i (by omega)), (by show 0 ≤ up s1 27 0 0 27 0 ∧ up s1 27 0 0 27 0 ≤ 384 * ((0 : Nat) : Int); rw [up_hit]; decide), fun f h => absurd h (Nat.not_lt_zero _), fun k i z => (u27 k i (by omega)).trans (hf1 k i (fun y => z (by unfold ZA at y; omega)))⟩ (FU_lt (by dsimp only; omega))
  · refine lp.bd fun s5 hs => ?_
    obtain ⟨h1, h2, ⟨h3, h4⟩, h5⟩ := hs
    rw [wt_69 (by decide) (by decide), Option.bind_some, Ok_some]
    have e27 : up s5 69 3 (s5 27 0) 27 0 = s5 27 0 := up_o (by omega)
    refine ⟨fun r hr => (h1 r hr).same (fun i => up_o (by omega)) (fun i => up_o (by omega)), lxm _ _ h2 (fun k i a b => up_o (by omega)), ⟨by rw [e27]; exact h3, fun f hf => (h4 f hf).ag (n := s5 27 0) (Int.le_refl _) (by rw [e27]; exact Int.le_refl _) (fun k i a b c d => up_o (by omega)) ⟨up_o (by omega), up_o (by omega)⟩ (fun k i a b c d => up_o (by omega))⟩, fun k i z => (up_o (by omega)).trans (h5 k i z)⟩
  · obtain ⟨y, s2⟩ := a
    obtain ⟨n, rfl, hn, h1, h2, h3, h4, h5⟩ := hI
    dsimp only at h1 h2 h3 h4 h5
    unfold B_readAll_11
    dsimp only
    by_cases q : (n : Int) < 3
    · rw [if_pos q]
      have hn3 : n < 3 := by omega
      have hlen := tkF_len hTo hn3
      have e20 : ∀ v, up s2 69 (n : Int) v 20 (n : Int) = (tkF T n).length := fun v => (up_o (by omega)).trans (h2 n hn3).1.1
      rw [wt_69 (by omega) (by omega), Option.bind_some, rd_20 (by omega) (by omega), Option.bind_some, e20]
      have hL : LexF (up s2 69 (n : Int) (s2 27 0)) T n := lxm _ _ h2 (fun k i a b => up_o (by omega)) n hn3
      refine (m_laySeq hTo hn3 hL (m := (tkF T n).length) (Nat.le_refl _)).bd fun s3 hs => ?_
      obtain ⟨g1, g2⟩ := hs
      rw [← ksF_len, List.take_length] at g1
      have e27 : s3 27 0 = s2 27 0 := (g2 27 0 (by omega)).trans (up_o (by omega))
      have hKl : (ksF T n).length ≤ 192 := by rw [ksF_len]; exact hlen
      refine (m_read g1 (by omega) (by omega)).bd fun s4 hs => ?_
      obtain ⟨⟨r1, r2, r3, r4⟩, ⟨z, r5⟩, ⟨r6, r7⟩, -⟩ := hs
      simp (disch := omega) only [bd1, Option.bind_some, wr_id', up_o, up_hit, rd_64, wt_64, rd_65, wt_65]
      have hE : ERR (up (up s4 64 (n : Int) (s4 48 0)) 65 (n : Int) (s4 37 0)) (rdT (ksF T n)).2.1 := r6.ag (fun k i a b => by simp (disch := omega) only [up_o])
      refine (m_errs hn3 hE (by omega)).bd fun s5 hs => ?_
      obtain ⟨w1, w2⟩ := hs
      have gg : ∀ k i, ¬ (k = 24 ∨ k = 25 ∨ k = 69) → ¬ ZR (s2 27 0) k i → ¬ ((k = 64 ∨ k = 65) ∧ i = (n : Int)) → ¬ ((66 ≤ k ∧ k ≤ 68) ∧ 200 * (n : Int) ≤ i ∧ i < 200 * (n : Int) + 200) → s5 k i = s2 k i := fun k i a b c d => by
        rw [w2 k i d]
        simp (disch := omega) only [up_o]
        rw [r2 k i (by rw [e27]; exact b), g2 k i (by omega)]
        exact up_o (by omega)
      have s27 : s5 27 0 = s4 27 0 := (w2 27 0 (by omega)).trans (by simp (disch := omega) only [up_o])
      refine ih _ ⟨n + 1, by push_cast; rfl, by omega, fun r hr => (h1 r hr).same (fun i => gg 0 i (by omega) (by unfold ZR; omega) (by omega) (by omega)) (fun i => gg 1 i (by omega) (by unfold ZR; omega) (by omega) (by omega)), lxm _ _ h2 (fun k i a b => gg k i (by omega) (by unfold ZR; omega) (by omega) (by omega)), ?_, fun f hf => ?_, fun k i z => (gg k i (by omega) (by unfold ZR; omega) (by omega) (by omega)).trans (h5 k i z)⟩ (by dsimp only; omega)
      · dsimp only; rw [s27]; push_cast; omega
      · by_cases z1 : f = n
        · subst z1
          refine ⟨⟨s2 27 0, s4 27 0, z, ⟨by omega, by dsimp only; omega⟩, ?_⟩, ⟨?_, w1⟩, Nat.le_trans r7 hKl⟩
          · have e64 : s5 64 (f : Int) = s4 48 0 := (w2 64 _ (by omega)).trans (by simp (disch := omega) only [up_o, up_hit])
            dsimp only
            rw [e64]
            rw [e27] at r5
            exact r5.ag (fun k i a b c d => (w2 k i (by omega)).trans (by simp (disch := omega) only [up_o]))
          · exact ((w2 65 _ (by omega)).trans (up_hit)).trans r6.1
        · refine (h4 f (by omega)).ag (n := s2 27 0) (Int.le_refl _) (by dsimp only; omega) (fun k i a b c d => gg k i (by omega) (by unfold ZR; omega) (by omega) (by omega)) ⟨gg 64 _ (by omega) (by unfold ZR; omega) (by omega) (by omega), gg 65 _ (by omega) (by unfold ZR; omega) (by omega) (by omega)⟩ (fun k i a b c d => gg k i (by omega) (by unfold ZR; omega) (by omega) (by omega))
    · rw [if_neg q, Ok_some]
      have : n = 3 := by omega
      subst this
      exact ⟨h1, h2, ⟨by omega, h4⟩, h5⟩
