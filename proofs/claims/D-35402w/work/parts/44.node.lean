/-! N1: nodes of the model; reading an expr -/
set_option maxRecDepth 100000
set_option linter.unusedVariables false
def isX : EX → Bool
  | .var _ => true
  | .add _ _ => true
  | .neg _ => true
  | .sub _ _ => true
  | .pow _ _ => true
  | _ => false
/-- a node and those below it, in an interval of nodes; its first token as it is told -/
def NE (s : MS) (K : List Int) : EX → Int → Int → Int → Int → Prop
  | .var t, lo, hi, n, f => (lo ≤ n ∧ n < hi) ∧ s 28 n = 13 ∧ s 29 n = t ∧ s 30 n = f ∧ s 31 n = -1 ∧ s 32 n = -1
  | .add l r, lo, hi, n, f => (isX l = true ∧ isX r = true) ∧ ∃ m m' a b : Int, (m' ≤ n ∧ n < hi) ∧ (s 28 n = 30 ∧ s 29 n = kd K (frm r - 1) ∧ s 30 n = f ∧ s 31 n = a ∧ s 32 n = b) ∧ NE s K l lo m a (frm l) ∧ NE s K r m m' b (frm r)
  | .neg e, lo, hi, n, f => isX e = true ∧ ∃ m a : Int, (m ≤ n ∧ n < hi) ∧ (s 28 n = 16 ∧ s 29 n = ((frm e - 1 : Nat) : Int) ∧ s 30 n = f ∧ s 31 n = a ∧ s 32 n = -1) ∧ NE s K e lo m a (frm e)
  | .sub e _, lo, hi, n, f => isX e = true ∧ NE s K e lo hi n f
  | .pow a t, lo, hi, n, f => isX a = false ∧ ∃ b : Int, (lo ≤ n ∧ n < hi) ∧ (s 28 n = 14 ∧ s 29 n = t ∧ s 30 n = f ∧ s 31 n = b) ∧ NE s K a (n + 1) hi b 0
  | .mul e r, lo, hi, n, f => (isX e = true ∧ isX r = false) ∧ ∃ m x : Int, m ≤ hi ∧ s 34 n = x ∧ NE s K e lo m n (frm e) ∧ NE s K r m hi x 0
  | .num _, lo, hi, n, f => n = -1
  | _, _, _, _, _ => False
theorem NE_in {s : MS} {K : List Int} : ∀ {e : EX} {lo hi n f : Int}, isX e = true → NE s K e lo hi n f → lo ≤ n ∧ n < hi
  | .var t, lo, hi, n, f, _, h => h.1
  | .add l r, lo, hi, n, f, _, ⟨⟨x1, x2⟩, m, m', a, b, h1, _, h2, h3⟩ => by
    have := NE_in x1 h2
    have := NE_in x2 h3
    omega
  | .neg e, lo, hi, n, f, _, ⟨x1, m, a, h1, _, h2⟩ => by
    have := NE_in x1 h2
    omega
  | .sub e _, lo, hi, n, f, _, ⟨x1, h⟩ => NE_in x1 h
  | .pow a t, lo, hi, n, f, _, ⟨_, b, h, _⟩ => h
/-- nodes are as they were, in an interval -/
def AgN (s s' : MS) (lo hi : Int) : Prop := ∀ k i, 28 ≤ k → k ≤ 36 → lo ≤ i → i < hi → s' k i = s k i
theorem AgN.sub {s s' : MS} {lo hi lo' hi' : Int} (h : AgN s s' lo hi) (h1 : lo ≤ lo') (h2 : hi' ≤ hi) : AgN s s' lo' hi' := fun k i a b c d => h k i a b (by omega) (by omega)
theorem NE.ag {s s' : MS} {K : List Int} : ∀ {e : EX} {lo hi n f : Int}, NE s K e lo hi n f → AgN s s' lo hi → NE s' K e lo hi n f
  | .var t, lo, hi, n, f, ⟨h1, h2, h3, h4, h5, h6⟩, g => ⟨h1, (g 28 n (by decide) (by decide) h1.1 h1.2).trans h2, (g 29 n (by decide) (by decide) h1.1 h1.2).trans h3, (g 30 n (by decide) (by decide) h1.1 h1.2).trans h4, (g 31 n (by decide) (by decide) h1.1 h1.2).trans h5, (g 32 n (by decide) (by decide) h1.1 h1.2).trans h6⟩
  | .add l r, lo, hi, n, f, ⟨⟨x1, x2⟩, m, m', a, b, h1, ⟨h2, h3, h4, h5, h6⟩, h7, h8⟩, g => by
    have i1 := NE_in x1 h7
    have i2 := NE_in x2 h8
    have q : ∀ k, 28 ≤ k → k ≤ 36 → s' k n = s k n := fun k a b => g k n a b (by omega) (by omega)
    exact ⟨⟨x1, x2⟩, m, m', a, b, h1, ⟨(q 28 (by decide) (by decide)).trans h2, (q 29 (by decide) (by decide)).trans h3, (q 30 (by decide) (by decide)).trans h4, (q 31 (by decide) (by decide)).trans h5, (q 32 (by decide) (by decide)).trans h6⟩, h7.ag (g.sub (Int.le_refl _) (by omega)), h8.ag (g.sub (by omega) (by omega))⟩
  | .neg e, lo, hi, n, f, ⟨x1, m, a, h1, ⟨h2, h3, h4, h5, h6⟩, h7⟩, g => by
    have i1 := NE_in x1 h7
    have q : ∀ k, 28 ≤ k → k ≤ 36 → s' k n = s k n := fun k a b => g k n a b (by omega) (by omega)
    exact ⟨x1, m, a, h1, ⟨(q 28 (by decide) (by decide)).trans h2, (q 29 (by decide) (by decide)).trans h3, (q 30 (by decide) (by decide)).trans h4, (q 31 (by decide) (by decide)).trans h5, (q 32 (by decide) (by decide)).trans h6⟩, h7.ag (g.sub (Int.le_refl _) (by omega))⟩
  | .sub e _, lo, hi, n, f, ⟨x1, h⟩, g => ⟨x1, h.ag g⟩
  | .pow a t, lo, hi, n, f, ⟨x1, b, h1, ⟨h2, h3, h4, h5⟩, h6⟩, g => by
    have q : ∀ k, 28 ≤ k → k ≤ 36 → s' k n = s k n := fun k a b => g k n a b h1.1 h1.2
    exact ⟨x1, b, h1, ⟨(q 28 (by decide) (by decide)).trans h2, (q 29 (by decide) (by decide)).trans h3, (q 30 (by decide) (by decide)).trans h4, (q 31 (by decide) (by decide)).trans h5⟩, h6.ag (g.sub (by omega) (Int.le_refl _))⟩
  | .mul e r, lo, hi, n, f, ⟨⟨x1, x2⟩, m, x, h1, h2, h3, h4⟩, g => by
    have i1 := NE_in x1 h3
    exact ⟨⟨x1, x2⟩, m, x, h1, (g 34 n (by decide) (by decide) (by omega) (by omega)).trans h2, h3.ag (g.sub (Int.le_refl _) h1), h4.ag (g.sub (by omega) (Int.le_refl _))⟩
  | .num _, lo, hi, n, f, h, g => h
/-- at the root the first token, and what is next, may be told anew -/
theorem NE.root {s s' : MS} {K : List Int} : ∀ {e : EX} {lo hi n f : Int}, isX e = true → NE s K e lo hi n f → (∀ k i, 28 ≤ k → k ≤ 36 → lo ≤ i → i < hi → (i = n → k ≠ 30 ∧ k ≠ 34) → s' k i = s k i) → NE s' K e lo hi n (s' 30 n)
  | .var t, lo, hi, n, f, _, ⟨h1, h2, h3, h4, h5, h6⟩, g => ⟨h1, (g 28 n (by decide) (by decide) h1.1 h1.2 (fun _ => by decide)).trans h2, (g 29 n (by decide) (by decide) h1.1 h1.2 (fun _ => by decide)).trans h3, rfl, (g 31 n (by decide) (by decide) h1.1 h1.2 (fun _ => by decide)).trans h5, (g 32 n (by decide) (by decide) h1.1 h1.2 (fun _ => by decide)).trans h6⟩
  | .add l r, lo, hi, n, f, _, ⟨⟨x1, x2⟩, m, m', a, b, h1, ⟨h2, h3, h4, h5, h6⟩, h7, h8⟩, g => by
    have i1 := NE_in x1 h7
    have i2 := NE_in x2 h8
    have q : ∀ k, 28 ≤ k → k ≤ 36 → k ≠ 30 ∧ k ≠ 34 → s' k n = s k n := fun k a b c => g k n a b (by omega) (by omega) (fun _ => c)
    have w : AgN s s' lo m' := fun k i a b c d => g k i a b c (by omega) (fun z => by omega)
    exact ⟨⟨x1, x2⟩, m, m', a, b, h1, ⟨(q 28 (by decide) (by decide) (by decide)).trans h2, (q 29 (by decide) (by decide) (by decide)).trans h3, rfl, (q 31 (by decide) (by decide) (by decide)).trans h5, (q 32 (by decide) (by decide) (by decide)).trans h6⟩, h7.ag (w.sub (Int.le_refl _) (by omega)), h8.ag (w.sub (by omega) (by omega))⟩
  | .neg e, lo, hi, n, f, _, ⟨x1, m, a, h1, ⟨h2, h3, h4, h5, h6⟩, h7⟩, g => by
    have i1 := NE_in x1 h7
    have q : ∀ k, 28 ≤ k → k ≤ 36 → k ≠ 30 ∧ k ≠ 34 → s' k n = s k n := fun k a b c => g k n a b (by omega) (by omega) (fun _ => c)
    have w : AgN s s' lo m := fun k i a b c d => g k i a b c (by omega) (fun z => by omega)
    exact ⟨x1, m, a, h1, ⟨(q 28 (by decide) (by decide) (by decide)).trans h2, (q 29 (by decide) (by decide) (by decide)).trans h3, rfl, (q 31 (by decide) (by decide) (by decide)).trans h5, (q 32 (by decide) (by decide) (by decide)).trans h6⟩, h7.ag w⟩
  | .sub e _, lo, hi, n, f, _, ⟨x1, h⟩, g => ⟨x1, NE.root x1 h g⟩
  | .pow a t, lo, hi, n, f, _, ⟨x1, b, h1, ⟨h2, h3, h4, h5⟩, h6⟩, g => by
    have q : ∀ k, 28 ≤ k → k ≤ 36 → k ≠ 30 ∧ k ≠ 34 → s' k n = s k n := fun k a b c => g k n a b h1.1 h1.2 (fun _ => c)
    exact ⟨x1, b, h1, ⟨(q 28 (by decide) (by decide) (by decide)).trans h2, (q 29 (by decide) (by decide) (by decide)).trans h3, rfl, (q 31 (by decide) (by decide) (by decide)).trans h5⟩, h6.ag (fun k i a b c d => g k i a b (by omega) (by omega) (fun z => by omega))⟩
/-- where no first token is told: the interval may grow -/
theorem NE.wk {s : MS} {K : List Int} : ∀ {e : EX} {lo hi lo' hi' n f : Int}, NE s K e lo hi n f → lo' ≤ lo → hi ≤ hi' → NE s K e lo' hi' n f
  | .var t, lo, hi, lo', hi', n, f, ⟨h1, h2⟩, a, b => ⟨by omega, h2⟩
  | .add l r, lo, hi, lo', hi', n, f, ⟨x, m, m', c, d, h1, h2, h3, h4⟩, a, b => ⟨x, m, m', c, d, by omega, h2, h3.wk a (Int.le_refl _), h4⟩
  | .neg e, lo, hi, lo', hi', n, f, ⟨x, m, c, h1, h2, h3⟩, a, b => ⟨x, m, c, by omega, h2, h3.wk a (Int.le_refl _)⟩
  | .sub e _, lo, hi, lo', hi', n, f, ⟨x, h⟩, a, b => ⟨x, h.wk a b⟩
  | .pow c t, lo, hi, lo', hi', n, f, ⟨x, d, h1, h2, h3⟩, a, b => ⟨x, d, by omega, h2, h3.wk (Int.le_refl _) b⟩
  | .mul e r, lo, hi, lo', hi', n, f, ⟨x, m, y, h1, h2, h3, h4⟩, a, b => ⟨x, m, y, by omega, h2, h3.wk a (Int.le_refl _), h4.wk (Int.le_refl _) b⟩
  | .num _, lo, hi, lo', hi', n, f, h, a, b => h
/-! ops -/
def MkP (s s' : MS) (kind tok : Int) : Prop := s' 27 0 = s 27 0 + 1 ∧ (s' 28 (s 27 0) = kind ∧ s' 29 (s 27 0) = tok ∧ s' 30 (s 27 0) = tok ∧ s' 31 (s 27 0) = -1 ∧ s' 32 (s 27 0) = -1 ∧ s' 33 (s 27 0) = -1 ∧ s' 34 (s 27 0) = -1 ∧ s' 35 (s 27 0) = -1 ∧ s' 36 (s 27 0) = -1) ∧ ∀ k i, ¬ (k = 27 ∧ i = 0) → ¬ ((28 ≤ k ∧ k ≤ 36) ∧ i = s 27 0) → s' k i = s k i
theorem m_make {s : MS} {kind tok : Int} (h : 0 ≤ s 27 0 ∧ s 27 0 < 1600) : Ok (M_make s kind tok) fun x => x.1 = s 27 0 ∧ MkP s x.2 kind tok := by
  unfold M_make
  simp (disch := omega) only [bd1, Option.bind_some, wr_id', up_o, up_hit, rd_28, wt_28, rd_29, wt_29, rd_30, wt_30, rd_31, wt_31, rd_32, wt_32, rd_33, wt_33, rd_34, wt_34, rd_35, wt_35, rd_36, wt_36]
  rw [Ok_some]
  refine ⟨rfl, ?_, ?_, fun k i a b => ?_⟩
  · simp (disch := omega) only [up_o, up_hit]
  · simp (disch := omega) only [up_o, up_hit]
    exact ⟨trivial, trivial, trivial, trivial, trivial, trivial, trivial, trivial, trivial⟩
  · simp (disch := omega) only [up_o]
theorem m_rank {s : MS} {k : Int} : M_rank s k = some (rk k : Int) := by
  unfold M_rank rk
  repeat' split
  all_goals first | rfl | (exfalso; omega)
theorem m_pair {s : MS} (hs : 1 ≤ s 51 0 ∧ s 51 0 ≤ 400) (hd : 2 ≤ s 53 0 ∧ s 53 0 ≤ 400) (hn : 0 ≤ s 27 0 ∧ s 27 0 < 1600) (ha : 0 ≤ s 52 (s 53 0 - 2) ∧ s 52 (s 53 0 - 2) < s 27 0) : Ok (M_pair s) fun s' =>
    s' 51 0 = s 51 0 - 1 ∧ s' 53 0 = s 53 0 - 1 ∧ s' 27 0 = s 27 0 + 1 ∧ (s' 28 (s 27 0) = 30 ∧ s' 29 (s 27 0) = s 50 (s 51 0 - 1) ∧ s' 30 (s 27 0) = s 30 (s 52 (s 53 0 - 2)) ∧ s' 31 (s 27 0) = s 52 (s 53 0 - 2) ∧ s' 32 (s 27 0) = s 52 (s 53 0 - 1) ∧ s' 34 (s 27 0) = -1) ∧ s' 52 (s 53 0 - 2) = s 27 0 ∧ ∀ k i, ¬ ((k = 51 ∨ k = 53 ∨ k = 27) ∧ i = 0) → ¬ ((28 ≤ k ∧ k ≤ 36) ∧ i = s 27 0) → ¬ (k = 52 ∧ i = s 53 0 - 2) → s' k i = s k i := by
  unfold M_pair
  simp (disch := omega) only [bd1, Option.bind_some, wr_id', up_o, up_hit, rd_50, wt_50, rd_52, wt_52]
  refine Ok_bind.mpr ((m_make (by simp (disch := omega) only [up_o]; exact hn)).imp ?_)
  rintro ⟨n, s5⟩ ⟨rfl, m1, ⟨m2, m3, m4, m5, m6, m7, m8, m9, m10⟩, m11⟩
  simp (disch := omega) only [up_o, up_hit] at m1 m2 m3 m4 m5 m6 m7 m8 m9 m10 m11
  dsimp only
  have e53 : s5 53 0 = s 53 0 - 1 := by rw [m11 53 0 (by omega) (by omega)]; simp (disch := omega) only [up_o, up_hit]
  have e52 : ∀ i, s5 52 i = s 52 i := fun i => by rw [m11 52 i (by omega) (by omega)]; simp (disch := omega) only [up_o]
  have e30 : s5 30 (s 52 (s 53 0 - 2)) = s 30 (s 52 (s 53 0 - 2)) := by rw [m11 30 _ (by omega) (by omega)]; simp (disch := omega) only [up_o]
  simp (disch := omega) only [bd1, Option.bind_some, wr_id', up_o, up_hit, rd_30, wt_30, rd_31, wt_31, rd_32, wt_32, rd_52, wt_52, e53, e52, e30, show s 53 0 - 1 - 1 = s 53 0 - 2 by omega]
  rw [Ok_some]
  refine ⟨?_, ?_, ?_, ⟨?_, ?_, ?_, ?_, ?_, ?_⟩, ?_, fun k i a b c => ?_⟩
  · simp (disch := omega) only [up_o, m11, up_hit]
  · simp (disch := omega) only [up_o, e53]
  · simp (disch := omega) only [up_o, m1]
  · simp (disch := omega) only [up_o, m2]
  · simp (disch := omega) only [up_o, m3]
  · simp (disch := omega) only [up_o, up_hit]
  · simp (disch := omega) only [up_o, up_hit]
  · simp (disch := omega) only [up_o, up_hit]
  · simp (disch := omega) only [up_o, m8]
  · simp (disch := omega) only [up_o, up_hit]
  · simp (disch := omega) only [up_o]
    rw [m11 k i (by omega) (by omega)]
    simp (disch := omega) only [up_o]
