/-! N16: the order in which a function's nodes are laid -/
set_option maxRecDepth 100000
set_option linter.unusedVariables false
def oE (s : MS) : EX → Int → List Int
  | .var _, n => [n]
  | .add l r, n => oE s l (s 31 n) ++ oE s r (s 32 n) ++ [n]
  | .neg e, n => oE s e (s 31 n) ++ [n]
  | .sub e _, n => oE s e n
  | .pow a _, n => oE s a (s 31 n) ++ [n]
  | .mul e r, n => oE s e n ++ oE s r (s 34 n)
  | _, _ => []
/-- md 3: a block without its own node -/
def oS (s : MS) : EX → Nat → Int → List Int
  | .mul e r, md, n => if md = 1 then oS s e 0 n ++ oS s r 1 (s 34 n) else oS s e 3 (s 32 n) ++ oS s r 3 (s 33 n)
  | .pow v _, md, n => oE s v (s 31 n) ++ [n]
  | .var _, md, n => [n]
  | .sub l _, md, n => if md = 3 then oS s l 1 (s 31 n) else n :: oS s l 1 (s 31 n)
  | .add t bs, md, n => oE s t (s 31 n) ++ [n] ++ oS s bs 2 n
  | _, _, _ => []
def zE : EX → Nat
  | .var _ => 1
  | .add l r => zE l + zE r + 1
  | .neg e => zE e + 1
  | .sub e _ => zE e
  | .pow a _ => zE a + 1
  | .mul e r => zE e + zE r + 1
  | _ => 0
def zS : EX → Nat
  | .mul e r => zS e + zS r
  | .pow v _ => zE v + 1
  | .var _ => 1
  | .sub l _ => zS l + 1
  | .add t bs => zE t + zS bs + 1
  | _ => 0
def STW (s : MS) : List (Int × Nat) → Prop
  | [] => True
  | x :: W => s 72 (W.length : Int) = 4 * x.1 + x.2 ∧ STW s W
theorem STW.ag {s s' : MS} : ∀ {W : List (Int × Nat)}, STW s W → (∀ i : Int, i < W.length → s' 72 i = s 72 i) → STW s' W
  | [], h, g => trivial
  | x :: W, ⟨h1, h2⟩, g => ⟨(g _ (by rw [List.length_cons]; omega)).trans h1, h2.ag (fun i hi => g i (by rw [List.length_cons]; omega))⟩
/-- the work that is left, and what is laid -/
def LO (s0 s : MS) (W : List (Int × Nat)) (L : List Int) : Prop := Fmz (fun k _ => 70 ≤ k ∧ k ≤ 73) s0 s ∧ (s 73 0 = (W.length : Int) ∧ STW s W) ∧ s 71 0 = (L.length : Int) ∧ ∀ (i : Nat) (n : Int), L[i]? = some n → s 70 i = n
def psh (n : Int) (h : Nat) (W : List (Int × Nat)) : List (Int × Nat) := if n = -1 then W else (n, h) :: W
section Lay
variable {s0 s : MS} {W : List (Int × Nat)} {L : List Int} {n : Int} {h : Nat}
theorem lo_later (hs : LO s0 s W L) (hn : -1 ≤ n ∧ n < 1600) (hh : h < 4) (hW : W.length < 3100) : ∃ s', M_later s n h = some s' ∧ LO s0 s' (psh n h W) L := by
  obtain ⟨h1, ⟨h2, h3⟩, h4, h5⟩ := hs
  unfold M_later psh
  by_cases q : n = -1
  · rw [if_pos q, if_pos q]; exact ⟨s, rfl, h1, ⟨h2, h3⟩, h4, h5⟩
  · rw [if_neg q, if_neg q]
    simp (disch := omega) only [bd1, Option.bind_some, wr_id', up_o, up_hit, rd_72, wt_72, h2]
    refine ⟨_, rfl, fun k i z => ?_, ⟨?_, ?_, ?_⟩, ?_, fun i m hm => ?_⟩
    · simp (disch := omega) only [up_o]; exact h1 k i z
    · rw [up_hit, List.length_cons]; push_cast; rfl
    · simp (disch := omega) only [up_o, up_hit]
    · exact h3.ag (fun i hi => by simp (disch := omega) only [up_o])
    · simp (disch := omega) only [up_o]; exact h4
    · simp (disch := omega) only [up_o]; exact h5 i m hm
/-- the entry on top is taken -/
def pp (s : MS) (W : List (Int × Nat)) : MS := up s 73 0 (W.length : Int)
theorem lo_pp (hs : LO s0 s ((n, h) :: W) L) : LO s0 (pp s W) W L := by
  obtain ⟨h1, ⟨h2, h3, h3'⟩, h4, h5⟩ := hs
  exact ⟨fun k i z => (up_o (by omega)).trans (h1 k i z), ⟨up_hit, h3'.ag (fun i hi => up_o (by omega))⟩, (up_o (by omega)).trans h4, fun i m hm => (up_o (by omega)).trans (h5 i m hm)⟩
theorem lo_pop {rec : MS → Option MS} (hs : LO s0 s ((n, h) :: W) L) (hn : 0 ≤ n ∧ n < 1600) (hh : h < 4) (hW : W.length < 3100) : B_layOrder_16 rec s = (if (h : Int) = 0 then (M_openStatement (pp s W) n).bind fun s13 => rec s13 else if (h : Int) = 1 then (M_openExpr (pp s W) n).bind fun s14 => rec s14 else if (h : Int) = 3 then (rdc (pp s W) 34 n).bind fun v15 => (M_later (pp s W) v15 3).bind fun s16 => (M_later s16 n 1).bind fun s17 => rec s17 else (wrc (pp s W) 70 ((pp s W) 71 0) n).bind fun s18 => bd1 (up s18 71 0 (wr ((s18 71 0) + 1))) fun s19 => rec s19) := by
  obtain ⟨h1, ⟨h2, h3, h3'⟩, h4, h5⟩ := hs
  rw [List.length_cons] at h2
  push_cast at h2
  unfold B_layOrder_16
  rw [if_pos (show 0 < s 73 0 by omega), h2, wr_id' (by omega) (by omega), show (W.length : Int) + 1 - 1 = W.length by omega]
  have e72 : pp s W 72 (W.length : Int) = 4 * n + h := (up_o (by omega)).trans h3
  have e73 : pp s W 73 0 = W.length := up_hit
  show bd1 (pp s W) _ = _
  generalize pp s W = t at e72 e73 ⊢
  unfold bd1
  dsimp only
  rw [e73, rd_72 (by omega) (by omega), Option.bind_some, e72]
  unfold dvc rmc
  rw [if_pos (show 0 ≤ 4 * n + (h : Int) ∧ (0 : Int) < 4 by omega), Option.bind_some, Option.bind_some, if_pos (show 0 ≤ 4 * n + (h : Int) ∧ (0 : Int) < 4 by omega), Option.bind_some]
  rw [show (4 * n + (h : Int)) / 4 = n by omega, show (4 * n + (h : Int)) % 4 = h by omega]
/-- some rounds -/
def Gos (c : Nat) (s s' : MS) : Prop := ∀ N, lp B_layOrder_16 (N + c) s = lp B_layOrder_16 N s'
theorem Gos.tr {a b c : MS} {m k : Nat} (h1 : Gos m a b) (h2 : Gos k b c) : Gos (m + k) a c := fun N => by rw [show N + (m + k) = (N + k) + m by omega, h1, h2]
theorem Gos.st {a b : MS} (h : ∀ rec, B_layOrder_16 rec a = rec b) : Gos 1 a b := fun N => h _
/-- a node is laid -/
theorem lo_2 (hs : LO s0 s ((n, 2) :: W) L) (hn : 0 ≤ n ∧ n < 1600) (hW : W.length < 3100) (hL : L.length < 1600) : ∃ s', Gos 1 s s' ∧ LO s0 s' W (L ++ [n]) := by
  have hp := fun rec => lo_pop (rec := rec) hs hn (by decide) hW
  have h8 := lo_pp hs
  generalize pp s W = s8 at hp h8
  obtain ⟨h1, h2, h4, h5⟩ := h8
  have hq : ∀ rec, B_layOrder_16 rec s = rec (up (up s8 70 (L.length : Int) n) 71 0 ((L.length : Int) + 1)) := fun rec => by
    rw [hp, if_neg (by decide), if_neg (by decide), if_neg (by decide)]
    simp (disch := omega) only [bd1, Option.bind_some, wr_id', up_o, up_hit, rd_70, wt_70, h4]
  refine ⟨_, Gos.st hq, fun k i z => ?_, ⟨?_, ?_⟩, ?_, fun i m hm => ?_⟩
  · simp (disch := omega) only [up_o]; exact h1 k i z
  · simp (disch := omega) only [up_o]; exact h2.1
  · exact h2.2.ag (fun i hi => by simp (disch := omega) only [up_o])
  · rw [up_hit, List.length_append]; push_cast; rfl
  · by_cases q : i < L.length
    · rw [List.getElem?_append_left q] at hm
      simp (disch := omega) only [up_o]; exact h5 i m hm
    · have hi := (List.getElem?_eq_some_iff.mp hm).1
      rw [List.length_append, List.length_singleton] at hi
      have : i = L.length := by omega
      subst this
      rw [List.getElem?_append_right (Nat.le_refl _), Nat.sub_self] at hm
      cases hm
      simp (disch := omega) only [up_o, up_hit]
theorem psh_len : (psh n h W).length ≤ W.length + 1 := by
  unfold psh; split
  · exact Nat.le_succ _
  · exact Nat.le_refl _
theorem psh_p (q : n ≠ -1) : psh n h W = (n, h) :: W := if_neg q
theorem oE_len : ∀ {e : EX} {n : Int}, (oE s e n).length ≤ zE e
  | .var _, n => Nat.le_refl _
  | .add l r, n => by
    have := oE_len (e := l) (n := s 31 n)
    have := oE_len (e := r) (n := s 32 n)
    show (oE s l (s 31 n) ++ oE s r (s 32 n) ++ [n]).length ≤ zE l + zE r + 1
    simp only [List.length_append, List.length_cons, List.length_nil]; omega
  | .neg e, n => by
    have := oE_len (e := e) (n := s 31 n)
    show (oE s e (s 31 n) ++ [n]).length ≤ zE e + 1
    simp only [List.length_append, List.length_cons, List.length_nil]; omega
  | .sub e _, n => oE_len (e := e)
  | .pow a _, n => by
    have := oE_len (e := a) (n := s 31 n)
    show (oE s a (s 31 n) ++ [n]).length ≤ zE a + 1
    simp only [List.length_append, List.length_cons, List.length_nil]; omega
  | .mul e r, n => by
    have := oE_len (e := e) (n := n)
    have := oE_len (e := r) (n := s 34 n)
    show (oE s e n ++ oE s r (s 34 n)).length ≤ zE e + zE r + 1
    simp only [List.length_append]; omega
  | .num _, n => Nat.le_refl _
  | .natCast _, n => Nat.le_refl _
  | .intCast _, n => Nat.le_refl _
/-- an expr; what a call is given -/
theorem lo_E {K : List Int} : ∀ {e : EX} {lo hi n f : Int} {s : MS} {W : List (Int × Nat)} {L : List Int}, NE s0 K e lo hi n f → (0 ≤ lo ∧ hi ≤ 1600) → W.length + 3 * zE e < 3000 → L.length + zE e < 1600 →
    (isX e = true → LO s0 s ((n, 1) :: W) L → ∃ s' c, Gos c s s' ∧ c ≤ 4 * zE e ∧ LO s0 s' W (L ++ oE s0 e n)) ∧ (isX e = false → LO s0 s (psh n 3 W) L → ∃ s' c, Gos c s s' ∧ c ≤ 4 * zE e ∧ LO s0 s' W (L ++ oE s0 e n)) := by
  intro e
  have pre : ∀ {lo hi n f : Int} {s : MS} {W : List (Int × Nat)} {L : List Int}, LO s0 s ((n, 1) :: W) L → 0 ≤ n ∧ n < 1600 → W.length < 2999 → ∃ s1, LO s0 s1 ((n, 2) :: W) L ∧ ∀ rec, B_layOrder_16 rec s = ((rdc s1 28 n).bind fun v2 => if v2 = 14 then (rdc s1 31 n).bind fun v3 => (M_later s1 v3 3).bind fun s4 => some s4 else (rdc s1 32 n).bind fun v5 => (M_later s1 v5 1).bind fun s6 => (rdc s6 31 n).bind fun v7 => (M_later s6 v7 1).bind fun s8 => some s8 : Option MS).bind fun s14 => rec s14 := fun {lo hi n f s W L} hs hn hW => by
    have h8 := lo_pp hs
    obtain ⟨s1, e1, h1⟩ := lo_later (h := 2) h8 (n := n) (by omega) (by decide) (by omega)
    rw [psh_p (by omega)] at h1
    refine ⟨s1, h1, fun rec => ?_⟩
    rw [lo_pop hs hn (by decide) (by omega), if_neg (by decide), if_pos (show ((1 : Nat) : Int) = 1 from rfl)]
    unfold M_openExpr
    rw [show M_later (pp s W) n 2 = some s1 from e1, Option.bind_some]
  have nd : ∀ {s : MS} {W : List (Int × Nat)} {L : List Int}, LO s0 s W L → ∀ k i, 28 ≤ k → k ≤ 36 → s k i = s0 k i := fun h k i a b => h.1 k i (by omega)
  induction e with
  | var t =>
    intro lo hi n f s W L hN hb hW hL
    obtain ⟨h1, h2, h3, h4, h5, h6⟩ := hN
    refine ⟨fun _ hs => ?_, fun q => (by cases q)⟩
    have hz : zE (Lean.Grind.CommRing.Expr.var t) = 1 := rfl
    obtain ⟨s1, g1, g2⟩ := pre (lo := lo) (hi := hi) (f := f) hs (by omega) (by omega)
    have q : ∀ rec, B_layOrder_16 rec s = rec s1 := fun rec => by
      rw [g2, rd_28 (by omega) (by omega), Option.bind_some, nd g1 28 n (by decide) (by decide), h2, if_neg (by decide), rd_32 (by omega) (by omega), Option.bind_some, nd g1 32 n (by decide) (by decide), h6]
      rw [show M_later s1 (-1) 1 = some s1 from if_pos rfl, Option.bind_some, rd_31 (by omega) (by omega), Option.bind_some, nd g1 31 n (by decide) (by decide), h5, show M_later s1 (-1) 1 = some s1 from if_pos rfl]
      rfl
    obtain ⟨s2, g3, g4⟩ := lo_2 g1 (by omega) (by omega) (by omega)
    exact ⟨s2, 2, (Gos.st q).tr g3, by omega, g4⟩
  | add l r ihl ihr =>
    intro lo hi n f s W L hN hb hW hL
    obtain ⟨⟨x1, x2⟩, m, m', a, b, h1, ⟨h2, h3, h4, h5, h6⟩, h7, h8⟩ := hN
    have i1 := NE_in x1 h7
    have i2 := NE_in x2 h8
    have hz : zE (Lean.Grind.CommRing.Expr.add l r) = zE l + zE r + 1 := rfl
    refine ⟨fun _ hs => ?_, fun q => (by cases q)⟩
    obtain ⟨s1, g1, g2⟩ := pre (lo := lo) (hi := hi) (f := f) hs (by omega) (by omega)
    obtain ⟨s2, e2, k2⟩ := lo_later (h := 1) g1 (n := b) (by omega) (by decide) (by rw [List.length_cons]; omega)
    rw [psh_p (by omega)] at k2
    obtain ⟨s3, e3, k3⟩ := lo_later (h := 1) k2 (n := a) (by omega) (by decide) (by rw [List.length_cons, List.length_cons]; omega)
    rw [psh_p (by omega)] at k3
    have q : ∀ rec, B_layOrder_16 rec s = rec s3 := fun rec => by
      rw [g2, rd_28 (by omega) (by omega), Option.bind_some, nd g1 28 n (by decide) (by decide), h2, if_neg (by decide), rd_32 (by omega) (by omega), Option.bind_some, nd g1 32 n (by decide) (by decide), h6]
      rw [show M_later s1 b 1 = some s2 from e2, Option.bind_some, rd_31 (by omega) (by omega), Option.bind_some, nd k2 31 n (by decide) (by decide), h5, show M_later s2 a 1 = some s3 from e3]
      rfl
    obtain ⟨s4, c4, g4, b4, k4⟩ := (ihl (s := s3) (W := (b, 1) :: (n, 2) :: W) (L := L) h7 (by omega) (by rw [List.length_cons, List.length_cons]; omega) (by omega)).1 x1 k3
    have ll := oE_len (s := s0) (e := l) (n := a)
    have lr := oE_len (s := s0) (e := r) (n := b)
    obtain ⟨s5, c5, g5, b5, k5⟩ := (ihr (s := s4) (W := (n, 2) :: W) (L := L ++ oE s0 l a) h8 (by omega) (by rw [List.length_cons]; omega) (by rw [List.length_append]; omega)).1 x2 k4
    obtain ⟨s6, g6, k6⟩ := lo_2 k5 (by omega) (by omega) (by simp only [List.length_append]; omega)
    refine ⟨s6, 1 + c4 + c5 + 1, (((Gos.st q).tr g4).tr g5).tr g6, by omega, ?_⟩
    show LO s0 s6 W (L ++ (oE s0 l (s0 31 n) ++ oE s0 r (s0 32 n) ++ [n]))
    rw [h5, h6, ← List.append_assoc, ← List.append_assoc]
    exact k6
  | neg e ih =>
    intro lo hi n f s W L hN hb hW hL
    obtain ⟨x1, m, a, h1, ⟨h2, h3, h4, h5, h6⟩, h7⟩ := hN
    have i1 := NE_in x1 h7
    have hz : zE (Lean.Grind.CommRing.Expr.neg e) = zE e + 1 := rfl
    refine ⟨fun _ hs => ?_, fun q => (by cases q)⟩
    obtain ⟨s1, g1, g2⟩ := pre (lo := lo) (hi := hi) (f := f) hs (by omega) (by omega)
    obtain ⟨s3, e3, k3⟩ := lo_later (h := 1) g1 (n := a) (by omega) (by decide) (by rw [List.length_cons]; omega)
    rw [psh_p (by omega)] at k3
    have q : ∀ rec, B_layOrder_16 rec s = rec s3 := fun rec => by
      rw [g2, rd_28 (by omega) (by omega), Option.bind_some, nd g1 28 n (by decide) (by decide), h2, if_neg (by decide), rd_32 (by omega) (by omega), Option.bind_some, nd g1 32 n (by decide) (by decide), h6]
      rw [show M_later s1 (-1) 1 = some s1 from if_pos rfl, Option.bind_some, rd_31 (by omega) (by omega), Option.bind_some, nd g1 31 n (by decide) (by decide), h5, show M_later s1 a 1 = some s3 from e3]
      rfl
    have ll := oE_len (s := s0) (e := e) (n := a)
    obtain ⟨s4, c4, g4, b4, k4⟩ := (ih (s := s3) (W := (n, 2) :: W) (L := L) h7 (by omega) (by rw [List.length_cons]; omega) (by omega)).1 x1 k3
    obtain ⟨s6, g6, k6⟩ := lo_2 k4 (by omega) (by omega) (by simp only [List.length_append]; omega)
    refine ⟨s6, 1 + c4 + 1, ((Gos.st q).tr g4).tr g6, by omega, ?_⟩
    show LO s0 s6 W (L ++ (oE s0 e (s0 31 n) ++ [n]))
    rw [h5, ← List.append_assoc]
    exact k6
  | sub e x ih _ =>
    intro lo hi n f s W L hN hb hW hL
    obtain ⟨x1, h⟩ := hN
    exact ⟨fun _ hs => (ih (s := s) (W := W) (L := L) h hb hW hL).1 x1 hs, fun q => (by cases q)⟩
  | pow a t ih =>
    intro lo hi n f s W L hN hb hW hL
    obtain ⟨x1, b, h1, ⟨h2, h3, h4, h5⟩, h7⟩ := hN
    have hz : zE (Lean.Grind.CommRing.Expr.pow a t) = zE a + 1 := rfl
    refine ⟨fun _ hs => ?_, fun q => (by cases q)⟩
    obtain ⟨s1, g1, g2⟩ := pre (lo := lo) (hi := hi) (f := f) hs (by omega) (by omega)
    have hb' : -1 ≤ b ∧ b < 1600 := by
      cases a with
      | mul e r => obtain ⟨⟨y1, y2⟩, m, x, z1, z2, z3, z4⟩ := h7; have := NE_in y1 z3; omega
      | num q => have : b = -1 := h7; omega
      | var q => cases x1
      | add q r => cases x1
      | neg q => cases x1
      | sub q r => cases x1
      | pow q r => cases x1
      | natCast q => exact h7.elim
      | intCast q => exact h7.elim
    obtain ⟨s3, e3, k3⟩ := lo_later (h := 3) g1 (n := b) hb' (by decide) (by rw [List.length_cons]; omega)
    have q : ∀ rec, B_layOrder_16 rec s = rec s3 := fun rec => by
      rw [g2, rd_28 (by omega) (by omega), Option.bind_some, nd g1 28 n (by decide) (by decide), h2, if_pos rfl, rd_31 (by omega) (by omega), Option.bind_some, nd g1 31 n (by decide) (by decide), h5, show M_later s1 b 3 = some s3 from e3]
      rfl
    have ll := oE_len (s := s0) (e := a) (n := b)
    obtain ⟨s4, c4, g4, b4, k4⟩ := (ih (s := s3) (W := (n, 2) :: W) (L := L) h7 (by omega) (by rw [List.length_cons]; omega) (by omega)).2 x1 k3
    obtain ⟨s6, g6, k6⟩ := lo_2 k4 (by omega) (by omega) (by simp only [List.length_append]; omega)
    refine ⟨s6, 1 + c4 + 1, ((Gos.st q).tr g4).tr g6, by omega, ?_⟩
    show LO s0 s6 W (L ++ (oE s0 a (s0 31 n) ++ [n]))
    rw [h5, ← List.append_assoc]
    exact k6
  | mul e r ihe ihr =>
    intro lo hi n f s W L hN hb hW hL
    obtain ⟨⟨x1, x2⟩, m, x, h1, h2, h3, h4⟩ := hN
    have i1 := NE_in x1 h3
    have hz : zE (Lean.Grind.CommRing.Expr.mul e r) = zE e + zE r + 1 := rfl
    refine ⟨fun q => (by cases q), fun _ hs => ?_⟩
    rw [psh_p (by omega)] at hs
    have hx : -1 ≤ x ∧ x < 1600 := by
      cases r with
      | mul e r => obtain ⟨⟨y1, y2⟩, m, x, z1, z2, z3, z4⟩ := h4; have := NE_in y1 z3; omega
      | num q => have : x = -1 := h4; omega
      | var q => cases x2
      | add q r => cases x2
      | neg q => cases x2
      | sub q r => cases x2
      | pow q r => cases x2
      | natCast q => exact h4.elim
      | intCast q => exact h4.elim
    have h8 := lo_pp hs
    obtain ⟨s1, e1, k1⟩ := lo_later (h := 3) h8 (n := x) hx (by decide) (by omega)
    have pl := psh_len (n := x) (h := 3) (W := W)
    obtain ⟨s2, e2, k2⟩ := lo_later (h := 1) k1 (n := n) (by omega) (by decide) (by omega)
    rw [psh_p (by omega)] at k2
    have q : ∀ rec, B_layOrder_16 rec s = rec s2 := fun rec => by
      rw [lo_pop hs (by omega) (by decide) (by omega), if_neg (by decide), if_neg (by decide), if_pos (show ((3 : Nat) : Int) = 3 from rfl), rd_34 (by omega) (by omega), Option.bind_some, nd h8 34 n (by decide) (by decide), h2, show M_later (pp s W) x 3 = some s1 from e1, Option.bind_some, show M_later s1 n 1 = some s2 from e2, Option.bind_some]
    have ll := oE_len (s := s0) (e := e) (n := n)
    obtain ⟨s4, c4, g4, b4, k4⟩ := (ihe (s := s2) (W := psh x 3 W) (L := L) h3 (by omega) (by omega) (by omega)).1 x1 k2
    obtain ⟨s5, c5, g5, b5, k5⟩ := (ihr (s := s4) (W := W) (L := L ++ oE s0 e n) h4 (by omega) (by omega) (by rw [List.length_append]; omega)).2 x2 k4
    refine ⟨s5, 1 + c4 + c5, ((Gos.st q).tr g4).tr g5, by omega, ?_⟩
    show LO s0 s5 W (L ++ (oE s0 e n ++ oE s0 r (s0 34 n)))
    rw [h2, ← List.append_assoc]
    exact k5
  | num x =>
    intro lo hi n f s W L hN hb hW hL
    have hn : n = -1 := hN
    subst hn
    refine ⟨fun q => (by cases q), fun _ hs => ⟨s, 0, fun N => rfl, Nat.zero_le _, ?_⟩⟩
    show LO s0 s W (L ++ [])
    rw [List.append_nil]
    exact hs
  | natCast x => intro lo hi n f s W L hN; exact hN.elim
  | intCast x => intro lo hi n f s W L hN; exact hN.elim
end Lay
