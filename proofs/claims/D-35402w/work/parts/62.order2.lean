/-! N17: the order in which a function's nodes are laid: statements -/
set_option maxRecDepth 100000
set_option linter.unusedVariables false
theorem kiS_c (k : Nat) : kiS k = 5 ∨ kiS k = 6 ∨ kiS k = 7 ∨ kiS k = 9 := by
  unfold kiS
  repeat' split
  · exact Or.inl rfl
  · exact Or.inr (Or.inl rfl)
  · exact Or.inr (Or.inr (Or.inl rfl))
  · exact Or.inr (Or.inr (Or.inr rfl))
section Lay2
variable {s0 : MS}
theorem oS_len {s : MS} : ∀ {e : EX} {md : Nat} {n : Int}, (oS s e md n).length ≤ zS e
  | .mul e r, md, n => by
    unfold oS
    show _ ≤ zS e + zS r
    split
    · have := oS_len (s := s) (e := e) (md := 0) (n := n)
      have := oS_len (s := s) (e := r) (md := 1) (n := s 34 n)
      rw [List.length_append]; omega
    · have := oS_len (s := s) (e := e) (md := 3) (n := s 32 n)
      have := oS_len (s := s) (e := r) (md := 3) (n := s 33 n)
      rw [List.length_append]; omega
  | .pow v _, md, n => by
    have := oE_len (s := s) (e := v) (n := s 31 n)
    show (oE s v (s 31 n) ++ [n]).length ≤ zE v + 1
    simp only [List.length_append, List.length_cons, List.length_nil]; omega
  | .var _, md, n => Nat.le_refl _
  | .sub l _, md, n => by
    have := oS_len (s := s) (e := l) (md := 1) (n := s 31 n)
    unfold oS
    show _ ≤ zS l + 1
    split
    · omega
    · rw [List.length_cons]; omega
  | .add t bs, md, n => by
    have := oE_len (s := s) (e := t) (n := s 31 n)
    have := oS_len (s := s) (e := bs) (md := 2) (n := n)
    show (oE s t (s 31 n) ++ [n] ++ oS s bs 2 n).length ≤ zE t + zS bs + 1
    simp only [List.length_append, List.length_cons, List.length_nil]; omega
  | .num _, md, n => Nat.le_refl _
  | .natCast _, md, n => Nat.le_refl _
  | .intCast _, md, n => Nat.le_refl _
  | .neg _, md, n => Nat.le_refl _
theorem NS_first {K : List Int} {l : EX} {lo hi a o th : Int} (w : WS l 1) (h : NS s0 K l 1 lo hi a o th) (hb : 0 ≤ lo ∧ hi ≤ 1600) : -1 ≤ a ∧ a < 1600 := by
  cases l with
  | num x => have : a = -1 := h; omega
  | mul e r =>
    unfold NS at h
    rw [if_pos rfl] at h
    unfold WS at w
    rw [if_pos rfl] at w
    obtain ⟨m, x, h1, h2, h3, h4⟩ := h
    have := NS_inS w.1 h3
    omega
  | pow v k => exact absurd w (show ¬ (1 = 0) by decide)
  | var t => exact absurd w (show ¬ (1 = 0) by decide)
  | sub l x => exact absurd w.1 (by decide)
  | add t b => exact absurd w.1 (by decide)
  | neg t => exact w.elim
  | natCast t => exact w.elim
  | intCast t => exact w.elim
/-- the first statement of the second block of an IF -/
def gfi (s : MS) (n : Int) : Int := if s 33 n = -1 then -1 else s 31 (s 33 n)
abbrev LoA (s0 : MS) (K : List Int) (e : EX) : Prop := ∀ {lo hi n o th x : Int} {s : MS} {W : List (Int × Nat)} {L : List Int}, isS e = true → WS e 0 → NS s0 K e 0 lo hi n o th → s0 34 n = x → (-1 ≤ x ∧ x < 1600) → (0 ≤ lo ∧ hi ≤ 1600) → W.length + 4 * zS e < 2990 → L.length + zS e < 1600 → LO s0 s ((n, 0) :: W) L → ∃ s' c, Gos c s s' ∧ c ≤ 5 * zS e ∧ LO s0 s' (psh x 0 W) (L ++ oS s0 e 0 n)
abbrev LoB (s0 : MS) (K : List Int) (e : EX) : Prop := ∀ {lo hi n o : Int} {s : MS} {W : List (Int × Nat)} {L : List Int}, WS e 1 → NS s0 K e 1 lo hi n o (-1) → (0 ≤ lo ∧ hi ≤ 1600) → W.length + 4 * zS e < 2990 → L.length + zS e < 1600 → LO s0 s (psh n 0 W) L → ∃ s' c, Gos c s s' ∧ c ≤ 5 * zS e ∧ LO s0 s' W (L ++ oS s0 e 1 n)
abbrev LoC (s0 : MS) (K : List Int) (e : EX) : Prop := ∀ {lo hi n o th : Int} {s : MS} {W : List (Int × Nat)} {L : List Int}, isS e = true → WS e 0 → NS s0 K e 0 lo hi n o th → (∃ l x, e = .sub l x) → (0 ≤ lo ∧ hi ≤ 1600) → W.length + 4 * zS e < 2990 → L.length + zS e < 1600 → LO s0 s (psh (s0 31 n) 0 W) L → ∃ s' c, Gos c s s' ∧ c ≤ 5 * zS e ∧ LO s0 s' W (L ++ oS s0 e 3 n)
/-- an IF has blocks -/
def isB2 (e : EX) : Prop := ∃ l x g, e = .mul (.sub l x) g ∧ (g = .num 0 ∨ ∃ l' x', g = .sub l' x')
def WB : EX → Prop
  | .mul e r => WB e ∧ WB r
  | .sub l _ => WB l
  | .add _ bs => isB2 bs ∧ WB bs
  | _ => True
theorem lo_S {K : List Int} : ∀ (e : EX), WB e → LoA s0 K e ∧ LoB s0 K e ∧ LoC s0 K e ∧ ∀ {lo hi n o : Int} {s : MS} {W : List (Int × Nat)} {L : List Int}, isB2 e → WS e 2 → NS s0 K e 2 lo hi n o (-1) → (0 ≤ lo ∧ hi ≤ 1600) → W.length + 4 * zS e < 2990 → L.length + zS e < 1600 → LO s0 s (psh (s0 31 (s0 32 n)) 0 (psh (gfi s0 n) 0 W)) L → ∃ s' c, Gos c s s' ∧ c ≤ 5 * zS e ∧ LO s0 s' W (L ++ oS s0 e 2 n) := by
  have nd : ∀ {s : MS} {W : List (Int × Nat)} {L : List Int}, LO s0 s W L → ∀ k i, 28 ≤ k → k ≤ 36 → s k i = s0 k i := fun h k i a b => h.1 k i (by omega)
  -- a statement is taken: what is behind it comes later
  have pre : ∀ {n x : Int} {s : MS} {W : List (Int × Nat)} {L : List Int}, LO s0 s ((n, 0) :: W) L → 0 ≤ n ∧ n < 1600 → s0 34 n = x → (-1 ≤ x ∧ x < 1600) → W.length < 2990 → ∃ s3, LO s0 s3 (psh x 0 W) L ∧ ∀ rec, B_layOrder_16 rec s = (((if s0 28 n = 10 then (rdc s3 33 n).bind fun v15 => (if v15 = (-1) then some (-1) else (rdc s3 33 n).bind fun v23 => (rdc s3 31 v23).bind fun v24 => some v24 : Option Int).bind fun c16 => (M_later s3 c16 0).bind fun s18 => (rdc s18 32 n).bind fun v19 => (rdc s18 31 v19).bind fun v20 => (M_later s18 v20 0).bind fun s21 => some s21 else some s3 : Option MS).bind fun s4 => (if s0 28 n = 3 then (rdc s4 31 n).bind fun v12 => (M_later s4 v12 0).bind fun s13 => some s13 else some s4 : Option MS).bind fun s6 => (M_later s6 n 2).bind fun s8 => if s0 28 n = 3 then some s8 else if s0 28 n = 12 then some s8 else (rdc s8 31 n).bind fun v9 => (M_later s8 v9 1).bind fun s10 => some s10).bind fun s13 => rec s13) := fun {n x s W L} hs hn h34 hx hW => by
    have h8 := lo_pp hs
    obtain ⟨s3, e3, k3⟩ := lo_later (h := 0) h8 (n := x) hx (by decide) (by omega)
    refine ⟨s3, k3, fun rec => ?_⟩
    rw [lo_pop hs hn (by decide) (by omega), if_pos (show ((0 : Nat) : Int) = 0 from rfl)]
    unfold M_openStatement
    rw [rd_28 (by omega) (by omega), Option.bind_some, nd h8 28 n (by decide) (by decide), rd_34 (by omega) (by omega), Option.bind_some, nd h8 34 n (by decide) (by decide), h34, show M_later (pp s W) x 0 = some s3 from e3, Option.bind_some]
  intro e
  induction e with
  | num q =>
    intro _
    refine ⟨fun h => (by cases h), ?_, fun h => (by cases h), fun ⟨l, x, g, h, _⟩ => (by cases h)⟩
    intro lo hi n o s W L w h hb hW hL hs
    have hn : n = -1 := h
    subst hn
    exact ⟨s, 0, fun N => rfl, Nat.zero_le _, by show LO s0 s W (L ++ []); rw [List.append_nil]; exact hs⟩
  | pow v k _ =>
    intro _
    refine ⟨?_, fun h => absurd h (show ¬ (1 = 0) by decide), fun _ _ _ ⟨l, x, h⟩ => (by cases h), fun ⟨l, x, g, h, _⟩ => (by cases h)⟩
    intro lo hi n o th x s W L _ w h h34 hx hb hW hL hs
    obtain ⟨x1, m, a, h1, ⟨h2, h3, h4, h5, h6⟩, h7, h8⟩ := h
    have i1 := NE_in x1 h7
    have hz : zS (Lean.Grind.CommRing.Expr.pow v k) = zE v + 1 := rfl
    obtain ⟨s3, k3, g3⟩ := pre hs (by omega) h34 hx (by omega)
    have pl := psh_len (n := x) (h := 0) (W := W)
    obtain ⟨s4, e4, k4⟩ := lo_later (h := 2) k3 (n := n) (by omega) (by decide) (by omega)
    rw [psh_p (by omega)] at k4
    obtain ⟨s5, e5, k5⟩ := lo_later (h := 1) k4 (n := a) (by omega) (by decide) (by rw [List.length_cons]; omega)
    rw [psh_p (by omega)] at k5
    have hk := kiS_c k
    have q : ∀ rec, B_layOrder_16 rec s = rec s5 := fun rec => by
      rw [g3, h2, if_neg (by omega), Option.bind_some, if_neg (by omega), Option.bind_some, show M_later s3 n 2 = some s4 from e4, Option.bind_some, if_neg (by omega), if_neg (by omega), rd_31 (by omega) (by omega), Option.bind_some, nd k4 31 n (by decide) (by decide), h5, show M_later s4 a 1 = some s5 from e5]
      rfl
    have ll := oE_len (s := s0) (e := v) (n := a)
    obtain ⟨s6, c6, g6, b6, k6⟩ := (lo_E (s := s5) (W := (n, 2) :: psh x 0 W) (L := L) h7 (by omega) (by rw [List.length_cons]; omega) (by omega)).1 x1 k5
    obtain ⟨s7, g7, k7⟩ := lo_2 k6 (by omega) (by omega) (by rw [List.length_append]; omega)
    refine ⟨s7, 1 + c6 + 1, ((Gos.st q).tr g6).tr g7, by omega, ?_⟩
    show LO s0 s7 (psh x 0 W) (L ++ (oE s0 v (s0 31 n) ++ [n]))
    rw [h5, ← List.append_assoc]
    exact k7
  | var t =>
    intro _
    refine ⟨?_, fun h => absurd h (show ¬ (1 = 0) by decide), fun _ _ _ ⟨l, x, h⟩ => (by cases h), fun ⟨l, x, g, h, _⟩ => (by cases h)⟩
    intro lo hi n o th x s W L _ w h h34 hx hb hW hL hs
    obtain ⟨h1, h2, h3⟩ := h
    have hz : zS (Lean.Grind.CommRing.Expr.var t) = 1 := rfl
    obtain ⟨s3, k3, g3⟩ := pre hs (by omega) h34 hx (by omega)
    have pl := psh_len (n := x) (h := 0) (W := W)
    obtain ⟨s4, e4, k4⟩ := lo_later (h := 2) k3 (n := n) (by omega) (by decide) (by omega)
    rw [psh_p (by omega)] at k4
    have q : ∀ rec, B_layOrder_16 rec s = rec s4 := fun rec => by
      rw [g3, h2, if_neg (by decide), Option.bind_some, if_neg (by decide), Option.bind_some, show M_later s3 n 2 = some s4 from e4, Option.bind_some, if_neg (by decide), if_pos rfl]
      rfl
    obtain ⟨s7, g7, k7⟩ := lo_2 k4 (by omega) (by omega) (by omega)
    exact ⟨s7, 1 + 1, (Gos.st q).tr g7, by omega, k7⟩
  | sub l y ihl _ =>
    intro hwb
    obtain ⟨-, ihB, -, -⟩ := ihl hwb
    refine ⟨?_, fun h => absurd h.1 (by decide), ?_, fun ⟨l, x, g, h, _⟩ => (by cases h)⟩
    · intro lo hi n o th x s W L _ w h h34 hx hb hW hL hs
      obtain ⟨h1, ⟨h2, h3, h4, h5⟩, a, h6, h7⟩ := h
      have hz : zS (Lean.Grind.CommRing.Expr.sub l y) = zS l + 1 := rfl
      have ha := NS_first w.2 h7 (by omega)
      obtain ⟨s3, k3, g3⟩ := pre hs (by omega) h34 hx (by omega)
      have pl := psh_len (n := x) (h := 0) (W := W)
      obtain ⟨s4, e4, k4⟩ := lo_later (h := 0) k3 (n := a) ha (by decide) (by omega)
      have pl2 := psh_len (n := a) (h := 0) (W := psh x 0 W)
      obtain ⟨s5, e5, k5⟩ := lo_later (h := 2) k4 (n := n) (by omega) (by decide) (by omega)
      rw [psh_p (by omega)] at k5
      have q : ∀ rec, B_layOrder_16 rec s = rec s5 := fun rec => by
        rw [g3, h2, if_neg (by decide), Option.bind_some, if_pos rfl, rd_31 (by omega) (by omega), Option.bind_some, nd k3 31 n (by decide) (by decide), h6, show M_later s3 a 0 = some s4 from e4, Option.bind_some, Option.bind_some, show M_later s4 n 2 = some s5 from e5, Option.bind_some, if_pos rfl]
        rfl
      obtain ⟨s6, g6, k6⟩ := lo_2 k5 (by omega) (by omega) (by omega)
      obtain ⟨s7, c7, g7, b7, k7⟩ := ihB (L := L ++ [n]) w.2 h7 (by omega) (by omega) (by rw [List.length_append, List.length_singleton]; omega) k6
      refine ⟨s7, 1 + 1 + c7, ((Gos.st q).tr g6).tr g7, by omega, ?_⟩
      show LO s0 s7 (psh x 0 W) (L ++ (if 0 = 3 then oS s0 l 1 (s0 31 n) else n :: oS s0 l 1 (s0 31 n)))
      rw [if_neg (by decide), h6]
      rw [List.append_assoc] at k7
      exact k7
    · intro lo hi n o th s W L _ w h _ hb hW hL hs
      obtain ⟨h1, ⟨h2, h3, h4, h5⟩, a, h6, h7⟩ := h
      have hz : zS (Lean.Grind.CommRing.Expr.sub l y) = zS l + 1 := rfl
      rw [h6] at hs
      obtain ⟨s7, c7, g7, b7, k7⟩ := ihB w.2 h7 (by omega) (by omega) (by omega) hs
      refine ⟨s7, c7, g7, by omega, ?_⟩
      show LO s0 s7 W (L ++ (if 3 = 3 then oS s0 l 1 (s0 31 n) else n :: oS s0 l 1 (s0 31 n)))
      rw [if_pos rfl, h6]
      exact k7
  | add t bs _ ih =>
    intro hwb
    obtain ⟨hb2, hwb'⟩ := hwb
    obtain ⟨-, -, -, ihD⟩ := ih hwb'
    refine ⟨?_, fun h => absurd h.1 (by decide), fun _ _ _ ⟨l, x, h⟩ => (by cases h), fun ⟨l, x, g, h, _⟩ => (by cases h)⟩
    intro lo hi n o th x s W L _ w h h34 hx hb hW hL hs
    obtain ⟨x1, m, a, h1, ⟨h2, h3, h4, h5, h6⟩, h7, h8, h9⟩ := h
    have i1 := NE_in x1 h7
    have hz : zS (Lean.Grind.CommRing.Expr.add t bs) = zE t + zS bs + 1 := rfl
    obtain ⟨s3, k3, g3⟩ := pre hs (by omega) h34 hx (by omega)
    have pl := psh_len (n := x) (h := 0) (W := W)
    -- the blocks
    obtain ⟨b, c, fa, ga, hbl⟩ : ∃ b c fa ga : Int, (s0 32 n = b ∧ s0 33 n = c ∧ s0 31 b = fa ∧ gfi s0 n = ga) ∧ (0 ≤ b ∧ b < 1600) ∧ (-1 ≤ fa ∧ fa < 1600) ∧ (-1 ≤ c ∧ c < 1600) ∧ (-1 ≤ ga ∧ ga < 1600) := by
      obtain ⟨l, y, g, rfl, hg⟩ := hb2
      have w2 := w.2
      unfold NS at h9
      unfold WS at w2
      rw [if_neg (by decide)] at h9 w2
      obtain ⟨m', b, c, z1, ⟨z2, z3⟩, z4, z5⟩ := h9
      obtain ⟨-, -, w3, w4⟩ := w2
      obtain ⟨y1, ⟨y2, y3, y4, y5⟩, fa, y6, y7⟩ := z4
      have hfa := NS_first w3.2 y7 (by omega)
      refine ⟨b, c, fa, gfi s0 n, ⟨z2, z3, y6, rfl⟩, by omega, hfa, ?_⟩
      unfold gfi
      rw [z3]
      rcases hg with rfl | ⟨l', y', rfl⟩
      · have : c = -1 := z5
        rw [if_pos this]; omega
      · obtain ⟨u1, ⟨u2, u3, u4, u5⟩, ga, u6, u7⟩ := z5
        have hga := NS_first w4.2 u7 (by omega)
        rw [if_neg (by omega), u6]; omega
    obtain ⟨⟨hb1, hb3, hb4, hb5⟩, hbb, hfa, hcc, hga⟩ := hbl
    obtain ⟨s4, e4, k4⟩ := lo_later (h := 0) k3 (n := ga) hga (by decide) (by omega)
    have pl2 := psh_len (n := ga) (h := 0) (W := psh x 0 W)
    obtain ⟨s5, e5, k5⟩ := lo_later (h := 0) k4 (n := fa) hfa (by decide) (by omega)
    have pl3 := psh_len (n := fa) (h := 0) (W := psh ga 0 (psh x 0 W))
    obtain ⟨s6, e6, k6⟩ := lo_later (h := 2) k5 (n := n) (by omega) (by decide) (by omega)
    rw [psh_p (by omega)] at k6
    obtain ⟨s7, e7, k7⟩ := lo_later (h := 1) k6 (n := a) (by omega) (by decide) (by rw [List.length_cons]; omega)
    rw [psh_p (by omega)] at k7
    have q : ∀ rec, B_layOrder_16 rec s = rec s7 := fun rec => by
      have ec : (if c = (-1) then some (-1) else (rdc s3 33 n).bind fun v23 => (rdc s3 31 v23).bind fun v24 => some v24 : Option Int) = some ga := by
        by_cases z : c = -1
        · rw [if_pos z, ← hb5]; unfold gfi; rw [hb3, if_pos z]
        · rw [if_neg z, rd_33 (by omega) (by omega), Option.bind_some, nd k3 33 n (by decide) (by decide), hb3, rd_31 (by omega) (by omega), Option.bind_some, nd k3 31 c (by decide) (by decide), ← hb5]
          unfold gfi; rw [hb3, if_neg z]
      rw [g3, h2, if_pos rfl, rd_33 (by omega) (by omega), Option.bind_some, nd k3 33 n (by decide) (by decide), hb3]
      rw [rd_33 (by omega) (by omega), nd k3 33 n (by decide) (by decide), hb3] at ec
      rw [ec, Option.bind_some, show M_later s3 ga 0 = some s4 from e4, Option.bind_some, rd_32 (by omega) (by omega), Option.bind_some, nd k4 32 n (by decide) (by decide), hb1, rd_31 (by omega) (by omega), Option.bind_some, nd k4 31 b (by decide) (by decide), hb4, show M_later s4 fa 0 = some s5 from e5, Option.bind_some, Option.bind_some, if_neg (by decide), Option.bind_some, show M_later s5 n 2 = some s6 from e6, Option.bind_some, if_neg (by decide), if_neg (by decide), rd_31 (by omega) (by omega), Option.bind_some, nd k6 31 n (by decide) (by decide), h5, show M_later s6 a 1 = some s7 from e7]
      rfl
    have ll := oE_len (s := s0) (e := t) (n := a)
    obtain ⟨s8, c8, g8, b8, k8⟩ := (lo_E (s := s7) (W := (n, 2) :: psh fa 0 (psh ga 0 (psh x 0 W))) (L := L) h7 (by omega) (by rw [List.length_cons]; omega) (by omega)).1 x1 k7
    obtain ⟨s9, g9, k9⟩ := lo_2 k8 (by omega) (by omega) (by rw [List.length_append]; omega)
    rw [← hb4, ← hb1, ← hb5] at k9
    obtain ⟨s10, c10, g10, b10, k10⟩ := ihD hb2 w.2 h9 (by omega) (by omega) (by simp only [List.length_append, List.length_cons, List.length_nil]; omega) k9
    refine ⟨s10, 1 + c8 + 1 + c10, (((Gos.st q).tr g8).tr g9).tr g10, by omega, ?_⟩
    show LO s0 s10 (psh x 0 W) (L ++ (oE s0 t (s0 31 n) ++ [n] ++ oS s0 bs 2 n))
    rw [h5, ← List.append_assoc, ← List.append_assoc]
    exact k10
  | mul e r ihe ihr =>
    intro hwb
    obtain ⟨ihA, -, ihC, -⟩ := ihe hwb.1
    obtain ⟨-, ihB, ihC', -⟩ := ihr hwb.2
    have hz : zS (Lean.Grind.CommRing.Expr.mul e r) = zS e + zS r := rfl
    refine ⟨fun h => (by cases h), ?_, fun h => (by cases h), ?_⟩
    · intro lo hi n o s W L w h hb hW hL hs
      unfold NS at h
      rw [if_pos rfl] at h
      unfold WS at w
      rw [if_pos rfl] at w
      obtain ⟨m, x, h1, h2, h3, h4⟩ := h
      have i1 := NS_inS w.1 h3
      have hx := NS_first w.2.2 h4 (by omega)
      rw [psh_p (by omega)] at hs
      have ll := oS_len (s := s0) (e := e) (md := 0) (n := n)
      obtain ⟨s4, c4, g4, b4, k4⟩ := ihA w.1 w.2.1 h3 h2 hx (by omega) (by omega) (by omega) hs
      obtain ⟨s5, c5, g5, b5, k5⟩ := ihB w.2.2 h4 (by omega) (by omega) (by rw [List.length_append]; omega) k4
      refine ⟨s5, c4 + c5, g4.tr g5, by omega, ?_⟩
      show LO s0 s5 W (L ++ (if 1 = 1 then oS s0 e 0 n ++ oS s0 r 1 (s0 34 n) else _))
      rw [if_pos rfl, h2, ← List.append_assoc]
      exact k5
    · intro lo hi n o s W L ⟨l, y, g, hm, hg⟩ w h hb hW hL hs
      cases hm
      unfold NS at h
      unfold WS at w
      rw [if_neg (by decide)] at h w
      obtain ⟨m, b, c, h1, ⟨h2, h3⟩, h4, h5⟩ := h
      obtain ⟨-, w1, w2, w3⟩ := w
      rw [h2] at hs
      have pl := psh_len (n := gfi s0 n) (h := 0) (W := W)
      have ll := oS_len (s := s0) (e := Lean.Grind.CommRing.Expr.sub l y) (md := 3) (n := b)
      obtain ⟨s4, c4, g4, b4, k4⟩ := ihC w1 w2 h4 ⟨l, y, rfl⟩ (by omega) (by
        have : zS (Lean.Grind.CommRing.Expr.sub l y) = zS l + 1 := rfl
        rcases hg with rfl | ⟨l', y', rfl⟩
        · have : c = -1 := h5
          have e1 : gfi s0 n = -1 := by unfold gfi; rw [h3, if_pos this]
          have e2 : psh (gfi s0 n) 0 W = W := by unfold psh; rw [if_pos e1]
          rw [e2]; omega
        · have : zS (Lean.Grind.CommRing.Expr.sub l' y') = zS l' + 1 := rfl
          omega) (by omega) hs
      rcases hg with rfl | ⟨l', y', rfl⟩
      · have hc : c = -1 := h5
        have e1 : gfi s0 n = -1 := by unfold gfi; rw [h3, if_pos hc]
        have e2 : psh (gfi s0 n) 0 W = W := by unfold psh; rw [if_pos e1]
        rw [e2] at k4
        refine ⟨s4, c4, g4, by omega, ?_⟩
        show LO s0 s4 W (L ++ (if 2 = 1 then _ else oS s0 (.sub l y) 3 (s0 32 n) ++ oS s0 (.num 0) 3 (s0 33 n)))
        rw [if_neg (by decide), h2]
        show LO s0 s4 W (L ++ (oS s0 (.sub l y) 3 b ++ []))
        rw [List.append_nil]
        exact k4
      · have e1 : gfi s0 n = s0 31 c := by
          have := NS_inS (e := Lean.Grind.CommRing.Expr.sub l' y') rfl h5
          unfold gfi; rw [h3, if_neg (by omega)]
        rw [e1] at k4
        obtain ⟨s5, c5, g5, b5, k5⟩ := ihC' rfl w3 h5 ⟨l', y', rfl⟩ (by omega) (by omega) (by rw [List.length_append]; omega) k4
        refine ⟨s5, c4 + c5, g4.tr g5, by omega, ?_⟩
        show LO s0 s5 W (L ++ (if 2 = 1 then _ else oS s0 (.sub l y) 3 (s0 32 n) ++ oS s0 (.sub l' y') 3 (s0 33 n)))
        rw [if_neg (by decide), h2, h3, ← List.append_assoc]
        exact k5
  | neg t _ => intro _; exact ⟨fun h => (by cases h), fun h => h.elim, fun h => (by cases h), fun ⟨l, x, g, h, _⟩ => (by cases h)⟩
  | natCast t => intro _; exact ⟨fun h => (by cases h), fun h => h.elim, fun h => (by cases h), fun ⟨l, x, g, h, _⟩ => (by cases h)⟩
  | intCast t => intro _; exact ⟨fun h => (by cases h), fun h => h.elim, fun h => (by cases h), fun ⟨l, x, g, h, _⟩ => (by cases h)⟩
end Lay2
