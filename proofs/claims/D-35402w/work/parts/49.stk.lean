/-! N6: statements and items of the model, blocks that are being read -/
set_option maxRecDepth 100000
set_option linter.unusedVariables false
def kiS (k : Nat) : Int := if k = 0 then 5 else if k = 1 then 6 else if k = 2 then 7 else 9
def tkS (k : Nat) (v : EX) : Nat := if k = 0 then frm v - 2 else if k = 1 then frm v - 2 else if k = 2 then frm v else frm v - 1
def fiT (k : Nat) (v : EX) : Nat := if k = 0 then frm v - 3 else tkS k v
/-- the } of a block, by what is told of it -/
def ebl (x : EX) : Int := match x with
  | .natCast l => if l % 2 = 1 then (l / 2 : Nat) - 1 else -1
  | _ => -1
/-- md 1: a statement and those behind it; 2: the blocks of an IF -/
def NS (s : MS) (K : List Int) : EX → Nat → Int → Int → Int → Int → Int → Prop
  | .num _, md, lo, hi, n, o, th => n = -1
  | .mul e r, md, lo, hi, n, o, th => if md = 1 then (∃ m x : Int, m ≤ hi ∧ s 34 n = x ∧ NS s K e 0 lo m n o (-1) ∧ NS s K r 1 m hi x o (-1)) else ∃ m b c : Int, (lo ≤ m ∧ m ≤ hi) ∧ (s 32 n = b ∧ s 33 n = c) ∧ NS s K e 0 lo m b o n ∧ NS s K r 0 m hi c o n
  | .pow v k, md, lo, hi, n, o, th => isX v = true ∧ ∃ m a : Int, (m ≤ n ∧ n < hi) ∧ (s 28 n = kiS k ∧ s 29 n = tkS k v ∧ s 30 n = fiT k v ∧ s 31 n = a ∧ s 36 n = o) ∧ NE s K v lo m a (frm v) ∧ s 34 a = -1
  | .var t, md, lo, hi, n, o, th => (lo ≤ n ∧ n < hi) ∧ s 28 n = 12 ∧ s 36 n = o
  | .sub l x, md, lo, hi, n, o, th => (lo ≤ n ∧ n < hi) ∧ (s 28 n = 3 ∧ s 36 n = o ∧ s 33 n = th ∧ s 35 n = ebl x) ∧ ∃ a : Int, s 31 n = a ∧ NS s K l 1 (n + 1) hi a n (-1)
  | .add t bs, md, lo, hi, n, o, th => isX t = true ∧ ∃ m a : Int, (m ≤ n ∧ n < hi) ∧ (s 28 n = 10 ∧ s 29 n = ((frm t - 1 : Nat) : Int) ∧ s 30 n = ((frm t - 1 : Nat) : Int) ∧ s 31 n = a ∧ s 36 n = o) ∧ NE s K t lo m a (frm t) ∧ s 34 a = -1 ∧ NS s K bs 2 (n + 1) hi n o (-1)
  | _, _, _, _, _, _, _ => False
/-- the root lies in the interval -/
theorem NS_in {s : MS} {K : List Int} {e : EX} {lo hi n o th : Int} (h : NS s K e 0 lo hi n o th) : (∃ t, e = .num t ∧ n = -1) ∨ (isMul e = true) ∨ (lo ≤ n ∧ n < hi) := by
  cases e with
  | num t => exact Or.inl ⟨t, rfl, h⟩
  | mul a b => exact Or.inr (Or.inl rfl)
  | pow v k =>
    obtain ⟨x, m, a, h1, h2, h3, h4⟩ := h
    have := NE_in x h3
    exact Or.inr (Or.inr (by omega))
  | var t => exact Or.inr (Or.inr h.1)
  | sub l x => exact Or.inr (Or.inr h.1)
  | add t b =>
    obtain ⟨x, m, a, h1, h2, h3, h4⟩ := h
    have := NE_in x h3
    exact Or.inr (Or.inr (by omega))
  | neg a => exact h.elim
  | natCast a => exact h.elim
  | intCast a => exact h.elim
/-- a statement that is one -/
def isS : EX → Bool
  | .pow _ _ => true
  | .var _ => true
  | .sub _ _ => true
  | .add _ _ => true
  | _ => false
theorem NS_inS {s : MS} {K : List Int} {e : EX} {lo hi n o th : Int} (x : isS e = true) (h : NS s K e 0 lo hi n o th) : lo ≤ n ∧ n < hi := by
  rcases NS_in h with ⟨t, rfl, _⟩ | q | q
  · cases x
  · cases e <;> first | cases x; done | cases q
  · exact q
/-- what a tree of statements is made of -/
def WS : EX → Nat → Prop
  | .num _, md => md = 1 ∨ md = 0
  | .mul e r, md => if md = 1 then isS e = true ∧ WS e 0 ∧ WS r 1 else md = 2 ∧ isS e = true ∧ WS e 0 ∧ WS r 0
  | .pow _ _, md => md = 0
  | .var _, md => md = 0
  | .sub l _, md => md = 0 ∧ WS l 1
  | .add _ bs, md => md = 0 ∧ WS bs 2
  | _, _ => False
theorem NS.ag {s s' : MS} {K : List Int} : ∀ {e : EX} {md : Nat} {lo hi n o th : Int}, WS e md → NS s K e md lo hi n o th → (md = 2 → lo - 1 ≤ n ∧ n < hi ∧ s' 32 n = s 32 n ∧ s' 33 n = s 33 n) → AgN s s' lo hi → NS s' K e md lo hi n o th
  | .num _, md, lo, hi, n, o, th, w, h, q, g => h
  | .mul e r, md, lo, hi, n, o, th, w, h, q, g => by
    unfold NS at h ⊢
    unfold WS at w
    by_cases z : md = 1
    · rw [if_pos z] at h w ⊢
      obtain ⟨m, x, h1, h2, h3, h4⟩ := h
      obtain ⟨w1, w2, w3⟩ := w
      have i1 := NS_inS w1 h3
      exact ⟨m, x, h1, (g 34 n (by decide) (by decide) (by omega) (by omega)).trans h2, h3.ag w2 (fun z => absurd z (by decide)) (g.sub (Int.le_refl _) h1), h4.ag w3 (fun z => absurd z (by decide)) (g.sub (by omega) (Int.le_refl _))⟩
    · rw [if_neg z] at h w ⊢
      obtain ⟨w0, w1, w2, w3⟩ := w
      obtain ⟨q1, q2, q3, q4⟩ := q w0
      obtain ⟨m, b, c, h1, ⟨h2, h2'⟩, h3, h4⟩ := h
      exact ⟨m, b, c, h1, ⟨q3.trans h2, q4.trans h2'⟩, h3.ag w2 (fun z => absurd z (by decide)) (g.sub (Int.le_refl _) h1.2), h4.ag w3 (fun z => absurd z (by decide)) (g.sub h1.1 (Int.le_refl _))⟩
  | .pow v k, md, lo, hi, n, o, th, w, ⟨x, m, a, h1, ⟨h2, h3, h4, h5, h6⟩, h7, h8⟩, q, g => by
    have i1 := NE_in x h7
    have q : ∀ k, 28 ≤ k → k ≤ 36 → s' k n = s k n := fun k a b => g k n a b (by omega) (by omega)
    exact ⟨x, m, a, h1, ⟨(q 28 (by decide) (by decide)).trans h2, (q 29 (by decide) (by decide)).trans h3, (q 30 (by decide) (by decide)).trans h4, (q 31 (by decide) (by decide)).trans h5, (q 36 (by decide) (by decide)).trans h6⟩, h7.ag (g.sub (Int.le_refl _) (by omega)), (g 34 a (by decide) (by decide) (by omega) (by omega)).trans h8⟩
  | .var t, md, lo, hi, n, o, th, w, ⟨h1, h2, h3⟩, q, g => ⟨h1, (g 28 n (by decide) (by decide) h1.1 h1.2).trans h2, (g 36 n (by decide) (by decide) h1.1 h1.2).trans h3⟩
  | .sub l x, md, lo, hi, n, o, th, w, ⟨h1, ⟨h2, h3, h4, h5⟩, a, h6, h7⟩, q, g => by
    have q : ∀ k, 28 ≤ k → k ≤ 36 → s' k n = s k n := fun k a b => g k n a b (by omega) (by omega)
    exact ⟨h1, ⟨(q 28 (by decide) (by decide)).trans h2, (q 36 (by decide) (by decide)).trans h3, (q 33 (by decide) (by decide)).trans h4, (q 35 (by decide) (by decide)).trans h5⟩, a, (q 31 (by decide) (by decide)).trans h6, h7.ag w.2 (fun z => absurd z (by decide)) (g.sub (by omega) (Int.le_refl _))⟩
  | .add t bs, md, lo, hi, n, o, th, w, ⟨x, m, a, h1, ⟨h2, h3, h4, h5, h6⟩, h7, h8, h9⟩, q, g => by
    have i1 := NE_in x h7
    have q : ∀ k, 28 ≤ k → k ≤ 36 → s' k n = s k n := fun k a b => g k n a b (by omega) (by omega)
    exact ⟨x, m, a, h1, ⟨(q 28 (by decide) (by decide)).trans h2, (q 29 (by decide) (by decide)).trans h3, (q 30 (by decide) (by decide)).trans h4, (q 31 (by decide) (by decide)).trans h5, (q 36 (by decide) (by decide)).trans h6⟩, h7.ag (g.sub (Int.le_refl _) (by omega)), (g 34 a (by decide) (by decide) (by omega) (by omega)).trans h8, h9.ag w.2 (fun _ => ⟨by omega, h1.2, q 32 (by decide) (by decide), q 33 (by decide) (by decide)⟩) (g.sub (by omega) (Int.le_refl _))⟩
theorem NS.wk {s : MS} {K : List Int} : ∀ {e : EX} {md : Nat} {lo hi lo' hi' n o th : Int}, WS e md → NS s K e md lo hi n o th → lo' ≤ lo → hi ≤ hi' → NS s K e md lo' hi' n o th
  | .num _, md, lo, hi, lo', hi', n, o, th, w, h, a, b => h
  | .mul e r, md, lo, hi, lo', hi', n, o, th, w, h, a, b => by
    unfold NS at h ⊢
    unfold WS at w
    by_cases z : md = 1
    · rw [if_pos z] at h w ⊢
      obtain ⟨m, x, h1, h2, h3, h4⟩ := h
      exact ⟨m, x, by omega, h2, h3.wk w.2.1 a (Int.le_refl _), h4.wk w.2.2 (Int.le_refl _) b⟩
    · rw [if_neg z] at h w ⊢
      obtain ⟨m, d, c, h1, h2, h3, h4⟩ := h
      exact ⟨m, d, c, by omega, h2, h3.wk w.2.2.1 a (Int.le_refl _), h4.wk w.2.2.2 (Int.le_refl _) b⟩
  | .pow v k, md, lo, hi, lo', hi', n, o, th, w, ⟨x, m, c, h1, h2, h3, h4⟩, a, b => ⟨x, m, c, by omega, h2, h3.wk a (Int.le_refl _), h4⟩
  | .var t, md, lo, hi, lo', hi', n, o, th, w, ⟨h1, h2⟩, a, b => ⟨by omega, h2⟩
  | .sub l x, md, lo, hi, lo', hi', n, o, th, w, ⟨h1, h2, c, h3, h4⟩, a, b => ⟨by omega, h2, c, h3, h4.wk w.2 (Int.le_refl _) b⟩
  | .add t bs, md, lo, hi, lo', hi', n, o, th, w, ⟨x, m, c, h1, h2, h3, h4, h5⟩, a, b => ⟨x, m, c, by omega, h2, h3.wk a (Int.le_refl _), h4, h5.wk w.2 (Int.le_refl _) b⟩
/-- the statements of a block so far; the last one; what is behind it -/
def SL (s : MS) (K : List Int) (o : Int) : List EX → Int → Int → Int → Int → Int → Prop
  | [], lo, hi, a, z, nx => a = nx ∧ z = -1 ∧ lo ≤ hi
  | e :: l, lo, hi, a, z, nx => (isS e = true ∧ WS e 0) ∧ ∃ m x : Int, NS s K e 0 lo m a o (-1) ∧ s 34 a = x ∧ ((l = [] ∧ x = nx ∧ z = a ∧ m ≤ hi) ∨ (l ≠ [] ∧ SL s K o l m hi x z nx))
theorem SL_le {s : MS} {K : List Int} {o : Int} : ∀ {l : List EX} {lo hi a z nx : Int}, SL s K o l lo hi a z nx → lo ≤ hi
  | [], lo, hi, a, z, nx, h => h.2.2
  | e :: l, lo, hi, a, z, nx, ⟨w, m, x, h1, h2, h3⟩ => by
    have := NS_inS w.1 h1
    rcases h3 with h3 | h3
    · omega
    · have := SL_le h3.2; omega
theorem SL_in {s : MS} {K : List Int} {o : Int} : ∀ {l : List EX} {lo hi a z nx : Int}, l ≠ [] → SL s K o l lo hi a z nx → (lo ≤ a ∧ a < hi) ∧ lo ≤ z ∧ z < hi
  | [], lo, hi, a, z, nx, q, h => absurd rfl q
  | e :: l, lo, hi, a, z, nx, _, ⟨w, m, x, h1, h2, h3⟩ => by
    have := NS_inS w.1 h1
    rcases h3 with h3 | h3
    · omega
    · have := SL_le h3.2
      have := SL_in h3.1 h3.2
      omega
theorem SL_z {s : MS} {K : List Int} {o : Int} {l : List EX} {lo hi a z nx : Int} (hl : 0 ≤ lo) (h : SL s K o l lo hi a z nx) : (l = [] ∧ z = -1 ∧ a = nx) ∨ (l ≠ [] ∧ (lo ≤ z ∧ z < hi) ∧ lo ≤ a ∧ a < hi) := by
  by_cases q : l = []
  · subst q; exact Or.inl ⟨rfl, h.2.1, h.1⟩
  · have := SL_in q h; exact Or.inr ⟨q, by omega⟩
theorem SL.ag {s s' : MS} {K : List Int} {o : Int} : ∀ {l : List EX} {lo hi a z nx : Int}, SL s K o l lo hi a z nx → AgN s s' lo hi → SL s' K o l lo hi a z nx
  | [], lo, hi, a, z, nx, h, g => h
  | e :: l, lo, hi, a, z, nx, ⟨w, m, x, h1, h2, h3⟩, g => by
    have i1 := NS_inS w.1 h1
    have hm : m ≤ hi := by
      rcases h3 with h3 | h3
      · omega
      · exact SL_le h3.2
    refine ⟨w, m, x, h1.ag w.2 (fun z => absurd z (by decide)) (g.sub (Int.le_refl _) hm), (g 34 a (by decide) (by decide) (by omega) (by omega)).trans h2, ?_⟩
    rcases h3 with h3 | h3
    · exact Or.inl h3
    · exact Or.inr ⟨h3.1, h3.2.ag (g.sub (by omega) (Int.le_refl _))⟩
/-- the root of a statement: what is next may be told anew -/
theorem NS.root {s s' : MS} {K : List Int} {e : EX} {lo hi n o th : Int} (hs : isS e = true) (w : WS e 0) (h : NS s K e 0 lo hi n o th) (g : ∀ k i, 28 ≤ k → k ≤ 36 → lo ≤ i → i < hi → ¬ (k = 34 ∧ i = n) → s' k i = s k i) : NS s' K e 0 lo hi n o th := by
  have i0 := NS_inS hs h
  have q : ∀ k, 28 ≤ k → k ≤ 36 → k ≠ 34 → s' k n = s k n := fun k a b c => g k n a b (by omega) (by omega) (fun z => c z.1)
  cases e with
  | pow v k =>
    obtain ⟨x, m, a, h1, ⟨h2, h3, h4, h5, h6⟩, h7, h8⟩ := h
    have i1 := NE_in x h7
    exact ⟨x, m, a, h1, ⟨(q 28 (by decide) (by decide) (by decide)).trans h2, (q 29 (by decide) (by decide) (by decide)).trans h3, (q 30 (by decide) (by decide) (by decide)).trans h4, (q 31 (by decide) (by decide) (by decide)).trans h5, (q 36 (by decide) (by decide) (by decide)).trans h6⟩, h7.ag (fun k i a b c d => g k i a b c (by omega) (by omega)), (g 34 a (by decide) (by decide) (by omega) (by omega) (by omega)).trans h8⟩
  | var t => exact ⟨h.1, (q 28 (by decide) (by decide) (by decide)).trans h.2.1, (q 36 (by decide) (by decide) (by decide)).trans h.2.2⟩
  | sub l x =>
    obtain ⟨h1, ⟨h2, h3, h4, h5⟩, a, h6, h7⟩ := h
    exact ⟨h1, ⟨(q 28 (by decide) (by decide) (by decide)).trans h2, (q 36 (by decide) (by decide) (by decide)).trans h3, (q 33 (by decide) (by decide) (by decide)).trans h4, (q 35 (by decide) (by decide) (by decide)).trans h5⟩, a, (q 31 (by decide) (by decide) (by decide)).trans h6, h7.ag w.2 (fun z => absurd z (by decide)) (fun k i a b c d => g k i a b (by omega) (by omega) (by omega))⟩
  | add t bs =>
    obtain ⟨x, m, a, h1, ⟨h2, h3, h4, h5, h6⟩, h7, h8, h9⟩ := h
    have i1 := NE_in x h7
    exact ⟨x, m, a, h1, ⟨(q 28 (by decide) (by decide) (by decide)).trans h2, (q 29 (by decide) (by decide) (by decide)).trans h3, (q 30 (by decide) (by decide) (by decide)).trans h4, (q 31 (by decide) (by decide) (by decide)).trans h5, (q 36 (by decide) (by decide) (by decide)).trans h6⟩, h7.ag (fun k i a b c d => g k i a b c (by omega) (by omega)), (g 34 a (by decide) (by decide) (by omega) (by omega) (by omega)).trans h8, h9.ag w.2 (fun _ => ⟨by omega, h1.2, q 32 (by decide) (by decide) (by decide), q 33 (by decide) (by decide) (by decide)⟩) (fun k i a b c d => g k i a b (by omega) (by omega) (by omega))⟩
  | num t => cases hs
  | mul a b => cases hs
  | neg a => cases hs
  | natCast a => cases hs
  | intCast a => cases hs
/-- what is behind the last one is told anew -/
theorem SL_nx {s s' : MS} {K : List Int} {o nx' : Int} : ∀ {l : List EX} {lo hi a z nx : Int}, 0 ≤ lo → SL s K o l lo hi a z nx → (∀ k i, 28 ≤ k → k ≤ 36 → lo ≤ i → i < hi → (l ≠ [] → ¬ (k = 34 ∧ i = z)) → s' k i = s k i) → (l ≠ [] → s' 34 z = nx') → SL s' K o l lo hi (if l = [] then nx' else a) z nx'
  | [], lo, hi, a, z, nx, h0, h, g, _ => ⟨by rw [if_pos rfl], h.2⟩
  | e :: l, lo, hi, a, z, nx, h0, ⟨w, m, x, h1, h2, h3⟩, g, hz => by
    rw [if_neg (by simp)]
    have i1 := NS_inS w.1 h1
    rcases h3 with ⟨rfl, rfl, rfl, hm⟩ | ⟨hl, h3⟩
    · exact ⟨w, m, nx', h1.root w.1 w.2 (fun k i a b c d e => g k i a b c (by omega) (fun _ => e)), hz (by simp), Or.inl ⟨rfl, rfl, rfl, hm⟩⟩
    · have hin := SL_in hl h3
      have := SL_nx (s' := s') (nx' := nx') (by omega) h3 (fun k i a b c d q => g k i a b (by omega) d (fun _ => q hl)) (fun _ => hz (by simp))
      rw [if_neg hl] at this
      exact ⟨w, m, x, h1.ag w.2 (fun z => absurd z (by decide)) (fun k i a b c d => g k i a b c (by omega) (fun _ => by omega)), (g 34 a (by decide) (by decide) (by omega) (by omega) (fun _ => by omega)).trans h2, Or.inr ⟨hl, this⟩⟩
/-- the statement behind the last one is done -/
theorem SL_fin {s : MS} {K : List Int} {o n : Int} {e : EX} {hi' : Int} (hs : isS e = true) (w : WS e 0) (hn : s 34 n = -1) : ∀ {l : List EX} {lo hi a z : Int}, SL s K o l lo hi a z n → NS s K e 0 hi hi' n o (-1) → SL s K o (l ++ [e]) lo hi' a n (-1)
  | [], lo, hi, a, z, ⟨h1, h2, h3⟩, k => by subst h1; exact ⟨⟨hs, w⟩, hi', -1, k.wk w h3 (Int.le_refl _), hn, Or.inl ⟨rfl, rfl, rfl, Int.le_refl _⟩⟩
  | f :: l, lo, hi, a, z, ⟨w', m, x, h1, h2, h3⟩, k => by
    refine ⟨w', m, x, h1, h2, Or.inr ⟨by simp, ?_⟩⟩
    rcases h3 with ⟨rfl, rfl, rfl, hm⟩ | ⟨hl, h3⟩
    · exact ⟨⟨hs, w⟩, hi', -1, k.wk w hm (Int.le_refl _), hn, Or.inl ⟨rfl, rfl, rfl, Int.le_refl _⟩⟩
    · exact SL_fin hs w hn h3 k
/-- a block's statements as a tree -/
theorem SL_fwd {s : MS} {K : List Int} {o : Int} : ∀ {l : List EX} {lo hi a z : Int}, SL s K o l lo hi a z (-1) → NS s K (asl l) 1 lo hi a o (-1) ∧ WS (asl l) 1
  | [], lo, hi, a, z, h => ⟨h.1, Or.inl rfl⟩
  | e :: l, lo, hi, a, z, ⟨w, m, x, h1, h2, h3⟩ => by
    show NS s K (.mul e (asl l)) 1 lo hi a o (-1) ∧ WS (.mul e (asl l)) 1
    unfold NS WS
    rw [if_pos rfl, if_pos rfl]
    rcases h3 with ⟨rfl, rfl, rfl, hm⟩ | ⟨hl, h3⟩
    · exact ⟨⟨m, -1, hm, h2, h1, rfl⟩, w.1, w.2, Or.inl rfl⟩
    · obtain ⟨k1, k2⟩ := SL_fwd h3
      exact ⟨⟨m, x, SL_le h3, h2, h1, k1⟩, w.1, w.2, k2⟩
