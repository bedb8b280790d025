/-! N7: items, the stack of blocks -/
set_option maxRecDepth 100000
set_option linter.unusedVariables false
/-- parameters: first, last -/
def PAs (s : MS) : List Nat → Int → Int → Int → Int → Prop
  | [], lo, hi, a, z => a = -1 ∧ z = -1 ∧ lo ≤ hi
  | p :: l, lo, hi, a, z => ((lo ≤ a ∧ a < hi) ∧ s 28 a = 31 ∧ s 29 a = p) ∧ ∃ x, s 34 a = x ∧ ((l = [] ∧ x = -1 ∧ z = a) ∨ (l ≠ [] ∧ PAs s l (a + 1) hi x z))
theorem PAs.ag {s s' : MS} : ∀ {l : List Nat} {lo hi a z : Int}, PAs s l lo hi a z → AgN s s' lo hi → PAs s' l lo hi a z
  | [], lo, hi, a, z, h, g => h
  | p :: l, lo, hi, a, z, ⟨⟨h1, h2, h3⟩, x, h4, h5⟩, g => by
    refine ⟨⟨h1, (g 28 a (by decide) (by decide) h1.1 h1.2).trans h2, (g 29 a (by decide) (by decide) h1.1 h1.2).trans h3⟩, x, (g 34 a (by decide) (by decide) h1.1 h1.2).trans h4, ?_⟩
    rcases h5 with h5 | h5
    · exact Or.inl h5
    · exact Or.inr ⟨h5.1, h5.2.ag (g.sub (by omega) (Int.le_refl _))⟩
theorem PAs_le {s : MS} : ∀ {l : List Nat} {lo hi a z : Int}, PAs s l lo hi a z → lo ≤ hi
  | [], lo, hi, a, z, h => h.2.2
  | p :: l, lo, hi, a, z, ⟨⟨h1, _⟩, _⟩ => by omega
theorem PAs_in {s : MS} : ∀ {l : List Nat} {lo hi a z : Int}, l ≠ [] → PAs s l lo hi a z → (lo ≤ a ∧ a < hi) ∧ lo ≤ z ∧ z < hi
  | [], lo, hi, a, z, q, h => absurd rfl q
  | p :: l, lo, hi, a, z, _, ⟨⟨h1, _⟩, x, h4, h5⟩ => by
    rcases h5 with h5 | h5
    · omega
    · have := PAs_in h5.1 h5.2; omega
theorem PAs_snoc {s s' : MS} {p : Nat} {n hi' : Int} (hn : s' 28 n = 31 ∧ s' 29 n = p ∧ s' 34 n = -1) : ∀ {l : List Nat} {lo hi a z : Int}, PAs s l lo hi a z → hi ≤ n → n < hi' → (∀ k i, 28 ≤ k → k ≤ 36 → lo ≤ i → i < hi → (l ≠ [] → ¬ (k = 34 ∧ i = z)) → s' k i = s k i) → (l ≠ [] → s' 34 z = n) → PAs s' (l ++ [p]) lo hi' (if l = [] then n else a) n
  | [], lo, hi, a, z, h, h1, h2, g, _ => ⟨⟨by rw [if_pos rfl]; have := h.2; omega, by rw [if_pos rfl]; exact hn.1, by rw [if_pos rfl]; exact hn.2.1⟩, -1, by rw [if_pos rfl]; exact hn.2.2, Or.inl ⟨rfl, rfl, by rw [if_pos rfl]⟩⟩
  | q :: l, lo, hi, a, z, ⟨⟨k1, k2, k3⟩, x, k4, k5⟩, h1, h2, g, hz => by
    rw [if_neg (by simp)]
    rcases k5 with ⟨rfl, -, rfl⟩ | ⟨hl, k5⟩
    · refine ⟨⟨by omega, (g 28 z (by decide) (by decide) k1.1 k1.2 (fun _ => by omega)).trans k2, (g 29 z (by decide) (by decide) k1.1 k1.2 (fun _ => by omega)).trans k3⟩, n, hz (by simp), Or.inr ⟨by simp, ⟨⟨by omega, hn.1, hn.2.1⟩, -1, hn.2.2, Or.inl ⟨rfl, rfl, rfl⟩⟩⟩⟩
    · have hin := PAs_in hl k5
      have ih := PAs_snoc hn k5 h1 h2 (fun k i a b c d q => g k i a b (by omega) d (fun _ => q hl)) (fun _ => hz (by simp))
      rw [if_neg hl] at ih
      exact ⟨⟨by omega, (g 28 a (by decide) (by decide) k1.1 k1.2 (fun _ => by omega)).trans k2, (g 29 a (by decide) (by decide) k1.1 k1.2 (fun _ => by omega)).trans k3⟩, x, (g 34 a (by decide) (by decide) k1.1 k1.2 (fun _ => by omega)).trans k4, Or.inr ⟨by simp, ih⟩⟩
theorem PAs_wk {s : MS} : ∀ {l : List Nat} {lo hi hi' a z : Int}, PAs s l lo hi a z → hi ≤ hi' → PAs s l lo hi' a z
  | [], lo, hi, hi', a, z, h, q => ⟨h.1, h.2.1, by have := h.2.2; omega⟩
  | p :: l, lo, hi, hi', a, z, ⟨⟨h1, h2⟩, x, h4, h5⟩, q => by
    refine ⟨⟨by omega, h2⟩, x, h4, ?_⟩
    rcases h5 with h5 | h5
    · exact Or.inl h5
    · exact Or.inr ⟨h5.1, PAs_wk h5.2 q⟩
/-- an item -/
def IT1 (s : MS) (K : List Int) (it : IT) (lo hi n : Int) : Prop := match it with
  | .inl t => (lo ≤ n ∧ n < hi) ∧ s 28 n = 1 ∧ s 29 n = t
  | .inr f => (lo ≤ n ∧ n < hi) ∧ (s 28 n = 2 ∧ s 29 n = f.1) ∧ (isS f.2.2 = true ∧ WS f.2.2 0) ∧ ∃ a z b m : Int, (n < m ∧ m ≤ hi) ∧ (s 31 n = a ∧ s 32 n = b) ∧ PAs s f.2.1 (n + 1) m a z ∧ NS s K f.2.2 0 m hi b (-1) n
theorem IT1_in {s : MS} {K : List Int} {it : IT} {lo hi n : Int} (h : IT1 s K it lo hi n) : lo ≤ n ∧ n < hi := by
  cases it with
  | inl t => exact h.1
  | inr f => exact h.1
theorem IT1.root {s s' : MS} {K : List Int} {it : IT} {lo hi n : Int} (h : IT1 s K it lo hi n) (g : ∀ k i, 28 ≤ k → k ≤ 36 → lo ≤ i → i < hi → ¬ (k = 34 ∧ i = n) → s' k i = s k i) : IT1 s' K it lo hi n := by
  cases it with
  | inl t =>
    obtain ⟨h1, h2, h3⟩ := h
    exact ⟨h1, (g 28 n (by decide) (by decide) h1.1 h1.2 (by omega)).trans h2, (g 29 n (by decide) (by decide) h1.1 h1.2 (by omega)).trans h3⟩
  | inr f =>
    obtain ⟨h1, ⟨h2, h3⟩, h4, a, z, b, m, h5, ⟨h6, h7⟩, h8, h9⟩ := h
    exact ⟨h1, ⟨(g 28 n (by decide) (by decide) h1.1 h1.2 (by omega)).trans h2, (g 29 n (by decide) (by decide) h1.1 h1.2 (by omega)).trans h3⟩, h4, a, z, b, m, h5, ⟨(g 31 n (by decide) (by decide) h1.1 h1.2 (by omega)).trans h6, (g 32 n (by decide) (by decide) h1.1 h1.2 (by omega)).trans h7⟩, h8.ag (fun k i a b c d => g k i a b (by omega) (by omega) (by omega)), h9.ag h4.2 (fun z => absurd z (by decide)) (fun k i a b c d => g k i a b (by omega) (by omega) (by omega))⟩
theorem IT1.ag {s s' : MS} {K : List Int} {it : IT} {lo hi n : Int} (h : IT1 s K it lo hi n) (g : AgN s s' lo hi) : IT1 s' K it lo hi n := h.root (fun k i a b c d _ => g k i a b c d)
theorem IT1.wk {s : MS} {K : List Int} {it : IT} {lo hi lo' hi' n : Int} (h : IT1 s K it lo hi n) (h1 : lo' ≤ lo) (h2 : hi ≤ hi') : IT1 s K it lo' hi' n := by
  cases it with
  | inl t => exact ⟨by have := h.1; omega, h.2⟩
  | inr f =>
    obtain ⟨h3, h4, h5, a, z, b, m, h6, h7, h8, h9⟩ := h
    exact ⟨by omega, h4, h5, a, z, b, m, by omega, h7, h8, h9.wk h5.2 (Int.le_refl _) h2⟩
/-- items so far: first, last, what is behind -/
def IL (s : MS) (K : List Int) : List IT → Int → Int → Int → Int → Int → Prop
  | [], lo, hi, a, z, nx => a = nx ∧ z = -1 ∧ lo ≤ hi
  | e :: l, lo, hi, a, z, nx => ∃ m x : Int, IT1 s K e lo m a ∧ s 34 a = x ∧ ((l = [] ∧ x = nx ∧ z = a ∧ m ≤ hi) ∨ (l ≠ [] ∧ IL s K l m hi x z nx))
theorem IL_le {s : MS} {K : List Int} : ∀ {l : List IT} {lo hi a z nx : Int}, IL s K l lo hi a z nx → lo ≤ hi
  | [], lo, hi, a, z, nx, h => h.2.2
  | e :: l, lo, hi, a, z, nx, ⟨m, x, h1, h2, h3⟩ => by
    have := IT1_in h1
    rcases h3 with h3 | h3
    · omega
    · have := IL_le h3.2; omega
theorem IL_in {s : MS} {K : List Int} : ∀ {l : List IT} {lo hi a z nx : Int}, l ≠ [] → IL s K l lo hi a z nx → (lo ≤ a ∧ a < hi) ∧ lo ≤ z ∧ z < hi
  | [], lo, hi, a, z, nx, q, h => absurd rfl q
  | e :: l, lo, hi, a, z, nx, _, ⟨m, x, h1, h2, h3⟩ => by
    have := IT1_in h1
    rcases h3 with h3 | h3
    · omega
    · have := IL_le h3.2
      have := IL_in h3.1 h3.2
      omega
theorem IL.ag {s s' : MS} {K : List Int} : ∀ {l : List IT} {lo hi a z nx : Int}, IL s K l lo hi a z nx → AgN s s' lo hi → IL s' K l lo hi a z nx
  | [], lo, hi, a, z, nx, h, g => h
  | e :: l, lo, hi, a, z, nx, ⟨m, x, h1, h2, h3⟩, g => by
    have i1 := IT1_in h1
    have hm : m ≤ hi := by
      rcases h3 with h3 | h3
      · omega
      · exact IL_le h3.2
    refine ⟨m, x, h1.ag (g.sub (Int.le_refl _) hm), (g 34 a (by decide) (by decide) (by omega) (by omega)).trans h2, ?_⟩
    rcases h3 with h3 | h3
    · exact Or.inl h3
    · exact Or.inr ⟨h3.1, h3.2.ag (g.sub (by omega) (Int.le_refl _))⟩
theorem IL_nx {s s' : MS} {K : List Int} {nx' : Int} : ∀ {l : List IT} {lo hi a z nx : Int}, IL s K l lo hi a z nx → (∀ k i, 28 ≤ k → k ≤ 36 → lo ≤ i → i < hi → (l ≠ [] → ¬ (k = 34 ∧ i = z)) → s' k i = s k i) → (l ≠ [] → s' 34 z = nx') → IL s' K l lo hi (if l = [] then nx' else a) z nx'
  | [], lo, hi, a, z, nx, h, g, _ => ⟨by rw [if_pos rfl], h.2⟩
  | e :: l, lo, hi, a, z, nx, ⟨m, x, h1, h2, h3⟩, g, hz => by
    rw [if_neg (by simp)]
    have i1 := IT1_in h1
    rcases h3 with ⟨rfl, rfl, rfl, hm⟩ | ⟨hl, h3⟩
    · exact ⟨m, nx', h1.root (fun k i a b c d e => g k i a b c (by omega) (fun _ => e)), hz (by simp), Or.inl ⟨rfl, rfl, rfl, hm⟩⟩
    · have hin := IL_in hl h3
      have := IL_nx (s' := s') (nx' := nx') h3 (fun k i a b c d q => g k i a b (by omega) d (fun _ => q hl)) (fun _ => hz (by simp))
      rw [if_neg hl] at this
      exact ⟨m, x, h1.ag (fun k i a b c d => g k i a b c (by omega) (fun _ => by omega)), (g 34 a (by decide) (by decide) (by omega) (by omega) (fun _ => by omega)).trans h2, Or.inr ⟨hl, this⟩⟩
theorem IL_fin {s : MS} {K : List Int} {n : Int} {e : IT} {hi' : Int} (hn : s 34 n = -1) : ∀ {l : List IT} {lo hi a z : Int}, IL s K l lo hi a z n → IT1 s K e hi hi' n → IL s K (l ++ [e]) lo hi' a n (-1)
  | [], lo, hi, a, z, ⟨h1, h2, h3⟩, k => by subst h1; exact ⟨hi', -1, k.wk h3 (Int.le_refl _), hn, Or.inl ⟨rfl, rfl, rfl, Int.le_refl _⟩⟩
  | f :: l, lo, hi, a, z, ⟨m, x, h1, h2, h3⟩, k => by
    refine ⟨m, x, h1, h2, Or.inr ⟨by simp, ?_⟩⟩
    rcases h3 with ⟨rfl, rfl, rfl, hm⟩ | ⟨hl, h3⟩
    · exact ⟨hi', -1, k.wk hm (Int.le_refl _), hn, Or.inl ⟨rfl, rfl, rfl, Int.le_refl _⟩⟩
    · exact IL_fin hn h3 k
theorem IL_wk {s : MS} {K : List Int} : ∀ {l : List IT} {lo hi hi' a z nx : Int}, IL s K l lo hi a z nx → hi ≤ hi' → IL s K l lo hi' a z nx
  | [], lo, hi, hi', a, z, nx, h, q => ⟨h.1, h.2.1, by have := h.2.2; omega⟩
  | e :: l, lo, hi, hi', a, z, nx, ⟨m, x, h1, h2, h3⟩, q => by
    refine ⟨m, x, h1, h2, ?_⟩
    rcases h3 with ⟨k1, k2, k3, k4⟩ | h3
    · exact Or.inl ⟨k1, k2, k3, by omega⟩
    · exact Or.inr ⟨h3.1, IL_wk h3.2 q⟩
theorem SL_wk {s : MS} {K : List Int} {o : Int} : ∀ {l : List EX} {lo hi hi' a z nx : Int}, SL s K o l lo hi a z nx → hi ≤ hi' → SL s K o l lo hi' a z nx
  | [], lo, hi, hi', a, z, nx, h, q => ⟨h.1, h.2.1, by have := h.2.2; omega⟩
  | e :: l, lo, hi, hi', a, z, nx, ⟨w, m, x, h1, h2, h3⟩, q => by
    refine ⟨w, m, x, h1, h2, ?_⟩
    rcases h3 with ⟨k1, k2, k3, k4⟩ | h3
    · exact Or.inl ⟨k1, k2, k3, by omega⟩
    · exact Or.inr ⟨h3.1, SL_wk h3.2 q⟩
/-- the stack of blocks, the innermost first; nx: the node behind the last statement, that is not done yet -/
def STK (s : MS) (K : List Int) (n0 : Int) (I : List IT) : List OB → Int → Int → Prop
  | [], hi, nx => ∃ z : Int, IL s K I n0 hi (s 48 0) z nx ∧ s 49 0 = if nx = -1 then z else nx
  | x :: st, hi, nx => ∃ b a z o th lo : Int, (s 42 (st.length : Int) = b ∧ s 43 (st.length : Int) = if nx = -1 then z else nx) ∧ ((lo ≤ b ∧ b < hi) ∧ s 28 b = 3 ∧ s 36 b = o ∧ s 33 b = th ∧ s 31 b = a) ∧ SL s K b x.1 (b + 1) hi a z nx ∧
    match x.2 with
    | .inl f => (st = [] ∧ s 44 (st.length : Int) = 0 ∧ o = -1) ∧ ∃ h c y l0 : Int, (s 45 (st.length : Int) = h ∧ th = h ∧ l0 ≤ h ∧ h < lo) ∧ (s 28 h = 2 ∧ s 29 h = f.1 ∧ s 31 h = c ∧ s 32 h = b ∧ s 34 h = -1) ∧ PAs s f.2 (h + 1) lo c y ∧ STK s K n0 I st l0 h
    | .inr none => (st ≠ [] ∧ s 44 (st.length : Int) = 3 ∧ o = s 42 ((st.length : Int) - 1)) ∧ th = -1 ∧ s 34 b = -1 ∧ STK s K n0 I st lo b
    | .inr (some (t, none)) => (st ≠ [] ∧ s 44 (st.length : Int) = 1 ∧ o = s 42 ((st.length : Int) - 1)) ∧ isX t = true ∧ ∃ h m c e : Int, (s 45 (st.length : Int) = h ∧ th = h ∧ c ≤ h ∧ h < lo) ∧ (s 28 h = 10 ∧ s 29 h = ((frm t - 1 : Nat) : Int) ∧ s 30 h = ((frm t - 1 : Nat) : Int) ∧ s 31 h = e ∧ s 36 h = o) ∧ (s 32 h = b ∧ s 33 h = -1 ∧ s 34 h = -1) ∧ NE s K t m c e (frm t) ∧ s 34 e = -1 ∧ STK s K n0 I st m h
    | .inr (some (t, some g)) => (st ≠ [] ∧ s 44 (st.length : Int) = 2 ∧ o = s 42 ((st.length : Int) - 1)) ∧ isX t = true ∧ ∃ h m c e b1 : Int, (s 45 (st.length : Int) = h ∧ th = h ∧ c ≤ h ∧ h < lo) ∧ (s 28 h = 10 ∧ s 29 h = ((frm t - 1 : Nat) : Int) ∧ s 30 h = ((frm t - 1 : Nat) : Int) ∧ s 31 h = e ∧ s 36 h = o) ∧ (s 32 h = b1 ∧ s 33 h = b ∧ s 34 h = -1) ∧ (NE s K t m c e (frm t) ∧ s 34 e = -1) ∧ ((isS g = true ∧ WS g 0) ∧ NS s K g 0 (h + 1) lo b1 o h) ∧ STK s K n0 I st m h
theorem STK_lb {s : MS} {K : List Int} {n0 : Int} {I : List IT} : ∀ {st : List OB} {hi nx : Int}, STK s K n0 I st hi nx → n0 ≤ hi
  | [], hi, nx, ⟨z, h, _⟩ => IL_le h
  | x :: st, hi, nx, ⟨b, a, z, o, th, lo, h1, ⟨h2, h3⟩, h4, h5⟩ => by
    obtain ⟨l, w⟩ := x
    cases w with
    | inl f =>
      obtain ⟨-, h, c, y, l0, k1, k2, k3, k4⟩ := h5
      have := STK_lb k4
      omega
    | inr w =>
      cases w with
      | none => have := STK_lb h5.2.2.2; omega
      | some w =>
        obtain ⟨t, g⟩ := w
        cases g with
        | none =>
          obtain ⟨-, x1, h, m, c, e, k1, k2, k3, k4, k5, k6⟩ := h5
          have := STK_lb k6
          have := NE_in x1 k4
          omega
        | some g =>
          obtain ⟨-, x1, h, m, c, e, b1, k1, k2, k3, ⟨k4, k4'⟩, k5, k6⟩ := h5
          have := STK_lb k6
          have := NE_in x1 k4
          omega
/-- below some marks all is as it was -/
def AgS (s s' : MS) (hi d : Int) : Prop := (∀ k i, 28 ≤ k → k ≤ 36 → i < hi → s' k i = s k i) ∧ (∀ k i, 42 ≤ k → k ≤ 45 → i < d → s' k i = s k i) ∧ s' 48 0 = s 48 0 ∧ s' 49 0 = s 49 0
theorem AgS.sub {s s' : MS} {hi d hi' d' : Int} (h : AgS s s' hi d) (h1 : hi' ≤ hi) (h2 : d' ≤ d) : AgS s s' hi' d' := ⟨fun k i a b c => h.1 k i a b (by omega), fun k i a b c => h.2.1 k i a b (by omega), h.2.2⟩
theorem AgS.n {s s' : MS} {hi d lo' hi' : Int} (h : AgS s s' hi d) (h1 : hi' ≤ hi) : AgN s s' lo' hi' := fun k i a b c e => h.1 k i a b (by omega)
theorem STK.ag {s s' : MS} {K : List Int} {n0 : Int} {I : List IT} : ∀ {st : List OB} {hi nx : Int}, STK s K n0 I st hi nx → AgS s s' hi st.length → STK s' K n0 I st hi nx
  | [], hi, nx, ⟨z, h, k⟩, g => ⟨z, by rw [g.2.2.1]; exact h.ag (g.n (Int.le_refl _)), by rw [g.2.2.2]; exact k⟩
  | x :: st, hi, nx, ⟨b, a, z, o, th, lo, ⟨h1, h1'⟩, ⟨h2, h3, h3', h3'', h3'''⟩, h4, h5⟩, g => by
    rw [List.length_cons] at g
    push_cast at g
    have q : ∀ k i, 28 ≤ k → k ≤ 36 → i < hi → s' k i = s k i := g.1
    have r : ∀ k i, 42 ≤ k → k ≤ 45 → i < (st.length : Int) + 1 → s' k i = s k i := g.2.1
    refine ⟨b, a, z, o, th, lo, ⟨(r 42 _ (by decide) (by decide) (by omega)).trans h1, (r 43 _ (by decide) (by decide) (by omega)).trans h1'⟩, ⟨h2, (q 28 b (by decide) (by decide) h2.2).trans h3, (q 36 b (by decide) (by decide) h2.2).trans h3', (q 33 b (by decide) (by decide) h2.2).trans h3'', (q 31 b (by decide) (by decide) h2.2).trans h3'''⟩, h4.ag (g.n (Int.le_refl _)), ?_⟩
    obtain ⟨l, w⟩ := x
    cases w with
    | inl f =>
      obtain ⟨⟨u1, u2, u3⟩, h, c, y, l0, ⟨k0, k1⟩, ⟨k2, k3, k4, k5, k6⟩, k7, k8⟩ := h5
      exact ⟨⟨u1, (r 44 _ (by decide) (by decide) (by omega)).trans u2, u3⟩, h, c, y, l0, ⟨(r 45 _ (by decide) (by decide) (by omega)).trans k0, k1⟩, ⟨(q 28 h (by decide) (by decide) (by omega)).trans k2, (q 29 h (by decide) (by decide) (by omega)).trans k3, (q 31 h (by decide) (by decide) (by omega)).trans k4, (q 32 h (by decide) (by decide) (by omega)).trans k5, (q 34 h (by decide) (by decide) (by omega)).trans k6⟩, k7.ag (g.n (by omega)), k8.ag (g.sub (by omega) (by omega))⟩
    | inr w =>
      cases w with
      | none =>
        obtain ⟨⟨u1, u2, u3⟩, k1, k2, k3⟩ := h5
        exact ⟨⟨u1, (r 44 _ (by decide) (by decide) (by omega)).trans u2, by rw [r 42 _ (by decide) (by decide) (by omega)]; exact u3⟩, k1, (q 34 b (by decide) (by decide) h2.2).trans k2, k3.ag (g.sub (by omega) (by omega))⟩
      | some w =>
        obtain ⟨t, gg⟩ := w
        cases gg with
        | none =>
          obtain ⟨⟨u1, u2, u3⟩, x1, h, m, c, e, ⟨k0, k1⟩, ⟨k2, k3, k4, k5, k6⟩, ⟨k7, k8, k9⟩, v1, v2, v3⟩ := h5
          have i1 := NE_in x1 v1
          exact ⟨⟨u1, (r 44 _ (by decide) (by decide) (by omega)).trans u2, by rw [r 42 _ (by decide) (by decide) (by omega)]; exact u3⟩, x1, h, m, c, e, ⟨(r 45 _ (by decide) (by decide) (by omega)).trans k0, k1⟩, ⟨(q 28 h (by decide) (by decide) (by omega)).trans k2, (q 29 h (by decide) (by decide) (by omega)).trans k3, (q 30 h (by decide) (by decide) (by omega)).trans k4, (q 31 h (by decide) (by decide) (by omega)).trans k5, (q 36 h (by decide) (by decide) (by omega)).trans k6⟩, ⟨(q 32 h (by decide) (by decide) (by omega)).trans k7, (q 33 h (by decide) (by decide) (by omega)).trans k8, (q 34 h (by decide) (by decide) (by omega)).trans k9⟩, v1.ag (g.n (by omega)), (q 34 e (by decide) (by decide) (by omega)).trans v2, v3.ag (g.sub (by omega) (by omega))⟩
        | some gg =>
          obtain ⟨⟨u1, u2, u3⟩, x1, h, m, c, e, b1, ⟨k0, k1⟩, ⟨k2, k3, k4, k5, k6⟩, ⟨k7, k8, k9⟩, ⟨v1, v2⟩, ⟨w1, w2⟩, v3⟩ := h5
          have i1 := NE_in x1 v1
          exact ⟨⟨u1, (r 44 _ (by decide) (by decide) (by omega)).trans u2, by rw [r 42 _ (by decide) (by decide) (by omega)]; exact u3⟩, x1, h, m, c, e, b1, ⟨(r 45 _ (by decide) (by decide) (by omega)).trans k0, k1⟩, ⟨(q 28 h (by decide) (by decide) (by omega)).trans k2, (q 29 h (by decide) (by decide) (by omega)).trans k3, (q 30 h (by decide) (by decide) (by omega)).trans k4, (q 31 h (by decide) (by decide) (by omega)).trans k5, (q 36 h (by decide) (by decide) (by omega)).trans k6⟩, ⟨(q 32 h (by decide) (by decide) (by omega)).trans k7, (q 33 h (by decide) (by decide) (by omega)).trans k8, (q 34 h (by decide) (by decide) (by omega)).trans k9⟩, ⟨v1.ag (g.n (by omega)), (q 34 e (by decide) (by decide) (by omega)).trans v2⟩, ⟨w1, w2.ag w1.2 (fun z => absurd z (by decide)) (g.n (by omega))⟩, v3.ag (g.sub (by omega) (by omega))⟩
/-- a block is as it is while its statements grow -/
theorem STK_mv {s s' : MS} {K : List Int} {n0 : Int} {I : List IT} {x : OB} {st : List OB} {hi nx hi' nx' b : Int} {l' : List EX} {a' z' : Int} (h : STK s K n0 I (x :: st) hi nx) (hb : s 42 (st.length : Int) = b)
    (g : ∀ k i, 28 ≤ k → k ≤ 36 → i < b + 1 → ¬ (k = 31 ∧ i = b) → s' k i = s k i) (r : ∀ k i, 42 ≤ k → k ≤ 45 → i < (st.length : Int) + 1 → ¬ (k = 43 ∧ i = (st.length : Int)) → s' k i = s k i) (hI : s' 48 0 = s 48 0 ∧ s' 49 0 = s 49 0)
    (e43 : s' 43 (st.length : Int) = if nx' = -1 then z' else nx') (e31 : s' 31 b = a') (hl : SL s' K b l' (b + 1) hi' a' z' nx') (hh : hi ≤ hi') : STK s' K n0 I ((l', x.2) :: st) hi' nx' := by
  obtain ⟨b', a, z, o, th, lo, ⟨h1, h1'⟩, ⟨h2, h3, h3', h3'', h3'''⟩, h4, h5⟩ := h
  have : b' = b := h1.symm.trans hb
  subst this
  have gs : ∀ lo', lo' ≤ b' → AgS s s' lo' st.length := fun lo' h => ⟨fun k i a b c => g k i a b (by omega) (by omega), fun k i a b c => r k i a b (by omega) (by omega), hI⟩
  refine ⟨b', a', z', o, th, lo, ⟨(r 42 _ (by decide) (by decide) (by omega) (by omega)).trans h1, e43⟩, ⟨by omega, (g 28 b' (by decide) (by decide) (by omega) (by omega)).trans h3, (g 36 b' (by decide) (by decide) (by omega) (by omega)).trans h3', (g 33 b' (by decide) (by decide) (by omega) (by omega)).trans h3'', e31⟩, hl, ?_⟩
  obtain ⟨l, w⟩ := x
  have q : ∀ k i, 28 ≤ k → k ≤ 36 → i < b' → s' k i = s k i := fun k i a b c => g k i a b (by omega) (by omega)
  cases w with
  | inl f =>
    obtain ⟨⟨u1, u2, u3⟩, h, c, y, l0, ⟨k0, k1⟩, ⟨k2, k3, k4, k5, k6⟩, k7, k8⟩ := h5
    exact ⟨⟨u1, (r 44 _ (by decide) (by decide) (by omega) (by omega)).trans u2, u3⟩, h, c, y, l0, ⟨(r 45 _ (by decide) (by decide) (by omega) (by omega)).trans k0, k1⟩, ⟨(q 28 h (by decide) (by decide) (by omega)).trans k2, (q 29 h (by decide) (by decide) (by omega)).trans k3, (q 31 h (by decide) (by decide) (by omega)).trans k4, (q 32 h (by decide) (by decide) (by omega)).trans k5, (q 34 h (by decide) (by decide) (by omega)).trans k6⟩, k7.ag ((gs lo h2.1).n (Int.le_refl _)), k8.ag (gs _ (by omega))⟩
  | inr w =>
    cases w with
    | none =>
      obtain ⟨⟨u1, u2, u3⟩, k1, k2, k3⟩ := h5
      exact ⟨⟨u1, (r 44 _ (by decide) (by decide) (by omega) (by omega)).trans u2, by rw [r 42 _ (by decide) (by decide) (by omega) (by omega)]; exact u3⟩, k1, (g 34 b' (by decide) (by decide) (by omega) (by omega)).trans k2, k3.ag (gs _ (by omega))⟩
    | some w =>
      obtain ⟨t, gg⟩ := w
      cases gg with
      | none =>
        obtain ⟨⟨u1, u2, u3⟩, x1, h, m, c, e, ⟨k0, k1⟩, ⟨k2, k3, k4, k5, k6⟩, ⟨k7, k8, k9⟩, v1, v2, v3⟩ := h5
        have i1 := NE_in x1 v1
        exact ⟨⟨u1, (r 44 _ (by decide) (by decide) (by omega) (by omega)).trans u2, by rw [r 42 _ (by decide) (by decide) (by omega) (by omega)]; exact u3⟩, x1, h, m, c, e, ⟨(r 45 _ (by decide) (by decide) (by omega) (by omega)).trans k0, k1⟩, ⟨(q 28 h (by decide) (by decide) (by omega)).trans k2, (q 29 h (by decide) (by decide) (by omega)).trans k3, (q 30 h (by decide) (by decide) (by omega)).trans k4, (q 31 h (by decide) (by decide) (by omega)).trans k5, (q 36 h (by decide) (by decide) (by omega)).trans k6⟩, ⟨(q 32 h (by decide) (by decide) (by omega)).trans k7, (q 33 h (by decide) (by decide) (by omega)).trans k8, (q 34 h (by decide) (by decide) (by omega)).trans k9⟩, v1.ag ((gs lo h2.1).n (by omega)), (q 34 e (by decide) (by decide) (by omega)).trans v2, v3.ag (gs _ (by omega))⟩
      | some gg =>
        obtain ⟨⟨u1, u2, u3⟩, x1, h, m, c, e, b1, ⟨k0, k1⟩, ⟨k2, k3, k4, k5, k6⟩, ⟨k7, k8, k9⟩, ⟨v1, v2⟩, ⟨w1, w2⟩, v3⟩ := h5
        have i1 := NE_in x1 v1
        exact ⟨⟨u1, (r 44 _ (by decide) (by decide) (by omega) (by omega)).trans u2, by rw [r 42 _ (by decide) (by decide) (by omega) (by omega)]; exact u3⟩, x1, h, m, c, e, b1, ⟨(r 45 _ (by decide) (by decide) (by omega) (by omega)).trans k0, k1⟩, ⟨(q 28 h (by decide) (by decide) (by omega)).trans k2, (q 29 h (by decide) (by decide) (by omega)).trans k3, (q 30 h (by decide) (by decide) (by omega)).trans k4, (q 31 h (by decide) (by decide) (by omega)).trans k5, (q 36 h (by decide) (by decide) (by omega)).trans k6⟩, ⟨(q 32 h (by decide) (by decide) (by omega)).trans k7, (q 33 h (by decide) (by decide) (by omega)).trans k8, (q 34 h (by decide) (by decide) (by omega)).trans k9⟩, ⟨v1.ag ((gs lo h2.1).n (by omega)), (q 34 e (by decide) (by decide) (by omega)).trans v2⟩, ⟨w1, w2.ag w1.2 (fun z => absurd z (by decide)) ((gs lo h2.1).n (Int.le_refl _))⟩, v3.ag (gs _ (by omega))⟩
