/-! N2: what the stacks of the model are while an expr is read -/
set_option maxRecDepth 100000
set_option linter.unusedVariables false
theorem NE_30 {s : MS} {K : List Int} : ∀ {e : EX} {lo hi n f : Int}, isX e = true → NE s K e lo hi n f → s 30 n = f
  | .var t, lo, hi, n, f, _, h => h.2.2.2.1
  | .add l r, lo, hi, n, f, _, ⟨_, m, m', a, b, h1, h2, _⟩ => h2.2.2.1
  | .neg e, lo, hi, n, f, _, ⟨x1, m, a, h1, h2, _⟩ => h2.2.2.1
  | .sub e _, lo, hi, n, f, _, ⟨x1, h⟩ => NE_30 x1 h
  | .pow a t, lo, hi, n, f, _, ⟨_, b, h, h2, _⟩ => h2.2.2.1
def bgi (b : Option Nat) : Int := match b with
  | none => -1
  | some q => q
def nb1 (b : Option Nat) : Int := match b with
  | none => 0
  | some _ => 1
def nbF : List BF → Int
  | [] => 0
  | x :: l => nb1 x.2.1 + nbF l
theorem nb1_pos {b : Option Nat} : 0 ≤ nb1 b ∧ nb1 b ≤ 1 := by
  cases b with
  | none => exact ⟨Int.le_refl _, (by show (0 : Int) ≤ 1; decide)⟩
  | some q => exact ⟨(by show (0 : Int) ≤ 1; decide), Int.le_refl _⟩
theorem nbF_pos : ∀ {l : List BF}, 0 ≤ nbF l
  | [] => Int.le_refl _
  | x :: l => by have := nbF_pos (l := l); have := nb1_pos (b := x.2.1); show 0 ≤ nb1 x.2.1 + nbF l; omega
def stB (x : BF) : Nat := match x.2.2 with
  | .inl o => o
  | .inr y => y.1
/-- the ( in which one is, if no call's -/
def bs (fs : List BF) : Option Nat := match fs with
  | [] => none
  | x :: _ => match x.2.2 with
    | .inl o => some o
    | .inr _ => none
/-- where the next expr begins -/
def nxt (b : Option Nat) (pe : PD) (q : Nat) : Prop := match pe with
  | [] => ∀ o, b = some o → q = o + 1
  | y :: _ => q = y.2 + 1
def PEr (s : MS) (K : List Int) (b : Option Nat) (σb δb lb : Int) : PD → Int → Int → Int → Prop
  | [], σ, δ, hi => σ = σb ∧ δ = δb ∧ lb ≤ hi
  | x :: l, σ, δ, hi => (s 50 (σ - 1) = kd K x.2 ∧ 1 ≤ rk (kd K x.2) ∧ isX x.1 = true ∧ nxt b l (frm x.1)) ∧ ∃ n m : Int, s 52 (δ - 1) = n ∧ NE s K x.1 m hi n (frm x.1) ∧ PEr s K b σb δb lb l (σ - 1) (δ - 1) m
/-- the exprs that a call was given -/
def AR (s : MS) (K : List Int) : List EX → Int → Int → Int → Int → Prop
  | [], lo, hi, a, z => a = -1 ∧ z = -1 ∧ lo ≤ hi
  | e :: l, lo, hi, a, z => isX e = true ∧ ∃ m x : Int, NE s K e lo m a (frm e) ∧ s 34 a = x ∧ ((l = [] ∧ x = -1 ∧ z = a ∧ m ≤ hi) ∨ (l ≠ [] ∧ AR s K l m hi x z))
def FRr (s : MS) (K : List Int) (n0 : Int) : List BF → Int → Int → Int → Prop
  | [], σ, δ, hi => σ = 0 ∧ δ = 0 ∧ n0 ≤ hi
  | x :: fs, σ, δ, hi => (s 50 (σ - 1) = 0 ∧ s 61 ((fs.length : Int) + 1) = bgi x.2.1 ∧ s 57 (fs.length : Int) = b01 x.1.2 ∧ nxt (bs fs) x.1.1 (x.2.1.getD (stB x)) ∧ (∀ q, x.2.1 = some q → stB x = q + 1)) ∧
    ∃ m σb δb lb : Int, m ≤ hi ∧ (match x.2.2 with
      | .inl o => s 55 ((fs.length : Int) + 1) = -1 ∧ s 62 ((fs.length : Int) + 1) = o
      | .inr y => ∃ c a z : Int, s 55 ((fs.length : Int) + 1) = c ∧ s 56 ((fs.length : Int) + 1) = z ∧ (m ≤ c ∧ c < hi) ∧ (s 28 c = 14 ∧ s 29 c = y.1 ∧ s 30 c = y.1 ∧ s 31 c = a ∧ s 34 c = -1) ∧ AR s K y.2 (c + 1) hi a z) ∧
    PEr s K (bs fs) σb δb lb x.1.1 (σ - 1) δ m ∧ FRr s K n0 fs σb δb lb
theorem AR_le {s : MS} {K : List Int} : ∀ {l : List EX} {lo hi a z : Int}, AR s K l lo hi a z → lo ≤ hi
  | [], lo, hi, a, z, h => h.2.2
  | e :: l, lo, hi, a, z, ⟨x, m, y, h1, h2, h3⟩ => by
    have := NE_in x h1
    rcases h3 with h3 | h3
    · omega
    · have := AR_le h3.2; omega
theorem AR_in {s : MS} {K : List Int} : ∀ {l : List EX} {lo hi a z : Int}, l ≠ [] → AR s K l lo hi a z → (lo ≤ a ∧ a < hi) ∧ lo ≤ z ∧ z < hi
  | [], lo, hi, a, z, q, h => absurd rfl q
  | e :: l, lo, hi, a, z, _, ⟨x, m, y, h1, h2, h3⟩ => by
    have := NE_in x h1
    rcases h3 with h3 | h3
    · omega
    · have := AR_le h3.2
      have := AR_in h3.1 h3.2
      omega
theorem AR.ag {s s' : MS} {K : List Int} : ∀ {l : List EX} {lo hi a z : Int}, AR s K l lo hi a z → AgN s s' lo hi → AR s' K l lo hi a z
  | [], lo, hi, a, z, h, g => h
  | e :: l, lo, hi, a, z, ⟨x, m, y, h1, h2, h3⟩, g => by
    have i1 := NE_in x h1
    have hm : m ≤ hi := by
      rcases h3 with h3 | h3
      · omega
      · exact AR_le h3.2
    refine ⟨x, m, y, h1.ag (g.sub (Int.le_refl _) hm), (g 34 a (by decide) (by decide) (by omega) (by omega)).trans h2, ?_⟩
    rcases h3 with h3 | h3
    · exact Or.inl h3
    · exact Or.inr ⟨h3.1, h3.2.ag (g.sub (by omega) (Int.le_refl _))⟩
theorem asl_X {l : List EX} : isX (asl l) = false := by cases l <;> rfl
theorem AR_fwd {s : MS} {K : List Int} : ∀ {l : List EX} {lo hi a z : Int}, AR s K l lo hi a z → NE s K (asl l) lo hi a 0
  | [], lo, hi, a, z, h => h.1
  | e :: l, lo, hi, a, z, ⟨x, m, y, h1, h2, h3⟩ => by
    refine ⟨⟨x, asl_X⟩, m, y, ?_, h2, h1, ?_⟩
    · rcases h3 with h3 | h3
      · exact h3.2.2.2
      · exact AR_le h3.2
    · rcases h3 with ⟨rfl, h3, -⟩ | h3
      · exact h3
      · exact AR_fwd h3.2
theorem AR_snoc {s s' : MS} {K : List Int} {e : EX} {n hi' : Int} (hx : isX e = true) : ∀ {l : List EX} {lo hi a z : Int}, AR s K l lo hi a z → NE s' K e hi hi' n (frm e) → s' 34 n = -1 → (∀ k i, 28 ≤ k → k ≤ 36 → lo ≤ i → i < hi → (l ≠ [] → ¬ (k = 34 ∧ i = z)) → s' k i = s k i) → (l ≠ [] → s' 34 z = n) → AR s' K (l ++ [e]) lo hi' (if l = [] then n else a) n
  | [], lo, hi, a, z, h, h1, h2, g, _ => ⟨hx, hi', -1, by rw [if_pos rfl]; exact h1.wk h.2.2 (Int.le_refl _), by rw [if_pos rfl]; exact h2, Or.inl ⟨rfl, rfl, by rw [if_pos rfl], Int.le_refl _⟩⟩
  | f :: l, lo, hi, a, z, ⟨x, m, y, k1, k2, k3⟩, h1, h2, g, hz => by
    have i1 := NE_in x k1
    rw [if_neg (by simp)]
    rcases k3 with ⟨rfl, -, rfl, hm⟩ | ⟨hl, k3⟩
    · have w : NE s' K f lo m z (frm f) := by
        have := NE.root (s' := s') x k1 (fun k i a b c d q => g k i a b c (by omega) (fun _ u => (q u.2).2 u.1))
        rw [g 30 z (by decide) (by decide) (by omega) (by omega) (fun _ u => by omega), NE_30 x k1] at this
        exact this
      refine ⟨x, m, n, w, hz (by simp), Or.inr ⟨by simp, ?_⟩⟩
      exact ⟨hx, hi', -1, h1.wk hm (Int.le_refl _), h2, Or.inl ⟨rfl, rfl, rfl, Int.le_refl _⟩⟩
    · have hin := AR_in hl k3
      refine ⟨x, m, y, k1.ag (fun k i a b c d => g k i a b c (by omega) (fun _ u => by omega)), (g 34 a (by decide) (by decide) (by omega) (by omega) (fun _ u => by omega)).trans k2, Or.inr ⟨by simp, ?_⟩⟩
      have := AR_snoc hx k3 h1 h2 (fun k i a b c d q => g k i a b (by omega) d (fun _ => q hl)) (fun _ => hz (by simp))
      rw [if_neg hl] at this
      exact this
/-- below some marks all is as it was -/
def AgB (s s' : MS) (hi σ δ d : Int) : Prop := (∀ k i, 28 ≤ k → k ≤ 36 → i < hi → s' k i = s k i) ∧ (∀ i, i < σ → s' 50 i = s 50 i) ∧ (∀ i, i < δ → s' 52 i = s 52 i) ∧ (∀ k i, (k = 55 ∨ k = 56 ∨ k = 61 ∨ k = 62) → i ≤ d → s' k i = s k i) ∧ ∀ i, i < d → s' 57 i = s 57 i
theorem PEr.ag {s s' : MS} {K : List Int} {b : Option Nat} {σb δb lb d : Int} : ∀ {pe : PD} {σ δ hi : Int}, PEr s K b σb δb lb pe σ δ hi → AgB s s' hi σ δ d → PEr s' K b σb δb lb pe σ δ hi
  | [], σ, δ, hi, h, g => h
  | x :: l, σ, δ, hi, ⟨⟨h1, h2, h3, h4⟩, n, m, h5, h6, h7⟩, g => by
    have i1 := NE_in h3 h6
    exact ⟨⟨(g.2.1 _ (by omega)).trans h1, h2, h3, h4⟩, n, m, (g.2.2.1 _ (by omega)).trans h5, h6.ag (fun k i a b c d => g.1 k i a b d), h7.ag ⟨fun k i a b c => g.1 k i a b (by omega), fun i c => g.2.1 i (by omega), fun i c => g.2.2.1 i (by omega), g.2.2.2.1, g.2.2.2.2⟩⟩
theorem PEr_lb {s : MS} {K : List Int} {b : Option Nat} {σb δb lb : Int} : ∀ {pe : PD} {σ δ hi : Int}, PEr s K b σb δb lb pe σ δ hi → lb ≤ hi ∧ σb ≤ σ ∧ δb ≤ δ ∧ σ - σb = pe.length ∧ δ - δb = pe.length
  | [], σ, δ, hi, h => by
    obtain ⟨h1, h2, h3⟩ := h
    refine ⟨h3, by omega, by omega, ?_, ?_⟩
    · show σ - σb = ((0 : Nat) : Int); omega
    · show δ - δb = ((0 : Nat) : Int); omega
  | x :: l, σ, δ, hi, ⟨⟨h1, h2, h3, h4⟩, n, m, h5, h6, h7⟩ => by
    have i1 := NE_in h3 h6
    have := PEr_lb h7
    rw [List.length_cons]
    omega
theorem FRr.ag {s s' : MS} {K : List Int} {n0 : Int} : ∀ {fs : List BF} {σ δ hi : Int}, FRr s K n0 fs σ δ hi → AgB s s' hi σ δ fs.length → FRr s' K n0 fs σ δ hi
  | [], σ, δ, hi, h, g => h
  | x :: fs, σ, δ, hi, ⟨⟨h1, h2, h3, h4, h5⟩, m, σb, δb, lb, h6, h7, h8, h9⟩, g => by
    rw [List.length_cons] at g
    obtain ⟨g1, g2, g3, g4, g5⟩ := g
    have hb := PEr_lb h8
    have gl : AgB s s' lb σb δb fs.length := ⟨fun k i a b c => g1 k i a b (by omega), fun i c => g2 i (by omega), fun i c => g3 i (by omega), fun k i a c => g4 k i a (by omega), fun i c => g5 i (by omega)⟩
    refine ⟨⟨(g2 _ (by omega)).trans h1, (g4 61 _ (by omega) (by omega)).trans h2, (g5 _ (by omega)).trans h3, h4, h5⟩, m, σb, δb, lb, h6, ?_, h8.ag (d := fs.length) ⟨fun k i a b c => g1 k i a b (by omega), fun i c => g2 i (by omega), fun i c => g3 i (by omega), fun k i a c => g4 k i a (by omega), fun i c => g5 i (by omega)⟩, h9.ag gl⟩
    cases e : x.2.2 with
    | inl o =>
      rw [e] at h7
      exact ⟨(g4 55 _ (by omega) (by omega)).trans h7.1, (g4 62 _ (by omega) (by omega)).trans h7.2⟩
    | inr y =>
      rw [e] at h7
      obtain ⟨c, a, z, k1, k2, k3, ⟨k4, k5, k6, k7, k8⟩, k9⟩ := h7
      exact ⟨c, a, z, (g4 55 _ (by omega) (by omega)).trans k1, (g4 56 _ (by omega) (by omega)).trans k2, k3, ⟨(g1 28 _ (by decide) (by decide) k3.2).trans k4, (g1 29 _ (by decide) (by decide) k3.2).trans k5, (g1 30 _ (by decide) (by decide) k3.2).trans k6, (g1 31 _ (by decide) (by decide) k3.2).trans k7, (g1 34 _ (by decide) (by decide) k3.2).trans k8⟩, k9.ag (fun k i a b _ c => g1 k i a b c)⟩
/-- what the reading of an expr may touch -/
def ZE (n0 : Int) : Nat → Int → Prop := fun k i => ((28 ≤ k ∧ k ≤ 36) ∧ n0 ≤ i) ∨ k = 26 ∨ k = 27 ∨ (50 ≤ k ∧ k ≤ 63)
def SeqR (s : MS) (K : List Int) : Prop := K.length ≤ 200 ∧ ∀ i : Nat, i ≤ K.length + 2 → s 24 i = kd K i
/-- the state, but for the place -/
def XS0 (s0 s : MS) (K : List Int) (n0 nb : Int) (t : SYs) : Prop :=
  (SeqR s K ∧ Fmz (ZE n0) s0 s ∧ t.2.2.2.2.2 ≤ K.length ∧ (n0 ≤ s 27 0 ∧ 0 ≤ n0) ∧ nb + K.length ≤ n0 + 200 ∧ nb + K.length < 1600) ∧
  (s 60 0 = bgi t.2.2.2.1 ∧ s 54 0 = (t.1.length : Int) ∧ s 57 (t.1.length : Int) = b01 t.2.2.1) ∧
  ∃ σ δ hi σb δb lb : Int, (s 51 0 = σ ∧ δ + t.1.length = σ ∧ 0 ≤ δ ∧ s 27 0 + σ + nb1 t.2.2.2.1 + nbF t.1 ≤ nb + t.2.2.2.2.2 ∧ hi ≤ s 27 0) ∧ PEr s K (bs t.1) σb δb lb t.2.1 σ δ hi ∧ FRr s K n0 t.1 σb δb lb ∧
    match t.2.2.2.2.1 with
    | none => s 53 0 = δ ∧ nxt (bs t.1) t.2.1 (t.2.2.2.1.getD t.2.2.2.2.2) ∧ ∀ q, t.2.2.2.1 = some q → t.2.2.2.2.2 = q + 1
    | some e => t.2.2.2.1 = none ∧ s 53 0 = δ + 1 ∧ ∃ n, s 52 δ = n ∧ isX e = true ∧ NE s K e hi (s 27 0) n (frm e) ∧ s 34 n = -1 ∧ nxt (bs t.1) t.2.1 (frm e)
def XS (s0 s : MS) (K : List Int) (n0 nb : Int) (t : SYs) : Prop := XS0 s0 s K n0 nb t ∧ s 26 0 = t.2.2.2.2.2
theorem Fmz.ex {Z : Nat → Int → Prop} {s0 s s' : MS} (f : Fmz Z s0 s) (g : ∀ k i, ¬ Z k i → s' k i = s k i) : Fmz Z s0 s' := fun k i h => (g k i h).trans (f k i h)
theorem SeqR.ex {s s' : MS} {K : List Int} (h : SeqR s K) (g : ∀ i, s' 24 i = s 24 i) : SeqR s' K := ⟨h.1, fun i hi => (g i).trans (h.2 i hi)⟩
theorem FRr_lb {s : MS} {K : List Int} {n0 : Int} : ∀ {fs : List BF} {σ δ hi : Int}, FRr s K n0 fs σ δ hi → n0 ≤ hi ∧ 0 ≤ δ ∧ (fs.length : Int) ≤ σ
  | [], σ, δ, hi, ⟨h1, h2, h3⟩ => ⟨h3, by omega, by show ((0 : Nat) : Int) ≤ σ; omega⟩
  | x :: fs, σ, δ, hi, ⟨h1, m, σb, δb, lb, h6, h7, h8, h9⟩ => by
    have := PEr_lb h8
    have := FRr_lb h9
    rw [List.length_cons]
    omega
section Ops
variable {s0 s : MS} {K : List Int} {n0 nb : Int} {fs : List BF} {pe : PD} {cm : Bool} {bg : Option Nat} {e : EX} {p : Nat}
theorem X_pair {x : EX × Nat} (h : XS0 s0 s K n0 nb (fs, x :: pe, cm, none, some e, p)) : Ok (M_pair s) fun s' => XS0 s0 s' K n0 nb (fs, pe, cm, none, some (.add x.1 e), p) ∧ s' 51 0 = s 51 0 - 1 ∧ (∀ k, k = 26 ∨ k = 58 ∨ k = 63 → s' k 0 = s k 0) := by
  obtain ⟨⟨a1, a2, a3, a4, a5, a6⟩, ⟨b1, b2, b3⟩, σ, δ, hi, σb, δb, lb, ⟨c1, c2, c3, c4, c5⟩, ⟨⟨d1, d2, d3, d4⟩, n1, m, d5, d6, d7⟩, d8, d9, d10, n, d11, d12, d13, d14, d15⟩ := h
  dsimp only at a3 b2 b3 c2 c4 d8 d15
  have hF := nbF_pos (l := fs)
  have hL := PEr_lb d7
  have hx := NE_in d3 d6
  have hy := NE_in d12 d13
  have hz : nb1 (none : Option Nat) = 0 := rfl
  have e1 : s 52 (s 53 0 - 2) = n1 := by rw [d10, ← d5]; congr 1; omega
  have e2 : s 52 (s 53 0 - 1) = n := by rw [d10, ← d11]; congr 1; omega
  have e3 : s 50 (s 51 0 - 1) = kd K x.2 := by rw [c1]; exact d1
  have lb0 := FRr_lb d8
  refine (m_pair (s := s) (by omega) (by omega) (by omega) (by rw [e1]; omega)).imp fun s' h => ?_
  rw [e1, e2, e3] at h
  obtain ⟨f1, f2, f3, ⟨f4, f5, f6, f7, f8, f9⟩, f10, f11⟩ := h
  have gN : ∀ k i, 28 ≤ k → k ≤ 36 → i < s 27 0 → s' k i = s k i := fun k i a b c => f11 k i (by omega) (by omega) (by omega)
  have gB : ∀ d : Int, AgB s s' (s 27 0) σ (δ - 1) d := fun d => ⟨gN, fun i c => f11 50 i (by omega) (by omega) (by omega), fun i c => f11 52 i (by omega) (by omega) (by omega), fun k i a c => f11 k i (by omega) (by omega) (by omega), fun i c => f11 57 i (by omega) (by omega) (by omega)⟩
  refine ⟨⟨⟨a1.ex (fun i => f11 24 i (by omega) (by omega) (by omega)), a2.ex (fun k i z => f11 k i (fun y => z ?_) (fun y => z ?_) (fun y => z ?_)), a3, ⟨by omega, a4.2⟩, a5, a6⟩, ⟨(f11 60 0 (by omega) (by omega) (by omega)).trans b1, (f11 54 0 (by omega) (by omega) (by omega)).trans b2, (f11 57 _ (by omega) (by omega) (by omega)).trans b3⟩, σ - 1, δ - 1, m, σb, δb, lb, ⟨by omega, by dsimp only; omega, by omega, by dsimp only; omega, by omega⟩, d7.ag (d := 0) ⟨fun k i a b c => gN k i a b (by omega), fun i c => (gB 0).2.1 i (by omega), (gB 0).2.2.1, (gB 0).2.2.2.1, (gB 0).2.2.2.2⟩, d8.ag ⟨fun k i a b c => gN k i a b (by omega), fun i c => (gB 0).2.1 i (by omega), fun i c => (gB 0).2.2.1 i (by omega), fun k i a c => (gB (fs.length)).2.2.2.1 k i a c, fun i c => (gB (fs.length)).2.2.2.2 i c⟩, d9, by omega, s 27 0, ?_, rfl, ?_, f9, d4⟩, by omega, fun k hk => f11 k 0 (by omega) (by omega) (by omega)⟩
  · unfold ZE; omega
  · unfold ZE; omega
  · unfold ZE; omega
  · rw [show δ - 1 = s 53 0 - 2 by omega]; exact f10
  · have e4 : frm e = x.2 + 1 := d15
    refine ⟨⟨d3, d12⟩, hi, s 27 0, n1, n, by omega, ⟨f4, by rw [f5, e4, Nat.add_sub_cancel], ?_, f7, f8⟩, d6.ag (fun k i a b _ c => gN k i a b (by omega)), d13.ag (fun k i a b _ c => gN k i a b c)⟩
    rw [f6, NE_30 d3 d6]; rfl
/-- all pairs of a rank at least are made -/
theorem X_pairAll {r : Nat} (hr : 1 ≤ r) (h : XS0 s0 s K n0 nb (fs, pe, cm, none, some e, p)) : Ok (M_pairAll s r) fun s' => XS0 s0 s' K n0 nb (fs, (red K r pe e).1, cm, none, some (red K r pe e).2, p) ∧ ∀ k, k = 26 ∨ k = 58 ∨ k = 63 → s' k 0 = s k 0 := by
  unfold M_pairAll
  refine Ok_bind.mpr ((lp_ok (F := B_pairAll_0 r) (μ := fun a => (a 51 0).toNat) (I := fun a => ∃ pe' e', XS0 s0 a K n0 nb (fs, pe', cm, none, some e', p) ∧ red K r pe' e' = red K r pe e ∧ ∀ k, k = 26 ∨ k = 58 ∨ k = 63 → a k 0 = s k 0) (P := fun _ s' => XS0 s0 s' K n0 nb (fs, (red K r pe e).1, cm, none, some (red K r pe e).2, p) ∧ ∀ k, k = 26 ∨ k = 58 ∨ k = 63 → s' k 0 = s k 0) (fun rec a hI ih => ?_) FU s ⟨pe, e, h, rfl, fun _ _ => rfl⟩ ?_).imp fun s' h => Ok_some.mpr h)
  · obtain ⟨pe', e', h, hq, hk⟩ := hI
    unfold B_pairAll_0
    have h' := h
    obtain ⟨⟨a1, a2, a3, a4, a5, a6⟩, ⟨b1, b2, b3⟩, σ, δ, hi, σb, δb, lb, ⟨c1, c2, c3, c4, c5⟩, d7, d8, d9, d10, n, d11, d12, d13, d14, d15⟩ := h
    dsimp only at a3 b2 b3 c2 c4 d7 d8 d15
    have hF := nbF_pos (l := fs)
    have hL := PEr_lb d7
    have lb0 := FRr_lb d8
    have hz : nb1 (none : Option Nat) = 0 := rfl
    have fin : red K r pe' e' = (pe', e') → Ok (some a) fun s' => XS0 s0 s' K n0 nb (fs, (red K r pe e).1, cm, none, some (red K r pe e).2, p) ∧ ∀ k, k = 26 ∨ k = 58 ∨ k = 63 → s' k 0 = s k 0 := fun q => Ok_some.mpr ⟨by rw [← hq, q]; exact h', hk⟩
    by_cases q : 0 < a 51 0
    · rw [if_pos q, wr_id' (by omega) (by omega), rd_50 (by omega) (by omega), Option.bind_some, m_rank, Option.bind_some]
      cases pe' with
      | nil =>
        obtain ⟨rfl, rfl, -⟩ := d7
        cases fs with
        | nil => have := d8.1; omega
        | cons x l =>
          have z : a 50 (a 51 0 - 1) = 0 := by rw [c1]; exact d8.1.1
          rw [z, if_pos (by show ((rk 0 : Nat) : Int) < r; have : rk 0 = 0 := rfl; omega)]
          exact fin rfl
      | cons x l =>
        have z : a 50 (a 51 0 - 1) = kd K x.2 := by rw [c1]; exact d7.1.1
        rw [z]
        by_cases q2 : r ≤ rk (kd K x.2)
        · rw [if_neg (by omega)]
          refine (X_pair h').bd fun s' hs => ?_
          refine ih _ ⟨l, .add x.1 e', hs.1, ?_, fun k z => (hs.2.2 k z).trans (hk k z)⟩ (by rw [hs.2.1]; omega)
          rw [← hq]
          exact (if_pos q2).symm
        · rw [if_pos (by omega)]
          exact fin (if_neg q2)
    · rw [if_neg q]
      cases pe' with
      | nil => exact fin rfl
      | cons x l => rw [List.length_cons] at hL; omega
  · obtain ⟨⟨a1, a2, a3, a4, a5, a6⟩, ⟨b1, b2, b3⟩, σ, δ, hi, σb, δb, lb, ⟨c1, c2, c3, c4, c5⟩, -⟩ := h
    dsimp only at a3 c2 c4
    have hF := nbF_pos (l := fs)
    have hz : nb1 (none : Option Nat) = 0 := rfl
    exact FU_lt (by omega)
/-- a value is done, the ! ahead of it not yet -/
def VS (s0 s : MS) (K : List Int) (n0 nb : Int) (fs : List BF) (pe : PD) (cm : Bool) (b : Option Nat) (V : EX) (v : Int) (p : Nat) : Prop :=
  (SeqR s K ∧ Fmz (ZE n0) s0 s ∧ p ≤ K.length ∧ (n0 ≤ s 27 0 ∧ 0 ≤ n0) ∧ nb + K.length ≤ n0 + 200 ∧ nb + K.length < 1600) ∧
  (s 60 0 = -1 ∧ s 54 0 = (fs.length : Int) ∧ s 57 (fs.length : Int) = b01 cm) ∧
  ∃ σ δ hi σb δb lb : Int, (s 51 0 = σ ∧ δ + fs.length = σ ∧ 0 ≤ δ ∧ s 27 0 + σ + nb1 b + nbF fs ≤ nb + p ∧ hi ≤ s 27 0) ∧ PEr s K (bs fs) σb δb lb pe σ δ hi ∧ FRr s K n0 fs σb δb lb ∧
    s 53 0 = δ ∧ isX V = true ∧ NE s K V hi (s 27 0) v (frm V) ∧ s 34 v = -1 ∧ nxt (bs fs) pe (b.getD (frm V)) ∧ ∀ q, b = some q → frm V = q + 1
theorem X_put {V : EX} {v : Int} (h : VS s0 s K n0 nb fs pe cm bg V v p) : Ok (M_putPlain s v (bgi bg)) fun s' => XS0 s0 s' K n0 nb (fs, pe, cm, none, some (putp bg V), p) ∧ ∀ k, k = 26 ∨ k = 58 ∨ k = 63 → s' k 0 = s k 0 := by
  obtain ⟨⟨a1, a2, a3, a4, a5, a6⟩, ⟨b1, b2, b3⟩, σ, δ, hi, σb, δb, lb, ⟨c1, c2, c3, c4, c5⟩, d7, d8, d9, d12, d13, d14, d15, d16⟩ := h
  have hF := nbF_pos (l := fs)
  have hL := PEr_lb d7
  have lb0 := FRr_lb d8
  have hy := NE_in d12 d13
  unfold M_putPlain
  cases bg with
  | none =>
    have hz : nb1 (none : Option Nat) = 0 := rfl
    rw [show bgi (none : Option Nat) = -1 from rfl, if_pos rfl, Option.bind_some]
    unfold M_put
    simp (disch := omega) only [bd1, Option.bind_some, wr_id', up_o, up_hit, rd_52, wt_52]
    simp only [Ok_some]
    have g0 : ∀ k i, ¬ (k = 52 ∧ i = s 53 0) → ¬ (k = 53 ∧ i = 0) → up (up s 52 (s 53 0) v) 53 0 (s 53 0 + 1) k i = s k i := fun k i x y => by simp (disch := omega) only [up_o]
    generalize hs' : up (up s 52 (s 53 0) v) 53 0 (s 53 0 + 1) = s' at g0 ⊢
    have e53 : s' 53 0 = s 53 0 + 1 := by rw [← hs']; simp (disch := omega) only [up_hit]
    have e52 : s' 52 (s 53 0) = v := by rw [← hs']; simp (disch := omega) only [up_o, up_hit]
    have gN : ∀ k i, 28 ≤ k → k ≤ 36 → i < s 27 0 → s' k i = s k i := fun k i a b c => g0 k i (by omega) (by omega)
    have gB : ∀ d : Int, AgB s s' (s 27 0) σ δ d := fun d => ⟨gN, fun i c => g0 50 i (by omega) (by omega), fun i c => g0 52 i (by omega) (by omega), fun k i a c => g0 k i (by omega) (by omega), fun i c => g0 57 i (by omega) (by omega)⟩
    have e27 : s' 27 0 = s 27 0 := g0 27 0 (by omega) (by omega)
    refine ⟨⟨⟨a1.ex (fun i => g0 24 i (by omega) (by omega)), a2.ex (fun k i z => g0 k i (fun y => z ?_) (fun y => z ?_)), a3, ⟨by omega, a4.2⟩, a5, a6⟩, ⟨(g0 60 0 (by omega) (by omega)).trans b1, (g0 54 0 (by omega) (by omega)).trans b2, (g0 57 _ (by omega) (by omega)).trans b3⟩, σ, δ, hi, σb, δb, lb, ⟨(g0 51 0 (by omega) (by omega)).trans c1, c2, c3, by dsimp only; omega, by omega⟩, d7.ag (d := 0) ⟨fun k i a b c => gN k i a b (by omega), (gB 0).2.1, (gB 0).2.2.1, (gB 0).2.2.2.1, (gB 0).2.2.2.2⟩, d8.ag ⟨fun k i a b c => gN k i a b (by omega), fun i c => (gB 0).2.1 i (by omega), fun i c => (gB 0).2.2.1 i (by omega), (gB (fs.length)).2.2.2.1, (gB (fs.length)).2.2.2.2⟩, rfl, by omega, v, by rw [← d9]; exact e52, d12, ?_, (gN 34 v (by decide) (by decide) hy.2).trans d14, d15⟩, fun k hk => g0 k 0 (by omega) (by omega)⟩
    · unfold ZE; omega
    · unfold ZE; omega
    · rw [e27]; exact d13.ag (fun k i a b _ c => gN k i a b c)
  | some q =>
    have hz : nb1 (some q) = 1 := rfl
    have e4 : frm V = q + 1 := d16 q rfl
    rw [show bgi (some q) = (q : Int) from rfl, if_neg (by omega)]
    refine Ok_bind.mpr (Ok_bind.mpr ((m_make (s := s) (by omega)).imp ?_))
    rintro ⟨n, s1⟩ ⟨rfl, m1, ⟨m2, m3, m4, m5, m6, m7, m8, m9, m10⟩, m11⟩
    dsimp only at m1 m2 m3 m4 m5 m6 m7 m8 m9 m10 m11 ⊢
    have e53 : s1 53 0 = s 53 0 := m11 53 0 (by omega) (by omega)
    unfold M_put
    simp (disch := omega) only [bd1, Option.bind_some, wr_id', up_o, up_hit, rd_31, wt_31, rd_52, wt_52, e53, Ok_some]
    have g0 : ∀ k i, ¬ (k = 52 ∧ i = s 53 0) → ¬ ((k = 53 ∨ k = 27) ∧ i = 0) → ¬ ((28 ≤ k ∧ k ≤ 36) ∧ i = s 27 0) → up (up (up s1 31 (s 27 0) v) 52 (s 53 0) (s 27 0)) 53 0 (s 53 0 + 1) k i = s k i := fun k i x y w => by
      simp (disch := omega) only [up_o]
      exact m11 k i (by omega) (by omega)
    generalize hs' : up (up (up s1 31 (s 27 0) v) 52 (s 53 0) (s 27 0)) 53 0 (s 53 0 + 1) = s' at g0 ⊢
    have e53' : s' 53 0 = s 53 0 + 1 := by rw [← hs']; simp (disch := omega) only [up_hit]
    have e52 : s' 52 (s 53 0) = s 27 0 := by rw [← hs']; simp (disch := omega) only [up_o, up_hit]
    have e27 : s' 27 0 = s 27 0 + 1 := by rw [← hs']; simp (disch := omega) only [up_o]; exact m1
    have h31 : s' 31 (s 27 0) = v := by rw [← hs']; simp (disch := omega) only [up_o, up_hit]
    have hne : ∀ k, ¬ k = 31 → k ≤ 36 → s' k (s 27 0) = s1 k (s 27 0) := fun k a b => by rw [← hs']; simp (disch := omega) only [up_o]
    have gN : ∀ k i, 28 ≤ k → k ≤ 36 → i < s 27 0 → s' k i = s k i := fun k i a b c => g0 k i (by omega) (by omega) (by omega)
    have gB : ∀ d : Int, AgB s s' (s 27 0) σ δ d := fun d => ⟨gN, fun i c => g0 50 i (by omega) (by omega) (by omega), fun i c => g0 52 i (by omega) (by omega) (by omega), fun k i a c => g0 k i (by omega) (by omega) (by omega), fun i c => g0 57 i (by omega) (by omega) (by omega)⟩
    refine ⟨⟨⟨a1.ex (fun i => g0 24 i (by omega) (by omega) (by omega)), a2.ex (fun k i z => g0 k i (fun y => z ?_) (fun y => z ?_) (fun y => z ?_)), a3, ⟨by omega, a4.2⟩, a5, a6⟩, ⟨(g0 60 0 (by omega) (by omega) (by omega)).trans b1, (g0 54 0 (by omega) (by omega) (by omega)).trans b2, (g0 57 _ (by omega) (by omega) (by omega)).trans b3⟩, σ, δ, hi, σb, δb, lb, ⟨(g0 51 0 (by omega) (by omega) (by omega)).trans c1, c2, c3, by dsimp only; rw [show nb1 (none : Option Nat) = 0 from rfl]; omega, by omega⟩, d7.ag (d := 0) ⟨fun k i a b c => gN k i a b (by omega), (gB 0).2.1, (gB 0).2.2.1, (gB 0).2.2.2.1, (gB 0).2.2.2.2⟩, d8.ag ⟨fun k i a b c => gN k i a b (by omega), fun i c => (gB 0).2.1 i (by omega), fun i c => (gB 0).2.2.1 i (by omega), (gB (fs.length)).2.2.2.1, (gB (fs.length)).2.2.2.2⟩, rfl, by omega, s 27 0, by rw [← d9]; exact e52, rfl, ⟨d12, s 27 0, v, by omega, ⟨(hne 28 (by decide) (by decide)).trans m2, ?_, ?_, h31, (hne 32 (by decide) (by decide)).trans m6⟩, d13.ag (fun k i a b _ c => gN k i a b c)⟩, (hne 34 (by decide) (by decide)).trans m8, ?_⟩, fun k hk => g0 k 0 (by omega) (by omega) (by omega)⟩
    · unfold ZE; omega
    · unfold ZE; omega
    · unfold ZE; omega
    · rw [hne 29 (by decide) (by decide), m3, e4, Nat.add_sub_cancel]
    · rw [hne 30 (by decide) (by decide), m4]
      show (q : Int) = ((frm V - 1 : Nat) : Int)
      rw [e4, Nat.add_sub_cancel]
    · show nxt (bs fs) pe (frm V - 1)
      rw [e4, Nat.add_sub_cancel]
      exact d15
end Ops
