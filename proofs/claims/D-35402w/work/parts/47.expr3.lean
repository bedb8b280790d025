/-! N4: the model reads an expr: units, signs, the loop -/
set_option maxRecDepth 100000
set_option linter.unusedVariables false
section Ops3
variable {s0 s : MS} {K : List Int} {n0 nb : Int} {fs : List BF} {pe : PD} {cm : Bool} {bg : Option Nat} {e : EX} {p : Nat}
theorem AgB.all {s s' : MS} (h : ∀ k i, ¬ (k = 26 ∨ k = 58 ∨ k = 59 ∨ k = 63) → s' k i = s k i) {a b c d : Int} : AgB s s' a b c d :=
  ⟨fun k i x y z => h k i (by omega), fun i z => h 50 i (by omega), fun i z => h 52 i (by omega), fun k i x y => h k i (by omega), fun i z => h 57 i (by omega)⟩
theorem XS0.same {s' : MS} {t : SYs} (hx : XS0 s0 s K n0 nb t) (h : ∀ k i, ¬ (k = 26 ∨ k = 58 ∨ k = 59 ∨ k = 63) → s' k i = s k i) : XS0 s0 s' K n0 nb t := by
  obtain ⟨⟨a1, a2, a3, a4, a5, a6⟩, ⟨b1, b2, b3⟩, σ, δ, hi, σb, δb, lb, ⟨c1, c2, c3, c4, c5⟩, d7, d8, d9⟩ := hx
  have e27 : s' 27 0 = s 27 0 := h 27 0 (by omega)
  refine ⟨⟨a1.ex (fun i => h 24 i (by omega)), a2.ex (fun k i z => h k i (fun y => z ?_)), a3, by rw [e27]; exact a4, a5, a6⟩, ⟨(h 60 0 (by omega)).trans b1, (h 54 0 (by omega)).trans b2, (h 57 _ (by omega)).trans b3⟩, σ, δ, hi, σb, δb, lb, ⟨(h 51 0 (by omega)).trans c1, c2, c3, by rw [e27]; exact c4, by rw [e27]; exact c5⟩, d7.ag (d := 0) (AgB.all h), d8.ag (AgB.all h), ?_⟩
  · unfold ZE; omega
  · obtain ⟨fs, pe, cm, bg, o, p⟩ := t
    cases o with
    | none =>
      obtain ⟨d9, d10, d11⟩ := d9
      exact ⟨(h 53 0 (by omega)).trans d9, d10, d11⟩
    | some e =>
      obtain ⟨d9, d10, n, d11, d12, d13, d14, d15⟩ := d9
      exact ⟨d9, (h 53 0 (by omega)).trans d10, n, (h 52 δ (by omega)).trans d11, d12, by rw [e27]; exact d13.ag (fun k i a b _ _ => h k i (by omega)), (h 34 n (by omega)).trans d14, d15⟩
theorem PEr_hi {s : MS} {b : Option Nat} {σb δb lb hi' : Int} : ∀ {pe : PD} {σ δ hi : Int}, PEr s K b σb δb lb pe σ δ hi → hi ≤ hi' → PEr s K b σb δb lb pe σ δ hi'
  | [], σ, δ, hi, h, q => ⟨h.1, h.2.1, by have := h.2.2; omega⟩
  | x :: l, σ, δ, hi, ⟨h1, n, m, h5, h6, h7⟩, q => ⟨h1, n, m, h5, h6.wk (Int.le_refl _) q, h7⟩
theorem jn_e {α β : Type} {F : α → β} {G : (α → β) → β} : jn F G = G F := rfl
theorem ite2 {α : Type} {c d : Prop} [Decidable c] [Decidable d] {x y : α} : (if c then (if d then x else y) else x) = if c ∧ ¬ d then y else x := by
  by_cases h : c <;> by_cases k : d <;> simp [h, k]
theorem ite3 {α : Type} {c d : Prop} [Decidable c] [Decidable d] {x y : α} : (if c then (if d then y else x) else x) = if c ∧ d then y else x := by
  by_cases h : c <;> by_cases k : d <;> simp [h, k]
theorem AR_wk {s : MS} : ∀ {l : List EX} {lo hi hi' a z : Int}, AR s K l lo hi a z → hi ≤ hi' → AR s K l lo hi' a z
  | [], lo, hi, hi', a, z, h, q => ⟨h.1, h.2.1, by have := h.2.2; omega⟩
  | e :: l, lo, hi, hi', a, z, ⟨x, m, y, h1, h2, h3⟩, q => by
    refine ⟨x, m, y, h1, h2, ?_⟩
    rcases h3 with ⟨k1, k2, k3, k4⟩ | h3
    · exact Or.inl ⟨k1, k2, k3, by omega⟩
    · exact Or.inr ⟨h3.1, AR_wk h3.2 q⟩
/-- a call is closed that was given nothing behind its ( -/
theorem X_close3 {x : PD × Bool} {b : Option Nat} {y : Nat × List EX} {pc : Int} (hp : p < K.length) (h : XS0 s0 s K n0 nb (((x, b, .inr y) :: fs), [], cm, none, none, p)) : Ok (M_closeBracket s 0 pc) fun s' => XS0 s0 s' K n0 nb (fs, x.1, x.2, none, some (putp b (.pow (asl y.2) y.1)), p + 1) ∧ ∀ k, k = 26 ∨ k = 58 ∨ k = 63 → s' k 0 = s k 0 := by
  unfold M_closeBracket
  obtain ⟨⟨a1, a2, a3, a4, a5, a6⟩, ⟨b1, b2, b3⟩, σ, δ, hi, σb, δb, lb, ⟨c1, c2, c3, c4, c5⟩, ⟨d1, d2, d3⟩, ⟨⟨e1, e2, e3, e4, e5⟩, m, σc, δc, lc, f1, ⟨c, ca, z, f2, f3, f4, ⟨f5, f6, f7, f8, f9⟩, f10⟩, f11, f12⟩, d9, d10, d11⟩ := h
  subst d1 d2
  dsimp only [List.length_cons] at a3 b2 b3 c2 c4 e1 e2 e3 e4 e5 f2 f3 f5 f6 f7 f8 f9 f10 f11 d9 d10
  have hF := nbF_pos (l := fs)
  have hb := nb1_pos (b := b)
  have hL := PEr_lb f11
  have lb0 := FRr_lb f12
  have hz : nb1 (none : Option Nat) = 0 := rfl
  have hc : nbF ((x, b, Sum.inr (α := Nat) y) :: fs) = nb1 b + nbF fs := rfl
  push_cast at b2 b3 c2
  have f2' : s 55 (s 54 0) = c := by rw [b2]; exact f2
  have f4' : s 61 (s 54 0) = bgi b := by rw [b2]; exact e2
  have pa : M_pairAll s 1 = some s := by
    unfold M_pairAll lp FU
    show (B_pairAll_0 1 (lp (B_pairAll_0 1) 999999) s).bind _ = _
    unfold B_pairAll_0
    rw [if_pos (by omega), wr_id' (by omega) (by omega), rd_50 (by omega) (by omega), Option.bind_some, m_rank, Option.bind_some, c1, e1, if_pos (by decide), Option.bind_some]
  rw [pa, Option.bind_some]
  simp (disch := omega) only [bd1, Option.bind_some, wr_id', up_o, up_hit, rd_55, wt_55, rd_61, wt_61, f2', f4', ite_true, ite_false, show c = -1 ↔ False from ⟨fun q => by omega, fun q => q.elim⟩]
  refine Ok_bind.mpr ((X_put (fs := fs) (pe := x.1) (cm := x.2) (bg := b) (V := .pow (asl y.2) y.1) (p := p + 1) ?_).imp fun s' g => Ok_some.mpr ⟨g.1, fun k z => (g.2 k z).trans ?_⟩)
  · have g0 : ∀ k i, ¬ (k = 51 ∧ i = 0) → ¬ (k = 54 ∧ i = 0) → up (up s 51 0 (s 51 0 - 1)) 54 0 (s 54 0 - 1) k i = s k i := fun k i x y => by simp (disch := omega) only [up_o]
    have h51 : up (up s 51 0 (s 51 0 - 1)) 54 0 (s 54 0 - 1) 51 0 = s 51 0 - 1 := by simp (disch := omega) only [up_o, up_hit]
    have h54 : up (up s 51 0 (s 51 0 - 1)) 54 0 (s 54 0 - 1) 54 0 = s 54 0 - 1 := up_hit
    generalize up (up s 51 0 (s 51 0 - 1)) 54 0 (s 54 0 - 1) = t at g0 h51 h54 ⊢
    have e27 : t 27 0 = s 27 0 := g0 27 0 (by omega) (by omega)
    have gA : ∀ A B C : Int, AgB s t A B C fs.length := fun A B C => ⟨fun k i a b c => g0 k i (by omega) (by omega), fun i c => g0 50 i (by omega) (by omega), fun i c => g0 52 i (by omega) (by omega), fun k i a c => g0 k i (by omega) (by omega), fun i c => g0 57 i (by omega) (by omega)⟩
    refine ⟨⟨a1.ex (fun i => g0 24 i (by omega) (by omega)), a2.ex (fun k i z => g0 k i (fun y => z ?_) (fun y => z ?_)), hp, ⟨by omega, a4.2⟩, a5, a6⟩, ⟨(g0 60 0 (by omega) (by omega)).trans b1, by omega, (g0 57 _ (by omega) (by omega)).trans e3⟩, σ - 1, δ, m, σc, δc, lc, ⟨by omega, by omega, c3, by omega, by omega⟩, f11.ag (gA _ _ _), f12.ag (gA _ _ _), (g0 53 0 (by omega) (by omega)).trans d9, rfl, ⟨asl_X, ca, by omega, ⟨(g0 28 c (by omega) (by omega)).trans f5, (g0 29 c (by omega) (by omega)).trans f6, (g0 30 c (by omega) (by omega)).trans f7, (g0 31 c (by omega) (by omega)).trans f8⟩, AR_fwd (z := z) ?_⟩, (g0 34 c (by omega) (by omega)).trans f9, e4, e5⟩
    · unfold ZE; omega
    · unfold ZE; omega
    · rw [e27]
      have q := f10.ag (s' := t) (fun k i a b _ _ => g0 k i (by omega) (by omega))
      exact AR_wk q (by omega)
  · simp (disch := omega) only [up_o]
/-- a bracket is entered -/
theorem X_enter {t : MS} {kn : Sum Nat (Nat × List EX)} {p' : Nat} (hp : p' ≤ K.length) (h : XS0 s0 s K n0 nb (fs, pe, cm, bg, none, p))
    (g : ∀ k i, ¬ (k = 26) → ¬ (k = 27 ∧ i = 0) → ¬ ((28 ≤ k ∧ k ≤ 36) ∧ i = s 27 0) → ¬ ((k = 51 ∨ k = 54 ∨ k = 60) ∧ i = 0) → ¬ (k = 50 ∧ i = s 51 0) → ¬ ((k = 55 ∨ k = 56 ∨ k = 57 ∨ k = 61 ∨ k = 62) ∧ i = (fs.length : Int) + 1) → t k i = s k i)
    (t51 : t 51 0 = s 51 0 + 1) (t54 : t 54 0 = s 54 0 + 1) (t60 : t 60 0 = -1) (t50 : t 50 (s 51 0) = 0) (t56 : t 56 ((fs.length : Int) + 1) = -1) (t57 : t 57 ((fs.length : Int) + 1) = 0) (t61 : t 61 ((fs.length : Int) + 1) = bgi bg)
    (hk : match kn with
      | .inl o => o = p ∧ p' = p + 1 ∧ t 27 0 = s 27 0 ∧ t 55 ((fs.length : Int) + 1) = -1 ∧ t 62 ((fs.length : Int) + 1) = o
      | .inr y => y = (p, []) ∧ p' = p + 2 ∧ t 27 0 = s 27 0 + 1 ∧ t 55 ((fs.length : Int) + 1) = s 27 0 ∧ t 28 (s 27 0) = 14 ∧ t 29 (s 27 0) = p ∧ t 30 (s 27 0) = p ∧ t 31 (s 27 0) = -1 ∧ t 34 (s 27 0) = -1) :
    XS0 s0 t K n0 nb (((pe, cm), bg, kn) :: fs, [], false, none, none, p') := by
  obtain ⟨⟨a1, a2, a3, a4, a5, a6⟩, ⟨b1, b2, b3⟩, σ, δ, hi, σb, δb, lb, ⟨c1, c2, c3, c4, c5⟩, d7, d8, d9, d10, d11⟩ := h
  dsimp only at a3 b1 b2 b3 c2 c4 d7 d8 d10 d11
  have hF := nbF_pos (l := fs)
  have hb := nb1_pos (b := bg)
  have hL := PEr_lb d7
  have lb0 := FRr_lb d8
  have hz : nb1 (none : Option Nat) = 0 := rfl
  have hc : nbF (((pe, cm), bg, kn) :: fs) = nb1 bg + nbF fs := rfl
  have hn : (stB ((pe, cm), bg, kn) = p ∧ p + 1 ≤ p') ∧ s 27 0 ≤ t 27 0 ∧ t 27 0 + (p + 1) ≤ s 27 0 + p' := by
    cases kn with
    | inl o => obtain ⟨k1, k2, k3, -⟩ := hk; exact ⟨⟨k1, by omega⟩, by omega, by omega⟩
    | inr y => obtain ⟨k1, k2, k3, -⟩ := hk; rw [k1]; exact ⟨⟨rfl, by omega⟩, by omega, by omega⟩
  obtain ⟨⟨hs, hp'⟩, hn1, hn2⟩ := hn
  have gB : ∀ d : Int, d ≤ fs.length → AgB s t (s 27 0) σ δ d := fun d hd => ⟨fun k i a b c => g k i (by omega) (by omega) (by omega) (by omega) (by omega) (by omega), fun i c => g 50 i (by omega) (by omega) (by omega) (by omega) (by omega) (by omega), fun i c => g 52 i (by omega) (by omega) (by omega) (by omega) (by omega) (by omega), fun k i a c => g k i (by omega) (by omega) (by omega) (by omega) (by omega) (by omega), fun i c => g 57 i (by omega) (by omega) (by omega) (by omega) (by omega) (by omega)⟩
  have gS : ∀ H S D, H ≤ s 27 0 → S ≤ σ → D ≤ δ → AgB s t H S D fs.length := fun H S D h1 h2 h3 => ⟨fun k i a b c => (gB fs.length (Int.le_refl _)).1 k i a b (by omega), fun i c => (gB fs.length (Int.le_refl _)).2.1 i (by omega), fun i c => (gB fs.length (Int.le_refl _)).2.2.1 i (by omega), (gB fs.length (Int.le_refl _)).2.2.2.1, (gB fs.length (Int.le_refl _)).2.2.2.2⟩
  refine ⟨⟨a1.ex (fun i => g 24 i (by omega) (by omega) (by omega) (by omega) (by omega) (by omega)), a2.ex (fun k i z => g k i (fun y => z ?_) (fun y => z ?_) (fun y => z ?_) (fun y => z ?_) (fun y => z ?_) (fun y => z ?_)), hp, ⟨by omega, a4.2⟩, a5, a6⟩, ⟨t60, ?_, ?_⟩, σ + 1, δ, t 27 0, σ + 1, δ, t 27 0, ⟨by omega, ?_, c3, by dsimp only; omega, Int.le_refl _⟩, ⟨rfl, rfl, Int.le_refl _⟩, ⟨⟨?_, t61, ?_, ?_, ?_⟩, hi, σb, δb, lb, by omega, ?_, ?_, d8.ag (gS _ _ _ (by omega) (by omega) (by omega))⟩, (g 53 0 (by omega) (by omega) (by omega) (by omega) (by omega) (by omega)).trans d9, ?_, fun q z => by cases z⟩
  · unfold ZE; omega
  · unfold ZE; omega
  · unfold ZE; omega
  · unfold ZE; omega
  · unfold ZE; omega
  · unfold ZE; omega
  · show t 54 0 = (((_ :: fs : List BF).length : Nat) : Int)
    rw [List.length_cons]; push_cast; omega
  · show t 57 (((_ :: fs : List BF).length : Nat) : Int) = 0
    rw [List.length_cons]; push_cast; exact t57
  · dsimp only
    rw [List.length_cons]; push_cast; omega
  · rw [show σ + 1 - 1 = s 51 0 by omega]; exact t50
  · exact (g 57 _ (by omega) (by omega) (by omega) (by omega) (by omega) (by omega)).trans b3
  · rw [hs]; exact d10
  · rw [hs]; exact d11
  · cases kn with
    | inl o => obtain ⟨k1, k2, k3, k4, k5⟩ := hk; exact ⟨k4, k5⟩
    | inr y =>
      obtain ⟨k1, k2, k3, k4, k5, k6, k7, k8, k9⟩ := hk
      rw [k1]
      exact ⟨s 27 0, -1, -1, k4, t56, by omega, ⟨k5, k6, k7, k8, k9⟩, rfl, rfl, by omega⟩
  · rw [show σ + 1 - 1 = σ by omega]
    exact d7.ag (gS _ _ _ (by omega) (by omega) (by omega))
  · show ∀ o, bs (((pe, cm), bg, kn) :: fs) = some o → p' = o + 1
    intro o ho
    cases kn with
    | inl q => obtain ⟨k1, k2, -⟩ := hk; cases ho; omega
    | inr y => cases ho
/-- it failed at a place -/
def FX (s0 s : MS) (K : List Int) (n0 nb : Int) (q : Nat) : Prop := SeqR s K ∧ Fmz (ZE n0) s0 s ∧ s 26 0 = q ∧ n0 ≤ s 27 0 ∧ s 27 0 ≤ nb + q
def due1 (t : SYs) : Int := match t.2.2.2.2.1 with
  | none => 1
  | some _ => 0
def stR (s0 : MS) (K : List Int) (n0 nb : Int) (r : Sum PR SYs) (x : Int × MS) : Prop := match r with
  | .inl (.inl q) => x.1 = 0 ∧ x.2 58 0 = 1 ∧ FX s0 x.2 K n0 nb q
  | .inl (.inr y) => x.1 = 0 ∧ x.2 58 0 = 0 ∧ x.2 63 0 = 1 ∧ x.2 26 0 = y.2 ∧ ∃ pe cm e, XS0 s0 x.2 K n0 nb ([], pe, cm, none, some e, y.2) ∧ (red K 1 pe e).2 = y.1
  | .inr t => x.1 = due1 t ∧ x.2 58 0 = 0 ∧ x.2 63 0 = 0 ∧ XS s0 x.2 K n0 nb t
theorem XS0.pos {t : SYs} {v : Int} (hx : XS0 s0 s K n0 nb t) : XS0 s0 (up s 26 0 v) K n0 nb t := hx.same (fun k i z => by simp (disch := omega) only [up_o])
theorem bgi_e {b : Option Nat} : bgi b = -1 ↔ b = none := by
  cases b with
  | none => exact ⟨fun _ => rfl, fun _ => rfl⟩
  | some q => exact ⟨fun h => by have : (q : Int) = -1 := h; omega, fun h => by cases h⟩
theorem X_due (h : XS s0 s K n0 nb (fs, pe, cm, bg, none, p)) (h58 : s 58 0 = 0) (h63 : s 63 0 = 0) : Ok (M_takesUnit s (b01 (mayC K fs bg p))) fun x => stR s0 K n0 nb (duS K false fs pe cm bg p) x := by
  obtain ⟨h0, h26⟩ := h
  dsimp only at h26
  have h0' := h0
  obtain ⟨⟨a1, a2, a3, a4, a5, a6⟩, ⟨b1, b2, b3⟩, σ, δ, hi, σb, δb, lb, ⟨c1, c2, c3, c4, c5⟩, d7, d8, d9, d10, d11⟩ := h0'
  dsimp only at a3 b1 b2 b3 c2 c4 d7 d8 d10 d11
  have hF := nbF_pos (l := fs)
  have hb := nb1_pos (b := bg)
  have hL := PEr_lb d7
  have lb0 := FRr_lb d8
  have hl := a1.1
  have k0 : s 24 (p : Int) = kd K p := a1.2 p (by omega)
  have k1 : s 24 ((p : Int) + 1) = kd K (p + 1) := by have := a1.2 (p + 1) (by omega); push_cast at this; exact this
  have fin : ∀ {s' : MS} {fs' : List BF} {pe' : PD} {cm' : Bool} {e' : EX} {p' : Nat}, XS0 s0 s' K n0 nb (fs', pe', cm', none, some e', p') → s' 58 0 = 0 → s' 63 0 = 0 → s' 26 0 = p' → stR s0 K n0 nb (flS K false fs' pe' cm' e' p') (0, s') := fun x1 x2 x3 x4 => by
    unfold flS
    rw [if_neg (fun z => by cases z.1)]
    exact ⟨rfl, x2, x3, x1, x4⟩
  unfold M_takesUnit
  rw [h26, rd_24 (by omega) (by omega), Option.bind_some, k0, jn_e]
  dsimp only
  rw [ite2]
  unfold duS
  by_cases q1 : kd K p = 11 ∧ mayC K fs bg p = true
  · rw [if_pos q1, if_pos ⟨q1.1, by rw [q1.2]; decide⟩]
    have hpl := kd_eq q1.1 (by decide)
    have q2 := q1.2
    unfold mayC at q2
    simp only [Bool.and_eq_true, decide_eq_true_eq] at q2
    obtain ⟨⟨q3, q4⟩, q5⟩ := q2
    have q6 : bg = none := by cases bg with | none => rfl | some _ => cases q5
    subst q6
    have hpe : pe = [] := by
      cases pe with
      | nil => rfl
      | cons y l =>
        exfalso
        have z : p = y.2 + 1 := d10
        have z2 := d7.1.2.1
        rw [z, Nat.add_sub_cancel] at q4
        rw [q4] at z2
        exact absurd z2 (by decide)
    subst hpe
    cases fs with
    | nil => cases q3
    | cons x l =>
      obtain ⟨x, b, kn⟩ := x
      cases kn with
      | inl o => cases q3
      | inr y =>
        refine (X_close3 (pc := (p : Int)) hpl h0).bd fun s' hs => ?_
        obtain ⟨g1, g2⟩ := hs
        unfold bd1
        rw [Ok_some, g2 26 (by omega), h26, wr_id' (by omega) (by omega)]
        unfold clS
        dsimp only
        rw [show (none : Option EX).toList = [] from rfl, List.append_nil]
        refine fin g1.pos ?_ ?_ ?_
        · rw [up_o (by omega), g2 58 (by omega)]; exact h58
        · rw [up_o (by omega), g2 63 (by omega)]; exact h63
        · rw [up_hit]; push_cast; rfl
  · rw [if_neg q1, if_neg (fun z => q1 ⟨z.1, by cases hm : mayC K fs bg p with | true => rfl | false => rw [hm] at z; exact absurd rfl z.2⟩)]
    rw [jn_e]
    dsimp only
    rw [ite3, b1]
    by_cases q2 : kd K p = 22 ∧ bg = none
    · rw [if_pos q2, if_pos ⟨q2.1, bgi_e.mpr q2.2⟩]
      simp (disch := omega) only [bd1, Option.bind_some, wr_id', up_o, up_hit, h26]
      rw [Ok_some]
      have hpl := kd_eq q2.1 (by decide)
      obtain ⟨-, rfl⟩ := q2
      have g0 : ∀ k i, ¬ (k = 60 ∧ i = 0) → ¬ (k = 26 ∧ i = 0) → up (up s 60 0 (p : Int)) 26 0 ((p : Int) + 1) k i = s k i := fun k i x y => by simp (disch := omega) only [up_o]
      have h60 : up (up s 60 0 (p : Int)) 26 0 ((p : Int) + 1) 60 0 = p := by simp (disch := omega) only [up_o, up_hit]
      have h26' : up (up s 60 0 (p : Int)) 26 0 ((p : Int) + 1) 26 0 = (p : Int) + 1 := up_hit
      generalize up (up s 60 0 (p : Int)) 26 0 ((p : Int) + 1) = t at g0 h60 h26' ⊢
      have e27 : t 27 0 = s 27 0 := g0 27 0 (by omega) (by omega)
      have gA : ∀ A B C D : Int, AgB s t A B C D := fun A B C D => ⟨fun k i a b c => g0 k i (by omega) (by omega), fun i c => g0 50 i (by omega) (by omega), fun i c => g0 52 i (by omega) (by omega), fun k i a c => g0 k i (by omega) (by omega), fun i c => g0 57 i (by omega) (by omega)⟩
      have hz : nb1 (none : Option Nat) = 0 := rfl
      have hz1 : nb1 (some p) = 1 := rfl
      show (1 : Int) = 1 ∧ t 58 0 = 0 ∧ t 63 0 = 0 ∧ XS s0 t K n0 nb (fs, pe, cm, some p, none, p + 1)
      refine ⟨rfl, (g0 58 0 (by omega) (by omega)).trans h58, (g0 63 0 (by omega) (by omega)).trans h63, ⟨⟨a1.ex (fun i => g0 24 i (by omega) (by omega)), a2.ex (fun k i z => g0 k i (fun y => z ?_) (fun y => z ?_)), hpl, ⟨by omega, a4.2⟩, a5, a6⟩, ⟨h60, (g0 54 0 (by omega) (by omega)).trans b2, (g0 57 _ (by omega) (by omega)).trans b3⟩, σ, δ, hi, σb, δb, lb, ⟨(g0 51 0 (by omega) (by omega)).trans c1, c2, c3, by dsimp only; omega, by omega⟩, d7.ag (gA _ _ _ 0), d8.ag (gA _ _ _ _), (g0 53 0 (by omega) (by omega)).trans d9, d10, fun q hq => ?_⟩, h26'⟩
      · unfold ZE; omega
      · unfold ZE; omega
      · cases hq; rfl
    · rw [if_neg q2, if_neg (fun z => q2 ⟨z.1, bgi_e.mp z.2⟩)]
      by_cases q3 : kd K p = 10
      · rw [if_pos q3, if_pos q3]
        have hpl := kd_eq q3 (by decide)
        unfold M_openBracket
        simp (disch := omega) only [bd1, Option.bind_some, wr_id', up_o, up_hit, rd_50, wt_50, rd_55, wt_55, rd_56, wt_56, rd_57, wt_57, rd_61, wt_61, rd_62, wt_62, h26, b1, c1, b2]
        rw [Ok_some]
        refine ⟨rfl, ?_, ?_, XS0.pos (X_enter (p := p) hpl h0 (fun k i x1 x2 x3 x4 x5 x6 => ?_) ?_ ?_ ?_ ?_ ?_ ?_ ?_ ⟨rfl, rfl, ?_, ?_, ?_⟩), ?_⟩
        all_goals simp (disch := omega) only [up_o, up_hit, c1, b2]
        all_goals first | exact h58 | exact h63 | (push_cast; rfl)
      · rw [if_neg q3, if_neg q3, jn_e]
        dsimp only
        rw [h26, wr_id' (by omega) (by omega), rd_24 (by omega) (by omega), Option.bind_some, k1, ite3]
        by_cases q4 : kd K p = 0 ∧ kd K (p + 1) = 10
        · rw [if_pos q4, if_pos q4]
          have hpl := kd_eq q4.2 (by decide)
          refine Ok_bind.mpr ((m_make (s := s) (by omega)).imp ?_)
          rintro ⟨n, s1⟩ ⟨rfl, m1, ⟨m2, m3, m4, m5, m6, m7, m8, m9, m10⟩, m11⟩
          dsimp only at m1 m2 m3 m4 m5 m6 m7 m8 m9 m10 m11 ⊢
          have u54 : s1 54 0 = fs.length := (m11 54 0 (by omega) (by omega)).trans b2
          have u60 : s1 60 0 = bgi bg := (m11 60 0 (by omega) (by omega)).trans b1
          have u51 : s1 51 0 = σ := (m11 51 0 (by omega) (by omega)).trans c1
          have u26 : s1 26 0 = p := (m11 26 0 (by omega) (by omega)).trans h26
          unfold M_openBracket
          simp (disch := omega) only [bd1, Option.bind_some, wr_id', up_o, up_hit, rd_50, wt_50, rd_55, wt_55, rd_56, wt_56, rd_57, wt_57, rd_61, wt_61, rd_62, wt_62, u26, u60, u51, u54]
          rw [Ok_some]
          refine ⟨rfl, ?_, ?_, XS0.pos (X_enter (p := p) hpl h0 (fun k i x1 x2 x3 x4 x5 x6 => ?_) ?_ ?_ ?_ ?_ ?_ ?_ ?_ ⟨rfl, rfl, ?_, ?_, ?_, ?_, ?_, ?_, ?_⟩), ?_⟩
          · simp (disch := omega) only [up_o]; exact (m11 58 0 (by omega) (by omega)).trans h58
          · simp (disch := omega) only [up_o]; exact (m11 63 0 (by omega) (by omega)).trans h63
          · simp (disch := omega) only [up_o]; exact m11 k i (by omega) (by omega)
          · simp (disch := omega) only [up_o, up_hit, c1]
          · simp (disch := omega) only [up_o, up_hit, b2]
          · simp (disch := omega) only [up_o, up_hit]
          · simp (disch := omega) only [up_o, up_hit, c1]
          · simp (disch := omega) only [up_o, up_hit]
          · simp (disch := omega) only [up_o, up_hit]
          · simp (disch := omega) only [up_o, up_hit]
          · simp (disch := omega) only [up_o]; exact m1
          · simp (disch := omega) only [up_o, up_hit]
          · simp (disch := omega) only [up_o]; exact m2
          · simp (disch := omega) only [up_o]; exact m3
          · simp (disch := omega) only [up_o]; exact m4
          · simp (disch := omega) only [up_o]; exact m5
          · simp (disch := omega) only [up_o]; exact m8
          · simp (disch := omega) only [up_o, up_hit]; push_cast; rfl
        · rw [if_neg q4, if_neg q4]
          have e1 : (if kd K p = 0 then some 0 else if kd K p = 1 then some 0 else if kd K p = 8 then some 0 else if kd K p = 9 then some 0 else some 1 : Option Int) = some (if isAt (kd K p) = true then 0 else 1) := by
            unfold isAt
            repeat' split
            all_goals first | rfl | (exfalso; simp_all)
          rw [e1, Option.bind_some]
          by_cases q5 : isAt (kd K p) = true
          · rw [if_pos q5, if_pos q5]
            have hpl : p < K.length := kd_lt fun z => by rw [z] at q5; cases q5
            simp (disch := omega) only [bd1, Option.bind_some, wr_id', up_o, up_hit, ite_true, h26, b1]
            refine Ok_bind.mpr ((m_make (s := up (up s 58 0 0) 60 0 (-1)) (by simp (disch := omega) only [up_o]; omega)).imp ?_)
            rintro ⟨n, s1⟩ ⟨rfl, m1, ⟨m2, m3, m4, m5, m6, m7, m8, m9, m10⟩, m11⟩
            simp (disch := omega) only [up_o, up_hit] at m1 m2 m3 m4 m5 m6 m7 m8 m9 m10 m11 ⊢
            have u26 : s1 26 0 = p := (m11 26 0 (by omega) (by omega)).trans (by simp (disch := omega) only [up_o]; exact h26)
            have g0 : ∀ k i, ¬ (k = 58 ∧ i = 0) → ¬ (k = 60 ∧ i = 0) → ¬ (k = 27 ∧ i = 0) → ¬ ((28 ≤ k ∧ k ≤ 36) ∧ i = s 27 0) → s1 k i = s k i := fun k i x y z w => (m11 k i (by omega) (by omega)).trans (by simp (disch := omega) only [up_o])
            have gB : AgB s s1 (s 27 0) σ δ fs.length := ⟨fun k i a b c => g0 k i (by omega) (by omega) (by omega) (by omega), fun i c => g0 50 i (by omega) (by omega) (by omega) (by omega), fun i c => g0 52 i (by omega) (by omega) (by omega) (by omega), fun k i a c => g0 k i (by omega) (by omega) (by omega) (by omega), fun i c => g0 57 i (by omega) (by omega) (by omega) (by omega)⟩
            have v0 : VS s0 s1 K n0 nb fs pe cm bg (.var p) (s 27 0) (p + 1) := by
              refine ⟨⟨a1.ex (fun i => g0 24 i (by omega) (by omega) (by omega) (by omega)), a2.ex (fun k i z => g0 k i (fun y => z ?_) (fun y => z ?_) (fun y => z ?_) (fun y => z ?_)), hpl, ⟨by omega, a4.2⟩, a5, a6⟩, ⟨?_, (g0 54 0 (by omega) (by omega) (by omega) (by omega)).trans b2, (g0 57 _ (by omega) (by omega) (by omega) (by omega)).trans b3⟩, σ, δ, s 27 0, σb, δb, lb, ⟨(g0 51 0 (by omega) (by omega) (by omega) (by omega)).trans c1, c2, c3, by push_cast; omega, by omega⟩, PEr_hi (d7.ag (d := fs.length) ⟨fun k i a b c => gB.1 k i a b (by omega), gB.2.1, gB.2.2.1, gB.2.2.2.1, gB.2.2.2.2⟩) c5, d8.ag ⟨fun k i a b c => gB.1 k i a b (by omega), fun i c => gB.2.1 i (by omega), fun i c => gB.2.2.1 i (by omega), gB.2.2.2.1, gB.2.2.2.2⟩, (g0 53 0 (by omega) (by omega) (by omega) (by omega)).trans d9, rfl, ⟨by omega, m2, m3, m4, m5, m6⟩, m8, d10, fun q hq => d11 q hq⟩
              · unfold ZE; omega
              · unfold ZE; omega
              · unfold ZE; omega
              · unfold ZE; omega
              · exact (m11 60 0 (by omega) (by omega)).trans (by simp (disch := omega) only [up_o, up_hit])
            refine Ok_bind.mpr ((X_put v0).imp fun s2 hs => ?_)
            obtain ⟨g1, g2⟩ := hs
            have u2 : s2 26 0 = p := (g2 26 (by omega)).trans u26
            rw [Ok_some, u2, wr_id' (by omega) (by omega)]
            refine fin g1.pos ?_ ?_ ?_
            · rw [up_o (by omega), g2 58 (by omega), m11 58 0 (by omega) (by omega)]; simp (disch := omega) only [up_o, up_hit]
            · rw [up_o (by omega), g2 63 (by omega), m11 63 0 (by omega) (by omega)]; simp (disch := omega) only [up_o]; exact h63
            · rw [up_hit]; push_cast; rfl
          · rw [if_neg q5, if_neg q5]
            simp (disch := omega) only [bd1, Option.bind_some, wr_id', up_o, up_hit, show (1 : Int) = 0 ↔ False by decide, ite_false]
            rw [Ok_some]
            refine ⟨rfl, (show up s 58 0 1 58 0 = 1 from up_hit), a1.ex (fun i => by simp (disch := omega) only [up_o]), a2.ex (fun k i z => up_o (fun y => z ?_)), ?_, ?_, ?_⟩
            · unfold ZE; omega
            · simp (disch := omega) only [up_o]; exact h26
            · simp (disch := omega) only [up_o]; omega
            · simp (disch := omega) only [up_o]; omega
end Ops3
