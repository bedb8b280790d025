/-! N3: the model reads an expr -/
set_option maxRecDepth 100000
set_option linter.unusedVariables false
section Ops2
variable {s0 s : MS} {K : List Int} {n0 nb : Int} {fs : List BF} {pe : PD} {cm : Bool} {bg : Option Nat} {e : EX} {p : Nat}
/-- what a bracket is worth, given what is in it -/
def vlB (x : BF) (o : Option EX) : EX := match x.2.2 with
  | .inl _ => .sub (o.getD (.num 0)) (.num 0)
  | .inr y => .pow (asl (y.2 ++ o.toList)) y.1
theorem X_val {x : BF} {po : PD} {co : Bool} {b : Option Nat} {V : EX} {v : Int} (hx : x.1 = (po, co) ∧ x.2.1 = b) {a : MS} (h : VS s0 s K n0 nb fs po co b V v p) : Ok ((M_putPlain s v (bgi b)).bind fun s9 => some s9) fun s' => XS0 s0 s' K n0 nb (fs, x.1.1, x.1.2, none, some (putp x.2.1 V), p) ∧ ∀ k, k = 26 ∨ k = 58 ∨ k = 63 → s' k 0 = s k 0 := by
  obtain ⟨h1, h2⟩ := hx
  rw [h1, h2]
  exact Ok_bind.mpr ((X_put h).imp fun s' g => Ok_some.mpr g)
/-- the last expr of a call is given to it -/
theorem X_arg {x : PD × Bool} {b : Option Nat} {y : Nat × List EX} (hp : p < K.length) (h : XS0 s0 s K n0 nb (((x, b, .inr y) :: fs), [], cm, none, some e, p)) : Ok (M_addArgument s) fun s' =>
    ((s' 53 0 = s 53 0 - 1 ∧ s' 51 0 = s 51 0 ∧ s' 54 0 = s 54 0 ∧ s' 55 (s 54 0) = s 55 (s 54 0)) ∧ ∀ k, k = 26 ∨ k = 27 ∨ k = 58 ∨ k = 60 ∨ k = 63 → s' k 0 = s k 0) ∧ XS0 s0 (up s' 57 ((fs.length : Int) + 1) 0) K n0 nb (((x, b, .inr (y.1, y.2 ++ [e])) :: fs), [], false, none, none, p + 1) := by
  obtain ⟨⟨a1, a2, a3, a4, a5, a6⟩, ⟨b1, b2, b3⟩, σ, δ, hi, σb, δb, lb, ⟨c1, c2, c3, c4, c5⟩, ⟨d1, d2, d3⟩, ⟨⟨e1, e2, e3, e4, e5⟩, m, σc, δc, lc, f1, ⟨c, ca, z, f2, f3, f4, ⟨f5, f6, f7, f8, f9⟩, f10⟩, f11, f12⟩, d9, d10, n, d11, d12, d13, d14, d15⟩ := h
  subst d1 d2
  dsimp only [List.length_cons] at a3 b2 b3 c2 c4 e1 e2 e3 f2 f3 f5 f6 f7 f8 f9 f10 f11 d9
  have hF := nbF_pos (l := (x, b, Sum.inr (α := Nat) y) :: fs)
  have hL := PEr_lb f11
  have lb0 := FRr_lb f12
  have hy := NE_in d12 d13
  have hz : nb1 (none : Option Nat) = 0 := rfl
  push_cast at b2 b3 c2
  have i53 : s 53 0 - 1 = δ := by omega
  unfold M_addArgument
  have hzz : (y.2 = [] ∧ z = -1) ∨ (y.2 ≠ [] ∧ (c + 1 ≤ z ∧ z < lb) ∧ c + 1 ≤ ca ∧ ca < lb) := by
    by_cases q : y.2 = []
    · rw [q] at f10; exact Or.inl ⟨q, f10.2.1⟩
    · have := AR_in q f10; exact Or.inr ⟨q, by omega⟩
  have f2' : s 55 (s 54 0) = c := by rw [b2]; exact f2
  have f3' : s 56 (s 54 0) = z := by rw [b2]; exact f3
  simp (disch := omega) only [bd1, Option.bind_some, wr_id', up_o, up_hit, rd_55, wt_55, rd_52, wt_52, rd_56, wt_56, i53, d11, f2', f3']
  -- both ways alike
  have key : ∀ (kk : Nat) (ii : Int), (y.2 = [] ∧ kk = 31 ∧ ii = c ∨ y.2 ≠ [] ∧ kk = 34 ∧ ii = z) → ((up (up (up s 53 0 δ) kk ii n) 56 (s 54 0) n) 53 0 = δ ∧ (up (up (up s 53 0 δ) kk ii n) 56 (s 54 0) n) 51 0 = s 51 0 ∧ (up (up (up s 53 0 δ) kk ii n) 56 (s 54 0) n) 54 0 = s 54 0 ∧ (up (up (up s 53 0 δ) kk ii n) 56 (s 54 0) n) 55 (s 54 0) = c) ∧ (∀ k, k = 26 ∨ k = 27 ∨ k = 58 ∨ k = 60 ∨ k = 63 → (up (up (up s 53 0 δ) kk ii n) 56 (s 54 0) n) k 0 = s k 0) ∧ XS0 s0 (up (up (up (up s 53 0 δ) kk ii n) 56 (s 54 0) n) 57 ((fs.length : Int) + 1) 0) K n0 nb (((x, b, .inr (y.1, y.2 ++ [e])) :: fs), [], false, none, none, p + 1) := by
    intro kk ii hk
    have hkk : kk = 31 ∨ kk = 34 := by rcases hk with h | h <;> omega
    have hii : c ≤ ii ∧ ii < lb := by rcases hk with ⟨_, _, h⟩ | ⟨q, _, h⟩ <;> rcases hzz with w | w <;> first | omega | exact absurd w.1 q
    refine ⟨⟨by simp (disch := omega) only [up_o, up_hit], by simp (disch := omega) only [up_o], by simp (disch := omega) only [up_o], by simp (disch := omega) only [up_o]; exact f2'⟩, fun k hk => by simp (disch := omega) only [up_o], ?_⟩
    have g0 : ∀ k i, ¬ (k = 53 ∧ i = 0) → ¬ (k = kk ∧ i = ii) → ¬ (k = 56 ∧ i = s 54 0) → ¬ (k = 57 ∧ i = (fs.length : Int) + 1) → up (up (up (up s 53 0 δ) kk ii n) 56 (s 54 0) n) 57 ((fs.length : Int) + 1) 0 k i = s k i := fun k i x y z w => by simp (disch := omega) only [up_o]
    have hkv : up (up (up (up s 53 0 δ) kk ii n) 56 (s 54 0) n) 57 ((fs.length : Int) + 1) 0 kk ii = n := by simp (disch := omega) only [up_o, up_hit]
    have h53 : up (up (up (up s 53 0 δ) kk ii n) 56 (s 54 0) n) 57 ((fs.length : Int) + 1) 0 53 0 = δ := by simp (disch := omega) only [up_o, up_hit]
    have h56 : up (up (up (up s 53 0 δ) kk ii n) 56 (s 54 0) n) 57 ((fs.length : Int) + 1) 0 56 (s 54 0) = n := by simp (disch := omega) only [up_o, up_hit]
    have h57 : up (up (up (up s 53 0 δ) kk ii n) 56 (s 54 0) n) 57 ((fs.length : Int) + 1) 0 57 ((fs.length : Int) + 1) = 0 := up_hit
    generalize up (up (up (up s 53 0 δ) kk ii n) 56 (s 54 0) n) 57 ((fs.length : Int) + 1) 0 = t at g0 hkv h53 h56 h57 ⊢
    have e27 : t 27 0 = s 27 0 := g0 27 0 (by omega) (by omega) (by omega) (by omega)
    have gB : ∀ H, H ≤ c → AgB s t H σ δ fs.length := fun H hH => ⟨fun k i a b d => g0 k i (by omega) (by omega) (by omega) (by omega), fun i d => g0 50 i (by omega) (by omega) (by omega) (by omega), fun i d => g0 52 i (by omega) (by omega) (by omega) (by omega), fun k i a d => g0 k i (by omega) (by omega) (by omega) (by omega), fun i d => g0 57 i (by omega) (by omega) (by omega) (by omega)⟩
    have gC : ∀ k, 28 ≤ k → k ≤ 36 → k ≠ 31 → t k c = s k c := fun k a b d => g0 k c (by omega) (fun w => by rcases hk with h | ⟨q, h⟩ <;> rcases hzz with w2 | w2 <;> first | omega | exact absurd w2.1 q) (by omega) (by omega)
    refine ⟨⟨a1.ex (fun i => g0 24 i (by omega) (by omega) (by omega) (by omega)), a2.ex (fun k i z => g0 k i (fun y => z ?_) (fun y => z ?_) (fun y => z ?_) (fun y => z ?_)), hp, ⟨by omega, a4.2⟩, a5, a6⟩, ⟨(g0 60 0 (by omega) (by omega) (by omega) (by omega)).trans b1, ?_, ?_⟩, σ, δ, s 27 0, σ, δ, s 27 0, ⟨(g0 51 0 (by omega) (by omega) (by omega) (by omega)).trans c1, ?_, c3, ?_, by omega⟩, ⟨rfl, rfl, Int.le_refl _⟩, ⟨⟨(g0 50 _ (by omega) (by omega) (by omega) (by omega)).trans e1, (g0 61 _ (by omega) (by omega) (by omega) (by omega)).trans e2, (g0 57 _ (by omega) (by omega) (by omega) (by omega)).trans e3, e4, e5⟩, m, σc, δc, lc, by omega, ⟨c, if y.2 = [] then n else ca, n, (g0 55 _ (by omega) (by omega) (by omega) (by omega)).trans f2, by rw [← b2]; exact h56, by omega, ⟨(gC 28 (by decide) (by decide) (by decide)).trans f5, (gC 29 (by decide) (by decide) (by decide)).trans f6, (gC 30 (by decide) (by decide) (by decide)).trans f7, ?_, (gC 34 (by decide) (by decide) (by decide)).trans f9⟩, ?_⟩, f11.ag (d := 0) ⟨(gB m (by omega)).1, fun i d => (gB m (by omega)).2.1 i (by omega), (gB m (by omega)).2.2.1, fun k i a d => (gB m (by omega)).2.2.2.1 k i a (by omega), fun i d => (gB m (by omega)).2.2.2.2 i (by omega)⟩, f12.ag ⟨(gB lc (by omega)).1, fun i d => (gB m (by omega)).2.1 i (by omega), fun i d => (gB m (by omega)).2.2.1 i (by omega), (gB m (by omega)).2.2.2.1, (gB m (by omega)).2.2.2.2⟩⟩, h53, ?_, fun q z => by cases z⟩
    · unfold ZE; omega
    · unfold ZE; omega
    · unfold ZE; omega
    · unfold ZE; omega
    · show t 54 0 = (((_ :: fs : List BF).length : Nat) : Int)
      rw [List.length_cons, g0 54 0 (by omega) (by omega) (by omega) (by omega), b2]; push_cast; rfl
    · show t 57 (((_ :: fs : List BF).length : Nat) : Int) = 0
      rw [List.length_cons]; push_cast; exact h57
    · rw [List.length_cons]; push_cast; omega
    · rw [e27]; show s 27 0 + σ + nb1 none + nbF ((x, b, Sum.inr (α := Nat) (y.1, y.2 ++ [e])) :: fs) ≤ nb + ((p + 1 : Nat) : Int); push_cast; exact Int.le_trans c4 (by omega)
    · by_cases q : y.2 = []
      · rw [if_pos q]
        rcases hk with ⟨_, h1, h2⟩ | ⟨h1, _⟩
        · rw [← h1, ← h2]; exact hkv
        · exact absurd q h1
      · rw [if_neg q]
        rcases hk with ⟨h1, _⟩ | ⟨_, h1, h2⟩
        · exact absurd h1 q
        · exact (g0 31 c (by omega) (by omega) (by omega) (by omega)).trans f8
    · refine AR_snoc d12 f10 ((d13.ag (fun k i a b d f => g0 k i (by omega) (by omega) (by omega) (by omega))).wk d3 (Int.le_refl _)) ((g0 34 n (by omega) (by omega) (by omega) (by omega)).trans d14) (fun k i a b d f q => g0 k i (by omega) (fun w => ?_) (by omega) (by omega)) (fun q => ?_)
      · rcases hk with ⟨_, h1, h2⟩ | ⟨h0, h1, h2⟩
        · omega
        · exact q h0 ⟨by omega, by omega⟩
      · rcases hk with ⟨h1, _⟩ | ⟨_, h1, h2⟩
        · exact absurd h1 q
        · rw [← h1, ← h2]; exact hkv
    · intro o ho; cases ho
  rcases hzz with ⟨q, rfl⟩ | ⟨q, w⟩
  · rw [if_pos rfl]
    simp (disch := omega) only [bd1, Option.bind_some, wr_id', up_o, up_hit, rd_31, wt_31, rd_56, wt_56]
    obtain ⟨k1, k2, k3⟩ := key 31 c (Or.inl ⟨q, rfl, rfl⟩)
    exact Ok_some.mpr ⟨⟨k1, k2⟩, k3⟩
  · rw [if_neg (by omega)]
    simp (disch := omega) only [bd1, Option.bind_some, wr_id', up_o, up_hit, rd_34, wt_34, rd_56, wt_56, f3']
    obtain ⟨k1, k2, k3⟩ := key 34 z (Or.inr ⟨q, rfl, rfl⟩)
    exact Ok_some.mpr ⟨⟨k1, k2⟩, k3⟩
theorem PEr_red {s : MS} {b : Option Nat} {σb δb lb : Int} : ∀ {pe : PD} {σ δ hi : Int} {e : EX}, PEr s K b σb δb lb pe σ δ hi → (red K 1 pe e).1 = []
  | [], σ, δ, hi, e, h => rfl
  | x :: l, σ, δ, hi, e, ⟨⟨h1, h2, h3⟩, n, m, h5, h6, h7⟩ => by
    have : red K 1 (x :: l) e = red K 1 l (.add x.1 e) := if_pos h2
    rw [this]
    exact PEr_red h7
theorem XS0_red (h : XS0 s0 s K n0 nb (fs, pe, cm, bg, some e, p)) : (red K 1 pe e).1 = [] := by
  obtain ⟨_, _, σ, δ, hi, σb, δb, lb, _, d7, _⟩ := h
  exact PEr_red d7
theorem ite_bd {α β : Type} {c : Prop} [Decidable c] {a b : Option α} {F : α → Option β} : ((if c then a else b : Option α).bind F) = if c then a.bind F else b.bind F := by split <;> rfl
/-- a ( is closed -/
theorem X_close1 {x : PD × Bool} {b : Option Nat} {o : Nat} {pc : Int} (hp : p < K.length) (h : XS0 s0 s K n0 nb (((x, b, .inl o) :: fs), pe, cm, none, some e, p)) : Ok (M_closeBracket s 1 pc) fun s' => XS0 s0 s' K n0 nb (fs, x.1, x.2, none, some (putp b (.sub (red K 1 pe e).2 (.num 0))), p + 1) ∧ ∀ k, k = 26 ∨ k = 58 ∨ k = 63 → s' k 0 = s k 0 := by
  unfold M_closeBracket
  refine (X_pairAll (r := 1) (Nat.le_refl _) h).bd fun s1 h1 => ?_
  rw [XS0_red h] at h1
  obtain ⟨h1, hk⟩ := h1
  generalize (red K 1 pe e).2 = e9 at h1 ⊢
  obtain ⟨⟨a1, a2, a3, a4, a5, a6⟩, ⟨b1, b2, b3⟩, σ, δ, hi, σb, δb, lb, ⟨c1, c2, c3, c4, c5⟩, ⟨d1, d2, d3⟩, ⟨⟨e1, e2, e3, e4, e5⟩, m, σc, δc, lc, f1, ⟨f2, f3⟩, f11, f12⟩, d9, d10, n, d11, d12, d13, d14, d15⟩ := h1
  subst d1 d2
  dsimp only [List.length_cons] at a3 b2 b3 c2 c4 e1 e2 e3 e4 e5 f2 f3 f11 d9 d15
  have hF := nbF_pos (l := fs)
  have hb := nb1_pos (b := b)
  have hL := PEr_lb f11
  have lb0 := FRr_lb f12
  have hy := NE_in d12 d13
  have hz : nb1 (none : Option Nat) = 0 := rfl
  have hc : nbF ((x, b, Sum.inl (β := Nat × List EX) o) :: fs) = nb1 b + nbF fs := rfl
  push_cast at b2 b3 c2
  have i53 : s1 53 0 - 1 = δ := by omega
  have f2' : s1 55 (s1 54 0) = -1 := by rw [b2]; exact f2
  have f3' : s1 62 (s1 54 0) = o := by rw [b2]; exact f3
  have f4' : s1 61 (s1 54 0) = bgi b := by rw [b2]; exact e2
  have fe : frm e9 = o + 1 := d15 o rfl
  simp (disch := omega) only [bd1, Option.bind_some, wr_id', up_o, up_hit, rd_55, wt_55, rd_52, wt_52, rd_62, wt_62, rd_30, wt_30, rd_61, wt_61, i53, d11, f2', f3', f4', ite_true, show (1 : Int) = 0 ↔ False by decide]
  refine Ok_bind.mpr ((X_put (fs := fs) (pe := x.1) (cm := x.2) (bg := b) (V := .sub e9 (.num 0)) (p := p + 1) ?_).imp fun s' g => Ok_some.mpr ⟨g.1, fun k z => (g.2 k z).trans ?_⟩)
  · have g0 : ∀ k i, ¬ (k = 53 ∧ i = 0) → ¬ (k = 51 ∧ i = 0) → ¬ (k = 30 ∧ i = n) → ¬ (k = 54 ∧ i = 0) → up (up (up (up s1 51 0 (s1 51 0 - 1)) 53 0 δ) 30 n o) 54 0 (s1 54 0 - 1) k i = s1 k i := fun k i x y z w => by simp (disch := omega) only [up_o]
    have h51 : up (up (up (up s1 51 0 (s1 51 0 - 1)) 53 0 δ) 30 n o) 54 0 (s1 54 0 - 1) 51 0 = s1 51 0 - 1 := by simp (disch := omega) only [up_o, up_hit]
    have h53 : up (up (up (up s1 51 0 (s1 51 0 - 1)) 53 0 δ) 30 n o) 54 0 (s1 54 0 - 1) 53 0 = δ := by simp (disch := omega) only [up_o, up_hit]
    have h54 : up (up (up (up s1 51 0 (s1 51 0 - 1)) 53 0 δ) 30 n o) 54 0 (s1 54 0 - 1) 54 0 = s1 54 0 - 1 := up_hit
    have h30 : up (up (up (up s1 51 0 (s1 51 0 - 1)) 53 0 δ) 30 n o) 54 0 (s1 54 0 - 1) 30 n = o := by simp (disch := omega) only [up_o, up_hit]
    generalize up (up (up (up s1 51 0 (s1 51 0 - 1)) 53 0 δ) 30 n o) 54 0 (s1 54 0 - 1) = t at g0 h51 h53 h54 h30 ⊢
    have e27 : t 27 0 = s1 27 0 := g0 27 0 (by omega) (by omega) (by omega) (by omega)
    have gB : AgB s1 t m (σ - 1) δ fs.length := ⟨fun k i a b c => g0 k i (by omega) (by omega) (by omega) (by omega), fun i c => g0 50 i (by omega) (by omega) (by omega) (by omega), fun i c => g0 52 i (by omega) (by omega) (by omega) (by omega), fun k i a c => g0 k i (by omega) (by omega) (by omega) (by omega), fun i c => g0 57 i (by omega) (by omega) (by omega) (by omega)⟩
    refine ⟨⟨a1.ex (fun i => g0 24 i (by omega) (by omega) (by omega) (by omega)), a2.ex (fun k i z => g0 k i (fun y => z ?_) (fun y => z ?_) (fun y => z ?_) (fun y => z ?_)), hp, ⟨by omega, a4.2⟩, a5, a6⟩, ⟨(g0 60 0 (by omega) (by omega) (by omega) (by omega)).trans b1, by omega, (g0 57 _ (by omega) (by omega) (by omega) (by omega)).trans e3⟩, σ - 1, δ, m, σc, δc, lc, ⟨by omega, by omega, c3, by omega, by omega⟩, f11.ag gB, f12.ag ⟨fun k i a b c => gB.1 k i a b (by omega), fun i c => gB.2.1 i (by omega), fun i c => gB.2.2.1 i (by omega), gB.2.2.2.1, gB.2.2.2.2⟩, h53, rfl, ⟨d12, ?_⟩, (g0 34 n (by omega) (by omega) (by omega) (by omega)).trans d14, ?_, fun q hq => ?_⟩
    · unfold ZE; omega
    · unfold ZE; omega
    · unfold ZE; omega
    · unfold ZE; omega
    · have := NE.root (s' := t) d12 d13 (fun k i a b c d q => g0 k i (by omega) (by omega) (fun u => (q u.2).1 u.1) (by omega))
      rw [h30] at this
      rw [show ((frm (Lean.Grind.CommRing.Expr.sub e9 (.num 0)) : Nat) : Int) = o by show ((frm e9 - 1 : Nat) : Int) = o; rw [fe, Nat.add_sub_cancel], e27]
      exact this.wk (by omega) (Int.le_refl _)
    · rw [show frm (Lean.Grind.CommRing.Expr.sub e9 (.num 0)) = o by show frm e9 - 1 = o; rw [fe, Nat.add_sub_cancel]]
      exact e4
    · show frm e9 - 1 = q + 1
      rw [fe, Nat.add_sub_cancel]
      exact e5 q hq
  · refine Eq.trans ?_ (hk k z)
    simp (disch := omega) only [up_o]
/-- a call is closed behind its last expr -/
theorem X_close2 {x : PD × Bool} {b : Option Nat} {y : Nat × List EX} {pc : Int} (hp : p < K.length) (h : XS0 s0 s K n0 nb (((x, b, .inr y) :: fs), pe, cm, none, some e, p)) : Ok (M_closeBracket s 1 pc) fun s' => XS0 s0 s' K n0 nb (fs, x.1, x.2, none, some (putp b (.pow (asl (y.2 ++ [(red K 1 pe e).2])) y.1)), p + 1) ∧ ∀ k, k = 26 ∨ k = 58 ∨ k = 63 → s' k 0 = s k 0 := by
  unfold M_closeBracket
  refine (X_pairAll (r := 1) (Nat.le_refl _) h).bd fun s1 h1 => ?_
  rw [XS0_red h] at h1
  obtain ⟨h1, hk⟩ := h1
  generalize (red K 1 pe e).2 = e9 at h1 ⊢
  obtain ⟨⟨a1, a2, a3, a4, a5, a6⟩, ⟨b1, b2, b3⟩, σ, δ, hi, σb, δb, lb, ⟨c1, c2, c3, c4, c5⟩, ⟨d1, d2, d3⟩, ⟨⟨e1, e2, e3, e4, e5⟩, m, σc, δc, lc, f1, ⟨c, ca, z, f2, f3, f4, ⟨f5, f6, f7, f8, f9⟩, f10⟩, f11, f12⟩, d9, d10, n, d11, d12, d13, d14, d15⟩ := h1
  subst d1 d2
  dsimp only [List.length_cons] at a3 b2 b3 c2 c4 e1 e2 e3 e4 e5 f2 f3 f5 f6 f7 f8 f9 f10 f11 d9
  have hF := nbF_pos (l := fs)
  have hb := nb1_pos (b := b)
  have hL := PEr_lb f11
  have lb0 := FRr_lb f12
  have hy := NE_in d12 d13
  have hz : nb1 (none : Option Nat) = 0 := rfl
  have hc : nbF ((x, b, Sum.inr (α := Nat) y) :: fs) = nb1 b + nbF fs := rfl
  push_cast at b2 b3 c2
  have i53 : s1 53 0 - 1 = δ := by omega
  have hzz : (y.2 = [] ∧ z = -1) ∨ (y.2 ≠ [] ∧ (c + 1 ≤ z ∧ z < lb) ∧ c + 1 ≤ ca ∧ ca < lb) := by
    by_cases q : y.2 = []
    · rw [q] at f10; exact Or.inl ⟨q, f10.2.1⟩
    · have := AR_in q f10; exact Or.inr ⟨q, by omega⟩
  have f2' : s1 55 (s1 54 0) = c := by rw [b2]; exact f2
  have f3' : s1 56 (s1 54 0) = z := by rw [b2]; exact f3
  have f4' : s1 61 (s1 54 0) = bgi b := by rw [b2]; exact e2
  unfold M_addArgument
  simp (disch := omega) only [bd1, Option.bind_some, wr_id', up_o, up_hit, rd_55, wt_55, rd_52, wt_52, i53, d11, f2', f3', ite_true, if_neg, show ¬ (1 : Int) = 0 by decide]
  -- both ways alike
  have key : ∀ (kk : Nat) (ii : Int), (y.2 = [] ∧ kk = 31 ∧ ii = c ∨ y.2 ≠ [] ∧ kk = 34 ∧ ii = z) → Ok ((M_putPlain (up (up (up (up (up s1 51 0 (s1 51 0 - 1)) 53 0 δ) kk ii n) 56 (s1 54 0) n) 54 0 (s1 54 0 - 1)) c (bgi b)).bind fun s9 => some s9) fun s' => XS0 s0 s' K n0 nb (fs, x.1, x.2, none, some (putp b (.pow (asl (y.2 ++ [e9])) y.1)), p + 1) ∧ ∀ k, k = 26 ∨ k = 58 ∨ k = 63 → s' k 0 = s k 0 := by
    intro kk ii hk'
    have hkk : kk = 31 ∨ kk = 34 := by rcases hk' with h | h <;> omega
    have hii : c ≤ ii ∧ ii < lb := by rcases hk' with ⟨_, _, h⟩ | ⟨q, _, h⟩ <;> rcases hzz with w | w <;> first | omega | exact absurd w.1 q
    refine Ok_bind.mpr ((X_put (fs := fs) (pe := x.1) (cm := x.2) (bg := b) (V := .pow (asl (y.2 ++ [e9])) y.1) (p := p + 1) ?_).imp fun s' g => Ok_some.mpr ⟨g.1, fun k z => (g.2 k z).trans ?_⟩)
    · have g0 : ∀ k i, ¬ (k = 53 ∧ i = 0) → ¬ (k = 51 ∧ i = 0) → ¬ (k = kk ∧ i = ii) → ¬ (k = 54 ∧ i = 0) → ¬ (k = 56 ∧ i = s1 54 0) → up (up (up (up (up s1 51 0 (s1 51 0 - 1)) 53 0 δ) kk ii n) 56 (s1 54 0) n) 54 0 (s1 54 0 - 1) k i = s1 k i := fun k i x y z w v => by simp (disch := omega) only [up_o]
      have h51 : up (up (up (up (up s1 51 0 (s1 51 0 - 1)) 53 0 δ) kk ii n) 56 (s1 54 0) n) 54 0 (s1 54 0 - 1) 51 0 = s1 51 0 - 1 := by simp (disch := omega) only [up_o, up_hit]
      have h53 : up (up (up (up (up s1 51 0 (s1 51 0 - 1)) 53 0 δ) kk ii n) 56 (s1 54 0) n) 54 0 (s1 54 0 - 1) 53 0 = δ := by simp (disch := omega) only [up_o, up_hit]
      have h54 : up (up (up (up (up s1 51 0 (s1 51 0 - 1)) 53 0 δ) kk ii n) 56 (s1 54 0) n) 54 0 (s1 54 0 - 1) 54 0 = s1 54 0 - 1 := up_hit
      have hkv : up (up (up (up (up s1 51 0 (s1 51 0 - 1)) 53 0 δ) kk ii n) 56 (s1 54 0) n) 54 0 (s1 54 0 - 1) kk ii = n := by simp (disch := omega) only [up_o, up_hit]
      generalize up (up (up (up (up s1 51 0 (s1 51 0 - 1)) 53 0 δ) kk ii n) 56 (s1 54 0) n) 54 0 (s1 54 0 - 1) = t at g0 h51 h53 h54 hkv ⊢
      have e27 : t 27 0 = s1 27 0 := g0 27 0 (by omega) (by omega) (by omega) (by omega) (by omega)
      have gB : AgB s1 t m (σ - 1) δ fs.length := ⟨fun k i a b c => g0 k i (by omega) (by omega) (by omega) (by omega) (by omega), fun i c => g0 50 i (by omega) (by omega) (by omega) (by omega) (by omega), fun i c => g0 52 i (by omega) (by omega) (by omega) (by omega) (by omega), fun k i a c => g0 k i (by omega) (by omega) (by omega) (by omega) (by omega), fun i c => g0 57 i (by omega) (by omega) (by omega) (by omega) (by omega)⟩
      have gC : ∀ k, 28 ≤ k → k ≤ 36 → k ≠ 31 → t k c = s1 k c := fun k a b d => g0 k c (by omega) (by omega) (fun w => by rcases hk' with h | ⟨q, h⟩ <;> rcases hzz with w2 | w2 <;> first | omega | exact absurd w2.1 q) (by omega) (by omega)
      refine ⟨⟨a1.ex (fun i => g0 24 i (by omega) (by omega) (by omega) (by omega) (by omega)), a2.ex (fun k i z => g0 k i (fun y => z ?_) (fun y => z ?_) (fun y => z ?_) (fun y => z ?_) (fun y => z ?_)), hp, ⟨by omega, a4.2⟩, a5, a6⟩, ⟨(g0 60 0 (by omega) (by omega) (by omega) (by omega) (by omega)).trans b1, by omega, (g0 57 _ (by omega) (by omega) (by omega) (by omega) (by omega)).trans e3⟩, σ - 1, δ, m, σc, δc, lc, ⟨by omega, by omega, c3, by omega, by omega⟩, f11.ag gB, f12.ag ⟨fun k i a b c => gB.1 k i a b (by omega), fun i c => gB.2.1 i (by omega), fun i c => gB.2.2.1 i (by omega), gB.2.2.2.1, gB.2.2.2.2⟩, h53, rfl, ⟨asl_X, if y.2 = [] then n else ca, by omega, ⟨(gC 28 (by decide) (by decide) (by decide)).trans f5, (gC 29 (by decide) (by decide) (by decide)).trans f6, (gC 30 (by decide) (by decide) (by decide)).trans f7, ?_⟩, AR_fwd (z := n) ?_⟩, (gC 34 (by decide) (by decide) (by decide)).trans f9, e4, e5⟩
      · unfold ZE; omega
      · unfold ZE; omega
      · unfold ZE; omega
      · unfold ZE; omega
      · unfold ZE; omega
      · by_cases q : y.2 = []
        · rw [if_pos q]
          rcases hk' with ⟨_, h1, h2⟩ | ⟨h1, _⟩
          · rw [← h1, ← h2]; exact hkv
          · exact absurd q h1
        · rw [if_neg q]
          rcases hk' with ⟨h1, _⟩ | ⟨_, h1, h2⟩
          · exact absurd h1 q
          · exact (g0 31 c (by omega) (by omega) (by omega) (by omega) (by omega)).trans f8
      · rw [e27]
        refine AR_snoc d12 f10 ((d13.ag (fun k i a b d f => g0 k i (by omega) (by omega) (by omega) (by omega) (by omega))).wk d3 (Int.le_refl _)) ((g0 34 n (by omega) (by omega) (by omega) (by omega) (by omega)).trans d14) (fun k i a b d f q => g0 k i (by omega) (by omega) (fun w => ?_) (by omega) (by omega)) (fun q => ?_)
        · rcases hk' with ⟨_, h1, h2⟩ | ⟨h0, h1, h2⟩
          · omega
          · exact q h0 ⟨by omega, by omega⟩
        · rcases hk' with ⟨h1, _⟩ | ⟨_, h1, h2⟩
          · exact absurd h1 q
          · rw [← h1, ← h2]; exact hkv
    · refine Eq.trans ?_ (hk k z)
      simp (disch := omega) only [up_o]
  rcases hzz with ⟨q, rfl⟩ | ⟨q, w⟩
  · simp (disch := omega) only [bd1, Option.bind_some, wr_id', up_o, up_hit, rd_31, wt_31, rd_56, wt_56, rd_61, wt_61, f3', f4', ite_true, ite_false, show c = -1 ↔ False from ⟨fun q => by omega, fun q => q.elim⟩]
    exact key 31 c (Or.inl ⟨q, rfl, rfl⟩)
  · simp (disch := omega) only [bd1, Option.bind_some, wr_id', up_o, up_hit, rd_34, wt_34, rd_56, wt_56, rd_61, wt_61, f3', f4', ite_false, show (c = -1) ↔ False from ⟨fun q => by omega, fun q => q.elim⟩, show (z = -1) ↔ False from ⟨fun q => by omega, fun q => q.elim⟩]
    exact key 34 z (Or.inr ⟨q, rfl, rfl⟩)
end Ops2
