/-! N5: the model reads an expr: behind a unit, the loop -/
set_option maxRecDepth 100000
set_option linter.unusedVariables false
section Ops4
variable {s0 s : MS} {K : List Int} {n0 nb : Int} {fs : List BF} {pe : PD} {cm : Bool} {bg : Option Nat} {e : EX} {p : Nat}
theorem ite5 {α : Type} {c d g : Prop} [Decidable c] [Decidable d] [Decidable g] {A B : α} : (if c then A else if d then (if g then A else B) else B) = if c ∨ (d ∧ g) then A else B := by
  by_cases h : c <;> by_cases k : d <;> by_cases l : g <;> simp [h, k, l]
theorem XS0.cmp {o : Option EX} {c' : Bool} (hx : XS0 s0 s K n0 nb (fs, pe, cm, bg, o, p)) : XS0 s0 (up s 57 (fs.length : Int) (b01 c')) K n0 nb (fs, pe, c', bg, o, p) := by
  obtain ⟨⟨a1, a2, a3, a4, a5, a6⟩, ⟨b1, b2, b3⟩, σ, δ, hi, σb, δb, lb, ⟨c1, c2, c3, c4, c5⟩, d7, d8, d9⟩ := hx
  have g0 : ∀ k i, ¬ (k = 57 ∧ i = (fs.length : Int)) → up s 57 (fs.length : Int) (b01 c') k i = s k i := fun k i z => up_o z
  have h57 : up s 57 (fs.length : Int) (b01 c') 57 (fs.length : Int) = b01 c' := up_hit
  generalize up s 57 (fs.length : Int) (b01 c') = t at g0 h57 ⊢
  have e27 : t 27 0 = s 27 0 := g0 27 0 (by omega)
  have gA : ∀ A B C : Int, AgB s t A B C fs.length := fun A B C => ⟨fun k i a b c => g0 k i (by omega), fun i c => g0 50 i (by omega), fun i c => g0 52 i (by omega), fun k i a c => g0 k i (by omega), fun i c => g0 57 i (by omega)⟩
  refine ⟨⟨a1.ex (fun i => g0 24 i (by omega)), a2.ex (fun k i z => g0 k i (fun y => z ?_)), a3, by rw [e27]; exact a4, a5, a6⟩, ⟨(g0 60 0 (by omega)).trans b1, (g0 54 0 (by omega)).trans b2, h57⟩, σ, δ, hi, σb, δb, lb, ⟨(g0 51 0 (by omega)).trans c1, c2, c3, by rw [e27]; exact c4, by rw [e27]; exact c5⟩, d7.ag (gA _ _ _), d8.ag (gA _ _ _), ?_⟩
  · unfold ZE; omega
  · cases o with
    | none =>
      obtain ⟨d9, d10, d11⟩ := d9
      exact ⟨(g0 53 0 (by omega)).trans d9, d10, d11⟩
    | some e =>
      obtain ⟨d9, d10, n, d11, d12, d13, d14, d15⟩ := d9
      exact ⟨d9, (g0 53 0 (by omega)).trans d10, n, (g0 52 δ (by omega)).trans d11, d12, by rw [e27]; exact d13.ag (fun k i a b _ _ => g0 k i (by omega)), (g0 34 n (by omega)).trans d14, d15⟩
/-- a sign waits -/
theorem X_push (hp : p < K.length) (hr : 1 ≤ rk (kd K p)) (hx : XS0 s0 s K n0 nb (fs, pe, cm, none, some e, p)) : XS0 s0 (up (up s 50 (s 51 0) (kd K p)) 51 0 (s 51 0 + 1)) K n0 nb (fs, (e, p) :: pe, cm, none, none, p + 1) := by
  obtain ⟨⟨a1, a2, a3, a4, a5, a6⟩, ⟨b1, b2, b3⟩, σ, δ, hi, σb, δb, lb, ⟨c1, c2, c3, c4, c5⟩, d7, d8, d9, d10, n, d11, d12, d13, d14, d15⟩ := hx
  dsimp only at a3 b1 b2 b3 c2 c4 d7 d8 d15
  have hL := PEr_lb d7
  have lb0 := FRr_lb d8
  have g0 : ∀ k i, ¬ (k = 50 ∧ i = σ) → ¬ (k = 51 ∧ i = 0) → up (up s 50 (s 51 0) (kd K p)) 51 0 (s 51 0 + 1) k i = s k i := fun k i z y => by simp (disch := omega) only [up_o]
  have h50 : up (up s 50 (s 51 0) (kd K p)) 51 0 (s 51 0 + 1) 50 σ = kd K p := by rw [c1]; simp (disch := omega) only [up_o, up_hit]
  have h51 : up (up s 50 (s 51 0) (kd K p)) 51 0 (s 51 0 + 1) 51 0 = s 51 0 + 1 := up_hit
  generalize up (up s 50 (s 51 0) (kd K p)) 51 0 (s 51 0 + 1) = t at g0 h50 h51 ⊢
  have e27 : t 27 0 = s 27 0 := g0 27 0 (by omega) (by omega)
  have gA : ∀ A S C D : Int, S ≤ σ → AgB s t A S C D := fun A S C D h => ⟨fun k i a b c => g0 k i (by omega) (by omega), fun i c => g0 50 i (by omega) (by omega), fun i c => g0 52 i (by omega) (by omega), fun k i a c => g0 k i (by omega) (by omega), fun i c => g0 57 i (by omega) (by omega)⟩
  refine ⟨⟨a1.ex (fun i => g0 24 i (by omega) (by omega)), a2.ex (fun k i z => g0 k i (fun y => z ?_) (fun y => z ?_)), hp, by rw [e27]; exact a4, a5, a6⟩, ⟨(g0 60 0 (by omega) (by omega)).trans b1, (g0 54 0 (by omega) (by omega)).trans b2, (g0 57 _ (by omega) (by omega)).trans b3⟩, σ + 1, δ + 1, s 27 0, σb, δb, lb, ⟨by omega, by dsimp only; omega, by omega, by dsimp only; push_cast; omega, by omega⟩, ⟨⟨by rw [show σ + 1 - 1 = σ by omega]; exact h50, hr, d12, d15⟩, n, hi, by rw [show δ + 1 - 1 = δ by omega]; exact (g0 52 δ (by omega) (by omega)).trans d11, d13.ag (fun k i a b _ _ => g0 k i (by omega) (by omega)), ?_⟩, d8.ag (gA _ _ _ _ (by omega)), (g0 53 0 (by omega) (by omega)).trans d10, rfl, fun q z => by cases z⟩
  · unfold ZE; omega
  · unfold ZE; omega
  · rw [show σ + 1 - 1 = σ by omega, show δ + 1 - 1 = δ by omega]
    exact d7.ag (gA _ _ _ 0 (Int.le_refl _))
theorem X_go (h : XS s0 s K n0 nb (fs, pe, cm, none, some e, p)) (h58 : s 58 0 = 0) (h63 : s 63 0 = 0) : Ok (M_goesOn s) fun x => stR s0 K n0 nb (goS K false fs pe cm e p) x := by
  obtain ⟨h0, h26⟩ := h
  dsimp only at h26
  have h0' := h0
  obtain ⟨⟨a1, a2, a3, a4, a5, a6⟩, ⟨b1, b2, b3⟩, σ, δ, hi, σb, δb, lb, ⟨c1, c2, c3, c4, c5⟩, d7, d8, d9, d10, n, d11, d12, d13, d14, d15⟩ := h0'
  dsimp only at a3 b1 b2 b3 c2 c4 d7 d8 d15
  have hF := nbF_pos (l := fs)
  have hz : nb1 (none : Option Nat) = 0 := rfl
  have hL := PEr_lb d7
  have lb0 := FRr_lb d8
  have hl := a1.1
  have k0 : s 24 (p : Int) = kd K p := a1.2 p (by omega)
  have fin : ∀ {s' : MS} {fs' : List BF} {pe' : PD} {cm' : Bool} {e' : EX} {p' : Nat}, XS0 s0 s' K n0 nb (fs', pe', cm', none, some e', p') → s' 58 0 = 0 → s' 63 0 = 0 → s' 26 0 = p' → stR s0 K n0 nb (flS K false fs' pe' cm' e' p') (0, s') := fun x1 x2 x3 x4 => by
    unfold flS
    rw [if_neg (fun z => by cases z.1)]
    exact ⟨rfl, x2, x3, x1, x4⟩
  have cmz : b01 cm = 0 ↔ cm = false := by cases cm <;> simp [b01]
  unfold M_goesOn
  rw [h26, rd_24 (by omega) (by omega), Option.bind_some, k0, m_rank, Option.bind_some, jn_e]
  dsimp only
  rw [Option.bind_some, jn_e]
  dsimp only
  rw [b2, rd_57 (by omega) (by omega), Option.bind_some, b3, Option.bind_some, ite5]
  unfold goS
  by_cases q1 : 1 < rk (kd K p) ∨ (rk (kd K p) = 1 ∧ cm = false)
  · rw [if_pos q1, if_pos (by rcases q1 with q | q; exact Or.inl (by omega); exact Or.inr ⟨by omega, cmz.mpr q.2⟩)]
    have hr : 1 ≤ rk (kd K p) := by rcases q1 with q | q <;> omega
    have hpl : p < K.length := kd_lt fun z => by rw [z] at hr; exact absurd hr (by decide)
    have ec : (if b01 cm = 0 then (M_rank s (kd K p)).bind fun v15 => if v15 = 1 then some 1 else some 0 else some 1 : Option Int) = some (b01 (cm || decide (rk (kd K p) = 1))) := by
      rw [m_rank, Option.bind_some]
      cases cm with
      | true => rfl
      | false =>
        rw [show b01 false = 0 from rfl, if_pos rfl, Bool.false_or]
        by_cases z : rk (kd K p) = 1
        · rw [z]; rfl
        · rw [if_neg (by omega), decide_eq_false z]; rfl
    rw [ec, Option.bind_some, wt_57 (by omega) (by omega), Option.bind_some, m_rank, Option.bind_some]
    refine (X_pairAll hr (h0.cmp (c' := cm || decide (rk (kd K p) = 1)))).bd fun s1 hs => ?_
    obtain ⟨g1, g2⟩ := hs
    have g1' := g1
    obtain ⟨⟨-, -, -, ⟨a7, -⟩, -, -⟩, -, σ', δ', hi', σb', δb', lb', ⟨k1, k2, k3, k4, k5⟩, k6, k7, -⟩ := g1'
    dsimp only at k2 k4
    have u26 : s1 26 0 = p := (g2 26 (by omega)).trans (by simp (disch := omega) only [up_o]; exact h26)
    simp (disch := omega) only [bd1, Option.bind_some, wr_id', up_o, up_hit, rd_50, wt_50, u26]
    rw [Ok_some]
    refine ⟨rfl, ?_, ?_, (X_push hpl hr g1).pos, ?_⟩
    · simp (disch := omega) only [up_o]; rw [g2 58 (by omega)]; simp (disch := omega) only [up_o]; exact h58
    · simp (disch := omega) only [up_o]; rw [g2 63 (by omega)]; simp (disch := omega) only [up_o]; exact h63
    · simp (disch := omega) only [up_hit]; push_cast; rfl
  · rw [if_neg q1, if_neg (fun z => q1 (by rcases z with z | z; exact Or.inl (by omega); exact Or.inr ⟨by omega, cmz.mp z.2⟩))]
    rw [jn_e]
    dsimp only
    cases fs with
    | nil =>
      have b2' : s 54 0 = 0 := b2
      rw [show (([] : List BF).length : Int) = 0 from rfl]
      rw [if_neg (show ¬ (0 : Int) < 0 by decide), ite_self, jn_e]
      dsimp only
      rw [b2', if_neg (show ¬ (0 : Int) < 0 by decide), ite_self, if_neg (show ¬ (0 : Int) < 0 by decide), Option.bind_some]
      unfold bd1
      rw [Ok_some]
      refine ⟨rfl, ?_, (show up (up s 58 0 0) 63 0 1 63 0 = 1 from up_hit), ?_, pe, cm, e, h0.same (fun k i z => by simp (disch := omega) only [up_o]), rfl⟩
      · simp (disch := omega) only [up_o, up_hit]
      · simp (disch := omega) only [up_o]; exact h26
    | cons x l =>
      obtain ⟨x, b, kn⟩ := x
      have b2' : s 54 0 = (l.length : Int) + 1 := by rw [b2, List.length_cons]; push_cast; rfl
      rw [show (((((x, b, kn) : BF) :: l).length : Nat) : Int) = (l.length : Int) + 1 by rw [List.length_cons]; push_cast; rfl]
      rw [if_pos (show (0 : Int) < (l.length : Int) + 1 by omega), rd_55 (by omega) (by rw [List.length_cons] at c2; push_cast at c2; omega), Option.bind_some]
      dsimp only
      have hpe := XS0_red h0
      -- a bracket is closed, or it ends
      have rest : ¬ (kd K p = 14 ∧ isCa ((x, b, kn) :: l) = true) → Ok (jn (α := MS) (fun s21 => (if 0 < (s21 54 0) then some 1 else some 0 : Option Int).bind fun c23 => bd1 (up s21 58 0 c23) fun s25 => bd1 (up s25 63 0 1) fun s26 => some ((0 : Int), s26)) fun j28 => if kd K p = 11 then if 0 < (s 54 0) then (M_closeBracket s 1 (p : Int)).bind fun s29 => bd1 (up s29 26 0 (wr ((s29 26 0) + 1))) fun s30 => some ((0 : Int), s30) else j28 s else j28 s) fun x' => stR s0 K n0 nb (if kd K p = 11 then clS K false (x, b, kn) l (some (red K 1 pe e).2) (p + 1) else .inl (.inl p)) x' := by
        intro _
        rw [jn_e]
        dsimp only
        rw [b2', if_pos (show (0 : Int) < (l.length : Int) + 1 by omega)]
        by_cases q3 : kd K p = 11
        · rw [if_pos q3, if_pos q3]
          have hpl := kd_eq q3 (by decide)
          unfold clS
          cases kn with
          | inl o =>
            refine (X_close1 (pc := (p : Int)) hpl h0).bd fun s' hs => ?_
            obtain ⟨g1, g2⟩ := hs
            unfold bd1
            rw [Ok_some, g2 26 (by omega), h26, wr_id' (by omega) (by omega)]
            refine fin g1.pos ?_ ?_ ?_
            · rw [up_o (by omega), g2 58 (by omega)]; exact h58
            · rw [up_o (by omega), g2 63 (by omega)]; exact h63
            · rw [up_hit]; push_cast; rfl
          | inr y =>
            refine (X_close2 (pc := (p : Int)) hpl h0).bd fun s' hs => ?_
            obtain ⟨g1, g2⟩ := hs
            unfold bd1
            rw [Ok_some, g2 26 (by omega), h26, wr_id' (by omega) (by omega)]
            refine fin g1.pos ?_ ?_ ?_
            · rw [up_o (by omega), g2 58 (by omega)]; exact h58
            · rw [up_o (by omega), g2 63 (by omega)]; exact h63
            · rw [up_hit]; push_cast; rfl
        · rw [if_neg q3, if_neg q3, if_pos (show (0 : Int) < (l.length : Int) + 1 by omega), Option.bind_some]
          unfold bd1
          rw [Ok_some]
          have hnF := nbF_pos (l := (x, b, kn) :: l)
          refine ⟨rfl, ?_, a1.ex (fun i => by simp (disch := omega) only [up_o]), a2.ex (fun k i z => ?_), ?_, ?_, ?_⟩
          · simp (disch := omega) only [up_o, up_hit]
          · unfold ZE at z; simp (disch := omega) only [up_o]
          · simp (disch := omega) only [up_o]; exact h26
          · simp (disch := omega) only [up_o]; omega
          · simp (disch := omega) only [up_o]; omega
      by_cases q2 : kd K p = 14 ∧ isCa ((x, b, kn) :: l) = true
      · rw [if_pos q2, if_pos q2.1]
        have hpl := kd_eq q2.1 (by decide)
        cases kn with
        | inl o => cases q2.2
        | inr y =>
          obtain ⟨-, m, σc, δc, lc, f1, ⟨c, ca, z, f2, f3, f4, -⟩, f11, f12⟩ := d8
          have hcc := FRr_lb f12
          have hcd := PEr_lb f11
          rw [f2, if_neg (by omega)]
          refine (X_pairAll (r := 1) (Nat.le_refl _) h0).bd fun s1 hs => ?_
          rw [hpe] at hs
          obtain ⟨g1, g2⟩ := hs
          have u54 : s1 54 0 = (l.length : Int) + 1 := by have := g1.2.1.2.1; rw [List.length_cons] at this; push_cast at this; exact this
          refine (X_arg hpl g1).bd fun s2 hs => ?_
          obtain ⟨⟨g3, g4⟩, g5⟩ := hs
          have v54 : s2 54 0 = (l.length : Int) + 1 := g3.2.2.1.trans u54
          have v26 : s2 26 0 = p := (g4 26 (by omega)).trans ((g2 26 (by omega)).trans h26)
          rw [v54, wt_57 (by omega) (by rw [List.length_cons] at c2; push_cast at c2; omega), Option.bind_some]
          unfold bd1
          rw [Ok_some, up_o (by omega), v26, wr_id' (by omega) (by omega)]
          refine ⟨rfl, ?_, ?_, g5.pos, ?_⟩
          · simp (disch := omega) only [up_o]; rw [g4 58 (by omega), g2 58 (by omega)]; exact h58
          · simp (disch := omega) only [up_o]; rw [g4 63 (by omega), g2 63 (by omega)]; exact h63
          · show up (up s2 57 ((l.length : Int) + 1) 0) 26 0 ((p : Int) + 1) 26 0 = ((p + 1 : Nat) : Int)
            rw [up_hit]; push_cast; rfl
      · rw [if_neg q2]
        by_cases q3 : kd K p = 14
        · rw [if_pos q3]
          have q4 : ¬ isCa ((x, b, kn) :: l) = true := fun z => q2 ⟨q3, z⟩
          cases kn with
          | inr y => exact absurd rfl q4
          | inl o =>
            obtain ⟨-, m, σc, δc, lc, f1, ⟨f2, f3⟩, f11, f12⟩ := d8
            rw [f2, if_pos rfl]
            exact rest q2
        · rw [if_neg q3]
          exact rest q2
/-- the first state -/
def sy0 (p : Nat) : SYs := ([], [], false, none, none, p)
theorem duS_al {al : Bool} : duS K true fs pe cm bg p = match duS K false fs pe cm bg p with
    | .inl r => .inl r
    | .inr t => if t.1 = [] ∧ due1 t = 0 then .inl (.inr ((red K 1 t.2.1 (t.2.2.2.2.1.getD (.num 0))).2, t.2.2.2.2.2)) else .inr t := by
  have fl : ∀ (fs' : List BF) (pe' : PD) (cm' : Bool) (e' : EX) (p' : Nat), flS K true fs' pe' cm' e' p' = match flS K false fs' pe' cm' e' p' with
    | .inl r => .inl r
    | .inr t => if t.1 = [] ∧ due1 t = 0 then .inl (.inr ((red K 1 t.2.1 (t.2.2.2.2.1.getD (.num 0))).2, t.2.2.2.2.2)) else .inr t := fun fs' pe' cm' e' p' => by
    have e1 : flS K false fs' pe' cm' e' p' = .inr (fs', pe', cm', none, some e', p') := if_neg (fun z => by cases z.1)
    rw [e1]
    unfold flS
    by_cases q : fs' = []
    · rw [if_pos ⟨rfl, q⟩]; dsimp only; rw [if_pos ⟨q, rfl⟩]; rfl
    · rw [if_neg (fun z => q z.2)]; dsimp only; rw [if_neg (fun z => q z.1)]
  unfold duS
  split
  · cases fs with
    | nil => rfl
    | cons x l => unfold clS; exact fl _ _ _ _ _
  · split
    · dsimp only; rw [if_neg (fun z => by cases z.2)]
    · split
      · dsimp only; rw [if_neg (fun z => by cases z.2)]
      · split
        · dsimp only; rw [if_neg (fun z => by cases z.2)]
        · split
          · exact fl _ _ _ _ _
          · rfl
theorem goS_al : goS K true fs pe cm e p = match goS K false fs pe cm e p with
    | .inl r => .inl r
    | .inr t => if t.1 = [] ∧ due1 t = 0 then .inl (.inr ((red K 1 t.2.1 (t.2.2.2.2.1.getD (.num 0))).2, t.2.2.2.2.2)) else .inr t := by
  have fl : ∀ (fs' : List BF) (pe' : PD) (cm' : Bool) (e' : EX) (p' : Nat), flS K true fs' pe' cm' e' p' = match flS K false fs' pe' cm' e' p' with
    | .inl r => .inl r
    | .inr t => if t.1 = [] ∧ due1 t = 0 then .inl (.inr ((red K 1 t.2.1 (t.2.2.2.2.1.getD (.num 0))).2, t.2.2.2.2.2)) else .inr t := fun fs' pe' cm' e' p' => by
    have e1 : flS K false fs' pe' cm' e' p' = .inr (fs', pe', cm', none, some e', p') := if_neg (fun z => by cases z.1)
    rw [e1]
    unfold flS
    by_cases q : fs' = []
    · rw [if_pos ⟨rfl, q⟩]; dsimp only; rw [if_pos ⟨q, rfl⟩]; rfl
    · rw [if_neg (fun z => q z.2)]; dsimp only; rw [if_neg (fun z => q z.1)]
  unfold goS
  split
  · dsimp only; rw [if_neg (fun z => by cases z.2)]
  · cases fs with
    | nil => rfl
    | cons x l =>
      dsimp only
      split
      · dsimp only; rw [if_neg (fun z => by cases z.2)]
      · split
        · unfold clS; exact fl _ _ _ _ _
        · rfl
theorem syS_al {t : SYs} : syS K true t = match syS K false t with
    | .inl r => .inl r
    | .inr t => if t.1 = [] ∧ due1 t = 0 then .inl (.inr ((red K 1 t.2.1 (t.2.2.2.2.1.getD (.num 0))).2, t.2.2.2.2.2)) else .inr t := by
  obtain ⟨fs, pe, cm, bg, o, p⟩ := t
  cases o with
  | none => exact duS_al (al := true)
  | some e => exact goS_al
/-- what comes of the reading of an expr -/
def RX (s0 s : MS) (K : List Int) (n0 nb : Int) (r : PR) : Prop := (SeqR s K ∧ Fmz (ZE n0) s0 s ∧ n0 ≤ s 27 0) ∧ match r with
  | .inl q => s 58 0 = 1 ∧ s 26 0 = q ∧ s 27 0 ≤ nb + q
  | .inr y => s 58 0 = 0 ∧ s 26 0 = y.2 ∧ s 27 0 ≤ nb + y.2 ∧ isX y.1 = true ∧ NE s K y.1 n0 (s 27 0) (s 59 0) (frm y.1) ∧ s 34 (s 59 0) = -1
theorem m_readExpr {al : Bool} (hS : SeqR s K) (hp : p ≤ K.length) (h26 : s 26 0 = p) (hn : 0 ≤ s 27 0) (hB : s 27 0 + (K.length - p : Int) < 1600) : Ok (M_readExpr s (b01 al)) fun s' => RX s s' K (s 27 0) (s 27 0 - p) (SYQ K al (sy0 p)) := by
  have hl := hS.1
  unfold M_readExpr
  simp (disch := omega) only [bd1, Option.bind_some, wr_id', up_o, up_hit, rd_57, wt_57]
  have g0 : ∀ k i, ¬ ((k = 51 ∨ k = 53 ∨ k = 54 ∨ k = 57 ∨ k = 60 ∨ k = 58 ∨ k = 63) ∧ i = 0) → up (up (up (up (up (up (up s 51 0 0) 53 0 0) 54 0 0) 57 0 0) 60 0 (-1)) 58 0 0) 63 0 0 k i = s k i := fun k i z => by simp (disch := omega) only [up_o]
  have z51 : up (up (up (up (up (up (up s 51 0 0) 53 0 0) 54 0 0) 57 0 0) 60 0 (-1)) 58 0 0) 63 0 0 51 0 = 0 := by simp (disch := omega) only [up_o, up_hit]
  have z53 : up (up (up (up (up (up (up s 51 0 0) 53 0 0) 54 0 0) 57 0 0) 60 0 (-1)) 58 0 0) 63 0 0 53 0 = 0 := by simp (disch := omega) only [up_o, up_hit]
  have z54 : up (up (up (up (up (up (up s 51 0 0) 53 0 0) 54 0 0) 57 0 0) 60 0 (-1)) 58 0 0) 63 0 0 54 0 = 0 := by simp (disch := omega) only [up_o, up_hit]
  have z57 : up (up (up (up (up (up (up s 51 0 0) 53 0 0) 54 0 0) 57 0 0) 60 0 (-1)) 58 0 0) 63 0 0 57 0 = 0 := by simp (disch := omega) only [up_o, up_hit]
  have z60 : up (up (up (up (up (up (up s 51 0 0) 53 0 0) 54 0 0) 57 0 0) 60 0 (-1)) 58 0 0) 63 0 0 60 0 = -1 := by simp (disch := omega) only [up_o, up_hit]
  have z58 : up (up (up (up (up (up (up s 51 0 0) 53 0 0) 54 0 0) 57 0 0) 60 0 (-1)) 58 0 0) 63 0 0 58 0 = 0 := by simp (disch := omega) only [up_o, up_hit]
  have z63 : up (up (up (up (up (up (up s 51 0 0) 53 0 0) 54 0 0) 57 0 0) 60 0 (-1)) 58 0 0) 63 0 0 63 0 = 0 := by simp (disch := omega) only [up_hit]
  generalize up (up (up (up (up (up (up s 51 0 0) 53 0 0) 54 0 0) 57 0 0) 60 0 (-1)) 58 0 0) 63 0 0 = s1 at g0 z51 z53 z54 z57 z60 z58 z63 ⊢
  have e27 : s1 27 0 = s 27 0 := g0 27 0 (by omega)
  have x0 : XS s s1 K (s 27 0) (s 27 0 - p) (sy0 p) := by
    refine ⟨⟨⟨hS.ex (fun i => g0 24 i (by omega)), Fmz.rf.ex (fun k i z => g0 k i (fun y => z ?_)), hp, by omega, by omega, by omega⟩, ⟨z60, z54, z57⟩, 0, 0, s 27 0, 0, 0, s 27 0, ⟨z51, rfl, Int.le_refl _, ?_, by omega⟩, ⟨rfl, rfl, Int.le_refl _⟩, ⟨rfl, rfl, Int.le_refl _⟩, z53, (fun o ho => by cases ho), fun q hq => by cases hq⟩, ?_⟩
    · unfold ZE; omega
    · show s1 27 0 + 0 + 0 + 0 ≤ s 27 0 - p + p; omega
    · exact (g0 26 0 (by omega)).trans h26
  -- running, ended, failed
  let J : (Int × MS) → Prop := fun a => (∃ t, XS s a.2 K (s 27 0) (s 27 0 - p) t ∧ a.1 = due1 t ∧ a.2 58 0 = 0 ∧ a.2 63 0 = 0 ∧ SYQ K al t = SYQ K al (sy0 p)) ∨ (∃ pe cm e q, XS0 s a.2 K (s 27 0) (s 27 0 - p) ([], pe, cm, none, some e, q) ∧ a.2 26 0 = q ∧ a.2 58 0 = 0 ∧ a.2 63 0 = 1 ∧ SYQ K al (sy0 p) = .inr ((red K 1 pe e).2, q)) ∨ (∃ q, FX s a.2 K (s 27 0) (s 27 0 - p) q ∧ a.2 58 0 = 1 ∧ SYQ K al (sy0 p) = .inl q)
  have lp := lp_ok (F := B_readExpr_39 (b01 al)) (μ := fun a => if a.2 63 0 = 0 ∧ a.2 58 0 = 0 then ((K.length : Int) + 1 - a.2 26 0).toNat + 1 else 0) (I := J) (P := fun _ s' => (∃ pe cm e q, XS0 s s' K (s 27 0) (s 27 0 - p) ([], pe, cm, none, some e, q) ∧ s' 26 0 = q ∧ s' 58 0 = 0 ∧ SYQ K al (sy0 p) = .inr ((red K 1 pe e).2, q)) ∨ (∃ q, FX s s' K (s 27 0) (s 27 0 - p) q ∧ s' 58 0 = 1 ∧ SYQ K al (sy0 p) = .inl q)) (fun rec a hI ih => ?_) FU (1, s1) (Or.inl ⟨_, x0, rfl, z58, z63, rfl⟩) (FU_lt (by dsimp only; have z26 := x0.2; rw [show (sy0 p).2.2.2.2.2 = p from rfl] at z26; rw [z26]; split <;> omega))
  · refine lp.bd fun s2 hs => ?_
    rcases hs with ⟨pe, cm, e, q, g1, g2, g3, g4⟩ | ⟨q, ⟨g1, g2, g3, g4, g5⟩, g6, g7⟩
    · rw [if_pos g3]
      have hpe := XS0_red g1
      refine (X_pairAll (r := 1) (Nat.le_refl _) g1).bd fun s3 hs => ?_
      rw [hpe] at hs
      obtain ⟨⟨⟨a1, a2, a3, a4, a5, a6⟩, -, σ, δ, hi, σb, δb, lb, ⟨c1, c2, c3, c4, c5⟩, ⟨d1, d2, d3⟩, ⟨e1, e2, e3⟩, d9, d10, n, d11, d12, d13, d14, d15⟩, k1⟩ := hs
      have hδ : δ = 0 := by omega
      subst hδ
      rw [rd_52 (by decide) (by decide), Option.bind_some, d11]
      rw [Ok_some, g4]
      have hy := NE_in d12 d13
      have hz : nb1 (none : Option Nat) = 0 := rfl
      dsimp only at c4 c2
      have hnf : nbF ([] : List BF) = 0 := rfl
      have hle : (([] : List BF).length : Int) = 0 := rfl
      refine ⟨⟨a1.ex (fun i => up_o (by omega)), a2.ex (fun k i z => up_o (fun y => z ?_)), by rw [up_o (by omega)]; exact a4.1⟩, ?_, ?_, ?_, d12, ?_, ?_⟩
      · unfold ZE; omega
      · rw [up_o (by omega), k1 58 (by omega)]; exact g3
      · rw [up_o (by omega), k1 26 (by omega)]; exact g2
      · rw [up_o (by omega)]; omega
      · rw [up_hit, up_o (by omega)]
        exact (d13.ag (fun k i a b _ _ => up_o (by omega))).wk (by omega) (Int.le_refl _)
      · rw [up_hit, up_o (by omega)]; exact d14
    · rw [if_neg (by rw [g6]; decide), Ok_some, g7]
      exact ⟨⟨g1, g2, g4⟩, g6, g3, g5⟩
  · obtain ⟨l2, a⟩ := a
    unfold B_readExpr_39
    dsimp only at hI ih ⊢
    rcases hI with ⟨t, g1, rfl, g3, g4, g5⟩ | ⟨pe, cm, e, q, g1, g2, g3, g4, g5⟩ | ⟨q, g1, g2, g3⟩
    · dsimp only at g1 g3 g4
      rw [if_pos g4, if_pos g3]
      have hpl : t.2.2.2.2.2 ≤ K.length := g1.1.1.2.2.1
      have ha26 : a 26 0 = t.2.2.2.2.2 := g1.2
      -- what follows either way
      have after : ∀ (x : Int × MS), stR s K (s 27 0) (s 27 0 - p) (syS K false t) x → Ok ((if (x.2 63 0) = 0 then if b01 al = 0 then some 0 else if x.1 = 0 then if (x.2 54 0) = 0 then some 1 else some 0 else some 0 else some 1 : Option Int).bind fun c16 => bd1 (up x.2 63 0 c16) fun s18 => rec (x.1, s18)) fun s' => (∃ pe cm e q, XS0 s s' K (s 27 0) (s 27 0 - p) ([], pe, cm, none, some e, q) ∧ s' 26 0 = q ∧ s' 58 0 = 0 ∧ SYQ K al (sy0 p) = .inr ((red K 1 pe e).2, q)) ∨ (∃ q, FX s s' K (s 27 0) (s 27 0 - p) q ∧ s' 58 0 = 1 ∧ SYQ K al (sy0 p) = .inl q) := by
        rintro ⟨x1, s2⟩ hx
        dsimp only
        have u63 : ∀ (c : Int) k i, ¬ (k = 63 ∧ i = 0) → up s2 63 0 c k i = s2 k i := fun c k i z => up_o z
        have h63 : ∀ c : Int, up s2 63 0 c 63 0 = c := fun c => up_hit
        have hmu : (if a 63 0 = 0 ∧ a 58 0 = 0 then ((K.length : Int) + 1 - a 26 0).toNat + 1 else 0) = ((K.length : Int) + 1 - t.2.2.2.2.2).toNat + 1 := by rw [if_pos ⟨g4, g3⟩, ha26]
        have hall : syS K al t = match syS K false t with
            | .inl r => .inl r
            | .inr t => if al = true ∧ t.1 = [] ∧ due1 t = 0 then .inl (.inr ((red K 1 t.2.1 (t.2.2.2.2.1.getD (.num 0))).2, t.2.2.2.2.2)) else .inr t := by
          cases al with
          | false => cases syS K false t <;> simp
          | true =>
            rw [syS_al]
            cases syS K false t <;> simp
        cases hs : syS K false t with
        | inl r =>
          rw [hs] at hx hall
          have hfin : SYQ K al t = r := SYQ_fin hpl hall
          cases r with
          | inl q =>
            obtain ⟨h1, h2, h3⟩ := hx
            dsimp only at h1 h2 h3
            subst h1
            obtain ⟨c16, hc⟩ : ∃ c16, (if (s2 63 0) = 0 then if b01 al = 0 then some 0 else if (0 : Int) = 0 then if (s2 54 0) = 0 then some 1 else some 0 else some 0 else some 1 : Option Int) = some c16 := by
              repeat' split
              all_goals exact ⟨_, rfl⟩
            rw [hc, Option.bind_some]
            unfold bd1
            have f58 : up s2 63 0 c16 58 0 = 1 := (u63 _ 58 0 (by omega)).trans h2
            refine ih _ (Or.inr (Or.inr ⟨q, ?_, f58, by rw [← g5]; exact hfin⟩)) (by rw [hmu, if_neg (by dsimp only; rw [f58]; exact fun z => absurd z.2 (by decide))]; omega)
            obtain ⟨k1, k2, k3, k4, k5⟩ := h3
            refine ⟨k1.ex (fun i => u63 c16 24 i (by omega)), k2.ex (fun k i z => u63 c16 k i (fun y => z ?_)), (u63 c16 26 0 (by omega)).trans k3, ?_, ?_⟩
            · unfold ZE; omega
            · show s 27 0 ≤ up s2 63 0 c16 27 0
              rw [up_o (by omega)]; exact k4
            · show up s2 63 0 c16 27 0 ≤ _
              rw [up_o (by omega)]; exact k5
          | inr y =>
            obtain ⟨h1, h2, h3, h4, pe, cm, e, h5, h6⟩ := hx
            dsimp only at h1 h2 h3 h4 h5
            rw [if_neg (by rw [h3]; decide), Option.bind_some]
            unfold bd1
            refine ih _ (Or.inr (Or.inl ⟨pe, cm, e, y.2, h5.same (fun k i z => u63 1 k i (by omega)), (u63 1 26 0 (by omega)).trans h4, (u63 1 58 0 (by omega)).trans h2, h63 1, by rw [← g5, hfin, h6]⟩)) (by rw [hmu, if_neg (by dsimp only; rw [h63]; exact fun z => absurd z.1 (by decide))]; omega)
        | inr u =>
          rw [hs] at hx hall
          have hnx := syS_nx hs
          obtain ⟨h1, h2, h3, h4⟩ := hx
          dsimp only at h1 h2 h3 h4 hall
          have h4' := h4
          obtain ⟨⟨⟨-, -, hul, -, -, -⟩, ⟨-, u54, -⟩, -⟩, u26⟩ := h4'
          subst h1
          by_cases q : al = true ∧ u.1 = [] ∧ due1 u = 0
          · rw [if_pos q] at hall
            have hfin := SYQ_fin hpl hall
            obtain ⟨rfl, q2, q3⟩ := q
            obtain ⟨fs, pe, cm, bg, o, q'⟩ := u
            dsimp only at q2 hfin u54 hul u26
            subst q2
            cases o with
            | none => exact absurd q3 (show ¬ (1 : Int) = 0 by decide)
            | some e =>
              have hbg : bg = none := by obtain ⟨⟨-, -, σ, δ, hi, σb, δb, lb, -, -, -, z, -⟩, -⟩ := h4; exact z
              subst hbg
              rw [if_pos h3, if_neg (by decide), if_pos q3, if_pos (show s2 54 0 = 0 from u54), Option.bind_some]
              unfold bd1
              refine ih _ (Or.inr (Or.inl ⟨pe, cm, e, q', h4.1.same (fun k i z => u63 1 k i (by omega)), (u63 1 26 0 (by omega)).trans u26, (u63 1 58 0 (by omega)).trans h2, h63 1, by rw [← g5, hfin]; rfl⟩)) (by rw [hmu, if_neg (by dsimp only; rw [h63]; exact fun z => absurd z.1 (by decide))]; omega)
          · rw [if_neg q] at hall
            have hst : SYQ K al t = SYQ K al u := SYQ_st hpl hul hall
            have hc : (if (s2 63 0) = 0 then if b01 al = 0 then some 0 else if due1 u = 0 then if (s2 54 0) = 0 then some 1 else some 0 else some 0 else some 1 : Option Int) = some 0 := by
              rw [if_pos h3]
              cases al with
              | false => rfl
              | true =>
                rw [if_neg (by decide)]
                by_cases z1 : due1 u = 0
                · rw [if_pos z1, if_neg (fun z => q ⟨rfl, by rw [u54] at z; exact List.eq_nil_of_length_eq_zero (by omega), z1⟩)]
                · rw [if_neg z1]
            rw [hc, Option.bind_some]
            unfold bd1
            refine ih _ (Or.inl ⟨u, ⟨h4.1.same (fun k i z => u63 0 k i (by omega)), (u63 0 26 0 (by omega)).trans u26⟩, rfl, (u63 0 58 0 (by omega)).trans h2, h63 0, by rw [← g5, hst]⟩) ?_
            rw [hmu, if_pos ⟨h63 0, (u63 0 58 0 (by omega)).trans h2⟩]
            show ((K.length : Int) + 1 - up s2 63 0 0 26 0).toNat + 1 < _
            rw [u63 0 26 0 (by omega), u26]
            omega
      obtain ⟨fs, pe, cm, bg, o, q⟩ := t
      cases o with
      | some e =>
        have hbg : bg = none := by obtain ⟨⟨-, -, σ, δ, hi, σb, δb, lb, -, -, -, z, -⟩, -⟩ := g1; exact z
        subst hbg
        rw [if_pos (show due1 (fs, pe, cm, none, some e, q) = 0 from rfl), Option.bind_assoc]
        refine (X_go g1 g3 g4).bd fun x hx => ?_
        exact after x hx
      | none =>
        rw [if_neg (show ¬ due1 (fs, pe, cm, bg, none, q) = 0 from (show ¬ (1 : Int) = 0 by decide))]
        have hc : (if 0 < (a 54 0) then (rdc a 55 (a 54 0)).bind fun v28 => if v28 = (-1) then some 0 else (rdc a 24 (wr ((a 26 0) - 1))).bind fun v29 => if v29 = 10 then if (a 60 0) = (-1) then some 1 else some 0 else some 0 else some 0 : Option Int) = some (b01 (mayC K fs bg q)) := by
          obtain ⟨⟨⟨a1, a2, a3, a4, a5, a6⟩, ⟨b1, b2, b3⟩, σ, δ, hi, σb, δb, lb, ⟨c1, c2, c3, c4, c5⟩, d7, d8, d9, d10, d11⟩, b26⟩ := g1
          dsimp only at a3 b1 b2 c2 c4 d7 d8 d10 d11 b26
          have lb0 := FRr_lb d8
          have hL := PEr_lb d7
          have hnb := nb1_pos (b := bg)
          have hnF := nbF_pos (l := fs)
          cases fs with
          | nil =>
            rw [show a 54 0 = 0 from b2, if_neg (by decide)]
            rfl
          | cons x l =>
            obtain ⟨x, b, kn⟩ := x
            rw [List.length_cons] at b2 c2
            push_cast at b2 c2
            rw [b2, if_pos (by omega), rd_55 (by omega) (by omega), Option.bind_some]
            obtain ⟨-, m, σc, δc, lc, f1, f2, f11, f12⟩ := d8
            have hcc := FRr_lb f12
            have hcd := PEr_lb f11
            have hq1 : 1 ≤ q := by omega
            cases kn with
            | inl o => rw [f2.1, if_pos rfl]; rfl
            | inr y =>
              obtain ⟨c, ca, z, f3, f4, f5, -⟩ := f2
              have hk := a1.2 (q - 1) (by omega)
              rw [show ((q - 1 : Nat) : Int) = (q : Int) - 1 by omega] at hk
              rw [f3, if_neg (by omega), b26, wr_id' (by omega) (by omega), rd_24 (by omega) (by omega), Option.bind_some, hk, b1]
              unfold mayC
              rw [show isCa ((x, b, Sum.inr y) :: l) = true from rfl, Bool.true_and]
              by_cases z1 : kd K (q - 1) = 10
              · rw [if_pos z1, z1]
                cases bg with
                | none => rfl
                | some w => rw [if_neg (by show ¬ (w : Int) = -1; omega)]; rfl
              · rw [if_neg z1, decide_eq_false z1]; rfl
        rw [hc, Option.bind_some, Option.bind_assoc]
        refine (X_due g1 g3 g4).bd fun x hx => ?_
        exact after x hx
    · dsimp only at g1 g2 g3 g4
      rw [if_neg (by rw [g4]; decide), Ok_some]
      exact Or.inl ⟨pe, cm, e, q, g1, g2, g3, g5⟩
    · dsimp only at g1 g2
      by_cases z : a 63 0 = 0
      · rw [if_pos z, if_neg (by rw [g2]; decide), Ok_some]
        exact Or.inr ⟨q, g1, g2, g3⟩
      · rw [if_neg z, Ok_some]
        exact Or.inr ⟨q, g1, g2, g3⟩
end Ops4
