/-! N11: the model reads statements, items, a file -/
set_option maxRecDepth 100000
set_option linter.unusedVariables false
section Stm4
variable {s0 s : MS} {K : List Int} {n0 nb : Int} {I : List IT} {F : List Flt} {O : List EX} {x : OB} {st : List OB} {p : Nat}
theorem sy_e {q : Nat} (h : q ≤ K.length) : SYQ K false (sy0 q) = pX K q := SY_expr (by omega) h
theorem sy_c {q : Nat} (h0 : kd K q = 0) (h1 : kd K (q + 1) = 10) : SYQ K true (sy0 q) = cX K q := SY_call (by omega) h0 h1
theorem dlv_O {w : WY} {B : EX} {q : Nat} : (dlv K w st B q I F O).2.2.2.2 = O := by
  unfold dlv
  cases w with
  | inl f => rfl
  | inr w =>
    cases w with
    | none => rfl
    | some w =>
      obtain ⟨t, g⟩ := w
      cases g with
      | some g => rfl
      | none => dsimp only; repeat' split
                all_goals rfl
theorem dlv_6 {w : WY} {B : EX} {q : Nat} (h : kd K q ≠ 6) : (dlv K w st B q I F O).2.1 = q ∧ (dlv K w st B q I F O).1.length = st.length ∧ (∀ f, w = .inl f → (dlv K w st B q I F O).2.2.1 = I ++ [.inr (f.1, f.2, B)]) := by
  unfold dlv
  cases w with
  | inl f => exact ⟨rfl, rfl, fun f' e => by cases e; rfl⟩
  | inr w =>
    cases w with
    | none => exact ⟨rfl, addS_len, fun f e => by cases e⟩
    | some w =>
      obtain ⟨t, g⟩ := w
      cases g with
      | some g => exact ⟨rfl, addS_len, fun f e => by cases e⟩
      | none => dsimp only; rw [if_neg h]; exact ⟨rfl, addS_len, fun f e => by cases e⟩
/-- which blocks are begun is kept -/
theorem m_rec {d : Nat} (hd : d ≤ 200) (h41 : s 41 0 = d) : Ok (lp (B_readStatement_69) FU (0, s)) fun s' => (∀ j : Nat, j < d → s' 47 j = s 42 j) ∧ ∀ k i, k ≠ 47 → s' k i = s k i := by
  refine lp_ok (F := B_readStatement_69) (μ := fun a => ((d : Int) - a.1).toNat) (I := fun a => ∃ n : Nat, a.1 = n ∧ n ≤ d ∧ (∀ j : Nat, j < n → a.2 47 j = s 42 j) ∧ ∀ k i, k ≠ 47 → a.2 k i = s k i) (P := fun _ s' => (∀ j : Nat, j < d → s' 47 j = s 42 j) ∧ ∀ k i, k ≠ 47 → s' k i = s k i) (fun rec a hI ih => ?_) FU (0, s) ⟨0, rfl, Nat.zero_le _, fun j h => absurd h (Nat.not_lt_zero _), fun _ _ _ => rfl⟩ (FU_lt (by dsimp only; omega))
  obtain ⟨y, s1⟩ := a
  obtain ⟨n, rfl, hn, h1, h2⟩ := hI
  dsimp only at h1 h2
  unfold B_readStatement_69
  dsimp only
  rw [h2 41 0 (by decide), h41]
  by_cases q : (n : Int) < d
  · rw [if_pos q]
    have e42 := h2 42 (n : Int) (by decide)
    simp (disch := omega) only [bd1, Option.bind_some, wr_id', up_o, up_hit, rd_42, wt_42, rd_47, wt_47, e42]
    refine ih _ ⟨n + 1, by push_cast; rfl, by omega, fun j hj => ?_, fun k i z => (up_o (by omega)).trans (h2 k i z)⟩ (by dsimp only; omega)
    show up s1 47 (n : Int) (s 42 n) 47 j = s 42 j
    by_cases z : j = n
    · subst z; rw [up_hit]
    · rw [up_o (by omega)]; exact h1 j (by omega)
  · rw [if_neg q, Ok_some]
    have : n = d := by omega
    subst this
    exact ⟨h1, h2⟩
theorem m_readStatement (h : RSM s0 s K n0 nb (x :: st, p, I, F, O)) : Ok (M_readStatement s) fun s' => RSM s0 s' K n0 nb (stS K x st p I F O) := by
  obtain ⟨hm, h26, hA⟩ := h
  dsimp only at hm h26 hA
  have hm' := hm
  obtain ⟨⟨a1, a2, a3, a4, a5, a6⟩, ⟨b1, b2⟩, c1, d1⟩ := hm
  have hl := a1.1
  have lb := STK_lb c1
  have b1' : s 41 0 = (st.length : Int) + 1 := by rw [b1, List.length_cons]; push_cast; rfl
  rw [List.length_cons] at b2
  have k0 := a1.2 p (by omega)
  have k1 : s 24 ((p : Int) + 1) = kd K (p + 1) := by have := a1.2 (p + 1) (by omega); push_cast at this; exact this
  have k2 : s 24 ((p : Int) + 2) = kd K (p + 2) := by have := a1.2 (p + 2) (by omega); push_cast at this; exact this
  unfold M_readStatement
  rw [h26, rd_24 (by omega) (by omega), Option.bind_some, k0]
  unfold bd1 stS
  dsimp only
  by_cases z13 : kd K p = 13
  · rw [if_pos z13, if_pos z13, wr_id' (by omega) (by omega)]
    obtain ⟨rfl, h46⟩ := hA.z (by rw [z13]; decide)
    have hpl := kd_eq z13 (by decide)
    refine Ok_bind.mpr ((m_close (s0 := s0) (n0 := n0) (nb := nb) (I := I) (F := F) (O := []) (x := x) (st := st) (s := up s 26 0 ((p : Int) + 1)) (q := p + 1) (ev := (p : Int)) (lb := .natCast (2 * (p + 1) + (true).toNat)) (a1.ex (fun i => up_o (by omega))) (a2.ex (fun k i z => up_o (fun y => z (by unfold ZR; omega)))) hpl a4 (by rw [up_o (by omega)]; push_cast; omega) a6 ((up_o (by omega)).trans b1') (by omega) (by rw [up_o (by omega)]; exact c1.ag (AgS.of (fun k i u1 u2 u3 u4 u5 u6 u7 u8 u9 v w => up_o (by omega)))) (d1.ag (fun k i u v => up_o (by omega))) (by rw [up_hit]; push_cast; rfl) ?_).imp fun s' hs => Ok_some.mpr ?_)
    · show (if (2 * (p + 1) + 1) % 2 = 1 then (((2 * (p + 1) + 1) / 2 : Nat) : Int) - 1 else -1) = p
      rw [if_pos (by omega)]; omega
    · obtain ⟨⟨g1, g2, g3⟩, -⟩ := hs
      refine ⟨g1, g2, Or.inl ⟨dlv_O, g3.trans ((up_o (by omega)).trans h46)⟩⟩
  · rw [if_neg z13, if_neg z13, m_beginsItem, Option.bind_some]
    cases zI : isIt (kd K p) with
    | true =>
      rw [show b01 true = 1 from rfl, if_neg (by decide), if_pos rfl]
      have z6 : kd K p ≠ 6 := fun w => by rw [w] at zI; cases zI
      -- what is kept where END is reached
      have hrec : Ok (if kd K p = 24 then (if (s 46 0) = 0 then (lp (B_readStatement_69) FU (0, up s 46 0 (s 41 0))).bind fun s36 => some s36 else some s) else some s : Option MS) fun s1 => (∀ k i, k ≠ 46 → k ≠ 47 → s1 k i = s k i) ∧ (kd K p = 24 → s1 46 0 = (st.length : Int) + 1 + O.length ∧ s1 46 0 ≤ 200 ∧ (∀ j : Nat, j < st.length + 1 → s1 47 j = s 42 j) ∧ ∀ (i : Nat) (e : EX), O[i]? = some e → s1 47 (s1 46 0 - 1 - i) = s 47 (s 46 0 - 1 - i)) ∧ (kd K p ≠ 24 → s1 46 0 = 0) := by
        by_cases q : kd K p = 24
        · rw [if_pos q]
          by_cases q2 : s 46 0 = 0
          · rw [if_pos q2]
            have hO : O = [] := by
              rcases hA with w | w
              · exact w.1
              · have := w.2.2.1; rw [List.length_cons] at this; push_cast at this; omega
            subst hO
            refine Ok_bind.mpr ((m_rec (s := up s 46 0 (s 41 0)) (d := st.length + 1) (by omega) (by rw [up_o (by omega), b1']; push_cast; rfl)).imp fun s1 hs => Ok_some.mpr ?_)
            obtain ⟨g1, g2⟩ := hs
            refine ⟨fun k i u v => (g2 k i v).trans (up_o (by omega)), fun _ => ⟨?_, ?_, fun j hj => (g1 j hj).trans (up_o (by omega)), fun i e he => by cases he⟩, fun w => absurd q w⟩
            · rw [g2 46 0 (by decide), up_hit, b1']; simp
            · rw [g2 46 0 (by decide), up_hit, b1']; omega
          · rw [if_neg q2, Ok_some]
            rcases hA with w | w
            · exact absurd w.2 q2
            · obtain ⟨w1, w2, w3, w4, w5, -⟩ := w
              rw [List.length_cons] at w3 w5
              push_cast at w3
              exact ⟨fun _ _ _ _ => rfl, fun _ => ⟨w3, w4, w5, fun _ _ _ => rfl⟩, fun w => absurd q w⟩
        · rw [if_neg q, Ok_some]
          exact ⟨fun _ _ _ _ => rfl, fun w => absurd w q, fun _ => (hA.z q).2⟩
      refine hrec.bd fun s1 hs => ?_
      obtain ⟨g1, g2, g3⟩ := hs
      rw [g1 26 0 (by decide) (by decide), h26]
      refine (m_tellError (d1.ag (fun k i u v => g1 k i (by omega) (by omega))) (by omega) (x := ((p : Int), -1, -1))).bd fun s2 hs => ?_
      obtain ⟨d2, e2⟩ := hs
      have g4 : ∀ k i, k ≠ 46 → k ≠ 47 → ¬ (37 ≤ k ∧ k ≤ 40) → s2 k i = s k i := fun k i u v w => (e2 k i w).trans (g1 k i u v)
      have c2 : STK s2 K n0 I (x :: st) (s2 27 0) (-1) := by
        rw [g4 27 0 (by decide) (by decide) (by omega)]
        exact c1.ag (AgS.of (fun k i u1 u2 u3 u4 u5 u6 u7 u8 u9 v w => g4 k i u8 u9 (by omega)))
      refine Ok_bind.mpr ((m_close (s0 := s0) (n0 := n0) (nb := nb) (I := I) (F := F ++ [((p : Int), -1, -1)]) (O := O ++ (if kd K p = 24 then [blk x.1 p false] else [])) (x := x) (st := st) (s := s2) (q := p) (ev := -1) (lb := .natCast (2 * p + (false).toNat)) (a1.ex (fun i => g4 24 i (by decide) (by decide) (by omega))) (a2.ex (fun k i z => g4 k i (fun y => z (by unfold ZR; omega)) (fun y => z (by unfold ZR; omega)) (fun y => z (by unfold ZR; omega)))) a3 a4 (by rw [g4 27 0 (by decide) (by decide) (by omega)]; exact a5) a6 ((g4 41 0 (by decide) (by decide) (by omega)).trans b1') (by rw [List.length_append, List.length_singleton]; omega) c2 d2 ((g4 26 0 (by decide) (by decide) (by omega)).trans h26) ?_).imp fun s' hs => Ok_some.mpr ?_)
      · show (if (2 * p + 0) % 2 = 1 then (((2 * p + 0) / 2 : Nat) : Int) - 1 else -1) = -1
        rw [if_neg (by omega)]
      · obtain ⟨⟨r1, r2, r3⟩, r4⟩ := hs
        refine ⟨r1, r2, ?_⟩
        obtain ⟨r5, r6, bb⟩ := r4 z6
        have e42 : s2 42 (st.length : Int) = s 42 (st.length : Int) := g4 42 _ (by decide) (by decide) (by omega)
        obtain ⟨y1, y2, y3⟩ := dlv_6 (st := st) (I := I) (F := F ++ [((p : Int), -1, -1)]) (O := O ++ (if kd K p = 24 then [blk x.1 p false] else [])) (w := x.2) (B := blk x.1 p false) z6
        by_cases q : kd K p = 24
        · right
          rw [show (dlv K x.2 st (blk x.1 p false) p I (F ++ [((p : Int), -1, -1)]) (O ++ if kd K p = 24 then [blk x.1 p false] else [])).2.2.2.2 = _ from dlv_O, y1, if_pos q]
          rw [if_pos q] at y2 y3
          obtain ⟨w1, w2, w3, w4⟩ := g2 q
          have f46 : s' 46 0 = (st.length : Int) + 1 + O.length := r3.trans ((e2 46 0 (by omega)).trans w1)
          have f47 : ∀ i, s' 47 i = s1 47 i := fun i => (r5 47 i (by decide) (by decide)).trans (e2 47 i (by omega))
          have f42 : ∀ i, s' 42 i = s 42 i := fun i => (r5 42 i (by decide) (by decide)).trans (g4 42 i (by decide) (by decide) (by omega))
          have f27 : s' 27 0 = s 27 0 := (r5 27 0 (by decide) (by decide)).trans (g4 27 0 (by decide) (by decide) (by omega))
          have f31 : ∀ k i, 28 ≤ k → k ≤ 36 → ¬ (k = 35 ∧ i = s 42 (st.length : Int)) → s' k i = s k i := fun k i u v w => by
            by_cases z : k = 35
            · subst z
              exact (r6 i (by rw [e42]; omega)).trans (g4 35 i (by decide) (by decide) (by omega))
            · exact (r5 k i (by omega) z).trans (g4 k i (by omega) (by omega) (by omega))
          obtain ⟨lo, o, th, v1, v2, v3, v4, v5⟩ := bb
          rw [e42] at v1
          rw [g4 27 0 (by decide) (by decide) (by omega)] at v1 v5
          refine ⟨by simp, q, ?_, by rw [f46, ← w1]; exact w2, fun j hj => ?_, fun i e he => ?_, fun hst => ?_⟩
          · rw [f46, y2, List.length_append, List.length_singleton]; push_cast; omega
          · rw [y2] at hj
            rw [f47, f42]; exact w3 j (by omega)
          · have hi := (List.getElem?_eq_some_iff.mp he).1
            rw [List.length_append, List.length_singleton] at hi
            by_cases z : i < O.length
            · rw [List.getElem?_append_left z] at he
              rcases hA with w | w
              · rw [w.1] at z; exact absurd z (Nat.not_lt_zero _)
              · obtain ⟨-, -, h3, -, -, h6, -⟩ := w
                obtain ⟨b, lo', hi', o', th', u1, u2, u3, u4, u5, u6⟩ := h6 i e he
                have hlt := u6 st.length (by rw [List.length_cons]; omega)
                refine ⟨b, lo', hi', o', th', ?_, u2, u3.ag u2.2 (fun z => absurd z (by decide)) (fun k i a b c d => f31 k i a b (by omega)), by rw [f27]; exact u4, u5, fun j hj => ?_⟩
                · rw [f47, f46, ← w1, w4 i e he]; exact u1
                · rw [y2] at hj
                  rw [f42]; exact u6 j (by rw [List.length_cons]; omega)
            · have : i = O.length := by omega
              subst this
              rw [List.getElem?_append_right (Nat.le_refl _), Nat.sub_self] at he
              cases he
              refine ⟨s 42 (st.length : Int), lo, s 27 0, o, th, ?_, v2, v1, by rw [f27]; exact Int.le_refl _, v3, fun j hj => ?_⟩
              · rw [f47, f46, show (st.length : Int) + 1 + O.length - 1 - O.length = (st.length : Int) by omega]
                exact w3 st.length (by omega)
              · rw [y2] at hj
                rw [f42]
                have := v4 j hj
                rw [g4 42 _ (by decide) (by decide) (by omega)] at this
                exact this
          · have hs0 : st = [] := by
              cases st with
              | nil => rfl
              | cons y l => rw [hst] at y2; cases y2
            obtain ⟨f, h, a, z, t1, t2, t3, t4, t5⟩ := v5 hs0
            rw [e42] at t2
            have e47 : s' 47 0 = s 42 (st.length : Int) := by
              have := w3 0 (by omega)
              rw [f47, hs0]
              exact this
            refine ⟨(f.1, f.2, blk x.1 p false), h, a, z, s 27 0, ?_, by rw [e47]; exact t2, t3, t4, by rw [f27]; exact Int.le_refl _, t5⟩
            rw [y3 f t1, List.getLast?_append]
            rfl
        · left
          have hO := (hA.z q).1
          subst hO
          rw [show (dlv K x.2 st (blk x.1 p false) p I (F ++ [((p : Int), -1, -1)]) ([] ++ if kd K p = 24 then [blk x.1 p false] else [])).2.2.2.2 = _ from dlv_O, if_neg q]
          exact ⟨rfl, r3.trans ((e2 46 0 (by omega)).trans (g3 q))⟩
    | false =>
      rw [show b01 false = 0 from rfl, if_pos rfl, if_neg (show ¬ (false = true) by decide)]
      have z24 : kd K p ≠ 24 := fun w => by rw [w] at zI; cases zI
      have zB : isBE (kd K p) = false := by
        rw [Bool.eq_false_iff]
        intro w
        rcases BE_it.mp w with w | w
        · exact z13 w
        · rw [zI] at w; cases w
      obtain ⟨rfl, h46⟩ := hA.z z24
      have hpl := kd_lt z24
      -- a break at a place
      have brk : ∀ q : Nat, p ≤ q → q ≤ K.length → kd K p ≠ 12 → Ok ((M_breakStatement s (p : Int) (q : Int)).bind fun s9 => some s9) fun s' => RSM s0 s' K n0 nb (brS K (x :: st) p q I F []) := fun q u1 u2 u3 => by
        have ha := brk_adv u1 u2 zB u3
        exact Ok_bind.mpr ((m_break hm' u2 h46 (by omega) (by omega)).imp fun s' hs => Ok_some.mpr hs)
      -- an expr, and ; behind it
      have sim : ∀ (k fr : Nat) (tokn : Int) (al : Bool) (r : PR), kd K p ≠ 12 → p ≤ fr → fr ≤ K.length → (if kiS k = 7 then some 1 else some 0 : Option Int) = some (b01 al) → kiS k ≠ 10 → (∀ v, frm v = fr → (tkS k v : Int) = tokn ∧ fiT k v = p) → SYQ K al (sy0 fr) = r → Pos K fr r → Ok ((M_readRest s (kiS k) tokn (fr : Int) (p : Int) 15).bind fun s8 => some s8) fun s' => RSM s0 s' K n0 nb (match smi K k r with
          | .inl q => brS K (x :: st) p q I F []
          | .inr y => (addS (x :: st) y.1, y.2, I, F, [])) := fun k fr tokn al r u0 u1 u2 u3 u4 u5 u6 u7 => by
        refine Ok_bind.mpr ((m_readRest (k := k) (fr := fr) (start := p) (al := al) (closing := 15) hm' h46 u3 ⟨u1, u2⟩ (by decide) (Or.inl ⟨u4, fun v hv => ⟨rfl, u5 v hv⟩⟩) ?_).imp fun s' hs => Ok_some.mpr ?_)
        · rw [u6]
          cases r with
          | inl q => exact ⟨u7.1, u7.2, (brk_adv (by have := u7.1; omega) u7.2 zB u0).1⟩
          | inr y => obtain ⟨v1, v2, v3, v4, v5⟩ := u7; exact ⟨v1, v3, v4, (brk_adv (by omega) v4 zB u0).1⟩
        · rw [u6] at hs
          cases r with
          | inl q => exact hs
          | inr y =>
            show RSM s0 s' K n0 nb (match (if kd K y.2 = 15 then .inr (.pow y.1 k, y.2 + 1) else .inl y.2 : PR) with
              | .inl q => brS K (x :: st) p q I F []
              | .inr y => (addS (x :: st) y.1, y.2, I, F, []))
            dsimp only at hs
            by_cases w : kd K y.2 = 15
            · rw [if_pos w] at hs ⊢; rw [if_neg u4] at hs; exact hs
            · rw [if_neg w] at hs ⊢; exact hs
      unfold siF
      by_cases z4 : kd K p = 4
      · have z12 : kd K p ≠ 12 := by rw [z4]; decide
        rw [if_pos z4, if_neg z12, if_neg (by rw [z4]; decide), if_pos z4]
        simp (disch := omega) only [bd1, Option.bind_some, wr_id', up_o, up_hit, rd_24, wt_24, k1]
        by_cases q1 : kd K (p + 1) = 0
        · have hl1 := kd_eq q1 (by decide)
          rw [if_pos q1, if_pos q1]
          simp (disch := omega) only [bd1, Option.bind_some, wr_id', up_o, up_hit, rd_24, wt_24, k2]
          by_cases q2 : kd K (p + 2) = 16
          · have hl2 := kd_eq q2 (by decide)
            rw [if_pos q2, if_pos q2]
            have := sim 0 (p + 3) ((p : Int) + 1) false _ z12 (by omega) (by omega) rfl (by decide) (fun v hv => by
              unfold fiT tkS; rw [if_pos rfl, if_pos rfl, hv]; omega) (sy_e (by omega)) (pX_pos (by omega))
            push_cast at this
            exact this
          · rw [if_neg q2, if_neg q2]
            have := brk (p + 2) (by omega) (by omega) z12
            push_cast at this
            exact this
        · rw [if_neg q1, if_neg q1]
          have := brk (p + 1) (by omega) (by omega) z12
          push_cast at this
          exact this
      · rw [if_neg z4]
        rw [jn_e]
        dsimp only
        -- the rest, where no name leads a statement
        by_cases z0 : kd K p = 0
        · have z12 : kd K p ≠ 12 := by rw [z0]; decide
          rw [if_pos z0, if_neg z12, if_neg (by rw [z0]; decide), if_neg z4, if_neg (by rw [z0]; decide), if_pos z0, h26]
          simp (disch := omega) only [bd1, Option.bind_some, wr_id', up_o, up_hit, rd_24, wt_24, k1]
          by_cases q2 : kd K (p + 1) = 16
          · have hl2 := kd_eq q2 (by decide)
            rw [if_pos q2, if_neg (by rw [q2]; decide), if_pos q2]
            have := sim 1 (p + 2) (p : Int) false _ z12 (by omega) (by omega) rfl (by decide) (fun v hv => by
              unfold fiT; rw [if_neg (by decide)]; unfold tkS; rw [if_neg (by decide), if_pos rfl, hv]; omega) (sy_e (by omega)) (pX_pos (by omega))
            push_cast at this
            exact this
          · rw [if_neg q2]
            rw [jn_e]
            dsimp only
            rw [if_pos z0]
            simp (disch := omega) only [bd1, Option.bind_some, wr_id', up_o, up_hit, rd_24, wt_24, h26, k1]
            by_cases q1 : kd K (p + 1) = 10
            · rw [if_pos q1, if_pos q1]
              have := sim 2 p (p : Int) true _ z12 (Nat.le_refl _) (by omega) rfl (by decide) (fun v hv => by
                unfold fiT; rw [if_neg (by decide)]; unfold tkS; rw [if_neg (by decide), if_neg (by decide), if_pos rfl, hv]; omega) (sy_c z0 q1) (cX_pos hpl z0)
              exact this
            · rw [if_neg q1, if_neg q1, if_neg q2, if_neg (by rw [z0]; decide), if_neg (by rw [z0]; decide), if_neg (by rw [z0]; decide), if_pos z0, Option.bind_some]
              have := brk (p + 1) (by omega) (by omega) z12
              push_cast at this
              exact this
        · rw [if_neg z0]
          rw [jn_e]
          dsimp only
          rw [if_neg z0]
          by_cases z7 : kd K p = 7
          · have z12 : kd K p ≠ 12 := by rw [z7]; decide
            rw [if_pos z7, if_neg z12, if_neg (by rw [z7]; decide), if_neg z4, if_pos z7, h26, wr_id' (by omega) (by omega)]
            have := sim 3 (p + 1) (p : Int) false _ z12 (by omega) (by omega) rfl (by decide) (fun v hv => by
              unfold fiT; rw [if_neg (by decide)]; unfold tkS; rw [if_neg (by decide), if_neg (by decide), if_neg (by decide), hv]; omega) (sy_e (by omega)) (pX_pos (by omega))
            push_cast at this
            exact this
          · rw [if_neg z7]
            by_cases z5 : kd K p = 5
            · have z12 : kd K p ≠ 12 := by rw [z5]; decide
              rw [if_pos z5, if_neg z12, if_pos z5, h26, wr_id' (by omega) (by omega)]
              have hpp := pX_pos (K := K) (p := p + 1) hpl
              rw [show (p : Int) + 1 = ((p + 1 : Nat) : Int) by push_cast; rfl]
              refine Ok_bind.mpr ((m_readRest (k := 0) (ki := 10) (tokn := (p : Int)) (fr := p + 1) (start := p) (al := false) (closing := 12) hm' h46 rfl ⟨by omega, hpl⟩ (by decide) (Or.inr ⟨rfl, rfl, fun v hv => ⟨by omega, rfl⟩⟩) ?_).imp fun s' hs => Ok_some.mpr ?_)
              · rw [sy_e hpl]
                cases e : pX K (p + 1) with
                | inl q => rw [e] at hpp; exact ⟨hpp.1, hpp.2, (brk_adv (by have := hpp.1; omega) hpp.2 zB z12).1⟩
                | inr y => rw [e] at hpp; obtain ⟨v1, v2, v3, v4, v5⟩ := hpp; exact ⟨v1, v3, v4, (brk_adv (by omega) v4 zB z12).1⟩
              · rw [sy_e hpl] at hs
                cases e : pX K (p + 1) with
                | inl q => rw [e] at hs; exact hs
                | inr y =>
                  rw [e] at hs
                  dsimp only at hs ⊢
                  by_cases w : kd K y.2 = 12
                  · rw [if_pos w] at hs ⊢; rw [if_pos rfl] at hs; exact hs
                  · rw [if_neg w] at hs ⊢; exact hs
            · rw [if_neg z5]
              by_cases z12 : kd K p = 12
              · rw [if_pos z12, if_pos z12, h26]
                exact Ok_bind.mpr ((m_open3 hm' h46 z12).imp fun s' hs => Ok_some.mpr hs)
              · rw [if_neg z12, if_neg z12, if_neg z5, if_neg z4, if_neg z7, if_neg z0, if_neg z0, Option.bind_some, h26]
                exact brk p (Nat.le_refl _) a3 z12
end Stm4
