/-! N8: what the model does with statements, step by step -/
set_option maxRecDepth 100000
set_option linter.unusedVariables false
def toM (x : Flt) : Int := if x.2.1 = -1 then -1 else x.2.2 - 1
def ERR (s : MS) (F : List Flt) : Prop := s 37 0 = (F.length : Int) ∧ ∀ (j : Nat) (x : Flt), F[j]? = some x → s 38 j = x.1 ∧ s 39 j = x.2.1 ∧ s 40 j = toM x
theorem ERR.ag {s s' : MS} {F : List Flt} (h : ERR s F) (g : ∀ k i, 37 ≤ k → k ≤ 40 → s' k i = s k i) : ERR s' F :=
  ⟨(g 37 0 (by decide) (by decide)).trans h.1, fun j x e => by
    obtain ⟨a, b, c⟩ := h.2 j x e
    exact ⟨(g 38 _ (by decide) (by decide)).trans a, (g 39 _ (by decide) (by decide)).trans b, (g 40 _ (by decide) (by decide)).trans c⟩⟩
theorem m_tellError {s : MS} {F : List Flt} (h : ERR s F) (hl : F.length < 600) {x : Flt} : Ok (M_tellError s x.1 x.2.1 (toM x)) fun s' => ERR s' (F ++ [x]) ∧ ∀ k i, ¬ (37 ≤ k ∧ k ≤ 40) → s' k i = s k i := by
  unfold M_tellError
  have e1 := h.1
  simp (disch := omega) only [bd1, Option.bind_some, wr_id', up_o, up_hit, rd_38, wt_38, rd_39, wt_39, rd_40, wt_40, e1]
  rw [Ok_some]
  refine ⟨⟨?_, fun j y e => ?_⟩, fun k i z => by simp (disch := omega) only [up_o]⟩
  · simp (disch := omega) only [up_hit]; rw [List.length_append]; push_cast; rfl
  · have hj := (List.getElem?_eq_some_iff.mp e).1
    rw [List.length_append, List.length_singleton] at hj
    by_cases q : j < F.length
    · rw [List.getElem?_append_left q] at e
      obtain ⟨a, b, c⟩ := h.2 j y e
      simp (disch := omega) only [up_o]
      exact ⟨a, b, c⟩
    · have : j = F.length := by omega
      subst this
      rw [List.getElem?_append_right (Nat.le_refl _), Nat.sub_self] at e
      cases e
      simp (disch := omega) only [up_o, up_hit]
      exact ⟨trivial, trivial, trivial⟩
theorem m_beginsItem {s : MS} {k : Int} : M_beginsItem s k = some (b01 (isIt k)) := by
  unfold M_beginsItem isIt b01
  by_cases h1 : k = 3
  · rw [if_pos h1, if_pos (by simp [h1])]
  · rw [if_neg h1]
    by_cases h2 : k = 2
    · rw [if_pos h2, if_pos (by simp [h2])]
    · rw [if_neg h2]
      by_cases h3 : k = 24
      · rw [if_pos h3, if_pos (by simp [h3])]
      · rw [if_neg h3, if_neg (by simp [h1, h2, h3])]
theorem skG_at {stop : Int → Bool} {K : List Int} {n p : Nat} (h : stop (kd K p) = true) : skG stop K (n + 1) p = p := by
  unfold skG; rw [if_pos h]
theorem m_skip {s : MS} {K : List Int} {q : Nat} (hS : SeqR s K) (hq : q ≤ K.length) (h26 : s 26 0 = q) : Ok (M_skip s) fun s' => s' 26 0 = skS K q ∧ ∀ k i, ¬ (k = 26 ∧ i = 0) → s' k i = s k i := by
  have hl := hS.1
  unfold M_skip
  have lp := lp_ok (F := B_skip_0) (μ := fun a => ((K.length : Int) + 1 - a 26 0).toNat) (I := fun a => ∃ r : Nat, a 26 0 = r ∧ r ≤ K.length ∧ skG isSk K (K.length + 1) r = skG isSk K (K.length + 1) q ∧ ∀ k i, ¬ (k = 26 ∧ i = 0) → a k i = s k i) (P := fun _ a => a 26 0 = skG isSk K (K.length + 1) q ∧ skG isSk K (K.length + 1) q ≤ K.length ∧ ∀ k i, ¬ (k = 26 ∧ i = 0) → a k i = s k i) (fun rec a hI ih => ?_) FU s ⟨q, h26, hq, rfl, fun _ _ _ => rfl⟩ (FU_lt (by omega))
  · refine lp.bd fun s2 hs => ?_
    obtain ⟨g1, g2, g3⟩ := hs
    have k0 : s2 24 (skG isSk K (K.length + 1) q : Int) = kd K (skG isSk K (K.length + 1) q) := (g3 24 _ (by omega)).trans (hS.2 _ (by omega))
    rw [g1, rd_24 (by omega) (by omega), Option.bind_some, k0]
    unfold skS
    by_cases z : kd K (skG isSk K (K.length + 1) q) = 15
    · rw [if_pos z, if_pos z, Option.bind_some]
      unfold bd1
      rw [Ok_some, wr_id' (by omega) (by omega)]
      exact ⟨by rw [up_hit]; push_cast; rfl, fun k i w => (up_o w).trans (g3 k i w)⟩
    · rw [if_neg z, if_neg z, Option.bind_some]
      unfold bd1
      rw [Ok_some, wr_id' (by omega) (by omega), Int.add_zero]
      exact ⟨by rw [up_hit], fun k i w => (up_o w).trans (g3 k i w)⟩
  · obtain ⟨r, g1, g2, g3, g4⟩ := hI
    unfold B_skip_0
    have k0 : a 24 (r : Int) = kd K r := (g4 24 _ (by omega)).trans (hS.2 _ (by omega))
    have stop : isSk (kd K r) = true → Ok (some a) fun a => a 26 0 = skG isSk K (K.length + 1) q ∧ skG isSk K (K.length + 1) q ≤ K.length ∧ ∀ k i, ¬ (k = 26 ∧ i = 0) → a k i = s k i := fun z => by
      rw [skG_at z] at g3
      rw [Ok_some, ← g3]
      exact ⟨g1, g2, g4⟩
    rw [g1, rd_24 (by omega) (by omega), Option.bind_some, k0]
    by_cases z1 : kd K r = 15
    · rw [if_pos z1]; exact stop (by rw [z1]; rfl)
    · rw [if_neg z1, Option.bind_some]
      by_cases z2 : kd K r = 12
      · rw [if_pos z2]; exact stop (by rw [z2]; rfl)
      · rw [if_neg z2, Option.bind_some]
        by_cases z3 : kd K r = 13
        · rw [if_pos z3]; exact stop (by rw [z3]; rfl)
        · rw [if_neg z3, Option.bind_some, m_beginsItem, Option.bind_some]
          cases z4 : isIt (kd K r) with
          | true =>
            rw [show b01 true = 1 from rfl, if_neg (by decide)]
            exact stop (by unfold isSk; rw [BE_it.mpr (Or.inr z4), Bool.or_true])
          | false =>
            rw [show b01 false = 0 from rfl, if_pos rfl]
            have z5 : isSk (kd K r) = false := by
              unfold isSk
              rw [Bool.or_eq_false_iff]
              refine ⟨by rw [decide_eq_false_iff_not]; rintro (w | w); exact z1 w; exact z2 w, ?_⟩
              rw [Bool.eq_false_iff]
              intro w
              rcases BE_it.mp w with w | w
              · exact z3 w
              · rw [z4] at w; cases w
            have hrl : r < K.length := kd_lt fun w => by rw [w] at z4; cases z4
            unfold bd1
            rw [wr_id' (by omega) (by omega)]
            refine ih _ ⟨r + 1, by rw [up_hit]; push_cast; rfl, hrl, ?_, fun k i w => (up_o w).trans (g4 k i w)⟩ (by rw [up_hit]; omega)
            rw [← g3]
            exact (skG_step rfl _ _ (by omega) g2 z5).symm
theorem m_failItem {s : MS} {K : List Int} {q : Nat} {F : List Flt} (hS : SeqR s K) (hq : q ≤ K.length) (hE : ERR s F) (hF : F.length < 600) : Ok (M_failItem s q) fun s' => s' 26 0 = skI K q ∧ ERR s' (F ++ [((q : Int), -1, -1)]) ∧ ∀ k i, ¬ (k = 26 ∧ i = 0) → ¬ (37 ≤ k ∧ k ≤ 40) → s' k i = s k i := by
  have hl := hS.1
  unfold M_failItem
  refine (m_tellError hE hF (x := ((q : Int), -1, -1))).bd fun s1 hs => ?_
  obtain ⟨e1, e2⟩ := hs
  unfold bd1
  have lp := lp_ok (F := B_failItem_12) (μ := fun a => ((K.length : Int) + 1 - a 26 0).toNat) (I := fun a => ∃ r : Nat, a 26 0 = r ∧ r ≤ K.length ∧ skG isIt K (K.length + 1) r = skG isIt K (K.length + 1) q ∧ ∀ k i, ¬ (k = 26 ∧ i = 0) → a k i = s1 k i) (P := fun _ a => a 26 0 = skG isIt K (K.length + 1) q ∧ ∀ k i, ¬ (k = 26 ∧ i = 0) → a k i = s1 k i) (fun rec a hI ih => ?_) FU (up s1 26 0 q) ⟨q, up_hit, hq, rfl, fun _ _ z => up_o z⟩ (FU_lt (by rw [up_hit]; omega))
  · refine lp.bd fun s2 hs => ?_
    rw [Ok_some]
    exact ⟨hs.1, e1.ag (fun k i a b => hs.2 k i (by omega)), fun k i a b => (hs.2 k i a).trans (e2 k i b)⟩
  · obtain ⟨r, g1, g2, g3, g4⟩ := hI
    unfold B_failItem_12
    have k0 : a 24 (r : Int) = kd K r := (g4 24 _ (by omega)).trans ((e2 24 _ (by omega)).trans (hS.2 _ (by omega)))
    rw [g1, rd_24 (by omega) (by omega), Option.bind_some, k0, m_beginsItem, Option.bind_some]
    cases z4 : isIt (kd K r) with
    | true =>
      rw [show b01 true = 1 from rfl, if_neg (by decide), Ok_some]
      rw [skG_at z4] at g3
      rw [← g3]
      exact ⟨g1, g4⟩
    | false =>
      rw [show b01 false = 0 from rfl, if_pos rfl]
      have hrl : r < K.length := kd_lt fun w => by rw [w] at z4; cases z4
      unfold bd1
      rw [wr_id' (by omega) (by omega)]
      refine ih _ ⟨r + 1, by rw [up_hit]; push_cast; rfl, hrl, ?_, fun k i w => (up_o w).trans (g4 k i w)⟩ (by rw [up_hit]; omega)
      rw [← g3]
      exact (skG_step rfl _ _ (by omega) g2 z4).symm
/-- a node is laid behind the last statement of the innermost block -/
theorem m_addSt {s : MS} {d b z n : Int} (h41 : s 41 0 = d) (hd : 1 ≤ d ∧ d ≤ 209) (hb : s 42 (d - 1) = b) (hb2 : 0 ≤ b ∧ b < 1600) (hz : s 43 (d - 1) = z) (hz2 : -1 ≤ z ∧ z < 1600) (hn : 0 ≤ n ∧ n < 1600) : Ok (M_addStatement s n) fun s' => s' 36 n = b ∧ s' 43 (d - 1) = n ∧ (z = -1 → s' 31 b = n ∧ ∀ i, s' 34 i = s 34 i) ∧ (z ≠ -1 → s' 34 z = n ∧ (∀ i, i ≠ z → s' 34 i = s 34 i) ∧ ∀ i, s' 31 i = s 31 i) ∧ (∀ i, i ≠ b → s' 31 i = s 31 i) ∧ ∀ k i, ¬ (k = 36 ∧ i = n) → ¬ (k = 43 ∧ i = d - 1) → k ≠ 31 → k ≠ 34 → s' k i = s k i := by
  unfold M_addStatement
  simp (disch := omega) only [bd1, Option.bind_some, wr_id', up_o, up_hit, rd_42, wt_42, rd_36, wt_36, rd_43, wt_43, h41, hb, hz]
  by_cases q : z = -1
  · rw [if_pos q]
    simp (disch := omega) only [bd1, Option.bind_some, wr_id', up_o, up_hit, rd_31, wt_31, rd_43, wt_43, h41]
    rw [Ok_some]
    refine ⟨by simp (disch := omega) only [up_o, up_hit], by simp (disch := omega) only [up_o, up_hit], fun _ => ⟨by simp (disch := omega) only [up_o, up_hit], fun i => by simp (disch := omega) only [up_o]⟩, fun w => absurd q w, fun i w => by simp (disch := omega) only [up_o], fun k i a b c d => by simp (disch := omega) only [up_o]⟩
  · rw [if_neg q]
    simp (disch := omega) only [bd1, Option.bind_some, wr_id', up_o, up_hit, rd_34, wt_34, rd_43, wt_43, h41, hz]
    rw [Ok_some]
    refine ⟨by simp (disch := omega) only [up_o, up_hit], by simp (disch := omega) only [up_o, up_hit], fun w => absurd w q, fun _ => ⟨by simp (disch := omega) only [up_o, up_hit], fun i w => by simp (disch := omega) only [up_o], fun i => by simp (disch := omega) only [up_o]⟩, fun i w => by simp (disch := omega) only [up_o], fun k i a b c d => by simp (disch := omega) only [up_o]⟩
section Stk3
variable {s0 s : MS} {K : List Int} {n0 : Int} {I : List IT} {x : OB} {st : List OB} {hi : Int}
/-- a node is behind the last statement then -/
theorem STK_link (h : STK s K n0 I (x :: st) hi (-1)) (h0 : 0 ≤ n0) (h41 : s 41 0 = (st.length : Int) + 1) (hd : (st.length : Int) ≤ 208) {n : Int} (hn : hi ≤ n ∧ n < 1600) : Ok (M_addStatement s n) fun s' => STK s' K n0 I (x :: st) hi n ∧ s' 36 n = s 42 (st.length : Int) ∧ (n0 ≤ s 42 (st.length : Int) ∧ s 42 (st.length : Int) < hi) ∧ (∀ k i, 28 ≤ k → k ≤ 36 → hi ≤ i → ¬ (k = 36 ∧ i = n) → s' k i = s k i) ∧ (∀ k i, ¬ (28 ≤ k ∧ k ≤ 36) → ¬ (k = 43 ∧ i = (st.length : Int)) → s' k i = s k i) ∧ (∀ k i, 28 ≤ k → k ≤ 36 → i < n0 → s' k i = s k i) := by
  have hlb := STK_lb h
  have h' := h
  obtain ⟨b, a, z, o, th, lo, ⟨h1, h1'⟩, ⟨h2, h3⟩, h4, h5⟩ := h
  rw [if_pos rfl] at h1'
  have hz := SL_z (by
    have : n0 ≤ lo := by
      obtain ⟨l, w⟩ := x
      cases w with
      | inl f => obtain ⟨-, h, c, y, l0, k1, k2, k3, k4⟩ := h5; have := STK_lb k4; omega
      | inr w =>
        cases w with
        | none => have := STK_lb h5.2.2.2; omega
        | some w =>
          obtain ⟨t, g⟩ := w
          cases g with
          | none => obtain ⟨-, x1, h, m, c, e, k1, k2, k3, k4, k5, k6⟩ := h5; have := STK_lb k6; have := NE_in x1 k4; omega
          | some g => obtain ⟨-, x1, h, m, c, e, b1, k1, k2, k3, ⟨k4, k4'⟩, k5, k6⟩ := h5; have := STK_lb k6; have := NE_in x1 k4; omega
    omega) h4
  have hlo : n0 ≤ lo := by
    obtain ⟨l, w⟩ := x
    cases w with
    | inl f => obtain ⟨-, h, c, y, l0, k1, k2, k3, k4⟩ := h5; have := STK_lb k4; omega
    | inr w =>
      cases w with
      | none => have := STK_lb h5.2.2.2; omega
      | some w =>
        obtain ⟨t, g⟩ := w
        cases g with
        | none => obtain ⟨-, x1, h, m, c, e, k1, k2, k3, k4, k5, k6⟩ := h5; have := STK_lb k6; have := NE_in x1 k4; omega
        | some g => obtain ⟨-, x1, h, m, c, e, b1, k1, k2, k3, ⟨k4, k4'⟩, k5, k6⟩ := h5; have := STK_lb k6; have := NE_in x1 k4; omega
  refine (m_addSt (n := n) (b := b) (z := z) h41 (by omega) (by rw [show (st.length : Int) + 1 - 1 = st.length by omega]; exact h1) (by omega) (by rw [show (st.length : Int) + 1 - 1 = st.length by omega]; exact h1') (by omega) (by omega)).imp fun s' hs => ?_
  rw [show (st.length : Int) + 1 - 1 = st.length by omega] at hs
  obtain ⟨e1, e2, e3, e4, e5, e6⟩ := hs
  rw [h1]
  refine ⟨?_, e1, by omega, fun k i u v w y => ?_, fun k i u v => e6 k i (by omega) v (by omega) (by omega), fun k i u v w => ?_⟩
  · refine STK_mv (x := x) (nx' := n) (z' := z) (a' := if x.1 = [] then n else a) (l' := x.1) h' h1 (fun k i u v w y => ?_) (fun k i u v w y => e6 k i (by omega) y (by omega) (by omega)) ⟨e6 48 0 (by omega) (by omega) (by omega) (by omega), e6 49 0 (by omega) (by omega) (by omega) (by omega)⟩ (by rw [if_neg (by omega)]; exact e2) ?_ ?_ (Int.le_refl _)
    · by_cases q : k = 34
      · subst q
        rcases hz with ⟨_, q2, _⟩ | ⟨_, q2, _⟩
        · exact (e3 q2).2 i
        · exact (e4 (by omega)).2.1 i (by omega)
      · by_cases q2 : k = 31
        · subst q2; exact e5 i (by omega)
        · exact e6 k i (by omega) (by omega) q2 q
    · rcases hz with ⟨q1, q2, _⟩ | ⟨q1, q2, _⟩
      · rw [if_pos q1]; exact (e3 q2).1
      · rw [if_neg q1]; exact ((e4 (by omega)).2.2 b).trans h3.2.2.2
    · refine SL_nx (nx := -1) (by omega) h4 (fun k i u v w y q => ?_) (fun q => ?_)
      · by_cases q1 : k = 34
        · subst q1
          rcases hz with ⟨_, q2, _⟩ | ⟨q3, q2, _⟩
          · exact (e3 q2).2 i
          · exact (e4 (by omega)).2.1 i (fun w => q q3 ⟨rfl, w⟩)
        · by_cases q2 : k = 31
          · subst q2; exact e5 i (by omega)
          · exact e6 k i (by omega) (by omega) q2 q1
      · rcases hz with ⟨q1, q2, _⟩ | ⟨q1, q2, _⟩
        · exact absurd q1 q
        · exact (e4 (by omega)).1
  · by_cases q : k = 34
    · subst q
      rcases hz with ⟨_, q2, _⟩ | ⟨_, q2, _⟩
      · exact (e3 q2).2 i
      · exact (e4 (by omega)).2.1 i (by omega)
    · by_cases q2 : k = 31
      · subst q2; exact e5 i (by omega)
      · exact e6 k i (by omega) (by omega) q2 q
  · by_cases q : k = 34
    · subst q
      rcases hz with ⟨_, q2, _⟩ | ⟨_, q2, _⟩
      · exact (e3 q2).2 i
      · exact (e4 (by omega)).2.1 i (by omega)
    · by_cases q2 : k = 31
      · subst q2; exact e5 i (by omega)
      · exact e6 k i (by omega) (by omega) q2 q
/-- the statement behind the last one is done -/
theorem STK_fin {n hi' : Int} {e : EX} (h : STK s K n0 I (x :: st) hi n) (hn : n ≠ -1) (hs : isS e = true) (w : WS e 0) (k : NS s K e 0 hi hi' n (s 42 (st.length : Int)) (-1)) (h34 : s 34 n = -1) : STK s K n0 I ((x.1 ++ [e], x.2) :: st) hi' (-1) := by
  have h' := h
  obtain ⟨b, a, z, o, th, lo, ⟨h1, h1'⟩, ⟨h2, h3⟩, h4, h5⟩ := h
  rw [h1] at k
  rw [if_neg hn] at h1'
  have i1 := NS_inS hs k
  exact STK_mv (x := x) (nx' := -1) (z' := n) (a' := a) h' h1 (fun _ _ _ _ _ _ => rfl) (fun _ _ _ _ _ _ => rfl) ⟨rfl, rfl⟩ (by rw [if_pos rfl]; exact h1') h3.2.2.2 (SL_fin hs w h34 h4 k) (by omega)
end Stk3
