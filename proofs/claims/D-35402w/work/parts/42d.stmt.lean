/-! S3d -/
set_option maxRecDepth 100000
set_option linter.unusedVariables false
section Stk
variable {K : List Int}
/-- the whole file -/
theorem rdF_ok : ∀ (n p : Nat) (I : List IT) (F : List Flt) (O : List EX), K.length < n + p → p ≤ K.length → ∃ q, kd K q = 24 ∧ Rx (rsS K) ([], p, I, F, O) ([], q, I ++ (rdF K n p).1, F ++ (rdF K n p).2.1, O ++ (rdF K n p).2.2.1)
  | 0, p, I, F, O, h, h2 => by omega
  | n + 1, p, I, F, O, h, h2 => by
    unfold rdF
    by_cases q0 : kd K p = 24
    · rw [if_pos q0]; exact ⟨p, q0, by dsimp only; rw [List.append_nil, List.append_nil, List.append_nil]; exact Rx.rf⟩
    · rw [if_neg q0]
      have hl := kd_lt q0
      have hs : rsS K ([], p, I, F, O) = some (itS K p I F O) := if_neg q0
      unfold itS at hs
      have fi : ∀ q, p < skI K q → q ≤ K.length → rsS K ([], p, I, F, O) = some (fiS K q I F O) → ∃ x, kd K x = 24 ∧ Rx (rsS K) ([], p, I, F, O) ([], x, I ++ (trE (rdF K n (skI K q)) [] [((q : Int), -1, -1)] [] none).1, F ++ (trE (rdF K n (skI K q)) [] [((q : Int), -1, -1)] [] none).2.1, O ++ (trE (rdF K n (skI K q)) [] [((q : Int), -1, -1)] [] none).2.2.1) := by
        intro q z1 z2 z3
        obtain ⟨x, hx, g⟩ := rdF_ok n (skI K q) I (F ++ [((q : Int), -1, -1)]) O (by omega) (skI_pos z2).2.1
        refine ⟨x, hx, (Rx.st z3).tr ?_⟩
        unfold trE
        dsimp only
        rw [List.nil_append, List.nil_append, ← List.append_assoc]
        exact g
      by_cases q1 : kd K p = 3
      · rw [if_pos q1] at hs ⊢
        have k := heF_pos hl
        cases e : heF K p with
        | inl q =>
          rw [e] at hs k
          dsimp only at hs k ⊢
          exact fi q (by have := (skI_pos k.2).1; omega) k.2 hs
        | inr y =>
          rw [e] at hs k
          dsimp only at hs k ⊢
          have g1 := bX_ok (w := .inl (p + 1, y.1)) (st := []) (I := I) (F := F) (O := O) k.2
          have k2 := bX_pos k.2
          obtain ⟨x, hx, g⟩ := rdF_ok n (bX K y.2).2.1 (I ++ [.inr (p + 1, y.1, (bX K y.2).1)]) (F ++ (bX K y.2).2.2.1) (O ++ (bX K y.2).2.2.2) (by omega) k2.2
          refine ⟨x, hx, (Rx.st hs).tr (g1.tr ?_)⟩
          unfold trE
          dsimp only
          rw [← List.append_assoc, ← List.append_assoc, ← List.append_assoc]
          exact g
      · rw [if_neg q1] at hs ⊢
        by_cases q2 : kd K p = 2
        · rw [if_pos q2] at hs ⊢
          by_cases q3 : kd K (p + 1) = 0
          · rw [if_pos q3] at hs ⊢
            have h3 := kd_eq q3 (by decide)
            by_cases q4 : kd K (p + 2) = 15
            · rw [if_pos q4] at hs ⊢
              have h4 := kd_eq q4 (by decide)
              obtain ⟨x, hx, g⟩ := rdF_ok n (p + 3) (I ++ [.inl (p + 1)]) F O (by omega) h4
              refine ⟨x, hx, (Rx.st hs).tr ?_⟩
              unfold trE
              dsimp only
              rw [List.nil_append, List.nil_append, ← List.append_assoc]
              exact g
            · rw [if_neg q4] at hs ⊢
              exact fi (p + 2) (by have := (skI_pos (K := K) (p := p + 2) h3).1; omega) h3 hs
          · rw [if_neg q3] at hs ⊢
            exact fi (p + 1) (by have := (skI_pos (K := K) (p := p + 1) hl).1; omega) hl hs
        · rw [if_neg q2] at hs ⊢
          have q5 : isIt (kd K p) = false := by
            unfold isIt
            rw [decide_eq_false_iff_not]
            rintro (z | z | z)
            · exact q1 z
            · exact q2 z
            · exact q0 z
          exact fi p ((skI_pos h2).2.2.2 q5) h2 hs
/-- each step takes tokens or closes a block -/
def muR (K : List Int) (s : RS) : Nat := 3 * (K.length + 1 - s.2.1) + s.1.length
theorem addS_len {st : List OB} {s : EX} : (addS st s).length = st.length := by cases st <;> rfl
end Stk
