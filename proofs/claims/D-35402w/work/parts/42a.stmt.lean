/-! S3a -/
set_option maxRecDepth 100000
set_option linter.unusedVariables false
section Stk
variable {K : List Int}
/-- what a reading of blocks is for the stack -/
def BOk (K : List Int) (bl : Nat → SR) (m : Nat) : Prop := ∀ (p : Nat) (w : WY) (st : List OB) (I : List IT) (F : List Flt) (O : List EX), m ≤ p → kd K p = 12 → Rx (rsS K) (([], w) :: st, p + 1, I, F, O) (dlv K w st (bl p).1 (bl p).2.1 I (F ++ (bl p).2.2.1) (O ++ (bl p).2.2.2))
theorem BE_it {k : Int} : isBE k = true ↔ k = 13 ∨ isIt k = true := by
  unfold isBE isIt
  rw [decide_eq_true_iff, decide_eq_true_iff]
theorem st_ok {bl : Nat → SR} {m p : Nat} {x : OB} {st : List OB} {I : List IT} {F : List Flt} {O : List EX} (hp : BPos K bl m) (hb : BOk K bl m) (hm : m ≤ p) (hl : p ≤ K.length) (h : isBE (kd K p) = false) :
    Rx (rsS K) (x :: st, p, I, F, O) (addS (x :: st) (smtF K bl p).1, (smtF K bl p).2.1, I, F ++ (smtF K bl p).2.2.1, O ++ (smtF K bl p).2.2.2) := by
  have h1 : ¬ kd K p = 13 := fun z => by have := BE_it.mpr (Or.inl z); rw [h] at this; cases this
  have h2 : ¬ isIt (kd K p) = true := fun z => by have := BE_it.mpr (Or.inr z); rw [h] at this; cases this
  have hs : rsS K (x :: st, p, I, F, O) = some (stS K x st p I F O) := rfl
  unfold stS at hs
  rw [if_neg h1, if_neg h2] at hs
  unfold smtF
  by_cases q1 : kd K p = 12
  · rw [if_pos q1] at hs ⊢
    exact (Rx.st hs).tr (hb p (.inr none) (x :: st) I F O hm q1)
  · rw [if_neg q1] at hs ⊢
    by_cases q2 : kd K p = 5
    · rw [if_pos q2] at hs ⊢
      have hl2 := kd_eq q2 (by decide)
      have k := pX_pos (K := K) (p := p + 1) hl2
      cases e : pX K (p + 1) with
      | inl q => rw [e] at hs; dsimp only at hs ⊢; unfold brk brS at *; rw [List.append_nil]; exact Rx.st hs
      | inr y =>
        rw [e] at hs k
        obtain ⟨-, -, k3, k4, -⟩ := k
        dsimp only at hs ⊢
        by_cases q3 : kd K y.2 = 12
        · rw [if_pos q3] at hs ⊢
          have g := (Rx.st hs).tr (hb y.2 (.inr (some (y.1, none))) (x :: st) I F O (by omega) q3)
          have hq := hp y.2 (by omega) q3
          refine g.tr ?_
          unfold chF
          show Rx (rsS K) (if kd K (bl y.2).2.1 = 6 then _ else _) _
          by_cases q4 : kd K (bl y.2).2.1 = 6
          · rw [if_pos q4, if_pos q4]
            by_cases q5 : kd K ((bl y.2).2.1 + 1) = 12
            · rw [if_pos q5, if_pos q5]
              have g2 := hb ((bl y.2).2.1 + 1) (.inr (some (y.1, some (bl y.2).1))) (x :: st) I (F ++ (bl y.2).2.2.1) (O ++ (bl y.2).2.2.2) (by omega) q5
              dsimp only
              rw [← List.append_assoc, ← List.append_assoc]
              exact g2
            · rw [if_neg q5, if_neg q5]
              dsimp only
              rw [← List.append_assoc]
              exact Rx.rf
          · rw [if_neg q4, if_neg q4]
            exact Rx.rf
        · rw [if_neg q3] at hs ⊢
          unfold brk brS at *; dsimp only; rw [List.append_nil]; exact Rx.st hs
    · rw [if_neg q2] at hs ⊢
      cases e : siF K p with
      | inl q => rw [e] at hs; dsimp only at hs ⊢; unfold brk brS at *; rw [List.append_nil]; exact Rx.st hs
      | inr y => rw [e] at hs; dsimp only at hs ⊢; rw [List.append_nil, List.append_nil]; exact Rx.st hs
end Stk
