/-! S3c -/
set_option maxRecDepth 100000
set_option linter.unusedVariables false
section Stk
variable {K : List Int}
theorem paF_pos : ∀ (n p : Nat), K.length < n + p → p ≤ K.length → match paF K n p with
    | .inl q => p ≤ q ∧ q ≤ K.length
    | .inr x => p < x.2 ∧ x.2 ≤ K.length
  | 0, p, h, h2 => by omega
  | n + 1, p, h, h2 => by
    unfold paF
    by_cases q : kd K p = 0
    · rw [if_pos q]
      have hl := kd_eq q (by decide)
      by_cases q2 : kd K (p + 1) = 14
      · rw [if_pos q2]
        have hl2 := kd_eq q2 (by decide)
        have k := paF_pos n (p + 2) (by omega) hl2
        cases e : paF K n (p + 2) with
        | inl y => rw [e] at k; exact ⟨by have := k.1; omega, k.2⟩
        | inr y => rw [e] at k; exact ⟨by have := k.1; show p < y.2; omega, k.2⟩
      · rw [if_neg q2]; exact ⟨Nat.lt_succ_self _, hl⟩
    · rw [if_neg q]; exact ⟨Nat.le_refl _, h2⟩
theorem heE_pos {l : List Nat} {p q : Nat} (h : p < q) (h2 : q ≤ K.length) : match heE K l q with
    | .inl q => p < q ∧ q ≤ K.length
    | .inr x => p < x.2 ∧ kd K x.2 = 12 := by
  unfold heE
  by_cases z : kd K q = 12
  · rw [if_pos z]; exact ⟨h, z⟩
  · rw [if_neg z]; exact ⟨h, h2⟩
theorem heF_pos {p : Nat} (h : p < K.length) : match heF K p with
    | .inl q => p < q ∧ q ≤ K.length
    | .inr x => p < x.2 ∧ kd K x.2 = 12 := by
  unfold heF
  by_cases q1 : kd K (p + 1) = 0
  · rw [if_pos q1]
    have h1 := kd_eq q1 (by decide)
    by_cases q2 : kd K (p + 2) = 10
    · rw [if_pos q2]
      have h2 := kd_eq q2 (by decide)
      by_cases q3 : kd K (p + 3) = 11
      · rw [if_pos q3]
        have h3 := kd_eq q3 (by decide)
        exact heE_pos (by omega) h3
      · rw [if_neg q3]
        have k := paF_pos (K := K) (K.length + 1) (p + 3) (by omega) h2
        cases e : paF K (K.length + 1) (p + 3) with
        | inl y => rw [e] at k; exact ⟨by have := k.1; omega, k.2⟩
        | inr y =>
          rw [e] at k
          dsimp only
          by_cases q4 : kd K y.2 = 11
          · rw [if_pos q4]
            have h4 := kd_eq q4 (by decide)
            exact heE_pos (by have := k.1; omega) h4
          · rw [if_neg q4]; exact ⟨by have := k.1; omega, k.2⟩
    · rw [if_neg q2]; exact ⟨by omega, h1⟩
  · rw [if_neg q1]; exact ⟨Nat.lt_succ_self _, h⟩
end Stk
