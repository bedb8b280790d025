/-! S3b -/
set_option maxRecDepth 100000
set_option linter.unusedVariables false
section Stk
variable {K : List Int}
theorem blL_ok {bl : Nat → SR} {m : Nat} {w : WY} {st : List OB} {I : List IT} (hp : BPos K bl m) (hb : BOk K bl m) : ∀ (n p : Nat) (l : List EX) (F : List Flt) (O : List EX), m ≤ p → K.length < n + p → p ≤ K.length →
    Rx (rsS K) ((l, w) :: st, p, I, F, O) ((l ++ (blL K bl n p).1, w) :: st, (blL K bl n p).2.1, I, F ++ (blL K bl n p).2.2.1, O ++ (blL K bl n p).2.2.2)
  | 0, p, l, F, O, _, h, h2 => by omega
  | n + 1, p, l, F, O, hm, h, h2 => by
    unfold blL
    by_cases q : isBE (kd K p) = true
    · rw [if_pos q]; dsimp only; rw [List.append_nil, List.append_nil, List.append_nil]; exact Rx.rf
    · rw [if_neg q]
      have q' := Bool.eq_false_iff.mpr q
      have k := smtF_pos hp hm h2 q'
      have g := st_ok (x := (l, w)) (st := st) (I := I) (F := F) (O := O) hp hb hm h2 q'
      have g2 := blL_ok (w := w) (st := st) (I := I) hp hb n (smtF K bl p).2.1 (l ++ [(smtF K bl p).1]) (F ++ (smtF K bl p).2.2.1) (O ++ (smtF K bl p).2.2.2) (by omega) (by omega) k.2
      refine g.tr ?_
      dsimp only
      rw [List.append_assoc, List.append_assoc, List.append_assoc] at g2
      exact g2
theorem blF_ok {bl : Nat → SR} {m : Nat} (hp : BPos K bl m) (hb : BOk K bl m) {p : Nat} {w : WY} {st : List OB} {I : List IT} {F : List Flt} {O : List EX} (hm : m ≤ p + 1) (h : kd K p = 12) : Rx (rsS K) (([], w) :: st, p + 1, I, F, O) (dlv K w st (blF K bl p).1 (blF K bl p).2.1 I (F ++ (blF K bl p).2.2.1) (O ++ (blF K bl p).2.2.2)) := by
  have hl := kd_eq h (by decide)
  have g := blL_ok (w := w) (st := st) (I := I) hp hb (K.length + 1) (p + 1) [] F O hm (by omega) hl
  have k := blL_pos hp (K.length + 1) (p + 1) hm (by omega) hl
  rw [List.nil_append] at g
  refine g.tr ?_
  unfold blF
  generalize (blL K bl (K.length + 1) (p + 1)) = r at k ⊢
  obtain ⟨l, q, f, o⟩ := r
  dsimp only at k ⊢
  have hs : rsS K ((l, w) :: st, q, I, F ++ f, O ++ o) = some (stS K (l, w) st q I (F ++ f) (O ++ o)) := rfl
  unfold stS at hs
  unfold blE
  by_cases q1 : kd K q = 13
  · rw [if_pos q1] at hs ⊢; exact Rx.st hs
  · rw [if_neg q1] at hs ⊢
    have q2 : isIt (kd K q) = true := (BE_it.mp k.2.2).resolve_left q1
    rw [if_pos q2] at hs
    dsimp only
    rw [← List.append_assoc, ← List.append_assoc]
    exact Rx.st hs
theorem pB_ok : ∀ f : Nat, BOk K (pB K f) (K.length - f)
  | 0 => fun p w st I F O h1 h2 => by have := kd_eq h2 (by decide); omega
  | f + 1 => fun p w st I F O h1 h2 => blF_ok (pB_pos f) (pB_ok f) (by omega) h2
theorem bX_ok {p : Nat} {w : WY} {st : List OB} {I : List IT} {F : List Flt} {O : List EX} (h : kd K p = 12) : Rx (rsS K) (([], w) :: st, p + 1, I, F, O) (dlv K w st (bX K p).1 (bX K p).2.1 I (F ++ (bX K p).2.2.1) (O ++ (bX K p).2.2.2)) := pB_ok (K.length + 1) p w st I F O (by omega) h
theorem bX_pos {p : Nat} (h : kd K p = 12) : p < (bX K p).2.1 ∧ (bX K p).2.1 ≤ K.length := pB_pos (K.length + 1) p (by omega) h
end Stk
