/-! N14: the model reads a file, and all files -/
set_option maxRecDepth 100000
set_option linter.unusedVariables false
section Rd
variable {s0 s : MS} {K : List Int} {n0 nb : Int} {I : List IT} {F : List Flt} {O : List EX} {p : Nat}
theorem dlv_mu {w : WY} {st : List OB} {B : EX} {q : Nat} : q ≤ (dlv K w st B q I F O).2.1 ∧ (dlv K w st B q I F O).1.length ≤ st.length + 1 := by
  unfold dlv
  cases w with
  | inl f => exact ⟨Nat.le_refl _, Nat.le_succ _⟩
  | inr w =>
    cases w with
    | none => exact ⟨Nat.le_refl _, by rw [addS_len]; exact Nat.le_succ _⟩
    | some w =>
      obtain ⟨t, g⟩ := w
      cases g with
      | some g => exact ⟨Nat.le_refl _, by dsimp only; rw [addS_len]; exact Nat.le_succ _⟩
      | none =>
        dsimp only
        by_cases z1 : kd K q = 6
        · have hl := kd_eq z1 (by decide)
          rw [if_pos z1]
          by_cases z2 : kd K (q + 1) = 12
          · rw [if_pos z2]; exact ⟨by dsimp only; omega, by dsimp only; rw [List.length_cons]; exact Nat.le_refl _⟩
          · rw [if_neg z2]
            have := (skS_pos (K := K) (p := q + 1) hl).1
            exact ⟨by dsimp only; omega, by dsimp only; rw [addS_len]; exact Nat.le_succ _⟩
        · rw [if_neg z1]; exact ⟨Nat.le_refl _, by dsimp only; rw [addS_len]; exact Nat.le_succ _⟩
theorem rsS_mu {t u : RS} (hp : t.2.1 ≤ K.length) (h : rsS K t = some u) : muR K u < muR K t := by
  obtain ⟨st, p, I, F, O⟩ := t
  dsimp only at hp
  unfold rsS at h
  unfold muR
  cases st with
  | nil =>
    dsimp only at h ⊢
    by_cases z : kd K p = 24
    · rw [if_pos z] at h; cases h
    · rw [if_neg z] at h
      cases h
      have hpl := kd_lt z
      have key : ∀ (a b : Nat), p < a → b ≤ 1 → 3 * (K.length + 1 - a) + b < 3 * (K.length + 1 - p) + 0 := fun a b u v => by omega
      have fi : ∀ q : Nat, p ≤ q → q ≤ K.length → (q = p → isIt (kd K p) = false) → p < skI K q := fun q u v w => by
        have := skI_pos v
        by_cases e : q = p
        · subst e; exact this.2.2.2 (w rfl)
        · omega
      show 3 * (K.length + 1 - (itS K p I F O).2.1) + (itS K p I F O).1.length < 3 * (K.length + 1 - p) + 0
      unfold itS
      by_cases q3 : kd K p = 3
      · rw [if_pos q3]
        have := heF_pos hpl
        cases e : heF K p with
        | inl q => rw [e] at this; exact key _ _ (fi q (by have := this.1; omega) this.2 (fun z => by have := this.1; omega)) (Nat.zero_le _)
        | inr y => rw [e] at this; exact key _ _ (by have := this.1; dsimp only; omega) (Nat.le_refl _)
      · rw [if_neg q3]
        by_cases q2 : kd K p = 2
        · rw [if_pos q2]
          by_cases q0 : kd K (p + 1) = 0
          · have hl1 := kd_eq q0 (by decide)
            rw [if_pos q0]
            by_cases q5 : kd K (p + 2) = 15
            · rw [if_pos q5]; exact key _ _ (by dsimp only; omega) (Nat.zero_le _)
            · rw [if_neg q5]; exact key _ _ (fi (p + 2) (by omega) hl1 (fun z => by omega)) (Nat.zero_le _)
          · rw [if_neg q0]; exact key _ _ (fi (p + 1) (by omega) hpl (fun z => by omega)) (Nat.zero_le _)
        · rw [if_neg q2]
          refine key _ _ (fi p (Nat.le_refl _) hp (fun _ => ?_)) (Nat.zero_le _)
          unfold isIt
          rw [decide_eq_false_iff_not]
          rintro (w | w | w)
          · exact q3 w
          · exact q2 w
          · exact z w
  | cons x st =>
    dsimp only at h ⊢
    cases h
    have key : ∀ (a b : Nat), p < a → a ≤ K.length → b ≤ st.length + 2 → 3 * (K.length + 1 - a) + b < 3 * (K.length + 1 - p) + (st.length + 1) := fun a b u w v => by omega
    show 3 * (K.length + 1 - (stS K x st p I F O).2.1) + (stS K x st p I F O).1.length < 3 * (K.length + 1 - p) + (x :: st).length
    rw [List.length_cons]
    unfold stS
    by_cases z13 : kd K p = 13
    · rw [if_pos z13]
      have hpl := kd_eq z13 (by decide)
      have := dlv_mu (K := K) (w := x.2) (st := st) (B := blk x.1 (p + 1) true) (q := p + 1) (I := I) (F := F) (O := O)
      omega
    · rw [if_neg z13]
      cases zI : isIt (kd K p) with
      | true =>
        rw [if_pos rfl]
        obtain ⟨y1, y2, -⟩ := dlv_6 (K := K) (st := st) (I := I) (F := F ++ [((p : Int), -1, -1)]) (O := O ++ (if kd K p = 24 then [blk x.1 p false] else [])) (w := x.2) (B := blk x.1 p false) (q := p) (fun w => by rw [w] at zI; cases zI)
        rw [y1, y2]; omega
      | false =>
        rw [if_neg (show ¬ (false = true) by decide)]
        have zB : isBE (kd K p) = false := by
          rw [Bool.eq_false_iff]
          intro w
          rcases BE_it.mp w with w | w
          · exact z13 w
          · rw [zI] at w; cases w
        have hpl : p < K.length := kd_lt fun w => by rw [w] at zI; cases zI
        by_cases z12 : kd K p = 12
        · rw [if_pos z12]; exact key _ _ (Nat.lt_succ_self _) hpl (Nat.le_refl _)
        · rw [if_neg z12]
          have br : ∀ q : Nat, p ≤ q → q ≤ K.length → 3 * (K.length + 1 - (brS K (x :: st) p q I F O).2.1) + (brS K (x :: st) p q I F O).1.length < 3 * (K.length + 1 - p) + (st.length + 1) := fun q u v => by
            have := brk_adv u v zB z12
            exact key _ _ this.1 this.2 (by show (addS (x :: st) _).length ≤ _; rw [addS_len, List.length_cons]; omega)
          by_cases z5 : kd K p = 5
          · rw [if_pos z5]
            have := pX_pos (K := K) (p := p + 1) hpl
            cases e : pX K (p + 1) with
            | inl q => rw [e] at this; exact br q (by have := this.1; omega) this.2
            | inr y =>
              rw [e] at this
              obtain ⟨-, -, v3, v4, -⟩ := this
              dsimp only
              by_cases w : kd K y.2 = 12
              · have := kd_eq w (by decide)
                rw [if_pos w]; exact key _ _ (by dsimp only; omega) this (Nat.le_refl _)
              · rw [if_neg w]; exact br y.2 (by omega) v4
          · rw [if_neg z5]
            have := siF_pos hp
            cases e : siF K p with
            | inl q => rw [e] at this; exact br q this.1 this.2
            | inr y => rw [e] at this; exact key _ _ this.1 this.2 (by show (addS (x :: st) _).length ≤ _; rw [addS_len, List.length_cons]; omega)
/-- what comes of the reading of a file -/
def RDr (s0 s : MS) (K : List Int) (T : TR) : Prop :=
  (SeqR s K ∧ Fmz (ZR (s0 27 0)) s0 s ∧ s0 27 0 ≤ s 27 0 ∧ s 27 0 ≤ s0 27 0 + 2 * (K.length : Int)) ∧ (∃ z : Int, IL s K T.1 (s0 27 0) (s 27 0) (s 48 0) z (-1)) ∧ (ERR s T.2.1 ∧ T.2.1.length ≤ K.length) ∧
  ((T.2.2.1 = [] ∧ s 46 0 = 0) ∨ (T.2.2.1 ≠ [] ∧ s 46 0 = T.2.2.1.length ∧ s 46 0 ≤ 200 ∧ (∀ (i : Nat) (e : EX), T.2.2.1[i]? = some e → ∃ b lo hi o th : Int, s 47 (s 46 0 - 1 - i) = b ∧ (isS e = true ∧ WS e 0) ∧ NS s K e 0 lo hi b o th ∧ hi ≤ s 27 0 ∧ s0 27 0 ≤ lo) ∧ FNa s (s0 27 0) T.1))
theorem m_read (hS : SeqR s K) (hn : 0 ≤ s 27 0) (hB : s 27 0 + 2 * (K.length : Int) + 2 < 1600) : Ok (M_read s) fun s' => RDr s s' K (rdT K) := by
  have hl := hS.1
  unfold M_read bd1
  dsimp only
  have g0 : ∀ k i, ¬ ((k = 26 ∨ k = 41 ∨ k = 46 ∨ k = 48 ∨ k = 49 ∨ k = 37) ∧ i = 0) → up (up (up (up (up (up s 26 0 0) 41 0 0) 46 0 0) 48 0 (-1)) 49 0 (-1)) 37 0 0 k i = s k i := fun k i z => by simp (disch := omega) only [up_o]
  have z26 : up (up (up (up (up (up s 26 0 0) 41 0 0) 46 0 0) 48 0 (-1)) 49 0 (-1)) 37 0 0 26 0 = 0 := by simp (disch := omega) only [up_o, up_hit]
  have z41 : up (up (up (up (up (up s 26 0 0) 41 0 0) 46 0 0) 48 0 (-1)) 49 0 (-1)) 37 0 0 41 0 = 0 := by simp (disch := omega) only [up_o, up_hit]
  have z46 : up (up (up (up (up (up s 26 0 0) 41 0 0) 46 0 0) 48 0 (-1)) 49 0 (-1)) 37 0 0 46 0 = 0 := by simp (disch := omega) only [up_o, up_hit]
  have z48 : up (up (up (up (up (up s 26 0 0) 41 0 0) 46 0 0) 48 0 (-1)) 49 0 (-1)) 37 0 0 48 0 = -1 := by simp (disch := omega) only [up_o, up_hit]
  have z49 : up (up (up (up (up (up s 26 0 0) 41 0 0) 46 0 0) 48 0 (-1)) 49 0 (-1)) 37 0 0 49 0 = -1 := by simp (disch := omega) only [up_o, up_hit]
  have z37 : up (up (up (up (up (up s 26 0 0) 41 0 0) 46 0 0) 48 0 (-1)) 49 0 (-1)) 37 0 0 37 0 = 0 := up_hit
  generalize up (up (up (up (up (up s 26 0 0) 41 0 0) 46 0 0) 48 0 (-1)) 49 0 (-1)) 37 0 0 = s1 at g0 z26 z41 z46 z48 z49 z37 ⊢
  have e27 : s1 27 0 = s 27 0 := g0 27 0 (by omega)
  have st0 : RSM s s1 K (s 27 0) (s 27 0) ([], 0, [], [], []) := by
    refine ⟨⟨⟨hS.ex (fun i => g0 24 i (by omega)), Fmz.rf.ex (fun k i z => g0 k i (fun y => z (by unfold ZR; omega))), Nat.zero_le _, hn, by rw [e27]; show s 27 0 ≤ s 27 0 + 2 * ((0 : Nat) : Int); omega, hB⟩, ⟨z41, Nat.le_refl _⟩, ⟨-1, ⟨z48, rfl, by rw [e27]; exact Int.le_refl _⟩, by rw [if_pos rfl]; exact z49⟩, ⟨z37, fun j x e => by cases e⟩⟩, z26, Or.inl ⟨rfl, z46⟩⟩
  obtain ⟨qe, hqe, hreach⟩ := rdF_ok (K := K) (K.length + 1) 0 [] [] [] (by omega) (Nat.zero_le _)
  have lp := lp_ok (F := B_read_30) (μ := fun a => (3 * ((K.length : Int) + 1 - a 26 0) + a 41 0).toNat) (I := fun a => ∃ t, RSM s a K (s 27 0) (s 27 0) t ∧ Rx (rsS K) ([], 0, [], [], []) t) (P := fun _ a => ∃ t, RSM s a K (s 27 0) (s 27 0) t ∧ Rx (rsS K) ([], 0, [], [], []) t ∧ rsS K t = none) (fun rec a hI ih => ?_) FU s1 ⟨_, st0, Rx.rf⟩ (FU_lt (by rw [z26, z41]; omega))
  · refine lp.bd fun s2 hs => ?_
    rw [Ok_some]
    obtain ⟨t, h1, ⟨n, h2⟩, h3⟩ := hs
    obtain ⟨m, hm⟩ := hreach
    have hend : t = ([], qe, [] ++ (rdF K (K.length + 1) 0).1, [] ++ (rdF K (K.length + 1) 0).2.1, [] ++ (rdF K (K.length + 1) 0).2.2.1) := h2.end h3 hm (if_pos hqe)
    rw [List.nil_append, List.nil_append, List.nil_append] at hend
    subst hend
    obtain ⟨⟨⟨a1, a2, a3, a4, a5, a6⟩, ⟨b1, b2⟩, c1, d1⟩, h26, hA⟩ := h1
    dsimp only at a3 a5 b2 c1 d1 hA
    have lb := STK_lb c1
    obtain ⟨z, c2, -⟩ := c1
    refine ⟨⟨a1, a2, lb, by omega⟩, ⟨z, c2⟩, ⟨d1, Nat.le_trans (Nat.le_trans (Nat.le_add_right _ _) b2) a3⟩, ?_⟩
    rcases hA with hA | ⟨w1, w2, w3, w4, w5, w6, w7⟩
    · exact Or.inl hA
    · refine Or.inr ⟨w1, by rw [w3]; exact Int.zero_add _, w4, fun i e he => ?_, w7 rfl⟩
      obtain ⟨b, lo, hi, o, th, u1, u2, u3, u4, u5, u6⟩ := w6 i e he
      exact ⟨b, lo, hi, o, th, u1, u2, u3, u4, u5⟩
  · obtain ⟨t, h1, h2⟩ := hI
    obtain ⟨st, p, I, F, O⟩ := t
    have h1' := h1
    obtain ⟨⟨⟨a1, a2, a3, a4, a5, a6⟩, ⟨b1, b2⟩, c1, d1⟩, h26, hA⟩ := h1
    dsimp only at a3 a5 b1 b2 c1 d1 h26 hA
    have go : ∀ (s2 : MS) (u : RS), rsS K (st, p, I, F, O) = some u → RSM s s2 K (s 27 0) (s 27 0) u → Ok (rec s2) fun a => ∃ t, RSM s a K (s 27 0) (s 27 0) t ∧ Rx (rsS K) ([], 0, [], [], []) t ∧ rsS K t = none := fun s2 u w1 w2 => by
      have hmu := rsS_mu (t := (st, p, I, F, O)) a3 w1
      obtain ⟨⟨⟨-, -, v3, -⟩, ⟨v1, -⟩, -⟩, v26, -⟩ := id w2
      refine ih s2 ⟨u, w2, h2.tr (Rx.st w1)⟩ ?_
      unfold muR at hmu
      dsimp only at hmu
      rw [v26, v1, h26, b1]
      omega
    unfold B_read_30
    rw [jn_e]
    dsimp only
    cases st with
    | nil =>
      have b1' : a 41 0 = 0 := b1
      rw [b1', if_neg (by decide), h26, rd_24 (by omega) (by have := a1.1; omega), Option.bind_some, a1.2 p (by omega)]
      by_cases q : kd K p = 24
      · rw [if_pos q, Ok_some]
        exact ⟨_, h1', h2, if_pos q⟩
      · rw [if_neg q, if_pos rfl]
        exact (m_readItem h1' q).bd fun s2 hs => go s2 _ (if_neg q) hs
    | cons x st =>
      have b1' : a 41 0 = (st.length : Int) + 1 := by rw [b1, List.length_cons]; push_cast; rfl
      rw [b1', if_pos (by omega), if_neg (by omega)]
      exact (m_readStatement h1').bd fun s2 hs => go s2 _ rfl hs
end Rd
/-- the classes of a file -/
def ksF (T : TxT) (file : Nat) : List Int := (tkF T file).map fun x => x.1
theorem ksF_len {T : TxT} {file : Nat} : (ksF T file).length = (tkF T file).length := List.length_map ..
theorem m_laySeq {s : MS} {T : TxT} {file m : Nat} (hT : TxO T) (hf : file < 3) (hL : LexF s T file) (hm : m ≤ (tkF T file).length) : Ok (M_laySeq s file m) fun s' => SeqR s' ((ksF T file).take m) ∧ Fmz (fun k _ => k = 24 ∨ k = 25) s s' := by
  have hlen := tkF_len hT hf
  have hk := ksF_len (T := T) (file := file)
  unfold M_laySeq
  have lp := lp_ok (F := B_laySeq_2 file m) (μ := fun a => ((m : Int) - a.1).toNat) (I := fun a => ∃ n : Nat, a.1 = n ∧ n ≤ m ∧ (∀ i : Nat, i < n → a.2 24 i = kd (ksF T file) i) ∧ Fmz (fun k _ => k = 24) s a.2) (P := fun _ a => (∀ i : Nat, i < m → a 24 i = kd (ksF T file) i) ∧ Fmz (fun k _ => k = 24) s a) (fun rec a hI ih => ?_) FU (0, s) ⟨0, rfl, Nat.zero_le _, fun i h => absurd h (Nat.not_lt_zero _), Fmz.rf⟩ (FU_lt (by dsimp only; omega))
  · refine lp.bd fun s2 hs => ?_
    obtain ⟨h1, h2⟩ := hs
    simp (disch := omega) only [bd1, Option.bind_some, wr_id', up_o, up_hit, rd_24, wt_24]
    rw [Ok_some]
    refine ⟨⟨by rw [List.length_take]; omega, fun i hi => ?_⟩, fun k i z => ?_⟩
    · rw [List.length_take] at hi
      have hmin : min m (ksF T file).length = m := by omega
      rw [hmin] at hi
      by_cases q : i < m
      · have : kd ((ksF T file).take m) i = kd (ksF T file) i := by
          unfold kd; rw [List.getD_eq_getElem?_getD, List.getD_eq_getElem?_getD, List.getElem?_take, if_pos q]
        rw [this, ← h1 i q]
        simp (disch := omega) only [up_o]
      · rw [kd_out (by rw [List.length_take]; omega)]
        have : i = m ∨ i = m + 1 ∨ i = m + 2 := by omega
        rcases this with rfl | rfl | rfl
        · simp (disch := omega) only [up_o, up_hit]
        · push_cast; simp (disch := omega) only [up_o, up_hit]
        · push_cast; rw [show (m : Int) + 1 + 1 = m + 2 by omega]; simp (disch := omega) only [up_o, up_hit]
    · simp (disch := omega) only [up_o]
      exact h2 k i (by omega)
  · obtain ⟨y, s1⟩ := a
    obtain ⟨n, rfl, hn, h1, h2⟩ := hI
    dsimp only at h1 h2
    unfold B_laySeq_2
    dsimp only
    by_cases q : (n : Int) < m
    · rw [if_pos q]
      have hc : s1 16 (200 * (file : Int) + n) = kd (ksF T file) n := by
        rw [h2 16 _ (show ¬ (16 = 24) by decide)]
        obtain ⟨x, hx⟩ : ∃ x, (tkF T file)[n]? = some x := ⟨_, List.getElem?_eq_getElem (by omega)⟩
        rw [(hL.1.2 n x hx).1]
        unfold kd ksF
        rw [List.getD_eq_getElem?_getD, List.getElem?_map, hx]
        rfl
      simp (disch := omega) only [bd1, Option.bind_some, wr_id', up_o, up_hit, rd_16, wt_16, rd_24, wt_24, hc]
      refine ih _ ⟨n + 1, by push_cast; rfl, by omega, fun i hi => ?_, h2.tr (Fmz.up rfl)⟩ (by dsimp only; omega)
      show up s1 24 (n : Int) (kd (ksF T file) n) 24 i = kd (ksF T file) i
      by_cases z : i = n
      · subst z; rw [up_hit]
      · rw [up_o (by omega)]; exact h1 i (by omega)
    · rw [if_neg q, Ok_some]
      have : n = m := by omega
      subst this
      exact ⟨h1, h2⟩
