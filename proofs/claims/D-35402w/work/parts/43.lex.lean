/-! L1: the model's lexing of lines and files -/
set_option maxRecDepth 100000
set_option linter.unusedVariables false
def cov (C : List (Nat × Nat)) (i : Nat) : Bool := C.any fun c => decide (c.1 ≤ i) && decide (i < c.2)
theorem cov_cons {a b i : Nat} {C : List (Nat × Nat)} : cov ((a, b) :: C) i = (decide (a ≤ i) && decide (i < b) || cov C i) := rfl
/-- a comment that goes on from a place -/
theorem LX_com {t : List Int} {j : Nat} (h : j ≤ t.length) : (LX t true j).1 = (LX t (!(cEnd t j).2) (cEnd t j).1).1 ∧ (LX t true j).2.2 = (LX t (!(cEnd t j).2) (cEnd t j).1).2.2 ∧ ∀ i, i < t.length → cov (LX t true j).2.1 i = (decide (j ≤ i) && decide (i < (cEnd t j).1) || cov (LX t (!(cEnd t j).2) (cEnd t j).1).2.1 i) := by
  by_cases q : j < t.length
  · rw [LX_step q, if_pos rfl]
    exact ⟨rfl, rfl, fun i _ => rfl⟩
  · have e : cEnd t j = (j, false) := cEnd_out (by omega)
    rw [e]
    refine ⟨rfl, rfl, fun i hi => ?_⟩
    have z0 : LX t true j = ([], [], true) := LX_out (by omega)
    show cov (LX t true j).2.1 i = (decide (j ≤ i) && decide (i < j) || cov (LX t true j).2.1 i)
    rw [z0]
    show false = (decide (j ≤ i) && decide (i < j) || false)
    by_cases z : j ≤ i
    · rw [show decide (i < j) = false by rw [decide_eq_false_iff_not]; omega]; simp
    · rw [show decide (j ≤ i) = false by rw [decide_eq_false_iff_not]; exact z]; simp
/-- the marks of comments of a row -/
def MkR (s s' : MS) (r : Int) (C : Nat → Bool) : Prop := ∀ i : Nat, i < 24 → s' 22 (24 * r + i) = if C i = true then 1 else s 22 (24 * r + i)
theorem m_mark {s : MS} {r : Int} (hr : 0 ≤ r ∧ r < 24) {e : Nat} (he : e ≤ 24) : ∀ {i : Nat}, i ≤ e → Ok (lp (B_lexLine_119 r e) FU (i, s)) fun s' => MkR s s' r (fun j => decide (i ≤ j) && decide (j < e)) ∧ Fmz (fun k x => k = 22 ∧ 24 * r ≤ x ∧ x < 24 * r + 24) s s' := by
  intro i hi
  refine lp_ok (F := B_lexLine_119 r e) (μ := fun a => ((e : Int) - a.1).toNat) (I := fun a => ∃ n : Nat, a.1 = n ∧ i ≤ n ∧ n ≤ e ∧ MkR s a.2 r (fun j => decide (i ≤ j) && decide (j < n)) ∧ Fmz (fun k x => k = 22 ∧ 24 * r ≤ x ∧ x < 24 * r + 24) s a.2) (P := fun _ s' => MkR s s' r (fun j => decide (i ≤ j) && decide (j < e)) ∧ Fmz (fun k x => k = 22 ∧ 24 * r ≤ x ∧ x < 24 * r + 24) s s') (fun rec a hI ih => ?_) FU (i, s) ⟨i, rfl, Nat.le_refl _, hi, fun j hj => ?_, Fmz.rf⟩ (FU_lt (by dsimp only; omega))
  · obtain ⟨x, s1⟩ := a
    obtain ⟨n, rfl, h1, h2, h3, h4⟩ := hI
    dsimp only at h3 h4
    unfold B_lexLine_119
    dsimp only
    by_cases q : (n : Int) < e
    · rw [if_pos q]
      simp (disch := omega) only [wr_id']
      rw [wrc_e (k := 22) ⟨by omega, by show _ < (576 : Int); omega⟩, Option.bind_some]
      unfold bd1
      refine ih _ ⟨n + 1, by dsimp only; omega, by omega, by omega, fun j hj => ?_, h4.tr (Fmz.up ⟨rfl, by omega, by omega⟩)⟩ (by dsimp only; omega)
      by_cases z : j = n
      · subst z
        show up s1 22 (24 * r + (j : Int)) 1 22 (24 * r + (j : Int)) = _
        rw [up_hit, if_pos (by simp; omega)]
      · show up s1 22 (24 * r + (n : Int)) 1 22 (24 * r + (j : Int)) = _
        rw [up_i (by omega), h3 j hj]
        by_cases y : i ≤ j ∧ j < n
        · rw [if_pos (by simp; omega), if_pos (by simp; omega)]
        · rw [if_neg (by simp; omega), if_neg (by simp; omega)]
    · rw [if_neg q, Ok_some]
      have : n = e := by omega
      subst this
      exact ⟨h3, h4⟩
  · exact (if_neg (by simp)).symm
/-- what the lexing of a line may touch -/
def ZX (file line : Int) : Nat → Int → Prop := fun k i => ZT file k i ∨ k = 23 ∨ (k = 22 ∧ 24 * (8 * file + line) ≤ i ∧ i < 24 * (8 * file + line) + 24) ∨ (k = 21 ∧ i = 8 * file + line)
theorem ZX_0 {file line i : Int} : ¬ ZX file line 0 i := fun z => by
  rcases z with (⟨⟨z, _⟩, _⟩ | ⟨z, _⟩) | z | ⟨z, _⟩ | ⟨z, _⟩
  · exact absurd z (by decide)
  · exact absurd z (by decide)
  · exact absurd z (by decide)
  · exact absurd z (by decide)
  · exact absurd z (by decide)
theorem ZX_1 {file line i : Int} : ¬ ZX file line 1 i := fun z => by
  rcases z with (⟨⟨z, _⟩, _⟩ | ⟨z, _⟩) | z | ⟨z, _⟩ | ⟨z, _⟩
  · exact absurd z (by decide)
  · exact absurd z (by decide)
  · exact absurd z (by decide)
  · exact absurd z (by decide)
  · exact absurd z (by decide)
def mT4 (line : Nat) (x : Int × Nat × Nat) : Tk4 := (x.1, line, x.2.1, x.2.2)
theorem TkL.fm {Z : Nat → Int → Prop} {s s' : MS} {file : Int} {L : List Tk4} (p : TkL s file L) (f : Fmz Z s s') (h : ∀ k i, 16 ≤ k → k ≤ 20 → ¬ Z k i) : TkL s' file L :=
  ⟨(f 20 file (h 20 file (by decide) (by decide))).trans p.1, fun j x e => by
    obtain ⟨a, b, c, d⟩ := p.2 j x e
    exact ⟨(f _ _ (h 16 _ (by decide) (by decide))).trans a, (f _ _ (h 17 _ (by decide) (by decide))).trans b, (f _ _ (h 18 _ (by decide) (by decide))).trans c, (f _ _ (h 19 _ (by decide) (by decide))).trans d⟩⟩
/-- whether a comment begins -/
theorem m_begins {s : MS} {r : Int} {t : List Int} (p : Rw s r t) {n : Nat} {c : Int} (hc : t[n]? = some c) : ∃ b : Bool, (b = true ↔ (t[n]? = some 47 ∧ t[n + 1]? = some 42)) ∧ (if c = 47 then (some (t.length : Int)).bind fun v40 => if (wr ((n : Int) + 1)) < v40 then (M_at s r (wr ((n : Int) + 1))).bind fun v41 => if v41 = 42 then some 1 else some 0 else some 0 else some 0) = some (b01 b) := by
  have hl := (List.getElem?_eq_some_iff.mp hc).1
  have := p.2.2.1
  by_cases q : c = 47
  · rw [if_pos q, Option.bind_some, wr_id' (by omega) (by omega)]
    by_cases q2 : (n : Int) + 1 < t.length
    · rw [if_pos q2]
      obtain ⟨d, hd⟩ := getE (s := t) (i := n + 1) (by omega)
      rw [show (n : Int) + 1 = ((n + 1 : Nat) : Int) by omega, m_at p hd, Option.bind_some]
      by_cases q3 : d = 42
      · rw [if_pos q3]; exact ⟨true, by rw [hc, hd, q, q3]; simp, rfl⟩
      · rw [if_neg q3]; exact ⟨false, by rw [hd]; simp [q3], rfl⟩
    · rw [if_neg q2]
      refine ⟨false, ?_, rfl⟩
      rw [List.getElem?_eq_none (show t.length ≤ n + 1 by omega)]; simp
  · rw [if_neg q]; exact ⟨false, by rw [hc]; simp [q], rfl⟩
theorem m_lexLine {s : MS} {file : Int} (hf : 0 ≤ file ∧ file < 3) {line : Nat} (hl : line < 8) {t : List Int} (p : Rw s (8 * file + line) t) {L : List Tk4} (hL : L.length + 24 < 199) (q : TkL s file L) {m : Bool} (hz : ∀ i : Nat, i < 24 → s 22 (24 * (8 * file + line) + i) = 0) :
    Ok (M_lexLine s file line (b01 m)) fun x => x.1 = b01 (LX t m 0).2.2 ∧ TkL x.2 file (L ++ (LX t m 0).1.map (mT4 line)) ∧ x.2 21 (8 * file + line) = b01 (LX t m 0).2.2 ∧ (∀ i : Nat, i < t.length → x.2 22 (24 * (8 * file + line) + i) = b01 (cov (LX t m 0).2.1 i)) ∧ Fmz (ZX file line) s x.2 := by
  have h24 := p.2.2.1
  unfold M_lexLine bd1
  simp (disch := omega) only [wr_id']
  let J : (Int × Int × MS) → Prop := fun a => ∃ (m' : Bool) (n : Nat) (A : List (Int × Nat × Nat)) (C : Nat → Bool), a.1 = b01 m' ∧ a.2.1 = n ∧ n ≤ t.length ∧ A.length ≤ n ∧ A ++ (LX t m' n).1 = (LX t m 0).1 ∧ (LX t m' n).2.2 = (LX t m 0).2.2 ∧ (∀ i, i < t.length → (C i || cov (LX t m' n).2.1 i) = cov (LX t m 0).2.1 i) ∧ TkL a.2.2 file (L ++ A.map (mT4 line)) ∧ (∀ i : Nat, i < 24 → a.2.2 22 (24 * (8 * file + line) + i) = b01 (C i)) ∧ Fmz (ZX file line) s a.2.2
  have lp := lp_ok (F := B_lexLine_14 file (8 * file + line) line) (μ := fun a => ((t.length : Int) - a.2.1).toNat) (I := J) (P := fun _ x => x.1 = b01 (LX t m 0).2.2 ∧ TkL x.2 file (L ++ (LX t m 0).1.map (mT4 line)) ∧ (∀ i : Nat, i < t.length → x.2 22 (24 * (8 * file + line) + i) = b01 (cov (LX t m 0).2.1 i)) ∧ Fmz (ZX file line) s x.2) (fun rec a hI ih => ?_) FU (b01 m, 0, s) ⟨m, 0, [], fun _ => false, rfl, rfl, Nat.zero_le _, Nat.le_refl _, rfl, rfl, fun i _ => rfl, by rw [List.map_nil, List.append_nil]; exact q, hz, Fmz.rf⟩ (FU_lt (by dsimp only; omega))
  · refine lp.bd fun x hx => ?_
    obtain ⟨x1, x2⟩ := x
    obtain ⟨h1, h2, h3, h4⟩ := hx
    dsimp only at h1 h2 h3 h4 ⊢
    rw [wrc_e (k := 21) ⟨by omega, by show _ < (24 : Int); omega⟩, Option.bind_some, Ok_some]
    refine ⟨h1, h2.fm (Fmz.up (Z := fun k _ => k = 21) rfl) (fun k i a b z => by omega), by show up x2 21 _ x1 21 _ = _; rw [up_hit, h1], fun i hi => ?_, h4.tr (Fmz.up (Or.inr (Or.inr (Or.inr ⟨rfl, rfl⟩))))⟩
    show up x2 21 (8 * file + (line : Int)) x1 22 (24 * (8 * file + (line : Int)) + i) = _
    rw [up_k (by decide)]; exact h3 i hi
  · obtain ⟨x, y, s'⟩ := a
    obtain ⟨m', n, A, C, rfl, rfl, hn, hA, e1, e2, e3, tk, mk, f⟩ := hI
    dsimp only at tk mk f
    have p' := p.fm f (fun i => ZX_0) (fun i => ZX_1)
    unfold B_lexLine_14
    dsimp only
    rw [p'.len, Option.bind_some]
    by_cases h1 : (n : Int) < t.length
    · rw [if_pos h1]
      obtain ⟨c, hc⟩ := getE (s := t) (i := n) (by omega)
      rw [m_at p' hc, Option.bind_some]
      obtain ⟨b, hb1, hb2⟩ := m_begins p' hc
      have hst := LX_step (t := t) (m := m') (i := n) (by omega)
      -- a comment: from a place on
      have com : ∀ (j : Nat), j ≤ t.length → n ≤ j → (m' = true ∧ j = n ∨ m' = false ∧ j = n + 2 ∧ b = true) → Ok ((M_commentEnd s' (8 * file + line) j).bind fun (v18, s19) => (lp (B_lexLine_119 (8 * file + line) v18) FU ((n : Int), s19)).bind fun s22 => (if (s22 23 0) = 0 then some 1 else some 0 : Option Int).bind fun c27 => rec (c27, v18, s22)) fun x => x.1 = b01 (LX t m 0).2.2 ∧ TkL x.2 file (L ++ (LX t m 0).1.map (mT4 line)) ∧ (∀ i : Nat, i < t.length → x.2 22 (24 * (8 * file + line) + i) = b01 (cov (LX t m 0).2.1 i)) ∧ Fmz (ZX file line) s x.2 := by
        intro j hj hnj hjj
        have hce := cEnd_le hj
        refine (m_commentEnd p' hj).bd fun x hx => ?_
        obtain ⟨x1, s1⟩ := x
        obtain ⟨rfl, g2, g3⟩ := hx
        dsimp only at g2 g3 ⊢
        refine (m_mark (s := s1) (r := 8 * file + line) (by omega) (e := (cEnd t j).1) (by omega) (i := n) (by omega)).bd fun s2 hs => ?_
        obtain ⟨g4, g5⟩ := hs
        have g6 : s2 23 0 = b01 (cEnd t j).2 := (g5 23 0 (fun z => absurd z.1 (by decide))).trans g2
        have ec : (if (s2 23 0) = 0 then some 1 else some 0 : Option Int) = some (b01 (!(cEnd t j).2)) := by
          rw [g6]; cases (cEnd t j).2 <;> rfl
        rw [ec, Option.bind_some]
        have fa : Fmz (ZX file line) s' s2 := (g3.wk (fun k i z => Or.inr (Or.inl z))).tr (g5.wk (fun k i z => Or.inr (Or.inr (Or.inl z))))
        have hgt : n < (cEnd t j).1 := by
          rcases hjj with ⟨-, rfl⟩ | ⟨-, rfl, -⟩
          · exact cEnd_gt (by omega)
          · omega
        obtain ⟨l1, l2, l3⟩ := LX_com hj
        have eLX : (LX t m' n).1 = (LX t true j).1 ∧ (LX t m' n).2.2 = (LX t true j).2.2 ∧ ∀ i, i < t.length → cov (LX t m' n).2.1 i = (decide (n ≤ i) && decide (i < j) || cov (LX t true j).2.1 i) := by
          rcases hjj with ⟨rfl, rfl⟩ | ⟨rfl, rfl, rfl⟩
          · refine ⟨rfl, rfl, fun i _ => ?_⟩
            have : (decide (j ≤ i) && decide (i < j)) = false := by
              by_cases z : j ≤ i
              · rw [show decide (i < j) = false by rw [decide_eq_false_iff_not]; omega]; simp
              · rw [show decide (j ≤ i) = false by rw [decide_eq_false_iff_not]; exact z]; simp
            rw [this, Bool.false_or]
          · rw [if_neg (by decide), if_pos (hb1.mp rfl)] at hst
            rw [hst]
            exact ⟨rfl, rfl, fun i _ => rfl⟩
        refine ih _ ⟨!(cEnd t j).2, (cEnd t j).1, A, fun i => C i || (decide (n ≤ i) && decide (i < (cEnd t j).1)), rfl, rfl, hce.2.1, by omega, ?_, ?_, ?_, ?_, ?_, f.tr fa⟩ (by dsimp only; omega)
        · rw [← l1, ← eLX.1]; exact e1
        · rw [← l2, ← eLX.2.1]; exact e2
        · intro i hi
          rw [← e3 i hi, eLX.2.2 i hi, l3 i hi]
          by_cases z1 : n ≤ i
          · by_cases z2 : i < (cEnd t j).1
            · by_cases z3 : i < j
              · simp [z1, z2, z3]
              · have : j ≤ i := by omega
                simp [z1, z2, this]
            · have z3 : ¬ i < j := by omega
              simp [z2, z3]
          · have z3 : ¬ j ≤ i := by omega
            simp [z1, z3]
        · have k1 := tk.fm g3 (fun k i a b z => by omega)
          exact k1.fm g5 (fun k i a b z => by have := z.1; omega)
        · intro i hi
          show s2 22 (24 * (8 * file + (line : Int)) + i) = b01 (C i || (decide (n ≤ i) && decide (i < (cEnd t j).1)))
          rw [g4 i hi, g3 22 _ (fun z => absurd (show 22 = 23 from z) (by decide)), mk i hi]
          by_cases z : (decide (n ≤ i) && decide (i < (cEnd t j).1)) = true
          · rw [if_pos z, z, Bool.or_true]; rfl
          · rw [if_neg z, Bool.eq_false_iff.mpr z, Bool.or_false]
      cases hm : m' with
      | true =>
        subst hm
        rw [show b01 true = 1 from rfl, if_neg (by decide), Option.bind_some]
        unfold jn
        dsimp only
        rw [if_neg (by decide), if_pos rfl, Option.bind_some]
        simp (disch := omega) only [wr_id', Int.add_zero]
        exact com n hn (Nat.le_refl _) (Or.inl ⟨rfl, rfl⟩)
      | false =>
        subst hm
        rw [show b01 false = 0 from rfl, if_pos rfl]
        rw [hb2, Option.bind_some]
        unfold jn
        dsimp only
        rw [if_pos rfl]
        cases b with
        | true =>
          have h2 := (List.getElem?_eq_some_iff.mp (hb1.mp rfl).2).1
          rw [show b01 true = 1 from rfl, if_neg (by decide), if_neg (by decide), Option.bind_some, wr_id' (by omega) (by omega), show (n : Int) + 2 = ((n + 2 : Nat) : Int) by omega]
          exact com (n + 2) (by omega) (by omega) (Or.inr ⟨rfl, rfl, rfl⟩)
        | false =>
          have hno : ¬ (t[n]? = some 47 ∧ t[n + 1]? = some 42) := fun z => by cases hb1.mpr z
          rw [show b01 false = 0 from rfl, if_pos rfl]
          rw [if_neg (by decide), if_neg hno] at hst
          by_cases hsp : c = 32
          · rw [if_pos hsp, Option.bind_some]
            unfold bd1
            dsimp only
            rw [wr_id' (by omega) (by omega)]
            rw [if_pos (by rw [hc, hsp])] at hst
            refine ih _ ⟨false, n + 1, A, C, rfl, by dsimp only; omega, by omega, by omega, ?_, ?_, ?_, tk, mk, f⟩ (by dsimp only; omega)
            · rw [← hst]; exact e1
            · rw [← hst]; exact e2
            · intro i hi; rw [← hst]; exact e3 i hi
          · rw [if_neg hsp, Option.bind_assoc]
            rw [if_neg (by rw [hc]; exact fun z => hsp (Option.some.inj z))] at hst
            have hAl : (L ++ A.map (mT4 line)).length < 199 := by rw [List.length_append, List.length_map]; omega
            refine (m_layToken hf hl p' tk hAl (i := n) (by omega)).bd fun x hx => ?_
            obtain ⟨x1, s1⟩ := x
            obtain ⟨rfl, g2, g3⟩ := hx
            dsimp only at g2 g3 ⊢
            have ht := tok_pos (t := t) (i := n) (by omega)
            rw [Option.bind_some]
            unfold bd1
            rw [wr_id' (by omega) (by omega)]
            refine ih _ ⟨false, n + (tok t n).2, A ++ [((tok t n).1, n, (tok t n).2)], C, rfl, by dsimp only; omega, ht.2, by rw [List.length_append, List.length_singleton]; omega, ?_, ?_, ?_, ?_, ?_, f.tr (g3.wk (fun k i z => Or.inl z))⟩ (by dsimp only; omega)
            · rw [← e1, hst, List.append_assoc]; rfl
            · rw [← e2, hst]
            · intro i hi; rw [← e3 i hi, hst]
            · rw [List.map_append, ← List.append_assoc]; exact g2
            · intro i hi
              show s1 22 (24 * (8 * file + (line : Int)) + i) = b01 (C i)
              rw [g3 22 _ (fun z => by rcases z with ⟨⟨z1, z2⟩, _⟩ | ⟨z, _⟩ <;> omega)]
              exact mk i hi
    · rw [if_neg h1, Ok_some]
      have : n = t.length := by omega
      rw [LX_out (by omega)] at e1 e2 e3
      dsimp only at e1 e2 e3
      rw [List.append_nil] at e1
      refine ⟨by dsimp only; rw [← e2], by rw [← e1]; exact tk, fun i hi => ?_, f⟩
      dsimp only
      rw [mk i (by omega), ← e3 i hi]
      show b01 (C i) = b01 (C i || false)
      rw [Bool.or_false]
/-! a file -/
abbrev TxT : Type := Nat → List Int
/-- whether a line begins in a comment; the tokens of the first lines -/
def mdB (T : TxT) (file : Nat) : Nat → Bool
  | 0 => false
  | l + 1 => (LX (T (8 * file + l)) (mdB T file l) 0).2.2
def lnL (T : TxT) (file l : Nat) : LxR := LX (T (8 * file + l)) (mdB T file l) 0
def tkG (T : TxT) (file : Nat) : Nat → List Tk4
  | 0 => []
  | l + 1 => tkG T file l ++ (lnL T file l).1.map (mT4 l)
def tkF (T : TxT) (file : Nat) : List Tk4 := tkG T file 8
/-- the rows that a text is -/
def TxR (s : MS) (T : TxT) : Prop := ∀ r : Nat, r < 24 → Rw s r (T r)
def TxO (T : TxT) : Prop := ∀ r : Nat, r < 24 → (T r).length ≤ 24 ∧ Asc (T r)
theorem TxR.ok {s : MS} {T : TxT} (h : TxR s T) : TxO T := fun r hr => ⟨(h r hr).2.2.1, (h r hr).2.2.2.1⟩
theorem tkG_len {T : TxT} {file : Nat} (hT : TxO T) (hf : file < 3) : ∀ l, l ≤ 8 → (tkG T file l).length ≤ 24 * l
  | 0, _ => Nat.le_refl _
  | l + 1, h => by
    have h1 := tkG_len hT hf l (by omega)
    have h2 := (LX_in (t := T (8 * file + l)) ((T (8 * file + l)).length) (mdB T file l) 0 (by omega) (by omega)).1
    have h3 := (hT (8 * file + l) (by omega)).1
    show (tkG T file l ++ (lnL T file l).1.map (mT4 l)).length ≤ _
    rw [List.length_append, List.length_map]
    unfold lnL
    omega
theorem tkF_len {T : TxT} {file : Nat} (hT : TxO T) (hf : file < 3) : (tkF T file).length ≤ 192 := tkG_len hT hf 8 (Nat.le_refl _)
/-- what the lexing of a file may touch -/
def ZF (file : Int) : Nat → Int → Prop := fun k i => ZT file k i ∨ k = 23 ∨ (k = 22 ∧ 192 * file ≤ i ∧ i < 192 * file + 192) ∨ (k = 21 ∧ 8 * file ≤ i ∧ i < 8 * file + 8)
theorem ZF_01 {file : Int} {k : Nat} {i : Int} (h : k < 16) : ¬ ZF file k i := fun z => by
  rcases z with (⟨⟨z, _⟩, _⟩ | ⟨z, _⟩) | z | ⟨z, _⟩ | ⟨z, _⟩ <;> omega
theorem TxR.fm {Z : Nat → Int → Prop} {s s' : MS} {T : TxT} (p : TxR s T) (f : Fmz Z s s') (h0 : ∀ i, ¬ Z 0 i) (h1 : ∀ i, ¬ Z 1 i) : TxR s' T := fun r hr => (p r hr).fm f h0 h1
theorem m_unmark {s : MS} {file line : Nat} (hf : file < 3) (hl : line < 8) : Ok (lp (B_lex_20 file line) FU (0, s)) fun s' => (∀ i : Nat, i < 24 → s' 22 (24 * (8 * (file : Int) + line) + i) = 0) ∧ Fmz (fun k x => k = 22 ∧ 24 * (8 * (file : Int) + line) ≤ x ∧ x < 24 * (8 * (file : Int) + line) + 24) s s' := by
  refine lp_ok (F := B_lex_20 file line) (μ := fun a => ((24 : Int) - a.1).toNat) (I := fun a => ∃ n : Nat, a.1 = n ∧ n ≤ 24 ∧ (∀ i : Nat, i < n → a.2 22 (24 * (8 * (file : Int) + line) + i) = 0) ∧ Fmz (fun k x => k = 22 ∧ 24 * (8 * (file : Int) + line) ≤ x ∧ x < 24 * (8 * (file : Int) + line) + 24) s a.2) (P := fun _ s' => (∀ i : Nat, i < 24 → s' 22 (24 * (8 * (file : Int) + line) + i) = 0) ∧ Fmz (fun k x => k = 22 ∧ 24 * (8 * (file : Int) + line) ≤ x ∧ x < 24 * (8 * (file : Int) + line) + 24) s s') (fun rec a hI ih => ?_) FU (0, s) ⟨0, rfl, Nat.zero_le _, fun i hi => absurd hi (Nat.not_lt_zero _), Fmz.rf⟩ (FU_lt (by dsimp only; omega))
  obtain ⟨x, s1⟩ := a
  obtain ⟨n, rfl, h2, h3, h4⟩ := hI
  dsimp only at h3 h4
  unfold B_lex_20
  dsimp only
  by_cases q : (n : Int) < 24
  · rw [if_pos q]
    simp (disch := omega) only [wr_id']
    rw [wrc_e (k := 22) ⟨by omega, by show _ < (576 : Int); omega⟩, Option.bind_some]
    unfold bd1
    refine ih _ ⟨n + 1, by dsimp only; omega, by omega, fun i hi => ?_, h4.tr (Fmz.up ⟨rfl, by omega, by omega⟩)⟩ (by dsimp only; omega)
    show up s1 22 (24 * (8 * (file : Int) + line) + n) 0 22 (24 * (8 * (file : Int) + line) + i) = 0
    by_cases z : i = n
    · subst z; rw [up_hit]
    · rw [up_i (by omega)]; exact h3 i (by omega)
  · rw [if_neg q, Ok_some]
    have : n = 24 := by omega
    subst this
    exact ⟨h3, h4⟩
/-- a file is lexed -/
def LexF (s : MS) (T : TxT) (file : Nat) : Prop := TkL s file (tkF T file) ∧ s 16 (200 * file + (tkF T file).length) = 24 ∧ (∀ l : Nat, l < 8 → s 21 (8 * file + l) = b01 (mdB T file (l + 1))) ∧ ∀ l i : Nat, l < 8 → i < (T (8 * file + l)).length → s 22 (24 * (8 * file + l) + i) = b01 (cov (lnL T file l).2.1 i)
theorem m_lex {s : MS} {T : TxT} (hT : TxR s T) {file : Nat} (hf : file < 3) : Ok (M_lex s file) fun s' => LexF s' T file ∧ Fmz (ZF file) s s' := by
  unfold M_lex
  rw [wrc_e (k := 20) ⟨by omega, by show _ < (3 : Int); omega⟩, Option.bind_some]
  have z0 : ∀ l : Nat, l < 8 → ∀ k i, ZX file l k i → ZF file k i := fun l hl k i z => by
    rcases z with z | z | ⟨z1, z2, z3⟩ | ⟨z1, z2⟩
    · exact Or.inl z
    · exact Or.inr (Or.inl z)
    · exact Or.inr (Or.inr (Or.inl ⟨z1, by omega, by omega⟩))
    · exact Or.inr (Or.inr (Or.inr ⟨z1, by omega, by omega⟩))
  let J : (Int × Int × MS) → Prop := fun a => ∃ n : Nat, a.1 = b01 (mdB T file n) ∧ a.2.1 = n ∧ n ≤ 8 ∧ TkL a.2.2 file (tkG T file n) ∧ (∀ l : Nat, l < n → a.2.2 21 (8 * file + l) = b01 (mdB T file (l + 1))) ∧ (∀ l i : Nat, l < n → i < (T (8 * file + l)).length → a.2.2 22 (24 * (8 * file + l) + i) = b01 (cov (lnL T file l).2.1 i)) ∧ Fmz (ZF file) s a.2.2
  have lp := lp_ok (F := B_lex_11 file) (μ := fun a => ((8 : Int) - a.2.1).toNat) (I := J) (P := fun _ s' => J (b01 (mdB T file 8), 8, s')) (fun rec a hI ih => ?_) FU (0, 0, up s 20 file 0) ⟨0, rfl, rfl, Nat.zero_le _, ⟨up_hit, fun j x e => by cases e⟩, fun l h => absurd h (Nat.not_lt_zero _), fun l i h => absurd h (Nat.not_lt_zero _), Fmz.up (Or.inl (Or.inr ⟨rfl, rfl⟩))⟩ (FU_lt (by dsimp only; omega))
  · refine lp.bd fun s5 hs => ?_
    obtain ⟨n, h1, h2, -, h4, h5, h6, h7⟩ := hs
    dsimp only at h2 h4 h5 h6 h7
    have hn : n = 8 := by omega
    subst hn
    have hlen := tkF_len hT.ok hf
    rw [rdc_e (k := 20) ⟨by omega, by show _ < (3 : Int); omega⟩, Option.bind_some, h4.1]
    have hlen' : (tkG T file 8).length ≤ 192 := hlen
    simp (disch := omega) only [wr_id']
    rw [wrc_e (k := 16) ⟨by omega, by show _ < (600 : Int); omega⟩, Option.bind_some, Ok_some]
    refine ⟨⟨⟨?_, fun j x e => ?_⟩, up_hit, fun l hl => ?_, fun l i hl hi => ?_⟩, h7.tr (Fmz.up (Or.inl (Or.inl ⟨⟨by decide, by decide⟩, by omega, by omega⟩)))⟩
    · exact Eq.trans (up_k (by decide)) h4.1
    · have hj := (List.getElem?_eq_some_iff.mp e).1
      have hj' : j < (tkG T file 8).length := hj
      obtain ⟨a1, a2, a3, a4⟩ := h4.2 j x e
      refine ⟨Eq.trans (up_i (by omega)) a1, ?_, ?_, ?_⟩
      · exact Eq.trans (up_k (by decide)) a2
      · exact Eq.trans (up_k (by decide)) a3
      · exact Eq.trans (up_k (by decide)) a4
    · exact Eq.trans (up_k (by decide)) (h5 l hl)
    · exact Eq.trans (up_k (by decide)) (h6 l i hl hi)
  · obtain ⟨x, y, s1⟩ := a
    obtain ⟨n, rfl, rfl, hn, tk, h5, h6, f⟩ := hI
    dsimp only at tk h5 h6 f
    unfold B_lex_11
    dsimp only
    by_cases q : (n : Int) < 8
    · rw [if_pos q]
      refine (m_unmark (s := s1) hf (line := n) (by omega)).bd fun s2 hs => ?_
      obtain ⟨g1, g2⟩ := hs
      have f2 : Fmz (ZF file) s1 s2 := g2.wk (fun k i z => Or.inr (Or.inr (Or.inl ⟨z.1, by omega, by omega⟩)))
      have hr := ((hT (8 * file + n) (by omega)).fm f (fun i => ZF_01 (by decide)) (fun i => ZF_01 (by decide))).fm f2 (fun i => ZF_01 (by decide)) (fun i => ZF_01 (by decide))
      have hr' : Rw s2 (8 * (file : Int) + n) (T (8 * file + n)) := by have := hr; push_cast at this; exact this
      have hlen := tkG_len hT.ok hf n hn
      refine (m_lexLine (file := file) (by omega) (line := n) (by omega) hr' (L := tkG T file n) (by omega) (tk.fm g2 (fun k i a b z => by omega)) (m := mdB T file n) g1).bd fun x hx => ?_
      obtain ⟨x1, s3⟩ := x
      obtain ⟨rfl, k2, k3, k4, k5⟩ := hx
      dsimp only at k2 k3 k4 k5 ⊢
      unfold bd1
      rw [wr_id' (by omega) (by omega)]
      refine ih _ ⟨n + 1, rfl, by dsimp only; omega, by omega, k2, fun l hl => ?_, fun l i hl hi => ?_, (f.tr f2).tr (k5.wk (z0 n (by omega)))⟩ (by dsimp only; omega)
      · show s3 21 _ = _
        by_cases z : l = n
        · subst z; exact k3
        · rw [k5 21 _ (fun z => by rcases z with (⟨⟨z1, z2⟩, _⟩ | ⟨z, _⟩) | z | ⟨z, _⟩ | ⟨z, z2⟩ <;> omega), g2 21 _ (fun z => by omega)]
          exact h5 l (by omega)
      · show s3 22 _ = _
        by_cases z : l = n
        · subst z; exact k4 i hi
        · have := (hT.ok (8 * file + l) (by omega)).1
          rw [k5 22 _ (fun z => by rcases z with (⟨⟨z1, z2⟩, _⟩ | ⟨z, _⟩) | z | ⟨z, z2⟩ | ⟨z, z2⟩ <;> omega), g2 22 _ (fun z => by omega)]
          exact h6 l i (by omega) hi
    · rw [if_neg q, Ok_some]
      have : n = 8 := by omega
      subst this
      exact ⟨8, rfl, rfl, Nat.le_refl _, tk, h5, h6, f⟩
/-- all files are lexed -/
def LexA (s : MS) (T : TxT) : Prop := ∀ file : Nat, file < 3 → LexF s T file
def ZA (k : Nat) : Prop := 16 ≤ k ∧ k ≤ 23
theorem LexF.fm {Z : Nat → Int → Prop} {s s' : MS} {T : TxT} {file : Nat} (hT : TxO T) (hf : file < 3) (p : LexF s T file) (f : Fmz Z s s') (h : ∀ k i, ZF file k i → k ≠ 23 → ¬ Z k i) : LexF s' T file := by
  obtain ⟨⟨p1, p2⟩, p3, p4, p5⟩ := p
  have hlen := tkF_len hT hf
  refine ⟨⟨(f 20 file (h _ _ (Or.inl (Or.inr ⟨rfl, rfl⟩)) (by decide))).trans p1, fun j x e => ?_⟩, (f 16 _ (h _ _ (Or.inl (Or.inl ⟨⟨by decide, by decide⟩, by omega, by omega⟩)) (by decide))).trans p3, fun l hl => (f 21 _ (h _ _ (Or.inr (Or.inr (Or.inr ⟨rfl, by omega, by omega⟩))) (by decide))).trans (p4 l hl), fun l i hl hi => ?_⟩
  · have hj := (List.getElem?_eq_some_iff.mp e).1
    obtain ⟨a1, a2, a3, a4⟩ := p2 j x e
    exact ⟨(f 16 _ (h _ _ (Or.inl (Or.inl ⟨⟨by decide, by decide⟩, by omega, by omega⟩)) (by decide))).trans a1, (f 17 _ (h _ _ (Or.inl (Or.inl ⟨⟨by decide, by decide⟩, by omega, by omega⟩)) (by decide))).trans a2, (f 18 _ (h _ _ (Or.inl (Or.inl ⟨⟨by decide, by decide⟩, by omega, by omega⟩)) (by decide))).trans a3, (f 19 _ (h _ _ (Or.inl (Or.inl ⟨⟨by decide, by decide⟩, by omega, by omega⟩)) (by decide))).trans a4⟩
  · have := (hT (8 * file + l) (by omega)).1
    exact (f 22 _ (h _ _ (Or.inr (Or.inr (Or.inl ⟨rfl, by omega, by omega⟩))) (by decide))).trans (p5 l i hl hi)
theorem m_lexAll {s : MS} {T : TxT} (hT : TxR s T) : Ok (M_lexAll s) fun s' => LexA s' T ∧ Fmz (fun k _ => ZA k) s s' := by
  have zz : ∀ (file : Int) k i, ZF file k i → ZA k := fun file k i z => by
    unfold ZA
    rcases z with (⟨⟨z1, z2⟩, _⟩ | ⟨z, _⟩) | z | ⟨z, z2⟩ | ⟨z, z2⟩ <;> omega
  unfold M_lexAll
  have lp := lp_ok (F := B_lexAll_2) (μ := fun a => ((3 : Int) - a.1).toNat) (I := fun a => ∃ n : Nat, a.1 = n ∧ n ≤ 3 ∧ (∀ file : Nat, file < n → LexF a.2 T file) ∧ Fmz (fun k _ => ZA k) s a.2) (P := fun _ s' => LexA s' T ∧ Fmz (fun k _ => ZA k) s s') (fun rec a hI ih => ?_) FU (0, s) ⟨0, rfl, by decide, fun f h => absurd h (Nat.not_lt_zero _), Fmz.rf⟩ (FU_lt (by dsimp only; omega))
  · refine lp.bd fun s3 hs => ?_
    exact Ok_some.mpr hs
  · obtain ⟨x, s1⟩ := a
    obtain ⟨n, rfl, hn, h1, f⟩ := hI
    dsimp only at h1 f
    unfold B_lexAll_2
    dsimp only
    by_cases q : (n : Int) < 3
    · rw [if_pos q]
      have hT1 : TxR s1 T := hT.fm f (fun i z => by unfold ZA at z; omega) (fun i z => by unfold ZA at z; omega)
      refine (m_lex hT1 (file := n) (by omega)).bd fun s2 hs => ?_
      unfold bd1
      rw [wr_id' (by omega) (by omega)]
      refine ih _ ⟨n + 1, by dsimp only; omega, by omega, fun g hg => ?_, f.tr (hs.2.wk (zz n))⟩ (by dsimp only; omega)
      by_cases z : g = n
      · subst z; exact hs.1
      · refine (h1 g (by omega)).fm hT.ok (by omega) hs.2 (fun k i z1 z0 z2 => ?_)
        rcases z1 with (⟨⟨z1, z1'⟩, z3, z4⟩ | ⟨z1, z3⟩) | z1 | ⟨z1, z3, z4⟩ | ⟨z1, z3, z4⟩ <;> rcases z2 with (⟨⟨z2, z2'⟩, z5, z6⟩ | ⟨z2, z5⟩) | z2 | ⟨z2, z5, z6⟩ | ⟨z2, z5, z6⟩ <;> omega
    · rw [if_neg q, Ok_some]
      have : n = 3 := by omega
      subst this
      exact ⟨h1, f⟩
