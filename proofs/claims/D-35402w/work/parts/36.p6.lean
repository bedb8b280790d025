set_option maxRecDepth 100000
/-! PLAIN 6: the model's lexing of lines and files -/
/-- what may be another one behind -/
def Fmz (Z : Nat → Int → Prop) (s s' : MS) : Prop := ∀ k i, ¬ Z k i → s' k i = s k i
theorem Fmz.rf {Z : Nat → Int → Prop} {s : MS} : Fmz Z s s := fun _ _ _ => rfl
theorem Fmz.tr {Z : Nat → Int → Prop} {s s1 s2 : MS} (a : Fmz Z s s1) (b : Fmz Z s1 s2) : Fmz Z s s2 := fun k i h => (b k i h).trans (a k i h)
theorem Fmz.wk {Z Z' : Nat → Int → Prop} {s s1 : MS} (a : Fmz Z s s1) (h : ∀ k i, Z k i → Z' k i) : Fmz Z' s s1 := fun k i q => a k i fun z => q (h k i z)
theorem Fmz.up {Z : Nat → Int → Prop} {s : MS} {k : Nat} {i v : Int} (h : Z k i) : Fmz Z s (up s k i v) := fun k' i' q => if_neg fun e => q (by rw [e.1, e.2]; exact h)
theorem Rw.fm {Z : Nat → Int → Prop} {s s' : MS} {r : Int} {t : List Int} (p : Rw s r t) (f : Fmz Z s s') (h0 : ∀ i, ¬ Z 0 i) (h1 : ∀ i, ¬ Z 1 i) : Rw s' r t := p.same (fun i => f 0 i (h0 i)) (fun i => f 1 i (h1 i))
def b01 (b : Bool) : Int := if b = true then 1 else 0
theorem m_commentEnd {s : MS} {r : Int} {t : List Int} (p : Rw s r t) {i : Nat} (hi : i ≤ t.length) : Ok (M_commentEnd s r i) fun x => x.1 = ((cEnd t i).1 : Int) ∧ x.2 23 0 = b01 (cEnd t i).2 ∧ Fmz (fun k _ => k = 23) s x.2 := by
  have h24 := p.2.2.1
  unfold M_commentEnd bd1
  have lp := lp_ok (F := B_commentEnd_7 r) (μ := fun a => ((t.length : Int) - a.1).toNat) (I := fun a => ∃ n : Nat, a.1 = n ∧ n ≤ t.length ∧ Fmz (fun k _ => k = 23) s a.2 ∧ ((a.2 23 0 = 0 ∧ cEnd t i = cEnd t n) ∨ (a.2 23 0 = 1 ∧ cEnd t i = (n, true)))) (P := fun _ x => x.1 = ((cEnd t i).1 : Int) ∧ x.2 23 0 = b01 (cEnd t i).2 ∧ Fmz (fun k _ => k = 23) s x.2) (fun rec a hI ih => ?_) FU (i, up s 23 0 0) ⟨i, rfl, hi, Fmz.up rfl, Or.inl ⟨(show up s 23 0 0 23 0 = 0 from up_hit), rfl⟩⟩ (FU_lt (by dsimp only; omega))
  · refine lp.bd fun x hx => ?_
    obtain ⟨x1, x2⟩ := x
    exact Ok_some.mpr hx
  · obtain ⟨x, s'⟩ := a
    obtain ⟨n, rfl, hn, f, hc⟩ := hI
    dsimp only at f hc
    have p' := p.fm f (fun i q => by cases q) (fun i q => by cases q)
    unfold B_commentEnd_7
    dsimp only
    rw [p'.len, Option.bind_some]
    by_cases h1 : (n : Int) < t.length
    · rw [if_pos h1]
      rcases hc with ⟨z, e⟩ | ⟨z, e⟩
      · rw [if_pos z, Option.bind_some]
        have hstep := cEnd_step (t := t) (i := n) (by omega)
        obtain ⟨c, hcn⟩ := getE (s := t) (i := n) (by omega)
        have hb : ∃ b : Bool, (b = true ↔ (t[n]? = some 42 ∧ t[n + 1]? = some 47)) ∧ (if (wr ((n : Int) + 1)) < (t.length : Int) then (M_at s' r n).bind fun v18 => if v18 = 42 then (M_at s' r (wr ((n : Int) + 1))).bind fun v19 => if v19 = 47 then some 1 else some 0 else some 0 else some 0) = some (b01 b) := by
          rw [wr_id' (by omega) (by omega)]
          by_cases h2 : (n : Int) + 1 < t.length
          · rw [if_pos h2, m_at p' hcn, Option.bind_some]
            obtain ⟨d, hd⟩ := getE (s := t) (i := n + 1) (by omega)
            by_cases h3 : c = 42
            · rw [if_pos h3, show (n : Int) + 1 = ((n + 1 : Nat) : Int) by omega, m_at p' hd, Option.bind_some]
              by_cases h4 : d = 47
              · rw [if_pos h4]; exact ⟨true, by rw [hcn, hd, h3, h4]; simp, rfl⟩
              · rw [if_neg h4]; exact ⟨false, by rw [hd]; simp [h4], rfl⟩
            · rw [if_neg h3]; exact ⟨false, by rw [hcn]; simp [h3], rfl⟩
          · rw [if_neg h2]
            refine ⟨false, ?_, rfl⟩
            rw [List.getElem?_eq_none (show t.length ≤ n + 1 by omega)]; simp
        obtain ⟨b, hb1, hb2⟩ := hb
        rw [hb2, Option.bind_some]
        simp only [bd1, up_hit]
        cases b with
        | false =>
          rw [show b01 false = 0 from rfl, if_pos rfl, Option.bind_some, wr_id' (by omega) (by omega)]
          have hno : ¬ (t[n]? = some 42 ∧ t[n + 1]? = some 47) := fun q => by cases hb1.mpr q
          rw [if_neg hno] at hstep
          exact ih _ ⟨n + 1, by dsimp only; omega, by omega, f.tr (Fmz.up rfl), Or.inl ⟨(show up s' 23 0 0 23 0 = 0 from up_hit), e.trans hstep⟩⟩ (by dsimp only; omega)
        | true =>
          rw [show b01 true = 1 from rfl, if_neg (by decide), Option.bind_some, wr_id' (by omega) (by omega)]
          rw [if_pos (hb1.mp rfl)] at hstep
          have := (List.getElem?_eq_some_iff.mp (hb1.mp rfl).2).1
          exact ih _ ⟨n + 2, by dsimp only; omega, by omega, f.tr (Fmz.up rfl), Or.inr ⟨(show up s' 23 0 1 23 0 = 1 from up_hit), e.trans hstep⟩⟩ (by dsimp only; omega)
      · rw [if_neg (by rw [z]; decide), Ok_some]
        rw [e]; exact ⟨rfl, z, f⟩
    · rw [if_neg h1, Ok_some]
      rcases hc with ⟨z, e⟩ | ⟨z, e⟩
      · rw [e, cEnd_out (by omega)]; exact ⟨rfl, z, f⟩
      · rw [e]; exact ⟨rfl, z, f⟩
abbrev Tk4 : Type := Int × Nat × Nat × Nat
/-- the tokens that are laid for a file -/
def TkL (s : MS) (file : Int) (L : List Tk4) : Prop := s 20 file = L.length ∧ ∀ (j : Nat) (x : Tk4), L[j]? = some x → s 16 (200 * file + j) = x.1 ∧ s 17 (200 * file + j) = x.2.1 ∧ s 18 (200 * file + j) = x.2.2.1 ∧ s 19 (200 * file + j) = x.2.2.2
def ZT (file : Int) : Nat → Int → Prop := fun k i => ((16 ≤ k ∧ k ≤ 19) ∧ 200 * file ≤ i ∧ i < 200 * file + 200) ∨ (k = 20 ∧ i = file)
theorem m_addToken {s : MS} {file : Int} (hf : 0 ≤ file ∧ file < 3) {L : List Tk4} (p : TkL s file L) (hL : L.length < 199) {kind : Int} {line col len : Nat} : Ok (M_addToken s file kind line col len) fun s' => TkL s' file (L ++ [(kind, line, col, len)]) ∧ Fmz (ZT file) s s' := by
  unfold M_addToken bd1
  rw [rdc_e (k := 20) hf, Option.bind_some, p.1]
  simp (disch := omega) only [wr_id']
  have b : 0 ≤ 200 * file + (L.length : Int) ∧ 200 * file + (L.length : Int) < 600 := by omega
  rw [wrc_e (k := 16) b, Option.bind_some, wrc_e (k := 17) b, Option.bind_some, wrc_e (k := 18) b, Option.bind_some, wrc_e (k := 19) b, Option.bind_some, rdc_e (k := 20) hf, Option.bind_some, wrc_e (k := 20) hf, Option.bind_some, Ok_some]
  rw [up_k (by decide), up_k (by decide), up_k (by decide), up_k (by decide), p.1, wr_id' (by omega) (by omega)]
  refine ⟨⟨by rw [up_hit, List.length_append, List.length_singleton]; omega, fun j x hx => ?_⟩, ?_⟩
  · have hj := (List.getElem?_eq_some_iff.mp hx).1
    rw [List.length_append, List.length_singleton] at hj
    rw [up_k (by decide), up_k (by decide), up_k (by decide), up_k (by decide)]
    by_cases h1 : j < L.length
    · rw [List.getElem?_append_left h1] at hx
      have ne : (200 * file + (j : Int)) ≠ 200 * file + L.length := by omega
      have := p.2 j x hx
      simp (disch := first | decide | exact ne) only [up_k, up_i]
      exact this
    · have : j = L.length := by omega
      subst this
      rw [List.getElem?_append_right (Nat.le_refl _), Nat.sub_self] at hx
      cases hx
      simp (disch := decide) only [up_k, up_hit]
      exact ⟨trivial, trivial, trivial, trivial⟩
  · have z : ∀ k, 16 ≤ k → k ≤ 19 → ZT file k (200 * file + (L.length : Int)) := fun k h1 h2 => Or.inl ⟨⟨h1, h2⟩, by omega, by omega⟩
    exact ((((Fmz.up (z 16 (by decide) (by decide))).tr (Fmz.up (z 17 (by decide) (by decide)))).tr (Fmz.up (z 18 (by decide) (by decide)))).tr (Fmz.up (z 19 (by decide) (by decide)))).tr (Fmz.up (Or.inr ⟨rfl, rfl⟩))
theorem pk_snoc {w : List Int} {c : Int} : pk (w ++ [c]) = pk w * 128 + c := by unfold pk; rw [List.foldl_append]; rfl
theorem pk_bd : ∀ {w : List Int}, (∀ c ∈ w, 0 ≤ c ∧ c < 128) → ∀ n, w.length ≤ n → 0 ≤ pk w ∧ pk w < 128 ^ n
  | w, h, n, hn => by
    have key : ∀ (l : List Int) (a : Int) (m : Nat), (∀ c ∈ l, 0 ≤ c ∧ c < 128) → 0 ≤ a → a < 128 ^ m → 0 ≤ l.foldl (fun a c => a * 128 + c) a ∧ l.foldl (fun a c => a * 128 + c) a < 128 ^ (m + l.length) := by
      intro l
      induction l with
      | nil => intro a m _ h0 h1; exact ⟨h0, h1⟩
      | cons c l ih =>
        intro a m hl h0 h1
        have hc := hl c List.mem_cons_self
        have := ih (a * 128 + c) (m + 1) (fun x hx => hl x (List.mem_cons_of_mem _ hx)) (by omega) (by rw [Int.pow_succ]; omega)
        rw [List.foldl_cons, List.length_cons, show m + (l.length + 1) = m + 1 + l.length by omega]
        exact this
    have := key w 0 0 h (by omega) (by decide)
    refine ⟨this.1, Int.lt_of_lt_of_le this.2 ?_⟩
    rw [Nat.zero_add]
    have : (128 : Int) ^ w.length ≤ 128 ^ n := by
      have := Nat.pow_le_pow_right (show 0 < 128 by decide) hn
      exact_mod_cast this
    exact this
/-- the word from a place, packed; with numbers of more than 4 chars none looks at it -/
theorem m_packLoop {s : MS} {r : Int} {t : List Int} (p : Rw s r t) {i n : Nat} (hn : i + n ≤ t.length) : Ok (lp (B_layToken_51 i r s n) FU (0, 0)) fun x => n ≤ 4 → x = pk (slc t i (i + n)) := by
  have h24 := p.2.2.1
  have lp := lp_ok (F := B_layToken_51 i r s n) (μ := fun a => ((n : Int) - a.2).toNat) (I := fun a => ∃ m : Nat, a.2 = m ∧ m ≤ n ∧ (n ≤ 4 → a.1 = pk (slc t i (i + m)))) (P := fun _ x => n ≤ 4 → x = pk (slc t i (i + n))) (fun rec a hI ih => ?_) FU (0, 0) ⟨0, rfl, Nat.zero_le _, fun _ => by rw [Nat.add_zero, slc_self]; rfl⟩ (FU_lt (by dsimp only; omega))
  · exact lp
  · obtain ⟨x, y⟩ := a
    obtain ⟨m, rfl, hm, e⟩ := hI
    dsimp only at e
    unfold B_layToken_51
    dsimp only
    by_cases h1 : (m : Int) < n
    · rw [if_pos h1]
      obtain ⟨c, hc⟩ := getE (s := t) (i := i + m) (by omega)
      rw [wr_id' (by omega) (by omega), show (i : Int) + m = ((i + m : Nat) : Int) by omega, m_at p hc, Option.bind_some]
      simp only [bd1]
      rw [wr_id' (x := (m : Int) + 1) (by omega) (by omega)]
      refine ih _ ⟨m + 1, by dsimp only; omega, by omega, fun h4 => ?_⟩ (by dsimp only; omega)
      dsimp only
      rw [e h4]
      have hb := pk_bd (w := slc t i (i + m)) (slc_asc p.2.2.2.1) 3 (by rw [slc_len (by omega) (by omega)]; omega)
      have hc' := p.2.2.2.1 c (List.mem_of_getElem? hc)
      simp (disch := omega) only [wr_id']
      rw [show i + (m + 1) = i + m + 1 by omega, ← slc_snoc (by omega) hc, pk_snoc]
    · rw [if_neg h1, Ok_some]
      have : m = n := by omega
      subst this
      exact e
theorem m_layToken {s : MS} {file : Int} (hf : 0 ≤ file ∧ file < 3) {line : Nat} (hl : line < 8) {t : List Int} (p : Rw s (8 * file + line) t) {L : List Tk4} (q : TkL s file L) (hL : L.length < 199) {i : Nat} (hi : i < t.length) : Ok (M_layToken s file line i) fun x => x.1 = ((tok t i).2 : Int) ∧ TkL x.2 file (L ++ [((tok t i).1, line, i, (tok t i).2)]) ∧ Fmz (ZT file) s x.2 := by
  have h24 := p.2.2.1
  have hle := tok_pos hi
  obtain ⟨c, hc⟩ := getE hi
  unfold M_layToken
  simp only [bd1]
  simp (disch := omega) only [wr_id']
  rw [m_at p hc, Option.bind_some, m_signClass, Option.bind_some, m_isLetter, Option.bind_some]
  have fin : ∀ (a : Int) (n : Nat), (a, n) = tok t i → Ok ((M_addToken s file a line i n).bind fun s8 => some ((n : Int), s8)) fun x => x.1 = ((tok t i).2 : Int) ∧ TkL x.2 file (L ++ [((tok t i).1, line, i, (tok t i).2)]) ∧ Fmz (ZT file) s x.2 := by
    intro a n e
    rw [← e]
    refine (m_addToken hf q hL).bd fun s' hs => ?_
    exact Ok_some.mpr ⟨rfl, hs.1, hs.2⟩
  by_cases h1 : isL c = true
  · rw [if_pos h1, if_neg (by decide), m_longest p (Or.inr ⟨rfl, rfl⟩) (by omega), Option.bind_some]
    have hr := runL_le (p := isL) (t := t) (i := i)
    have hall := runL_all (p := isL) (t := t) _ i rfl
    have hm : i + runL isL t i ≤ t.length := by omega
    rw [Option.bind_assoc]
    refine (m_packLoop p hm).bd fun x hx => ?_
    have et : tok t i = (wordK (slc t i (i + runL isL t i)), runL isL t i) := by unfold tok; rw [getD_of hc, if_pos h1]
    by_cases h4 : 4 < (runL isL t i : Int)
    · rw [if_pos h4]
      simp only [Option.bind_some]
      refine fin 0 (runL isL t i) ?_
      rw [et]
      have hlen : (slc t i (i + runL isL t i)).length = runL isL t i := by rw [slc_len (by omega) hm]; omega
      have : wordK (slc t i (i + runL isL t i)) = 0 := by
        unfold wordK
        have ne : ∀ w : List Int, w.length ≤ 4 → slc t i (i + runL isL t i) ≠ w := fun w hw e => by rw [e] at hlen; omega
        rw [if_neg (ne _ (by decide)), if_neg (ne _ (by decide)), if_neg (ne _ (by decide)), if_neg (ne _ (by decide)), if_neg (ne _ (by decide)), if_neg (ne _ (by decide)), if_neg (ne _ (by decide)), if_neg (ne _ (by decide))]
      rw [this]
    · rw [if_neg h4, hx (by omega)]
      have hw : ∀ d ∈ slc t i (i + runL isL t i), 97 ≤ d ∧ d ≤ 122 := fun d hd => by
        obtain ⟨j, hj⟩ := List.mem_iff_getElem?.mp hd
        unfold slc at hj
        rw [List.getElem?_take] at hj
        split at hj
        · rw [List.getElem?_drop] at hj
          obtain ⟨d', h1, h2⟩ := hall (i + j) (by omega) (by omega)
          rw [hj] at h1
          cases h1
          unfold isL at h2
          exact of_decide_eq_true h2
        · cases hj
      rw [m_wordClass hw (by rw [slc_len (by omega) hm]; omega)]
      simp only [Option.bind_some]
      exact fin _ _ et.symm
  · rw [if_neg h1, if_pos rfl, m_isDigit, Option.bind_some]
    by_cases h2 : isD c = true
    · rw [if_pos h2, if_neg (by decide), m_longest p (Or.inl ⟨rfl, rfl⟩) (by omega), Option.bind_some]
      have et : tok t i = (if 3 < runL isD t i then 23 else 1, runL isD t i) := by unfold tok; rw [getD_of hc, if_neg h1, if_pos h2]
      by_cases h3 : 3 < runL isD t i
      · rw [if_pos (show (3 : Int) < (runL isD t i : Int) by omega)]
        simp only [Option.bind_some]
        refine fin _ _ ?_
        rw [et, if_pos h3]
      · rw [if_neg (show ¬ (3 : Int) < (runL isD t i : Int) by omega)]
        simp only [Option.bind_some]
        refine fin _ _ ?_
        rw [et, if_neg h3]
    · rw [if_neg h2, if_pos rfl]
      have et : tok t i = if t[i]? = some 61 ∧ t[i + 1]? = some 61 then (17, 2) else (signK c, 1) := by unfold tok; rw [getD_of hc, if_neg h1, if_neg h2]
      have one : ¬ (t[i]? = some 61 ∧ t[i + 1]? = some 61) → Ok ((some ((signK c : Int), (1 : Int))).bind fun x => (M_addToken s file x.1 line i x.2).bind fun s8 => some (x.2, s8)) fun x => x.1 = ((tok t i).2 : Int) ∧ TkL x.2 file (L ++ [((tok t i).1, line, i, (tok t i).2)]) ∧ Fmz (ZT file) s x.2 := fun h => by
        rw [if_neg h] at et
        exact fin (signK c) 1 et.symm
      by_cases h3 : c = 61
      · rw [if_pos h3, p.len, Option.bind_some]
        by_cases h5 : (i : Int) + 1 < t.length
        · rw [if_pos h5]
          obtain ⟨d, hd⟩ := getE (s := t) (i := i + 1) (by omega)
          rw [show (i : Int) + 1 = ((i + 1 : Nat) : Int) by omega, m_at p hd, Option.bind_some]
          by_cases h6 : d = 61
          · rw [if_pos h6]
            rw [if_pos ⟨by rw [hc, h3], by rw [hd, h6]⟩] at et
            exact fin 17 2 et.symm
          · rw [if_neg h6]
            exact one fun z => h6 (by rw [hd] at z; exact Option.some.inj z.2)
        · rw [if_neg h5]
          exact one fun z => by have := (List.getElem?_eq_some_iff.mp z.2).1; omega
      · rw [if_neg h3]
        exact one fun z => h3 (by rw [hc] at z; exact Option.some.inj z.1)
