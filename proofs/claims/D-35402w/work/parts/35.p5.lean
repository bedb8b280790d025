set_option maxRecDepth 100000
/-! PLAIN 5: the model's lexing -/
/-- a row of chars of the model -/
def Rw (s : MS) (r : Int) (t : List Int) : Prop := (0 ≤ r ∧ r < 24) ∧ s 1 r = t.length ∧ t.length ≤ 24 ∧ Asc t ∧ ∀ (i : Nat) (c : Int), t[i]? = some c → s 0 (24 * r + i) = c
theorem rdc_e {s : MS} {k : Nat} {i : Int} (h : 0 ≤ i ∧ i < LN k) : rdc s k i = some (s k i) := if_pos h
theorem wrc_e {s : MS} {k : Nat} {i v : Int} (h : 0 ≤ i ∧ i < LN k) : wrc s k i v = some (up s k i v) := if_pos h
theorem up_hit {s : MS} {k : Nat} {i v : Int} : up s k i v k i = v := if_pos ⟨rfl, rfl⟩
theorem up_k {s : MS} {k d : Nat} {i j v : Int} (h : d ≠ k) : up s k i v d j = s d j := if_neg fun q => h q.1
theorem up_i {s : MS} {k : Nat} {i j v : Int} (h : j ≠ i) : up s k i v k j = s k j := if_neg fun q => h q.2
theorem Rw.same {s s' : MS} {r : Int} {t : List Int} (p : Rw s r t) (h0 : ∀ i, s' 0 i = s 0 i) (h1 : ∀ i, s' 1 i = s 1 i) : Rw s' r t :=
  ⟨p.1, (h1 r).trans p.2.1, p.2.2.1, p.2.2.2.1, fun i c e => (h0 _).trans (p.2.2.2.2 i c e)⟩
theorem Rw.len {s : MS} {r : Int} {t : List Int} (p : Rw s r t) : rdc s 1 r = some (t.length : Int) := by
  rw [rdc_e (k := 1) ⟨p.1.1, p.1.2⟩, p.2.1]
theorem m_at {s : MS} {r : Int} {t : List Int} (p : Rw s r t) {i : Nat} {c : Int} (h : t[i]? = some c) : M_at s r i = some c := by
  have hl := (List.getElem?_eq_some_iff.mp h).1
  have := p.2.2.1
  have := p.1
  unfold M_at
  simp (disch := omega) only [wr_id']
  rw [rdc_e (k := 0) ⟨by omega, by show _ < (576 : Int); omega⟩, p.2.2.2.2 i c h]
  rfl
theorem m_in {s : MS} {x a b : Int} : M_in s x a b = some (if a ≤ x ∧ x ≤ b then 1 else 0) := by
  unfold M_in
  by_cases h1 : x < a
  · rw [if_pos h1, if_neg (by omega)]
  · rw [if_neg h1]
    by_cases h2 : b < x
    · rw [if_pos h2, if_neg (by omega)]
    · rw [if_neg h2, if_pos (by omega)]
theorem m_isLetter {s : MS} {c : Int} : M_isLetter s c = some (if isL c = true then 1 else 0) := by
  unfold M_isLetter
  rw [m_in, Option.bind_some]
  unfold isL
  simp only [decide_eq_true_eq]
theorem m_isDigit {s : MS} {c : Int} : M_isDigit s c = some (if isD c = true then 1 else 0) := by
  unfold M_isDigit
  rw [m_in, Option.bind_some]
  unfold isD
  simp only [decide_eq_true_eq]
theorem m_longest {s : MS} {r : Int} {t : List Int} (p : Rw s r t) {w : Int} {q : Int → Bool} (hq : (w = 0 ∧ q = isD) ∨ (w = 1 ∧ q = isL)) {i : Nat} (hi : i ≤ t.length) : M_longest s r i w = some (runL q t i : Int) := by
  have h24 := p.2.2.1
  have lp := lp_ok (F := B_longest_3 w r s) (μ := fun a => ((t.length : Int) - a).toNat) (I := fun a => ∃ n : Nat, a = n ∧ n ≤ t.length ∧ i + runL q t i = n + runL q t n) (P := fun _ a => a = ((i + runL q t i : Nat) : Int)) (fun rec a hI ih => ?_) FU i ⟨i, rfl, hi, rfl⟩ (FU_lt (by omega))
  · obtain ⟨a, e, rfl⟩ := lp
    unfold M_longest
    rw [e, Option.bind_some, wr_id' (by have := runL_le (p := q) (t := t) (i := i); omega) (by have := runL_le (p := q) (t := t) (i := i); omega)]
    congr 1
    omega
  · obtain ⟨n, rfl, hn, e⟩ := hI
    unfold B_longest_3
    rw [p.len, Option.bind_some]
    by_cases h1 : (n : Int) < t.length
    · rw [if_pos h1]
      obtain ⟨c, hc⟩ := getE (s := t) (i := n) (by omega)
      have body : Ok (if q c = true then rec ((n : Int) + 1) else some (n : Int)) fun a => a = ((i + runL q t i : Nat) : Int) := by
        by_cases h2 : q c = true
        · rw [if_pos h2]
          have e2 := runL_yes hc h2
          exact ih _ ⟨n + 1, by omega, by omega, by omega⟩ (by omega)
        · rw [if_neg h2, Ok_some]
          have e2 := runL_no hc (by simpa using h2)
          omega
      simp only [jn]
      rcases hq with ⟨rfl, rfl⟩ | ⟨rfl, rfl⟩
      · rw [if_pos rfl, m_at p hc, Option.bind_some, m_isDigit, Option.bind_some]
        by_cases h2 : isD c = true
        · rw [if_pos h2] at body ⊢
          rw [if_neg (by decide)]
          unfold bd1
          rw [wr_id' (by omega) (by omega)]; exact body
        · rw [if_neg h2] at body ⊢
          rw [if_pos rfl]; exact body
      · rw [if_neg (by decide), m_at p hc, Option.bind_some, m_isLetter, Option.bind_some]
        by_cases h2 : isL c = true
        · rw [if_pos h2] at body ⊢
          rw [if_neg (by decide)]
          unfold bd1
          rw [wr_id' (by omega) (by omega)]; exact body
        · rw [if_neg h2] at body ⊢
          rw [if_pos rfl]; exact body
    · rw [if_neg h1, Ok_some]
      have := runL_out (p := q) (t := t) (i := n) (by omega)
      omega
theorem m_signClass {s : MS} {c : Int} : M_signClass s c = some (signK c) := by
  by_cases h0 : c = 40
  · subst h0; rfl
  by_cases h1 : c = 41
  · subst h1; rfl
  by_cases h2 : c = 123
  · subst h2; rfl
  by_cases h3 : c = 125
  · subst h3; rfl
  by_cases h4 : c = 44
  · subst h4; rfl
  by_cases h5 : c = 59
  · subst h5; rfl
  by_cases h6 : c = 61
  · subst h6; rfl
  by_cases h7 : c = 60
  · subst h7; rfl
  by_cases h8 : c = 43
  · subst h8; rfl
  by_cases h9 : c = 45
  · subst h9; rfl
  by_cases h10 : c = 42
  · subst h10; rfl
  by_cases h11 : c = 33
  · subst h11; rfl
  unfold M_signClass signK
  simp only [jn, if_neg h0, if_neg h1, if_neg h2, if_neg h3, if_neg h4, if_neg h5, if_neg h6, if_neg h7, if_neg h8, if_neg h9, if_neg h10, if_neg h11]
theorem m_pack {s : MS} {a b c d : Int} (ha : 0 ≤ a ∧ a < 128) (hb : 0 ≤ b ∧ b < 128) (hc : 0 ≤ c ∧ c < 128) (hd : 0 ≤ d ∧ d < 128) : M_pack s a b c d = some (((a * 128 + b) * 128 + c) * 128 + d) := by
  unfold M_pack
  simp (disch := omega) only [wr_id']
/-- chars packed into a number -/
def pk (w : List Int) : Int := w.foldl (fun a c => a * 128 + c) 0
theorem pk_4 {w : List Int} (hw : ∀ c ∈ w, 97 ≤ c ∧ c ≤ 122) (hl : w.length ≤ 4) : ∃ a b c d : Int, (0 ≤ a ∧ a < 128) ∧ (0 ≤ b ∧ b < 128) ∧ (0 ≤ c ∧ c < 128) ∧ (0 ≤ d ∧ d < 128) ∧ pk w = ((a * 128 + b) * 128 + c) * 128 + d ∧ (∀ v : List Int, (∀ c ∈ v, 97 ≤ c ∧ c ≤ 122) → ∀ a' b' c' d' : Int, ((v = [d'] ∧ a' = 0 ∧ b' = 0 ∧ c' = 0) ∨ (v = [c', d'] ∧ a' = 0 ∧ b' = 0) ∨ (v = [b', c', d'] ∧ a' = 0) ∨ v = [a', b', c', d']) → (w = v ↔ (a = a' ∧ b = b' ∧ c = c' ∧ d = d'))) := by
  match w, hw, hl with
  | [], _, _ =>
    refine ⟨0, 0, 0, 0, by omega, by omega, by omega, by omega, rfl, fun v hv a' b' c' d' h => ?_⟩
    rcases h with ⟨rfl, h⟩ | ⟨rfl, h⟩ | ⟨rfl, h⟩ | rfl
    all_goals (have := hv d' (by simp); simp; omega)
  | [d], hw, _ =>
    have h1 := hw d (by simp)
    refine ⟨0, 0, 0, d, by omega, by omega, by omega, by omega, by simp [pk], fun v hv a' b' c' d' h => ?_⟩
    rcases h with ⟨rfl, h⟩ | ⟨rfl, h⟩ | ⟨rfl, h⟩ | rfl
    · simp; omega
    all_goals (have := hv c' (by simp); simp; omega)
  | [c, d], hw, _ =>
    have h1 := hw d (by simp)
    have h2 := hw c (by simp)
    refine ⟨0, 0, c, d, by omega, by omega, by omega, by omega, by simp [pk], fun v hv a' b' c' d' h => ?_⟩
    rcases h with ⟨rfl, h⟩ | ⟨rfl, h⟩ | ⟨rfl, h⟩ | rfl
    · simp; omega
    · simp; omega
    all_goals (have := hv b' (by simp); simp; omega)
  | [b, c, d], hw, _ =>
    have h1 := hw d (by simp)
    have h2 := hw c (by simp)
    have h3 := hw b (by simp)
    refine ⟨0, b, c, d, by omega, by omega, by omega, by omega, by simp [pk], fun v hv a' b' c' d' h => ?_⟩
    rcases h with ⟨rfl, h⟩ | ⟨rfl, h⟩ | ⟨rfl, h⟩ | rfl
    · simp; omega
    · simp; omega
    · simp; omega
    · have := hv a' (by simp); simp; omega
  | [a, b, c, d], hw, _ =>
    have h1 := hw d (by simp)
    have h2 := hw c (by simp)
    have h3 := hw b (by simp)
    have h4 := hw a (by simp)
    refine ⟨a, b, c, d, by omega, by omega, by omega, by omega, by simp [pk], fun v hv a' b' c' d' h => ?_⟩
    rcases h with ⟨rfl, h⟩ | ⟨rfl, h⟩ | ⟨rfl, h⟩ | rfl
    all_goals (simp; try omega)
  | _ :: _ :: _ :: _ :: _ :: _, _, hl => simp at hl
theorem pkw_eq {w : List Int} (hw : ∀ c ∈ w, 97 ≤ c ∧ c ≤ 122) (hl : w.length ≤ 4) {v : List Int} (hv : ∀ c ∈ v, 97 ≤ c ∧ c ≤ 122) {a' b' c' d' : Int} (h : (v = [d'] ∧ a' = 0 ∧ b' = 0 ∧ c' = 0) ∨ (v = [c', d'] ∧ a' = 0 ∧ b' = 0) ∨ (v = [b', c', d'] ∧ a' = 0) ∨ v = [a', b', c', d']) (r : (0 ≤ a' ∧ a' < 128) ∧ (0 ≤ b' ∧ b' < 128) ∧ (0 ≤ c' ∧ c' < 128) ∧ (0 ≤ d' ∧ d' < 128)) : pk w = ((a' * 128 + b') * 128 + c') * 128 + d' ↔ w = v := by
  obtain ⟨a, b, c, d, ha, hb, hc, hd, e, k⟩ := pk_4 hw hl
  rw [k v hv a' b' c' d' h, e]
  omega
theorem m_kw0 {s : MS} {w : List Int} (hw : ∀ c ∈ w, 97 ≤ c ∧ c ≤ 122) (hl : w.length ≤ 4) {α : Type} {x : α} {f : Option α} : ((M_pack s 0 117 115 101).bind fun v => if pk w = v then some x else f) = if w = [117, 115, 101] then some x else f := by
  rw [m_pack (by omega) (by omega) (by omega) (by omega), Option.bind_some]
  simp only [pkw_eq hw hl (v := [117, 115, 101]) (by decide) (Or.inr (Or.inr (Or.inl ⟨rfl, rfl⟩))) (by omega)]
theorem m_kw1 {s : MS} {w : List Int} (hw : ∀ c ∈ w, 97 ≤ c ∧ c ≤ 122) (hl : w.length ≤ 4) {α : Type} {x : α} {f : Option α} : ((M_pack s 0 0 102 110).bind fun v => if pk w = v then some x else f) = if w = [102, 110] then some x else f := by
  rw [m_pack (by omega) (by omega) (by omega) (by omega), Option.bind_some]
  simp only [pkw_eq hw hl (v := [102, 110]) (by decide) (Or.inr (Or.inl ⟨rfl, rfl, rfl⟩)) (by omega)]
theorem m_kw2 {s : MS} {w : List Int} (hw : ∀ c ∈ w, 97 ≤ c ∧ c ≤ 122) (hl : w.length ≤ 4) {α : Type} {x : α} {f : Option α} : ((M_pack s 0 108 101 116).bind fun v => if pk w = v then some x else f) = if w = [108, 101, 116] then some x else f := by
  rw [m_pack (by omega) (by omega) (by omega) (by omega), Option.bind_some]
  simp only [pkw_eq hw hl (v := [108, 101, 116]) (by decide) (Or.inr (Or.inr (Or.inl ⟨rfl, rfl⟩))) (by omega)]
theorem m_kw3 {s : MS} {w : List Int} (hw : ∀ c ∈ w, 97 ≤ c ∧ c ≤ 122) (hl : w.length ≤ 4) {α : Type} {x : α} {f : Option α} : ((M_pack s 0 0 105 102).bind fun v => if pk w = v then some x else f) = if w = [105, 102] then some x else f := by
  rw [m_pack (by omega) (by omega) (by omega) (by omega), Option.bind_some]
  simp only [pkw_eq hw hl (v := [105, 102]) (by decide) (Or.inr (Or.inl ⟨rfl, rfl, rfl⟩)) (by omega)]
theorem m_kw4 {s : MS} {w : List Int} (hw : ∀ c ∈ w, 97 ≤ c ∧ c ≤ 122) (hl : w.length ≤ 4) {α : Type} {x : α} {f : Option α} : ((M_pack s 101 108 115 101).bind fun v => if pk w = v then some x else f) = if w = [101, 108, 115, 101] then some x else f := by
  rw [m_pack (by omega) (by omega) (by omega) (by omega), Option.bind_some]
  simp only [pkw_eq hw hl (v := [101, 108, 115, 101]) (by decide) (Or.inr (Or.inr (Or.inr rfl))) (by omega)]
theorem m_kw5 {s : MS} {w : List Int} (hw : ∀ c ∈ w, 97 ≤ c ∧ c ≤ 122) (hl : w.length ≤ 4) {α : Type} {x : α} {f : Option α} : ((M_pack s 0 114 101 116).bind fun v => if pk w = v then some x else f) = if w = [114, 101, 116] then some x else f := by
  rw [m_pack (by omega) (by omega) (by omega) (by omega), Option.bind_some]
  simp only [pkw_eq hw hl (v := [114, 101, 116]) (by decide) (Or.inr (Or.inr (Or.inl ⟨rfl, rfl⟩))) (by omega)]
theorem m_kw6 {s : MS} {w : List Int} (hw : ∀ c ∈ w, 97 ≤ c ∧ c ≤ 122) (hl : w.length ≤ 4) {α : Type} {x : α} {f : Option α} : ((M_pack s 0 121 101 115).bind fun v => if pk w = v then some x else f) = if w = [121, 101, 115] then some x else f := by
  rw [m_pack (by omega) (by omega) (by omega) (by omega), Option.bind_some]
  simp only [pkw_eq hw hl (v := [121, 101, 115]) (by decide) (Or.inr (Or.inr (Or.inl ⟨rfl, rfl⟩))) (by omega)]
theorem m_kw7 {s : MS} {w : List Int} (hw : ∀ c ∈ w, 97 ≤ c ∧ c ≤ 122) (hl : w.length ≤ 4) {α : Type} {x : α} {f : Option α} : ((M_pack s 0 0 110 111).bind fun v => if pk w = v then some x else f) = if w = [110, 111] then some x else f := by
  rw [m_pack (by omega) (by omega) (by omega) (by omega), Option.bind_some]
  simp only [pkw_eq hw hl (v := [110, 111]) (by decide) (Or.inr (Or.inl ⟨rfl, rfl, rfl⟩)) (by omega)]
theorem m_wordClass {s : MS} {w : List Int} (hw : ∀ c ∈ w, 97 ≤ c ∧ c ≤ 122) (hl : w.length ≤ 4) : M_wordClass s (pk w) = some (wordK w) := by
  unfold M_wordClass wordK
  rw [m_kw0 hw hl, m_kw1 hw hl, m_kw2 hw hl, m_kw3 hw hl, m_kw4 hw hl, m_kw5 hw hl, m_kw6 hw hl, m_kw7 hw hl]
  repeat' split
  all_goals rfl
