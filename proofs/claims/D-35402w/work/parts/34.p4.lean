set_option maxRecDepth 100000
/-! PLAIN 4: what the tokens of a line are -/
def isL (c : Int) : Bool := decide (97 ≤ c ∧ c ≤ 122)
def isD (c : Int) : Bool := decide (48 ≤ c ∧ c ≤ 57)
/-- how many chars of a kind stand from a place on -/
def runL (p : Int → Bool) (t : List Int) (i : Nat) : Nat := ((t.drop i).takeWhile p).length
def signK (c : Int) : Int := if c = 40 then 10 else if c = 41 then 11 else if c = 123 then 12 else if c = 125 then 13 else if c = 44 then 14 else if c = 59 then 15 else if c = 61 then 16 else if c = 60 then 18 else if c = 43 then 19 else if c = 45 then 20 else if c = 42 then 21 else if c = 33 then 22 else 23
def wordK (w : List Int) : Int := if w = [117, 115, 101] then 2 else if w = [102, 110] then 3 else if w = [108, 101, 116] then 4 else if w = [105, 102] then 5 else if w = [101, 108, 115, 101] then 6 else if w = [114, 101, 116] then 7 else if w = [121, 101, 115] then 8 else if w = [110, 111] then 9 else 0
/-- the token at a place: its kind, its length -/
def tok (t : List Int) (i : Nat) : Int × Nat :=
  if isL (t.getD i 0) then (wordK (slc t i (i + runL isL t i)), runL isL t i)
  else if isD (t.getD i 0) then (if 3 < runL isD t i then 23 else 1, runL isD t i)
  else if t[i]? = some 61 ∧ t[i + 1]? = some 61 then (17, 2) else (signK (t.getD i 0), 1)
/-- where a comment ends that goes on from a place, and whether it does -/
def cEndF (t : List Int) : Nat → Nat → Nat × Bool
  | 0, i => (i, false)
  | f + 1, i => if i < t.length then (if t[i]? = some 42 ∧ t[i + 1]? = some 47 then (i + 2, true) else cEndF t f (i + 1)) else (i, false)
def cEnd (t : List Int) (i : Nat) : Nat × Bool := cEndF t (t.length - i) i
abbrev LxR : Type := List (Int × Nat × Nat) × List (Nat × Nat) × Bool
/-- tokens, comments and the mode at the end -/
def lexG (t : List Int) : Nat → Bool → Nat → LxR
  | 0, m, _ => ([], [], m)
  | f + 1, m, i =>
    if i < t.length then
      if m = true then ((lexG t f (!(cEnd t i).2) (cEnd t i).1).1, (i, (cEnd t i).1) :: (lexG t f (!(cEnd t i).2) (cEnd t i).1).2.1, (lexG t f (!(cEnd t i).2) (cEnd t i).1).2.2)
      else if t[i]? = some 47 ∧ t[i + 1]? = some 42 then ((lexG t f true (i + 2)).1, (i, i + 2) :: (lexG t f true (i + 2)).2.1, (lexG t f true (i + 2)).2.2)
      else if t[i]? = some 32 then lexG t f false (i + 1)
      else (((tok t i).1, i, (tok t i).2) :: (lexG t f false (i + (tok t i).2)).1, (lexG t f false (i + (tok t i).2)).2)
    else ([], [], m)
theorem runL_out {p : Int → Bool} {t : List Int} {i : Nat} (h : t.length ≤ i) : runL p t i = 0 := by unfold runL; rw [List.drop_eq_nil_of_le h]; rfl
theorem runL_no {p : Int → Bool} {t : List Int} {i : Nat} {c : Int} (h : t[i]? = some c) (hp : p c = false) : runL p t i = 0 := by
  unfold runL
  have hl := (List.getElem?_eq_some_iff.mp h)
  rw [List.drop_eq_getElem_cons hl.1, hl.2, List.takeWhile_cons, hp]; rfl
theorem runL_yes {p : Int → Bool} {t : List Int} {i : Nat} {c : Int} (h : t[i]? = some c) (hp : p c = true) : runL p t i = runL p t (i + 1) + 1 := by
  unfold runL
  have hl := (List.getElem?_eq_some_iff.mp h)
  rw [List.drop_eq_getElem_cons hl.1, hl.2, List.takeWhile_cons, hp]; rfl
theorem runL_le {p : Int → Bool} {t : List Int} {i : Nat} : i + runL p t i ≤ max i t.length := by
  unfold runL
  have := (List.takeWhile_sublist (l := t.drop i) p).length_le
  rw [List.length_drop] at this
  omega
theorem runL_all {p : Int → Bool} {t : List Int} : ∀ (n i : Nat), runL p t i = n → ∀ j, i ≤ j → j < i + n → ∃ c, t[j]? = some c ∧ p c = true
  | 0, i, _, j, h1, h2 => by omega
  | n + 1, i, h, j, h1, h2 => by
    cases e : t[i]? with
    | none =>
      rw [runL_out (List.getElem?_eq_none_iff.mp e)] at h; omega
    | some c =>
      cases hp : p c with
      | false => rw [runL_no e hp] at h; omega
      | true =>
        rw [runL_yes e hp] at h
        by_cases q : j = i
        · subst q; exact ⟨c, e, hp⟩
        · exact runL_all n (i + 1) (by omega) j (by omega) (by omega)
theorem getD_of {t : List Int} {i : Nat} {c d : Int} (h : t[i]? = some c) : t.getD i d = c := by rw [List.getD_eq_getElem?_getD, h]; rfl
theorem tok_pos {t : List Int} {i : Nat} (h : i < t.length) : 1 ≤ (tok t i).2 ∧ i + (tok t i).2 ≤ t.length := by
  obtain ⟨c, hc⟩ := getE h
  have hm : max i t.length = t.length := by omega
  unfold tok
  rw [getD_of hc]
  by_cases h1 : isL c = true
  · rw [if_pos h1]
    have := runL_yes hc h1
    have := runL_le (p := isL) (t := t) (i := i)
    exact ⟨by dsimp only; omega, by dsimp only; omega⟩
  · rw [if_neg h1]
    by_cases h2 : isD c = true
    · rw [if_pos h2]
      have := runL_yes hc h2
      have := runL_le (p := isD) (t := t) (i := i)
      exact ⟨by dsimp only; omega, by dsimp only; omega⟩
    · rw [if_neg h2]
      by_cases h3 : t[i]? = some 61 ∧ t[i + 1]? = some 61
      · rw [if_pos h3]
        have := (List.getElem?_eq_some_iff.mp h3.2).1
        exact ⟨by dsimp only; omega, by dsimp only; omega⟩
      · rw [if_neg h3]; exact ⟨by dsimp only; omega, by dsimp only; omega⟩
theorem cEndF_le (t : List Int) : ∀ (f i : Nat), i ≤ t.length → i ≤ (cEndF t f i).1 ∧ (cEndF t f i).1 ≤ t.length ∧ ((cEndF t f i).2 = true → i + 2 ≤ (cEndF t f i).1)
  | 0, i, h => ⟨Nat.le_refl _, h, fun q => by cases q⟩
  | f + 1, i, h => by
    unfold cEndF
    by_cases h1 : i < t.length
    · rw [if_pos h1]
      by_cases h2 : t[i]? = some 42 ∧ t[i + 1]? = some 47
      · rw [if_pos h2]
        have := (List.getElem?_eq_some_iff.mp h2.2).1
        exact ⟨by dsimp only; omega, by dsimp only; omega, fun _ => Nat.le_refl _⟩
      · rw [if_neg h2]
        obtain ⟨a, b, c⟩ := cEndF_le t f (i + 1) (by omega)
        exact ⟨by omega, b, fun q => by have := c q; omega⟩
    · rw [if_neg h1]; exact ⟨Nat.le_refl _, h, fun q => by cases q⟩
theorem cEndF_fuel (t : List Int) : ∀ (f i : Nat), t.length - i ≤ f → cEndF t f i = cEndF t (t.length - i) i
  | 0, i, h => by rw [show t.length - i = 0 by omega]
  | f + 1, i, h => by
    by_cases h1 : i < t.length
    · obtain ⟨g, hg⟩ : ∃ g, t.length - i = g + 1 := ⟨t.length - i - 1, by omega⟩
      rw [hg]
      unfold cEndF
      rw [if_pos h1, if_pos h1]
      have e1 := cEndF_fuel t f (i + 1) (by omega)
      have e2 : t.length - (i + 1) = g := by omega
      rw [e1, e2]
    · rw [show t.length - i = 0 by omega]
      unfold cEndF
      rw [if_neg h1]
theorem cEnd_step {t : List Int} {i : Nat} (h : i < t.length) : cEnd t i = if t[i]? = some 42 ∧ t[i + 1]? = some 47 then (i + 2, true) else cEnd t (i + 1) := by
  unfold cEnd
  obtain ⟨g, hg⟩ : ∃ g, t.length - i = g + 1 := ⟨t.length - i - 1, by omega⟩
  rw [hg]
  conv => lhs; unfold cEndF
  rw [if_pos h, show t.length - (i + 1) = g by omega]
theorem cEnd_out {t : List Int} {i : Nat} (h : t.length ≤ i) : cEnd t i = (i, false) := by
  unfold cEnd; rw [show t.length - i = 0 by omega]; rfl
theorem cEnd_le {t : List Int} {i : Nat} (h : i ≤ t.length) : i ≤ (cEnd t i).1 ∧ (cEnd t i).1 ≤ t.length ∧ ((cEnd t i).2 = true → i + 2 ≤ (cEnd t i).1) := cEndF_le t _ i h
theorem cEndF_no (t : List Int) : ∀ (f i : Nat), t.length - i ≤ f → i ≤ t.length → (cEndF t f i).2 = false → (cEndF t f i).1 = t.length
  | 0, i, h, h', _ => by show i = _; omega
  | f + 1, i, h, h', q => by
    unfold cEndF at q ⊢
    by_cases h1 : i < t.length
    · rw [if_pos h1] at q ⊢
      by_cases h2 : t[i]? = some 42 ∧ t[i + 1]? = some 47
      · rw [if_pos h2] at q; cases q
      · rw [if_neg h2] at q ⊢
        exact cEndF_no t f (i + 1) (by omega) (by omega) q
    · rw [if_neg h1] at q ⊢; show i = _; omega
theorem cEnd_no {t : List Int} {i : Nat} (h : i ≤ t.length) (q : (cEnd t i).2 = false) : (cEnd t i).1 = t.length := cEndF_no t _ i (Nat.le_refl _) h q
theorem cEnd_gt {t : List Int} {i : Nat} (h : i < t.length) : i < (cEnd t i).1 := by
  obtain ⟨a, b, c⟩ := cEnd_le (t := t) (i := i) (by omega)
  cases e : (cEnd t i).2 with
  | true => have := c e; omega
  | false => rw [cEnd_no (by omega) e]; exact h
theorem lexG_fuel (t : List Int) : ∀ (f f' : Nat) (m : Bool) (i : Nat), t.length - i < f → t.length - i < f' → lexG t f m i = lexG t f' m i
  | 0, _, _, _, h, _ => absurd h (Nat.not_lt_zero _)
  | f + 1, 0, _, _, _, h => absurd h (Nat.not_lt_zero _)
  | f + 1, f' + 1, m, i, h, h' => by
    unfold lexG
    by_cases h1 : i < t.length
    · rw [if_pos h1, if_pos h1]
      have hc := cEnd_gt h1
      have ht := tok_pos h1
      rw [lexG_fuel t f f' (!(cEnd t i).2) (cEnd t i).1 (by omega) (by omega), lexG_fuel t f f' true (i + 2) (by omega) (by omega), lexG_fuel t f f' false (i + 1) (by omega) (by omega), lexG_fuel t f f' false (i + (tok t i).2) (by omega) (by omega)]
    · rw [if_neg h1, if_neg h1]
def LX (t : List Int) (m : Bool) (i : Nat) : LxR := lexG t (t.length + 1) m i
theorem LX_out {t : List Int} {m : Bool} {i : Nat} (h : t.length ≤ i) : LX t m i = ([], [], m) := by
  unfold LX lexG; rw [if_neg (by omega)]
theorem LX_step {t : List Int} {m : Bool} {i : Nat} (h : i < t.length) : LX t m i = if m = true then ((LX t (!(cEnd t i).2) (cEnd t i).1).1, (i, (cEnd t i).1) :: (LX t (!(cEnd t i).2) (cEnd t i).1).2.1, (LX t (!(cEnd t i).2) (cEnd t i).1).2.2)
      else if t[i]? = some 47 ∧ t[i + 1]? = some 42 then ((LX t true (i + 2)).1, (i, i + 2) :: (LX t true (i + 2)).2.1, (LX t true (i + 2)).2.2)
      else if t[i]? = some 32 then LX t false (i + 1)
      else (((tok t i).1, i, (tok t i).2) :: (LX t false (i + (tok t i).2)).1, (LX t false (i + (tok t i).2)).2) := by
  have hc := cEnd_gt h
  have ht := tok_pos h
  unfold LX
  conv => lhs; unfold lexG
  rw [if_pos h]
  rw [lexG_fuel t t.length (t.length + 1) (!(cEnd t i).2) (cEnd t i).1 (by omega) (by omega), lexG_fuel t t.length (t.length + 1) true (i + 2) (by omega) (by omega), lexG_fuel t t.length (t.length + 1) false (i + 1) (by omega) (by omega), lexG_fuel t t.length (t.length + 1) false (i + (tok t i).2) (by omega) (by omega)]
/-- the tokens lie in the line, one behind the other -/
theorem LX_in {t : List Int} : ∀ (n : Nat) (m : Bool) (i : Nat), t.length - i ≤ n → i ≤ t.length → (LX t m i).1.length ≤ t.length - i ∧ ∀ x ∈ (LX t m i).1, i ≤ x.2.1 ∧ 1 ≤ x.2.2 ∧ x.2.1 + x.2.2 ≤ t.length := by
  intro n
  induction n with
  | zero => intro m i h h'; rw [LX_out (by omega)]; exact ⟨Nat.zero_le _, fun x hx => by cases hx⟩
  | succ n ih =>
    intro m i h h'
    by_cases h1 : i < t.length
    · have hc := cEnd_gt h1
      have hc' := (cEnd_le (t := t) (i := i) (by omega)).2.1
      have ht := tok_pos h1
      rw [LX_step h1]
      by_cases q1 : m = true
      · rw [if_pos q1]
        obtain ⟨a, b⟩ := ih (!(cEnd t i).2) (cEnd t i).1 (by omega) (by omega)
        exact ⟨by dsimp only; omega, fun x hx => by have := b x hx; omega⟩
      · rw [if_neg q1]
        by_cases q2 : t[i]? = some 47 ∧ t[i + 1]? = some 42
        · rw [if_pos q2]
          have := (List.getElem?_eq_some_iff.mp q2.2).1
          obtain ⟨a, b⟩ := ih true (i + 2) (by omega) (by omega)
          exact ⟨by dsimp only; omega, fun x hx => by have := b x hx; omega⟩
        · rw [if_neg q2]
          by_cases q3 : t[i]? = some 32
          · rw [if_pos q3]
            obtain ⟨a, b⟩ := ih false (i + 1) (by omega) (by omega)
            exact ⟨by omega, fun x hx => by have := b x hx; omega⟩
          · rw [if_neg q3]
            obtain ⟨a, b⟩ := ih false (i + (tok t i).2) (by omega) (by omega)
            refine ⟨by dsimp only; rw [List.length_cons]; omega, fun x hx => ?_⟩
            rcases List.mem_cons.mp hx with rfl | hx
            · exact ⟨Nat.le_refl _, ht.1, ht.2⟩
            · have := b x hx; omega
    · rw [LX_out (by omega)]; exact ⟨Nat.zero_le _, fun x hx => by cases hx⟩
