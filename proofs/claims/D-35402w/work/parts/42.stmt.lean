/-! S3: how a file is read: by rules, and by a stack of blocks -/
set_option maxRecDepth 100000
set_option linter.unusedVariables false
abbrev Flt : Type := Int × Int × Int
abbrev IT : Type := Sum Nat (Nat × List Nat × EX)
def pX (K : List Int) (p : Nat) : PR := pE K (K.length + 1) p
def cX (K : List Int) (p : Nat) : PR := caF K (pE K (K.length + 1)) p
def isBE (k : Int) : Bool := decide (k = 13 ∨ k = 3 ∨ k = 2 ∨ k = 24)
def isIt (k : Int) : Bool := decide (k = 3 ∨ k = 2 ∨ k = 24)
def isSk (k : Int) : Bool := decide (k = 15 ∨ k = 12) || isBE k
def skG (stop : Int → Bool) (K : List Int) : Nat → Nat → Nat
  | 0, p => p
  | n + 1, p => if stop (kd K p) = true then p else skG stop K n (p + 1)
def skS (K : List Int) (p : Nat) : Nat := if kd K (skG isSk K (K.length + 1) p) = 15 then skG isSk K (K.length + 1) p + 1 else skG isSk K (K.length + 1) p
def skI (K : List Int) (p : Nat) : Nat := skG isIt K (K.length + 1) p
theorem skG_pos {stop : Int → Bool} {K : List Int} (h24 : stop 24 = true) : ∀ (n p : Nat), K.length < n + p → p ≤ K.length → p ≤ skG stop K n p ∧ skG stop K n p ≤ K.length ∧ stop (kd K (skG stop K n p)) = true ∧ (stop (kd K p) = false → p < skG stop K n p)
  | 0, p, h, h2 => by omega
  | n + 1, p, h, h2 => by
    unfold skG
    by_cases q : stop (kd K p) = true
    · rw [if_pos q]; exact ⟨Nat.le_refl _, h2, q, fun z => by rw [q] at z; cases z⟩
    · rw [if_neg q]
      have hl : p < K.length := kd_lt fun z => q (by rw [z]; exact h24)
      obtain ⟨a, b, c, d⟩ := skG_pos h24 n (p + 1) (by omega) hl
      exact ⟨by omega, b, c, fun _ => by omega⟩
theorem skG_step {stop : Int → Bool} {K : List Int} (h24 : stop 24 = true) : ∀ (n p : Nat), K.length < n + p → p ≤ K.length → stop (kd K p) = false → skG stop K n p = skG stop K n (p + 1)
  | 0, p, h, h2, _ => by omega
  | n + 1, p, h, h2, q => by
    have hl : p < K.length := kd_lt fun z => by rw [z, h24] at q; cases q
    conv => lhs; unfold skG
    rw [if_neg (by rw [q]; decide)]
    by_cases q2 : stop (kd K (p + 1)) = true
    · cases n with
      | zero => omega
      | succ n =>
        unfold skG
        rw [if_pos q2, if_pos q2]
    · have q3 : stop (kd K (p + 1)) = false := Bool.eq_false_iff.mpr q2
      have hl2 : p + 1 < K.length := kd_lt fun z => by rw [z, h24] at q3; cases q3
      rw [skG_step h24 n (p + 1) (by omega) (by omega) q3]
      conv => rhs; unfold skG
      rw [if_neg q2]
theorem skS_pos {K : List Int} {p : Nat} (h : p ≤ K.length) : p ≤ skS K p ∧ skS K p ≤ K.length ∧ (isBE (kd K p) = false → kd K p ≠ 12 → p < skS K p) := by
  have k := skG_pos (stop := isSk) (K := K) rfl (K.length + 1) p (by omega) h
  unfold skS
  by_cases q : kd K (skG isSk K (K.length + 1) p) = 15
  · rw [if_pos q]
    have := kd_eq q (by decide)
    exact ⟨by omega, by omega, fun _ _ => by omega⟩
  · rw [if_neg q]
    refine ⟨k.1, k.2.1, fun z1 z2 => ?_⟩
    by_cases q2 : isSk (kd K p) = true
    · exfalso
      unfold isSk at q2
      rw [z1, Bool.or_false] at q2
      have q3 := of_decide_eq_true q2
      have e : skG isSk K (K.length + 1) p = p := by
        unfold skG
        rw [if_pos (by unfold isSk; rw [q2]; rfl)]
      rw [e] at q
      rcases q3 with q3 | q3
      · exact q q3
      · exact z2 q3
    · exact k.2.2.2 (Bool.eq_false_iff.mpr q2)
theorem skI_pos {K : List Int} {p : Nat} (h : p ≤ K.length) : p ≤ skI K p ∧ skI K p ≤ K.length ∧ isIt (kd K (skI K p)) = true ∧ (isIt (kd K p) = false → p < skI K p) := skG_pos (stop := isIt) rfl (K.length + 1) p (by omega) h
/-- a statement of one of the four kinds -/
def smi (K : List Int) (k : Nat) (r : PR) : PR := pbd r fun e q => if kd K q = 15 then .inr (.pow e k, q + 1) else .inl q
def siF (K : List Int) (p : Nat) : PR :=
  if kd K p = 4 then (if kd K (p + 1) = 0 then (if kd K (p + 2) = 16 then smi K 0 (pX K (p + 3)) else .inl (p + 2)) else .inl (p + 1))
  else if kd K p = 7 then smi K 3 (pX K (p + 1))
  else if kd K p = 0 then (if kd K (p + 1) = 10 then smi K 2 (cX K p) else if kd K (p + 1) = 16 then smi K 1 (pX K (p + 2)) else .inl (p + 1))
  else .inl p
/-- what is behind it is the second part of what is told -/
abbrev SR : Type := EX × Nat × List Flt × List EX
def blk (l : List EX) (to : Nat) (w : Bool) : EX := .sub (asl l) (.natCast (2 * to + w.toNat))
def brk (K : List Int) (p q : Nat) : SR := (.var p, skS K q, [((q : Int), (p : Int), (skS K q : Int))], [])
def ch1 (t b : EX) : EX := .add t (.mul b (.num 0))
def ch2 (t b c : EX) : EX := .add t (.mul b c)
def chF (K : List Int) (bl : Nat → SR) (t : EX) (p : Nat) : SR :=
  if kd K (bl p).2.1 = 6 then
    if kd K ((bl p).2.1 + 1) = 12 then (ch2 t (bl p).1 (bl ((bl p).2.1 + 1)).1, (bl ((bl p).2.1 + 1)).2.1, (bl p).2.2.1 ++ (bl ((bl p).2.1 + 1)).2.2.1, (bl p).2.2.2 ++ (bl ((bl p).2.1 + 1)).2.2.2)
    else (ch1 t (bl p).1, skS K ((bl p).2.1 + 1), (bl p).2.2.1 ++ [((((bl p).2.1 + 1 : Nat) : Int), -1, -1)], (bl p).2.2.2)
  else (ch1 t (bl p).1, (bl p).2.1, (bl p).2.2.1, (bl p).2.2.2)
def smtF (K : List Int) (bl : Nat → SR) (p : Nat) : SR :=
  if kd K p = 12 then bl p
  else if kd K p = 5 then (match pX K (p + 1) with
    | .inl q => brk K p q
    | .inr y => if kd K y.2 = 12 then chF K bl y.1 y.2 else brk K p y.2)
  else match siF K p with
    | .inl q => brk K p q
    | .inr y => (y.1, y.2, [], [])
def blL (K : List Int) (bl : Nat → SR) : Nat → Nat → List EX × Nat × List Flt × List EX
  | 0, p => ([], p, [], [])
  | n + 1, p => if isBE (kd K p) = true then ([], p, [], []) else
    ((smtF K bl p).1 :: (blL K bl n (smtF K bl p).2.1).1, (blL K bl n (smtF K bl p).2.1).2.1, (smtF K bl p).2.2.1 ++ (blL K bl n (smtF K bl p).2.1).2.2.1, (smtF K bl p).2.2.2 ++ (blL K bl n (smtF K bl p).2.1).2.2.2)
/-- a block ends -/
def blE (K : List Int) (l : List EX) (p : Nat) (f : List Flt) (o : List EX) : SR :=
  if kd K p = 13 then (blk l (p + 1) true, p + 1, f, o)
  else (blk l p false, p, f ++ [((p : Int), -1, -1)], o ++ (if kd K p = 24 then [blk l p false] else []))
def blF (K : List Int) (bl : Nat → SR) (p : Nat) : SR := blE K (blL K bl (K.length + 1) (p + 1)).1 (blL K bl (K.length + 1) (p + 1)).2.1 (blL K bl (K.length + 1) (p + 1)).2.2.1 (blL K bl (K.length + 1) (p + 1)).2.2.2
def pB (K : List Int) : Nat → Nat → SR
  | 0, p => (.num 0, p, [], [])
  | f + 1, p => blF K (pB K f) p
def bX (K : List Int) (p : Nat) : SR := pB K (K.length + 1) p
/-- the parameters of a function: one at least; what is ahead of its block -/
def paF (K : List Int) : Nat → Nat → Sum Nat (List Nat × Nat)
  | 0, p => .inl p
  | n + 1, p => if kd K p = 0 then (if kd K (p + 1) = 14 then (match paF K n (p + 2) with
      | .inl q => .inl q
      | .inr y => .inr (p :: y.1, y.2)) else .inr ([p], p + 1)) else .inl p
def heE (K : List Int) (l : List Nat) (q : Nat) : Sum Nat (List Nat × Nat) := if kd K q = 12 then .inr (l, q) else .inl q
def heF (K : List Int) (p : Nat) : Sum Nat (List Nat × Nat) :=
  if kd K (p + 1) = 0 then
    if kd K (p + 2) = 10 then
      if kd K (p + 3) = 11 then heE K [] (p + 4)
      else match paF K (K.length + 1) (p + 3) with
        | .inl q => .inl q
        | .inr y => if kd K y.2 = 11 then heE K y.1 (y.2 + 1) else .inl y.2
    else .inl (p + 2)
  else .inl (p + 1)
/-- items, errors, blocks that END ended, and of which function these are -/
abbrev TR : Type := List IT × List Flt × List EX × Option (Nat × List Nat × EX)
def trE (r : TR) (i : List IT) (f : List Flt) (o : List EX) (g : Option (Nat × List Nat × EX)) : TR := (i ++ r.1, f ++ r.2.1, o ++ r.2.2.1, match r.2.2.2 with
  | some x => some x
  | none => g)
def rdF (K : List Int) : Nat → Nat → TR
  | 0, p => ([], [], [], none)
  | n + 1, p =>
    if kd K p = 24 then ([], [], [], none)
    else if kd K p = 3 then (match heF K p with
      | .inl q => trE (rdF K n (skI K q)) [] [((q : Int), -1, -1)] [] none
      | .inr y => trE (rdF K n (bX K y.2).2.1) [.inr (p + 1, y.1, (bX K y.2).1)] (bX K y.2).2.2.1 (bX K y.2).2.2.2 (if (bX K y.2).2.2.2 = [] then none else some (p + 1, y.1, (bX K y.2).1)))
    else if kd K p = 2 then
      if kd K (p + 1) = 0 then
        if kd K (p + 2) = 15 then trE (rdF K n (p + 3)) [.inl (p + 1)] [] [] none
        else trE (rdF K n (skI K (p + 2))) [] [(((p + 2 : Nat) : Int), -1, -1)] [] none
      else trE (rdF K n (skI K (p + 1))) [] [(((p + 1 : Nat) : Int), -1, -1)] [] none
    else trE (rdF K n (skI K p)) [] [((p : Int), -1, -1)] [] none
def rdT (K : List Int) : TR := rdF K (K.length + 1) 0
theorem pX_pos {K : List Int} {p : Nat} (h : p ≤ K.length) : Pos K p (pX K p) := pE_pos _ _ h
theorem cX_pos {K : List Int} {p : Nat} (h : p < K.length) (h0 : kd K p = 0) : Pos K p (cX K p) := caF_pos (fun p hp => pE_pos _ p hp) h h0
/-- places only -/
def Plc (K : List Int) (p : Nat) (r : PR) : Prop := match r with
  | .inl q => p ≤ q ∧ q ≤ K.length
  | .inr x => p < x.2 ∧ x.2 ≤ K.length
theorem smi_pos {K : List Int} {k p p' : Nat} {r : PR} (h : Pos K p r) (hp : p' ≤ p) : Plc K p' (smi K k r) := by
  unfold smi
  cases r with
  | inl q => exact ⟨Nat.le_trans hp h.1, h.2⟩
  | inr x =>
    obtain ⟨-, -, h3, h4, -⟩ := h
    show Plc K p' (if kd K x.2 = 15 then _ else _)
    by_cases q : kd K x.2 = 15
    · rw [if_pos q]
      have := kd_eq q (by decide)
      exact ⟨by show p' < x.2 + 1; omega, this⟩
    · rw [if_neg q]; exact ⟨by omega, h4⟩
theorem siF_pos {K : List Int} {p : Nat} (h : p ≤ K.length) : Plc K p (siF K p) := by
  unfold siF
  by_cases q1 : kd K p = 4
  · rw [if_pos q1]
    have h1 := kd_eq q1 (by decide)
    by_cases q2 : kd K (p + 1) = 0
    · rw [if_pos q2]
      have h2 := kd_eq q2 (by decide)
      by_cases q3 : kd K (p + 2) = 16
      · rw [if_pos q3]
        have h3 := kd_eq q3 (by decide)
        exact smi_pos (pX_pos (by omega)) (by omega)
      · rw [if_neg q3]; exact ⟨by omega, by omega⟩
    · rw [if_neg q2]; exact ⟨by omega, by omega⟩
  · rw [if_neg q1]
    by_cases q2 : kd K p = 7
    · rw [if_pos q2]
      have h1 := kd_eq q2 (by decide)
      exact smi_pos (pX_pos (by omega)) (by omega)
    · rw [if_neg q2]
      by_cases q3 : kd K p = 0
      · rw [if_pos q3]
        have h1 := kd_eq q3 (by decide)
        by_cases q4 : kd K (p + 1) = 10
        · rw [if_pos q4]; exact smi_pos (cX_pos h1 q3) (Nat.le_refl _)
        · rw [if_neg q4]
          by_cases q5 : kd K (p + 1) = 16
          · rw [if_pos q5]
            have h2 := kd_eq q5 (by decide)
            exact smi_pos (pX_pos (by omega)) (by omega)
          · rw [if_neg q5]; exact ⟨by omega, by omega⟩
      · rw [if_neg q3]; exact ⟨Nat.le_refl _, h⟩
theorem siF_adv {K : List Int} {p q : Nat} (h : siF K p = .inl q) : p < q ∨ q = p := by
  by_cases hl : p ≤ K.length
  · have := siF_pos hl
    rw [h] at this
    exact (Nat.lt_or_eq_of_le this.1).imp id Eq.symm
  · have e : kd K p = 24 := kd_out (by omega)
    unfold siF at h
    rw [e, if_neg (by decide), if_neg (by decide), if_neg (by decide)] at h
    cases h; exact Or.inr rfl
theorem brk_adv {K : List Int} {p q : Nat} (h1 : p ≤ q) (h2 : q ≤ K.length) (h3 : isBE (kd K p) = false) (h4 : kd K p ≠ 12) : p < skS K q ∧ skS K q ≤ K.length := by
  have k := skS_pos h2
  by_cases e : p = q
  · subst e; exact ⟨k.2.2 h3 h4, k.2.1⟩
  · exact ⟨by omega, k.2.1⟩
/-- what a reading of blocks tells of places -/
def BPos (K : List Int) (bl : Nat → SR) (m : Nat) : Prop := ∀ p, m ≤ p → kd K p = 12 → p < (bl p).2.1 ∧ (bl p).2.1 ≤ K.length
theorem chF_pos {K : List Int} {bl : Nat → SR} {t : EX} {p m : Nat} (hb : BPos K bl m) (hm : m ≤ p) (h : kd K p = 12) : p < (chF K bl t p).2.1 ∧ (chF K bl t p).2.1 ≤ K.length := by
  have h1 := hb p hm h
  unfold chF
  by_cases q1 : kd K (bl p).2.1 = 6
  · rw [if_pos q1]
    have hl := kd_eq q1 (by decide)
    by_cases q2 : kd K ((bl p).2.1 + 1) = 12
    · rw [if_pos q2]
      have h2 := hb _ (by omega) q2
      exact ⟨by show p < (bl ((bl p).2.1 + 1)).2.1; omega, h2.2⟩
    · rw [if_neg q2]
      have k := skS_pos (K := K) (p := (bl p).2.1 + 1) hl
      exact ⟨by show p < skS K ((bl p).2.1 + 1); omega, k.2.1⟩
  · rw [if_neg q1]; exact h1
theorem smtF_pos {K : List Int} {bl : Nat → SR} {p m : Nat} (hb : BPos K bl m) (hm : m ≤ p) (hp : p ≤ K.length) (h : isBE (kd K p) = false) : p < (smtF K bl p).2.1 ∧ (smtF K bl p).2.1 ≤ K.length := by
  unfold smtF
  by_cases q1 : kd K p = 12
  · rw [if_pos q1]; exact hb p hm q1
  · rw [if_neg q1]
    by_cases q2 : kd K p = 5
    · rw [if_pos q2]
      have hl := kd_eq q2 (by decide)
      have k := pX_pos (K := K) (p := p + 1) hl
      cases e : pX K (p + 1) with
      | inl q => rw [e] at k; exact brk_adv (by have := k.1; omega) k.2 h q1
      | inr y =>
        rw [e] at k
        obtain ⟨-, -, k3, k4, -⟩ := k
        dsimp only
        by_cases q3 : kd K y.2 = 12
        · rw [if_pos q3]
          have := chF_pos (t := y.1) hb (by omega) q3
          exact ⟨by omega, this.2⟩
        · rw [if_neg q3]; exact brk_adv (by omega) k4 h q1
    · rw [if_neg q2]
      have k := siF_pos hp
      cases e : siF K p with
      | inl q => rw [e] at k; exact brk_adv k.1 k.2 h q1
      | inr y => rw [e] at k; exact k
theorem blL_pos {K : List Int} {bl : Nat → SR} {m : Nat} (hb : BPos K bl m) : ∀ (n p : Nat), m ≤ p → K.length < n + p → p ≤ K.length → p ≤ (blL K bl n p).2.1 ∧ (blL K bl n p).2.1 ≤ K.length ∧ isBE (kd K (blL K bl n p).2.1) = true
  | 0, p, _, h, h2 => by omega
  | n + 1, p, hm, h, h2 => by
    unfold blL
    by_cases q : isBE (kd K p) = true
    · rw [if_pos q]; exact ⟨Nat.le_refl _, h2, q⟩
    · rw [if_neg q]
      have k := smtF_pos hb hm h2 (Bool.eq_false_iff.mpr q)
      obtain ⟨a, b, c⟩ := blL_pos hb n (smtF K bl p).2.1 (by omega) (by omega) k.2
      exact ⟨by dsimp only; omega, b, c⟩
theorem blF_pos {K : List Int} {bl : Nat → SR} {m p : Nat} (hb : BPos K bl m) (hm : m ≤ p + 1) (h : kd K p = 12) : p < (blF K bl p).2.1 ∧ (blF K bl p).2.1 ≤ K.length := by
  have hl := kd_eq h (by decide)
  obtain ⟨a, b, c⟩ := blL_pos hb (K.length + 1) (p + 1) hm (by omega) hl
  unfold blF blE
  by_cases q : kd K (blL K bl (K.length + 1) (p + 1)).2.1 = 13
  · rw [if_pos q]
    have := kd_eq q (by decide)
    exact ⟨by dsimp only; omega, this⟩
  · rw [if_neg q]; exact ⟨by dsimp only; omega, b⟩
theorem pB_pos {K : List Int} : ∀ f : Nat, BPos K (pB K f) (K.length - f)
  | 0 => fun p h1 h2 => by have := kd_eq h2 (by decide); omega
  | f + 1 => fun p h1 h2 => blF_pos (pB_pos f) (by omega) h2
/-! by a stack of blocks -/
abbrev WY : Type := Sum (Nat × List Nat) (Option (EX × Option EX))
abbrev OB : Type := List EX × WY
/-- blocks, the place, items, errors, blocks that END ended -/
abbrev RS : Type := List OB × Nat × List IT × List Flt × List EX
def addS (st : List OB) (s : EX) : List OB := match st with
  | [] => []
  | x :: l => (x.1 ++ [s], x.2) :: l
def dlv (K : List Int) (w : WY) (st : List OB) (b : EX) (q : Nat) (I : List IT) (F : List Flt) (O : List EX) : RS := match w with
  | .inl x => (st, q, I ++ [.inr (x.1, x.2, b)], F, O)
  | .inr none => (addS st b, q, I, F, O)
  | .inr (some (t, none)) =>
    if kd K q = 6 then
      if kd K (q + 1) = 12 then (([], .inr (some (t, some b))) :: st, q + 2, I, F, O)
      else (addS st (ch1 t b), skS K (q + 1), I, F ++ [(((q + 1 : Nat) : Int), -1, -1)], O)
    else (addS st (ch1 t b), q, I, F, O)
  | .inr (some (t, some c)) => (addS st (ch2 t c b), q, I, F, O)
def brS (K : List Int) (st : List OB) (p q : Nat) (I : List IT) (F : List Flt) (O : List EX) : RS := (addS st (.var p), skS K q, I, F ++ [((q : Int), (p : Int), (skS K q : Int))], O)
def fiS (K : List Int) (q : Nat) (I : List IT) (F : List Flt) (O : List EX) : RS := ([], skI K q, I, F ++ [((q : Int), -1, -1)], O)
def itS (K : List Int) (p : Nat) (I : List IT) (F : List Flt) (O : List EX) : RS :=
  if kd K p = 3 then (match heF K p with
    | .inl q => fiS K q I F O
    | .inr y => ([([], .inl (p + 1, y.1))], y.2 + 1, I, F, O))
  else if kd K p = 2 then
    if kd K (p + 1) = 0 then
      if kd K (p + 2) = 15 then ([], p + 3, I ++ [.inl (p + 1)], F, O) else fiS K (p + 2) I F O
    else fiS K (p + 1) I F O
  else fiS K p I F O
def stS (K : List Int) (x : OB) (st : List OB) (p : Nat) (I : List IT) (F : List Flt) (O : List EX) : RS :=
  if kd K p = 13 then dlv K x.2 st (blk x.1 (p + 1) true) (p + 1) I F O
  else if isIt (kd K p) = true then dlv K x.2 st (blk x.1 p false) p I (F ++ [((p : Int), -1, -1)]) (O ++ (if kd K p = 24 then [blk x.1 p false] else []))
  else if kd K p = 12 then (([], .inr none) :: x :: st, p + 1, I, F, O)
  else if kd K p = 5 then (match pX K (p + 1) with
    | .inl q => brS K (x :: st) p q I F O
    | .inr y => if kd K y.2 = 12 then (([], .inr (some (y.1, none))) :: x :: st, y.2 + 1, I, F, O) else brS K (x :: st) p y.2 I F O)
  else match siF K p with
    | .inl q => brS K (x :: st) p q I F O
    | .inr y => (addS (x :: st) y.1, y.2, I, F, O)
def rsS (K : List Int) (s : RS) : Option RS := match s.1 with
  | [] => if kd K s.2.1 = 24 then none else some (itS K s.2.1 s.2.2.1 s.2.2.2.1 s.2.2.2.2)
  | x :: st => some (stS K x st s.2.1 s.2.2.1 s.2.2.2.1 s.2.2.2.2)
def Rc {S : Type} (stp : S → Option S) : Nat → S → S → Prop
  | 0, s, t => s = t
  | n + 1, s, t => ∃ u, stp s = some u ∧ Rc stp n u t
theorem Rc.tr {S : Type} {stp : S → Option S} : ∀ {n m : Nat} {s t u : S}, Rc stp n s t → Rc stp m t u → Rc stp (n + m) s u
  | 0, m, s, t, u, h, k => by cases h; rw [Nat.zero_add]; exact k
  | n + 1, m, s, t, u, ⟨v, h1, h2⟩, k => by
    rw [show n + 1 + m = (n + m) + 1 by omega]
    exact ⟨v, h1, h2.tr k⟩
/-- one comes from the other -/
def Rx {S : Type} (stp : S → Option S) (s t : S) : Prop := ∃ n, Rc stp n s t
theorem Rx.rf {S : Type} {stp : S → Option S} {s : S} : Rx stp s s := ⟨0, rfl⟩
theorem Rx.tr {S : Type} {stp : S → Option S} {s t u : S} (h : Rx stp s t) (k : Rx stp t u) : Rx stp s u := by
  obtain ⟨n, h⟩ := h
  obtain ⟨m, k⟩ := k
  exact ⟨n + m, h.tr k⟩
theorem Rx.st {S : Type} {stp : S → Option S} {s t : S} (h : stp s = some t) : Rx stp s t := ⟨1, t, h, rfl⟩
theorem Rc.end {S : Type} {stp : S → Option S} : ∀ {n m : Nat} {s t u : S}, Rc stp n s t → stp t = none → Rc stp m s u → stp u = none → t = u
  | 0, 0, s, t, u, h, _, k, _ => by cases h; exact k
  | 0, m + 1, s, t, u, h, h2, ⟨v, k1, k2⟩, _ => by cases h; rw [h2] at k1; cases k1
  | n + 1, 0, s, t, u, ⟨v, h1, h2⟩, _, k, k2 => by cases k; rw [k2] at h1; cases h1
  | n + 1, m + 1, s, t, u, ⟨v, h1, h2⟩, h3, ⟨w, k1, k2⟩, k3 => by
    rw [h1] at k1; cases k1
    exact h2.end h3 k2 k3
