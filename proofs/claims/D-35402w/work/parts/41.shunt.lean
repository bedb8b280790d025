/-! S2: reading an expr by stacks is reading it by its rules -/
set_option maxRecDepth 100000
set_option linter.unusedVariables false
def rk (k : Int) : Nat := if k = 21 then 3 else if k = 19 ∨ k = 20 then 2 else if k = 17 ∨ k = 18 then 1 else 0
abbrev PD : Type := List (EX × Nat)
/-- a bracket that is entered: what waits ahead of it, whether a sum was compared there, the ! that waits, and which: a ( or a call with what it was given -/
abbrev BF : Type := (PD × Bool) × Option Nat × Sum Nat (Nat × List EX)
abbrev SYs : Type := List BF × PD × Bool × Option Nat × Option EX × Nat
def red (K : List Int) (r : Nat) : PD → EX → PD × EX
  | [], e => ([], e)
  | x :: l, e => if r ≤ rk (kd K x.2) then red K r l (.add x.1 e) else (x :: l, e)
def putp (b : Option Nat) (e : EX) : EX := match b with
  | none => e
  | some _ => .neg e
def flS (K : List Int) (al : Bool) (fs : List BF) (pe : PD) (cm : Bool) (e : EX) (p : Nat) : Sum PR SYs :=
  if al = true ∧ fs = [] then .inl (.inr ((red K 1 pe e).2, p)) else .inr (fs, pe, cm, none, some e, p)
/-- whether the innermost bracket is one of a call -/
def isCa (fs : List BF) : Bool := match fs with
  | [] => false
  | x :: _ => match x.2.2 with
    | .inl _ => false
    | .inr _ => true
def mayC (K : List Int) (fs : List BF) (b : Option Nat) (p : Nat) : Bool := isCa fs && decide (kd K (p - 1) = 10) && b.isNone
def clS (K : List Int) (al : Bool) (x : BF) (fs : List BF) (o : Option EX) (p : Nat) : Sum PR SYs :=
  flS K al fs x.1.1 x.1.2 (putp x.2.1 (match x.2.2 with
    | .inl _ => .sub (o.getD (.num 0)) (.num 0)
    | .inr y => .pow (asl (y.2 ++ o.toList)) y.1)) p
def duS (K : List Int) (al : Bool) (fs : List BF) (pe : PD) (cm : Bool) (b : Option Nat) (p : Nat) : Sum PR SYs :=
  if kd K p = 11 ∧ mayC K fs b p = true then (match fs with
    | [] => .inl (.inl p)
    | x :: l => clS K al x l none (p + 1))
  else if kd K p = 22 ∧ b = none then .inr (fs, pe, cm, some p, none, p + 1)
  else if kd K p = 10 then .inr (((pe, cm), b, .inl p) :: fs, [], false, none, none, p + 1)
  else if kd K p = 0 ∧ kd K (p + 1) = 10 then .inr (((pe, cm), b, .inr (p, [])) :: fs, [], false, none, none, p + 2)
  else if isAt (kd K p) = true then flS K al fs pe cm (putp b (.var p)) (p + 1)
  else .inl (.inl p)
def goS (K : List Int) (al : Bool) (fs : List BF) (pe : PD) (cm : Bool) (e : EX) (p : Nat) : Sum PR SYs :=
  if 1 < rk (kd K p) ∨ (rk (kd K p) = 1 ∧ cm = false) then .inr (fs, ((red K (rk (kd K p)) pe e).2, p) :: (red K (rk (kd K p)) pe e).1, cm || decide (rk (kd K p) = 1), none, none, p + 1)
  else match fs with
    | [] => .inl (.inr ((red K 1 pe e).2, p))
    | x :: l =>
      if kd K p = 14 ∧ isCa (x :: l) = true then .inr ((x.1, x.2.1, (match x.2.2 with
        | .inl o => .inl o
        | .inr y => .inr (y.1, y.2 ++ [(red K 1 pe e).2]))) :: l, [], false, none, none, p + 1)
      else if kd K p = 11 then clS K al x l (some (red K 1 pe e).2) (p + 1)
      else .inl (.inl p)
def syS (K : List Int) (al : Bool) (s : SYs) : Sum PR SYs := match s.2.2.2.2.1 with
  | none => duS K al s.1 s.2.1 s.2.2.1 s.2.2.2.1 s.2.2.2.2.2
  | some e => goS K al s.1 s.2.1 s.2.2.1 e s.2.2.2.2.2
def syR (K : List Int) (al : Bool) : Nat → SYs → PR
  | 0, _ => .inl 0
  | n + 1, s => match syS K al s with
    | .inl r => r
    | .inr t => syR K al n t
def SYQ (K : List Int) (al : Bool) (s : SYs) : PR := syR K al (K.length + 1 - s.2.2.2.2.2) s
section Shunt
variable {K : List Int} {al : Bool}
theorem flS_nx {fs : List BF} {pe : PD} {cm : Bool} {e : EX} {p : Nat} {t : SYs} (h : flS K al fs pe cm e p = .inr t) : t.2.2.2.2.2 = p := by
  unfold flS at h
  split at h
  · cases h
  · cases h; rfl
theorem syS_nx {s t : SYs} (h : syS K al s = .inr t) : s.2.2.2.2.2 < t.2.2.2.2.2 ∧ (s.2.2.2.2.2 < K.length) := by
  obtain ⟨fs, pe, cm, b, o, p⟩ := s
  unfold syS at h
  dsimp only at h ⊢
  cases o with
  | none =>
    dsimp only at h
    unfold duS at h
    split at h
    · rename_i q
      cases fs with
      | nil => cases h
      | cons x l => unfold clS at h; have := flS_nx h; exact ⟨by omega, kd_eq q.1 (by decide)⟩
    · split at h
      · rename_i q; cases h; exact ⟨Nat.lt_succ_self _, kd_eq q.1 (by decide)⟩
      · split at h
        · rename_i q; cases h; exact ⟨Nat.lt_succ_self _, kd_eq q (by decide)⟩
        · split at h
          · rename_i q; cases h; exact ⟨Nat.lt_add_of_pos_right (by decide), kd_eq q.1 (by decide)⟩
          · split at h
            · rename_i q
              have := flS_nx h
              exact ⟨by omega, kd_lt fun z => by rw [z] at q; cases q⟩
            · cases h
  | some e =>
    dsimp only at h
    unfold goS at h
    split at h
    · rename_i q
      cases h
      exact ⟨Nat.lt_succ_self _, kd_lt fun z => by rw [z] at q; rcases q with q | q; exact absurd q (by decide); exact absurd q.1 (by decide)⟩
    · cases fs with
      | nil => cases h
      | cons x l =>
        dsimp only at h
        split at h
        · rename_i q; cases h; exact ⟨Nat.lt_succ_self _, kd_eq q.1 (by decide)⟩
        · split at h
          · rename_i q; unfold clS at h; have := flS_nx h; exact ⟨by omega, kd_eq q (by decide)⟩
          · cases h
theorem syR_fuel : ∀ (n m : Nat) (s : SYs), K.length < n + s.2.2.2.2.2 → K.length < m + s.2.2.2.2.2 → s.2.2.2.2.2 ≤ K.length → syR K al n s = syR K al m s
  | 0, m, s, h, _, h3 => by omega
  | n + 1, 0, s, _, h, h3 => by omega
  | n + 1, m + 1, s, h1, h2, h3 => by
    unfold syR
    cases e : syS K al s with
    | inl r => rfl
    | inr t =>
      have := syS_nx e
      dsimp only
      by_cases q : t.2.2.2.2.2 ≤ K.length
      · exact syR_fuel n m t (by omega) (by omega) q
      · -- behind the row: only by two steps ahead, which needs a ( there
        exfalso
        obtain ⟨fs, pe, cm, b, o, p⟩ := s
        unfold syS at e
        dsimp only at e this q
        cases o with
        | none =>
          dsimp only at e
          unfold duS at e
          split at e
          · cases fs with
            | nil => cases e
            | cons x l => unfold clS at e; have := flS_nx e; omega
          · split at e
            · cases e; dsimp only at q; omega
            · split at e
              · cases e; dsimp only at q; omega
              · split at e
                · rename_i z; cases e; have := kd_eq z.2 (by decide); dsimp only at q; omega
                · split at e
                  · have := flS_nx e; omega
                  · cases e
        | some x =>
          dsimp only at e
          unfold goS at e
          split at e
          · cases e; dsimp only at q; omega
          · cases fs with
            | nil => cases e
            | cons x l =>
              dsimp only at e
              split at e
              · cases e; dsimp only at q; omega
              · split at e
                · unfold clS at e; have := flS_nx e; omega
                · cases e
theorem SYQ_fin {s : SYs} {r : PR} (hp : s.2.2.2.2.2 ≤ K.length) (h : syS K al s = .inl r) : SYQ K al s = r := by
  unfold SYQ
  obtain ⟨n, hn⟩ : ∃ n, K.length + 1 - s.2.2.2.2.2 = n + 1 := ⟨K.length - s.2.2.2.2.2, by omega⟩
  rw [hn]; unfold syR; rw [h]
theorem SYQ_st {s t : SYs} (hp : s.2.2.2.2.2 ≤ K.length) (hq : t.2.2.2.2.2 ≤ K.length) (h : syS K al s = .inr t) : SYQ K al s = SYQ K al t := by
  have q := syS_nx h
  unfold SYQ
  obtain ⟨n, hn⟩ : ∃ n, K.length + 1 - s.2.2.2.2.2 = n + 1 := ⟨K.length - s.2.2.2.2.2, by omega⟩
  rw [hn]
  conv => lhs; unfold syR
  rw [h]
  exact syR_fuel _ _ _ (by omega) (by omega) hq
/-- a unit is due; behind a unit; a unit that may be the end -/
def DU (K : List Int) (al : Bool) (fs : List BF) (pe : PD) (cm : Bool) (b : Option Nat) (p : Nat) : PR := SYQ K al (fs, pe, cm, b, none, p)
def GO (K : List Int) (al : Bool) (fs : List BF) (pe : PD) (cm : Bool) (e : EX) (p : Nat) : PR := SYQ K al (fs, pe, cm, none, some e, p)
def FL (K : List Int) (al : Bool) (fs : List BF) (pe : PD) (cm : Bool) (e : EX) (p : Nat) : PR := if al = true ∧ fs = [] then .inr ((red K 1 pe e).2, p) else GO K al fs pe cm e p
section SY2
variable {fs : List BF} {pe : PD} {cm : Bool} {b : Option Nat} {e : EX} {p : Nat}
theorem DU_fl {fs' : List BF} {pe' : PD} {cm' : Bool} {e' : EX} {p' : Nat} (hp : p ≤ K.length) (hq : p' ≤ K.length) (h : duS K al fs pe cm b p = flS K al fs' pe' cm' e' p') : DU K al fs pe cm b p = FL K al fs' pe' cm' e' p' := by
  unfold FL
  unfold flS at h
  by_cases q : al = true ∧ fs' = []
  · rw [if_pos q] at h ⊢; exact SYQ_fin hp h
  · rw [if_neg q] at h ⊢; exact SYQ_st hp hq h
theorem GO_fl {fs' : List BF} {pe' : PD} {cm' : Bool} {e' : EX} {p' : Nat} (hp : p ≤ K.length) (hq : p' ≤ K.length) (h : goS K al fs pe cm e p = flS K al fs' pe' cm' e' p') : GO K al fs pe cm e p = FL K al fs' pe' cm' e' p' := by
  unfold FL
  unfold flS at h
  by_cases q : al = true ∧ fs' = []
  · rw [if_pos q] at h ⊢; exact SYQ_fin hp h
  · rw [if_neg q] at h ⊢; exact SYQ_st hp hq h
theorem red_red {r r' : Nat} (h : r' ≤ r) : ∀ (pe : PD) (e : EX), red K r' (red K r pe e).1 (red K r pe e).2 = red K r' pe e
  | [], e => rfl
  | x :: l, e => by
    by_cases q : r ≤ rk (kd K x.2)
    · have e1 : red K r (x :: l) e = red K r l (.add x.1 e) := if_pos q
      have e2 : red K r' (x :: l) e = red K r' l (.add x.1 e) := if_pos (Nat.le_trans h q)
      rw [e1, e2]; exact red_red h l _
    · have e1 : red K r (x :: l) e = (x :: l, e) := if_neg q
      rw [e1]
/-- to make pairs early does not matter where no sign of higher rank comes -/
theorem GO_red {r : Nat} (h1 : 1 ≤ r) (hr : rk (kd K p) ≤ r) : GO K al fs pe cm e p = GO K al fs (red K r pe e).1 cm (red K r pe e).2 p := by
  have key : goS K al fs pe cm e p = goS K al fs (red K r pe e).1 cm (red K r pe e).2 p := by
    unfold goS
    rw [red_red hr, red_red h1]
  unfold GO SYQ
  show syR K al (K.length + 1 - p) _ = syR K al (K.length + 1 - p) _
  cases K.length + 1 - p with
  | zero => rfl
  | succ n =>
    unfold syR
    have : syS K al (fs, pe, cm, none, some e, p) = syS K al (fs, (red K r pe e).1, cm, none, some (red K r pe e).2, p) := key
    rw [this]
/-- the sign on top has a lower rank -/
def Top (K : List Int) (r : Nat) (pe : PD) : Prop := match pe with
  | [] => True
  | x :: _ => rk (kd K x.2) < r
theorem red_top {r : Nat} (h : Top K r pe) : red K r pe e = (pe, e) := by
  cases pe with
  | nil => rfl
  | cons x l => exact if_neg (Nat.not_le_of_lt h)
end SY2
/-- what a reading of an expr in a bracket is for the stacks -/
def EOk (K : List Int) (al : Bool) (ex : Nat → PR) (m : Nat) : Prop := ∀ (x : BF) (fs : List BF) (p : Nat), m ≤ p → p ≤ K.length → ¬ (kd K p = 11 ∧ mayC K (x :: fs) none p = true) → match ex p with
  | .inl q => DU K al (x :: fs) [] false none p = .inl q
  | .inr y => ∃ cm, DU K al (x :: fs) [] false none p = GO K al (x :: fs) [] cm y.1 y.2 ∧ rk (kd K y.2) ≤ 1 ∧ (rk (kd K y.2) = 1 → cm = true)
section SY3
variable {ex : Nat → PR} {m : Nat}
/-- a step behind an expr in a bracket -/
theorem GO_in {x : BF} {fs : List BF} {cm : Bool} {e : EX} {p : Nat} (h1 : rk (kd K p) ≤ 1) (h2 : rk (kd K p) = 1 → cm = true) : goS K al (x :: fs) [] cm e p = if kd K p = 14 ∧ isCa (x :: fs) = true then .inr ((x.1, x.2.1, (match x.2.2 with
        | .inl o => .inl o
        | .inr y => .inr (y.1, y.2 ++ [e]))) :: fs, [], false, none, none, p + 1)
      else if kd K p = 11 then clS K al x fs (some e) (p + 1)
      else .inl (.inl p) := by
  unfold goS
  rw [if_neg (fun q => by
    rcases q with q | q
    · omega
    · have := h2 q.1; rw [this] at q; cases q.2)]
  rfl
theorem AG_ok (hx : ∀ p, p ≤ K.length → Pos K p (ex p)) (hE : EOk K al ex m) {po : PD} {co : Bool} {b : Option Nat} {nm : Nat} {fs : List BF} : ∀ (n : Nat) (as : List EX) (p : Nat), m ≤ p → K.length < n + p → p ≤ K.length → ¬ (kd K p = 11 ∧ mayC K (((po, co), b, .inr (nm, as)) :: fs) none p = true) →
    DU K al (((po, co), b, .inr (nm, as)) :: fs) [] false none p = match agF K ex n p with
      | .inl q => .inl q
      | .inr y => if kd K y.2 = 11 then FL K al fs po co (putp b (.pow (asl (as ++ y.1)) nm)) (y.2 + 1) else .inl y.2
  | 0, as, p, h0, h1, h2, h3 => by omega
  | n + 1, as, p, h0, h1, h2, h3 => by
    have hp := hx p h2
    have he := hE ((po, co), b, .inr (nm, as)) fs p h0 h2 h3
    unfold agF
    cases e : ex p with
    | inl q => rw [e] at he; exact he
    | inr y =>
      rw [e] at he hp
      obtain ⟨cm, g1, g2, g3⟩ := he
      obtain ⟨-, -, p1, p2, -⟩ := hp
      rw [g1]
      have st := GO_in (K := K) (al := al) (x := ((po, co), b, .inr (nm, as))) (fs := fs) (e := y.1) g2 g3
      dsimp only
      by_cases q : kd K y.2 = 14
      · have hl := kd_eq q (by decide)
        rw [if_pos ⟨q, rfl⟩] at st
        have e1 : GO K al (((po, co), b, .inr (nm, as)) :: fs) [] cm y.1 y.2 = DU K al (((po, co), b, .inr (nm, as ++ [y.1])) :: fs) [] false none (y.2 + 1) := SYQ_st p2 hl st
        rw [e1, if_pos q, AG_ok hx hE n (as ++ [y.1]) (y.2 + 1) (by omega) (by omega) hl (fun z => by
          have := z.2
          unfold mayC at this
          rw [Nat.add_sub_cancel, q] at this
          simp at this)]
        cases agF K ex n (y.2 + 1) with
        | inl z => rfl
        | inr z => dsimp only; rw [List.append_assoc]; rfl
      · rw [if_neg (fun z => q z.1)] at st
        rw [if_neg q]
        dsimp only
        by_cases q2 : kd K y.2 = 11
        · have hl := kd_eq q2 (by decide)
          rw [if_pos q2] at st ⊢
          exact GO_fl p2 hl st
        · rw [if_neg q2] at st ⊢
          exact SYQ_fin p2 st
theorem CA_ok (hx : ∀ p, p ≤ K.length → Pos K p (ex p)) (hE : EOk K al ex m) {fs : List BF} {pe : PD} {cm : Bool} {b : Option Nat} {p : Nat} (hm0 : m ≤ p + 1) (h0 : kd K p = 0) (h1 : kd K (p + 1) = 10) :
    DU K al fs pe cm b p = match caF K ex p with
      | .inl q => .inl q
      | .inr y => FL K al fs pe cm (putp b y.1) y.2 := by
  have hl := kd_eq h1 (by decide)
  have st : duS K al fs pe cm b p = .inr (((pe, cm), b, .inr (p, [])) :: fs, [], false, none, none, p + 2) := by
    unfold duS
    rw [if_neg (by rw [h0]; exact fun z => absurd z.1 (by decide)), if_neg (by rw [h0]; exact fun z => absurd z.1 (by decide)), if_neg (by rw [h0]; decide), if_pos ⟨h0, h1⟩]
  have e1 : DU K al fs pe cm b p = DU K al (((pe, cm), b, .inr (p, [])) :: fs) [] false none (p + 2) := SYQ_st (show p ≤ K.length by omega) (show p + 2 ≤ K.length from hl) st
  rw [e1]
  unfold caF
  rw [if_pos h1]
  by_cases q : kd K (p + 2) = 11
  · rw [if_pos q]
    have hl2 := kd_eq q (by decide)
    refine DU_fl (by omega) (by omega) ?_
    unfold duS
    rw [if_pos ⟨q, by unfold mayC; rw [show p + 2 - 1 = p + 1 by omega, h1]; rfl⟩]
    rfl
  · rw [if_neg q, AG_ok hx hE (K.length + 1) [] (p + 2) (by omega) (by omega) hl (fun z => q z.1)]
    cases agF K ex (K.length + 1) (p + 2) with
    | inl z => rfl
    | inr z =>
      dsimp only
      by_cases q2 : kd K z.2 = 11
      · rw [if_pos q2, if_pos q2]; rfl
      · rw [if_neg q2, if_neg q2]
theorem PL_ok (hx : ∀ p, p ≤ K.length → Pos K p (ex p)) (hE : EOk K al ex m) {fs : List BF} {pe : PD} {cm : Bool} {b : Option Nat} {p : Nat} (hm0 : m ≤ p + 1) (hp : p ≤ K.length) (hm : ¬ (kd K p = 11 ∧ mayC K fs b p = true)) (hb : kd K p = 22 → b ≠ none) :
    DU K al fs pe cm b p = match plF K ex p with
      | .inl q => .inl q
      | .inr y => FL K al fs pe cm (putp b y.1) y.2 := by
  unfold plF
  by_cases q : kd K p = 10
  · rw [if_pos q]
    have hl := kd_eq q (by decide)
    have st : duS K al fs pe cm b p = .inr (((pe, cm), b, .inl p) :: fs, [], false, none, none, p + 1) := by
      unfold duS
      rw [if_neg hm, if_neg (by rw [q]; exact fun z => absurd z.1 (by decide)), if_pos q]
    have e1 : DU K al fs pe cm b p = DU K al (((pe, cm), b, .inl p) :: fs) [] false none (p + 1) := SYQ_st hp (show p + 1 ≤ K.length from hl) st
    rw [e1]
    have he := hE ((pe, cm), b, .inl p) fs (p + 1) hm0 hl (fun z => by have := z.2; unfold mayC isCa at this; simp at this)
    have hq := hx (p + 1) hl
    cases e : ex (p + 1) with
    | inl y => rw [e] at he; exact he
    | inr y =>
      rw [e] at he hq
      obtain ⟨cm', g1, g2, g3⟩ := he
      obtain ⟨-, -, p1, p2, -⟩ := hq
      rw [g1]
      have st := GO_in (K := K) (al := al) (x := ((pe, cm), b, .inl p)) (fs := fs) (e := y.1) g2 g3
      rw [if_neg (fun z => by have := z.2; unfold isCa at this; cases this)] at st
      show (_ : PR) = match (if kd K y.2 = 11 then (.inr (.sub y.1 (.num 0), y.2 + 1)) else .inl y.2 : PR) with
        | .inl q => .inl q
        | .inr y => FL K al fs pe cm (putp b y.1) y.2
      by_cases q2 : kd K y.2 = 11
      · have hl2 := kd_eq q2 (by decide)
        rw [if_pos q2] at st ⊢
        exact GO_fl p2 hl2 st
      · rw [if_neg q2] at st ⊢
        exact SYQ_fin p2 st
  · rw [if_neg q]
    by_cases q2 : kd K p = 0 ∧ kd K (p + 1) = 10
    · rw [if_pos q2]; exact CA_ok hx hE hm0 q2.1 q2.2
    · rw [if_neg q2]
      have h22 : ¬ (kd K p = 22 ∧ b = none) := fun z => hb z.1 z.2
      by_cases q3 : isAt (kd K p) = true
      · rw [if_pos q3]
        have hl : p < K.length := kd_lt fun z => by rw [z] at q3; cases q3
        refine DU_fl hp hl ?_
        unfold duS
        rw [if_neg hm, if_neg h22, if_neg q, if_neg q2, if_pos q3]
      · rw [if_neg q3]
        refine SYQ_fin hp ?_
        show duS K al fs pe cm b p = _
        unfold duS
        rw [if_neg hm, if_neg h22, if_neg q, if_neg q2, if_neg q3]
theorem UN_ok (hx : ∀ p, p ≤ K.length → Pos K p (ex p)) (hE : EOk K al ex m) {fs : List BF} {pe : PD} {cm : Bool} {p : Nat} (hm0 : m ≤ p + 1) (hp : p ≤ K.length) (hm : ¬ (kd K p = 11 ∧ mayC K fs none p = true)) :
    DU K al fs pe cm none p = match unF K ex p with
      | .inl q => .inl q
      | .inr y => FL K al fs pe cm y.1 y.2 := by
  unfold unF
  by_cases q : kd K p = 22
  · rw [if_pos q]
    have hl := kd_eq q (by decide)
    have st : duS K al fs pe cm none p = .inr (fs, pe, cm, some p, none, p + 1) := by
      unfold duS
      rw [if_neg hm, if_pos ⟨q, rfl⟩]
    have e1 : DU K al fs pe cm none p = DU K al fs pe cm (some p) (p + 1) := SYQ_st hp (show p + 1 ≤ K.length from hl) st
    rw [e1, PL_ok hx hE (p := p + 1) (b := some p) (by omega) hl (fun z => by have := z.2; unfold mayC at this; simp at this) (fun _ => by simp)]
    cases plF K ex (p + 1) with
    | inl y => rfl
    | inr y => rfl
  · rw [if_neg q]
    exact PL_ok hx hE hm0 hp hm (fun z => absurd z q)
/-- not at the end of a call alone -/
abbrev Nal (al : Bool) (fs : List BF) : Prop := ¬ (al = true ∧ fs = [])
theorem FL_go {fs : List BF} {pe : PD} {cm : Bool} {e : EX} {p : Nat} (h : Nal al fs) : FL K al fs pe cm e p = GO K al fs pe cm e p := if_neg h
theorem rk_le (k : Int) : rk k ≤ 3 := by unfold rk; repeat' split
                                         all_goals decide
theorem mayC_op {fs : List BF} {p : Nat} (h : kd K p ≠ 10) : ¬ (kd K (p + 1) = 11 ∧ mayC K fs none (p + 1) = true) := fun z => by
  have := z.2
  unfold mayC at this
  rw [Nat.add_sub_cancel] at this
  simp [h] at this
theorem LP3 (hx : ∀ p, p ≤ K.length → Pos K p (ex p)) (hE : EOk K al ex m) {fs : List BF} {pe : PD} {cm : Bool} (hn : Nal al fs) (ht : Top K 3 pe) : ∀ (n : Nat) (e : EX) (p : Nat), m ≤ p + 1 → K.length < n + p → p ≤ K.length →
    GO K al fs pe cm e p = match lpG isTm K (unF K ex) n e p with
      | .inl q => .inl q
      | .inr y => GO K al fs pe cm y.1 y.2
  | 0, e, p, h0, h1, h2 => by omega
  | n + 1, e, p, h0, h1, h2 => by
    unfold lpG
    by_cases q : isTm (kd K p) = true
    · rw [if_pos q]
      have q' : kd K p = 21 := by unfold isTm at q; exact of_decide_eq_true q
      have hl := kd_eq q' (by decide)
      have r3 : rk (kd K p) = 3 := by rw [q']; rfl
      have st : goS K al fs pe cm e p = .inr (fs, (e, p) :: pe, cm, none, none, p + 1) := by
        unfold goS
        rw [r3, if_pos (Or.inl (by decide)), red_top ht]
        simp
      have e1 : GO K al fs pe cm e p = DU K al fs ((e, p) :: pe) cm none (p + 1) := SYQ_st h2 (show p + 1 ≤ K.length from hl) st
      rw [e1, UN_ok hx hE (p := p + 1) (by omega) hl (mayC_op (by rw [q']; decide))]
      have hu := unF_pos hx (p := p + 1) hl
      cases e2 : unF K ex (p + 1) with
      | inl y => rfl
      | inr y =>
        rw [e2] at hu
        obtain ⟨-, -, p1, p2, -⟩ := hu
        show FL K al fs ((e, p) :: pe) cm y.1 y.2 = _
        rw [FL_go hn, GO_red (r := 3) (by decide) (rk_le _)]
        have e3 : red K 3 ((e, p) :: pe) y.1 = (pe, .add e y.1) := by
          show (if 3 ≤ rk (kd K p) then red K 3 pe (.add e y.1) else _) = _
          rw [if_pos (by rw [r3]; exact Nat.le_refl _), red_top ht]
        rw [e3]
        exact LP3 hx hE hn ht n _ _ (by omega) (by omega) p2
    · rw [if_neg q]
theorem lpG_exit {ok : Int → Bool} {sub : Nat → PR} : ∀ (n : Nat) (e : EX) (p : Nat) (y : EX × Nat), lpG ok K sub n e p = .inr y → ok (kd K y.2) = false
  | 0, e, p, y, h => by cases h
  | n + 1, e, p, y, h => by
    unfold lpG at h
    by_cases q : ok (kd K p) = true
    · rw [if_pos q] at h
      cases e2 : sub (p + 1) with
      | inl z => rw [e2] at h; cases h
      | inr z => rw [e2] at h; exact lpG_exit n _ _ _ h
    · rw [if_neg q] at h
      cases h
      exact Bool.eq_false_iff.mpr q
theorem PR_ok (hx : ∀ p, p ≤ K.length → Pos K p (ex p)) (hE : EOk K al ex m) {fs : List BF} {pe : PD} {cm : Bool} {p : Nat} (hn : Nal al fs) (ht : Top K 3 pe) (hm0 : m ≤ p + 1) (hp : p ≤ K.length) (hm : ¬ (kd K p = 11 ∧ mayC K fs none p = true)) :
    DU K al fs pe cm none p = match prF K ex p with
      | .inl q => .inl q
      | .inr y => GO K al fs pe cm y.1 y.2 := by
  rw [UN_ok hx hE hm0 hp hm]
  unfold prF
  have hu := unF_pos hx hp
  cases e : unF K ex p with
  | inl y => rfl
  | inr y =>
    rw [e] at hu
    obtain ⟨-, -, p1, p2, -⟩ := hu
    show FL K al fs pe cm y.1 y.2 = _
    rw [FL_go hn]
    exact LP3 hx hE hn ht _ _ _ (by omega) (by omega) p2
theorem prF_exit {p : Nat} {y : EX × Nat} (h : prF K ex p = .inr y) : isTm (kd K y.2) = false := by
  unfold prF at h
  cases e : unF K ex p with
  | inl z => rw [e] at h; cases h
  | inr z => rw [e] at h; exact lpG_exit _ _ _ _ h
theorem rk2 {k : Int} (h : isTm k = false) : rk k ≤ 2 := by
  unfold isTm at h
  unfold rk
  rw [if_neg (of_decide_eq_false h)]
  repeat' split
  all_goals decide
theorem rk1 {k : Int} (h : isTm k = false) (h' : isPm k = false) : rk k ≤ 1 := by
  unfold isTm at h
  unfold isPm at h'
  unfold rk
  rw [if_neg (of_decide_eq_false h), if_neg (of_decide_eq_false h')]
  repeat' split
  all_goals decide
theorem LP2 (hx : ∀ p, p ≤ K.length → Pos K p (ex p)) (hE : EOk K al ex m) {fs : List BF} {pe : PD} {cm : Bool} (hn : Nal al fs) (ht : Top K 2 pe) : ∀ (n : Nat) (e : EX) (p : Nat), m ≤ p + 1 → K.length < n + p → p ≤ K.length →
    GO K al fs pe cm e p = match lpG isPm K (prF K ex) n e p with
      | .inl q => .inl q
      | .inr y => GO K al fs pe cm y.1 y.2
  | 0, e, p, h0, h1, h2 => by omega
  | n + 1, e, p, h0, h1, h2 => by
    unfold lpG
    by_cases q : isPm (kd K p) = true
    · rw [if_pos q]
      have q' : kd K p = 19 ∨ kd K p = 20 := by unfold isPm at q; exact of_decide_eq_true q
      have hl : p < K.length := kd_lt fun z => by rw [z] at q'; rcases q' with q' | q' <;> exact absurd q' (by decide)
      have r2 : rk (kd K p) = 2 := by rcases q' with q' | q' <;> (rw [q']; rfl)
      have st : goS K al fs pe cm e p = .inr (fs, (e, p) :: pe, cm, none, none, p + 1) := by
        unfold goS
        rw [r2, if_pos (Or.inl (by decide)), red_top ht]
        simp
      have e1 : GO K al fs pe cm e p = DU K al fs ((e, p) :: pe) cm none (p + 1) := SYQ_st h2 (show p + 1 ≤ K.length from hl) st
      rw [e1, PR_ok hx hE (pe := (e, p) :: pe) (p := p + 1) hn (show rk (kd K p) < 3 by omega) (by omega) hl (mayC_op (by rcases q' with q' | q' <;> (rw [q']; decide)))]
      have hu := prF_pos hx (p := p + 1) hl
      cases e2 : prF K ex (p + 1) with
      | inl y => rfl
      | inr y =>
        rw [e2] at hu
        obtain ⟨-, -, p1, p2, -⟩ := hu
        show GO K al fs ((e, p) :: pe) cm y.1 y.2 = _
        rw [GO_red (r := 2) (by decide) (rk2 (prF_exit e2))]
        have e3 : red K 2 ((e, p) :: pe) y.1 = (pe, .add e y.1) := by
          show (if 2 ≤ rk (kd K p) then red K 2 pe (.add e y.1) else _) = _
          rw [if_pos (by rw [r2]; exact Nat.le_refl _), red_top ht]
        rw [e3]
        exact LP2 hx hE hn ht n _ _ (by omega) (by omega) p2
    · rw [if_neg q]
theorem SM_ok (hx : ∀ p, p ≤ K.length → Pos K p (ex p)) (hE : EOk K al ex m) {fs : List BF} {pe : PD} {cm : Bool} {p : Nat} (hn : Nal al fs) (ht : Top K 2 pe) (hm0 : m ≤ p + 1) (hp : p ≤ K.length) (hm : ¬ (kd K p = 11 ∧ mayC K fs none p = true)) :
    DU K al fs pe cm none p = match smF K ex p with
      | .inl q => .inl q
      | .inr y => GO K al fs pe cm y.1 y.2 := by
  rw [PR_ok hx hE hn (by cases pe with | nil => trivial | cons x l => exact Nat.lt_trans ht (by decide)) hm0 hp hm]
  unfold smF
  have hu := prF_pos hx hp
  cases e : prF K ex p with
  | inl y => rfl
  | inr y =>
    rw [e] at hu
    obtain ⟨-, -, p1, p2, -⟩ := hu
    exact LP2 hx hE hn ht _ _ _ (by omega) (by omega) p2
theorem lpG_tm {ok : Int → Bool} {sub : Nat → PR} (hs : ∀ p y, sub p = .inr y → isTm (kd K y.2) = false) : ∀ (n : Nat) (e : EX) (p : Nat) (y : EX × Nat), isTm (kd K p) = false → lpG ok K sub n e p = .inr y → isTm (kd K y.2) = false
  | 0, e, p, y, _, h => by cases h
  | n + 1, e, p, y, h0, h => by
    unfold lpG at h
    by_cases q : ok (kd K p) = true
    · rw [if_pos q] at h
      cases e2 : sub (p + 1) with
      | inl z => rw [e2] at h; cases h
      | inr z => rw [e2] at h; exact lpG_tm hs n _ _ _ (hs _ _ e2) h
    · rw [if_neg q] at h
      cases h
      exact h0
theorem smF_exit {p : Nat} {y : EX × Nat} (h : smF K ex p = .inr y) : rk (kd K y.2) ≤ 1 := by
  unfold smF at h
  cases e : prF K ex p with
  | inl z => rw [e] at h; cases h
  | inr z =>
    rw [e] at h
    exact rk1 (lpG_tm (fun p y => prF_exit) _ _ _ _ (prF_exit e) h) (lpG_exit _ _ _ _ h)
theorem EX_ok (hx : ∀ p, p ≤ K.length → Pos K p (ex p)) (hE : EOk K al ex m) {fs : List BF} {p : Nat} (hn : Nal al fs) (hm0 : m ≤ p + 1) (hp : p ≤ K.length) (hm : ¬ (kd K p = 11 ∧ mayC K fs none p = true)) : match exF K ex p with
  | .inl q => DU K al fs [] false none p = .inl q
  | .inr y => ∃ cm, DU K al fs [] false none p = GO K al fs [] cm y.1 y.2 ∧ rk (kd K y.2) ≤ 1 ∧ (rk (kd K y.2) = 1 → cm = true) := by
  have h1 := SM_ok hx hE (pe := []) (cm := false) hn trivial hm0 hp hm
  have hu := smF_pos hx hp
  unfold exF
  cases e : smF K ex p with
  | inl y => rw [e] at h1; exact h1
  | inr y =>
    rw [e] at h1 hu
    obtain ⟨-, -, p1, p2, -⟩ := hu
    have hr := smF_exit e
    show match (if isCm (kd K y.2) = true then _ else _ : PR) with | .inl q => _ | .inr y => _
    by_cases q : isCm (kd K y.2) = true
    · rw [if_pos q]
      have q' : kd K y.2 = 17 ∨ kd K y.2 = 18 := by unfold isCm at q; exact of_decide_eq_true q
      have hl : y.2 < K.length := kd_lt fun z => by rw [z] at q'; rcases q' with q' | q' <;> exact absurd q' (by decide)
      have r1 : rk (kd K y.2) = 1 := by rcases q' with q' | q' <;> (rw [q']; rfl)
      have st : goS K al fs [] false y.1 y.2 = .inr (fs, [(y.1, y.2)], true, none, none, y.2 + 1) := by
        unfold goS
        rw [r1, if_pos (Or.inr ⟨rfl, rfl⟩)]
        simp [red]
      have e1 : GO K al fs [] false y.1 y.2 = DU K al fs [(y.1, y.2)] true none (y.2 + 1) := SYQ_st p2 (show y.2 + 1 ≤ K.length from hl) st
      have h2 := SM_ok hx hE (pe := [(y.1, y.2)]) (cm := true) (p := y.2 + 1) hn (show rk (kd K y.2) < 2 by omega) (by omega) hl (mayC_op (by rcases q' with q' | q' <;> (rw [q']; decide)))
      have h1' : DU K al fs [] false none p = DU K al fs [(y.1, y.2)] true none (y.2 + 1) := h1.trans e1
      cases e2 : smF K ex (y.2 + 1) with
      | inl z => rw [e2] at h2; exact h1'.trans h2
      | inr z =>
        rw [e2] at h2
        have hr2 := smF_exit e2
        refine ⟨true, h1'.trans (h2.trans ?_), hr2, fun _ => rfl⟩
        show GO K al fs [(y.1, y.2)] true z.1 z.2 = GO K al fs [] true (.add y.1 z.1) z.2
        rw [GO_red (r := 1) (by decide) hr2]
        have e3 : red K 1 [(y.1, y.2)] z.1 = ([], .add y.1 z.1) := by
          show (if 1 ≤ rk (kd K y.2) then red K 1 [] (.add y.1 z.1) else _) = _
          rw [if_pos (by rw [r1]; exact Nat.le_refl _)]; rfl
        rw [e3]
    · rw [if_neg q]
      refine ⟨false, h1, hr, fun z => absurd z (fun z => ?_)⟩
      unfold isCm at q
      unfold rk at z
      have q' := of_decide_eq_false (Bool.eq_false_iff.mpr q)
      rw [if_neg q'] at z
      split at z
      · cases z
      · split at z
        · cases z
        · cases z
end SY3
theorem pE_ok : ∀ f : Nat, EOk K al (pE K f) (K.length + 1 - f)
  | 0 => fun x fs p h1 h2 _ => by omega
  | f + 1 => fun x fs p h1 h2 h3 => by
    have := EX_ok (al := al) (fun p hp => pE_pos f p hp) (pE_ok f) (fs := x :: fs) (p := p) (fun z => by cases z.2) (by omega) h2 h3
    exact this
/-- an expr of its own -/
theorem SY_expr {f p : Nat} (hf : K.length < f + p) (hp : p ≤ K.length) : DU K false [] [] false none p = pE K f p := by
  cases f with
  | zero => omega
  | succ f =>
    have h := EX_ok (K := K) (al := false) (fun p hp => pE_pos f p hp) (pE_ok f) (fs := []) (p := p) (fun z => by cases z.1) (by omega) hp (fun z => by have := z.2; unfold mayC isCa at this; simp at this)
    have hq := pE_pos (K := K) (f + 1) p hp
    show _ = exF K (pE K f) p
    cases e : exF K (pE K f) p with
    | inl q => rw [e] at h; exact h
    | inr y =>
      rw [e] at h
      have e' : pE K (f + 1) p = .inr y := e
      rw [e'] at hq
      obtain ⟨cm, g1, g2, g3⟩ := h
      rw [g1]
      refine SYQ_fin hq.2.2.2.1 ?_
      show goS K false [] [] cm y.1 y.2 = _
      unfold goS
      rw [if_neg (fun q => by
        rcases q with q | q
        · omega
        · have := g3 q.1; rw [this] at q; cases q.2)]
      rfl
/-- a call of its own -/
theorem SY_call {f p : Nat} (hf : K.length < f + p + 1) (h0 : kd K p = 0) (h1 : kd K (p + 1) = 10) : DU K true [] [] false none p = caF K (pE K f) p := by
  rw [CA_ok (K := K) (al := true) (fun p hp => pE_pos f p hp) (pE_ok f) (by omega) h0 h1]
  cases caF K (pE K f) p with
  | inl q => rfl
  | inr y => rfl
end Shunt
