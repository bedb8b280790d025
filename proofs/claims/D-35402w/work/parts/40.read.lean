/-! S1: trees, and how a row of classes is read (an expr) -/
set_option maxRecDepth 100000
set_option linter.unusedVariables false
abbrev EX : Type := Lean.Grind.CommRing.Expr
def kd (K : List Int) (p : Nat) : Int := K.getD p 24
theorem kd_out {K : List Int} {p : Nat} (h : K.length ≤ p) : kd K p = 24 := by
  unfold kd; rw [List.getD_eq_getElem?_getD, List.getElem?_eq_none h]; rfl
theorem kd_lt {K : List Int} {p : Nat} (h : kd K p ≠ 24) : p < K.length := Nat.lt_of_not_le fun q => h (kd_out q)
theorem kd_eq {K : List Int} {p : Nat} {k : Int} (h : kd K p = k) (n : k ≠ 24) : p < K.length := kd_lt (by rw [h]; exact n)
/-- the first token of an expr; what is behind it -/
def frm : EX → Nat
  | .var t => t
  | .add l _ => frm l
  | .neg e => frm e - 1
  | .sub e _ => frm e - 1
  | .pow _ n => n
  | .mul e _ => frm e
  | _ => 0
def isMul : EX → Bool
  | .mul _ _ => true
  | _ => false
def fin : EX → Nat
  | .var t => t + 1
  | .add _ r => fin r
  | .neg e => fin e
  | .sub e _ => fin e + 1
  | .pow a n => if isMul a = true then fin a + 1 else n + 3
  | .mul e r => if isMul r = true then fin r else fin e
  | _ => 0
abbrev PR : Type := Sum Nat (EX × Nat)
def pbd (r : PR) (F : EX → Nat → PR) : PR := match r with
  | .inl q => .inl q
  | .inr x => F x.1 x.2
def lpG (ok : Int → Bool) (K : List Int) (sub : Nat → PR) : Nat → EX → Nat → PR
  | 0, _, p => .inl p
  | n + 1, e, p => if ok (kd K p) = true then pbd (sub (p + 1)) (fun r q => lpG ok K sub n (.add e r) q) else .inr (e, p)
/-- the exprs of a call: one at least -/
def agF (K : List Int) (ex : Nat → PR) : Nat → Nat → Sum Nat (List EX × Nat)
  | 0, p => .inl p
  | n + 1, p => match ex p with
    | .inl q => .inl q
    | .inr x => if kd K x.2 = 14 then (match agF K ex n (x.2 + 1) with
      | .inl q => .inl q
      | .inr y => .inr (x.1 :: y.1, y.2)) else .inr ([x.1], x.2)
def asl : List EX → EX
  | [] => .num 0
  | e :: l => .mul e (asl l)
/-- a call: from its name on -/
def caF (K : List Int) (ex : Nat → PR) (p : Nat) : PR :=
  if kd K (p + 1) = 10 then
    if kd K (p + 2) = 11 then .inr (.pow (.num 0) p, p + 3)
    else match agF K ex (K.length + 1) (p + 2) with
      | .inl q => .inl q
      | .inr y => if kd K y.2 = 11 then .inr (.pow (asl y.1) p, y.2 + 1) else .inl y.2
  else .inl (p + 1)
def isAt (k : Int) : Bool := decide (k = 0 ∨ k = 1 ∨ k = 8 ∨ k = 9)
def plF (K : List Int) (ex : Nat → PR) (p : Nat) : PR :=
  if kd K p = 10 then pbd (ex (p + 1)) fun e q => if kd K q = 11 then .inr (.sub e (.num 0), q + 1) else .inl q
  else if kd K p = 0 ∧ kd K (p + 1) = 10 then caF K ex p
  else if isAt (kd K p) = true then .inr (.var p, p + 1) else .inl p
def unF (K : List Int) (ex : Nat → PR) (p : Nat) : PR := if kd K p = 22 then pbd (plF K ex (p + 1)) fun e q => .inr (.neg e, q) else plF K ex p
def isTm (k : Int) : Bool := decide (k = 21)
def isPm (k : Int) : Bool := decide (k = 19 ∨ k = 20)
def isCm (k : Int) : Bool := decide (k = 17 ∨ k = 18)
def prF (K : List Int) (ex : Nat → PR) (p : Nat) : PR := pbd (unF K ex p) fun e q => lpG isTm K (unF K ex) (K.length + 1) e q
def smF (K : List Int) (ex : Nat → PR) (p : Nat) : PR := pbd (prF K ex p) fun e q => lpG isPm K (prF K ex) (K.length + 1) e q
def exF (K : List Int) (ex : Nat → PR) (p : Nat) : PR := pbd (smF K ex p) fun e q => if isCm (kd K q) = true then pbd (smF K ex (q + 1)) fun r x => .inr (.add e r, x) else .inr (e, q)
def pE (K : List Int) : Nat → Nat → PR
  | 0, p => .inl p
  | f + 1, p => exF K (pE K f) p
/-- an expr as it is read: what stands where -/
def WPx (K : List Int) : EX → Prop
  | .var t => isAt (kd K t) = true
  | .add l r => (WPx K l ∧ WPx K r) ∧ (isMul l = false ∧ isMul r = false) ∧ fin l + 1 = frm r ∧ (isTm (kd K (frm r - 1)) = true ∨ isPm (kd K (frm r - 1)) = true ∨ isCm (kd K (frm r - 1)) = true)
  | .neg e => WPx K e ∧ isMul e = false ∧ 1 ≤ frm e ∧ kd K (frm e - 1) = 22
  | .sub e x => WPx K e ∧ isMul e = false ∧ 1 ≤ frm e ∧ x = .num 0
  | .pow a n => (kd K n = 0 ∧ kd K (n + 1) = 10) ∧ ((WPx K a ∧ isMul a = true ∧ frm a = n + 2) ∨ a = .num 0)
  | .mul e r => (WPx K e ∧ isMul e = false) ∧ ((WPx K r ∧ isMul r = true ∧ fin e + 1 = frm r) ∨ r = .num 0)
  | _ => False
/-- where an expr lies -/
def Pos (K : List Int) (p : Nat) (r : PR) : Prop := match r with
  | .inl q => p ≤ q ∧ q ≤ K.length
  | .inr x => frm x.1 = p ∧ fin x.1 = x.2 ∧ p < x.2 ∧ x.2 ≤ K.length ∧ isMul x.1 = false ∧ WPx K x.1
theorem Pos.bd {K : List Int} {p p' : Nat} {r : PR} {F : EX → Nat → PR} (h : Pos K p r) (hp : p' ≤ p) (k : ∀ e q, frm e = p → fin e = q → p < q → q ≤ K.length → (isMul e = false ∧ WPx K e) → Pos K p' (F e q)) : Pos K p' (pbd r F) := by
  cases r with
  | inl q => exact ⟨Nat.le_trans hp h.1, h.2⟩
  | inr x => exact k x.1 x.2 h.1 h.2.1 h.2.2.1 h.2.2.2.1 h.2.2.2.2
section Pos
variable {K : List Int} {ex : Nat → PR}
theorem lpG_pos {ok : Int → Bool} (h24 : ok 24 = false) (hok : ∀ k, ok k = true → isTm k = true ∨ isPm k = true ∨ isCm k = true) {sub : Nat → PR} (hs : ∀ p, p ≤ K.length → Pos K p (sub p)) {p0 : Nat} : ∀ (n : Nat) (e : EX) (p : Nat), frm e = p0 → fin e = p → p0 < p → p ≤ K.length → (isMul e = false ∧ WPx K e) → Pos K p0 (lpG ok K sub n e p)
  | 0, e, p, h1, h2, h3, h4, h5 => ⟨Nat.le_of_lt h3, h4⟩
  | n + 1, e, p, h1, h2, h3, h4, h5 => by
    unfold lpG
    by_cases q : ok (kd K p) = true
    · rw [if_pos q]
      have hl : p < K.length := kd_lt fun z => by rw [z, h24] at q; cases q
      refine (hs (p + 1) hl).bd (by omega) fun r x a1 a2 a3 a4 a5 => ?_
      refine lpG_pos h24 hok hs n _ _ h1 a2 (by omega) a4 ⟨rfl, ⟨h5.2, a5.2⟩, ⟨h5.1, a5.1⟩, by omega, ?_⟩
      rw [a1, Nat.add_sub_cancel]
      exact hok _ q
    · rw [if_neg q]; exact ⟨h1, h2, h3, h4, h5⟩
theorem agF_pos (hx : ∀ p, p ≤ K.length → Pos K p (ex p)) : ∀ (n p : Nat), p ≤ K.length → match agF K ex n p with
    | .inl q => p ≤ q ∧ q ≤ K.length
    | .inr x => frm (asl x.1) = p ∧ fin (asl x.1) = x.2 ∧ p < x.2 ∧ x.2 ≤ K.length ∧ isMul (asl x.1) = true ∧ WPx K (asl x.1)
  | 0, p, h => ⟨Nat.le_refl _, h⟩
  | n + 1, p, h => by
    have h1 := hx p h
    unfold agF
    cases e : ex p with
    | inl q => rw [e] at h1; exact h1
    | inr x =>
      rw [e] at h1
      obtain ⟨a1, a2, a3, a4, a5⟩ := h1
      dsimp only
      by_cases q : kd K x.2 = 14
      · rw [if_pos q]
        have hl := kd_eq q (by decide)
        have h2 := agF_pos hx n (x.2 + 1) hl
        cases e2 : agF K ex n (x.2 + 1) with
        | inl y => rw [e2] at h2; exact ⟨by have := h2.1; omega, h2.2⟩
        | inr y =>
          rw [e2] at h2
          obtain ⟨b1, b2, b3, b4, b5⟩ := h2
          refine ⟨a1, ?_, by show p < y.2; omega, b4, rfl, ⟨a5.2, a5.1⟩, Or.inl ⟨b5.2, b5.1, by omega⟩⟩
          show (if isMul (asl y.1) = true then fin (asl y.1) else fin x.1) = y.2
          rw [if_pos b5.1, b2]
      · rw [if_neg q]
        exact ⟨a1, a2, a3, a4, rfl, ⟨a5.2, a5.1⟩, Or.inr rfl⟩
theorem caF_pos (hx : ∀ p, p ≤ K.length → Pos K p (ex p)) {p : Nat} (h : p < K.length) (h0 : kd K p = 0) : Pos K p (caF K ex p) := by
  unfold caF
  by_cases q : kd K (p + 1) = 10
  · rw [if_pos q]
    have h1 := kd_eq q (by decide)
    by_cases q2 : kd K (p + 2) = 11
    · rw [if_pos q2]
      have h2 := kd_eq q2 (by decide)
      exact ⟨rfl, rfl, by show p < p + 3; omega, h2, rfl, ⟨h0, q⟩, Or.inr rfl⟩
    · rw [if_neg q2]
      have h3 := agF_pos hx (K.length + 1) (p + 2) h1
      cases e : agF K ex (K.length + 1) (p + 2) with
      | inl y => rw [e] at h3; exact ⟨by have := h3.1; omega, h3.2⟩
      | inr y =>
        rw [e] at h3
        obtain ⟨b1, b2, b3, b4, b5⟩ := h3
        dsimp only
        by_cases q3 : kd K y.2 = 11
        · rw [if_pos q3]
          have h4 := kd_eq q3 (by decide)
          refine ⟨rfl, ?_, by show p < y.2 + 1; omega, h4, rfl, ⟨h0, q⟩, Or.inl ⟨b5.2, b5.1, b1⟩⟩
          show (if isMul (asl y.1) = true then fin (asl y.1) + 1 else p + 3) = y.2 + 1
          rw [if_pos b5.1, b2]
        · rw [if_neg q3]; exact ⟨by omega, b4⟩
  · rw [if_neg q]; exact ⟨by omega, h⟩
theorem plF_pos (hx : ∀ p, p ≤ K.length → Pos K p (ex p)) {p : Nat} (h : p ≤ K.length) : Pos K p (plF K ex p) := by
  unfold plF
  by_cases q : kd K p = 10
  · rw [if_pos q]
    have h1 := kd_eq q (by decide)
    refine (hx (p + 1) h1).bd (by omega) fun e x a1 a2 a3 a4 a5 => ?_
    by_cases q2 : kd K x = 11
    · rw [if_pos q2]
      have h2 := kd_eq q2 (by decide)
      refine ⟨?_, ?_, by show p < x + 1; omega, h2, rfl, a5.2, a5.1, by omega, rfl⟩
      · show frm e - 1 = p; omega
      · show fin e + 1 = x + 1; omega
    · rw [if_neg q2]; exact ⟨by omega, a4⟩
  · rw [if_neg q]
    by_cases q2 : kd K p = 0 ∧ kd K (p + 1) = 10
    · rw [if_pos q2]; exact caF_pos hx (kd_eq q2.1 (by decide)) q2.1
    · rw [if_neg q2]
      by_cases q3 : isAt (kd K p) = true
      · rw [if_pos q3]
        have h1 : p < K.length := kd_lt fun z => by rw [z] at q3; cases q3
        exact ⟨rfl, rfl, Nat.lt_succ_self _, h1, rfl, q3⟩
      · rw [if_neg q3]; exact ⟨Nat.le_refl _, h⟩
theorem unF_pos (hx : ∀ p, p ≤ K.length → Pos K p (ex p)) {p : Nat} (h : p ≤ K.length) : Pos K p (unF K ex p) := by
  unfold unF
  by_cases q : kd K p = 22
  · rw [if_pos q]
    have h1 := kd_eq q (by decide)
    refine (plF_pos hx (p := p + 1) h1).bd (by omega) fun e x a1 a2 a3 a4 a5 => ?_
    exact ⟨by show frm e - 1 = p; omega, a2, by show p < x; omega, a4, rfl, a5.2, a5.1, by omega, by rw [a1, Nat.add_sub_cancel]; exact q⟩
  · rw [if_neg q]; exact plF_pos hx h
theorem prF_pos (hx : ∀ p, p ≤ K.length → Pos K p (ex p)) {p : Nat} (h : p ≤ K.length) : Pos K p (prF K ex p) := by
  unfold prF
  exact (unF_pos hx h).bd (Nat.le_refl _) fun e x a1 a2 a3 a4 a5 => lpG_pos rfl (fun k h => Or.inl h) (fun p hp => unF_pos hx hp) _ _ _ a1 a2 a3 a4 a5
theorem smF_pos (hx : ∀ p, p ≤ K.length → Pos K p (ex p)) {p : Nat} (h : p ≤ K.length) : Pos K p (smF K ex p) := by
  unfold smF
  exact (prF_pos hx h).bd (Nat.le_refl _) fun e x a1 a2 a3 a4 a5 => lpG_pos rfl (fun k h => Or.inr (Or.inl h)) (fun p hp => prF_pos hx hp) _ _ _ a1 a2 a3 a4 a5
theorem exF_pos (hx : ∀ p, p ≤ K.length → Pos K p (ex p)) {p : Nat} (h : p ≤ K.length) : Pos K p (exF K ex p) := by
  unfold exF
  refine (smF_pos hx h).bd (Nat.le_refl _) fun e x a1 a2 a3 a4 a5 => ?_
  by_cases q : isCm (kd K x) = true
  · rw [if_pos q]
    have h1 : x < K.length := kd_lt fun z => by rw [z] at q; cases q
    refine (smF_pos hx (p := x + 1) h1).bd (by omega) fun r y b1 b2 b3 b4 b5 => ?_
    exact ⟨a1, b2, by show p < y; omega, b4, rfl, ⟨a5.2, b5.2⟩, ⟨a5.1, b5.1⟩, by omega, Or.inr (Or.inr (by rw [b1, Nat.add_sub_cancel]; exact q))⟩
  · rw [if_neg q]; exact ⟨a1, a2, a3, a4, a5⟩
end Pos
theorem pE_pos {K : List Int} : ∀ (f p : Nat), p ≤ K.length → Pos K p (pE K f p)
  | 0, p, h => ⟨Nat.le_refl _, h⟩
  | f + 1, p, h => exF_pos (fun p hp => pE_pos f p hp) h
