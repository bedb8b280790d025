/-! PLAIN 0: what a function in Option answers, by a predicate on its answer; rules for its pieces -/
def Ok {α : Type} (o : Option α) (P : α → Prop) : Prop := ∃ a, o = some a ∧ P a
theorem Ok.imp {α : Type} {o : Option α} {P Q : α → Prop} (h : Ok o P) (k : ∀ a, P a → Q a) : Ok o Q := by
  obtain ⟨a, e, p⟩ := h
  exact ⟨a, e, k a p⟩
theorem Ok.bd {α β : Type} {o : Option α} {K : α → Option β} {P : α → Prop} {Q : β → Prop} (h : Ok o P) (k : ∀ a, P a → Ok (K a) Q) : Ok (o.bind K) Q := by
  obtain ⟨a, e, p⟩ := h
  rw [e]; exact k a p
theorem Ok.and {α : Type} {o : Option α} {P Q : α → Prop} (h : Ok o P) (k : Ok o Q) : Ok o (fun a => P a ∧ Q a) := by
  obtain ⟨a, e, p⟩ := h
  obtain ⟨b, e', q⟩ := k
  rw [e] at e'; cases e'
  exact ⟨a, e, p, q⟩
section OkRows
variable {α β : Type} {P : α → Prop} {Q : β → Prop}
theorem Ok_some {a : α} : Ok (some a) P ↔ P a := ⟨fun ⟨b, e, p⟩ => by cases e; exact p, fun p => ⟨a, rfl, p⟩⟩
theorem Ok_none : Ok (none : Option α) P ↔ False := ⟨fun ⟨b, e, p⟩ => (by cases e), fun p => p.elim⟩
theorem Ok_bind {o : Option β} {K : β → Option α} : Ok (o.bind K) P ↔ Ok o (fun b => Ok (K b) P) := by
  cases o with
  | none => exact ⟨fun ⟨_, e, _⟩ => (by cases e), fun ⟨_, e, _⟩ => (by cases e)⟩
  | some b => exact (Ok_some (a := b) (P := fun b => Ok (K b) P)).symm
theorem Ok_ite {c : Prop} [Decidable c] {a b : Option α} : Ok (if c then a else b) P ↔ (c → Ok a P) ∧ (¬ c → Ok b P) := by
  by_cases h : c
  · rw [if_pos h]; exact ⟨fun k => ⟨fun _ => k, fun n => absurd h n⟩, fun k => k.1 h⟩
  · rw [if_neg h]; exact ⟨fun k => ⟨fun n => absurd n h, fun _ => k⟩, fun k => k.2 h⟩
theorem Ok_bd1 {a : β} {K : β → Option α} : Ok (bd1 a K) P ↔ Ok (K a) P := Iff.rfl
theorem Ok_jn {F : β → Option α} {G : (β → Option α) → Option α} : Ok (jn F G) P ↔ Ok (G F) P := Iff.rfl
theorem Ok_sb {o : Option (Sum α β)} {K : β → Option α} : Ok (sb o K) P ↔ Ok o (fun s => match s with | .inl r => P r | .inr b => Ok (K b) P) := by
  cases o with
  | none => exact ⟨fun ⟨_, e, _⟩ => (by cases e), fun ⟨_, e, _⟩ => (by cases e)⟩
  | some s =>
    cases s with
    | inl r => exact ⟨fun ⟨_, e, p⟩ => ⟨_, rfl, by cases e; exact p⟩, fun ⟨_, e, p⟩ => by cases e; exact ⟨_, rfl, p⟩⟩
    | inr b => exact ⟨fun p => ⟨_, rfl, p⟩, fun ⟨_, e, p⟩ => by cases e; exact p⟩
theorem Ok_opt {c : Prop} [Decidable c] {x : α} : Ok (if c then some x else none) P ↔ c ∧ P x := by
  by_cases h : c
  · rw [if_pos h]; exact ⟨fun k => ⟨h, Ok_some.mp k⟩, fun k => Ok_some.mpr k.2⟩
  · rw [if_neg h]; exact ⟨fun ⟨_, e, _⟩ => (by cases e), fun k => absurd k.1 h⟩
end OkRows
section OkOps
variable {h : AH} {t : Nat} {k a i v n : Int} {L : List Nat}
theorem Ok_gf {P : Int → Prop} : Ok (gf h t k a) P ↔ aT h a = t ∧ P (aV h a k) := Ok_opt
theorem Ok_pf {P : AH → Prop} : Ok (pf h t k a v) P ↔ aT h a = t ∧ P (setV h a k v) := Ok_opt
theorem Ok_ga {P : Int → Prop} : Ok (ga h t a i) P ↔ (aT h a = t ∧ 0 ≤ i ∧ i < aL h a) ∧ P (aV h a i) := Ok_opt
theorem Ok_pa {P : AH → Prop} : Ok (pa h t a i v) P ↔ (aT h a = t ∧ 0 ≤ i ∧ i < aL h a) ∧ P (setV h a i v) := Ok_opt
theorem Ok_pao {P : AH → Prop} : Ok (pao h t a i v) P ↔ ((aT h a = t ∧ 0 ≤ i ∧ i < aL h a) ∧ ((v < 0 ∧ nulok t = true) ∨ (0 ≤ v ∧ elok t (aT h v) = true))) ∧ P (setV h a i v) := Ok_opt
theorem Ok_al {P : Int → Prop} : Ok (al h t a) P ↔ aT h a = t ∧ P (aL h a) := Ok_opt
theorem Ok_tgc {P : Unit → Prop} : Ok (tgc h t a) P ↔ aT h a = t ∧ P () := Ok_opt
theorem Ok_nwa {P : Int × AH → Prop} : Ok (nwa h t n) P ↔ (0 ≤ n ∧ n ≤ 50000000) ∧ P (h.1, mkc h t n n) := Ok_opt
theorem Ok_ckc {P : Unit → Prop} : Ok (ckc h L a) P ↔ (a < 0 ∨ L.contains (aT h a) = true) ∧ P () := Ok_opt
theorem Ok_gfm {P : Int → Prop} : Ok (gfm h L k a) P ↔ L.contains (aT h a) = true ∧ P (aV h a k) := Ok_opt
theorem Ok_pfm {P : AH → Prop} : Ok (pfm h L k a v) P ↔ L.contains (aT h a) = true ∧ P (setV h a k v) := Ok_opt
theorem Ok_clc {kc : Nat → Int} {P : Int × AH → Prop} : Ok (clc kc h a) P ↔ (aT h a = 66 ∧ kc (1000 + a.toNat) ≠ 1) ∧ P (h.1, clB h a) := Ok_opt
theorem Ok_cpc {sp b dp : Int} {P : AH → Prop} : Ok (cpc h t a sp b dp n) P ↔ cpOk h t a sp b dp n ∧ P (cpH h a sp b dp n) := Ok_opt
theorem Ok_dvc {x y : Int} {P : Int → Prop} : Ok (dvc x y) P ↔ (0 ≤ x ∧ 0 < y) ∧ P (x / y) := Ok_opt
theorem Ok_rmc {x y : Int} {P : Int → Prop} : Ok (rmc x y) P ↔ (0 ≤ x ∧ 0 < y) ∧ P (x % y) := Ok_opt
theorem Ok_rdc {σ : MS} {d : Nat} {P : Int → Prop} : Ok (rdc σ d i) P ↔ (0 ≤ i ∧ i < LN d) ∧ P (σ d i) := Ok_opt
theorem Ok_wrc {σ : MS} {d : Nat} {P : MS → Prop} : Ok (wrc σ d i v) P ↔ (0 ≤ i ∧ i < LN d) ∧ P (up σ d i v) := Ok_opt
theorem Ok_iof {P : Int → Prop} {T : Nat} : Ok (iof h T a) P ↔ (a < 0 → P 0) ∧ (¬ a < 0 → (aT h a = T → P 1) ∧ (aT h a ≠ T → (13 ≤ aT h a ∧ aT h a ≤ 25) ∧ P 0)) := by
  unfold iof
  rw [Ok_ite, Ok_ite, Ok_some, Ok_some, Ok_opt]
end OkOps
/-- loops: by a measure and what each turn owes -/
theorem lp_ok {α β : Type} {F : (α → Option β) → α → Option β} (μ : α → Nat) (I : α → Prop) (P : α → β → Prop)
    (step : ∀ (rec : α → Option β) (a : α), I a → (∀ b, I b → μ b < μ a → Ok (rec b) (P b)) → Ok (F rec a) (P a)) : ∀ (n : Nat) (a : α), I a → μ a < n → Ok (lp F n a) (P a) := by
  intro n
  induction n with
  | zero => intro a _ h; exact absurd h (Nat.not_lt_zero _)
  | succ n ih =>
    intro a ha h
    exact step _ a ha fun b hb hlt => ih b hb (by omega)
theorem wr_id' {x : Int} (h1 : -2147483648 ≤ x) (h2 : x < 2147483648) : wr x = x := wr_id ⟨h1, h2⟩
theorem wl_id' {x : Int} (h1 : -9223372036854775808 ≤ x) (h2 : x < 9223372036854775808) : wl x = x := wl_id ⟨h1, h2⟩
theorem FU_lt {n : Nat} (h : n < 1000000) : n < FU := h
