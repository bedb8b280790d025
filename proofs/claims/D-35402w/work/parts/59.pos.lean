/-! S4: where statements stand -/
set_option maxRecDepth 100000
set_option linter.unusedVariables false
def PSt (K : List Int) : EX → Nat → Nat → Nat → Prop
  | .num _, md, p, q => p ≤ q
  | .mul e r, md, p, q => if md = 1 then (isS e = true ∧ ∃ m, PSt K e 0 p m ∧ PSt K r 1 m q) else (isS e = true ∧ (isS r = true ∨ r = .num 0) ∧ ∃ m m', PSt K e 0 p m ∧ m ≤ m' ∧ PSt K r 0 m' q)
  | .pow v k, md, p, q => (WPx K v ∧ isMul v = false ∧ q = fin v + 1 ∧ frm v < fin v) ∧ ((k = 0 ∧ frm v = p + 3 ∧ kd K (p + 1) = 0) ∨ (k = 1 ∧ frm v = p + 2 ∧ kd K p = 0) ∨ (k = 2 ∧ ∃ a, v = .pow a p) ∨ (k = 3 ∧ frm v = p + 1))
  | .var t, md, p, q => t = p ∧ p < q
  | .sub l x, md, p, q => p < q ∧ ∃ m, PSt K l 1 (p + 1) m ∧ m ≤ q ∧ ∃ w : Bool, x = .natCast (2 * q + w.toNat) ∧ (w = true → q = m + 1 ∧ kd K m = 13)
  | .add t bs, md, p, q => (WPx K t ∧ isMul t = false ∧ frm t = p + 1 ∧ frm t < fin t) ∧ PSt K bs 2 (fin t) q
  | _, _, _, _ => False
section PS
variable {K : List Int}
theorem PSt_le : ∀ {e : EX} {md p q : Nat}, PSt K e md p q → p ≤ q
  | .num _, md, p, q, h => h
  | .mul e r, md, p, q, h => by
    unfold PSt at h
    by_cases z : md = 1
    · rw [if_pos z] at h
      obtain ⟨-, m, h1, h2⟩ := h
      exact Nat.le_trans (PSt_le h1) (PSt_le h2)
    · rw [if_neg z] at h
      obtain ⟨-, -, m, m', h1, h2, h3⟩ := h
      have := PSt_le h1
      have := PSt_le h3
      omega
  | .pow v k, md, p, q, ⟨⟨h1, h2, h3, h4⟩, h5⟩ => by
    rcases h5 with h5 | h5 | ⟨_, a, rfl⟩ | h5
    · omega
    · omega
    · have : frm (Lean.Grind.CommRing.Expr.pow a p) = p := rfl; omega
    · omega
  | .var t, md, p, q, h => Nat.le_of_lt h.2
  | .sub l x, md, p, q, h => Nat.le_of_lt h.1
  | .add t bs, md, p, q, ⟨h1, h2⟩ => by have := PSt_le h2; omega
def BPs (K : List Int) (bl : Nat → SR) (m : Nat) : Prop := ∀ p, m ≤ p → kd K p = 12 → PSt K (bl p).1 0 p (bl p).2.1 ∧ isS (bl p).1 = true
theorem PS_ch1 {t b : EX} {p q m : Nat} (h1 : WPx K t ∧ isMul t = false ∧ frm t = p + 1 ∧ frm t < fin t) (h2 : PSt K b 0 (fin t) m) (hb : isS b = true) (hq : m ≤ q) : PSt K (ch1 t b) 0 p q := by
  refine ⟨h1, ?_⟩
  unfold PSt
  rw [if_neg (by decide)]
  exact ⟨hb, Or.inr rfl, m, m, h2, Nat.le_refl _, hq⟩
theorem PS_ch2 {t b c : EX} {p q m m' : Nat} (h1 : WPx K t ∧ isMul t = false ∧ frm t = p + 1 ∧ frm t < fin t) (h2 : PSt K b 0 (fin t) m) (hb : isS b = true) (hm : m ≤ m') (h3 : PSt K c 0 m' q) (hc : isS c = true) : PSt K (ch2 t b c) 0 p q := by
  refine ⟨h1, ?_⟩
  unfold PSt
  rw [if_neg (by decide)]
  exact ⟨hb, Or.inl hc, m, m', h2, hm, h3⟩
theorem smi_ps {k p : Nat} {r : PR} {p0 : Nat} (h : Pos K p0 r) (hk : ∀ v, WPx K v → frm v = p0 → r = .inr (v, fin v) → (k = 0 ∧ frm v = p + 3 ∧ kd K (p + 1) = 0) ∨ (k = 1 ∧ frm v = p + 2 ∧ kd K p = 0) ∨ (k = 2 ∧ ∃ a, v = .pow a p) ∨ (k = 3 ∧ frm v = p + 1)) {y : EX × Nat} (e : smi K k r = .inr y) : PSt K y.1 0 p y.2 ∧ isS y.1 = true := by
  unfold smi at e
  cases r with
  | inl q => cases e
  | inr x =>
    obtain ⟨h1, h2, h3, h4, h5, h6⟩ := h
    have e' : (if kd K x.2 = 15 then .inr (.pow x.1 k, x.2 + 1) else .inl x.2 : PR) = .inr y := e
    by_cases q : kd K x.2 = 15
    · rw [if_pos q] at e'
      cases e'
      refine ⟨⟨⟨h6, h5, by rw [h2], by rw [h1, h2]; exact h3⟩, hk x.1 h6 h1 (by rw [h2])⟩, rfl⟩
    · rw [if_neg q] at e'; cases e'
theorem cX_pow {p : Nat} {y : EX × Nat} (h : cX K p = .inr y) : ∃ a, y.1 = .pow a p := by
  unfold cX caF at h
  split at h
  · split at h
    · cases h; exact ⟨_, rfl⟩
    · revert h
      cases agF K (pE K (K.length + 1)) (K.length + 1) (p + 2) with
      | inl q => intro h; cases h
      | inr z =>
        dsimp only
        intro h
        split at h
        · cases h; exact ⟨_, rfl⟩
        · cases h
  · cases h
theorem siF_ps {p : Nat} (h : p ≤ K.length) {y : EX × Nat} (e : siF K p = .inr y) : PSt K y.1 0 p y.2 ∧ isS y.1 = true := by
  unfold siF at e
  by_cases q1 : kd K p = 4
  · rw [if_pos q1] at e
    by_cases q2 : kd K (p + 1) = 0
    · rw [if_pos q2] at e
      by_cases q3 : kd K (p + 2) = 16
      · rw [if_pos q3] at e
        have h3 := kd_eq q3 (by decide)
        exact smi_ps (pX_pos (by omega)) (fun v _ hv _ => Or.inl ⟨rfl, by omega, q2⟩) e
      · rw [if_neg q3] at e; cases e
    · rw [if_neg q2] at e; cases e
  · rw [if_neg q1] at e
    by_cases q2 : kd K p = 7
    · rw [if_pos q2] at e
      have h1 := kd_eq q2 (by decide)
      exact smi_ps (pX_pos (by omega)) (fun v _ hv _ => Or.inr (Or.inr (Or.inr ⟨rfl, by omega⟩))) e
    · rw [if_neg q2] at e
      by_cases q3 : kd K p = 0
      · rw [if_pos q3] at e
        have h1 := kd_eq q3 (by decide)
        by_cases q4 : kd K (p + 1) = 10
        · rw [if_pos q4] at e
          exact smi_ps (cX_pos h1 q3) (fun v _ hv hr => Or.inr (Or.inr (Or.inl ⟨rfl, by obtain ⟨a, ha⟩ := cX_pow hr; exact ⟨a, ha⟩⟩))) e
        · rw [if_neg q4] at e
          by_cases q5 : kd K (p + 1) = 16
          · rw [if_pos q5] at e
            have h2 := kd_eq q5 (by decide)
            exact smi_ps (pX_pos (by omega)) (fun v _ hv _ => Or.inr (Or.inl ⟨rfl, by omega, q3⟩)) e
          · rw [if_neg q5] at e; cases e
      · rw [if_neg q3] at e; cases e
theorem brk_ps {p q : Nat} (h1 : p ≤ q) (h2 : q ≤ K.length) (h3 : isBE (kd K p) = false) (h4 : kd K p ≠ 12) : PSt K (brk K p q).1 0 p (brk K p q).2.1 ∧ isS (brk K p q).1 = true := ⟨⟨rfl, (brk_adv h1 h2 h3 h4).1⟩, rfl⟩
theorem chF_ps {bl : Nat → SR} {t : EX} {p q m : Nat} (hp : BPos K bl m) (hb : BPs K bl m) (hm : m ≤ q) (hk : kd K q = 12) (ht : WPx K t ∧ isMul t = false ∧ frm t = p + 1 ∧ frm t < fin t) (hq : fin t = q) : PSt K (chF K bl t q).1 0 p (chF K bl t q).2.1 ∧ isS (chF K bl t q).1 = true := by
  obtain ⟨b1, b2⟩ := hb q hm hk
  have p1 := hp q hm hk
  rw [← hq] at b1 b2 p1 ⊢
  unfold chF
  by_cases q1 : kd K (bl (fin t)).2.1 = 6
  · rw [if_pos q1]
    have hl := kd_eq q1 (by decide)
    by_cases q2 : kd K ((bl (fin t)).2.1 + 1) = 12
    · rw [if_pos q2]
      obtain ⟨c1, c2⟩ := hb _ (by omega) q2
      exact ⟨PS_ch2 ht b1 b2 (Nat.le_succ _) c1 c2, rfl⟩
    · rw [if_neg q2]
      have := (skS_pos (K := K) (p := (bl (fin t)).2.1 + 1) hl).1
      exact ⟨PS_ch1 ht b1 b2 (by dsimp only; omega), rfl⟩
  · rw [if_neg q1]; exact ⟨PS_ch1 ht b1 b2 (Nat.le_refl _), rfl⟩
theorem smtF_ps {bl : Nat → SR} {p m : Nat} (hp : BPos K bl m) (hb : BPs K bl m) (hm : m ≤ p) (hl : p ≤ K.length) (h : isBE (kd K p) = false) : PSt K (smtF K bl p).1 0 p (smtF K bl p).2.1 ∧ isS (smtF K bl p).1 = true := by
  unfold smtF
  by_cases q1 : kd K p = 12
  · rw [if_pos q1]; exact hb p hm q1
  · rw [if_neg q1]
    by_cases q2 : kd K p = 5
    · rw [if_pos q2]
      have hl2 := kd_eq q2 (by decide)
      have k := pX_pos (K := K) (p := p + 1) hl2
      cases e : pX K (p + 1) with
      | inl q => rw [e] at k; exact brk_ps (by have := k.1; omega) k.2 h q1
      | inr y =>
        rw [e] at k
        obtain ⟨k1, k2, k3, k4, k5, k6⟩ := k
        dsimp only
        by_cases q3 : kd K y.2 = 12
        · rw [if_pos q3]; exact chF_ps hp hb (by omega) q3 ⟨k6, k5, k1, by omega⟩ k2
        · rw [if_neg q3]; exact brk_ps (by omega) k4 h q1
    · rw [if_neg q2]
      have k := siF_pos hl
      cases e : siF K p with
      | inl q => rw [e] at k; exact brk_ps k.1 k.2 h q1
      | inr y => exact siF_ps hl e
theorem blL_ps {bl : Nat → SR} {m : Nat} (hp : BPos K bl m) (hb : BPs K bl m) : ∀ (n p : Nat), m ≤ p → K.length < n + p → p ≤ K.length → PSt K (asl (blL K bl n p).1) 1 p (blL K bl n p).2.1
  | 0, p, _, h, h2 => by omega
  | n + 1, p, hm, h, h2 => by
    unfold blL
    by_cases q : isBE (kd K p) = true
    · rw [if_pos q]; exact Nat.le_refl _
    · rw [if_neg q]
      have q' := Bool.eq_false_iff.mpr q
      have k := smtF_pos hp hm h2 q'
      obtain ⟨g1, g2⟩ := smtF_ps hp hb hm h2 q'
      have g3 := blL_ps hp hb n (smtF K bl p).2.1 (by omega) (by omega) k.2
      show PSt K (.mul (smtF K bl p).1 (asl (blL K bl n (smtF K bl p).2.1).1)) 1 p _
      unfold PSt
      rw [if_pos rfl]
      exact ⟨g2, _, g1, g3⟩
theorem blF_ps {bl : Nat → SR} {m p : Nat} (hp : BPos K bl m) (hb : BPs K bl m) (hm : m ≤ p + 1) (h : kd K p = 12) : PSt K (blF K bl p).1 0 p (blF K bl p).2.1 ∧ isS (blF K bl p).1 = true := by
  have hl := kd_eq h (by decide)
  have g := blL_ps hp hb (K.length + 1) (p + 1) hm (by omega) hl
  have g2 := PSt_le g
  unfold blF blE
  by_cases q : kd K (blL K bl (K.length + 1) (p + 1)).2.1 = 13
  · rw [if_pos q]; exact ⟨⟨by dsimp only; omega, _, g, Nat.le_succ _, true, rfl, fun _ => ⟨rfl, q⟩⟩, rfl⟩
  · rw [if_neg q]; exact ⟨⟨by dsimp only; omega, _, g, Nat.le_refl _, false, rfl, fun z => by cases z⟩, rfl⟩
theorem pB_ps : ∀ f : Nat, BPs K (pB K f) (K.length - f)
  | 0 => fun p h1 h2 => by have := kd_eq h2 (by decide); omega
  | f + 1 => fun p h1 h2 => blF_ps (pB_pos f) (pB_ps f) (by omega) h2
theorem bX_ps {p : Nat} (h : kd K p = 12) : PSt K (bX K p).1 0 p (bX K p).2.1 ∧ isS (bX K p).1 = true := pB_ps (K.length + 1) p (by omega) h
/-- parameters stand behind one another -/
def PPa (K : List Int) : List Nat → Nat → Nat → Prop
  | [], p, q => p ≤ q
  | a :: l, p, q => p ≤ a ∧ kd K a = 0 ∧ PPa K l (a + 1) q
theorem PPa_le : ∀ {l : List Nat} {p q : Nat}, PPa K l p q → p ≤ q
  | [], p, q, h => h
  | a :: l, p, q, ⟨h1, h2, h3⟩ => by have := PPa_le h3; omega
theorem PPa.wk : ∀ {l : List Nat} {p q p' q' : Nat}, PPa K l p q → p' ≤ p → q ≤ q' → PPa K l p' q'
  | [], p, q, p', q', h, a, b => by show p' ≤ q'; have : p ≤ q := h; omega
  | x :: l, p, q, p', q', ⟨h1, h2, h3⟩, a, b => ⟨by omega, h2, h3.wk (Nat.le_refl _) b⟩
theorem paF_ps : ∀ (n p : Nat) (y : List Nat × Nat), paF K n p = .inr y → PPa K y.1 p y.2
  | 0, p, y, h => by cases h
  | n + 1, p, y, h => by
    unfold paF at h
    by_cases q : kd K p = 0
    · rw [if_pos q] at h
      by_cases q2 : kd K (p + 1) = 14
      · rw [if_pos q2] at h
        cases e : paF K n (p + 2) with
        | inl z => rw [e] at h; cases h
        | inr z =>
          rw [e] at h
          cases h
          exact ⟨Nat.le_refl _, q, (paF_ps n (p + 2) z e).wk (by omega) (Nat.le_refl _)⟩
      · rw [if_neg q2] at h
        cases h
        exact ⟨Nat.le_refl _, q, Nat.le_refl _⟩
    · rw [if_neg q] at h; cases h
theorem heF_ps {p : Nat} {y : List Nat × Nat} (h : heF K p = .inr y) : kd K (p + 1) = 0 ∧ PPa K y.1 (p + 3) y.2 ∧ kd K y.2 = 12 := by
  have ee : ∀ (l : List Nat) (q : Nat), heE K l q = .inr y → PPa K l (p + 3) q → PPa K y.1 (p + 3) y.2 ∧ kd K y.2 = 12 := fun l q u v => by
    unfold heE at u
    by_cases z : kd K q = 12
    · rw [if_pos z] at u; cases u; exact ⟨v, z⟩
    · rw [if_neg z] at u; cases u
  unfold heF at h
  by_cases q1 : kd K (p + 1) = 0
  · rw [if_pos q1] at h
    by_cases q2 : kd K (p + 2) = 10
    · rw [if_pos q2] at h
      by_cases q3 : kd K (p + 3) = 11
      · rw [if_pos q3] at h
        exact ⟨q1, ee _ _ h (Nat.le_succ _)⟩
      · rw [if_neg q3] at h
        cases e : paF K (K.length + 1) (p + 3) with
        | inl z => rw [e] at h; cases h
        | inr z =>
          rw [e] at h
          dsimp only at h
          by_cases q4 : kd K z.2 = 11
          · rw [if_pos q4] at h
            exact ⟨q1, ee _ _ h ((paF_ps _ _ _ e).wk (Nat.le_refl _) (Nat.le_succ _))⟩
          · rw [if_neg q4] at h; cases h
    · rw [if_neg q2] at h; cases h
  · rw [if_neg q1] at h; cases h
/-- items stand behind one another -/
def PIt (K : List Int) : List IT → Nat → Nat → Prop
  | [], p, q => p ≤ q
  | .inl a :: l, p, q => p < a ∧ kd K a = 0 ∧ PIt K l (a + 1) q
  | .inr f :: l, p, q => (p < f.1 ∧ kd K f.1 = 0) ∧ ∃ b m : Nat, PPa K f.2.1 (f.1 + 2) b ∧ kd K b = 12 ∧ PSt K f.2.2 0 b m ∧ isS f.2.2 = true ∧ PIt K l m q
theorem PIt.wk : ∀ {l : List IT} {p q p' : Nat}, PIt K l p q → p' ≤ p → PIt K l p' q
  | [], p, q, p', h, a => by show p' ≤ q; have : p ≤ q := h; omega
  | .inl x :: l, p, q, p', ⟨h1, h2⟩, a => ⟨by omega, h2⟩
  | .inr f :: l, p, q, p', ⟨⟨h1, h1'⟩, h2⟩, a => ⟨⟨by omega, h1'⟩, h2⟩
theorem rdF_ps : ∀ (n p : Nat), K.length < n + p → p ≤ K.length → PIt K (rdF K n p).1 p K.length
  | 0, p, h, h2 => by omega
  | n + 1, p, h, h2 => by
    unfold rdF
    by_cases q0 : kd K p = 24
    · rw [if_pos q0]; exact h2
    · rw [if_neg q0]
      have hl := kd_lt q0
      have fi : ∀ q, p < skI K q → q ≤ K.length → PIt K (trE (rdF K n (skI K q)) [] [((q : Int), -1, -1)] [] none).1 p K.length := fun q z1 z2 => by
        have := rdF_ps n (skI K q) (by omega) (skI_pos z2).2.1
        unfold trE
        dsimp only
        rw [List.nil_append]
        exact this.wk (by omega)
      by_cases q1 : kd K p = 3
      · rw [if_pos q1]
        have k := heF_pos hl
        cases e : heF K p with
        | inl q =>
          rw [e] at k
          exact fi q (by have := (skI_pos k.2).1; have := k.1; omega) k.2
        | inr y =>
          rw [e] at k
          obtain ⟨w1, w2, w3⟩ := heF_ps e
          obtain ⟨g1, g2⟩ := bX_ps w3
          have k2 := bX_pos k.2
          have ih := rdF_ps n (bX K y.2).2.1 (by have := k.1; omega) k2.2
          exact ⟨⟨Nat.lt_succ_self _, w1⟩, y.2, (bX K y.2).2.1, w2, w3, g1, g2, ih⟩
      · rw [if_neg q1]
        by_cases q2 : kd K p = 2
        · rw [if_pos q2]
          by_cases q3 : kd K (p + 1) = 0
          · rw [if_pos q3]
            have h3 := kd_eq q3 (by decide)
            by_cases q4 : kd K (p + 2) = 15
            · rw [if_pos q4]
              have h4 := kd_eq q4 (by decide)
              have ih := rdF_ps n (p + 3) (by omega) h4
              exact ⟨Nat.lt_succ_self _, q3, ih.wk (by omega)⟩
            · rw [if_neg q4]
              exact fi (p + 2) (by have := (skI_pos (K := K) (p := p + 2) h3).1; omega) h3
          · rw [if_neg q3]
            exact fi (p + 1) (by have := (skI_pos (K := K) (p := p + 1) hl).1; omega) hl
        · rw [if_neg q2]
          have q5 : isIt (kd K p) = false := by
            unfold isIt
            rw [decide_eq_false_iff_not]
            rintro (z | z | z)
            · exact q1 z
            · exact q2 z
            · exact q0 z
          exact fi p ((skI_pos h2).2.2.2 q5) h2
theorem rdT_ps : PIt K (rdT K).1 0 K.length := rdF_ps _ _ (by omega) (Nat.zero_le _)
end PS
