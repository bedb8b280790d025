/-! N10: the model ends blocks -/
set_option maxRecDepth 100000
set_option linter.unusedVariables false
section Stm2
variable {s0 s : MS} {K : List Int} {n0 nb : Int} {I : List IT} {F : List Flt} {O : List EX} {x : OB} {st : List OB} {p : Nat}
theorem STK_b {nx hi : Int} : ∀ {st : List OB} {hi nx : Int}, STK s K n0 I st hi nx → ∀ j : Nat, j < st.length → s 42 j < hi
  | [], hi, nx, _ => fun j hj => absurd hj (Nat.not_lt_zero _)
  | x :: st, hi, nx, ⟨b, a, z, o, th, lo, ⟨h1, h1'⟩, ⟨h2, h3⟩, h4, h5⟩ => fun j hj => by
    rw [List.length_cons] at hj
    by_cases q : j = st.length
    · subst q; rw [h1]; omega
    · have hj' : j < st.length := by omega
      obtain ⟨l, w⟩ := x
      cases w with
      | inl f => have := h5.1.1; subst this; exact absurd hj' (Nat.not_lt_zero _)
      | inr w =>
        cases w with
        | none => have := STK_b (nx := 0) (hi := 0) h5.2.2.2 j hj'; omega
        | some w =>
          obtain ⟨t, g⟩ := w
          cases g with
          | none =>
            obtain ⟨-, x1, h, m, c, e, k1, k2, k3, k4, k5, k6⟩ := h5
            have := STK_b (nx := 0) (hi := 0) k6 j hj'
            have := NE_in x1 k4
            omega
          | some g =>
            obtain ⟨-, x1, h, m, c, e, b1, k1, k2, k3, ⟨k4, k4'⟩, k5, k6⟩ := h5
            have := STK_b (nx := 0) (hi := 0) k6 j hj'
            have := NE_in x1 k4
            omega
theorem WS_B {l : List EX} {lb : EX} (h : WS (asl l) 1) : isS (.sub (asl l) lb) = true ∧ WS (.sub (asl l) lb) 0 := ⟨rfl, rfl, h⟩
theorem WS_c1 {t b : EX} (h1 : isS b = true) (h2 : WS b 0) : isS (ch1 t b) = true ∧ WS (ch1 t b) 0 := by
  refine ⟨rfl, rfl, ?_⟩
  unfold WS
  rw [if_neg (by decide)]
  exact ⟨rfl, h1, h2, Or.inr rfl⟩
theorem WS_c2 {t b c : EX} (h1 : isS b = true) (h2 : WS b 0) (h4 : WS c 0) : isS (ch2 t b c) = true ∧ WS (ch2 t b c) 0 := by
  refine ⟨rfl, rfl, ?_⟩
  unfold WS
  rw [if_neg (by decide)]
  exact ⟨rfl, h1, h2, h4⟩
/-- what is known of a block that ended -/
def BEnd (s' : MS) (K : List Int) (n0 N b : Int) (s : MS) (x : OB) (st : List OB) (B : EX) : Prop := ∃ lo o th : Int, NS s' K B 0 lo N b o th ∧ (isS B = true ∧ WS B 0) ∧ n0 ≤ lo ∧ (∀ j : Nat, j < st.length → s 42 j < lo) ∧ (st = [] → ∃ (f : Nat × List Nat) (h a z : Int), x.2 = .inl f ∧ s' 33 b = h ∧ s' 31 h = a ∧ PAs s' f.2 (h + 1) N a z ∧ n0 ≤ h)
theorem m_close {q : Nat} {ev : Int} {lb : EX} (a1 : SeqR s K) (a2 : Fmz (ZR n0) s0 s) (hq : q ≤ K.length) (a4 : 0 ≤ n0) (a5 : s 27 0 ≤ nb + 2 * (q : Int)) (a6 : nb + 2 * (K.length : Int) + 2 < 1600) (b1 : s 41 0 = (st.length : Int) + 1) (b2 : F.length + st.length ≤ q) (c1 : STK s K n0 I (x :: st) (s 27 0) (-1)) (d1 : ERR s F) (h26 : s 26 0 = q) (hev : ebl lb = ev) :
    Ok (M_closeBlock s ev) fun s' => (RSm s0 s' K n0 nb (dlv K x.2 st (.sub (asl x.1) lb) q I F O).1 (dlv K x.2 st (.sub (asl x.1) lb) q I F O).2.2.1 (dlv K x.2 st (.sub (asl x.1) lb) q I F O).2.2.2.1 (dlv K x.2 st (.sub (asl x.1) lb) q I F O).2.1 ∧ s' 26 0 = ((dlv K x.2 st (.sub (asl x.1) lb) q I F O).2.1 : Int) ∧ s' 46 0 = s 46 0) ∧
      (kd K q ≠ 6 → (∀ k i, k ≠ 41 → k ≠ 35 → s' k i = s k i) ∧ (∀ i, i ≠ s 42 (st.length : Int) → s' 35 i = s 35 i) ∧ BEnd s' K n0 (s 27 0) (s 42 (st.length : Int)) s x st (.sub (asl x.1) lb)) := by
  have hl := a1.1
  have lb0 := STK_lb c1
  have c1' := c1
  obtain ⟨b, a, z, o, th, lo, ⟨h1, h1'⟩, ⟨h2, h3, h3', h3'', h3'''⟩, h4, h5⟩ := c1
  have hlo : n0 ≤ lo ∧ ∀ j : Nat, j < st.length → s 42 j < lo := by
    obtain ⟨l, w⟩ := x
    cases w with
    | inl f =>
      obtain ⟨⟨e, -⟩, h, c, y, l0, k1, k2, k3, k4⟩ := h5
      subst e
      have := STK_lb k4
      exact ⟨by omega, fun j hj => absurd hj (Nat.not_lt_zero _)⟩
    | inr w =>
      cases w with
      | none => exact ⟨STK_lb h5.2.2.2, STK_b (nx := 0) (hi := 0) h5.2.2.2⟩
      | some w =>
        obtain ⟨t, g⟩ := w
        cases g with
        | none =>
          obtain ⟨-, x1, h, m, c, e, k1, k2, k3, k4, k5, k6⟩ := h5
          have := STK_lb k6
          have := NE_in x1 k4
          exact ⟨by omega, fun j hj => by have := STK_b (nx := 0) (hi := 0) k6 j hj; omega⟩
        | some g =>
          obtain ⟨-, x1, h, m, c, e, b1, k1, k2, k3, ⟨k4, k4'⟩, k5, k6⟩ := h5
          have := STK_lb k6
          have := NE_in x1 k4
          exact ⟨by omega, fun j hj => by have := STK_b (nx := 0) (hi := 0) k6 j hj; omega⟩
  have hbb : 0 ≤ b ∧ b < 1600 := by omega
  unfold M_closeBlock
  simp (disch := omega) only [bd1, Option.bind_some, wr_id', up_o, up_hit, rd_42, wt_42, rd_35, wt_35, rd_44, wt_44, b1, show (st.length : Int) + 1 - 1 = st.length by omega, h1]
  have g0 : ∀ k i, ¬ (k = 41 ∧ i = 0) → ¬ (k = 35 ∧ i = b) → up (up s 41 0 (st.length : Int)) 35 b ev k i = s k i := fun k i u v => by simp (disch := omega) only [up_o]
  have t41 : up (up s 41 0 (st.length : Int)) 35 b ev 41 0 = st.length := by simp (disch := omega) only [up_o, up_hit]
  have t35 : up (up s 41 0 (st.length : Int)) 35 b ev 35 b = ev := up_hit
  generalize up (up s 41 0 (st.length : Int)) 35 b ev = t at g0 t41 t35 ⊢
  have t27 : t 27 0 = s 27 0 := g0 27 0 (by omega) (by omega)
  obtain ⟨f1, f2⟩ := SL_fwd h4
  have hB : NS t K (.sub (asl x.1) lb) 0 lo (s 27 0) b o th := ⟨h2, ⟨(g0 28 b (by omega) (by omega)).trans h3, (g0 36 b (by omega) (by omega)).trans h3', (g0 33 b (by omega) (by omega)).trans h3'', t35.trans hev.symm⟩, a, (g0 31 b (by omega) (by omega)).trans h3''', f1.ag f2 (fun z => absurd z (by decide)) (fun k i u v w y => g0 k i (by omega) (by omega))⟩
  obtain ⟨wB1, wB2⟩ := WS_B (lb := lb) f2
  have hS : SeqR t K := a1.ex (fun i => g0 24 i (by omega) (by omega))
  have hFm : Fmz (ZR n0) s0 t := a2.ex (fun k i z => g0 k i (fun y => z (by unfold ZR; omega)) (fun y => z (by unfold ZR; omega)))
  have hE : ERR t F := d1.ag (fun k i u v => g0 k i (by omega) (by omega))
  have gs : ∀ (st' : List OB) (H nx : Int), STK s K n0 I st' H nx → H ≤ lo → st'.length ≤ st.length → STK t K n0 I st' H nx := fun st' H nx w1 w2 w3 => w1.ag (AgS.of (fun k i u1 u2 u3 u4 u5 u6 u7 u8 u9 v w => g0 k i (by omega) (by omega)))
  have hbe : (st = [] → ∃ (f : Nat × List Nat) (h a z : Int), x.2 = .inl f ∧ t 33 b = h ∧ t 31 h = a ∧ PAs t f.2 (h + 1) (s 27 0) a z ∧ n0 ≤ h) → BEnd t K n0 (s 27 0) b s x st (.sub (asl x.1) lb) := fun w => ⟨lo, o, th, hB, ⟨wB1, wB2⟩, hlo.1, hlo.2, w⟩
  have hno : ∀ (w : st = [] → ∃ (f : Nat × List Nat) (h a z : Int), x.2 = .inl f ∧ t 33 b = h ∧ t 31 h = a ∧ PAs t f.2 (h + 1) (s 27 0) a z ∧ n0 ≤ h), (kd K q ≠ 6 → (∀ k i, k ≠ 41 → k ≠ 35 → t k i = s k i) ∧ (∀ i, i ≠ b → t 35 i = s 35 i) ∧ BEnd t K n0 (s 27 0) b s x st (.sub (asl x.1) lb)) := fun w _ => ⟨fun k i u v => g0 k i (by omega) (by omega), fun i u => g0 35 i (by omega) (by omega), hbe w⟩
  -- a statement of the block around is done
  have par : ∀ (y : OB) (st' : List OB) (e : EX) (n H : Int), st = y :: st' → STK t K n0 I st H n → n ≠ -1 → isS e = true → WS e 0 → NS t K e 0 H (s 27 0) n (t 42 (st'.length : Int)) (-1) → t 34 n = -1 → STK t K n0 I (addS st e) (t 27 0) (-1) := fun y st' e n H e0 w1 w2 w3 w4 w5 w6 => by
    subst e0
    rw [t27]
    exact STK_fin w1 w2 w3 w4 w5 w6
  have rm : ∀ (st' : List OB) (I' : List IT), st'.length = st.length → STK t K n0 I' st' (t 27 0) (-1) → RSm s0 t K n0 nb st' I' F q := fun st' I' w1 w2 => ⟨⟨hS, hFm, hq, a4, by omega, a6⟩, ⟨by rw [w1]; exact t41, by omega⟩, w2, hE⟩
  obtain ⟨l, w⟩ := x
  cases w with
  | inl f =>
    obtain ⟨⟨e0, u2, u3⟩, h, c, y, l0, ⟨k0, k1, k1'⟩, ⟨k2, k3, k4, k5, k6⟩, k7, k8⟩ := h5
    subst e0
    obtain ⟨z', w1, w2⟩ := k8
    have hln := IL_le w1
    rw [if_neg (by omega)] at w2
    rw [u2, if_neg (by decide), Ok_some]
    have pa : PAs t f.2 (h + 1) lo c y := k7.ag (fun k i a b c d => g0 k i (by omega) (by omega))
    refine ⟨⟨rm [] _ rfl ⟨h, ?_, ?_⟩, (g0 26 0 (by omega) (by omega)).trans h26, g0 46 0 (by omega) (by omega)⟩, hno (fun _ => ⟨f, h, c, y, rfl, (g0 33 b (by omega) (by omega)).trans (h3''.trans k1), (g0 31 h (by omega) (by omega)).trans k4, PAs_wk pa (by omega), by omega⟩)⟩
    · rw [g0 48 0 (by omega) (by omega), t27]
      refine IL_fin ((g0 34 h (by omega) (by omega)).trans k6) (w1.ag (fun k i a b c d => g0 k i (by omega) (by omega))) ⟨by omega, ⟨(g0 28 h (by omega) (by omega)).trans k2, (g0 29 h (by omega) (by omega)).trans k3⟩, ⟨wB1, wB2⟩, c, y, b, lo, by omega, ⟨(g0 31 h (by omega) (by omega)).trans k4, (g0 32 h (by omega) (by omega)).trans k5⟩, pa, ?_⟩
      rw [u3, k1] at hB
      exact hB
    · rw [g0 49 0 (by omega) (by omega), if_pos rfl]; exact w2
  | inr w =>
    cases w with
    | none =>
      obtain ⟨⟨u1, u2, u3⟩, k1, k2, k3⟩ := h5
      obtain ⟨y, st', e0⟩ : ∃ y st', st = y :: st' := by cases st with | nil => exact absurd rfl u1 | cons y st' => exact ⟨y, st', rfl⟩
      rw [u2, if_neg (by decide), Ok_some]
      have e42 : o = t 42 (st'.length : Int) := by
        rw [g0 42 _ (by omega) (by omega), u3, e0, List.length_cons]; congr 1; push_cast; omega
      refine ⟨⟨rm _ I addS_len (par y st' _ b lo e0 (gs _ _ _ k3 (Int.le_refl _) (Nat.le_refl _)) (by omega) wB1 wB2 (by rw [← e42, ← k1]; exact hB) ((g0 34 b (by omega) (by omega)).trans k2)), (g0 26 0 (by omega) (by omega)).trans h26, g0 46 0 (by omega) (by omega)⟩, hno (fun w => absurd w u1)⟩
    | some w =>
      obtain ⟨tt, gg⟩ := w
      cases gg with
      | some gg =>
        obtain ⟨⟨u1, u2, u3⟩, x1, h, m, c, e, bb, ⟨k0, k1, k1', k1''⟩, ⟨k2, k3, k4, k5, k6⟩, ⟨k7, k8, k9⟩, ⟨v1, v2⟩, ⟨⟨w0, w1⟩, w2⟩, v3⟩ := h5
        obtain ⟨y, st', e0⟩ : ∃ y st', st = y :: st' := by cases st with | nil => exact absurd rfl u1 | cons y st' => exact ⟨y, st', rfl⟩
        rw [u2, if_neg (by decide), Ok_some]
        have i1 := NE_in x1 v1
        have hm3 := STK_lb v3
        have e42 : o = t 42 (st'.length : Int) := by
          rw [g0 42 _ (by omega) (by omega), u3, e0, List.length_cons]; congr 1; push_cast; omega
        obtain ⟨q1, q2⟩ := WS_c2 (t := tt) w0 w1 wB2
        refine ⟨⟨rm _ I addS_len (par y st' (ch2 tt gg (.sub (asl l) lb)) h m e0 (gs _ _ _ v3 (by omega) (Nat.le_refl _)) (by omega) q1 q2 ?_ ((g0 34 h (by omega) (by omega)).trans k9)), (g0 26 0 (by omega) (by omega)).trans h26, g0 46 0 (by omega) (by omega)⟩, hno (fun w => absurd w u1)⟩
        refine ⟨x1, c, e, by omega, ⟨(g0 28 h (by omega) (by omega)).trans k2, (g0 29 h (by omega) (by omega)).trans k3, (g0 30 h (by omega) (by omega)).trans k4, (g0 31 h (by omega) (by omega)).trans k5, (g0 36 h (by omega) (by omega)).trans (k6.trans e42)⟩, v1.ag (fun k i a b c d => g0 k i (by omega) (by omega)), (g0 34 e (by omega) (by omega)).trans v2, ?_⟩
        unfold NS
        rw [if_neg (by decide)]
        refine ⟨lo, bb, b, by omega, ⟨(g0 32 h (by omega) (by omega)).trans k7, (g0 33 h (by omega) (by omega)).trans k8⟩, ?_, ?_⟩
        · rw [← e42]; exact w2.ag w1 (fun z => absurd z (by decide)) (fun k i a b c d => g0 k i (by omega) (by omega))
        · rw [← e42, ← k1]; exact hB
      | none =>
        obtain ⟨⟨u1, u2, u3⟩, x1, h, m, c, e, ⟨k0, k1, k1', k1''⟩, ⟨k2, k3, k4, k5, k6⟩, ⟨k7, k8, k9⟩, v1, v2, v3⟩ := h5
        obtain ⟨y, st', e0⟩ : ∃ y st', st = y :: st' := by cases st with | nil => exact absurd rfl u1 | cons y st' => exact ⟨y, st', rfl⟩
        have i1 := NE_in x1 v1
        have hm3 := STK_lb v3
        have e42 : o = t 42 (st'.length : Int) := by
          rw [g0 42 _ (by omega) (by omega), u3, e0, List.length_cons]; congr 1; push_cast; omega
        obtain ⟨q1, q2⟩ := WS_c1 (t := tt) wB1 wB2
        have hc1 : NS t K (ch1 tt (.sub (asl l) lb)) 0 m (s 27 0) h (t 42 (st'.length : Int)) (-1) := by
          refine ⟨x1, c, e, by omega, ⟨(g0 28 h (by omega) (by omega)).trans k2, (g0 29 h (by omega) (by omega)).trans k3, (g0 30 h (by omega) (by omega)).trans k4, (g0 31 h (by omega) (by omega)).trans k5, (g0 36 h (by omega) (by omega)).trans (k6.trans e42)⟩, v1.ag (fun k i a b c d => g0 k i (by omega) (by omega)), (g0 34 e (by omega) (by omega)).trans v2, ?_⟩
          unfold NS
          rw [if_neg (by decide)]
          refine ⟨s 27 0, b, -1, by omega, ⟨(g0 32 h (by omega) (by omega)).trans k7, (g0 33 h (by omega) (by omega)).trans k8⟩, ?_, rfl⟩
          rw [← e42, ← k1]; exact hB.wk wB2 (by omega) (Int.le_refl _)
        have hpar := par y st' _ h m e0 (gs _ _ _ v3 (by omega) (Nat.le_refl _)) (by omega) q1 q2 hc1 ((g0 34 h (by omega) (by omega)).trans k9)
        have t26 : t 26 0 = q := (g0 26 0 (by omega) (by omega)).trans h26
        rw [u2, if_pos rfl, h26, rd_24 (by omega) (by omega), Option.bind_some, hS.2 q (by omega)]
        show Ok _ (fun s' => (RSm s0 s' K n0 nb (dlv K (.inr (some (tt, none))) st (.sub (asl l) lb) q I F O).1 _ _ _ ∧ _) ∧ _)
        unfold dlv
        dsimp only
        by_cases z1 : kd K q = 6
        · rw [if_pos z1, if_pos z1]
          have hql := kd_eq z1 (by decide)
          have r2 : t 24 ((q : Int) + 1) = kd K (q + 1) := by have := hS.2 (q + 1) (by omega); push_cast at this; exact this
          simp (disch := omega) only [bd1, Option.bind_some, wr_id', up_o, up_hit, rd_45, wt_45, rd_24, wt_24, r2]
          rw [g0 45 _ (by omega) (by omega), k0]
          by_cases z2 : kd K (q + 1) = 12
          · rw [if_pos z2, if_pos z2]
            have hql2 := kd_eq z2 (by decide)
            refine Ok_bind.mpr ((m_openB (s := up t 26 0 ((q : Int) + 1)) (why := 2) (h := h) (tok := (q : Int) + 1) (d := (st.length : Int)) (fld := 33) (oo := up t 26 0 ((q : Int) + 1) 42 ((st.length : Int) - 1)) (by omega) ((up_o (by omega)).trans t41) (by rw [up_o (by omega)]; omega) (by rw [up_o (by omega)]; omega) (by omega) (Or.inr (Or.inr ⟨rfl, rfl, rfl, by rw [e0, List.length_cons]; push_cast; omega⟩))).imp fun r hr => Ok_some.mpr ?_)
            have p27 : up t 26 0 ((q : Int) + 1) 27 0 = s 27 0 := (up_o (by omega)).trans t27
            rw [p27] at hr
            obtain ⟨r27, ⟨r28, r31, r33, r34, r35, r36⟩, ⟨r42, r43, r44, r45, r41, r26⟩, rh, rg⟩ := hr
            have rt : ∀ k i, ¬ ((k = 26 ∨ k = 27 ∨ k = 41) ∧ i = 0) → ¬ ((28 ≤ k ∧ k ≤ 36) ∧ i = s 27 0) → ¬ ((42 ≤ k ∧ k ≤ 45) ∧ i = (st.length : Int)) → ¬ (k = 33 ∧ i = h) → r k i = t k i := fun k i u v w y => (rg k i u v w y).trans (up_o (by omega))
            have o2 : up t 26 0 ((q : Int) + 1) 42 ((st.length : Int) - 1) = o := by rw [up_o (by omega), e42, e0, List.length_cons]; congr 1; push_cast; omega
            refine ⟨⟨⟨⟨hS.ex (fun i => rt 24 i (by omega) (by omega) (by omega) (by omega)), hFm.ex (fun k i z => rt k i (fun y => z ?_) (fun y => z ?_) (fun y => z ?_) (fun y => z ?_)), hql2, a4, by rw [r27]; push_cast; omega, a6⟩, ⟨?_, ?_⟩, ?_, hE.ag (fun k i u v => rt k i (by omega) (by omega) (by omega) (by omega))⟩, ?_, ?_⟩, fun w => absurd z1 w⟩
            · unfold ZR; omega
            · unfold ZR; omega
            · unfold ZR; omega
            · unfold ZR; omega
            · rw [List.length_cons]; push_cast; exact r41
            · show F.length + ((([], .inr (some (tt, some (.sub (asl l) lb)))) : OB) :: st : List OB).length ≤ q + 2
              rw [List.length_cons]; omega
            · rw [r27]
              have hx1 : STK r K n0 I st m h := (gs _ _ _ v3 (by omega) (Nat.le_refl _)).ag (AgS.of (fun k i u1 u2 u3 u4 u5 u6 u7 u8 u9 v w => rt k i (by omega) (by omega) (by omega) (by omega)))
              have rn : ∀ k, 28 ≤ k → k ≤ 36 → k ≠ 33 → r k h = s k h := fun k a b c => (rt k h (by omega) (by omega) (by omega) (by omega)).trans (g0 k h (by omega) (by omega))
              refine ⟨s 27 0, -1, -1, o, h, s 27 0, ⟨r42, by rw [if_pos rfl]; exact r43⟩, ⟨by omega, r28, r36.trans o2, r33, r31⟩, ⟨rfl, rfl, Int.le_refl _⟩, ⟨u1, r44, ?_⟩, x1, h, m, c, e, b, ⟨r45, rfl, k1', by omega⟩, ⟨(rn 28 (by decide) (by decide) (by decide)).trans k2, (rn 29 (by decide) (by decide) (by decide)).trans k3, (rn 30 (by decide) (by decide) (by decide)).trans k4, (rn 31 (by decide) (by decide) (by decide)).trans k5, (rn 36 (by decide) (by decide) (by decide)).trans k6⟩, ⟨(rn 32 (by decide) (by decide) (by decide)).trans k7, rh, (rn 34 (by decide) (by decide) (by decide)).trans k9⟩, ⟨(v1.ag (s' := t) (fun k i a b c d => g0 k i (by omega) (by omega))).ag (fun k i a b c d => rt k i (by omega) (by omega) (by omega) (by omega)), (rt 34 e (by omega) (by omega) (by omega) (by omega)).trans ((g0 34 e (by omega) (by omega)).trans v2)⟩, ⟨⟨wB1, wB2⟩, ?_⟩, hx1⟩
              · rw [rt 42 _ (by omega) (by omega) (by omega) (by omega), g0 42 _ (by omega) (by omega)]; exact u3
              · rw [← k1]
                exact (hB.ag wB2 (fun z => absurd z (by decide)) (fun k i a b c d => rt k i (by omega) (by omega) (by omega) (by omega))).wk wB2 (by omega) (Int.le_refl _)
            · rw [r26]; push_cast; rfl
            · exact (rt 46 0 (by omega) (by omega) (by omega) (by omega)).trans (g0 46 0 (by omega) (by omega))
          · rw [if_neg z2, if_neg z2]
            have hu : ∀ k i, ¬ (k = 26 ∧ i = 0) → up t 26 0 ((q : Int) + 1) k i = t k i := fun k i u => up_o u
            have h7 : up t 26 0 ((q : Int) + 1) 26 0 = ((q + 1 : Nat) : Int) := by rw [up_hit]; push_cast; rfl
            generalize up t 26 0 ((q : Int) + 1) = t2 at hu h7 ⊢
            have hE2 : ERR t2 F := hE.ag (fun k i u v => hu k i (by omega))
            rw [show ((q : Int) + 1) = ((q + 1 : Nat) : Int) by push_cast; rfl]
            refine (m_tellError hE2 (by omega) (x := (((q + 1 : Nat) : Int), -1, -1))).bd fun t3 hs => ?_
            obtain ⟨d3, e3⟩ := hs
            have hS3 : SeqR t3 K := (hS.ex (fun i => hu 24 i (by omega))).ex (fun i => e3 24 i (by omega))
            refine Ok_bind.mpr ((m_skip hS3 hql ((e3 26 0 (by omega)).trans h7)).imp fun t4 hs => Ok_some.mpr ?_)
            obtain ⟨k4', e4⟩ := hs
            have hk := skS_pos (K := K) (p := q + 1) hql
            have gg : ∀ k i, ¬ (k = 26 ∧ i = 0) → ¬ (37 ≤ k ∧ k ≤ 40) → t4 k i = t k i := fun k i u v => (e4 k i u).trans ((e3 k i v).trans (hu k i u))
            refine ⟨⟨⟨⟨hS.ex (fun i => gg 24 i (by omega) (by omega)), hFm.ex (fun k i z => gg k i (fun y => z ?_) (fun y => z ?_)), hk.2.1, a4, by show t4 27 0 ≤ nb + 2 * (skS K (q + 1) : Int); rw [gg 27 0 (by omega) (by omega)]; omega, a6⟩, ⟨?_, ?_⟩, ?_, d3.ag (fun k i u v => e4 k i (by omega))⟩, ?_, ?_⟩, fun w => absurd z1 w⟩
            · unfold ZR; omega
            · unfold ZR; omega
            · rw [addS_len]; exact (gg 41 0 (by omega) (by omega)).trans t41
            · show (F ++ [_]).length + (addS st (ch1 tt (.sub (asl l) lb))).length ≤ skS K (q + 1)
              rw [addS_len]; simp only [List.length_append, List.length_cons, List.length_nil]; omega
            · rw [gg 27 0 (by omega) (by omega)]
              exact hpar.ag (AgS.of (fun k i u1 u2 u3 u4 u5 u6 u7 u8 u9 v w => gg k i (by omega) (by omega)))
            · exact k4'
            · exact (gg 46 0 (by omega) (by omega)).trans (g0 46 0 (by omega) (by omega))
        · rw [if_neg z1, if_neg z1, Ok_some]
          exact ⟨⟨rm _ I addS_len hpar, t26, g0 46 0 (by omega) (by omega)⟩, hno (fun w => absurd w u1)⟩
end Stm2
