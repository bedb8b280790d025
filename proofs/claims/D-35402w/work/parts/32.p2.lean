set_option maxRecDepth 100000
/-! PLAIN 2: string builders -/
theorem pf_e {h : AH} {a k v : Int} {t : Nat} (e : aT h a = t) : pf h t k a v = some (setV h a k v) := if_pos e
theorem pa_e {h : AH} {a i v : Int} {t : Nat} (e : aT h a = t) (h0 : 0 ≤ i) (h1 : i < aL h a) : pa h t a i v = some (setV h a i v) := if_pos ⟨e, h0, h1⟩
theorem nwa_e {h : AH} {n : Int} {t : Nat} (h0 : 0 ≤ n) (h1 : n ≤ 50000000) : nwa h t n = some (aN h, mkc h t n n) := if_pos ⟨h0, h1⟩
theorem cpc_e {h : AH} {t : Nat} {a sp b dp n : Int} (e : cpOk h t a sp b dp n) : cpc h t a sp b dp n = some (cpH h a sp b dp n) := if_pos e
theorem ckc_e {h : AH} {L : List Nat} {a : Int} {t : Nat} (e : aT h a = t) (m : L.contains t = true) : ckc h L a = some () := if_pos (Or.inr (by rw [e]; exact m))
theorem mn32_l {a b : Int} (h : a ≤ b) : mn32 a b = a := if_neg (by omega)
theorem mn32_r {a b : Int} (h : b ≤ a) : mn32 a b = b := by unfold mn32; split <;> omega
/-- a string builder with what is in it, and its room -/
def SB (h : AH) (a : Int) (s : List Int) (cap : Int) : Prop := (At h a 4 ∧ aV h a 1 = 0 ∧ aV h a 3 = s.length) ∧ (At h (aV h a 0) 66 ∧ aL h (aV h a 0) = cap) ∧ ((s.length : Int) ≤ cap ∧ cap ≤ 1000000) ∧ Asc s ∧ ∀ (i : Nat) (c : Int), s[i]? = some c → aV h (aV h a 0) i = c
abbrev sbM (h : AH) (a : Int) : Int → Prop := fun x => x = a ∨ x = aV h a 0
theorem SB.fr {M : Int → Prop} {c s : Int} {h h' : AH} {a : Int} {l : List Int} {cap : Int} (p : SB h a l cap) (f : Fr M c s h h') (m : ¬ M a) (m' : ¬ M (aV h a 0)) : SB h' a l cap ∧ aV h' a 0 = aV h a 0 := by
  obtain ⟨⟨p1, p2, p3⟩, ⟨p4, p5⟩, p6, p7, p8⟩ := p
  have e := p1.v f m 0
  refine ⟨⟨⟨p1.fr f, (p1.v f m 1).trans p2, (p1.v f m 3).trans p3⟩, ?_, p6, p7, ?_⟩, e⟩
  · rw [e]; exact ⟨p4.fr f, (p4.l f).trans p5⟩
  · rw [e]; intro i c hi; exact (p4.v f m' i).trans (p8 i c hi)
theorem p_ensure {k : Nat → Int} {h : AH} {a : Int} {s : List Int} {cap min : Int} (p : SB h a s cap) (h0 : 0 ≤ min) (h1 : min ≤ 400000) (h2 : cap ≤ 400000) : Ok (A_J14_ensureCapacityInternal k h a min) fun h' =>
    (min ≤ cap ∧ h' = h) ∨ ∃ cap' : Int, cap < min ∧ cap' = cap + (if min - cap < cap + 2 then cap + 2 else min - cap) ∧ SB h' a s cap' ∧ Fr (fun x => x = a) 1 cap' h h' ∧ aN h ≤ aV h' a 0 := by
  have p' := p
  obtain ⟨⟨p1, p2, p3⟩, ⟨p4, p5⟩, p6, p7, p8⟩ := p
  have l4 := p4.lt
  have l1 := p1.lt
  have ne : a ≠ aV h a 0 := p1.ne p4 (by decide)
  unfold A_J14_ensureCapacityInternal
  simp (disch := omega) only [gf_e p1.1, al_e p4.1, Option.bind_some, p2, p5, bd1, shr32_0, wr_id']
  by_cases hc : 0 < min - cap
  · rw [if_pos hc]
    generalize hz : cap + (if min - cap < cap + 2 then cap + 2 else min - cap) = z
    have hz1 : cap < z ∧ z ≤ 1000000 := by rw [← hz]; split <;> omega
    have hn : A_J14_newCapacity h a min = some z := by
      unfold A_J14_newCapacity A_J16_newLength
      simp (disch := omega) only [gf_e p1.1, al_e p4.1, Option.bind_some, p2, p5, bd1, shl32_0, wr_id']
      rw [show mx32 (min - cap) (cap + 2) = (if min - cap < cap + 2 then cap + 2 else min - cap) from rfl, hz, wr_id' (by omega) (by omega), if_pos (by omega), if_neg (by omega), Option.bind_some, if_neg (by omega), shr32_0 (by omega) (by omega)]
    rw [hn]
    simp (disch := omega) only [Option.bind_some, shl32_0]
    unfold A_J18_copyOf_3
    rw [al_e p4.1, Option.bind_some, p5, if_neg (by omega), nwa_e (by omega) (by omega), Option.bind_some]
    simp only [al_e ((tT_mkn l4).trans p4.1), Option.bind_some, tL_mkn l4, p5]
    rw [mn32_l (by omega), cpc_e ⟨⟨(tT_mkn l4).trans p4.1, tT_mkh⟩, by omega, by omega, by omega, by rw [tL_mkn l4, p5]; omega, by rw [tL_mkh]; omega⟩]
    simp only [Option.bind_some]
    rw [pf_e (by rw [tT_cp, tT_mkn l1]; exact p1.1), Option.bind_some, Ok_some]
    have fr : Fr (fun x => x = a) (1 + (0 + 0)) (z + (0 + 0)) h (setV (cpH (mkc h 66 z z) (aV h a 0) 0 (aN h) 0 cap) a 0 (aN h)) :=
      (Fr.mk (by omega)).tr ((Fr.cp.wk (Int.le_refl _) (Int.le_refl _) (fun x _ e => Or.inr e)).tr Fr.set (M := fun x => x = a ∨ x = aN h) (fun x _ e => Or.inl e)) (fun x hx e => e.resolve_right (fun q => by omega))
    refine Or.inr ⟨z, by omega, rfl, ?_, fr.wk (by omega) (by omega) (fun _ _ e => e), ?_⟩
    · have e0 : aV (setV (cpH (mkc h 66 z z) (aV h a 0) 0 (aN h) 0 cap) a 0 (aN h)) a 0 = aN h := tV_hit
      refine ⟨⟨p1.fr fr, ?_, ?_⟩, ⟨?_, ?_⟩, ⟨by omega, by omega⟩, p7, ?_⟩
      · rw [tV_ix (by decide), tV_cp, if_neg (fun q => by omega), tV_mkn l1]; exact p2
      · rw [tV_ix (by decide), tV_cp, if_neg (fun q => by omega), tV_mkn l1]; exact p3
      · rw [e0]; exact ⟨by rw [tT_set, tT_cp]; exact tT_mkh, by have := p1.2.1; omega, by rw [tN_set, tN_cp, tN_mk]; omega⟩
      · rw [e0, tL_set, tL_cp, tL_mkh]
      · rw [e0]
        intro i c hi
        have hlt : i < s.length := (List.getElem?_eq_some_iff.mp hi).1
        rw [tV_oth (by omega), tV_cp, if_pos ⟨rfl, by omega, by omega⟩, tV_mkn l4, show (0 : Int) + ((i : Int) - 0) = i by omega]
        exact p8 i c hi
    · rw [tV_hit]; exact Int.le_refl _
  · rw [if_neg hc, Ok_some]
    exact Or.inl ⟨by omega, rfl⟩
theorem p_isLat {h : AH} {a : Int} (e : aT h a = 4) (e1 : aV h a 1 = 0) : A_J14_isLatin1 h a = some 1 := by
  unfold A_J14_isLatin1
  rw [if_neg (by decide), gf_e e, Option.bind_some, e1, if_pos rfl]
/-- one char more -/
theorem p_putc {h : AH} {a : Int} {s : List Int} {cap : Int} (p : SB h a s cap) {c : Int} (hc : 0 ≤ c ∧ c < 128) (hs : (s.length : Int) < cap) :
    SB (setV (setV h a 3 (s.length + 1)) (aV h a 0) s.length c) a (s ++ [c]) cap ∧ Fr (sbM h a) 0 0 h (setV (setV h a 3 (s.length + 1)) (aV h a 0) s.length c) ∧ aV (setV (setV h a 3 (s.length + 1)) (aV h a 0) s.length c) a 0 = aV h a 0 := by
  obtain ⟨⟨p1, p2, p3⟩, ⟨p4, p5⟩, p6, p7, p8⟩ := p
  have ne : a ≠ aV h a 0 := p1.ne p4 (by decide)
  have fr : Fr (sbM h a) (0 + 0) (0 + 0) h (setV (setV h a 3 (s.length + 1)) (aV h a 0) s.length c) :=
    (Fr.set.wk (Int.le_refl _) (Int.le_refl _) (fun x _ e => Or.inl e)).tr Fr.set (fun x _ e => Or.inr e)
  have e0 : aV (setV (setV h a 3 (s.length + 1)) (aV h a 0) s.length c) a 0 = aV h a 0 := by rw [tV_oth ne, tV_ix (by decide)]
  refine ⟨⟨⟨p1.fr fr, ?_, ?_⟩, ⟨?_, ?_⟩, ⟨?_, p6.2⟩, ?_, ?_⟩, fr, e0⟩
  · rw [tV_oth ne, tV_ix (by decide)]; exact p2
  · rw [tV_oth ne, tV_hit, List.length_append, List.length_singleton]; omega
  · rw [e0]; exact p4.fr fr
  · rw [e0]; exact p5
  · rw [List.length_append, List.length_singleton]; omega
  · intro x hx
    rcases List.mem_append.mp hx with q | q
    · exact p7 x q
    · rw [List.mem_singleton.mp q]; exact hc
  · rw [e0]
    intro i d hi
    have hlt : i < (s ++ [c]).length := (List.getElem?_eq_some_iff.mp hi).1
    rw [List.length_append, List.length_singleton] at hlt
    by_cases hi' : i < s.length
    · rw [List.getElem?_append_left hi'] at hi
      rw [tV_ix (by omega), tV_oth (Ne.symm ne)]
      exact p8 i d hi
    · have : i = s.length := by omega
      subst this
      rw [List.getElem?_append_right (Nat.le_refl _), Nat.sub_self] at hi
      cases hi
      exact tV_hit
/-- the room behind one more char -/
def nxc (len cap : Int) : Int := if len < cap then cap else 2 * cap + 2
theorem p_appc {k : Nat → Int} {h : AH} {a : Int} {s : List Int} {cap c : Int} (p : SB h a s cap) (hc : 0 ≤ c ∧ c < 128) (h2 : cap ≤ 300000) : Ok (A_J15_append_2 k h a c) fun r =>
    r.1 = a ∧ SB r.2 a (s ++ [c]) (nxc s.length cap) ∧ Fr (sbM h a) (if s.length < cap then 0 else 1) (nxc s.length cap - (if s.length < cap then cap else 0)) h r.2 ∧ (aV r.2 a 0 = aV h a 0 ∨ aN h ≤ aV r.2 a 0) := by
  have pl := p
  obtain ⟨⟨p1, p2, p3⟩, ⟨p4, p5⟩, p6, p7, p8⟩ := p
  unfold A_J15_append_2 A_J14_append_2
  rw [gf_e p1.1, Option.bind_some, p3, wr_id' (by omega) (by omega)]
  have tail : ∀ (h2 : AH) (cap' : Int), SB h2 a s cap' → (s.length : Int) < cap' → Ok (Option.bind (A_J14_isLatin1 h2 a) fun v3 => if v3 = 0 then none else (A_J1_canEncode h2 c).bind fun v4 => if v4 = 0 then none else (gf h2 4 0 a).bind fun v5 => (gf h2 4 3 a).bind fun v6 => (pf h2 4 3 a (wr (v6 + 1))).bind fun h7 => (pa h7 66 v5 v6 (i2b c)).bind fun h8 => some (a, h8)) (fun r => r = (a, setV (setV h2 a 3 (s.length + 1)) (aV h2 a 0) s.length c)) := by
    intro h2 cap' q hq
    obtain ⟨⟨q1, q2, q3⟩, ⟨q4, q5⟩, q6, q7, q8⟩ := q
    have hce : A_J1_canEncode h2 c = some 1 := by unfold A_J1_canEncode; rw [if_neg (by omega)]
    rw [p_isLat q1.1 q2, Option.bind_some, if_neg (by decide), hce, Option.bind_some, if_neg (by decide)]
    simp only [gf_e q1.1, Option.bind_some, q3]
    rw [pf_e q1.1, Option.bind_some, wr_id' (by omega) (by omega), pa_e (by rw [tT_set]; exact q4.1) (by omega) (by rw [tL_set, q5]; omega), i2b_asc hc, Option.bind_some, Ok_some]
  refine Ok_bind.mpr ?_
  refine Ok.imp (P := fun (r : Int × AH) => r.1 = a ∧ SB r.2 a (s ++ [c]) (nxc s.length cap) ∧ Fr (sbM h a) (if s.length < cap then 0 else 1) (nxc s.length cap - (if s.length < cap then cap else 0)) h r.2 ∧ (aV r.2 a 0 = aV h a 0 ∨ aN h ≤ aV r.2 a 0)) ?_ (fun r hr => ?_)
  · refine (p_ensure pl (by omega) (by omega) (by omega)).bd fun h2 hh => ?_
    rcases hh with ⟨hh, rfl⟩ | ⟨cap', hh, e, q, f, hn⟩
    · refine (tail _ _ pl (by omega)).imp fun r e => ?_
      subst e
      obtain ⟨w1, w2, w3⟩ := p_putc pl hc (by omega)
      unfold nxc
      simp only [if_pos (show (s.length : Int) < cap by omega)]
      exact ⟨trivial, w1, w2.wk (by omega) (by omega) (fun _ _ e => e), Or.inl w3⟩
    · refine (tail _ _ q (by omega)).imp fun r e => ?_
      subst e
      obtain ⟨w1, w2, w3⟩ := p_putc q hc (by omega)
      have e' : cap' = 2 * cap + 2 := by rw [e]; split <;> omega
      unfold nxc
      simp only [if_neg (show ¬ (s.length : Int) < cap by omega)]
      subst e'
      refine ⟨trivial, w1, ((f.wk (Int.le_refl _) (Int.le_refl _) (fun _ _ e => Or.inl e)).tr w2 (fun x hx e => ?_)).wk (by omega) (by omega) (fun _ _ e => e), Or.inr (by rw [w3]; exact hn)⟩
      rcases e with e | e
      · exact Or.inl e
      · omega
  · obtain ⟨r1, r2⟩ := r
    exact Ok_some.mpr ⟨rfl, hr.2⟩
theorem Asc.app {s t : List Int} (a : Asc s) (b : Asc t) : Asc (s ++ t) := fun c h => (List.mem_append.mp h).elim (a c) (b c)
/-- the room behind a row of chars more -/
def nxs (len m cap : Int) : Int := if len + m ≤ cap then cap else cap + (if len + m - cap < cap + 2 then cap + 2 else len + m - cap)
/-- a string's bytes are laid behind -/
theorem p_puts {h : AH} {a b : Int} {s t : List Int} {cap : Int} (p : SB h a s cap) (q : Str h b t) (_ : aV h a 0 ≠ aV h b 0) (hs : (s.length : Int) + t.length ≤ cap) :
    let h' := setV (cpH h (aV h b 0) 0 (aV h a 0) s.length t.length) a 3 (s.length + t.length)
    SB h' a (s ++ t) cap ∧ Fr (sbM h a) 0 0 h h' ∧ aV h' a 0 = aV h a 0 := by
  obtain ⟨⟨p1, p2, p3⟩, ⟨p4, p5⟩, p6, p7, p8⟩ := p
  obtain ⟨q1, q2, q3, q4, q5⟩ := q
  have ne : a ≠ aV h a 0 := p1.ne p4 (by decide)
  intro h'
  have fr : Fr (sbM h a) (0 + 0) (0 + 0) h h' := (Fr.cp.wk (Int.le_refl _) (Int.le_refl _) (fun x _ e => Or.inr e)).tr Fr.set (fun x _ e => Or.inl e)
  have e0 : aV h' a 0 = aV h a 0 := by show aV (setV _ a 3 _) a 0 = _; rw [tV_ix (by decide), tV_cp, if_neg (fun z => ne z.1)]
  refine ⟨⟨⟨p1.fr fr, ?_, ?_⟩, ⟨?_, ?_⟩, ⟨?_, p6.2⟩, p7.app q4, ?_⟩, fr, e0⟩
  · show aV (setV _ a 3 _) a 1 = _
    rw [tV_ix (by decide), tV_cp, if_neg (fun z => ne z.1)]; exact p2
  · rw [List.length_append]; show aV (setV _ a 3 _) a 3 = _; rw [tV_hit]; omega
  · rw [e0]; exact p4.fr fr
  · rw [e0]; exact p5
  · rw [List.length_append]; omega
  · rw [e0]
    intro i d hi
    have hlt : i < (s ++ t).length := (List.getElem?_eq_some_iff.mp hi).1
    rw [List.length_append] at hlt
    show aV (setV _ a 3 _) (aV h a 0) i = d
    rw [tV_oth (Ne.symm ne), tV_cp]
    by_cases hi' : i < s.length
    · rw [List.getElem?_append_left hi'] at hi
      rw [if_neg (fun z => by omega)]
      exact p8 i d hi
    · rw [List.getElem?_append_right (by omega)] at hi
      rw [if_pos ⟨rfl, by omega, by omega⟩, show (0 : Int) + ((i : Int) - s.length) = ((i - s.length : Nat) : Int) by omega]
      exact q3.2.2 _ _ hi
theorem p_apps {k : Nat → Int} {h : AH} {a b : Int} {s t : List Int} {cap : Int} (p : SB h a s cap) (q : Str h b t) (ne' : aV h a 0 ≠ aV h b 0) (h2 : cap ≤ 100000) (h3 : t.length ≤ 100000) : Ok (A_J15_append k h a b) fun r =>
    r.1 = a ∧ SB r.2 a (s ++ t) (nxs s.length t.length cap) ∧ Fr (sbM h a) (if (s.length : Int) + t.length ≤ cap then 0 else 1) (nxs s.length t.length cap - (if (s.length : Int) + t.length ≤ cap then cap else 0)) h r.2 ∧ (aV r.2 a 0 = aV h a 0 ∨ aN h ≤ aV r.2 a 0) := by
  have pl := p
  have ql := q
  obtain ⟨⟨p1, p2, p3⟩, ⟨p4, p5⟩, p6, p7, p8⟩ := p
  unfold A_J15_append A_J14_append
  rw [if_neg (by have := q.1.2.1; omega), tgc_e q.1.1, Option.bind_some, p_length q, Option.bind_some, gf_e p1.1, Option.bind_some, p3, wr_id' (by omega) (by omega)]
  have tail : ∀ (h2 : AH) (cap' : Int), SB h2 a s cap' → Str h2 b t → (s.length : Int) + t.length ≤ cap' → Ok ((gf h2 4 3 a).bind fun v5 => (A_J14_putStringAt h2 a v5 b).bind fun h6 => (gf h6 4 3 a).bind fun v7 => (pf h6 4 3 a (wr (v7 + t.length))).bind fun h8 => some (a, h8)) (fun r => r = (a, setV (cpH h2 (aV h2 b 0) 0 (aV h2 a 0) s.length t.length) a 3 (s.length + t.length))) := by
    intro h2 cap' w qb hq
    have qc := p_coder qb
    obtain ⟨⟨q1, q2, q3⟩, ⟨q4, q5⟩, q6, q7, q8⟩ := w
    have ne : a ≠ aV h2 a 0 := q1.ne q4 (by decide)
    have hinf : A_J14_inflateIfNeededFor h2 a b = some () := by
      unfold A_J14_inflateIfNeededFor
      rw [if_neg (by decide), gf_e q1.1, Option.bind_some, tgc_e qb.1.1, Option.bind_some, qc, Option.bind_some, q2, if_pos rfl]
    have hput : A_J14_putStringAt h2 a s.length b = some (cpH h2 (aV h2 b 0) 0 (aV h2 a 0) s.length t.length) := by
      unfold A_J14_putStringAt
      rw [hinf, Option.bind_some]
      simp only [gf_e q1.1, Option.bind_some, q2]
      rw [tgc_e qb.1.1, Option.bind_some]
      unfold A_J0_getBytes
      rw [qc, Option.bind_some, if_pos rfl]
      obtain ⟨b1, b2, b3, b4, b5⟩ := qb
      simp only [gf_e b1.1, Option.bind_some]
      rw [al_e b3.1.1, Option.bind_some, b3.2.1, shl32_0 (by omega) (by omega), cpc_e ⟨⟨b3.1.1, q4.1⟩, by omega, by omega, by omega, by rw [b3.2.1]; omega, by omega⟩]
      rfl
    rw [gf_e q1.1, Option.bind_some, q3, hput, Option.bind_some]
    rw [gf_e (by rw [tT_cp]; exact q1.1), Option.bind_some, tV_cp, if_neg (fun z => ne z.1), q3, pf_e (by rw [tT_cp]; exact q1.1), wr_id' (by omega) (by omega), Option.bind_some, Ok_some]
  refine Ok_bind.mpr ?_
  refine Ok.imp (P := fun (r : Int × AH) => r.1 = a ∧ SB r.2 a (s ++ t) (nxs s.length t.length cap) ∧ Fr (sbM h a) (if (s.length : Int) + t.length ≤ cap then 0 else 1) (nxs s.length t.length cap - (if (s.length : Int) + t.length ≤ cap then cap else 0)) h r.2 ∧ (aV r.2 a 0 = aV h a 0 ∨ aN h ≤ aV r.2 a 0)) ?_ (fun r hr => ?_)
  · refine (p_ensure pl (by omega) (by omega) (by omega)).bd fun h2 hh => ?_
    rcases hh with ⟨hh, rfl⟩ | ⟨cap', hh, e, w, f, hn⟩
    · refine (tail _ _ pl ql (by omega)).imp fun r e => ?_
      subst e
      obtain ⟨w1, w2, w3⟩ := p_puts pl ql ne' (by omega)
      unfold nxs
      simp only [if_pos (show (s.length : Int) + t.length ≤ cap by omega)]
      exact ⟨trivial, w1, w2.wk (by omega) (by omega) (fun _ _ e => e), Or.inl w3⟩
    · have qb : Str h2 b t := ql.fr f (fun e => ql.1.ne p1 (by decide) e) (fun e => ql.2.2.1.1.ne p1 (by decide) e)
      have e1 : aV h2 b 0 = aV h b 0 := ql.1.v f (fun e => ql.1.ne p1 (by decide) e) 0
      have l1 := ql.2.2.1.1.lt
      have hcap : (s.length : Int) + t.length ≤ cap' := by rw [e]; split <;> omega
      refine (tail _ _ w qb hcap).imp fun r e => ?_
      subst e
      obtain ⟨w1, w2, w3⟩ := p_puts w qb (by rw [e1]; omega) hcap
      unfold nxs
      simp only [if_neg (show ¬ (s.length : Int) + t.length ≤ cap by omega)]
      rw [← e]
      refine ⟨trivial, w1, ((f.wk (Int.le_refl _) (Int.le_refl _) (fun _ _ e => Or.inl e)).tr w2 (fun x hx e => ?_)).wk (by omega) (by omega) (fun _ _ e => e), Or.inr (by rw [w3]; exact hn)⟩
      rcases e with e | e
      · exact Or.inl e
      · omega
  · obtain ⟨r1, r2⟩ := r
    exact Ok_some.mpr ⟨rfl, hr.2⟩
/-- a new one -/
theorem p_newSB {h : AH} (hN : 0 ≤ aN h) : Ok (A_J15_init (mkc h 4 4 0) (aN h)) fun h' => SB h' (aN h) [] 16 ∧ Fr M0 2 20 h h' ∧ aV h' (aN h) 0 = aN h + 1 := by
  unfold A_J15_init A_J14_init
  rw [if_neg (by decide), nwa_e (by omega) (by omega), Option.bind_some]
  have l1 : aN h < aN (mkc h 4 4 0) := by rw [tN_mk]; omega
  simp only []
  rw [pf_e (by rw [tT_mkn l1]; exact tT_mkh), Option.bind_some, pf_e (by rw [tT_set, tT_mkn l1]; exact tT_mkh), Option.bind_some, Option.bind_some, Ok_some]
  have fr : Fr M0 (1 + (1 + (0 + 0))) (4 + (16 + (0 + 0))) h (setV (setV (mkc (mkc h 4 4 0) 66 16 16) (aN h) 0 (aN (mkc h 4 4 0))) (aN h) 1 0) :=
    (Fr.mk (by omega)).tr ((Fr.mk (by omega)).tr (Fr.set.tr Fr.set (M := fun x => x = aN h) (fun x _ e => e)) (M := fun x => x = aN h) (fun x _ e => e)) (fun x hx e => by omega)
  have e0 : aV (setV (setV (mkc (mkc h 4 4 0) 66 16 16) (aN h) 0 (aN (mkc h 4 4 0))) (aN h) 1 0) (aN h) 0 = aN h + 1 := by rw [tV_ix (by decide), tV_hit, tN_mk]
  refine ⟨⟨⟨⟨?_, hN, ?_⟩, tV_hit, ?_⟩, ⟨⟨?_, ?_, ?_⟩, ?_⟩, by simp, fun c hc => (by cases hc), fun i c hi => by simp at hi⟩, fr.wk (by omega) (by omega) (fun _ _ e => e), e0⟩
  · rw [tT_set, tT_set, tT_mkn l1]; exact tT_mkh
  · simp only [tN_set, tN_mk]; omega
  · rw [tV_ix (by decide), tV_ix (by decide), tV_mkn l1, tV_mkh]; rfl
  · rw [e0, tT_set, tT_set, show aN h + 1 = aN (mkc h 4 4 0) from rfl]; exact tT_mkh
  · rw [e0]; omega
  · rw [e0]; simp only [tN_set, tN_mk]; omega
  · rw [e0, tL_set, tL_set, show aN h + 1 = aN (mkc h 4 4 0) from rfl]; exact tL_mkh
theorem p_copyRange {k : Nat → Int} {h : AH} {b n : Int} (hk : k (1000 + b.toNat) ≠ 1) (p : At h b 66) (h0 : 0 ≤ n) (h1 : n ≤ aL h b) (h2 : aL h b ≤ 1000000) : Ok (A_J18_copyOfRange k h b 0 n) fun r =>
    r.1 = aN h ∧ At r.2 (aN h) 66 ∧ aL r.2 (aN h) = n ∧ (∀ i, 0 ≤ i → i < n → aV r.2 (aN h) i = aV h b i) ∧ Fr M0 1 n h r.2 := by
  have lt := p.lt
  have p0 := p.2.1
  unfold A_J18_copyOfRange
  rw [Ok_jn, if_pos rfl, al_e p.1, Option.bind_some]
  by_cases hn : n = aL h b
  · rw [if_pos hn]
    unfold clc
    rw [if_pos ⟨p.1, hk⟩, Option.bind_some]
    have t1 : aT (clB h b) (aN h) = 66 := if_pos rfl
    have t2 : aL (clB h b) (aN h) = aL h b := if_pos rfl
    have t3 : ∀ i, aV (clB h b) (aN h) i = aV h b i := fun i => if_pos rfl
    have fr : Fr M0 1 (aL h b) h (clB h b) := ⟨⟨by show aN h ≤ aN h + 1; omega, by show aN h + 1 ≤ aN h + 1; omega⟩, ⟨by show aS h ≤ aS h + aL h b; omega, by show aS h + aL h b ≤ aS h + aL h b; omega⟩, fun x hx => ⟨if_neg (ne_N hx), if_neg (ne_N hx)⟩, fun x hx _ i => if_neg (ne_N hx)⟩
    show Ok ((ckc (clB h b) [66] (aN h)).bind fun _ => some (aN h, clB h b)) _
    rw [ckc_e t1 rfl, Option.bind_some, Ok_some]
    exact ⟨rfl, ⟨t1, by omega, by show aN h < aN h + 1; omega⟩, by rw [t2, hn], fun i _ _ => t3 i, by rw [hn]; exact fr⟩
  · rw [if_neg hn]
    unfold A_J18_copyOfRangeByte A_J18_checkLength
    rw [if_neg (by omega)]
    simp only [Option.bind_some, bd1, Int.sub_zero]
    rw [wr_id' (by omega) (by omega), nwa_e h0 (by omega)]
    simp only [Option.bind_some]
    rw [al_e ((tT_mkn lt).trans p.1), Option.bind_some, tL_mkn lt, wr_id' (by omega) (by omega), mn32_r h1, cpc_e ⟨⟨(tT_mkn lt).trans p.1, tT_mkh⟩, by omega, by omega, h0, by rw [tL_mkn lt]; omega, by rw [tL_mkh]; omega⟩, Option.bind_some, Option.bind_some, Ok_some]
    refine ⟨rfl, ⟨by rw [tT_cp]; exact tT_mkh, by omega, by rw [tN_cp, tN_mk]; omega⟩, by rw [tL_cp]; exact tL_mkh, fun i i0 i1 => ?_, ((Fr.mk h0).tr Fr.cp (M := M0) (fun x hx e => by omega)).wk (by omega) (by omega) (fun _ _ e => e)⟩
    rw [tV_cp, if_pos ⟨rfl, i0, by omega⟩, tV_mkn lt, show (0 : Int) + (i - 0) = i by omega]
theorem p_sbLen {h : AH} {a : Int} {s : List Int} {cap : Int} (p : SB h a s cap) : A_J15_length h a = some (s.length : Int) := by
  unfold A_J15_length A_J14_length
  rw [gf_e p.1.1.1, Option.bind_some, Option.bind_some, p.1.2.2]
theorem p_toString {k : Nat → Int} {h : AH} {a : Int} {s : List Int} {cap : Int} (hk : k (1000 + (aV h a 0).toNat) ≠ 1) (p : SB h a s cap) : Ok (A_J15_toString k h a) fun r =>
    r.1 = aN h ∧ Str r.2 (aN h) s ∧ aV r.2 (aN h) 0 = aN h + 1 ∧ Fr M0 2 (4 + s.length) h r.2 := by
  have hl : aN h < aN (mkc h 1 4 0) := by rw [tN_mk]; omega
  have fr0 : Fr M0 1 4 h (mkc h 1 4 0) := Fr.mk (by omega)
  have fr1 : Fr M0 (1 + 0) (4 + 0) h (setV (mkc h 1 4 0) (aN h) 1 0) := fr0.tr Fr.set (fun x hx e => by omega)
  obtain ⟨q, qe⟩ := p.fr fr1 (fun e => e) (fun e => e)
  have n1 : aN (setV (mkc h 1 4 0) (aN h) 1 0) = aN h + 1 := rfl
  have g1 : aV (mkc h 1 4 0) a 0 = aV h a 0 := tV_mkn p.1.1.lt
  obtain ⟨q0, qe0⟩ := p.fr fr0 (fun e => e) (fun e => e)
  have pN := p.1.1.2.1
  have pl := p.1.1.lt
  unfold A_J15_toString bd1 nwo
  show Ok (Option.bind (A_J0_init k (mkc h 1 4 0) (aN h) a) _) _
  unfold A_J0_init A_J0_init_2
  rw [tgc_e q0.1.1.1]
  simp only [Option.bind_some]
  have hv : A_J14_getValue (mkc h 1 4 0) a = some (aV h a 0) := by unfold A_J14_getValue; rw [gf_e q0.1.1.1, g1]; rfl
  rw [hv, Option.bind_some, p_sbLen q0, Option.bind_some, p_isLat q0.1.1.1 q0.1.2.1, Option.bind_some, if_neg (by decide), pf_e tT_mkh, Option.bind_some]
  refine Ok_bind.mpr (Ok_bind.mpr (Ok_bind.mpr ((p_copyRange hk (by rw [← qe]; exact q.2.1.1) (by omega) (by rw [← qe, q.2.1.2]; exact q.2.2.1.1) (by rw [← qe, q.2.1.2]; exact q.2.2.1.2)).imp ?_)))
  rintro ⟨v, h3⟩ ⟨e1, e2, e3, e4, e5⟩
  simp only [] at e1 e2 e3 e4 e5
  rw [n1] at e1 e2 e3 e4
  subst e1
  have e6 : aT h3 (aN h) = 1 := by rw [(e5.2.2.1 (aN h) (by rw [n1]; omega)).1]; rw [tT_set]; exact tT_mkh
  have e7 : aV h3 (aN h) 1 = 0 := by rw [e5.2.2.2 (aN h) (by rw [n1]; omega) (fun e => e)]; exact tV_hit
  show Ok (Option.bind (pf h3 1 0 (aN h) (aN h + 1)) fun h17 => some h17) _
  rw [pf_e e6, Option.bind_some, Ok_some, Ok_some, Ok_some]
  have fr3 : Fr M0 (1 + 0 + 1 + 0) (4 + 0 + s.length + 0) h (setV h3 (aN h) 0 (aN h + 1)) := (fr1.tr e5 (fun x hx e => e)).tr Fr.set (fun x hx e => by omega)
  refine ⟨rfl, ⟨⟨e6, by omega, ?_⟩, by rw [tV_ix (by decide)]; exact e7, ⟨?_, ?_, ?_⟩, p.2.2.2.1, ?_⟩, tV_hit, fr3.wk (by omega) (by omega) (fun _ _ e => e)⟩
  · rw [tN_set]; have := e5.1.1; rw [n1] at this; omega
  · rw [tV_hit]; exact ⟨e2.1, e2.2.1, e2.2.2⟩
  · rw [tV_hit, tL_set]; exact e3
  · rw [tV_hit]
    intro i c hi
    have hlt : i < s.length := (List.getElem?_eq_some_iff.mp hi).1
    rw [tV_oth (by omega), e4 i (by omega) (by omega), ← qe]
    exact q.2.2.2.2 i c hi
  · have := p.2.2.1; omega
