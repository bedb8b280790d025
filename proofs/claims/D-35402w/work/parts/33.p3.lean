set_option maxRecDepth 100000
/-! PLAIN 3: parts of strings, sameness of strings, small classes of chars -/
def slc (s : List Int) (i j : Nat) : List Int := (s.drop i).take (j - i)
theorem slc_len {s : List Int} {i j : Nat} (h : i ≤ j) (h2 : j ≤ s.length) : (slc s i j).length = j - i := by
  unfold slc
  rw [List.length_take, List.length_drop]
  omega
theorem slc_self {s : List Int} {i : Nat} : slc s i i = [] := by unfold slc; rw [Nat.sub_self, List.take_zero]
theorem slc_snoc {s : List Int} {i j : Nat} {c : Int} (h : i ≤ j) (e : s[j]? = some c) : slc s i j ++ [c] = slc s i (j + 1) := by
  unfold slc
  rw [show j + 1 - i = (j - i) + 1 by omega, List.take_add_one, List.getElem?_drop, show i + (j - i) = j by omega, e]
  rfl
theorem slc_asc {s : List Int} {i j : Nat} (h : Asc s) : Asc (slc s i j) := fun c hc => h c (List.mem_of_mem_drop (List.mem_of_mem_take hc))
theorem getE {s : List Int} {i : Nat} (h : i < s.length) : ∃ c, s[i]? = some c := ⟨s[i], List.getElem?_eq_getElem h⟩
theorem nwo_e {h : AH} {t : Nat} {sl : Int} : nwo h t sl = (aN h, mkc h t sl 0) := rfl
/-- no constants from here on -/
def KX (k : Nat → Int) (n : Int) : Prop := ∀ a : Nat, n ≤ (a : Int) → k (1000 + a) ≠ 1
theorem KX.at {k : Nat → Int} {n a : Int} (h : KX k n) (h0 : 0 ≤ n) (h1 : n ≤ a) : k (1000 + a.toNat) ≠ 1 := h _ (by omega)
theorem KX.mono {k : Nat → Int} {n m : Int} (h : KX k n) (h1 : n ≤ m) : KX k m := fun a ha => h a (by omega)
theorem p_cut {k : Nat → Int} {h : AH} {text : Int} {s : List Int} {i j : Nat} (hk : KX k (aN h)) (p : Str h text s) (hij : i ≤ j) (hj : j ≤ s.length) (hlen : s.length ≤ 100000) : Ok (A_X1_cut k h text i j) fun r =>
    Str r.2 r.1 (slc s i j) ∧ aN h ≤ r.1 ∧ aN h ≤ aV r.2 r.1 0 ∧ Fr M0 (4 + ((j - i : Nat) : Int) / 9) (24 + 5 * ((j - i : Nat) : Int)) h r.2 := by
  have pN := p.1.2.1
  have pl := p.1.lt
  have pl2 := p.2.2.1.1.lt
  unfold A_X1_cut
  simp only [bd1, nwo_e]
  refine (p_newSB (by omega)).bd fun h3 ⟨q, fr, eA⟩ => ?_
  let St : AH → Nat → Prop := fun h5 n => ∃ cap c sl : Int, SB h5 (aN h) (slc s i n) cap ∧ Fr M0 c sl h h5 ∧ (18 * (c - 2) ≤ cap - 16 ∧ sl - 20 ≤ 2 * (cap - 16)) ∧ (16 ≤ cap ∧ (cap ≤ 16 ∨ cap ≤ 2 * ((n - i : Nat) : Int))) ∧ aN h ≤ aV h5 (aN h) 0
  have lp := lp_ok (F := B_X1_cut_11 k text j (aN h)) (μ := fun a => ((j : Int) - a.1).toNat) (I := fun a => ∃ n : Nat, a.1 = n ∧ i ≤ n ∧ n ≤ j ∧ St a.2 n) (P := fun _ h6 => St h6 j) (fun rec a hI ih => ?_) FU (i, h3) ⟨i, rfl, Nat.le_refl _, hij, 16, 2, 20, by rw [slc_self]; exact q, fr, by omega, by omega, by rw [eA]; omega⟩ (by show _ < 1000000; dsimp only; omega)
  · refine lp.bd fun h6 ⟨cap, c, sl, w, f, hc, hcap, hA⟩ => ?_
    rw [tgc_e w.1.1.1, Option.bind_some]
    refine (p_toString (hk.at (by omega) hA) w).bd fun r hr => ?_
    obtain ⟨r1, r2⟩ := r
    obtain ⟨e1, e2, e3, e4⟩ := hr
    simp only [] at e1 e2 e3 e4
    subst e1
    rw [slc_len hij hj] at e4
    have := f.1
    refine Ok_some.mpr ⟨e2, by simp only []; omega, by simp only [e3]; omega, (f.tr e4 (fun _ _ e => e)).wk ?_ ?_ (fun _ _ e => e)⟩
    · omega
    · omega
  · obtain ⟨x, h5⟩ := a
    obtain ⟨n, rfl, h1, h2, cap, c, sl, w, f, hc, hcap, hA⟩ := hI
    dsimp only at w f hA
    unfold B_X1_cut_11
    dsimp only
    by_cases hn : (n : Int) < j
    · rw [if_pos hn]
      obtain ⟨d, hd⟩ := getE (s := s) (i := n) (by omega)
      have p5 := p.fr f (fun e => e) (fun e => e)
      rw [tgc_e p5.1.1, Option.bind_some, p_charAt p5 (by omega) (by simpa using hd), Option.bind_some, tgc_e w.1.1.1, Option.bind_some]
      have hl := slc_len h1 (by omega : n ≤ s.length)
      refine (p_appc w (p.2.2.2.1 d (List.mem_of_getElem? hd)) (by omega)).bd fun r hr => ?_
      obtain ⟨r1, h13⟩ := r
      obtain ⟨-, w', f', hA'⟩ := hr
      dsimp only at w' f' hA' ⊢
      rw [slc_snoc h1 hd] at w'
      rw [hl] at w' f'
      unfold bd1
      rw [wr_id' (by omega) (by omega)]
      have fN := f.1
      refine ih _ ⟨n + 1, by simp, by omega, by omega, nxc ((n - i : Nat) : Int) cap, _, _, w', f.tr f' (fun x hx e => ?_), ?_, ?_, ?_⟩ (by dsimp only; omega)
      · rcases e with e | e <;> omega
      · unfold nxc
        by_cases hq : ((n - i : Nat) : Int) < cap
        · simp only [if_pos hq]; omega
        · simp only [if_neg hq]; omega
      · unfold nxc
        by_cases hq : ((n - i : Nat) : Int) < cap
        · simp only [if_pos hq]; omega
        · simp only [if_neg hq]; omega
      · rcases hA' with e | e <;> (dsimp only; omega)
    · rw [if_neg hn, Ok_some]
      have : n = j := by omega
      subst this
      exact ⟨cap, c, sl, w, f, hc, hcap, hA⟩
