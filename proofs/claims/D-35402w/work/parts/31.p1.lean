set_option maxRecDepth 100000
/-! PLAIN 1: heaps: what stays, what it costs; strings -/
/-- a cell of a kind -/
def At (h : AH) (a : Int) (t : Nat) : Prop := aT h a = t ∧ 0 ≤ a ∧ a < aN h
/-- old cells but those of M are as they were; what was made -/
def Fr (M : Int → Prop) (c s : Int) (h h' : AH) : Prop := (aN h ≤ aN h' ∧ aN h' ≤ aN h + c) ∧ (aS h ≤ aS h' ∧ aS h' ≤ aS h + s) ∧ (∀ a, a < aN h → aT h' a = aT h a ∧ aL h' a = aL h a) ∧ ∀ a, a < aN h → ¬ M a → ∀ i, aV h' a i = aV h a i
abbrev M0 : Int → Prop := fun _ => False
theorem Fr.rf {M : Int → Prop} {h : AH} : Fr M 0 0 h h := ⟨⟨Int.le_refl _, by omega⟩, ⟨Int.le_refl _, by omega⟩, fun _ _ => ⟨rfl, rfl⟩, fun _ _ _ _ => rfl⟩
theorem Fr.tr {M M' : Int → Prop} {c s c' s' : Int} {h h1 h2 : AH} (a : Fr M c s h h1) (b : Fr M' c' s' h1 h2) (hM : ∀ x, x < aN h → M' x → M x) : Fr M (c + c') (s + s') h h2 := by
  obtain ⟨a1, a2, a3, a4⟩ := a
  obtain ⟨b1, b2, b3, b4⟩ := b
  refine ⟨⟨by omega, by omega⟩, ⟨by omega, by omega⟩, fun x hx => ?_, fun x hx hm i => ?_⟩
  · have p := a3 x hx
    have q := b3 x (by omega)
    exact ⟨q.1.trans p.1, q.2.trans p.2⟩
  · exact (b4 x (by omega) (fun z => hm (hM x hx z)) i).trans (a4 x hx hm i)
theorem Fr.wk {M M' : Int → Prop} {c s c' s' : Int} {h h1 : AH} (a : Fr M c s h h1) (hc : c ≤ c') (hs : s ≤ s') (hM : ∀ x, x < aN h → M x → M' x) : Fr M' c' s' h h1 := by
  obtain ⟨a1, a2, a3, a4⟩ := a
  exact ⟨⟨a1.1, by omega⟩, ⟨a2.1, by omega⟩, a3, fun x hx hm => a4 x hx (fun z => hm (hM x hx z))⟩
section Terms
variable {h : AH} {a i v b j : Int} {t : Nat} {sl len : Int}
theorem tT_set : aT (setV h a i v) b = aT h b := rfl
theorem tL_set : aL (setV h a i v) b = aL h b := rfl
theorem tN_set : aN (setV h a i v) = aN h := rfl
theorem tS_set : aS (setV h a i v) = aS h := rfl
theorem tV_set : aV (setV h a i v) b j = if b = a ∧ j = i then v else aV h b j := rfl
theorem tV_hit : aV (setV h a i v) a i = v := if_pos ⟨rfl, rfl⟩
theorem tV_oth (q : b ≠ a) : aV (setV h a i v) b j = aV h b j := if_neg fun z => q z.1
theorem tV_ix (q : j ≠ i) : aV (setV h a i v) b j = aV h b j := if_neg fun z => q z.2
theorem tT_mk : aT (mkc h t sl len) b = if b = aN h then t else aT h b := rfl
theorem tL_mk : aL (mkc h t sl len) b = if b = aN h then len else aL h b := rfl
theorem tV_mk : aV (mkc h t sl len) b j = if b = aN h then dv (ft t j) else aV h b j := rfl
theorem tN_mk : aN (mkc h t sl len) = aN h + 1 := rfl
theorem tS_mk : aS (mkc h t sl len) = aS h + sl := rfl
theorem ne_N (q : b < aN h) : ¬ b = h.1 := fun e => by rw [e] at q; exact Int.lt_irrefl _ q
theorem tT_mkn (q : b < aN h) : aT (mkc h t sl len) b = aT h b := if_neg (ne_N q)
theorem tL_mkn (q : b < aN h) : aL (mkc h t sl len) b = aL h b := if_neg (ne_N q)
theorem tV_mkn (q : b < aN h) : aV (mkc h t sl len) b j = aV h b j := if_neg (ne_N q)
theorem tT_mkh : aT (mkc h t sl len) (aN h) = t := if_pos rfl
theorem tL_mkh : aL (mkc h t sl len) (aN h) = len := if_pos rfl
theorem tV_mkh : aV (mkc h t sl len) (aN h) j = dv (ft t j) := if_pos rfl
theorem tN_cp {x sp y dp n : Int} : aN (cpH h x sp y dp n) = aN h := rfl
theorem tS_cp {x sp y dp n : Int} : aS (cpH h x sp y dp n) = aS h := rfl
theorem tT_cp {x sp y dp n : Int} : aT (cpH h x sp y dp n) b = aT h b := rfl
theorem tL_cp {x sp y dp n : Int} : aL (cpH h x sp y dp n) b = aL h b := rfl
theorem tV_cp {x sp y dp n : Int} : aV (cpH h x sp y dp n) b j = if b = y ∧ dp ≤ j ∧ j < dp + n then aV h x (sp + (j - dp)) else aV h b j := rfl
end Terms
theorem Fr.set {h : AH} {a i v : Int} : Fr (fun x => x = a) 0 0 h (setV h a i v) :=
  ⟨⟨Int.le_refl _, by rw [tN_set]; omega⟩, ⟨Int.le_refl _, by rw [tS_set]; omega⟩, fun _ _ => ⟨rfl, rfl⟩, fun x _ hm j => tV_oth hm⟩
theorem Fr.mk {M : Int → Prop} {h : AH} {t : Nat} {sl len : Int} (hs : 0 ≤ sl) : Fr M 1 sl h (mkc h t sl len) :=
  ⟨⟨by rw [tN_mk]; omega, by rw [tN_mk]; omega⟩, ⟨by rw [tS_mk]; omega, by rw [tS_mk]; omega⟩, fun x hx => ⟨tT_mkn hx, tL_mkn hx⟩, fun x hx _ j => tV_mkn hx⟩
theorem Fr.cp {h : AH} {x sp y dp n : Int} : Fr (fun z => z = y) 0 0 h (cpH h x sp y dp n) :=
  ⟨⟨Int.le_refl _, by rw [tN_cp]; omega⟩, ⟨Int.le_refl _, by rw [tS_cp]; omega⟩, fun _ _ => ⟨rfl, rfl⟩, fun z _ hm j => by rw [tV_cp, if_neg (fun q => hm q.1)]⟩
theorem At.fr {M : Int → Prop} {c s : Int} {h h' : AH} {a : Int} {t : Nat} (p : At h a t) (f : Fr M c s h h') : At h' a t := ⟨(f.2.2.1 a p.2.2).1.trans p.1, p.2.1, by have := f.1.1; have := p.2.2; omega⟩
theorem At.v {M : Int → Prop} {c s : Int} {h h' : AH} {a : Int} {t : Nat} (p : At h a t) (f : Fr M c s h h') (m : ¬ M a) (i : Int) : aV h' a i = aV h a i := f.2.2.2 a p.2.2 m i
theorem At.l {M : Int → Prop} {c s : Int} {h h' : AH} {a : Int} {t : Nat} (p : At h a t) (f : Fr M c s h h') : aL h' a = aL h a := (f.2.2.1 a p.2.2).2
theorem At.lt {h : AH} {a : Int} {t : Nat} (p : At h a t) : a < aN h := p.2.2
theorem At.ne {h : AH} {a b : Int} {t u : Nat} (p : At h a t) (q : At h b u) (n : t ≠ u) : a ≠ b := fun e => n (by rw [← p.1, ← q.1, e])
/-- bytes -/
def Byt (h : AH) (a : Int) (s : List Int) : Prop := At h a 66 ∧ aL h a = s.length ∧ ∀ (i : Nat) (c : Int), s[i]? = some c → aV h a i = c
def Asc (s : List Int) : Prop := ∀ c ∈ s, 0 ≤ c ∧ c < 128
/-- a string of small chars -/
def Str (h : AH) (a : Int) (s : List Int) : Prop := At h a 1 ∧ aV h a 1 = 0 ∧ Byt h (aV h a 0) s ∧ Asc s ∧ s.length ≤ 1000000
theorem Byt.fr {M : Int → Prop} {c s : Int} {h h' : AH} {a : Int} {l : List Int} (p : Byt h a l) (f : Fr M c s h h') (m : ¬ M a) : Byt h' a l :=
  ⟨p.1.fr f, (p.1.l f).trans p.2.1, fun i c e => (p.1.v f m i).trans (p.2.2 i c e)⟩
theorem Str.fr {M : Int → Prop} {c s : Int} {h h' : AH} {a : Int} {l : List Int} (p : Str h a l) (f : Fr M c s h h') (m : ¬ M a) (m' : ¬ M (aV h a 0)) : Str h' a l := by
  obtain ⟨p1, p2, p3, p4⟩ := p
  refine ⟨p1.fr f, (p1.v f m 1).trans p2, ?_, p4⟩
  rw [p1.v f m 0]
  exact p3.fr f m'
/-- .. where nothing of M is a string or a row of bytes -/
theorem Str.frt {M : Int → Prop} {c s : Int} {h h' : AH} {a : Int} {l : List Int} (p : Str h a l) (f : Fr M c s h h') (m : ∀ x, M x → aT h x ≠ 1 ∧ aT h x ≠ 66) : Str h' a l :=
  p.fr f (fun z => (m _ z).1 p.1.1) (fun z => (m _ z).2 p.2.2.1.1.1)
theorem shr32_0 {x : Int} (h1 : -2147483648 ≤ x) (h2 : x < 2147483648) : shr32 x 0 = x := by
  show (iI x >>> (iI 0 &&& 31)).toInt = x
  rw [show (iI 0 &&& 31 : Int32) = 0 by decide, Int32.shiftRight_zero]
  exact iI_toInt ⟨h1, h2⟩
theorem shl32_0 {x : Int} (h1 : -2147483648 ≤ x) (h2 : x < 2147483648) : shl32 x 0 = x := by
  show (iI x <<< (iI 0 &&& 31)).toInt = x
  rw [show (iI 0 &&& 31 : Int32) = 0 by decide, Int32.shiftLeft_zero]
  exact iI_toInt ⟨h1, h2⟩
theorem iI_bv {n : Nat} (h : n < 2147483648) : (iI n).toBitVec.toNat = n := by
  show (Int32.ofInt n).toBitVec.toNat = n
  rw [Int32.toBitVec_ofInt, BitVec.toNat_ofInt]
  omega
theorem iI_of_bv {x : Int32} {n : Nat} (h : n < 2147483648) (e : x.toBitVec.toNat = n) : x.toInt = n := by
  show x.toBitVec.toInt = n
  rw [BitVec.toInt_eq_toNat_of_lt (by omega), e]
theorem chr_asc {c : Int} (h : 0 ≤ c ∧ c < 128) : chr (and32 c 255) = c := by
  obtain ⟨n, rfl⟩ := Int.eq_ofNat_of_zero_le h.1
  have hn : n < 128 := by omega
  have e1 : and32 (n : Int) 255 = n := by
    refine iI_of_bv (by omega) ?_
    rw [Int32.toBitVec_and, BitVec.toNat_and, iI_bv (by omega), show (iI 255).toBitVec.toNat = 255 from rfl]
    rw [show 255 = 2 ^ 8 - 1 from rfl, Nat.and_two_pow_sub_one_eq_mod]
    omega
  rw [e1]
  show ((iI n).toUInt32 % 65536).toInt32.toInt = n
  refine iI_of_bv (by omega) ?_
  show ((iI n).toUInt32 % 65536).toNat = n
  rw [UInt32.toNat_mod]
  show (iI n).toBitVec.toNat % 65536 = n
  rw [iI_bv (by omega)]
  omega
theorem i2b_asc {c : Int} (h : 0 ≤ c ∧ c < 128) : i2b c = c := by
  show (Int32.toInt8 (Int32.ofInt c)).toInt = c
  rw [Int32.toInt8_ofInt]
  exact Int8.toInt_ofInt_of_le (by omega) (by omega)
theorem p_coder {h : AH} {a : Int} {s : List Int} (p : Str h a s) : A_J0_coder h a = some 0 := by
  unfold A_J0_coder gf
  rw [if_neg (by decide), if_pos p.1.1]
  show some (aV h a 1) = _
  rw [p.2.1]
theorem gf_e {h : AH} {a k : Int} {t : Nat} (e : aT h a = t) : gf h t k a = some (aV h a k) := if_pos e
theorem al_e {h : AH} {a : Int} {t : Nat} (e : aT h a = t) : al h t a = some (aL h a) := if_pos e
theorem ga_e {h : AH} {a i : Int} {t : Nat} (e : aT h a = t) (h0 : 0 ≤ i) (h1 : i < aL h a) : ga h t a i = some (aV h a i) := if_pos ⟨e, h0, h1⟩
theorem tgc_e {h : AH} {a : Int} {t : Nat} (e : aT h a = t) : tgc h t a = some () := if_pos e
theorem p_length {h : AH} {a : Int} {s : List Int} (p : Str h a s) : A_J0_length h a = some (s.length : Int) := by
  have hc := p_coder p
  obtain ⟨p1, p2, p3, p4, p5⟩ := p
  unfold A_J0_length
  rw [gf_e p1.1, Option.bind_some, al_e p3.1.1, Option.bind_some, hc, Option.bind_some, p3.2.1, shr32_0 (by omega) (by omega)]
theorem p_charAt {k : Nat → Int} {h : AH} {a : Int} {s : List Int} (p : Str h a s) {i : Int} {c : Int} (h0 : 0 ≤ i) (hi : s[i.toNat]? = some c) : A_J0_charAt k h a i = some c := by
  obtain ⟨p1, p2, p3, p4, p5⟩ := p
  have hlt : i.toNat < s.length := (List.getElem?_eq_some_iff.mp hi).1
  have hv := p3.2.2 _ _ hi
  have hc := p4 c (List.mem_of_getElem? hi)
  have e : ((i.toNat : Nat) : Int) = i := by omega
  rw [e] at hv
  have hl : A_J0_isLatin1 h a = some 1 := by
    unfold A_J0_isLatin1 gf
    rw [if_neg (by decide), if_pos p1.1, p2]
    rfl
  unfold A_J0_charAt
  rw [hl]
  show (if (1 : Int) = 0 then none else _) = _
  rw [if_neg (by decide)]
  unfold gf
  rw [if_pos p1.1]
  show Option.bind (A_J1_charAt k h (aV h a 0) i) _ = _
  have : A_J1_charAt k h (aV h a 0) i = some c := by
    unfold A_J1_charAt A_J0_checkIndex A_J2_checkIndex al ga
    rw [if_pos p3.1.1, p3.2.1]
    show Option.bind (Option.bind (if i < 0 then none else if i < (s.length : Int) then some i else none) _) _ = _
    rw [if_neg (by omega), if_pos (by omega)]
    show Option.bind (if _ then _ else _) _ = _
    rw [if_pos ⟨p3.1.1, h0, by omega⟩, hv]
    show some (chr (and32 c 255)) = some c
    rw [chr_asc hc]
  rw [this]
  rfl
