/-! HEAP, the other rows: casts, kinds, statics, String constants, switches -/
set_option maxRecDepth 100000
section XR
variable {C : Cx} {cc : ByteArray} {nL : Nat} {own : String} {z : Zs} {lv : LV} {pc : Nat} {st : List TV}
theorem x_ineg (G : Gz C z cc nL own) {a : Int} (hd : decode cc pc = .ok (.ineg, 1)) (k : X C z lv (pc + 1) ((0, wr (-a)) :: st)) : X C z lv pc ((0, a) :: st) :=
  X.step k fun H _ _ a0 _ w => have G := G H a0; lv_ineg (x := iI a) G.1 G.2.1 hd (by rw [show -iI a = iI (wr (-a)) by rw [iI_wr]; exact (Int32.ofInt_neg a).symm]; exact w)
def shr32 (a b : Int) : Int := (iI a >>> (iI b &&& 31)).toInt
theorem shr32_in (a b : Int) : InR (shr32 a b) := ⟨Int32.le_toInt _, Int32.toInt_lt _⟩
theorem x_ishr (G : Gz C z cc nL own) {a b : Int} (hd : decode cc pc = .ok (.ishr, 1)) (k : X C z lv (pc + 1) ((0, shr32 a b) :: st)) : X C z lv pc ((0, b) :: (0, a) :: st) :=
  X.step k fun H _ _ a0 _ w => have G := G H a0; lv_ishr (x := iI a) (y := iI b) G.1 G.2.1 hd (by rw [show iI a >>> (iI b &&& 31) = iI (shr32 a b) from (Int32.ofInt_toInt _).symm]; exact w)
def i2b (a : Int) : Int := ((iI a).toInt8).toInt
theorem i2b_ti (a : Int) : TI 3 (i2b a) := ⟨Int8.le_toInt _, Int8.toInt_lt _⟩
theorem x_i2b (G : Gz C z cc nL own) {a : Int} (hd : decode cc pc = .ok (.i2b, 1)) (k : X C z lv (pc + 1) ((0, i2b a) :: st)) : X C z lv pc ((0, a) :: st) :=
  X.step k fun H _ _ a0 _ w => have G := G H a0; lv_i2b (x := iI a) G.1 G.2.1 hd (show (iI a).toInt8.toInt32 = iI (i2b a) by rw [← Int32.toInt_inj, Int8.toInt_toInt32, iI_toInt (i2b_ti a).b]; rfl) w
theorem rf_ev (a : Int) : ev 2 a = va_rf (if a < 0 then none else some a.toNat) := by
  show (if a < 0 then Value.null else .ref a.toNat) = _
  split <;> rfl
theorem rf_eq {a b : Int} (ha : TI 5 a) (hb : TI 5 b) : (if a < 0 then none else some a.toNat : Option Nat) = (if b < 0 then none else some b.toNat) ↔ a = b := by
  have h1 : -1 ≤ a := ha
  have h2 : -1 ≤ b := hb
  constructor
  · intro h
    split at h <;> split at h <;> first | omega | (cases h; done) | (have := Option.some.inj h; omega)
  · rintro rfl; rfl
section Br
variable {α : Type} {A B r : α} {off : Int} {a b : Int}
theorem x_acmp_eq (G : Gz C z cc nL own) (tgt : Nat) (hd : decode cc pc = .ok (.if_acmp .eq off, 3)) (ht : (pc : Int) + off = (tgt : Int)) (ra : TI 5 a) (rb : TI 5 b) (e : (if a = b then A else B) = r) (kt : A = r → X C z lv tgt st) (kf : B = r → X C z lv (pc + 3) st) : X C z lv pc ((2, b) :: (2, a) :: st) :=
  X.br e kt kf (fun h H _ _ a0 w => by have G := G H a0; show XW C _ _ _ _ _ _ (ev 2 b :: ev 2 a :: evs st); rw [rf_ev b, rf_ev a]; exact lv_acmp_eq G.1 G.2.1 hd ht (fun _ => w) (fun q => absurd ((rf_eq ra rb).mpr h) q)) (fun h H _ _ a0 w => by have G := G H a0; show XW C _ _ _ _ _ _ (ev 2 b :: ev 2 a :: evs st); rw [rf_ev b, rf_ev a]; exact lv_acmp_eq G.1 G.2.1 hd ht (fun q => absurd ((rf_eq ra rb).mp q) h) (fun _ => w))
theorem x_acmp_ne (G : Gz C z cc nL own) (tgt : Nat) (hd : decode cc pc = .ok (.if_acmp .ne off, 3)) (ht : (pc : Int) + off = (tgt : Int)) (ra : TI 5 a) (rb : TI 5 b) (e : (if a = b then A else B) = r) (kt : A = r → X C z lv (pc + 3) st) (kf : B = r → X C z lv tgt st) : X C z lv pc ((2, b) :: (2, a) :: st) :=
  X.br e kt kf (fun h H _ _ a0 w => by have G := G H a0; show XW C _ _ _ _ _ _ (ev 2 b :: ev 2 a :: evs st); rw [rf_ev b, rf_ev a]; exact lv_acmp_ne G.1 G.2.1 hd ht (fun q => absurd ((rf_eq ra rb).mpr h) q) (fun _ => w)) (fun h H _ _ a0 w => by have G := G H a0; show XW C _ _ _ _ _ _ (ev 2 b :: ev 2 a :: evs st); rw [rf_ev b, rf_ev a]; exact lv_acmp_ne G.1 G.2.1 hd ht (fun _ => w) (fun q => absurd ((rf_eq ra rb).mp q) h))
end Br
/-- a switch on a dense range: which way -/
theorem x_table (G : Gz C z cc nL own) {dflt lo hi : Int} {offs : Array Int} {len : Nat} {a : Int} (hd : decode cc pc = .ok (.tableswitch dflt lo hi offs, len)) (ra : InR a) (tgt : Nat) (h : if lo ≤ a ∧ a ≤ hi then ∃ off, offs[(a - lo).toNat]? = some off ∧ (pc : Int) + off = (tgt : Int) else (pc : Int) + dflt = (tgt : Int)) (k : X C z lv tgt st) : X C z lv pc ((0, a) :: st) :=
  X.step k fun H _ _ a0 _ w => by
    have G := G H a0
    have ea : (iI a).toInt = a := iI_toInt ra
    split at h
    · rename_i hh
      obtain ⟨off, h1, h2⟩ := h
      exact lv_tableIn G.1 G.2.1 hd (by rw [ea]; omega) (by rw [ea]; omega) (by rw [ea]; exact h1) h2 w
    · exact lv_tableOut G.1 G.2.1 hd (by rw [ea]; omega) h w
theorem x_lookup (G : Gz C z cc nL own) {dflt off : Int} {ps : Array (Int × Int)} {len : Nat} {a : Int} (hd : decode cc pc = .ok (.lookupswitch dflt ps, len)) (hp : (ps.toList.zip (ps.toList.drop 1)).all (fun (a, next) => a.1 < next.1) = true) (ra : InR a) (tgt : Nat) (h : Op.lookupswitch.offset ps.toList dflt a = off) (ht : (pc : Int) + off = (tgt : Int)) (k : X C z lv tgt st) : X C z lv pc ((0, a) :: st) :=
  X.step k fun H _ _ a0 _ w => by
    have G := G H a0
    exact lv_lookup G.1 G.2.1 hd hp (by rw [iI_toInt ra]; exact h) ht w
end XR
/-- castable: kinds of a list, to a class's name -/
def CstT (t : Nat) (nm : String) : Prop := 0 < t ∧ t < 64 ∧ ∃ r : vw_C, clA[t - 1]? = some r ∧ (r.1 = nm ∨ Cond.castable r.1 nm ∈ lw_tbl)
def CstL (L : List Nat) (nm : String) : Prop := ∀ t ∈ L, CstT t nm
def ckc (h : AH) (L : List Nat) (a : Int) : Option Unit := if a < 0 ∨ L.contains (aT h a) = true then some () else none
def iof (h : AH) (T : Nat) (a : Int) : Option Int := if a < 0 then some 0 else if aT h a = T then some 1 else if 13 ≤ aT h a ∧ aT h a ≤ 25 then some 0 else none
theorem nc_mem {t T : Nat} (h1 : 13 ≤ t ∧ t ≤ 25) (h2 : T ∈ [1, 15, 16, 17, 18, 19, 20, 21, 22, 23, 24, 25]) (h : t ≠ T) : (nmA t, nmA T) ∈ ncA := by
  refine List.mem_append_left _ (List.mem_map.mpr ⟨(t, T), List.mem_flatMap.mpr ⟨t, List.mem_range'.mpr ⟨t - 13, by omega, by omega⟩, List.mem_map.mpr ⟨T, List.mem_filter.mpr ⟨h2, ?_⟩, rfl⟩⟩, rfl⟩)
  simp [Ne.symm h]
theorem nmA_at {t : Nat} {r : vw_C} (h : clA[t - 1]? = some r) : nmA t = r.1 := by
  unfold nmA
  rw [h]; rfl
section HX
variable {C : Cx} {cc : ByteArray} {nL : Nat} {own : String} {E : EA} {l : Launch} {fr ty : Nat} {v : Int} {h0 hF h : AH} {ret : Option FieldType} {nm : String} {lv : LV} {pc : Nat} {st : List TV} {ε : Prop}
theorem h_cast {γ : Prop} (hB : γ → MaB C cc nL own E l fr h0 hF nm) {ρ : Type} {L : List Nat} {cn : String} (hL : CstL L cn) {a : Int} {K : Unit → Option ρ} {res : ρ} {idx : Nat} (hT : TH h) (ra : TI 5 a) (hd : decode cc pc = .ok (.checkcast idx, 3)) (q1 : Cond.classLink own idx cn ∈ lw_all) (e : (ckc h L a).bind K = some res) (kk : (a < 0 ∨ aT h a ∈ L) → K () = some res → X C (zA γ ε E hF h0 h) lv (pc + 3) ((2, a) :: st)) : X C (zA γ ε E hF h0 h) lv pc ((2, a) :: st) := by
  unfold ckc at e
  split at e
  · rename_i hh
    have hh' : a < 0 ∨ aT h a ∈ L := hh.imp id fun q => List.contains_iff_mem.mp q
    have k' := kk hh' e
    refine ⟨k'.1, fun H locs ls a' b c => ?_⟩
    have w := k'.2 H locs ls a' b c
    have M := hB a'.1
    have g := M.1
    show XW C H locs _ _ pc ls (ev 2 a :: evs st)
    change XW C H locs _ _ (pc + 3) ls (ev 2 a :: evs st) at w
    by_cases hn : a < 0
    · rw [ev_null hn] at w ⊢
      exact lv_castN g.1.1 g.1.2.1 hd w
    · have hm := hh'.resolve_left hn
      obtain ⟨t0, t1, r, hr, hc⟩ := hL _ hm
      obtain ⟨q, rfl, -⟩ := hT.pos (a := a) (by omega)
      rw [ev_ref] at w ⊢
      have hrc := ClT.recv ⟨t0, t1, r, hr, rfl⟩ g.2.1 a'.2 (rfl : aT h q = aT h q)
      rcases hc with hc | hc
      · subst hc
        exact va_castS g.1.1 g.1.2.1 g.1.2.2.2.2.1 (g.1.2.2.2.2.2.1 _ q1) (g.2.1.1 _ r hr).2 hrc hd w
      · exact va_castY g.1.1 g.1.2.1 g.1.2.2.2.2.1 (g.1.2.2.2.2.2.1 _ q1) (g.2.2.1 _ hc rfl) hrc hd w
  · cases e
theorem h_iof {γ : Prop} (hB : γ → MaB C cc nL own E l fr h0 hF nm) {ρ : Type} {T : Nat} (hTm : T ∈ [1, 15, 16, 17, 18, 19, 20, 21, 22, 23, 24, 25]) {a : Int} {K : Int → Option ρ} {res : ρ} {idx : Nat} (hT : TH h) (ra : TI 5 a) (hd : decode cc pc = .ok (.instanceof idx, 3)) (q1 : Cond.classLink own idx (nmA T) ∈ lw_all) (e : (iof h T a).bind K = some res) (kk : ∀ v1, TI 1 v1 → K v1 = some res → X C (zA γ ε E hF h0 h) lv (pc + 3) ((0, v1) :: st)) : X C (zA γ ε E hF h0 h) lv pc ((2, a) :: st) := by
  unfold iof at e
  split at e
  · rename_i hn
    have k' := kk 0 (Or.inl rfl) e
    refine ⟨k'.1, fun H locs ls a' b c => ?_⟩
    have w := k'.2 H locs ls a' b c
    have g := (hB a'.1).1
    show XW C H locs _ _ pc ls (ev 2 a :: evs st)
    rw [ev_null hn]
    exact lv_instN g.1.1 g.1.2.1 hd w
  · rename_i hn
    split at e
    · rename_i ht
      have k' := kk 1 (Or.inr rfl) e
      refine ⟨k'.1, fun H locs ls a' b c => ?_⟩
      have w := k'.2 H locs ls a' b c
      have g := (hB a'.1).1
      have t0 : 0 < T ∧ T < 36 := by
        simp only [List.mem_cons, List.not_mem_nil, or_false] at hTm
        omega
      have hl : T - 1 < clA.length := by show T - 1 < 35; omega
      have hr := List.getElem?_eq_getElem hl
      obtain ⟨q, rfl, -⟩ := hT.pos (a := a) (by omega)
      show XW C H locs _ _ pc ls (ev 2 (q : Int) :: evs st)
      rw [ev_ref]
      have hrc := ClT.recv ⟨t0.1, by omega, _, hr, rfl⟩ g.2.1 a'.2 ht
      rw [← nmA_at hr] at hrc
      exact va_instS g.1.1 g.1.2.1 g.1.2.2.2.2.1 (g.1.2.2.2.2.2.1 _ q1) (by rw [nmA_at hr]; exact (g.2.1.1 _ _ hr).2) hrc hd w
    · rename_i ht
      split at e
      · rename_i h13
        have k' := kk 0 (Or.inl rfl) e
        refine ⟨k'.1, fun H locs ls a' b c => ?_⟩
        have w := k'.2 H locs ls a' b c
        have M := hB a'.1
        have g := M.1
        obtain ⟨q, rfl, -⟩ := hT.pos (a := a) (by omega)
        have hl : aT h q - 1 < clA.length := by show aT h q - 1 < 35; omega
        have hr := List.getElem?_eq_getElem hl
        show XW C H locs _ _ pc ls (ev 2 (q : Int) :: evs st)
        rw [ev_ref]
        have hrc := ClT.recv ⟨by omega, by omega, _, hr, rfl⟩ g.2.1 a'.2 (rfl : aT h q = aT h q)
        rw [← nmA_at hr] at hrc
        have hnc := M.2.1.2.2.2.2.2.2.1 _ (nc_mem h13 hTm ht)
        exact va_instNo g.1.1 g.1.2.1 g.1.2.2.2.2.1 (g.1.2.2.2.2.2.1 _ q1) hnc hrc hd w
      · cases e
theorem h_gets {γ : Prop} (hB : γ → MaB C cc nL own E l fr h0 hF nm) {i : Nat} {Cn n d ref : String} {t : Nat} {x : Int} {idx : Nat} (hz : (zsL E)[i]? = some (Cn, n, d, ev t x)) (hl : Cond.fieldLink own idx ref n d ∈ lw_all) (hs : SameF ref Cn n d) (hd : decode cc pc = .ok (.getstatic idx, 3)) (k : X C (zA γ ε E hF h0 h) lv (pc + 3) ((t, x) :: st)) : X C (zA γ ε E hF h0 h) lv pc st := by
  refine ⟨k.1, fun H locs ls a b c => ?_⟩
  have w := k.2 H locs ls a b c
  obtain ⟨M, hR⟩ := a
  have hγ := M
  have M := hB M
  obtain ⟨g, -, hZ, -⟩ := M
  have hz' := hZ.1 _ (List.mem_of_getElem? hz)
  rw [g.2.2.2.1, g.2.2.2.2.2] at b
  exact va_gets g.1.1 g.1.2.1 hz' b g.1.2.2.2.2.1 (g.1.2.2.2.2.2.1 _ hl) (fun y hy => hs.ok g.1.2.2.2.2.2.1 y hy) hd w
theorem h_ldcS {γ : Prop} (hB : γ → MaB C cc nL own E l fr h0 hF nm) {i : Nat} {tx : String} {idx : Nat} (hs : skA[i]? = some (own, idx, tx)) (hd : decode cc pc = .ok (.ldc idx, 2)) (k : X C (zA γ ε E hF h0 h) lv (pc + 2) ((2, E.2.2 (100 + i)) :: st)) : X C (zA γ ε E hF h0 h) lv pc st := by
  refine ⟨k.1, fun H locs ls a b c => ?_⟩
  have w := k.2 H locs ls a b c
  obtain ⟨M, hR⟩ := a
  have hγ := M
  have M := hB M
  obtain ⟨g, hE, -⟩ := M
  obtain ⟨h1, h2⟩ := hE.2.2.2.2.2.2.2.1 i _ hs
  change XW C H locs _ _ (pc + 2) ls (ev 2 (E.2.2 (100 + i)) :: evs st) at w
  rw [ev_some (by omega)] at w
  exact va_ldcS g.1.1 g.1.2.1 g.1.2.2.2.2.1 h2 hd w
end HX
theorem cst_Integer : CstL [2] "java/lang/Integer" := by
  intro t ht
  simp only [List.mem_cons, List.not_mem_nil, or_false] at ht
  rcases ht with rfl
  · exact ⟨by decide, by decide, _, rfl, Or.inl rfl⟩
theorem cst_String : CstL [1] "java/lang/String" := by
  intro t ht
  simp only [List.mem_cons, List.not_mem_nil, or_false] at ht
  rcases ht with rfl
  · exact ⟨by decide, by decide, _, rfl, Or.inl rfl⟩
theorem cst_Function : CstL [13] "Syntaxspan$Function" := by
  intro t ht
  simp only [List.mem_cons, List.not_mem_nil, or_false] at ht
  rcases ht with rfl
  · exact ⟨by decide, by decide, _, rfl, Or.inl rfl⟩
theorem cst_Let : CstL [20] "Syntaxspan$Let" := by
  intro t ht
  simp only [List.mem_cons, List.not_mem_nil, or_false] at ht
  rcases ht with rfl
  · exact ⟨by decide, by decide, _, rfl, Or.inl rfl⟩
theorem cst_Block : CstL [15] "Syntaxspan$Block" := by
  intro t ht
  simp only [List.mem_cons, List.not_mem_nil, or_false] at ht
  rcases ht with rfl
  · exact ⟨by decide, by decide, _, rfl, Or.inl rfl⟩
theorem cst_Statement : CstL [15, 20, 21, 22, 23, 24, 25] "Syntaxspan$Statement" := by
  intro t ht
  simp only [List.mem_cons, List.not_mem_nil, or_false] at ht
  rcases ht with rfl | rfl | rfl | rfl | rfl | rfl | rfl
  · exact ⟨by decide, by decide, _, rfl, Or.inr q3904⟩
  · exact ⟨by decide, by decide, _, rfl, Or.inr q3908⟩
  · exact ⟨by decide, by decide, _, rfl, Or.inr q3909⟩
  · exact ⟨by decide, by decide, _, rfl, Or.inr q3906⟩
  · exact ⟨by decide, by decide, _, rfl, Or.inr q3910⟩
  · exact ⟨by decide, by decide, _, rfl, Or.inr q3905⟩
  · exact ⟨by decide, by decide, _, rfl, Or.inr q3907⟩
theorem cst_Choice : CstL [25] "Syntaxspan$Choice" := by
  intro t ht
  simp only [List.mem_cons, List.not_mem_nil, or_false] at ht
  rcases ht with rfl
  · exact ⟨by decide, by decide, _, rfl, Or.inl rfl⟩
theorem cst_Call : CstL [16] "Syntaxspan$Call" := by
  intro t ht
  simp only [List.mem_cons, List.not_mem_nil, or_false] at ht
  rcases ht with rfl
  · exact ⟨by decide, by decide, _, rfl, Or.inl rfl⟩
theorem cst_Expr : CstL [16, 17, 18, 19] "Syntaxspan$Expr" := by
  intro t ht
  simp only [List.mem_cons, List.not_mem_nil, or_false] at ht
  rcases ht with rfl | rfl | rfl | rfl
  · exact ⟨by decide, by decide, _, rfl, Or.inr q3911⟩
  · exact ⟨by decide, by decide, _, rfl, Or.inr q3912⟩
  · exact ⟨by decide, by decide, _, rfl, Or.inr q3913⟩
  · exact ⟨by decide, by decide, _, rfl, Or.inr q3914⟩
theorem cst_Setting : CstL [23] "Syntaxspan$Setting" := by
  intro t ht
  simp only [List.mem_cons, List.not_mem_nil, or_false] at ht
  rcases ht with rfl
  · exact ⟨by decide, by decide, _, rfl, Or.inl rfl⟩
theorem cst_Calling : CstL [22] "Syntaxspan$Calling" := by
  intro t ht
  simp only [List.mem_cons, List.not_mem_nil, or_false] at ht
  rcases ht with rfl
  · exact ⟨by decide, by decide, _, rfl, Or.inl rfl⟩
theorem cst_Returning : CstL [21] "Syntaxspan$Returning" := by
  intro t ht
  simp only [List.mem_cons, List.not_mem_nil, or_false] at ht
  rcases ht with rfl
  · exact ⟨by decide, by decide, _, rfl, Or.inl rfl⟩
theorem cst_Two : CstL [19] "Syntaxspan$Two" := by
  intro t ht
  simp only [List.mem_cons, List.not_mem_nil, or_false] at ht
  rcases ht with rfl
  · exact ⟨by decide, by decide, _, rfl, Or.inl rfl⟩
theorem cst_Negation : CstL [18] "Syntaxspan$Negation" := by
  intro t ht
  simp only [List.mem_cons, List.not_mem_nil, or_false] at ht
  rcases ht with rfl
  · exact ⟨by decide, by decide, _, rfl, Or.inl rfl⟩
theorem cst_Leaf : CstL [17] "Syntaxspan$Leaf" := by
  intro t ht
  simp only [List.mem_cons, List.not_mem_nil, or_false] at ht
  rcases ht with rfl
  · exact ⟨by decide, by decide, _, rfl, Or.inl rfl⟩
theorem cst_Change : CstL [29, 30, 31] "Syntaxspan$Change" := by
  intro t ht
  simp only [List.mem_cons, List.not_mem_nil, or_false] at ht
  rcases ht with rfl | rfl | rfl
  · exact ⟨by decide, by decide, _, rfl, Or.inr q3917⟩
  · exact ⟨by decide, by decide, _, rfl, Or.inr q3915⟩
  · exact ⟨by decide, by decide, _, rfl, Or.inr q3916⟩
theorem cst_Fault : CstL [14] "Syntaxspan$Fault" := by
  intro t ht
  simp only [List.mem_cons, List.not_mem_nil, or_false] at ht
  rcases ht with rfl
  · exact ⟨by decide, by decide, _, rfl, Or.inl rfl⟩
