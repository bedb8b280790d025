/-! HEAP, rows as the printer uses them -/
set_option maxRecDepth 100000
theorem TI.zb {x : Int} (h : TI 1 x) : TI 3 x := by rcases h with rfl | rfl <;> exact ⟨by decide, by decide⟩
section GW
variable {C : Cx} {cc : ByteArray} {nL : Nat} {own : String} {E : EA} {h0 : AH} {γ ε : Prop} {hF : AH} {h : AH} {lv : LV} {pc : Nat} {st : List TV}
theorem g_get {ρ : Type} (g : γ → Ga C cc nL own E h0) {t k idx : Nat} (hf : FdH own t k idx) {c kd : Nat} (hc : ft t k = c) (hk : kof c = kd) {a : Int} {K : Int → Option ρ} {res : ρ} (hT : TH h) (hd : decode cc pc = .ok (.getfield idx, 3)) (e : (gf h t k a).bind K = some res) (kk : ∀ v, TI c v → K v = some res → X C (zA γ ε E hF h0 h) lv (pc + 3) ((kd, v) :: st)) : X C (zA γ ε E hF h0 h) lv pc ((2, a) :: st) := by
  subst hc; subst hk
  exact h_get g hf hT hd e kk
theorem g_getN {ρ : Type} (g : γ → Ga C cc nL own E h0) {t k idx : Nat} (hf : FdN own t k idx) {c kd : Nat} (hc : ft t k = c) (hk : kof c = kd) {a : Int} {K : Int → Option ρ} {res : ρ} (hT : TH h) (hd : decode cc pc = .ok (.getfield idx, 3)) (e : (gf h t k a).bind K = some res) (kk : ∀ v, TI c v → K v = some res → X C (zA γ ε E hF h0 h) lv (pc + 3) ((kd, v) :: st)) : X C (zA γ ε E hF h0 h) lv pc ((2, a) :: st) := by
  subst hc; subst hk
  exact h_getN g hf hT hd e kk
theorem g_put {ρ : Type} (g : γ → Ga C cc nL own E h0) {t k idx : Nat} (hf : FdH own t k idx) {c kd : Nat} (hc : ft t k = c) (hk : kof c = kd) (hn : NoFin t k) {a v : Int} {K : AH → Option ρ} {res : ρ} (hT : TH h) (hO : Old h0 h) (hv : TI c v) (hd : decode cc pc = .ok (.putfield idx, 3)) (e : (pf h t k a v).bind K = some res) (kk : ∀ h', TH h' → Old h0 h' → h' = setV h a k v → K h' = some res → X C (zA γ ε E hF h0 h') lv (pc + 3) st) : X C (zA γ ε E hF h0 h) lv pc ((kd, v) :: (2, a) :: st) := by
  subst hc; subst hk
  exact h_put g hf hn hT hO hv hd e kk
theorem g_putN {ρ : Type} (g : γ → Ga C cc nL own E h0) {t k idx : Nat} (hf : FdN own t k idx) {c kd : Nat} (hc : ft t k = c) (hk : kof c = kd) (hn : NoFin t k) {a v : Int} {K : AH → Option ρ} {res : ρ} (hT : TH h) (hO : Old h0 h) (hv : TI c v) (hd : decode cc pc = .ok (.putfield idx, 3)) (e : (pf h t k a v).bind K = some res) (kk : ∀ h', TH h' → Old h0 h' → h' = setV h a k v → K h' = some res → X C (zA γ ε E hF h0 h') lv (pc + 3) st) : X C (zA γ ε E hF h0 h) lv pc ((kd, v) :: (2, a) :: st) := by
  subst hc; subst hk
  exact h_putN g hf hn hT hO hv hd e kk
theorem g_putF {ρ : Type} (g : γ → Ga C cc nL own E h0) {t k idx : Nat} (hf : FdH own t k idx) {c kd : Nat} (hc : ft t k = c) (hk : kof c = kd) (hn : IsFin own t k) (hin : γ → C.2.1.2.2.2.1.name = "<init>") {a v : Int} {K : AH → Option ρ} {res : ρ} (hT : TH h) (hO : Old h0 h) (hv : TI c v) (hd : decode cc pc = .ok (.putfield idx, 3)) (e : (pf h t k a v).bind K = some res) (kk : ∀ h', TH h' → Old h0 h' → h' = setV h a k v → K h' = some res → X C (zA γ ε E hF h0 h') lv (pc + 3) st) : X C (zA γ ε E hF h0 h) lv pc ((kd, v) :: (2, a) :: st) := by
  subst hc; subst hk
  exact h_putF g hf hn hin hT hO hv hd e kk
end GW
def NewA (t : Nat) (atype : ArrayType) : Prop := 64 ≤ t ∧ t < 68 ∧ tyA[t - 64]? = some (newarray.typeOf atype) ∧ Cond.arrayClass (newarray.typeOf atype) ∈ lw_all ∧ componentBytes (newarray.typeOf atype) ≤ 8 ∧ defaultValue (newarray.typeOf atype) = ev (kof (ft t 0)) (dv (ft t 0)) ∧ ∀ C : String, newarray.typeOf atype ≠ .object C
theorem nA_I : NewA 64 .int := ⟨by decide, by decide, rfl, q434, by decide, rfl, fun _ h => by cases h⟩
theorem nA_Z : NewA 65 .boolean := ⟨by decide, by decide, rfl, q435, by decide, rfl, fun _ h => by cases h⟩
theorem nA_B : NewA 66 .byte := ⟨by decide, by decide, rfl, q433, by decide, rfl, fun _ h => by cases h⟩
theorem nA_J : NewA 67 .long := ⟨by decide, by decide, rfl, q2731, by decide, rfl, fun _ h => by cases h⟩
theorem hlA_aaString {own : String} {idx : Nat} (h : Cond.classLink own idx "[[Ljava/lang/String;" ∈ lw_all) : Cond.classLink own idx ("[" ++ (FieldType.array (.object "java/lang/String")).toString) ∈ lw_all := by
  have e : ("[" ++ (FieldType.array (.object "java/lang/String")).toString) = "[[Ljava/lang/String;" := by decide +kernel
  rw [e]; exact h
theorem hlA_aaLine {own : String} {idx : Nat} (h : Cond.classLink own idx "[[LSyntaxspan$Line;" ∈ lw_all) : Cond.classLink own idx ("[" ++ (FieldType.array (.object "Syntaxspan$Line")).toString) ∈ lw_all := by
  have e : ("[" ++ (FieldType.array (.object "Syntaxspan$Line")).toString) = "[[LSyntaxspan$Line;" := by decide +kernel
  rw [e]; exact h
theorem hlA_aI {own : String} {idx : Nat} (h : Cond.classLink own idx "[I" ∈ lw_all) : Cond.classLink own idx (FieldType.array .int).toString ∈ lw_all := by
  have e : (FieldType.array .int).toString = "[I" := by decide +kernel
  rw [e]; exact h
theorem hlA_aaI {own : String} {idx : Nat} (h : Cond.classLink own idx "[[I" ∈ lw_all) : Cond.classLink own idx ("[" ++ (FieldType.array .int).toString) ∈ lw_all := by
  have e : ("[" ++ (FieldType.array .int).toString) = "[[I" := by decide +kernel
  rw [e]; exact h
theorem hlA_aString {own : String} {idx : Nat} (h : Cond.classLink own idx "[Ljava/lang/String;" ∈ lw_all) : Cond.classLink own idx (FieldType.array (.object "java/lang/String")).toString ∈ lw_all := by
  have e : (FieldType.array (.object "java/lang/String")).toString = "[Ljava/lang/String;" := by decide +kernel
  rw [e]; exact h
theorem hlA_aZ {own : String} {idx : Nat} (h : Cond.classLink own idx "[Z" ∈ lw_all) : Cond.classLink own idx (FieldType.array .boolean).toString ∈ lw_all := by
  have e : (FieldType.array .boolean).toString = "[Z" := by decide +kernel
  rw [e]; exact h
section XL
variable {C : Cx} {cc : ByteArray} {nL : Nat} {own : String} {z : Zs} {lv : LV} {pc : Nat} {st : List TV}
theorem x_lookK (G : Gz C z cc nL own) {dflt off : Int} {ps : Array (Int × Int)} {len : Nat} {a k : Int} (hd : decode cc pc = .ok (.lookupswitch dflt ps, len)) (hp : (ps.toList.zip (ps.toList.drop 1)).all (fun (a, next) => a.1 < next.1) = true) (ra : InR a) (q : a = k) (tgt : Nat) (h : Op.lookupswitch.offset ps.toList dflt k = off) (ht : (pc : Int) + off = (tgt : Int)) (kk : X C z lv tgt st) : X C z lv pc ((0, a) :: st) := by
  subst q
  exact x_lookup G hd hp ra tgt h ht kk
end XL
section HC
variable {C : Cx} {cc : ByteArray} {nL : Nat} {own : String} {E : EA} {l : Launch} {fr ty : Nat} {v : Int} {h0 hF h : AH} {ret : Option FieldType} {nm : String} {lv : LV} {pc : Nat} {st : List TV} {ε : Prop}
/-- a cast to an array's own class -/
def ArN (t : Nat) (cn : String) : Prop := 64 ≤ t ∧ ∀ (E : EA) (U : State), KA E U → U.vm.findClass cn = some (E.2.1 (t - 64))
theorem arN_66 : ArN 66 "[B" := ⟨by decide, fun E U hK => va_nm_byte (hK.arr (j := 2) rfl).2⟩
theorem arN_68 : ArN 68 "[Ljava/lang/Object;" := ⟨by decide, fun E U hK => va_nmO (hK.arr (j := 4) rfl).2 (by decide +kernel)⟩
theorem h_castA {ρ : Type} {γ : Prop} (hB : γ → MaB C cc nL own E l fr h0 hF nm) {t : Nat} {cn : String} (hA : ArN t cn) {a : Int} {K : Unit → Option ρ} {res : ρ} {idx : Nat} (hT : TH h) (ra : TI 5 a) (hd : decode cc pc = .ok (.checkcast idx, 3)) (q1 : Cond.classLink own idx cn ∈ lw_all) (e : (ckc h [t] a).bind K = some res) (kk : K () = some res → X C (zA γ ε E hF h0 h) lv (pc + 3) ((2, a) :: st)) : X C (zA γ ε E hF h0 h) lv pc ((2, a) :: st) := by
  unfold ckc at e
  split at e
  · rename_i hh
    have hh' : a < 0 ∨ aT h a = t := hh.imp id fun q => List.mem_singleton.mp (List.contains_iff_mem.mp q)
    have k' := kk e
    refine ⟨k'.1, fun H locs ls a' b c => ?_⟩
    have w := k'.2 H locs ls a' b c
    have M := hB a'.1
    have g := M.1
    show XW C H locs _ _ pc ls (ev 2 a :: evs st)
    change XW C H locs _ _ (pc + 3) ls (ev 2 a :: evs st) at w
    by_cases hn : a < 0
    · rw [ev_null hn] at w ⊢
      exact lv_castN g.1.1 g.1.2.1 hd w
    · have hm := hh'.resolve_left hn
      obtain ⟨t0, hfc⟩ := hA
      obtain ⟨q, rfl, -⟩ := hT.pos (a := a) (by omega)
      rw [ev_ref] at w ⊢
      obtain ⟨cell9, n', f', hcell, hA9⟩ := arr_at a'.2 hm t0
      intro T hTH X0
      obtain ⟨vm', X', st'⟩ := X0.checkcastYes g.1.1 g.1.2.2.2.2.1 (g.1.2.2.2.2.2.1 _ q1) (by rw [hTH]; exact hcell) hA9.2.1.2 (by rw [hA9.1]; exact hfc E _ g.2.1) (va_asg _ _) (g := F0 C.2.1.1 pc ls (.ref q :: evs st)) rfl rfl (by show decode C.2.1.2.2.2.2.code pc = _; rw [g.1.2.1]; exact hd)
      obtain ⟨t', a1, b1⟩ := w (T.setVm vm') hTH X'
      exact ⟨t', st' t' a1, b1⟩
  · cases e
end HC
def mx32 (a b : Int) : Int := if a < b then b else a
def mn32 (a b : Int) : Int := if b < a then b else a
theorem mx_in {a b : Int} (ha : InR a) (hb : InR b) : InR (mx32 a b) := by unfold mx32; split <;> assumption
theorem mn_in {a b : Int} (ha : InR a) (hb : InR b) : InR (mn32 a b) := by unfold mn32; split <;> assumption
section HMM
variable {C : Cx} {cc : ByteArray} {nL : Nat} {own : String} {E : EA} {l : Launch} {fr ty : Nat} {v : Int} {h0 hF h : AH} {ret : Option FieldType} {nm : String} {lv : LV} {pc : Nat} {st : List TV} {ε : Prop}
theorem h_max {γ : Prop} (hB : γ → MaB C cc nL own E l fr h0 hF nm) {a b : Int} {idx : Nat} (hO : Old h0 h) (ra : InR a) (rb : InR b) (hd : decode cc pc = .ok (.invokestatic idx, 3)) (q1 : Cond.methodLink own idx Lib.Math.max.name ∈ lw_all) (hf : Nat.ble 1 fr = true) (hr : Nat.ble (tsl st) 8 = true) (k : X C (zA γ ε E hF h0 h) lv (pc + 3) ((0, mx32 a b) :: st)) : X C (zA γ ε E hF h0 h) lv pc ((0, b) :: (0, a) :: st) := by
  refine ⟨k.1, fun H locs ls a' bS c => ?_⟩
  have w := k.2 H locs ls a' bS c
  have M := hB a'.1
  have g := M.1
  have hfr := Nat.le_of_ble_eq_true hf
  have hrr := Nat.le_of_ble_eq_true hr
  obtain ⟨-, -, -, hrm, -, rm, -⟩ := M
  have o1 := hO.1
  have o2 := hO.2.1
  have o3 := k.1.1.1
  have o4 := k.1.1.2.1
  change XW C H locs _ _ (pc + 3) ls (.int (iI (mx32 a b)) :: evs st) at w
  have e : iI (mx32 a b) = if iI a < iI b then iI b else iI a := by
    unfold mx32
    by_cases q : a < b
    · rw [if_pos q, if_pos ((iI_lt ra rb).mpr q)]
    · rw [if_neg q, if_neg (fun z => q ((iI_lt ra rb).mp z))]
  rw [e] at w
  exact va_mmax g.1.1 g.1.2.1 (by rw [c.1]; exact g.1.2.2.1.trans g.1.2.2.2.1.symm) g.1.2.2.2.2.1 (g.1.2.2.2.2.2.1 _ q1) (g.1.2.2.2.2.2.1 _ q795) (g.1.2.2.2.2.2.1 _ q237) (g.1.2.2.2.2.2.1 _ q796) (by rw [rm.1]; exact hfr) (by
      have e1 : ((evs st).map fun v => v.category).sum = tsl st := by rw [evs_cat]; rfl
      change ((evs st).map fun v => v.category).sum + 13 ≤ _
      rw [e1, rm.2]
      omega) (by rw [hrm.1]; show (aN h - aN h0).toNat ≤ _; omega) (by rw [hrm.2]; show (aS h - aS h0).toNat ≤ _; omega) hd w
theorem h_min {γ : Prop} (hB : γ → MaB C cc nL own E l fr h0 hF nm) {a b : Int} {idx : Nat} (hO : Old h0 h) (ra : InR a) (rb : InR b) (hd : decode cc pc = .ok (.invokestatic idx, 3)) (q1 : Cond.methodLink own idx Lib.Math.min.name ∈ lw_all) (hf : Nat.ble 1 fr = true) (hr : Nat.ble (tsl st) 8 = true) (k : X C (zA γ ε E hF h0 h) lv (pc + 3) ((0, mn32 a b) :: st)) : X C (zA γ ε E hF h0 h) lv pc ((0, b) :: (0, a) :: st) := by
  refine ⟨k.1, fun H locs ls a' bS c => ?_⟩
  have w := k.2 H locs ls a' bS c
  have M := hB a'.1
  have g := M.1
  have hfr := Nat.le_of_ble_eq_true hf
  have hrr := Nat.le_of_ble_eq_true hr
  obtain ⟨-, -, -, hrm, -, rm, -⟩ := M
  have o1 := hO.1
  have o2 := hO.2.1
  have o3 := k.1.1.1
  have o4 := k.1.1.2.1
  change XW C H locs _ _ (pc + 3) ls (.int (iI (mn32 a b)) :: evs st) at w
  have e : iI (mn32 a b) = if iI b < iI a then iI b else iI a := by
    unfold mn32
    by_cases q : b < a
    · rw [if_pos q, if_pos ((iI_lt rb ra).mpr q)]
    · rw [if_neg q, if_neg (fun z => q ((iI_lt rb ra).mp z))]
  rw [e] at w
  exact va_mmin g.1.1 g.1.2.1 (by rw [c.1]; exact g.1.2.2.1.trans g.1.2.2.2.1.symm) g.1.2.2.2.2.1 (g.1.2.2.2.2.2.1 _ q1) (g.1.2.2.2.2.2.1 _ q854) (g.1.2.2.2.2.2.1 _ q237) (g.1.2.2.2.2.2.1 _ q855) (by rw [rm.1]; exact hfr) (by
      have e1 : ((evs st).map fun v => v.category).sum = tsl st := by rw [evs_cat]; rfl
      change ((evs st).map fun v => v.category).sum + 13 ≤ _
      rw [e1, rm.2]
      omega) (by rw [hrm.1]; show (aN h - aN h0).toNat ≤ _; omega) (by rw [hrm.2]; show (aS h - aS h0).toNat ≤ _; omega) hd w
end HMM
/-! fields of an abstract class: of any of its kinds -/
def gfm (h : AH) (L : List Nat) (k a : Int) : Option Int := if L.contains (aT h a) = true then some (aV h a k) else none
def pfm (h : AH) (L : List Nat) (k a v : Int) : Option AH := if L.contains (aT h a) = true then some (setV h a k v) else none
section GM
variable {C : Cx} {cc : ByteArray} {nL : Nat} {own : String} {E : EA} {h0 : AH} {γ ε : Prop} {hF : AH} {h : AH} {lv : LV} {pc : Nat} {st : List TV}
theorem g_getM {ρ : Type} (g : γ → Ga C cc nL own E h0) {L : List Nat} {k idx : Nat} {c kd : Nat} (hf : ∀ t ∈ L, FdH own t k idx ∧ ft t k = c) (hk : kof c = kd) {a : Int} {K : Int → Option ρ} {res : ρ} (hT : TH h) (hd : decode cc pc = .ok (.getfield idx, 3)) (e : (gfm h L k a).bind K = some res) (kk : ∀ v, TI c v → K v = some res → X C (zA γ ε E hF h0 h) lv (pc + 3) ((kd, v) :: st)) : X C (zA γ ε E hF h0 h) lv pc ((2, a) :: st) := by
  unfold gfm at e
  split at e
  · rename_i hm
    obtain ⟨h1, h2⟩ := hf _ (List.contains_iff_mem.mp hm)
    exact g_get g h1 h2 hk hT hd (by unfold gf; rw [if_pos rfl]; exact e) kk
  · cases e
theorem g_putM {ρ : Type} (g : γ → Ga C cc nL own E h0) {L : List Nat} {k idx : Nat} {c kd : Nat} (hf : ∀ t ∈ L, FdH own t k idx ∧ ft t k = c) (hk : kof c = kd) (hn : ∀ t ∈ L, NoFin t k) {a v : Int} {K : AH → Option ρ} {res : ρ} (hT : TH h) (hO : Old h0 h) (hv : TI c v) (hd : decode cc pc = .ok (.putfield idx, 3)) (e : (pfm h L k a v).bind K = some res) (kk : ∀ h', TH h' → Old h0 h' → h' = setV h a k v → K h' = some res → X C (zA γ ε E hF h0 h') lv (pc + 3) st) : X C (zA γ ε E hF h0 h) lv pc ((kd, v) :: (2, a) :: st) := by
  unfold pfm at e
  split at e
  · rename_i hm
    obtain ⟨h1, h2⟩ := hf _ (List.contains_iff_mem.mp hm)
    exact g_put g h1 h2 hk (hn _ (List.contains_iff_mem.mp hm)) hT hO hv hd (by unfold pf; rw [if_pos rfl]; exact e) kk
  · cases e
theorem g_putFM {ρ : Type} (g : γ → Ga C cc nL own E h0) {L : List Nat} {k idx : Nat} {c kd : Nat} (hf : ∀ t ∈ L, FdH own t k idx ∧ ft t k = c) (hk : kof c = kd) (hn : ∀ t ∈ L, IsFin own t k) (hin : γ → C.2.1.2.2.2.1.name = "<init>") {a v : Int} {K : AH → Option ρ} {res : ρ} (hT : TH h) (hO : Old h0 h) (hv : TI c v) (hd : decode cc pc = .ok (.putfield idx, 3)) (e : (pfm h L k a v).bind K = some res) (kk : ∀ h', TH h' → Old h0 h' → h' = setV h a k v → K h' = some res → X C (zA γ ε E hF h0 h') lv (pc + 3) st) : X C (zA γ ε E hF h0 h) lv pc ((kd, v) :: (2, a) :: st) := by
  unfold pfm at e
  split at e
  · rename_i hm
    obtain ⟨h1, h2⟩ := hf _ (List.contains_iff_mem.mp hm)
    exact g_putF g h1 h2 hk (hn _ (List.contains_iff_mem.mp hm)) hin hT hO hv hd (by unfold pf; rw [if_pos rfl]; exact e) kk
  · cases e
end GM
theorem fM_X13_7 : ∀ t ∈ [16, 17, 18, 19], FdH RX13 t 0 7 ∧ ft t 0 = 0 := by
  intro t ht
  simp only [List.mem_cons, List.not_mem_nil, or_false] at ht
  rcases ht with rfl | rfl | rfl | rfl
  · exact ⟨fH_X13_7_X14, rfl⟩
  · exact ⟨fH_X13_7_X15, rfl⟩
  · exact ⟨fH_X13_7_X16, rfl⟩
  · exact ⟨fH_X13_7_X17, rfl⟩
theorem nM_X13_7 : ∀ t ∈ [16, 17, 18, 19], NoFin t 0 := by
  intro t ht
  simp only [List.mem_cons, List.not_mem_nil, or_false] at ht
  rcases ht with rfl | rfl | rfl | rfl
  · exact NoFin.of rfl
  · exact NoFin.of rfl
  · exact NoFin.of rfl
  · exact NoFin.of rfl
theorem fM_X17_1 : ∀ t ∈ [16, 17, 18, 19], FdH RX17 t 0 1 ∧ ft t 0 = 0 := by
  intro t ht
  simp only [List.mem_cons, List.not_mem_nil, or_false] at ht
  rcases ht with rfl | rfl | rfl | rfl
  · exact ⟨fH_X17_1_X14, rfl⟩
  · exact ⟨fH_X17_1_X15, rfl⟩
  · exact ⟨fH_X17_1_X16, rfl⟩
  · exact ⟨fH_X17_1_X17, rfl⟩
theorem fM_X26_148 : ∀ t ∈ [16, 17, 18, 19], FdH RX26 t 0 148 ∧ ft t 0 = 0 := by
  intro t ht
  simp only [List.mem_cons, List.not_mem_nil, or_false] at ht
  rcases ht with rfl | rfl | rfl | rfl
  · exact ⟨fH_X26_148_X14, rfl⟩
  · exact ⟨fH_X26_148_X15, rfl⟩
  · exact ⟨fH_X26_148_X16, rfl⟩
  · exact ⟨fH_X26_148_X17, rfl⟩
theorem fM_X27_7 : ∀ t ∈ [29, 30, 31], FdH RX27 t 0 7 ∧ ft t 0 = 0 := by
  intro t ht
  simp only [List.mem_cons, List.not_mem_nil, or_false] at ht
  rcases ht with rfl | rfl | rfl
  · exact ⟨fH_X27_7_X28, rfl⟩
  · exact ⟨fH_X27_7_X29, rfl⟩
  · exact ⟨fH_X27_7_X30, rfl⟩
theorem nM_X27_7 : ∀ t ∈ [29, 30, 31], IsFin RX27 t 0 := by
  intro t ht
  simp only [List.mem_cons, List.not_mem_nil, or_false] at ht
  rcases ht with rfl | rfl | rfl
  · exact IsFin.of rfl
  · exact IsFin.of rfl
  · exact IsFin.of rfl
theorem fM_X27_13 : ∀ t ∈ [29, 30, 31], FdH RX27 t 1 13 ∧ ft t 1 = 0 := by
  intro t ht
  simp only [List.mem_cons, List.not_mem_nil, or_false] at ht
  rcases ht with rfl | rfl | rfl
  · exact ⟨fH_X27_13_X28, rfl⟩
  · exact ⟨fH_X27_13_X29, rfl⟩
  · exact ⟨fH_X27_13_X30, rfl⟩
theorem nM_X27_13 : ∀ t ∈ [29, 30, 31], IsFin RX27 t 1 := by
  intro t ht
  simp only [List.mem_cons, List.not_mem_nil, or_false] at ht
  rcases ht with rfl | rfl | rfl
  · exact IsFin.of rfl
  · exact IsFin.of rfl
  · exact IsFin.of rfl
theorem fM_X7_229 : ∀ t ∈ [16, 17, 18, 19], FdH RX7 t 0 229 ∧ ft t 0 = 0 := by
  intro t ht
  simp only [List.mem_cons, List.not_mem_nil, or_false] at ht
  rcases ht with rfl | rfl | rfl | rfl
  · exact ⟨fH_X7_229_X14, rfl⟩
  · exact ⟨fH_X7_229_X15, rfl⟩
  · exact ⟨fH_X7_229_X16, rfl⟩
  · exact ⟨fH_X7_229_X17, rfl⟩
theorem ble_of {a b : Nat} (h : a ≤ b) : Nat.ble a b = true := Nat.ble_eq_true_of_le h
