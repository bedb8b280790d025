/-! S5: to what names are bound -/
set_option maxRecDepth 100000
set_option linter.unusedVariables false
/-- the chars of a token -/
def tkT (T : TxT) (f i : Nat) : List Int := match (tkF T f)[i]? with
  | some x => slc (T (8 * f + x.2.1)) x.2.2.1 (x.2.2.1 + x.2.2.2)
  | none => []
abbrev FnT : Type := Nat × List Nat × EX
def itFn (it : IT) : Option FnT := match it with
  | .inl _ => none
  | .inr x => some x
def itUs (it : IT) : Option Nat := match it with
  | .inl u => some u
  | .inr _ => none
def fns (T : TxT) (f : Nat) : List FnT := (trF T f).1.filterMap itFn
def uss (T : TxT) (f : Nat) : List Nat := (trF T f).1.filterMap itUs
/-- codes of tokens: 200 times the file, and the token -/
def cd2 (f i : Nat) : Int := 200 * (f : Int) + i
def fnI (T : TxT) (g : Nat) (w : List Int) : Int := match (fns T g).find? (fun x => decide (tkT T g x.1 = w)) with
  | some x => cd2 g x.1
  | none => -1
/-- the file that a token names -/
def usB (w : List Int) : Option Nat := match w with
  | [c] => if 97 ≤ c ∧ c < 100 then some (c - 97).toNat else none
  | _ => none
def fnU (T : TxT) (f : Nat) (w : List Int) : List Nat → Int
  | [] => -1
  | u :: l => match usB (tkT T f u) with
    | none => fnU T f w l
    | some g => if fnI T g w = -1 then fnU T f w l else fnI T g w
def fnX (T : TxT) (f : Nat) (w : List Int) : Int := if fnI T f w = -1 then fnU T f w (uss T f) else fnI T f w
def nmI (T : TxT) (f : Nat) (w : List Int) (l : List Nat) : Int := match l.find? (fun x => decide (tkT T f x = w)) with
  | some x => cd2 f x
  | none => -1
/-- a variable in scope, the last one first, or a parameter -/
def vrX (T : TxT) (f : Nat) (sc ps : List Nat) (w : List Int) : Int := if nmI T f w sc = -1 then nmI T f w ps else nmI T f w sc
abbrev EV : Type := List (Nat × Int)
def evE (T : TxT) (f : Nat) (sc ps : List Nat) : EX → EV
  | .var t => if kd (ksF T f) t = 0 then [(t, vrX T f sc ps (tkT T f t))] else []
  | .add l r => evE T f sc ps l ++ evE T f sc ps r
  | .neg e => evE T f sc ps e
  | .sub e _ => evE T f sc ps e
  | .pow a n => (n, fnX T f (tkT T f n)) :: evE T f sc ps a
  | .mul e r => evE T f sc ps e ++ evE T f sc ps r
  | _ => []
/-- what is in scope behind a statement -/
def scA (e : EX) (sc : List Nat) : List Nat := match e with
  | .pow v k => if k = 0 then tkS 0 v :: sc else sc
  | _ => sc
def evS (T : TxT) (f : Nat) (ps : List Nat) : EX → Nat → List Nat → EV
  | .mul e r, md, sc => if md = 1 then evS T f ps e 0 sc ++ evS T f ps r 1 (scA e sc) else evS T f ps e 0 sc ++ evS T f ps r 0 sc
  | .pow v k, md, sc => if k = 0 then evE T f sc ps v ++ [(tkS 0 v, cd2 f (tkS 0 v))] else if k = 1 then (tkS 1 v, vrX T f sc ps (tkT T f (tkS 1 v))) :: evE T f sc ps v else evE T f sc ps v
  | .sub l _, md, sc => evS T f ps l 1 sc
  | .add t bs, md, sc => evE T f sc ps t ++ evS T f ps bs 2 sc
  | _, _, _ => []
def evN (T : TxT) (f : Nat) (x : FnT) : EV := (x.1, cd2 f x.1) :: (x.2.1.map (fun p => (p, cd2 f p)) ++ evS T f x.2.1 x.2.2 0 [])
def evI (T : TxT) (f : Nat) (it : IT) : EV := match it with
  | .inl _ => []
  | .inr x => evN T f x
def evF (T : TxT) (f : Nat) : EV := (trF T f).1.flatMap (evI T f)
/-- to what a token is bound; -1 -/
def bnd (T : TxT) (f i : Nat) : Int := match (evF T f).lookup i with
  | some c => c
  | none => -1
/-! each token is told once -/
def KIn (l : EV) (a b : Nat) : Prop := (∀ x ∈ l, a ≤ x.1 ∧ x.1 < b) ∧ (l.map (fun x => x.1)).Nodup
theorem KIn.nil {a b : Nat} : KIn [] a b := ⟨fun x h => (by cases h), List.nodup_nil⟩
theorem KIn.app {l l' : EV} {a b c d p q : Nat} (h : KIn l a b) (k : KIn l' c d) (hd : b ≤ c ∨ d ≤ a) (h1 : p ≤ a ∧ b ≤ q) (h2 : p ≤ c ∧ d ≤ q) : KIn (l ++ l') p q := by
  refine ⟨fun x hx => ?_, ?_⟩
  · rcases List.mem_append.mp hx with hx | hx
    · have := h.1 x hx; omega
    · have := k.1 x hx; omega
  · rw [List.map_append, List.nodup_append]
    refine ⟨h.2, k.2, fun u hu v hv e => ?_⟩
    obtain ⟨x, hx, rfl⟩ := List.mem_map.mp hu
    obtain ⟨y, hy, rfl⟩ := List.mem_map.mp hv
    have := h.1 x hx
    have := k.1 y hy
    omega
theorem KIn.one {t : Nat} {c : Int} : KIn [(t, c)] t (t + 1) := ⟨fun x h => by rw [List.mem_singleton] at h; subst h; exact ⟨Nat.le_refl _, Nat.lt_succ_self _⟩, by simp⟩
theorem KIn.cons {t : Nat} {c : Int} {l : EV} {a b p q : Nat} (k : KIn l a b) (hd : t < a ∨ b ≤ t) (h1 : p ≤ t ∧ t < q) (h2 : p ≤ a ∧ b ≤ q) : KIn ((t, c) :: l) p q := KIn.app (KIn.one (t := t) (c := c)) k (by omega) ⟨h1.1, h1.2⟩ h2
theorem KIn.wk {l : EV} {a b a' b' : Nat} (h : KIn l a b) (h1 : a' ≤ a) (h2 : b ≤ b') : KIn l a' b' := ⟨fun x hx => by have := h.1 x hx; omega, h.2⟩
theorem WPx_lt {K : List Int} : ∀ {e : EX}, WPx K e → frm e < fin e
  | .var t, h => Nat.lt_succ_self _
  | .add l r, ⟨⟨h1, h2⟩, ⟨h3, h4⟩, h5, _⟩ => by
    have := WPx_lt h1
    have := WPx_lt h2
    show frm l < fin r; omega
  | .neg e, ⟨h1, h2, h3, _⟩ => by have := WPx_lt h1; show frm e - 1 < fin e; omega
  | .sub e x, ⟨h1, h2, h3, _⟩ => by have := WPx_lt h1; show frm e - 1 < fin e + 1; omega
  | .pow a n, ⟨h1, h2⟩ => by
    show n < (if isMul a = true then fin a + 1 else n + 3)
    rcases h2 with ⟨h2, h3, h4⟩ | rfl
    · rw [if_pos h3]; have := WPx_lt h2; omega
    · rw [if_neg (by decide)]; omega
  | .mul e r, ⟨⟨h1, h3⟩, h4⟩ => by
    show frm e < (if isMul r = true then fin r else fin e)
    have := WPx_lt h1
    rcases h4 with ⟨h4, h5, h6⟩ | rfl
    · rw [if_pos h5]; have := WPx_lt h4; omega
    · rw [if_neg (by decide)]; omega
theorem evE_in {T : TxT} {f : Nat} {sc ps : List Nat} {K : List Int} : ∀ {e : EX}, WPx K e → KIn (evE T f sc ps e) (frm e) (fin e)
  | .var t, h => by
    unfold evE
    by_cases q : kd (ksF T f) t = 0
    · rw [if_pos q]; exact KIn.one
    · rw [if_neg q]; exact KIn.nil
  | .add l r, ⟨⟨h1, h2⟩, ⟨h3, h4⟩, h5, _⟩ => by
    have := WPx_lt h1
    have := WPx_lt h2
    exact KIn.app (evE_in h1) (evE_in h2) (by omega) ⟨Nat.le_refl _, by show fin l ≤ fin r; omega⟩ ⟨by show frm l ≤ frm r; omega, Nat.le_refl _⟩
  | .neg e, ⟨h1, h2, h3, _⟩ => (evE_in (e := e) h1).wk (by show frm e - 1 ≤ frm e; omega) (Nat.le_refl _)
  | .sub e x, ⟨h1, h2, h3, _⟩ => (evE_in (e := e) h1).wk (by show frm e - 1 ≤ frm e; omega) (by show fin e ≤ fin e + 1; omega)
  | .pow a n, ⟨h1, h2⟩ => by
    show KIn ((n, _) :: evE T f sc ps a) n (if isMul a = true then fin a + 1 else n + 3)
    rcases h2 with ⟨h2, h3, h4⟩ | rfl
    · have := WPx_lt h2
      rw [if_pos h3]
      exact KIn.cons (evE_in h2) (by omega) ⟨Nat.le_refl _, by omega⟩ ⟨by omega, by omega⟩
    · rw [if_neg (by decide)]
      exact KIn.one.wk (Nat.le_refl _) (by omega)
  | .mul e r, ⟨⟨h1, h3⟩, h4⟩ => by
    have := WPx_lt h1
    show KIn (evE T f sc ps e ++ evE T f sc ps r) (frm e) (if isMul r = true then fin r else fin e)
    rcases h4 with ⟨h4, h5, h6⟩ | rfl
    · have := WPx_lt h4
      rw [if_pos h5]
      exact KIn.app (evE_in h1) (evE_in h4) (by omega) ⟨Nat.le_refl _, by omega⟩ ⟨by omega, Nat.le_refl _⟩
    · rw [if_neg (by decide)]
      rw [show evE T f sc ps (Lean.Grind.CommRing.Expr.num 0) = [] from rfl, List.append_nil]
      exact evE_in h1
theorem evS_in {T : TxT} {f : Nat} {ps : List Nat} {K : List Int} : ∀ {e : EX} {md p q : Nat} {sc : List Nat}, PSt K e md p q → KIn (evS T f ps e md sc) p q
  | .num _, md, p, q, sc, h => KIn.nil
  | .mul e r, md, p, q, sc, h => by
    unfold PSt at h
    unfold evS
    by_cases z : md = 1
    · rw [if_pos z] at h ⊢
      obtain ⟨-, m, h1, h2⟩ := h
      have := PSt_le h1
      have := PSt_le h2
      exact KIn.app (evS_in h1) (evS_in h2) (Or.inl (Nat.le_refl _)) ⟨Nat.le_refl _, by omega⟩ ⟨by omega, Nat.le_refl _⟩
    · rw [if_neg z] at h ⊢
      obtain ⟨-, -, m, m', h1, h2, h3⟩ := h
      have := PSt_le h1
      have := PSt_le h3
      exact KIn.app (evS_in h1) (evS_in h3) (Or.inl h2) ⟨Nat.le_refl _, by omega⟩ ⟨by omega, Nat.le_refl _⟩
  | .pow v k, md, p, q, sc, ⟨⟨h1, h2, h3, h4⟩, h5⟩ => by
    have he := evE_in (T := T) (f := f) (sc := sc) (ps := ps) h1
    unfold evS
    rcases h5 with ⟨rfl, h5, _⟩ | ⟨rfl, h5, _⟩ | ⟨rfl, a, h5⟩ | ⟨rfl, h5⟩
    · rw [if_pos rfl]
      have e1 : tkS 0 v = p + 1 := by show frm v - 2 = p + 1; omega
      rw [e1]
      exact KIn.app he KIn.one (by omega) ⟨by omega, by omega⟩ ⟨by omega, by omega⟩
    · rw [if_neg (by decide), if_pos rfl]
      have e1 : tkS 1 v = p := by show frm v - 2 = p; omega
      rw [e1]
      exact KIn.cons he (by omega) ⟨by omega, by omega⟩ ⟨by omega, by omega⟩
    · rw [if_neg (by decide), if_neg (by decide)]
      have : frm v = p := by rw [h5]; rfl
      exact he.wk (by omega) (by omega)
    · rw [if_neg (by decide), if_neg (by decide)]
      exact he.wk (by omega) (by omega)
  | .var t, md, p, q, sc, h => KIn.nil
  | .sub l x, md, p, q, sc, ⟨h1, m, h2, h3, _⟩ => (evS_in (sc := sc) h2).wk (Nat.le_succ _) h3
  | .add t bs, md, p, q, sc, ⟨⟨h1, h2, h3, h4⟩, h5⟩ => by
    have := PSt_le h5
    exact KIn.app (evE_in h1) (evS_in h5) (Or.inl (Nat.le_refl _)) ⟨by omega, by omega⟩ ⟨by omega, Nat.le_refl _⟩
theorem ps_in {f : Nat} {K : List Int} : ∀ {l : List Nat} {p q : Nat}, PPa K l p q → KIn (l.map (fun p => (p, cd2 f p))) p q
  | [], p, q, h => KIn.nil
  | a :: l, p, q, ⟨h1, h2, h3⟩ => by
    have := PPa_le h3
    exact KIn.cons (ps_in h3) (Or.inl (Nat.lt_succ_self _)) ⟨h1, by omega⟩ ⟨by omega, Nat.le_refl _⟩
theorem evF_in' {T : TxT} {f : Nat} {K : List Int} : ∀ {l : List IT} {p q : Nat}, PIt K l p q → KIn (l.flatMap (evI T f)) p q ∧ p ≤ q
  | [], p, q, h => ⟨KIn.nil, h⟩
  | .inl a :: l, p, q, ⟨h1, _, h2⟩ => by
    obtain ⟨k1, k2⟩ := evF_in' (T := T) (f := f) h2
    exact ⟨k1.wk (by omega) (Nat.le_refl _), by omega⟩
  | .inr x :: l, p, q, ⟨⟨h1, h1'⟩, b, m, h2, _, h3, _, h4⟩ => by
    obtain ⟨k1, k2⟩ := evF_in' (T := T) (f := f) h4
    have := PPa_le h2
    have := PSt_le h3
    refine ⟨?_, by omega⟩
    show KIn (evN T f x ++ l.flatMap (evI T f)) p q
    have e1 : KIn (evN T f x) x.1 m := KIn.cons (KIn.app (ps_in h2) (evS_in h3) (Or.inl (Nat.le_refl _)) ⟨Nat.le_refl (x.1 + 2), by omega⟩ ⟨by omega, Nat.le_refl m⟩) (Or.inl (by omega)) ⟨Nat.le_refl _, by omega⟩ ⟨by omega, Nat.le_refl _⟩
    exact KIn.app e1 k1 (Or.inl (Nat.le_refl _)) ⟨by omega, by omega⟩ ⟨by omega, Nat.le_refl _⟩
theorem evF_in {T : TxT} {f : Nat} : KIn (evF T f) 0 (ksF T f).length := (evF_in' rdT_ps).1
theorem lookup_mem {l : EV} (h : (l.map (fun x => x.1)).Nodup) {t : Nat} {c : Int} (hm : (t, c) ∈ l) : l.lookup t = some c := by
  induction l with
  | nil => cases hm
  | cons x l ih =>
    rw [List.map_cons, List.nodup_cons] at h
    obtain ⟨a, b⟩ := x
    rcases List.mem_cons.mp hm with e | e
    · cases e; simp [List.lookup]
    · have hne : t ≠ a := fun z => h.1 (by rw [← z]; exact List.mem_map.mpr ⟨_, e, rfl⟩)
      have : (t == a) = false := by simp [hne]
      simp only [List.lookup, this]
      exact ih h.2 e
theorem bnd_mem {T : TxT} {f t : Nat} {c : Int} (h : (t, c) ∈ evF T f) : bnd T f t = c := by
  unfold bnd; rw [lookup_mem evF_in.2 h]
theorem lookup_none {l : EV} {t : Nat} (h : ∀ c, (t, c) ∉ l) : l.lookup t = none := by
  induction l with
  | nil => rfl
  | cons x l ih =>
    obtain ⟨a, b⟩ := x
    have hne : t ≠ a := fun z => h b (by rw [z]; exact List.mem_cons_self)
    have : (t == a) = false := by simp [hne]
    simp only [List.lookup, this]
    exact ih (fun c hc => h c (List.mem_cons_of_mem _ hc))
theorem bnd_no {T : TxT} {f t : Nat} (h : ∀ c, (t, c) ∉ evF T f) : bnd T f t = -1 := by
  unfold bnd; rw [lookup_none h]
theorem bnd_out {T : TxT} {f t : Nat} (h : (ksF T f).length ≤ t) : bnd T f t = -1 := bnd_no fun c hc => by have := evF_in.1 _ hc; omega
