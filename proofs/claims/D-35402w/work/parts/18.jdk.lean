/-! methods over objects as functions over the abstract heap, and their walks (printed by gen/heapg.py) -/
set_option maxRecDepth 100000
set_option linter.unusedVariables false
def A_J0_coder (h : AH) (this : Int) : Option (Int) :=
  if (1 : Int) = 0 then
    some 1
  else
    (gf h 1 1 this).bind fun v1 =>
    some v1
theorem ck_J0_coder : CkA yJ0_coder 0 := ⟨by decide, by decide, by decide +kernel⟩
abbrev Z_J0_coder (C : Cx) (l : Launch) (E : EA) (h : AH) (vZ : Int) (h1 : AH) : Zs := zA (Ma C cJ0_coder 1 RJ0 E l 0 h h 3 vZ (Option.some .byte) yJ0_coder.name) (Ea h 3 vZ) E h h h1
theorem T_J0_coder {l : Launch} {E : EA} (C0 : Cx) (hE : ∀ i, TI 5 (E.2.2 i)) (h : AH) (hT : TH h) (this : Int) (h_this : TI 5 this) (ht : aT h this = 1) {vZ : Int} (e : A_J0_coder h this = some vZ) : MetA l yJ0_coder cJ0_coder 1 (Option.some .byte) 0 E h [(2, this)] 3 vZ h ∧ Old h h ∧ TH h ∧ TIr 3 vZ := by
  unfold A_J0_coder at e
  refine a_start (own := RJ0) C0 [(2, this)] hT rfl rfl rfl (fun C => ?_)
  have hO := Old.rf h
  show X C (Z_J0_coder C l E h vZ h) [(0, (2, this))] 0 []
  refine h_gets Ma.b (i := 0) (t := 0) (x := 1) rfl q311 (Or.inl rfl) dJ0_coder_0 ?_
  refine x_if_eq Ma.x 13 dJ0_coder_3 rfl (litI rfl) e (fun e => ?_) (fun e => ?_)
  · refine x_iconst Ma.x dJ0_coder_13 ?_
    exact a_retb dJ0_coder_14 (Option.some.inj e) rfl hT ⟨by decide, by decide⟩
  · refine x_aload_n Ma.x dJ0_coder_6 0 rfl ?_
    refine g_get Ma.ga fH_J0_15_J0 (c := 3) (kd := 0) rfl rfl hT dJ0_coder_7 e (fun v1 tv1 e => ?_)
    refine x_goto Ma.x 14 dJ0_coder_10 rfl ?_
    exact a_retb dJ0_coder_14 (Option.some.inj e) rfl hT tv1
def A_J0_length (h : AH) (this : Int) : Option (Int) :=
  (gf h 1 0 this).bind fun v1 =>
  (al h 66 v1).bind fun v2 =>
  (A_J0_coder h this).bind fun v3 =>
  some (shr32 v2 v3)
theorem ck_J0_length : CkA yJ0_length 0 := ⟨by decide, by decide, by decide +kernel⟩
abbrev Z_J0_length (C : Cx) (l : Launch) (E : EA) (h : AH) (vZ : Int) (h1 : AH) : Zs := zA (Ma C cJ0_length 1 RJ0 E l 1 h h 0 vZ (Option.some .int) yJ0_length.name) (Ea h 0 vZ) E h h h1
theorem T_J0_length {l : Launch} {E : EA} (C0 : Cx) (hE : ∀ i, TI 5 (E.2.2 i)) (h : AH) (hT : TH h) (this : Int) (h_this : TI 5 this) (ht : aT h this = 1) {vZ : Int} (e : A_J0_length h this = some vZ) : MetA l yJ0_length cJ0_length 1 (Option.some .int) 1 E h [(2, this)] 0 vZ h ∧ Old h h ∧ TH h ∧ TIr 0 vZ := by
  unfold A_J0_length at e
  refine a_start (own := RJ0) C0 [(2, this)] hT rfl rfl rfl (fun C => ?_)
  have hO := Old.rf h
  show X C (Z_J0_length C l E h vZ h) [(0, (2, this))] 0 []
  refine x_aload_n Ma.x dJ0_length_0 0 rfl ?_
  refine g_get Ma.ga fH_J0_9_J0 (c := 5) (kd := 2) rfl rfl hT dJ0_length_1 e (fun v1 tv1 e => ?_)
  refine h_len Ma.ga (t := 66) (by decide) rfl hT dJ0_length_4 e (fun v2 tv2 e => ?_)
  refine x_aload_n Ma.x dJ0_length_5 0 rfl ?_
  obtain ⟨v3, e1, e⟩ := bds e
  refine a_callV Ma.b hT hO [] [(0, v2)] [(0, v3), (0, v2)] (T_J0_coder C hE h hT this h_this ht e1) ht ⟨by decide, by decide, _, rfl, rfl⟩ dJ0_length_6 q307 q308 q309 q219 q310 ck_J0_coder rfl rfl rfl rfl rfl (fun tv3 _ _ => ?_)
  refine x_ishr Ma.x dJ0_length_9 ?_
  exact a_reti dJ0_length_10 (Option.some.inj e) rfl hT (shr32_in _ _)
def A_J0_isLatin1 (h : AH) (this : Int) : Option (Int) :=
  if (1 : Int) = 0 then
    some 0
  else
    (gf h 1 1 this).bind fun v1 =>
    if v1 = 0 then
      some 1
    else
      some 0
theorem ck_J0_isLatin1 : CkA yJ0_isLatin1 0 := ⟨by decide, by decide, by decide +kernel⟩
abbrev Z_J0_isLatin1 (C : Cx) (l : Launch) (E : EA) (h : AH) (vZ : Int) (h1 : AH) : Zs := zA (Ma C cJ0_isLatin1 1 RJ0 E l 0 h h 1 vZ (Option.some .boolean) yJ0_isLatin1.name) (Ea h 1 vZ) E h h h1
theorem T_J0_isLatin1 {l : Launch} {E : EA} (C0 : Cx) (hE : ∀ i, TI 5 (E.2.2 i)) (h : AH) (hT : TH h) (this : Int) (h_this : TI 5 this) (ht : aT h this = 1) {vZ : Int} (e : A_J0_isLatin1 h this = some vZ) : MetA l yJ0_isLatin1 cJ0_isLatin1 1 (Option.some .boolean) 0 E h [(2, this)] 1 vZ h ∧ Old h h ∧ TH h ∧ TIr 1 vZ := by
  unfold A_J0_isLatin1 at e
  refine a_start (own := RJ0) C0 [(2, this)] hT rfl rfl rfl (fun C => ?_)
  have hO := Old.rf h
  show X C (Z_J0_isLatin1 C l E h vZ h) [(0, (2, this))] 0 []
  refine h_gets Ma.b (i := 0) (t := 0) (x := 1) rfl q311 (Or.inl rfl) dJ0_isLatin1_0 ?_
  refine x_if_eq Ma.x 17 dJ0_isLatin1_3 rfl (litI rfl) e (fun e => ?_) (fun e => ?_)
  · refine x_iconst Ma.x dJ0_isLatin1_17 ?_
    exact a_retz dJ0_isLatin1_18 (Option.some.inj e) rfl hT litZ0
  · refine x_aload_n Ma.x dJ0_isLatin1_6 0 rfl ?_
    refine g_get Ma.ga fH_J0_15_J0 (c := 3) (kd := 0) rfl rfl hT dJ0_isLatin1_7 e (fun v1 tv1 e => ?_)
    refine x_if_ne Ma.x 17 dJ0_isLatin1_10 rfl tv1.b e (fun e => ?_) (fun e => ?_)
    · refine x_iconst Ma.x dJ0_isLatin1_13 ?_
      refine x_goto Ma.x 18 dJ0_isLatin1_14 rfl ?_
      exact a_retz dJ0_isLatin1_18 (Option.some.inj e) rfl hT litZ1
    · refine x_iconst Ma.x dJ0_isLatin1_17 ?_
      exact a_retz dJ0_isLatin1_18 (Option.some.inj e) rfl hT litZ0
def A_J2_checkIndex (h : AH) (p0_ : Int) (p1_ : Int) (p2_ : Int) : Option (Int) :=
  if p0_ < 0 then
    none
  else
    if p0_ < p1_ then
      some p0_
    else
      none
theorem ck_J2_checkIndex : CkA yJ2_checkIndex 3 := ⟨by decide, by decide, by decide +kernel⟩
abbrev Z_J2_checkIndex (C : Cx) (l : Launch) (E : EA) (h : AH) (vZ : Int) (h1 : AH) : Zs := zA (Ma C cJ2_checkIndex 3 RJ2 E l 0 h h 0 vZ (Option.some .int) yJ2_checkIndex.name) (Ea h 0 vZ) E h h h1
theorem T_J2_checkIndex {l : Launch} {E : EA} (C0 : Cx) (hE : ∀ i, TI 5 (E.2.2 i)) (h : AH) (hT : TH h) (p0_ : Int) (p1_ : Int) (p2_ : Int) (h_p0_ : InR p0_) (h_p1_ : InR p1_) (h_p2_ : TI 5 p2_) {vZ : Int} (e : A_J2_checkIndex h p0_ p1_ p2_ = some vZ) : MetA l yJ2_checkIndex cJ2_checkIndex 3 (Option.some .int) 0 E h [(0, p0_), (0, p1_), (2, p2_)] 0 vZ h ∧ Old h h ∧ TH h ∧ TIr 0 vZ := by
  unfold A_J2_checkIndex at e
  refine a_start (own := RJ2) C0 [(0, p0_), (0, p1_), (2, p2_)] hT rfl rfl rfl (fun C => ?_)
  have hO := Old.rf h
  show X C (Z_J2_checkIndex C l E h vZ h) [(0, (0, p0_)), (1, (0, p1_)), (2, (2, p2_))] 0 []
  refine x_iload_n Ma.x dJ2_checkIndex_0 0 rfl ?_
  refine x_if_lt Ma.x 9 dJ2_checkIndex_1 rfl h_p0_ e (fun e => ?_) (fun e => ?_)
  · cases e
  · refine x_iload_n Ma.x dJ2_checkIndex_4 0 rfl ?_
    refine x_iload_n Ma.x dJ2_checkIndex_5 1 rfl ?_
    refine x_icmp_lt Ma.x 16 dJ2_checkIndex_6 rfl h_p0_ h_p1_ e (fun e => ?_) (fun e => ?_)
    · refine x_iload_n Ma.x dJ2_checkIndex_16 0 rfl ?_
      exact a_reti dJ2_checkIndex_17 (Option.some.inj e) rfl hT h_p0_
    · cases e
def A_J0_checkIndex (k : Nat → Int) (h : AH) (p0_ : Int) (p1_ : Int) : Option (Unit) :=
  (A_J2_checkIndex h p0_ p1_ (k 4)).bind fun v1 =>
  some ()
theorem ck_J0_checkIndex : CkA yJ0_checkIndex 2 := ⟨by decide, by decide, by decide +kernel⟩
abbrev Z_J0_checkIndex (C : Cx) (l : Launch) (E : EA) (h : AH) (h1 : AH) : Zs := zA (Ma C cJ0_checkIndex 2 RJ0 E l 1 h h 6 0 none yJ0_checkIndex.name) (Ea h 6 0) E h h h1
theorem T_J0_checkIndex {l : Launch} {E : EA} (C0 : Cx) (hE : ∀ i, TI 5 (E.2.2 i)) (h : AH) (hT : TH h) (p0_ : Int) (p1_ : Int) (h_p0_ : InR p0_) (h_p1_ : InR p1_) (e : A_J0_checkIndex E.2.2 h p0_ p1_ = some ()) : MetA l yJ0_checkIndex cJ0_checkIndex 2 none 1 E h [(0, p0_), (0, p1_)] 6 0 h ∧ Old h h ∧ TH h ∧ TIr 6 0 := by
  unfold A_J0_checkIndex at e
  refine a_start (own := RJ0) C0 [(0, p0_), (0, p1_)] hT rfl rfl rfl (fun C => ?_)
  have hO := Old.rf h
  show X C (Z_J0_checkIndex C l E h h) [(0, (0, p0_)), (1, (0, p1_))] 0 []
  refine x_iload_n Ma.x dJ0_checkIndex_0 0 rfl ?_
  refine x_iload_n Ma.x dJ0_checkIndex_1 1 rfl ?_
  refine h_gets Ma.b (i := 6) (t := 2) (x := E.2.2 4) rfl q335 (Or.inl rfl) dJ0_checkIndex_2 ?_
  obtain ⟨v1, e1, e⟩ := bds e
  refine a_callS Ma.b hT hO [(0, p0_), (0, p1_), (2, (E.2.2 4))] [] [(0, v1)] (T_J2_checkIndex C hE h hT p0_ p1_ (E.2.2 4) h_p0_ h_p1_ (hE 4) e1) dJ0_checkIndex_5 q337 q338 q221 q339 ck_J2_checkIndex rfl rfl rfl rfl rfl (fun tv1 _ _ => ?_)
  refine x_pop Ma.x dJ0_checkIndex_8 rfl ?_
  exact a_retv dJ0_checkIndex_9 rfl hT
def A_J1_charAt (k : Nat → Int) (h : AH) (p0_ : Int) (p1_ : Int) : Option (Int) :=
  (al h 66 p0_).bind fun v1 =>
  (A_J0_checkIndex k h p1_ v1).bind fun _ =>
  (ga h 66 p0_ p1_).bind fun v2 =>
  some (chr (and32 v2 255))
theorem ck_J1_charAt : CkA yJ1_charAt 2 := ⟨by decide, by decide, by decide +kernel⟩
abbrev Z_J1_charAt (C : Cx) (l : Launch) (E : EA) (h : AH) (vZ : Int) (h1 : AH) : Zs := zA (Ma C cJ1_charAt 2 RJ1 E l 2 h h 2 vZ (Option.some .char) yJ1_charAt.name) (Ea h 2 vZ) E h h h1
theorem T_J1_charAt {l : Launch} {E : EA} (C0 : Cx) (hE : ∀ i, TI 5 (E.2.2 i)) (h : AH) (hT : TH h) (p0_ : Int) (p1_ : Int) (h_p0_ : TI 5 p0_) (h_p1_ : InR p1_) {vZ : Int} (e : A_J1_charAt E.2.2 h p0_ p1_ = some vZ) : MetA l yJ1_charAt cJ1_charAt 2 (Option.some .char) 2 E h [(2, p0_), (0, p1_)] 2 vZ h ∧ Old h h ∧ TH h ∧ TIr 2 vZ := by
  unfold A_J1_charAt at e
  refine a_start (own := RJ1) C0 [(2, p0_), (0, p1_)] hT rfl rfl rfl (fun C => ?_)
  have hO := Old.rf h
  show X C (Z_J1_charAt C l E h vZ h) [(0, (2, p0_)), (1, (0, p1_))] 0 []
  refine x_iload_n Ma.x dJ1_charAt_0 1 rfl ?_
  refine x_aload_n Ma.x dJ1_charAt_1 0 rfl ?_
  refine h_len Ma.ga (t := 66) (by decide) rfl hT dJ1_charAt_2 e (fun v1 tv1 e => ?_)
  obtain ⟨_, e1, e⟩ := bds e
  refine a_callS Ma.b hT hO [(0, p1_), (0, v1)] [] [] (T_J0_checkIndex C hE h hT p1_ v1 h_p1_ tv1 e1) dJ1_charAt_3 q332 q333 q219 q334 ck_J0_checkIndex rfl rfl rfl rfl rfl (fun _ _ _ => ?_)
  refine x_aload_n Ma.x dJ1_charAt_6 0 rfl ?_
  refine x_iload_n Ma.x dJ1_charAt_7 1 rfl ?_
  refine h_bald Ma.ga hT dJ1_charAt_8 e (fun v2 tv2 e => ?_)
  refine x_sip Ma.x dJ1_charAt_9 rfl ?_
  refine x_iand Ma.x dJ1_charAt_12 ?_
  refine x_i2c Ma.x dJ1_charAt_13 ?_
  exact a_retc dJ1_charAt_14 (Option.some.inj e) rfl hT (chr_ti _)
def A_J0_charAt (k : Nat → Int) (h : AH) (this : Int) (p0_ : Int) : Option (Int) :=
  (A_J0_isLatin1 h this).bind fun v1 =>
  if v1 = 0 then
    none
  else
    (gf h 1 0 this).bind fun v2 =>
    (A_J1_charAt k h v2 p0_).bind fun v3 =>
    some v3
theorem ck_J0_charAt : CkA yJ0_charAt 1 := ⟨by decide, by decide, by decide +kernel⟩
abbrev Z_J0_charAt (C : Cx) (l : Launch) (E : EA) (h : AH) (vZ : Int) (h1 : AH) : Zs := zA (Ma C cJ0_charAt 2 RJ0 E l 3 h h 2 vZ (Option.some .char) yJ0_charAt.name) (Ea h 2 vZ) E h h h1
theorem T_J0_charAt {l : Launch} {E : EA} (C0 : Cx) (hE : ∀ i, TI 5 (E.2.2 i)) (h : AH) (hT : TH h) (this : Int) (p0_ : Int) (h_this : TI 5 this) (h_p0_ : InR p0_) (ht : aT h this = 1) {vZ : Int} (e : A_J0_charAt E.2.2 h this p0_ = some vZ) : MetA l yJ0_charAt cJ0_charAt 2 (Option.some .char) 3 E h [(2, this), (0, p0_)] 2 vZ h ∧ Old h h ∧ TH h ∧ TIr 2 vZ := by
  unfold A_J0_charAt at e
  refine a_start (own := RJ0) C0 [(2, this), (0, p0_)] hT rfl rfl rfl (fun C => ?_)
  have hO := Old.rf h
  show X C (Z_J0_charAt C l E h vZ h) [(0, (2, this)), (1, (0, p0_))] 0 []
  refine x_aload_n Ma.x dJ0_charAt_0 0 rfl ?_
  obtain ⟨v1, e1, e⟩ := bds e
  refine a_callV Ma.b hT hO [] [] [(0, v1)] (T_J0_isLatin1 C hE h hT this h_this ht e1) ht ⟨by decide, by decide, _, rfl, rfl⟩ dJ0_charAt_1 q325 q326 q327 q219 q328 ck_J0_isLatin1 rfl rfl rfl rfl rfl (fun tv1 _ _ => ?_)
  refine x_if_eq Ma.x 16 dJ0_charAt_4 rfl tv1.z e (fun e => ?_) (fun e => ?_)
  · cases e
  · refine x_aload_n Ma.x dJ0_charAt_7 0 rfl ?_
    refine g_get Ma.ga fH_J0_9_J0 (c := 5) (kd := 2) rfl rfl hT dJ0_charAt_8 e (fun v2 tv2 e => ?_)
    refine x_iload_n Ma.x dJ0_charAt_11 1 rfl ?_
    obtain ⟨v3, e1, e⟩ := bds e
    refine a_callS Ma.b hT hO [(2, v2), (0, p0_)] [] [(0, v3)] (T_J1_charAt C hE h hT v2 p0_ tv2 h_p0_ e1) dJ0_charAt_12 q329 q330 q220 q331 ck_J1_charAt rfl rfl rfl rfl rfl (fun tv3 _ _ => ?_)
    exact a_retc dJ0_charAt_15 (Option.some.inj e) rfl hT tv3
def A_J2_checkFromToIndex (h : AH) (p0_ : Int) (p1_ : Int) (p2_ : Int) (p3_ : Int) : Option (Int) :=
  if p0_ < 0 then
    none
  else
    if p1_ < p0_ then
      none
    else
      if p2_ < p1_ then
        none
      else
        some p0_
theorem ck_J2_checkFromToIndex : CkA yJ2_checkFromToIndex 4 := ⟨by decide, by decide, by decide +kernel⟩
abbrev Z_J2_checkFromToIndex (C : Cx) (l : Launch) (E : EA) (h : AH) (vZ : Int) (h1 : AH) : Zs := zA (Ma C cJ2_checkFromToIndex 4 RJ2 E l 0 h h 0 vZ (Option.some .int) yJ2_checkFromToIndex.name) (Ea h 0 vZ) E h h h1
theorem T_J2_checkFromToIndex {l : Launch} {E : EA} (C0 : Cx) (hE : ∀ i, TI 5 (E.2.2 i)) (h : AH) (hT : TH h) (p0_ : Int) (p1_ : Int) (p2_ : Int) (p3_ : Int) (h_p0_ : InR p0_) (h_p1_ : InR p1_) (h_p2_ : InR p2_) (h_p3_ : TI 5 p3_) {vZ : Int} (e : A_J2_checkFromToIndex h p0_ p1_ p2_ p3_ = some vZ) : MetA l yJ2_checkFromToIndex cJ2_checkFromToIndex 4 (Option.some .int) 0 E h [(0, p0_), (0, p1_), (0, p2_), (2, p3_)] 0 vZ h ∧ Old h h ∧ TH h ∧ TIr 0 vZ := by
  unfold A_J2_checkFromToIndex at e
  refine a_start (own := RJ2) C0 [(0, p0_), (0, p1_), (0, p2_), (2, p3_)] hT rfl rfl rfl (fun C => ?_)
  have hO := Old.rf h
  show X C (Z_J2_checkFromToIndex C l E h vZ h) [(0, (0, p0_)), (1, (0, p1_)), (2, (0, p2_)), (3, (2, p3_))] 0 []
  refine x_iload_n Ma.x dJ2_checkFromToIndex_0 0 rfl ?_
  refine x_if_lt Ma.x 14 dJ2_checkFromToIndex_1 rfl h_p0_ e (fun e => ?_) (fun e => ?_)
  · cases e
  · refine x_iload_n Ma.x dJ2_checkFromToIndex_4 0 rfl ?_
    refine x_iload_n Ma.x dJ2_checkFromToIndex_5 1 rfl ?_
    refine x_icmp_gt Ma.x 14 dJ2_checkFromToIndex_6 rfl h_p0_ h_p1_ e (fun e => ?_) (fun e => ?_)
    · cases e
    · refine x_iload_n Ma.x dJ2_checkFromToIndex_9 1 rfl ?_
      refine x_iload_n Ma.x dJ2_checkFromToIndex_10 2 rfl ?_
      refine x_icmp_le Ma.x 22 dJ2_checkFromToIndex_11 rfl h_p1_ h_p2_ e (fun e => ?_) (fun e => ?_)
      · cases e
      · refine x_iload_n Ma.x dJ2_checkFromToIndex_22 0 rfl ?_
        exact a_reti dJ2_checkFromToIndex_23 (Option.some.inj e) rfl hT h_p0_
def A_J0_checkBoundsBeginEnd (k : Nat → Int) (h : AH) (p0_ : Int) (p1_ : Int) (p2_ : Int) : Option (Unit) :=
  (A_J2_checkFromToIndex h p0_ p1_ p2_ (k 4)).bind fun v1 =>
  some ()
theorem ck_J0_checkBoundsBeginEnd : CkA yJ0_checkBoundsBeginEnd 3 := ⟨by decide, by decide, by decide +kernel⟩
abbrev Z_J0_checkBoundsBeginEnd (C : Cx) (l : Launch) (E : EA) (h : AH) (h1 : AH) : Zs := zA (Ma C cJ0_checkBoundsBeginEnd 3 RJ0 E l 1 h h 6 0 none yJ0_checkBoundsBeginEnd.name) (Ea h 6 0) E h h h1
theorem T_J0_checkBoundsBeginEnd {l : Launch} {E : EA} (C0 : Cx) (hE : ∀ i, TI 5 (E.2.2 i)) (h : AH) (hT : TH h) (p0_ : Int) (p1_ : Int) (p2_ : Int) (h_p0_ : InR p0_) (h_p1_ : InR p1_) (h_p2_ : InR p2_) (e : A_J0_checkBoundsBeginEnd E.2.2 h p0_ p1_ p2_ = some ()) : MetA l yJ0_checkBoundsBeginEnd cJ0_checkBoundsBeginEnd 3 none 1 E h [(0, p0_), (0, p1_), (0, p2_)] 6 0 h ∧ Old h h ∧ TH h ∧ TIr 6 0 := by
  unfold A_J0_checkBoundsBeginEnd at e
  refine a_start (own := RJ0) C0 [(0, p0_), (0, p1_), (0, p2_)] hT rfl rfl rfl (fun C => ?_)
  have hO := Old.rf h
  show X C (Z_J0_checkBoundsBeginEnd C l E h h) [(0, (0, p0_)), (1, (0, p1_)), (2, (0, p2_))] 0 []
  refine x_iload_n Ma.x dJ0_checkBoundsBeginEnd_0 0 rfl ?_
  refine x_iload_n Ma.x dJ0_checkBoundsBeginEnd_1 1 rfl ?_
  refine x_iload_n Ma.x dJ0_checkBoundsBeginEnd_2 2 rfl ?_
  refine h_gets Ma.b (i := 6) (t := 2) (x := E.2.2 4) rfl q335 (Or.inl rfl) dJ0_checkBoundsBeginEnd_3 ?_
  obtain ⟨v1, e1, e⟩ := bds e
  refine a_callS Ma.b hT hO [(0, p0_), (0, p1_), (0, p2_), (2, (E.2.2 4))] [] [(0, v1)] (T_J2_checkFromToIndex C hE h hT p0_ p1_ p2_ (E.2.2 4) h_p0_ h_p1_ h_p2_ (hE 4) e1) dJ0_checkBoundsBeginEnd_6 q1677 q1678 q221 q1679 ck_J2_checkFromToIndex rfl rfl rfl rfl rfl (fun tv1 _ _ => ?_)
  refine x_pop Ma.x dJ0_checkBoundsBeginEnd_9 rfl ?_
  exact a_retv dJ0_checkBoundsBeginEnd_10 rfl hT
def A_J2_checkFromIndexSize (h : AH) (p0_ : Int) (p1_ : Int) (p2_ : Int) (p3_ : Int) : Option (Int) :=
  if (or32 (or32 p2_ p0_) p1_) < 0 then
    none
  else
    if (wr (p2_ - p0_)) < p1_ then
      none
    else
      some p0_
theorem ck_J2_checkFromIndexSize : CkA yJ2_checkFromIndexSize 4 := ⟨by decide, by decide, by decide +kernel⟩
abbrev Z_J2_checkFromIndexSize (C : Cx) (l : Launch) (E : EA) (h : AH) (vZ : Int) (h1 : AH) : Zs := zA (Ma C cJ2_checkFromIndexSize 4 RJ2 E l 0 h h 0 vZ (Option.some .int) yJ2_checkFromIndexSize.name) (Ea h 0 vZ) E h h h1
theorem T_J2_checkFromIndexSize {l : Launch} {E : EA} (C0 : Cx) (hE : ∀ i, TI 5 (E.2.2 i)) (h : AH) (hT : TH h) (p0_ : Int) (p1_ : Int) (p2_ : Int) (p3_ : Int) (h_p0_ : InR p0_) (h_p1_ : InR p1_) (h_p2_ : InR p2_) (h_p3_ : TI 5 p3_) {vZ : Int} (e : A_J2_checkFromIndexSize h p0_ p1_ p2_ p3_ = some vZ) : MetA l yJ2_checkFromIndexSize cJ2_checkFromIndexSize 4 (Option.some .int) 0 E h [(0, p0_), (0, p1_), (0, p2_), (2, p3_)] 0 vZ h ∧ Old h h ∧ TH h ∧ TIr 0 vZ := by
  unfold A_J2_checkFromIndexSize at e
  refine a_start (own := RJ2) C0 [(0, p0_), (0, p1_), (0, p2_), (2, p3_)] hT rfl rfl rfl (fun C => ?_)
  have hO := Old.rf h
  show X C (Z_J2_checkFromIndexSize C l E h vZ h) [(0, (0, p0_)), (1, (0, p1_)), (2, (0, p2_)), (3, (2, p3_))] 0 []
  refine x_iload_n Ma.x dJ2_checkFromIndexSize_0 2 rfl ?_
  refine x_iload_n Ma.x dJ2_checkFromIndexSize_1 0 rfl ?_
  refine x_ior Ma.x dJ2_checkFromIndexSize_2 ?_
  refine x_iload_n Ma.x dJ2_checkFromIndexSize_3 1 rfl ?_
  refine x_ior Ma.x dJ2_checkFromIndexSize_4 ?_
  refine x_if_lt Ma.x 15 dJ2_checkFromIndexSize_5 rfl (or32_in _ _) e (fun e => ?_) (fun e => ?_)
  · cases e
  · refine x_iload_n Ma.x dJ2_checkFromIndexSize_8 1 rfl ?_
    refine x_iload_n Ma.x dJ2_checkFromIndexSize_9 2 rfl ?_
    refine x_iload_n Ma.x dJ2_checkFromIndexSize_10 0 rfl ?_
    refine x_isub Ma.x dJ2_checkFromIndexSize_11 ?_
    refine x_icmp_le Ma.x 23 dJ2_checkFromIndexSize_12 rfl h_p1_ (wr_in _) e (fun e => ?_) (fun e => ?_)
    · cases e
    · refine x_iload_n Ma.x dJ2_checkFromIndexSize_23 0 rfl ?_
      exact a_reti dJ2_checkFromIndexSize_24 (Option.some.inj e) rfl hT h_p0_
def A_J0_checkBoundsOffCount (k : Nat → Int) (h : AH) (p0_ : Int) (p1_ : Int) (p2_ : Int) : Option (Int) :=
  (A_J2_checkFromIndexSize h p0_ p1_ p2_ (k 4)).bind fun v1 =>
  some v1
theorem ck_J0_checkBoundsOffCount : CkA yJ0_checkBoundsOffCount 3 := ⟨by decide, by decide, by decide +kernel⟩
abbrev Z_J0_checkBoundsOffCount (C : Cx) (l : Launch) (E : EA) (h : AH) (vZ : Int) (h1 : AH) : Zs := zA (Ma C cJ0_checkBoundsOffCount 3 RJ0 E l 1 h h 0 vZ (Option.some .int) yJ0_checkBoundsOffCount.name) (Ea h 0 vZ) E h h h1
theorem T_J0_checkBoundsOffCount {l : Launch} {E : EA} (C0 : Cx) (hE : ∀ i, TI 5 (E.2.2 i)) (h : AH) (hT : TH h) (p0_ : Int) (p1_ : Int) (p2_ : Int) (h_p0_ : InR p0_) (h_p1_ : InR p1_) (h_p2_ : InR p2_) {vZ : Int} (e : A_J0_checkBoundsOffCount E.2.2 h p0_ p1_ p2_ = some vZ) : MetA l yJ0_checkBoundsOffCount cJ0_checkBoundsOffCount 3 (Option.some .int) 1 E h [(0, p0_), (0, p1_), (0, p2_)] 0 vZ h ∧ Old h h ∧ TH h ∧ TIr 0 vZ := by
  unfold A_J0_checkBoundsOffCount at e
  refine a_start (own := RJ0) C0 [(0, p0_), (0, p1_), (0, p2_)] hT rfl rfl rfl (fun C => ?_)
  have hO := Old.rf h
  show X C (Z_J0_checkBoundsOffCount C l E h vZ h) [(0, (0, p0_)), (1, (0, p1_)), (2, (0, p2_))] 0 []
  refine x_iload_n Ma.x dJ0_checkBoundsOffCount_0 0 rfl ?_
  refine x_iload_n Ma.x dJ0_checkBoundsOffCount_1 1 rfl ?_
  refine x_iload_n Ma.x dJ0_checkBoundsOffCount_2 2 rfl ?_
  refine h_gets Ma.b (i := 6) (t := 2) (x := E.2.2 4) rfl q335 (Or.inl rfl) dJ0_checkBoundsOffCount_3 ?_
  obtain ⟨v1, e1, e⟩ := bds e
  refine a_callS Ma.b hT hO [(0, p0_), (0, p1_), (0, p2_), (2, (E.2.2 4))] [] [(0, v1)] (T_J2_checkFromIndexSize C hE h hT p0_ p1_ p2_ (E.2.2 4) h_p0_ h_p1_ h_p2_ (hE 4) e1) dJ0_checkBoundsOffCount_6 q1709 q1710 q221 q1711 ck_J2_checkFromIndexSize rfl rfl rfl rfl rfl (fun tv1 _ _ => ?_)
  exact a_reti dJ0_checkBoundsOffCount_9 (Option.some.inj e) rfl hT tv1
def A_J0_getBytes (h : AH) (this : Int) (p0_ : Int) (p1_ : Int) (p2_ : Int) : Option (AH) :=
  (A_J0_coder h this).bind fun v1 =>
  if v1 = p2_ then
    (gf h 1 0 this).bind fun v2 =>
    (gf h 1 0 this).bind fun v3 =>
    (al h 66 v3).bind fun v4 =>
    (cpc h 66 v2 0 p0_ (shl32 p1_ p2_) v4).bind fun h5 =>
    some h5
  else
    none
theorem ck_J0_getBytes : CkA yJ0_getBytes 3 := ⟨by decide, by decide, by decide +kernel⟩
abbrev Z_J0_getBytes (C : Cx) (l : Launch) (E : EA) (h : AH) (hZ : AH) (h1 : AH) : Zs := zA (Ma C cJ0_getBytes 4 RJ0 E l 1 h hZ 6 0 none yJ0_getBytes.name) (Ea hZ 6 0) E hZ h h1
theorem T_J0_getBytes {l : Launch} {E : EA} (C0 : Cx) (hE : ∀ i, TI 5 (E.2.2 i)) (h : AH) (hT : TH h) (this : Int) (p0_ : Int) (p1_ : Int) (p2_ : Int) (h_this : TI 5 this) (h_p0_ : TI 5 p0_) (h_p1_ : InR p1_) (h_p2_ : TI 3 p2_) (ht : aT h this = 1) {hZ : AH} (e : A_J0_getBytes h this p0_ p1_ p2_ = some hZ) : MetA l yJ0_getBytes cJ0_getBytes 4 none 1 E h [(2, this), (2, p0_), (0, p1_), (0, p2_)] 6 0 hZ ∧ Old h hZ ∧ TH hZ ∧ TIr 6 0 := by
  unfold A_J0_getBytes at e
  refine a_start (own := RJ0) C0 [(2, this), (2, p0_), (0, p1_), (0, p2_)] hT rfl rfl rfl (fun C => ?_)
  have hO := Old.rf h
  show X C (Z_J0_getBytes C l E h hZ h) [(0, (2, this)), (1, (2, p0_)), (2, (0, p1_)), (3, (0, p2_))] 0 []
  refine x_aload_n Ma.x dJ0_getBytes_0 0 rfl ?_
  obtain ⟨v1, e1, e⟩ := bds e
  refine a_callV Ma.b hT hO [] [] [(0, v1)] (T_J0_coder C hE h hT this h_this ht e1) ht ⟨by decide, by decide, _, rfl, rfl⟩ dJ0_getBytes_1 q307 q308 q309 q219 q310 ck_J0_coder rfl rfl rfl rfl rfl (fun tv1 _ _ => ?_)
  refine x_iload_n Ma.x dJ0_getBytes_4 3 rfl ?_
  refine x_icmp_ne Ma.x 28 dJ0_getBytes_5 rfl tv1.b h_p2_.b e (fun e => ?_) (fun e => ?_)
  · refine x_aload_n Ma.x dJ0_getBytes_8 0 rfl ?_
    refine g_get Ma.ga fH_J0_9_J0 (c := 5) (kd := 2) rfl rfl hT dJ0_getBytes_9 e (fun v2 tv2 e => ?_)
    refine x_iconst Ma.x dJ0_getBytes_12 ?_
    refine x_aload_n Ma.x dJ0_getBytes_13 1 rfl ?_
    refine x_iload_n Ma.x dJ0_getBytes_14 2 rfl ?_
    refine x_iload_n Ma.x dJ0_getBytes_15 3 rfl ?_
    refine x_ishl Ma.x dJ0_getBytes_16 ?_
    refine x_aload_n Ma.x dJ0_getBytes_17 0 rfl ?_
    refine g_get Ma.ga fH_J0_9_J0 (c := 5) (kd := 2) rfl rfl hT dJ0_getBytes_18 e (fun v3 tv3 e => ?_)
    refine h_len Ma.ga (t := 66) (by decide) rfl hT dJ0_getBytes_21 e (fun v4 tv4 e => ?_)
    refine h_copyp Ma.b (t := 66) (by decide) rfl rfl ⟨rfl, by decide⟩ hT hO dJ0_getBytes_22 q1716 rfl rfl e (fun h5 Th5 Oh5 _ e => ?_)
    refine x_goto Ma.x 43 dJ0_getBytes_25 rfl ?_
    exact a_retv dJ0_getBytes_43 (Option.some.inj e) Th5
  · cases e
def A_J14_getValue (h : AH) (this : Int) : Option (Int) :=
  (gf h 4 0 this).bind fun v1 =>
  some v1
theorem ck_J14_getValue : CkA yJ14_getValue 0 := ⟨by decide, by decide, by decide +kernel⟩
abbrev Z_J14_getValue (C : Cx) (l : Launch) (E : EA) (h : AH) (vZ : Int) (h1 : AH) : Zs := zA (Ma C cJ14_getValue 1 RJ14 E l 0 h h 5 vZ (Option.some (.array .byte)) yJ14_getValue.name) (Ea h 5 vZ) E h h h1
theorem T_J14_getValue {l : Launch} {E : EA} (C0 : Cx) (hE : ∀ i, TI 5 (E.2.2 i)) (h : AH) (hT : TH h) (this : Int) (h_this : TI 5 this) (ht : aT h this = 4) {vZ : Int} (e : A_J14_getValue h this = some vZ) : MetA l yJ14_getValue cJ14_getValue 1 (Option.some (.array .byte)) 0 E h [(2, this)] 5 vZ h ∧ Old h h ∧ TH h ∧ TIr 5 vZ := by
  unfold A_J14_getValue at e
  refine a_start (own := RJ14) C0 [(2, this)] hT rfl rfl rfl (fun C => ?_)
  have hO := Old.rf h
  show X C (Z_J14_getValue C l E h vZ h) [(0, (2, this))] 0 []
  refine x_aload_n Ma.x dJ14_getValue_0 0 rfl ?_
  refine g_get Ma.ga fH_J14_15_J15 (c := 5) (kd := 2) rfl rfl hT dJ14_getValue_1 e (fun v1 tv1 e => ?_)
  exact a_reta dJ14_getValue_4 (Or.inr ⟨_, rfl⟩) (Option.some.inj e) rfl hT tv1
def A_J14_length (h : AH) (this : Int) : Option (Int) :=
  (gf h 4 3 this).bind fun v1 =>
  some v1
theorem ck_J14_length : CkA yJ14_length 0 := ⟨by decide, by decide, by decide +kernel⟩
abbrev Z_J14_length (C : Cx) (l : Launch) (E : EA) (h : AH) (vZ : Int) (h1 : AH) : Zs := zA (Ma C cJ14_length 1 RJ14 E l 0 h h 0 vZ (Option.some .int) yJ14_length.name) (Ea h 0 vZ) E h h h1
theorem T_J14_length {l : Launch} {E : EA} (C0 : Cx) (hE : ∀ i, TI 5 (E.2.2 i)) (h : AH) (hT : TH h) (this : Int) (h_this : TI 5 this) (ht : aT h this = 4) {vZ : Int} (e : A_J14_length h this = some vZ) : MetA l yJ14_length cJ14_length 1 (Option.some .int) 0 E h [(2, this)] 0 vZ h ∧ Old h h ∧ TH h ∧ TIr 0 vZ := by
  unfold A_J14_length at e
  refine a_start (own := RJ14) C0 [(2, this)] hT rfl rfl rfl (fun C => ?_)
  have hO := Old.rf h
  show X C (Z_J14_length C l E h vZ h) [(0, (2, this))] 0 []
  refine x_aload_n Ma.x dJ14_length_0 0 rfl ?_
  refine g_get Ma.ga fH_J14_79_J15 (c := 0) (kd := 0) rfl rfl hT dJ14_length_1 e (fun v1 tv1 e => ?_)
  exact a_reti dJ14_length_4 (Option.some.inj e) rfl hT tv1
def A_J15_length (h : AH) (this : Int) : Option (Int) :=
  (A_J14_length h this).bind fun v1 =>
  some v1
theorem ck_J15_length : CkA yJ15_length 0 := ⟨by decide, by decide, by decide +kernel⟩
abbrev Z_J15_length (C : Cx) (l : Launch) (E : EA) (h : AH) (vZ : Int) (h1 : AH) : Zs := zA (Ma C cJ15_length 1 RJ15 E l 1 h h 0 vZ (Option.some .int) yJ15_length.name) (Ea h 0 vZ) E h h h1
theorem T_J15_length {l : Launch} {E : EA} (C0 : Cx) (hE : ∀ i, TI 5 (E.2.2 i)) (h : AH) (hT : TH h) (this : Int) (h_this : TI 5 this) (ht : aT h this = 4) {vZ : Int} (e : A_J15_length h this = some vZ) : MetA l yJ15_length cJ15_length 1 (Option.some .int) 1 E h [(2, this)] 0 vZ h ∧ Old h h ∧ TH h ∧ TIr 0 vZ := by
  unfold A_J15_length at e
  refine a_start (own := RJ15) C0 [(2, this)] hT rfl rfl rfl (fun C => ?_)
  have hO := Old.rf h
  show X C (Z_J15_length C l E h vZ h) [(0, (2, this))] 0 []
  refine x_aload_n Ma.x dJ15_length_0 0 rfl ?_
  obtain ⟨v1, e1, e⟩ := bds e
  refine a_callSU Ma.b (Cn := "java/lang/StringBuilder") hT hO [] [] [(0, v1)] (T_J14_length C hE h hT this h_this ht e1) ht ⟨by decide, by decide, _, rfl, rfl⟩ dJ15_length_1 q1764 q1760 q1629 q1759 q234 q1765 ⟨by decide, ck_J14_length.2.2⟩ rfl rfl rfl rfl rfl (fun tv1 _ _ => ?_)
  exact a_reti dJ15_length_4 (Option.some.inj e) rfl hT tv1
def A_J14_isLatin1 (h : AH) (this : Int) : Option (Int) :=
  if (1 : Int) = 0 then
    some 0
  else
    (gf h 4 1 this).bind fun v1 =>
    if v1 = 0 then
      some 1
    else
      some 0
theorem ck_J14_isLatin1 : CkA yJ14_isLatin1 0 := ⟨by decide, by decide, by decide +kernel⟩
abbrev Z_J14_isLatin1 (C : Cx) (l : Launch) (E : EA) (h : AH) (vZ : Int) (h1 : AH) : Zs := zA (Ma C cJ14_isLatin1 1 RJ14 E l 0 h h 1 vZ (Option.some .boolean) yJ14_isLatin1.name) (Ea h 1 vZ) E h h h1
theorem T_J14_isLatin1 {l : Launch} {E : EA} (C0 : Cx) (hE : ∀ i, TI 5 (E.2.2 i)) (h : AH) (hT : TH h) (this : Int) (h_this : TI 5 this) (ht : aT h this = 4) {vZ : Int} (e : A_J14_isLatin1 h this = some vZ) : MetA l yJ14_isLatin1 cJ14_isLatin1 1 (Option.some .boolean) 0 E h [(2, this)] 1 vZ h ∧ Old h h ∧ TH h ∧ TIr 1 vZ := by
  unfold A_J14_isLatin1 at e
  refine a_start (own := RJ14) C0 [(2, this)] hT rfl rfl rfl (fun C => ?_)
  have hO := Old.rf h
  show X C (Z_J14_isLatin1 C l E h vZ h) [(0, (2, this))] 0 []
  refine h_gets Ma.b (i := 0) (t := 0) (x := 1) rfl q1609 (Or.inl rfl) dJ14_isLatin1_0 ?_
  refine x_if_eq Ma.x 17 dJ14_isLatin1_3 rfl (litI rfl) e (fun e => ?_) (fun e => ?_)
  · refine x_iconst Ma.x dJ14_isLatin1_17 ?_
    exact a_retz dJ14_isLatin1_18 (Option.some.inj e) rfl hT litZ0
  · refine x_aload_n Ma.x dJ14_isLatin1_6 0 rfl ?_
    refine g_get Ma.ga fH_J14_22_J15 (c := 3) (kd := 0) rfl rfl hT dJ14_isLatin1_7 e (fun v1 tv1 e => ?_)
    refine x_if_ne Ma.x 17 dJ14_isLatin1_10 rfl tv1.b e (fun e => ?_) (fun e => ?_)
    · refine x_iconst Ma.x dJ14_isLatin1_13 ?_
      refine x_goto Ma.x 18 dJ14_isLatin1_14 rfl ?_
      exact a_retz dJ14_isLatin1_18 (Option.some.inj e) rfl hT litZ1
    · refine x_iconst Ma.x dJ14_isLatin1_17 ?_
      exact a_retz dJ14_isLatin1_18 (Option.some.inj e) rfl hT litZ0
def A_J18_checkLength (h : AH) (p0_ : Int) (p1_ : Int) : Option (Unit) :=
  if p1_ < p0_ then
    none
  else
    some ()
theorem ck_J18_checkLength : CkA yJ18_checkLength 2 := ⟨by decide, by decide, by decide +kernel⟩
abbrev Z_J18_checkLength (C : Cx) (l : Launch) (E : EA) (h : AH) (h1 : AH) : Zs := zA (Ma C cJ18_checkLength 2 RJ18 E l 0 h h 6 0 none yJ18_checkLength.name) (Ea h 6 0) E h h h1
theorem T_J18_checkLength {l : Launch} {E : EA} (C0 : Cx) (hE : ∀ i, TI 5 (E.2.2 i)) (h : AH) (hT : TH h) (p0_ : Int) (p1_ : Int) (h_p0_ : InR p0_) (h_p1_ : InR p1_) (e : A_J18_checkLength h p0_ p1_ = some ()) : MetA l yJ18_checkLength cJ18_checkLength 2 none 0 E h [(0, p0_), (0, p1_)] 6 0 h ∧ Old h h ∧ TH h ∧ TIr 6 0 := by
  unfold A_J18_checkLength at e
  refine a_start (own := RJ18) C0 [(0, p0_), (0, p1_)] hT rfl rfl rfl (fun C => ?_)
  have hO := Old.rf h
  show X C (Z_J18_checkLength C l E h h) [(0, (0, p0_)), (1, (0, p1_))] 0 []
  refine x_iload_n Ma.x dJ18_checkLength_0 1 rfl ?_
  refine x_iload_n Ma.x dJ18_checkLength_1 0 rfl ?_
  refine x_icmp_ge Ma.x 37 dJ18_checkLength_2 rfl h_p1_ h_p0_ e (fun e => ?_) (fun e => ?_)
  · cases e
  · exact a_retv dJ18_checkLength_37 rfl hT
def A_J18_copyOfRangeByte (h : AH) (p0_ : Int) (p1_ : Int) (p2_ : Int) : Option (Int × AH) :=
  (A_J18_checkLength h p1_ p2_).bind fun _ =>
  bd1 (wr (p2_ - p1_)) fun l3_1 =>
  (nwa h 66 l3_1).bind fun (v2, h3) =>
  (al h3 66 p0_).bind fun v4 =>
  (cpc h3 66 p0_ p1_ v2 0 (mn32 (wr (v4 - p1_)) l3_1)).bind fun h5 =>
  some (v2, h5)
theorem ck_J18_copyOfRangeByte : CkA yJ18_copyOfRangeByte 3 := ⟨by decide, by decide, by decide +kernel⟩
abbrev Z_J18_copyOfRangeByte (C : Cx) (l : Launch) (E : EA) (h : AH) (hZ : AH) (vZ : Int) (h1 : AH) : Zs := zA (Ma C cJ18_copyOfRangeByte 5 RJ18 E l 1 h hZ 5 vZ (Option.some (.array .byte)) yJ18_copyOfRangeByte.name) (Ea hZ 5 vZ) E hZ h h1
theorem T_J18_copyOfRangeByte {l : Launch} {E : EA} (C0 : Cx) (hE : ∀ i, TI 5 (E.2.2 i)) (h : AH) (hT : TH h) (p0_ : Int) (p1_ : Int) (p2_ : Int) (h_p0_ : TI 5 p0_) (h_p1_ : InR p1_) (h_p2_ : InR p2_) {vZ : Int} {hZ : AH} (e : A_J18_copyOfRangeByte h p0_ p1_ p2_ = some (vZ, hZ)) : MetA l yJ18_copyOfRangeByte cJ18_copyOfRangeByte 5 (Option.some (.array .byte)) 1 E h [(2, p0_), (0, p1_), (0, p2_)] 5 vZ hZ ∧ Old h hZ ∧ TH hZ ∧ TIr 5 vZ := by
  unfold A_J18_copyOfRangeByte at e
  refine a_start (own := RJ18) C0 [(2, p0_), (0, p1_), (0, p2_)] hT rfl rfl rfl (fun C => ?_)
  have hO := Old.rf h
  show X C (Z_J18_copyOfRangeByte C l E h hZ vZ h) [(0, (2, p0_)), (1, (0, p1_)), (2, (0, p2_))] 0 []
  refine x_iload_n Ma.x dJ18_copyOfRangeByte_0 1 rfl ?_
  refine x_iload_n Ma.x dJ18_copyOfRangeByte_1 2 rfl ?_
  obtain ⟨_, e1, e⟩ := bds e
  refine a_callS Ma.b hT hO [(0, p1_), (0, p2_)] [] [] (T_J18_checkLength C hE h hT p1_ p2_ h_p1_ h_p2_ e1) dJ18_copyOfRangeByte_2 q1773 q1774 q238 q1775 ck_J18_checkLength rfl rfl rfl rfl rfl (fun _ _ _ => ?_)
  refine x_iload_n Ma.x dJ18_copyOfRangeByte_5 2 rfl ?_
  refine x_iload_n Ma.x dJ18_copyOfRangeByte_6 1 rfl ?_
  refine x_isub Ma.x dJ18_copyOfRangeByte_7 ?_
  refine x_istore_nb Ma.x (fun l3_1 => [(3, (0, l3_1)), (0, (2, p0_)), (1, (0, p1_)), (2, (0, p2_))]) dJ18_copyOfRangeByte_8 [0, 1, 2] (fun _ => rfl) rfl rfl (t := 0) (wr_in _) e (fun l3_1 tl3_1 e => ?_)
  refine x_iload_n Ma.x dJ18_copyOfRangeByte_9 0 rfl ?_
  refine h_newa Ma.ga Ma.rm nA_B hT hO dJ18_copyOfRangeByte_10 e (fun v2 h3 tv2 gv2 Th3 Oh3 e => ?_)
  refine x_astore Ma.x (lv' := [(4, (2, v2)), (3, (0, l3_1)), (0, (2, p0_)), (1, (0, p1_)), (2, (0, p2_))]) dJ18_copyOfRangeByte_12 [0, 1, 2, 3] rfl rfl (by decide) ?_
  refine x_aload_n Ma.x dJ18_copyOfRangeByte_14 2 rfl ?_
  refine x_iload_n Ma.x dJ18_copyOfRangeByte_15 3 rfl ?_
  refine x_aload Ma.x dJ18_copyOfRangeByte_16 0 rfl ?_
  refine x_iconst Ma.x dJ18_copyOfRangeByte_18 ?_
  refine x_aload_n Ma.x dJ18_copyOfRangeByte_19 2 rfl ?_
  refine h_len Ma.ga (t := 66) (by decide) rfl Th3 dJ18_copyOfRangeByte_20 e (fun v4 tv4 e => ?_)
  refine x_iload_n Ma.x dJ18_copyOfRangeByte_21 3 rfl ?_
  refine x_isub Ma.x dJ18_copyOfRangeByte_22 ?_
  refine x_iload_n Ma.x dJ18_copyOfRangeByte_23 1 rfl ?_
  refine h_min Ma.b Oh3 (wr_in _) tl3_1 dJ18_copyOfRangeByte_24 q853 rfl rfl ?_
  refine h_copyp Ma.b (t := 66) (by decide) rfl rfl ⟨rfl, by decide⟩ Th3 Oh3 dJ18_copyOfRangeByte_27 q856 rfl rfl e (fun h5 Th5 Oh5 _ e => ?_)
  refine x_aload Ma.x dJ18_copyOfRangeByte_30 0 rfl ?_
  exact a_reta dJ18_copyOfRangeByte_32 (Or.inr ⟨_, rfl⟩) (congrArg Prod.fst (Option.some.inj e)) (congrArg Prod.snd (Option.some.inj e)) Th5 tv2
def A_J18_copyOfRange (k : Nat → Int) (h : AH) (p0_ : Int) (p1_ : Int) (p2_ : Int) : Option (Int × AH) :=
  jn (α := AH) (fun h1 =>
    (A_J18_copyOfRangeByte h1 p0_ p1_ p2_).bind fun (v3, h4) =>
    some (v3, h4)) fun j5 =>
  if p1_ = 0 then
    (al h 66 p0_).bind fun v6 =>
    if p2_ = v6 then
      (clc k h p0_).bind fun (v7, h8) =>
      (ckc h8 [66] v7).bind fun _ =>
      some (v7, h8)
    else
      j5 h
  else
    j5 h
theorem ck_J18_copyOfRange : CkA yJ18_copyOfRange 3 := ⟨by decide, by decide, by decide +kernel⟩
abbrev Z_J18_copyOfRange (C : Cx) (l : Launch) (E : EA) (h : AH) (hZ : AH) (vZ : Int) (h1 : AH) : Zs := zA (Ma C cJ18_copyOfRange 3 RJ18 E l 2 h hZ 5 vZ (Option.some (.array .byte)) yJ18_copyOfRange.name) (Ea hZ 5 vZ) E hZ h h1
theorem T_J18_copyOfRange {l : Launch} {E : EA} (C0 : Cx) (hE : ∀ i, TI 5 (E.2.2 i)) (h : AH) (hT : TH h) (p0_ : Int) (p1_ : Int) (p2_ : Int) (h_p0_ : TI 5 p0_) (h_p1_ : InR p1_) (h_p2_ : InR p2_) {vZ : Int} {hZ : AH} (e : A_J18_copyOfRange E.2.2 h p0_ p1_ p2_ = some (vZ, hZ)) : MetA l yJ18_copyOfRange cJ18_copyOfRange 3 (Option.some (.array .byte)) 2 E h [(2, p0_), (0, p1_), (0, p2_)] 5 vZ hZ ∧ Old h hZ ∧ TH hZ ∧ TIr 5 vZ := by
  unfold A_J18_copyOfRange at e
  refine a_start (own := RJ18) C0 [(2, p0_), (0, p1_), (0, p2_)] hT rfl rfl rfl (fun C => ?_)
  have hO := Old.rf h
  show X C (Z_J18_copyOfRange C l E h hZ vZ h) [(0, (2, p0_)), (1, (0, p1_)), (2, (0, p2_))] 0 []
  refine x_iload_n Ma.x dJ18_copyOfRange_0 1 rfl ?_
  refine jn_rule e (Y := fun h1 => TH h1 → Old h h1 → X C (Z_J18_copyOfRange C l E h hZ vZ h1) [(0, (2, p0_)), (1, (0, p1_)), (2, (0, p2_))] 10 []) ?_ ?_
  · rintro h1 e  Th1 Oh1
    refine x_aload_n Ma.x dJ18_copyOfRange_10 0 rfl ?_
    refine x_iload_n Ma.x dJ18_copyOfRange_11 1 rfl ?_
    refine x_iload_n Ma.x dJ18_copyOfRange_12 2 rfl ?_
    obtain ⟨⟨v3, h4⟩, e1, e⟩ := bds e
    refine a_callS Ma.b Th1 Oh1 [(2, p0_), (0, p1_), (0, p2_)] [] [(2, v3)] (T_J18_copyOfRangeByte C hE h1 Th1 p0_ p1_ p2_ h_p0_ h_p1_ h_p2_ e1) dJ18_copyOfRange_13 q1770 q1771 q238 q1772 ck_J18_copyOfRangeByte rfl rfl rfl rfl rfl (fun tv3 Th4 Oh4 => ?_)
    exact a_reta dJ18_copyOfRange_16 (Or.inr ⟨_, rfl⟩) (congrArg Prod.fst (Option.some.inj e)) (congrArg Prod.snd (Option.some.inj e)) Th4 tv3
  · intro j5 hj5 e
    refine x_if_ne Ma.x 10 dJ18_copyOfRange_1 rfl h_p1_ e (fun e => ?_) (fun e => ?_)
    · refine x_iload_n Ma.x dJ18_copyOfRange_4 2 rfl ?_
      refine x_aload_n Ma.x dJ18_copyOfRange_5 0 rfl ?_
      refine h_len Ma.ga (t := 66) (by decide) rfl hT dJ18_copyOfRange_6 e (fun v6 tv6 e => ?_)
      refine x_icmp_eq Ma.x 17 dJ18_copyOfRange_7 rfl h_p2_ tv6 e (fun e => ?_) (fun e => ?_)
      · refine x_aload_n Ma.x dJ18_copyOfRange_17 0 rfl ?_
        refine h_clone Ma.b hT hO dJ18_copyOfRange_18 q1656 rfl rfl e (fun v7 h8 tv7 gv7 Th8 Oh8 e => ?_)
        refine h_castA Ma.b arN_66 Th8 tv7 dJ18_copyOfRange_21 q1662 e (fun e => ?_)
        exact a_reta dJ18_copyOfRange_24 (Or.inr ⟨_, rfl⟩) (congrArg Prod.fst (Option.some.inj e)) (congrArg Prod.snd (Option.some.inj e)) Th8 tv7
      · exact x_drop [0, 1, 2] rfl (hj5 h e hT hO)
    · exact x_drop [0, 1, 2] rfl (hj5 h e hT hO)
def A_J0_init_2 (k : Nat → Int) (h : AH) (this : Int) (p0_ : Int) (p1_ : Int) : Option (AH) :=
  (tgc h 4 p0_).bind fun _ =>
  (A_J14_getValue h p0_).bind fun v2 =>
  (tgc h 4 p0_).bind fun _ =>
  (A_J15_length h p0_).bind fun v4 =>
  (tgc h 4 p0_).bind fun _ =>
  (A_J14_isLatin1 h p0_).bind fun v6 =>
  if v6 = 0 then
    (
      if (1 : Int) = 0 then
        some ()
      else
        (gf h 4 2 p0_).bind fun v13 =>
        if v13 = 0 then
          some ()
        else
          none : Option (Unit)).bind fun _ =>
    (pf h 1 1 this 1).bind fun h8 =>
    (A_J18_copyOfRange k h8 v2 0 (shl32 v4 1)).bind fun (v9, h10) =>
    (pf h10 1 0 this v9).bind fun h11 =>
    some h11
  else
    (pf h 1 1 this 0).bind fun h14 =>
    (A_J18_copyOfRange k h14 v2 0 v4).bind fun (v15, h16) =>
    (pf h16 1 0 this v15).bind fun h17 =>
    some h17
theorem ck_J0_init_2 : CkA yJ0_init_2 2 := ⟨by decide, by decide, by decide +kernel⟩
abbrev Z_J0_init_2 (C : Cx) (l : Launch) (E : EA) (h : AH) (hZ : AH) (h1 : AH) : Zs := zA (Ma C cJ0_init_2 5 RJ0 E l 3 h hZ 6 0 none yJ0_init_2.name) (Ea hZ 6 0) E hZ h h1
theorem T_J0_init_2 {l : Launch} {E : EA} (C0 : Cx) (hE : ∀ i, TI 5 (E.2.2 i)) (h : AH) (hT : TH h) (this : Int) (p0_ : Int) (p1_ : Int) (h_this : TI 5 this) (h_p0_ : TI 5 p0_) (h_p1_ : TI 5 p1_) (ht : aT h this = 1) {hZ : AH} (e : A_J0_init_2 E.2.2 h this p0_ p1_ = some hZ) : MetA l yJ0_init_2 cJ0_init_2 5 none 3 E h [(2, this), (2, p0_), (2, p1_)] 6 0 hZ ∧ Old h hZ ∧ TH hZ ∧ TIr 6 0 := by
  unfold A_J0_init_2 at e
  refine a_start (own := RJ0) C0 [(2, this), (2, p0_), (2, p1_)] hT rfl rfl rfl (fun C => ?_)
  have hO := Old.rf h
  show X C (Z_J0_init_2 C l E h hZ h) [(0, (2, this)), (1, (2, p0_)), (2, (2, p1_))] 0 []
  refine x_aload_n Ma.x dJ0_init_2_0 0 rfl ?_
  refine a_objInit Ma.b hT ht (by decide) rfl rfl dJ0_init_2_1 q1752 q280 q281 ?_
  refine x_aload_n Ma.x dJ0_init_2_4 1 rfl ?_
  obtain ⟨q1, e⟩ := bds1 e
  obtain ⟨v2, e1, e⟩ := bds e
  refine a_callU Ma.b (Cn := "java/lang/StringBuilder") (owner := "java/lang/AbstractStringBuilder") hT hO [] [] [(2, v2)] (T_J14_getValue C hE h hT p0_ h_p0_ (tgc_s q1) e1) (tgc_s q1) ⟨by decide, by decide, _, rfl, rfl⟩ dJ0_init_2_5 q1753 q1755 q1756 q1754 q234 q1757 rfl ck_J14_getValue rfl rfl rfl rfl rfl (fun tv2 _ _ => ?_)
  refine x_astore_n Ma.x (lv' := [(3, (2, v2)), (0, (2, this)), (1, (2, p0_)), (2, (2, p1_))]) dJ0_init_2_8 [0, 1, 2] rfl rfl (by decide) ?_
  refine x_aload_n Ma.x dJ0_init_2_9 2 rfl ?_
  obtain ⟨q3, e⟩ := bds1 e
  obtain ⟨v4, e1, e⟩ := bds e
  refine a_callO Ma.b (Cn := "java/lang/StringBuilder") (owner := "java/lang/AbstractStringBuilder") hT hO [] [] [(0, v4)] (T_J15_length C hE h hT p0_ h_p0_ (tgc_s q3) e1) (tgc_s q3) ⟨by decide, by decide, _, rfl, rfl⟩ dJ0_init_2_10 q1758 q1760 q1759 q1761 q1762 q235 q1763 q1765 ⟨by decide, by decide, ck_J15_length.2.2⟩ rfl rfl rfl rfl rfl (fun tv4 _ _ => ?_)
  refine x_istore Ma.x (lv' := [(4, (0, v4)), (3, (2, v2)), (0, (2, this)), (1, (2, p0_)), (2, (2, p1_))]) dJ0_init_2_13 [0, 1, 2, 3] rfl rfl (by decide) ?_
  refine x_aload_n Ma.x dJ0_init_2_15 3 rfl ?_
  obtain ⟨q5, e⟩ := bds1 e
  obtain ⟨v6, e1, e⟩ := bds e
  refine a_callU Ma.b (Cn := "java/lang/StringBuilder") (owner := "java/lang/AbstractStringBuilder") hT hO [] [] [(0, v6)] (T_J14_isLatin1 C hE h hT p0_ h_p0_ (tgc_s q5) e1) (tgc_s q5) ⟨by decide, by decide, _, rfl, rfl⟩ dJ0_init_2_16 q1766 q1665 q1666 q1664 q234 q1667 rfl ck_J14_isLatin1 rfl rfl rfl rfl rfl (fun tv6 _ _ => ?_)
  refine x_if_eq Ma.x 41 dJ0_init_2_19 rfl tv6.z e (fun e => ?_) (fun e => ?_)
  · refine h_gets Ma.b (i := 0) (t := 0) (x := 1) rfl q311 (Or.inl rfl) dJ0_init_2_41 ?_
    refine bd_rule e (Y := fun _ => X C (Z_J0_init_2 C l E h hZ h) [(0, (2, this)), (3, (2, v2)), (4, (0, v4))] 79 []) ?_ ?_
    · intro _ e
      refine x_aload_n Ma.x dJ0_init_2_79 0 rfl ?_
      refine x_iconst Ma.x dJ0_init_2_80 ?_
      refine g_putF Ma.ga fH_J0_15_J0 (c := 3) (kd := 0) rfl rfl (IsFin.of rfl) (fun m => (Ma.nam m).trans rfl) hT hO ⟨by decide, by decide⟩ dJ0_init_2_81 e (fun h8 Th8 Oh8 _ e => ?_)
      refine x_aload_n Ma.x dJ0_init_2_84 0 rfl ?_
      refine x_aload_n Ma.x dJ0_init_2_85 1 rfl ?_
      refine x_iconst Ma.x dJ0_init_2_86 ?_
      refine x_iload Ma.x dJ0_init_2_87 2 rfl ?_
      refine x_iconst Ma.x dJ0_init_2_89 ?_
      refine x_ishl Ma.x dJ0_init_2_90 ?_
      obtain ⟨⟨v9, h10⟩, e1, e⟩ := bds e
      refine a_callS Ma.b Th8 Oh8 [(2, v2), (0, 0), (0, (shl32 v4 1))] [(2, this)] [(2, v9), (2, this)] (T_J18_copyOfRange C hE h8 Th8 v2 0 (shl32 v4 1) tv2 (litI rfl) (shl32_in _ _) e1) dJ0_init_2_91 q1767 q1768 q238 q1769 ck_J18_copyOfRange rfl rfl rfl rfl rfl (fun tv9 Th10 Oh10 => ?_)
      refine g_putF Ma.ga fH_J0_9_J0 (c := 5) (kd := 2) rfl rfl (IsFin.of rfl) (fun m => (Ma.nam m).trans rfl) Th10 Oh10 tv9 dJ0_init_2_94 e (fun h11 Th11 Oh11 _ e => ?_)
      exact a_retv dJ0_init_2_97 (Option.some.inj e) Th11
    · intro tt hY7 e
      refine x_if_eq Ma.x 79 dJ0_init_2_44 rfl (litI rfl) e (fun e => ?_) (fun e => ?_)
      · cases e
        exact x_drop [2, 1, 0] rfl (hY7 )
      · refine x_aload_n Ma.x dJ0_init_2_47 3 rfl ?_
        refine g_get Ma.ga fH_J0_1048_J15 (c := 1) (kd := 0) rfl rfl hT dJ0_init_2_48 e (fun v13 tv13 e => ?_)
        refine x_if_eq Ma.x 79 dJ0_init_2_51 rfl tv13.z e (fun e => ?_) (fun e => ?_)
        · cases e
          exact x_drop [2, 1, 0] rfl (hY7 )
        · cases e
  · refine x_aload_n Ma.x dJ0_init_2_22 2 rfl ?_
    refine x_iconst Ma.x dJ0_init_2_23 ?_
    refine g_putF Ma.ga fH_J0_15_J0 (c := 3) (kd := 0) rfl rfl (IsFin.of rfl) (fun m => (Ma.nam m).trans rfl) hT hO ⟨by decide, by decide⟩ dJ0_init_2_24 e (fun h14 Th14 Oh14 _ e => ?_)
    refine x_aload_n Ma.x dJ0_init_2_27 2 rfl ?_
    refine x_aload_n Ma.x dJ0_init_2_28 1 rfl ?_
    refine x_iconst Ma.x dJ0_init_2_29 ?_
    refine x_iload Ma.x dJ0_init_2_30 0 rfl ?_
    obtain ⟨⟨v15, h16⟩, e1, e⟩ := bds e
    refine a_callS Ma.b Th14 Oh14 [(2, v2), (0, 0), (0, v4)] [(2, this)] [(2, v15), (2, this)] (T_J18_copyOfRange C hE h14 Th14 v2 0 v4 tv2 (litI rfl) tv4 e1) dJ0_init_2_32 q1767 q1768 q238 q1769 ck_J18_copyOfRange rfl rfl rfl rfl rfl (fun tv15 Th16 Oh16 => ?_)
    refine g_putF Ma.ga fH_J0_9_J0 (c := 5) (kd := 2) rfl rfl (IsFin.of rfl) (fun m => (Ma.nam m).trans rfl) Th16 Oh16 tv15 dJ0_init_2_35 e (fun h17 Th17 Oh17 _ e => ?_)
    refine x_goto Ma.x 97 dJ0_init_2_38 rfl ?_
    exact a_retv dJ0_init_2_97 (Option.some.inj e) Th17
def A_J0_init (k : Nat → Int) (h : AH) (this : Int) (p0_ : Int) : Option (AH) :=
  (A_J0_init_2 k h this p0_ (-1)).bind fun h1 =>
  some h1
theorem ck_J0_init : CkA yJ0_init 1 := ⟨by decide, by decide, by decide +kernel⟩
abbrev Z_J0_init (C : Cx) (l : Launch) (E : EA) (h : AH) (hZ : AH) (h1 : AH) : Zs := zA (Ma C cJ0_init 2 RJ0 E l 4 h hZ 6 0 none yJ0_init.name) (Ea hZ 6 0) E hZ h h1
theorem T_J0_init {l : Launch} {E : EA} (C0 : Cx) (hE : ∀ i, TI 5 (E.2.2 i)) (h : AH) (hT : TH h) (this : Int) (p0_ : Int) (h_this : TI 5 this) (h_p0_ : TI 5 p0_) (ht : aT h this = 1) {hZ : AH} (e : A_J0_init E.2.2 h this p0_ = some hZ) : MetA l yJ0_init cJ0_init 2 none 4 E h [(2, this), (2, p0_)] 6 0 hZ ∧ Old h hZ ∧ TH hZ ∧ TIr 6 0 := by
  unfold A_J0_init at e
  refine a_start (own := RJ0) C0 [(2, this), (2, p0_)] hT rfl rfl rfl (fun C => ?_)
  have hO := Old.rf h
  show X C (Z_J0_init C l E h hZ h) [(0, (2, this)), (1, (2, p0_))] 0 []
  refine x_aload_n Ma.x dJ0_init_0 0 rfl ?_
  refine x_aload_n Ma.x dJ0_init_1 1 rfl ?_
  refine x_null Ma.x dJ0_init_2 ?_
  obtain ⟨h1, e1, e⟩ := bds e
  refine a_callI Ma.b hT hO [(2, p0_), (2, (-1))] [] [] (T_J0_init_2 C hE h hT this p0_ (-1) h_this h_p0_ (Int.le_refl _) ht e1) ht (by decide) dJ0_init_3 q1749 q1750 q219 q1751 rfl ck_J0_init_2 rfl rfl rfl rfl rfl (fun _ Th1 Oh1 => ?_)
  exact a_retv dJ0_init_6 (Option.some.inj e) Th1
def A_J15_toString (k : Nat → Int) (h : AH) (this : Int) : Option (Int × AH) :=
  bd1 (nwo h 1 4) fun (v1, h2) =>
  (A_J0_init k h2 v1 this).bind fun h3 =>
  some (v1, h3)
theorem ck_J15_toString : CkA yJ15_toString 0 := ⟨by decide, by decide, by decide +kernel⟩
abbrev Z_J15_toString (C : Cx) (l : Launch) (E : EA) (h : AH) (hZ : AH) (vZ : Int) (h1 : AH) : Zs := zA (Ma C cJ15_toString 1 RJ15 E l 5 h hZ 5 vZ (Option.some (.object "java/lang/String")) yJ15_toString.name) (Ea hZ 5 vZ) E hZ h h1
theorem T_J15_toString {l : Launch} {E : EA} (C0 : Cx) (hE : ∀ i, TI 5 (E.2.2 i)) (h : AH) (hT : TH h) (this : Int) (h_this : TI 5 this) (ht : aT h this = 4) {vZ : Int} {hZ : AH} (e : A_J15_toString E.2.2 h this = some (vZ, hZ)) : MetA l yJ15_toString cJ15_toString 1 (Option.some (.object "java/lang/String")) 5 E h [(2, this)] 5 vZ hZ ∧ Old h hZ ∧ TH hZ ∧ TIr 5 vZ := by
  unfold A_J15_toString at e
  refine a_start (own := RJ15) C0 [(2, this)] hT rfl rfl rfl (fun C => ?_)
  have hO := Old.rf h
  show X C (Z_J15_toString C l E h hZ vZ h) [(0, (2, this))] 0 []
  refine h_new Ma.ga Ma.rm ⟨by decide, by decide, (RJ0, TJ0, 4), 4, rfl, rfl, q1744, q1745, q219, Or.inr cl_1⟩ hT hO dJ15_toString_0 e (fun v1 h2 tv1 gv1 Th2 Oh2 e => ?_)
  refine x_dup Ma.x dJ15_toString_3 rfl ?_
  refine x_aload_n Ma.x dJ15_toString_4 0 rfl ?_
  obtain ⟨h3, e1, e⟩ := bds e
  refine a_callI Ma.b Th2 Oh2 [(2, this)] [(2, v1)] [(2, v1)] (T_J0_init C hE h2 Th2 v1 this tv1 h_this gv1 e1) gv1 (by decide) dJ15_toString_5 q1746 q1747 q219 q1748 rfl ck_J0_init rfl rfl rfl rfl rfl (fun _ Th3 Oh3 => ?_)
  exact a_reta dJ15_toString_8 (Or.inl ⟨_, rfl⟩) (congrArg Prod.fst (Option.some.inj e)) (congrArg Prod.snd (Option.some.inj e)) Th3 tv1
def A_J0_valueOf (k : Nat → Int) (h : AH) (p0_ : Int) : Option (Int × AH) :=
  if p0_ < 0 then
    none
  else
    (tgc h 4 p0_).bind fun _ =>
    (A_J15_toString k h p0_).bind fun (v2, h3) =>
    some (v2, h3)
theorem ck_J0_valueOf : CkA yJ0_valueOf 1 := ⟨by decide, by decide, by decide +kernel⟩
abbrev Z_J0_valueOf (C : Cx) (l : Launch) (E : EA) (h : AH) (hZ : AH) (vZ : Int) (h1 : AH) : Zs := zA (Ma C cJ0_valueOf 1 RJ0 E l 6 h hZ 5 vZ (Option.some (.object "java/lang/String")) yJ0_valueOf.name) (Ea hZ 5 vZ) E hZ h h1
theorem T_J0_valueOf {l : Launch} {E : EA} (C0 : Cx) (hE : ∀ i, TI 5 (E.2.2 i)) (h : AH) (hT : TH h) (p0_ : Int) (h_p0_ : TI 5 p0_) {vZ : Int} {hZ : AH} (e : A_J0_valueOf E.2.2 h p0_ = some (vZ, hZ)) : MetA l yJ0_valueOf cJ0_valueOf 1 (Option.some (.object "java/lang/String")) 6 E h [(2, p0_)] 5 vZ hZ ∧ Old h hZ ∧ TH hZ ∧ TIr 5 vZ := by
  unfold A_J0_valueOf at e
  refine a_start (own := RJ0) C0 [(2, p0_)] hT rfl rfl rfl (fun C => ?_)
  have hO := Old.rf h
  show X C (Z_J0_valueOf C l E h hZ vZ h) [(0, (2, p0_))] 0 []
  refine x_aload_n Ma.x dJ0_valueOf_0 0 rfl ?_
  refine x_ifnonnull Ma.x 10 dJ0_valueOf_1 rfl e (fun e => ?_) (fun e => ?_)
  · cases e
  · refine x_aload_n Ma.x dJ0_valueOf_10 0 rfl ?_
    obtain ⟨q1, e⟩ := bds1 e
    obtain ⟨⟨v2, h3⟩, e1, e⟩ := bds e
    refine a_callA Ma.b (Cn := "java/lang/StringBuilder") (owner := "java/lang/Object") hT hO [] [] [(2, v2)] (T_J15_toString C hE h hT p0_ h_p0_ (tgc_s q1) e1) (tgc_s q1) ⟨by decide, by decide, _, rfl, rfl⟩ dJ0_valueOf_11 q1864 q1866 q1938 q1741 q235 q1743 q1863 ⟨by decide, by decide, ck_J15_toString.2.2⟩ rfl rfl rfl rfl rfl (fun tv2 Th3 Oh3 => ?_)
    exact a_reta dJ0_valueOf_14 (Or.inl ⟨_, rfl⟩) (congrArg Prod.fst (Option.some.inj e)) (congrArg Prod.snd (Option.some.inj e)) Th3 tv2
def A_J0_init_3 (h : AH) (this : Int) (p0_ : Int) (p1_ : Int) : Option (AH) :=
  (pf h 1 0 this p0_).bind fun h1 =>
  (pf h1 1 1 this p1_).bind fun h2 =>
  some h2
theorem ck_J0_init_3 : CkA yJ0_init_3 2 := ⟨by decide, by decide, by decide +kernel⟩
abbrev Z_J0_init_3 (C : Cx) (l : Launch) (E : EA) (h : AH) (hZ : AH) (h1 : AH) : Zs := zA (Ma C cJ0_init_3 3 RJ0 E l 1 h hZ 6 0 none yJ0_init_3.name) (Ea hZ 6 0) E hZ h h1
theorem T_J0_init_3 {l : Launch} {E : EA} (C0 : Cx) (hE : ∀ i, TI 5 (E.2.2 i)) (h : AH) (hT : TH h) (this : Int) (p0_ : Int) (p1_ : Int) (h_this : TI 5 this) (h_p0_ : TI 5 p0_) (h_p1_ : TI 3 p1_) (ht : aT h this = 1) {hZ : AH} (e : A_J0_init_3 h this p0_ p1_ = some hZ) : MetA l yJ0_init_3 cJ0_init_3 3 none 1 E h [(2, this), (2, p0_), (0, p1_)] 6 0 hZ ∧ Old h hZ ∧ TH hZ ∧ TIr 6 0 := by
  unfold A_J0_init_3 at e
  refine a_start (own := RJ0) C0 [(2, this), (2, p0_), (0, p1_)] hT rfl rfl rfl (fun C => ?_)
  have hO := Old.rf h
  show X C (Z_J0_init_3 C l E h hZ h) [(0, (2, this)), (1, (2, p0_)), (2, (0, p1_))] 0 []
  refine x_aload_n Ma.x dJ0_init_3_0 0 rfl ?_
  refine a_objInit Ma.b hT ht (by decide) rfl rfl dJ0_init_3_1 q1752 q280 q281 ?_
  refine x_aload_n Ma.x dJ0_init_3_4 0 rfl ?_
  refine x_aload_n Ma.x dJ0_init_3_5 1 rfl ?_
  refine g_putF Ma.ga fH_J0_9_J0 (c := 5) (kd := 2) rfl rfl (IsFin.of rfl) (fun m => (Ma.nam m).trans rfl) hT hO h_p0_ dJ0_init_3_6 e (fun h1 Th1 Oh1 _ e => ?_)
  refine x_aload_n Ma.x dJ0_init_3_9 0 rfl ?_
  refine x_iload_n Ma.x dJ0_init_3_10 2 rfl ?_
  refine g_putF Ma.ga fH_J0_15_J0 (c := 3) (kd := 0) rfl rfl (IsFin.of rfl) (fun m => (Ma.nam m).trans rfl) Th1 Oh1 h_p1_ dJ0_init_3_11 e (fun h2 Th2 Oh2 _ e => ?_)
  exact a_retv dJ0_init_3_14 (Option.some.inj e) Th2
def A_J0_toString (h : AH) (this : Int) : Option (Int) :=
  some this
theorem ck_J0_toString : CkA yJ0_toString 0 := ⟨by decide, by decide, by decide +kernel⟩
abbrev Z_J0_toString (C : Cx) (l : Launch) (E : EA) (h : AH) (vZ : Int) (h1 : AH) : Zs := zA (Ma C cJ0_toString 1 RJ0 E l 0 h h 5 vZ (Option.some (.object "java/lang/String")) yJ0_toString.name) (Ea h 5 vZ) E h h h1
theorem T_J0_toString {l : Launch} {E : EA} (C0 : Cx) (hE : ∀ i, TI 5 (E.2.2 i)) (h : AH) (hT : TH h) (this : Int) (h_this : TI 5 this) (ht : aT h this = 1) {vZ : Int} (e : A_J0_toString h this = some vZ) : MetA l yJ0_toString cJ0_toString 1 (Option.some (.object "java/lang/String")) 0 E h [(2, this)] 5 vZ h ∧ Old h h ∧ TH h ∧ TIr 5 vZ := by
  unfold A_J0_toString at e
  refine a_start (own := RJ0) C0 [(2, this)] hT rfl rfl rfl (fun C => ?_)
  have hO := Old.rf h
  show X C (Z_J0_toString C l E h vZ h) [(0, (2, this))] 0 []
  refine x_aload_n Ma.x dJ0_toString_0 0 rfl ?_
  exact a_reta dJ0_toString_1 (Or.inl ⟨_, rfl⟩) (Option.some.inj e) rfl hT h_this
def B_J1_equals_9 (h : AH) (p0_ : Int) (p1_ : Int) (rec5 : Int → Option (Sum (Int) (Unit))) : Int → Option (Sum (Int) (Unit)) := fun l2_3 =>
  (al h 66 p0_).bind fun v6 =>
  if l2_3 < v6 then
    (ga h 66 p0_ l2_3).bind fun v7 =>
    (ga h 66 p1_ l2_3).bind fun v8 =>
    if v7 = v8 then
      bd1 (wr (l2_3 + 1)) fun l2_9 =>
      rec5 l2_9
    else
      some (.inl 0)
  else
    some (.inr ())
def A_J1_equals (h : AH) (p0_ : Int) (p1_ : Int) : Option (Int) :=
  (al h 66 p0_).bind fun v1 =>
  (al h 66 p1_).bind fun v2 =>
  if v1 = v2 then
    sb (lp (B_J1_equals_9 h p0_ p1_) FU 0) fun _ =>
    some 1
  else
    some 0
theorem ck_J1_equals : CkA yJ1_equals 2 := ⟨by decide, by decide, by decide +kernel⟩
abbrev Z_J1_equals (C : Cx) (l : Launch) (E : EA) (h : AH) (vZ : Int) (h1 : AH) : Zs := zA (Ma C cJ1_equals 3 RJ1 E l 0 h h 1 vZ (Option.some .boolean) yJ1_equals.name) (Ea h 1 vZ) E h h h1
theorem T_J1_equals {l : Launch} {E : EA} (C0 : Cx) (hE : ∀ i, TI 5 (E.2.2 i)) (h : AH) (hT : TH h) (p0_ : Int) (p1_ : Int) (h_p0_ : TI 5 p0_) (h_p1_ : TI 5 p1_) {vZ : Int} (e : A_J1_equals h p0_ p1_ = some vZ) : MetA l yJ1_equals cJ1_equals 3 (Option.some .boolean) 0 E h [(2, p0_), (2, p1_)] 1 vZ h ∧ Old h h ∧ TH h ∧ TIr 1 vZ := by
  unfold A_J1_equals at e
  refine a_start (own := RJ1) C0 [(2, p0_), (2, p1_)] hT rfl rfl rfl (fun C => ?_)
  have hO := Old.rf h
  show X C (Z_J1_equals C l E h vZ h) [(0, (2, p0_)), (1, (2, p1_))] 0 []
  refine x_aload_n Ma.x dJ1_equals_0 0 rfl ?_
  refine h_len Ma.ga (t := 66) (by decide) rfl hT dJ1_equals_1 e (fun v1 tv1 e => ?_)
  refine x_aload_n Ma.x dJ1_equals_2 1 rfl ?_
  refine h_len Ma.ga (t := 66) (by decide) rfl hT dJ1_equals_3 e (fun v2 tv2 e => ?_)
  refine x_icmp_ne Ma.x 34 dJ1_equals_4 rfl tv1 tv2 e (fun e => ?_) (fun e => ?_)
  · refine x_iconst Ma.x dJ1_equals_7 ?_
    refine x_istore_n Ma.x (lv' := [(2, (0, 0)), (0, (2, p0_)), (1, (2, p1_))]) dJ1_equals_8 [0, 1] rfl rfl (by decide) ?_
    refine sb_rule e (Y := fun _ => X C (Z_J1_equals C l E h vZ h) [] 32 []) ?_ ?_
    · intro _ e
      refine x_iconst Ma.x dJ1_equals_32 ?_
      exact a_retz dJ1_equals_33 (Option.some.inj e) rfl hT litZ1
    · intro tt hY4 e
      refine x_drop [1, 2, 0] rfl ((lp_rule (P := fun l2_3 => InR l2_3 → X C (Z_J1_equals C l E h vZ h) [(0, (2, p0_)), (1, (2, p1_)), (2, (0, l2_3))] 9 []) (fun rec5 ihrec5 => ?_) FU 0 e) (litI rfl))
      rintro l2_3 e tl2_3
      dsimp only [B_J1_equals_9] at e
      refine x_iload_n Ma.x dJ1_equals_9 2 rfl ?_
      refine x_aload_n Ma.x dJ1_equals_10 0 rfl ?_
      refine h_len Ma.ga (t := 66) (by decide) rfl hT dJ1_equals_11 e (fun v6 tv6 e => ?_)
      refine x_icmp_ge Ma.x 32 dJ1_equals_12 rfl tl2_3 tv6 e (fun e => ?_) (fun e => ?_)
      · refine x_aload_n Ma.x dJ1_equals_15 0 rfl ?_
        refine x_iload_n Ma.x dJ1_equals_16 2 rfl ?_
        refine h_bald Ma.ga hT dJ1_equals_17 e (fun v7 tv7 e => ?_)
        refine x_aload_n Ma.x dJ1_equals_18 1 rfl ?_
        refine x_iload_n Ma.x dJ1_equals_19 2 rfl ?_
        refine h_bald Ma.ga hT dJ1_equals_20 e (fun v8 tv8 e => ?_)
        refine x_icmp_eq Ma.x 26 dJ1_equals_21 rfl tv7.b tv8.b e (fun e => ?_) (fun e => ?_)
        · refine x_iincb Ma.x (fun l2_9 => [(2, (0, l2_9)), (0, (2, p0_)), (1, (2, p1_))]) dJ1_equals_26 2 rfl [0, 1] (fun _ => rfl) rfl rfl e (fun l2_9 tl2_9 e => ?_)
          refine x_goto Ma.x 9 dJ1_equals_29 rfl ?_
          exact x_drop [1, 2, 0] rfl (ihrec5 l2_9 e tl2_9)
        · refine x_iconst Ma.x dJ1_equals_24 ?_
          have e := lfl e hY4
          exact a_retz dJ1_equals_25 (Option.some.inj e) rfl hT litZ0
      · cases e
        exact x_drop [] rfl (hY4 )
  · refine x_iconst Ma.x dJ1_equals_34 ?_
    exact a_retz dJ1_equals_35 (Option.some.inj e) rfl hT litZ0
def A_J0_equals (h : AH) (this : Int) (p0_ : Int) : Option (Int) :=
  if this = p0_ then
    some 1
  else
    (iof h 1 p0_).bind fun v1 =>
    if v1 = 0 then
      some 0
    else
      (ckc h [1] p0_).bind fun _ =>
      jn (α := Unit) (fun _ =>
        (gf h 1 0 this).bind fun v3 =>
        (gf h 1 0 p0_).bind fun v4 =>
        (A_J1_equals h v3 v4).bind fun v5 =>
        if v5 = 0 then
          some 0
        else
          some 1) fun j6 =>
      if (1 : Int) = 0 then
        j6 ()
      else
        (gf h 1 1 this).bind fun v7 =>
        (gf h 1 1 p0_).bind fun v8 =>
        if v7 = v8 then
          j6 ()
        else
          some 0
theorem ck_J0_equals : CkA yJ0_equals 1 := ⟨by decide, by decide, by decide +kernel⟩
abbrev Z_J0_equals (C : Cx) (l : Launch) (E : EA) (h : AH) (vZ : Int) (h1 : AH) : Zs := zA (Ma C cJ0_equals 3 RJ0 E l 1 h h 1 vZ (Option.some .boolean) yJ0_equals.name) (Ea h 1 vZ) E h h h1
theorem T_J0_equals {l : Launch} {E : EA} (C0 : Cx) (hE : ∀ i, TI 5 (E.2.2 i)) (h : AH) (hT : TH h) (this : Int) (p0_ : Int) (h_this : TI 5 this) (h_p0_ : TI 5 p0_) (ht : aT h this = 1) {vZ : Int} (e : A_J0_equals h this p0_ = some vZ) : MetA l yJ0_equals cJ0_equals 3 (Option.some .boolean) 1 E h [(2, this), (2, p0_)] 1 vZ h ∧ Old h h ∧ TH h ∧ TIr 1 vZ := by
  unfold A_J0_equals at e
  refine a_start (own := RJ0) C0 [(2, this), (2, p0_)] hT rfl rfl rfl (fun C => ?_)
  have hO := Old.rf h
  show X C (Z_J0_equals C l E h vZ h) [(0, (2, this)), (1, (2, p0_))] 0 []
  refine x_aload_n Ma.x dJ0_equals_0 0 rfl ?_
  refine x_aload_n Ma.x dJ0_equals_1 1 rfl ?_
  refine x_acmp_ne Ma.x 7 dJ0_equals_2 rfl h_this h_p0_ e (fun e => ?_) (fun e => ?_)
  · refine x_iconst Ma.x dJ0_equals_5 ?_
    exact a_retz dJ0_equals_6 (Option.some.inj e) rfl hT litZ1
  · refine x_aload_n Ma.x dJ0_equals_7 1 rfl ?_
    refine h_iof Ma.b (T := 1) (.head _) hT h_p0_ dJ0_equals_8 q1963 e (fun v1 tv1 e => ?_)
    refine x_if_eq Ma.x 54 dJ0_equals_11 rfl tv1.z e (fun e => ?_) (fun e => ?_)
    · refine x_iconst Ma.x dJ0_equals_54 ?_
      exact a_retz dJ0_equals_55 (Option.some.inj e) rfl hT litZ0
    · refine x_aload_n Ma.x dJ0_equals_14 1 rfl ?_
      refine h_cast Ma.b cst_String hT h_p0_ dJ0_equals_15 q1963 e (fun _ e => ?_)
      refine x_astore_n Ma.x (lv' := [(2, (2, p0_)), (0, (2, this)), (1, (2, p0_))]) dJ0_equals_18 [0, 1] rfl rfl (by decide) ?_
      refine h_gets Ma.b (i := 0) (t := 0) (x := 1) rfl q311 (Or.inl rfl) dJ0_equals_19 ?_
      refine jn_rule e (Y := fun _ => X C (Z_J0_equals C l E h vZ h) [(0, (2, this)), (2, (2, p0_))] 36 []) ?_ ?_
      · intro _ e
        refine x_aload_n Ma.x dJ0_equals_36 0 rfl ?_
        refine g_get Ma.ga fH_J0_9_J0 (c := 5) (kd := 2) rfl rfl hT dJ0_equals_37 e (fun v3 tv3 e => ?_)
        refine x_aload_n Ma.x dJ0_equals_40 1 rfl ?_
        refine g_get Ma.ga fH_J0_9_J0 (c := 5) (kd := 2) rfl rfl hT dJ0_equals_41 e (fun v4 tv4 e => ?_)
        obtain ⟨v5, e1, e⟩ := bds e
        refine a_callS Ma.b hT hO [(2, v3), (2, v4)] [] [(0, v5)] (T_J1_equals C hE h hT v3 v4 tv3 tv4 e1) dJ0_equals_44 q1964 q1965 q220 q1966 ck_J1_equals rfl rfl rfl rfl rfl (fun tv5 _ _ => ?_)
        refine x_if_eq Ma.x 54 dJ0_equals_47 rfl tv5.z e (fun e => ?_) (fun e => ?_)
        · refine x_iconst Ma.x dJ0_equals_54 ?_
          exact a_retz dJ0_equals_55 (Option.some.inj e) rfl hT litZ0
        · refine x_iconst Ma.x dJ0_equals_50 ?_
          refine x_goto Ma.x 55 dJ0_equals_51 rfl ?_
          exact a_retz dJ0_equals_55 (Option.some.inj e) rfl hT litZ1
      · intro j6 hj6 e
        refine x_if_eq Ma.x 36 dJ0_equals_22 rfl (litI rfl) e (fun e => ?_) (fun e => ?_)
        · exact x_drop [1, 0] rfl (hj6 () e )
        · refine x_aload_n Ma.x dJ0_equals_25 1 rfl ?_
          refine g_get Ma.ga fH_J0_15_J0 (c := 3) (kd := 0) rfl rfl hT dJ0_equals_26 e (fun v7 tv7 e => ?_)
          refine x_aload_n Ma.x dJ0_equals_29 0 rfl ?_
          refine g_get Ma.ga fH_J0_15_J0 (c := 3) (kd := 0) rfl rfl hT dJ0_equals_30 e (fun v8 tv8 e => ?_)
          refine x_icmp_ne Ma.x 54 dJ0_equals_33 rfl tv7.b tv8.b e (fun e => ?_) (fun e => ?_)
          · exact x_drop [1, 0] rfl (hj6 () e )
          · refine x_iconst Ma.x dJ0_equals_54 ?_
            exact a_retz dJ0_equals_55 (Option.some.inj e) rfl hT litZ0
def A_J1_canEncode (h : AH) (p0_ : Int) : Option (Int) :=
  if 255 < p0_ then
    some 0
  else
    some 1
theorem ck_J1_canEncode : CkA yJ1_canEncode 1 := ⟨by decide, by decide, by decide +kernel⟩
abbrev Z_J1_canEncode (C : Cx) (l : Launch) (E : EA) (h : AH) (vZ : Int) (h1 : AH) : Zs := zA (Ma C cJ1_canEncode 1 RJ1 E l 0 h h 1 vZ (Option.some .boolean) yJ1_canEncode.name) (Ea h 1 vZ) E h h h1
theorem T_J1_canEncode {l : Launch} {E : EA} (C0 : Cx) (hE : ∀ i, TI 5 (E.2.2 i)) (h : AH) (hT : TH h) (p0_ : Int) (h_p0_ : TI 2 p0_) {vZ : Int} (e : A_J1_canEncode h p0_ = some vZ) : MetA l yJ1_canEncode cJ1_canEncode 1 (Option.some .boolean) 0 E h [(0, p0_)] 1 vZ h ∧ Old h h ∧ TH h ∧ TIr 1 vZ := by
  unfold A_J1_canEncode at e
  refine a_start (own := RJ1) C0 [(0, p0_)] hT rfl rfl rfl (fun C => ?_)
  have hO := Old.rf h
  show X C (Z_J1_canEncode C l E h vZ h) [(0, (0, p0_))] 0 []
  refine x_iload_n Ma.x dJ1_canEncode_0 0 rfl ?_
  refine x_sip Ma.x dJ1_canEncode_1 rfl ?_
  refine x_icmp_gt Ma.x 11 dJ1_canEncode_4 rfl h_p0_.c (litI rfl) e (fun e => ?_) (fun e => ?_)
  · refine x_iconst Ma.x dJ1_canEncode_11 ?_
    exact a_retz dJ1_canEncode_12 (Option.some.inj e) rfl hT litZ0
  · refine x_iconst Ma.x dJ1_canEncode_7 ?_
    refine x_goto Ma.x 12 dJ1_canEncode_8 rfl ?_
    exact a_retz dJ1_canEncode_12 (Option.some.inj e) rfl hT litZ1
def A_J14_init (h : AH) (this : Int) (p0_ : Int) : Option (AH) :=
  if (1 : Int) = 0 then
    none
  else
    (nwa h 66 p0_).bind fun (v1, h2) =>
    (pf h2 4 0 this v1).bind fun h3 =>
    (pf h3 4 1 this 0).bind fun h4 =>
    some h4
theorem ck_J14_init : CkA yJ14_init 1 := ⟨by decide, by decide, by decide +kernel⟩
abbrev Z_J14_init (C : Cx) (l : Launch) (E : EA) (h : AH) (hZ : AH) (h1 : AH) : Zs := zA (Ma C cJ14_init 2 RJ14 E l 1 h hZ 6 0 none yJ14_init.name) (Ea hZ 6 0) E hZ h h1
theorem T_J14_init {l : Launch} {E : EA} (C0 : Cx) (hE : ∀ i, TI 5 (E.2.2 i)) (h : AH) (hT : TH h) (this : Int) (p0_ : Int) (h_this : TI 5 this) (h_p0_ : InR p0_) (ht : aT h this = 4) {hZ : AH} (e : A_J14_init h this p0_ = some hZ) : MetA l yJ14_init cJ14_init 2 none 1 E h [(2, this), (0, p0_)] 6 0 hZ ∧ Old h hZ ∧ TH hZ ∧ TIr 6 0 := by
  unfold A_J14_init at e
  refine a_start (own := RJ14) C0 [(2, this), (0, p0_)] hT rfl rfl rfl (fun C => ?_)
  have hO := Old.rf h
  show X C (Z_J14_init C l E h hZ h) [(0, (2, this)), (1, (0, p0_))] 0 []
  refine x_aload_n Ma.x dJ14_init_0 0 rfl ?_
  refine a_objInit Ma.b hT ht (by decide) rfl rfl dJ14_init_1 q1608 q280 q281 ?_
  refine h_gets Ma.b (i := 0) (t := 0) (x := 1) rfl q1609 (Or.inl rfl) dJ14_init_4 ?_
  refine x_if_eq Ma.x 25 dJ14_init_7 rfl (litI rfl) e (fun e => ?_) (fun e => ?_)
  · cases e
  · refine x_aload_n Ma.x dJ14_init_10 0 rfl ?_
    refine x_iload_n Ma.x dJ14_init_11 1 rfl ?_
    refine h_newa Ma.ga Ma.rm nA_B hT hO dJ14_init_12 e (fun v1 h2 tv1 gv1 Th2 Oh2 e => ?_)
    refine g_put Ma.ga fH_J14_15_J15 (c := 5) (kd := 2) rfl rfl (NoFin.of rfl) Th2 Oh2 tv1 dJ14_init_14 e (fun h3 Th3 Oh3 _ e => ?_)
    refine x_aload_n Ma.x dJ14_init_17 0 rfl ?_
    refine x_iconst Ma.x dJ14_init_18 ?_
    refine g_put Ma.ga fH_J14_22_J15 (c := 3) (kd := 0) rfl rfl (NoFin.of rfl) Th3 Oh3 ⟨by decide, by decide⟩ dJ14_init_19 e (fun h4 Th4 Oh4 _ e => ?_)
    refine x_goto Ma.x 38 dJ14_init_22 rfl ?_
    exact a_retv dJ14_init_38 (Option.some.inj e) Th4
def A_J16_newLength (h : AH) (p0_ : Int) (p1_ : Int) (p2_ : Int) : Option (Int) :=
  bd1 (wr (p0_ + (mx32 p1_ p2_))) fun l3_1 =>
  if (0 : Int) < l3_1 then
    if 2147483639 < l3_1 then
      none
    else
      some l3_1
  else
    none
theorem ck_J16_newLength : CkA yJ16_newLength 3 := ⟨by decide, by decide, by decide +kernel⟩
abbrev Z_J16_newLength (C : Cx) (l : Launch) (E : EA) (h : AH) (vZ : Int) (h1 : AH) : Zs := zA (Ma C cJ16_newLength 4 RJ16 E l 1 h h 0 vZ (Option.some .int) yJ16_newLength.name) (Ea h 0 vZ) E h h h1
theorem T_J16_newLength {l : Launch} {E : EA} (C0 : Cx) (hE : ∀ i, TI 5 (E.2.2 i)) (h : AH) (hT : TH h) (p0_ : Int) (p1_ : Int) (p2_ : Int) (h_p0_ : InR p0_) (h_p1_ : InR p1_) (h_p2_ : InR p2_) {vZ : Int} (e : A_J16_newLength h p0_ p1_ p2_ = some vZ) : MetA l yJ16_newLength cJ16_newLength 4 (Option.some .int) 1 E h [(0, p0_), (0, p1_), (0, p2_)] 0 vZ h ∧ Old h h ∧ TH h ∧ TIr 0 vZ := by
  unfold A_J16_newLength at e
  refine a_start (own := RJ16) C0 [(0, p0_), (0, p1_), (0, p2_)] hT rfl rfl rfl (fun C => ?_)
  have hO := Old.rf h
  show X C (Z_J16_newLength C l E h vZ h) [(0, (0, p0_)), (1, (0, p1_)), (2, (0, p2_))] 0 []
  refine x_iload_n Ma.x dJ16_newLength_0 0 rfl ?_
  refine x_iload_n Ma.x dJ16_newLength_1 1 rfl ?_
  refine x_iload_n Ma.x dJ16_newLength_2 2 rfl ?_
  refine h_max Ma.b hO h_p1_ h_p2_ dJ16_newLength_3 q794 rfl rfl ?_
  refine x_iadd Ma.x dJ16_newLength_6 ?_
  refine x_istore_nb Ma.x (fun l3_1 => [(3, (0, l3_1)), (0, (0, p0_)), (1, (0, p1_)), (2, (0, p2_))]) dJ16_newLength_7 [0, 1, 2] (fun _ => rfl) rfl rfl (t := 0) (wr_in _) e (fun l3_1 tl3_1 e => ?_)
  refine x_iconst Ma.x dJ16_newLength_8 ?_
  refine x_iload_n Ma.x dJ16_newLength_9 0 rfl ?_
  refine x_icmp_ge Ma.x 21 dJ16_newLength_10 rfl (litI rfl) tl3_1 e (fun e => ?_) (fun e => ?_)
  · refine x_iload_n Ma.x dJ16_newLength_13 0 rfl ?_
    refine x_ldc Ma.x (n := 2147483639) dJ16_newLength_14 q797 rfl ?_
    refine x_icmp_gt Ma.x 21 dJ16_newLength_16 rfl tl3_1 (litI rfl) e (fun e => ?_) (fun e => ?_)
    · cases e
    · refine x_iload_n Ma.x dJ16_newLength_19 0 rfl ?_
      exact a_reti dJ16_newLength_20 (Option.some.inj e) rfl hT tl3_1
  · cases e
def A_J14_newCapacity (h : AH) (this : Int) (p0_ : Int) : Option (Int) :=
  (gf h 4 0 this).bind fun v1 =>
  (al h 66 v1).bind fun v2 =>
  (gf h 4 1 this).bind fun v3 =>
  bd1 (shl32 p0_ v3) fun l3_4 =>
  bd1 (wr (l3_4 - v2)) fun l4_5 =>
  (gf h 4 1 this).bind fun v6 =>
  (A_J16_newLength h v2 l4_5 (wr (v2 + (shl32 2 v6)))).bind fun v7 =>
  if v7 = 2147483647 then
    none
  else
    (gf h 4 1 this).bind fun v8 =>
    some (shr32 v7 v8)
theorem ck_J14_newCapacity : CkA yJ14_newCapacity 1 := ⟨by decide, by decide, by decide +kernel⟩
abbrev Z_J14_newCapacity (C : Cx) (l : Launch) (E : EA) (h : AH) (vZ : Int) (h1 : AH) : Zs := zA (Ma C cJ14_newCapacity 6 RJ14 E l 2 h h 0 vZ (Option.some .int) yJ14_newCapacity.name) (Ea h 0 vZ) E h h h1
theorem T_J14_newCapacity {l : Launch} {E : EA} (C0 : Cx) (hE : ∀ i, TI 5 (E.2.2 i)) (h : AH) (hT : TH h) (this : Int) (p0_ : Int) (h_this : TI 5 this) (h_p0_ : InR p0_) (ht : aT h this = 4) {vZ : Int} (e : A_J14_newCapacity h this p0_ = some vZ) : MetA l yJ14_newCapacity cJ14_newCapacity 6 (Option.some .int) 2 E h [(2, this), (0, p0_)] 0 vZ h ∧ Old h h ∧ TH h ∧ TIr 0 vZ := by
  unfold A_J14_newCapacity at e
  refine a_start (own := RJ14) C0 [(2, this), (0, p0_)] hT rfl rfl rfl (fun C => ?_)
  have hO := Old.rf h
  show X C (Z_J14_newCapacity C l E h vZ h) [(0, (2, this)), (1, (0, p0_))] 0 []
  refine x_aload_n Ma.x dJ14_newCapacity_0 0 rfl ?_
  refine g_get Ma.ga fH_J14_15_J15 (c := 5) (kd := 2) rfl rfl hT dJ14_newCapacity_1 e (fun v1 tv1 e => ?_)
  refine h_len Ma.ga (t := 66) (by decide) rfl hT dJ14_newCapacity_4 e (fun v2 tv2 e => ?_)
  refine x_istore_n Ma.x (lv' := [(2, (0, v2)), (0, (2, this)), (1, (0, p0_))]) dJ14_newCapacity_5 [0, 1] rfl rfl (by decide) ?_
  refine x_iload_n Ma.x dJ14_newCapacity_6 2 rfl ?_
  refine x_aload_n Ma.x dJ14_newCapacity_7 1 rfl ?_
  refine g_get Ma.ga fH_J14_22_J15 (c := 3) (kd := 0) rfl rfl hT dJ14_newCapacity_8 e (fun v3 tv3 e => ?_)
  refine x_ishl Ma.x dJ14_newCapacity_11 ?_
  refine x_istore_nb Ma.x (fun l3_4 => [(3, (0, l3_4)), (2, (0, v2)), (0, (2, this)), (1, (0, p0_))]) dJ14_newCapacity_12 [0, 1, 2] (fun _ => rfl) rfl rfl (t := 0) (shl32_in _ _) e (fun l3_4 tl3_4 e => ?_)
  refine x_iload_n Ma.x dJ14_newCapacity_13 0 rfl ?_
  refine x_iload_n Ma.x dJ14_newCapacity_14 1 rfl ?_
  refine x_isub Ma.x dJ14_newCapacity_15 ?_
  refine x_istoreb Ma.x (fun l4_5 => [(4, (0, l4_5)), (3, (0, l3_4)), (2, (0, v2)), (0, (2, this)), (1, (0, p0_))]) dJ14_newCapacity_16 [0, 1, 2, 3] (fun _ => rfl) rfl rfl (t := 0) (wr_in _) e (fun l4_5 tl4_5 e => ?_)
  refine x_iload_n Ma.x dJ14_newCapacity_18 2 rfl ?_
  refine x_iload Ma.x dJ14_newCapacity_19 0 rfl ?_
  refine x_iload_n Ma.x dJ14_newCapacity_21 2 rfl ?_
  refine x_iconst Ma.x dJ14_newCapacity_22 ?_
  refine x_aload_n Ma.x dJ14_newCapacity_23 3 rfl ?_
  refine g_get Ma.ga fH_J14_22_J15 (c := 3) (kd := 0) rfl rfl hT dJ14_newCapacity_24 e (fun v6 tv6 e => ?_)
  refine x_ishl Ma.x dJ14_newCapacity_27 ?_
  refine x_iadd Ma.x dJ14_newCapacity_28 ?_
  obtain ⟨v7, e1, e⟩ := bds e
  refine a_callS Ma.b hT hO [(0, v2), (0, l4_5), (0, (wr (v2 + (shl32 2 v6))))] [] [(0, v7)] (T_J16_newLength C hE h hT v2 l4_5 (wr (v2 + (shl32 2 v6))) tv2 tl4_5 (wr_in _) e1) dJ14_newCapacity_29 q1651 q792 q236 q793 ck_J16_newLength rfl rfl rfl rfl rfl (fun tv7 _ _ => ?_)
  refine x_istore Ma.x (lv' := [(5, (0, v7)), (4, (0, l4_5)), (3, (0, l3_4)), (2, (0, v2)), (0, (2, this)), (1, (0, p0_))]) dJ14_newCapacity_32 [0, 1, 2, 3, 4] rfl rfl (by decide) ?_
  refine x_iload Ma.x dJ14_newCapacity_34 0 rfl ?_
  refine x_ldc Ma.x (n := 2147483647) dJ14_newCapacity_36 q1652 rfl ?_
  refine x_icmp_ne Ma.x 51 dJ14_newCapacity_38 rfl tv7 (litI rfl) e (fun e => ?_) (fun e => ?_)
  · cases e
  · refine x_iload Ma.x dJ14_newCapacity_51 0 rfl ?_
    refine x_aload_n Ma.x dJ14_newCapacity_53 4 rfl ?_
    refine g_get Ma.ga fH_J14_22_J15 (c := 3) (kd := 0) rfl rfl hT dJ14_newCapacity_54 e (fun v8 tv8 e => ?_)
    refine x_ishr Ma.x dJ14_newCapacity_57 ?_
    exact a_reti dJ14_newCapacity_58 (Option.some.inj e) rfl hT (shr32_in _ _)
def A_J18_copyOf_3 (k : Nat → Int) (h : AH) (p0_ : Int) (p1_ : Int) : Option (Int × AH) :=
  (al h 66 p0_).bind fun v1 =>
  if p1_ = v1 then
    (clc k h p0_).bind fun (v2, h3) =>
    (ckc h3 [66] v2).bind fun _ =>
    some (v2, h3)
  else
    (nwa h 66 p1_).bind fun (v4, h5) =>
    (al h5 66 p0_).bind fun v6 =>
    (cpc h5 66 p0_ 0 v4 0 (mn32 v6 p1_)).bind fun h7 =>
    some (v4, h7)
theorem ck_J18_copyOf_3 : CkA yJ18_copyOf_3 2 := ⟨by decide, by decide, by decide +kernel⟩
abbrev Z_J18_copyOf_3 (C : Cx) (l : Launch) (E : EA) (h : AH) (hZ : AH) (vZ : Int) (h1 : AH) : Zs := zA (Ma C cJ18_copyOf_3 3 RJ18 E l 1 h hZ 5 vZ (Option.some (.array .byte)) yJ18_copyOf_3.name) (Ea hZ 5 vZ) E hZ h h1
theorem T_J18_copyOf_3 {l : Launch} {E : EA} (C0 : Cx) (hE : ∀ i, TI 5 (E.2.2 i)) (h : AH) (hT : TH h) (p0_ : Int) (p1_ : Int) (h_p0_ : TI 5 p0_) (h_p1_ : InR p1_) {vZ : Int} {hZ : AH} (e : A_J18_copyOf_3 E.2.2 h p0_ p1_ = some (vZ, hZ)) : MetA l yJ18_copyOf_3 cJ18_copyOf_3 3 (Option.some (.array .byte)) 1 E h [(2, p0_), (0, p1_)] 5 vZ hZ ∧ Old h hZ ∧ TH hZ ∧ TIr 5 vZ := by
  unfold A_J18_copyOf_3 at e
  refine a_start (own := RJ18) C0 [(2, p0_), (0, p1_)] hT rfl rfl rfl (fun C => ?_)
  have hO := Old.rf h
  show X C (Z_J18_copyOf_3 C l E h hZ vZ h) [(0, (2, p0_)), (1, (0, p1_))] 0 []
  refine x_iload_n Ma.x dJ18_copyOf_3_0 1 rfl ?_
  refine x_aload_n Ma.x dJ18_copyOf_3_1 0 rfl ?_
  refine h_len Ma.ga (t := 66) (by decide) rfl hT dJ18_copyOf_3_2 e (fun v1 tv1 e => ?_)
  refine x_icmp_ne Ma.x 14 dJ18_copyOf_3_3 rfl h_p1_ tv1 e (fun e => ?_) (fun e => ?_)
  · refine x_aload_n Ma.x dJ18_copyOf_3_6 0 rfl ?_
    refine h_clone Ma.b hT hO dJ18_copyOf_3_7 q1656 rfl rfl e (fun v2 h3 tv2 gv2 Th3 Oh3 e => ?_)
    refine h_castA Ma.b arN_66 Th3 tv2 dJ18_copyOf_3_10 q1662 e (fun e => ?_)
    exact a_reta dJ18_copyOf_3_13 (Or.inr ⟨_, rfl⟩) (congrArg Prod.fst (Option.some.inj e)) (congrArg Prod.snd (Option.some.inj e)) Th3 tv2
  · refine x_iload_n Ma.x dJ18_copyOf_3_14 1 rfl ?_
    refine h_newa Ma.ga Ma.rm nA_B hT hO dJ18_copyOf_3_15 e (fun v4 h5 tv4 gv4 Th5 Oh5 e => ?_)
    refine x_astore_n Ma.x (lv' := [(2, (2, v4)), (0, (2, p0_)), (1, (0, p1_))]) dJ18_copyOf_3_17 [0, 1] rfl rfl (by decide) ?_
    refine x_aload_n Ma.x dJ18_copyOf_3_18 1 rfl ?_
    refine x_iconst Ma.x dJ18_copyOf_3_19 ?_
    refine x_aload_n Ma.x dJ18_copyOf_3_20 0 rfl ?_
    refine x_iconst Ma.x dJ18_copyOf_3_21 ?_
    refine x_aload_n Ma.x dJ18_copyOf_3_22 1 rfl ?_
    refine h_len Ma.ga (t := 66) (by decide) rfl Th5 dJ18_copyOf_3_23 e (fun v6 tv6 e => ?_)
    refine x_iload_n Ma.x dJ18_copyOf_3_24 2 rfl ?_
    refine h_min Ma.b Oh5 tv6 h_p1_ dJ18_copyOf_3_25 q853 rfl rfl ?_
    refine h_copyp Ma.b (t := 66) (by decide) rfl rfl ⟨rfl, by decide⟩ Th5 Oh5 dJ18_copyOf_3_28 q856 rfl rfl e (fun h7 Th7 Oh7 _ e => ?_)
    refine x_aload_n Ma.x dJ18_copyOf_3_31 0 rfl ?_
    exact a_reta dJ18_copyOf_3_32 (Or.inr ⟨_, rfl⟩) (congrArg Prod.fst (Option.some.inj e)) (congrArg Prod.snd (Option.some.inj e)) Th7 tv4
def A_J14_ensureCapacityInternal (k : Nat → Int) (h : AH) (this : Int) (p0_ : Int) : Option (AH) :=
  (gf h 4 0 this).bind fun v1 =>
  (al h 66 v1).bind fun v2 =>
  (gf h 4 1 this).bind fun v3 =>
  bd1 (shr32 v2 v3) fun l2_4 =>
  if 0 < (wr (p0_ - l2_4)) then
    (gf h 4 0 this).bind fun v5 =>
    (A_J14_newCapacity h this p0_).bind fun v6 =>
    (gf h 4 1 this).bind fun v7 =>
    (A_J18_copyOf_3 k h v5 (shl32 v6 v7)).bind fun (v8, h9) =>
    (pf h9 4 0 this v8).bind fun h10 =>
    some h10
  else
    some h
theorem ck_J14_ensureCapacityInternal : CkA yJ14_ensureCapacityInternal 1 := ⟨by decide, by decide, by decide +kernel⟩
abbrev Z_J14_ensureCapacityInternal (C : Cx) (l : Launch) (E : EA) (h : AH) (hZ : AH) (h1 : AH) : Zs := zA (Ma C cJ14_ensureCapacityInternal 3 RJ14 E l 3 h hZ 6 0 none yJ14_ensureCapacityInternal.name) (Ea hZ 6 0) E hZ h h1
theorem T_J14_ensureCapacityInternal {l : Launch} {E : EA} (C0 : Cx) (hE : ∀ i, TI 5 (E.2.2 i)) (h : AH) (hT : TH h) (this : Int) (p0_ : Int) (h_this : TI 5 this) (h_p0_ : InR p0_) (ht : aT h this = 4) {hZ : AH} (e : A_J14_ensureCapacityInternal E.2.2 h this p0_ = some hZ) : MetA l yJ14_ensureCapacityInternal cJ14_ensureCapacityInternal 3 none 3 E h [(2, this), (0, p0_)] 6 0 hZ ∧ Old h hZ ∧ TH hZ ∧ TIr 6 0 := by
  unfold A_J14_ensureCapacityInternal at e
  refine a_start (own := RJ14) C0 [(2, this), (0, p0_)] hT rfl rfl rfl (fun C => ?_)
  have hO := Old.rf h
  show X C (Z_J14_ensureCapacityInternal C l E h hZ h) [(0, (2, this)), (1, (0, p0_))] 0 []
  refine x_aload_n Ma.x dJ14_ensureCapacityInternal_0 0 rfl ?_
  refine g_get Ma.ga fH_J14_15_J15 (c := 5) (kd := 2) rfl rfl hT dJ14_ensureCapacityInternal_1 e (fun v1 tv1 e => ?_)
  refine h_len Ma.ga (t := 66) (by decide) rfl hT dJ14_ensureCapacityInternal_4 e (fun v2 tv2 e => ?_)
  refine x_aload_n Ma.x dJ14_ensureCapacityInternal_5 0 rfl ?_
  refine g_get Ma.ga fH_J14_22_J15 (c := 3) (kd := 0) rfl rfl hT dJ14_ensureCapacityInternal_6 e (fun v3 tv3 e => ?_)
  refine x_ishr Ma.x dJ14_ensureCapacityInternal_9 ?_
  refine x_istore_nb Ma.x (fun l2_4 => [(2, (0, l2_4)), (0, (2, this)), (1, (0, p0_))]) dJ14_ensureCapacityInternal_10 [0, 1] (fun _ => rfl) rfl rfl (t := 0) (shr32_in _ _) e (fun l2_4 tl2_4 e => ?_)
  refine x_iload_n Ma.x dJ14_ensureCapacityInternal_11 2 rfl ?_
  refine x_iload_n Ma.x dJ14_ensureCapacityInternal_12 0 rfl ?_
  refine x_isub Ma.x dJ14_ensureCapacityInternal_13 ?_
  refine x_if_le Ma.x 38 dJ14_ensureCapacityInternal_14 rfl (wr_in _) e (fun e => ?_) (fun e => ?_)
  · refine x_aload_n Ma.x dJ14_ensureCapacityInternal_17 1 rfl ?_
    refine x_aload_n Ma.x dJ14_ensureCapacityInternal_18 1 rfl ?_
    refine g_get Ma.ga fH_J14_15_J15 (c := 5) (kd := 2) rfl rfl hT dJ14_ensureCapacityInternal_19 e (fun v5 tv5 e => ?_)
    refine x_aload_n Ma.x dJ14_ensureCapacityInternal_22 1 rfl ?_
    refine x_iload_n Ma.x dJ14_ensureCapacityInternal_23 2 rfl ?_
    obtain ⟨v6, e1, e⟩ := bds e
    refine a_callP Ma.b (Cn := "java/lang/StringBuilder") hT hO [(0, p0_)] [(2, v5), (2, this)] [(0, v6), (2, v5), (2, this)] (T_J14_newCapacity C hE h hT this p0_ h_this h_p0_ ht e1) ht ⟨by decide, by decide, _, rfl, rfl⟩ dJ14_ensureCapacityInternal_24 q1647 q3896 q1648 q1649 q234 q1650 ck_J14_newCapacity rfl rfl rfl rfl rfl (fun tv6 _ _ => ?_)
    refine x_aload_n Ma.x dJ14_ensureCapacityInternal_27 1 rfl ?_
    refine g_get Ma.ga fH_J14_22_J15 (c := 3) (kd := 0) rfl rfl hT dJ14_ensureCapacityInternal_28 e (fun v7 tv7 e => ?_)
    refine x_ishl Ma.x dJ14_ensureCapacityInternal_31 ?_
    obtain ⟨⟨v8, h9⟩, e1, e⟩ := bds e
    refine a_callS Ma.b hT hO [(2, v5), (0, (shl32 v6 v7))] [(2, this)] [(2, v8), (2, this)] (T_J18_copyOf_3 C hE h hT v5 (shl32 v6 v7) tv5 (shl32_in _ _) e1) dJ14_ensureCapacityInternal_32 q1653 q1654 q238 q1655 ck_J18_copyOf_3 rfl rfl rfl rfl rfl (fun tv8 Th9 Oh9 => ?_)
    refine g_put Ma.ga fH_J14_15_J15 (c := 5) (kd := 2) rfl rfl (NoFin.of rfl) Th9 Oh9 tv8 dJ14_ensureCapacityInternal_35 e (fun h10 Th10 Oh10 _ e => ?_)
    exact a_retv dJ14_ensureCapacityInternal_38 (Option.some.inj e) Th10
  · exact a_retv dJ14_ensureCapacityInternal_38 (Option.some.inj e) hT
def A_J14_inflateIfNeededFor (h : AH) (this : Int) (p0_ : Int) : Option (Unit) :=
  if (1 : Int) = 0 then
    some ()
  else
    (gf h 4 1 this).bind fun v1 =>
    (tgc h 1 p0_).bind fun _ =>
    (A_J0_coder h p0_).bind fun v3 =>
    if v1 = v3 then
      some ()
    else
      none
theorem ck_J14_inflateIfNeededFor : CkA yJ14_inflateIfNeededFor 1 := ⟨by decide, by decide, by decide +kernel⟩
abbrev Z_J14_inflateIfNeededFor (C : Cx) (l : Launch) (E : EA) (h : AH) (h1 : AH) : Zs := zA (Ma C cJ14_inflateIfNeededFor 2 RJ14 E l 1 h h 6 0 none yJ14_inflateIfNeededFor.name) (Ea h 6 0) E h h h1
theorem T_J14_inflateIfNeededFor {l : Launch} {E : EA} (C0 : Cx) (hE : ∀ i, TI 5 (E.2.2 i)) (h : AH) (hT : TH h) (this : Int) (p0_ : Int) (h_this : TI 5 this) (h_p0_ : TI 5 p0_) (ht : aT h this = 4) (e : A_J14_inflateIfNeededFor h this p0_ = some ()) : MetA l yJ14_inflateIfNeededFor cJ14_inflateIfNeededFor 2 none 1 E h [(2, this), (2, p0_)] 6 0 h ∧ Old h h ∧ TH h ∧ TIr 6 0 := by
  unfold A_J14_inflateIfNeededFor at e
  refine a_start (own := RJ14) C0 [(2, this), (2, p0_)] hT rfl rfl rfl (fun C => ?_)
  have hO := Old.rf h
  show X C (Z_J14_inflateIfNeededFor C l E h h) [(0, (2, this)), (1, (2, p0_))] 0 []
  refine h_gets Ma.b (i := 0) (t := 0) (x := 1) rfl q1609 (Or.inl rfl) dJ14_inflateIfNeededFor_0 ?_
  refine x_if_eq Ma.x 21 dJ14_inflateIfNeededFor_3 rfl (litI rfl) e (fun e => ?_) (fun e => ?_)
  · exact a_retv dJ14_inflateIfNeededFor_21 rfl hT
  · refine x_aload_n Ma.x dJ14_inflateIfNeededFor_6 0 rfl ?_
    refine g_get Ma.ga fH_J14_22_J15 (c := 3) (kd := 0) rfl rfl hT dJ14_inflateIfNeededFor_7 e (fun v1 tv1 e => ?_)
    refine x_aload_n Ma.x dJ14_inflateIfNeededFor_10 1 rfl ?_
    obtain ⟨q2, e⟩ := bds1 e
    obtain ⟨v3, e1, e⟩ := bds e
    refine a_callV Ma.b hT hO [] [(0, v1)] [(0, v3), (0, v1)] (T_J0_coder C hE h hT p0_ h_p0_ (tgc_s q2) e1) (tgc_s q2) ⟨by decide, by decide, _, rfl, rfl⟩ dJ14_inflateIfNeededFor_11 q1692 q308 q309 q219 q310 ck_J0_coder rfl rfl rfl rfl rfl (fun tv3 _ _ => ?_)
    refine x_icmp_eq Ma.x 21 dJ14_inflateIfNeededFor_14 rfl tv1.b tv3.b e (fun e => ?_) (fun e => ?_)
    · exact a_retv dJ14_inflateIfNeededFor_21 rfl hT
    · cases e
def A_J14_putStringAt (h : AH) (this : Int) (p0_ : Int) (p1_ : Int) : Option (AH) :=
  (A_J14_inflateIfNeededFor h this p1_).bind fun _ =>
  (gf h 4 0 this).bind fun v1 =>
  (gf h 4 1 this).bind fun v2 =>
  (tgc h 1 p1_).bind fun _ =>
  (A_J0_getBytes h p1_ v1 p0_ v2).bind fun h4 =>
  some h4
theorem ck_J14_putStringAt : CkA yJ14_putStringAt 2 := ⟨by decide, by decide, by decide +kernel⟩
abbrev Z_J14_putStringAt (C : Cx) (l : Launch) (E : EA) (h : AH) (hZ : AH) (h1 : AH) : Zs := zA (Ma C cJ14_putStringAt 3 RJ14 E l 2 h hZ 6 0 none yJ14_putStringAt.name) (Ea hZ 6 0) E hZ h h1
theorem T_J14_putStringAt {l : Launch} {E : EA} (C0 : Cx) (hE : ∀ i, TI 5 (E.2.2 i)) (h : AH) (hT : TH h) (this : Int) (p0_ : Int) (p1_ : Int) (h_this : TI 5 this) (h_p0_ : InR p0_) (h_p1_ : TI 5 p1_) (ht : aT h this = 4) {hZ : AH} (e : A_J14_putStringAt h this p0_ p1_ = some hZ) : MetA l yJ14_putStringAt cJ14_putStringAt 3 none 2 E h [(2, this), (0, p0_), (2, p1_)] 6 0 hZ ∧ Old h hZ ∧ TH hZ ∧ TIr 6 0 := by
  unfold A_J14_putStringAt at e
  refine a_start (own := RJ14) C0 [(2, this), (0, p0_), (2, p1_)] hT rfl rfl rfl (fun C => ?_)
  have hO := Old.rf h
  show X C (Z_J14_putStringAt C l E h hZ h) [(0, (2, this)), (1, (0, p0_)), (2, (2, p1_))] 0 []
  refine x_aload_n Ma.x dJ14_putStringAt_0 0 rfl ?_
  refine x_aload_n Ma.x dJ14_putStringAt_1 2 rfl ?_
  obtain ⟨_, e1, e⟩ := bds e
  refine a_callP Ma.b (Cn := "java/lang/StringBuilder") hT hO [(2, p1_)] [] [] (T_J14_inflateIfNeededFor C hE h hT this p1_ h_this h_p1_ ht e1) ht ⟨by decide, by decide, _, rfl, rfl⟩ dJ14_putStringAt_2 q1688 q3898 q1689 q1690 q234 q1691 ck_J14_inflateIfNeededFor rfl rfl rfl rfl rfl (fun _ _ _ => ?_)
  refine x_aload_n Ma.x dJ14_putStringAt_5 2 rfl ?_
  refine x_aload_n Ma.x dJ14_putStringAt_6 0 rfl ?_
  refine g_get Ma.ga fH_J14_15_J15 (c := 5) (kd := 2) rfl rfl hT dJ14_putStringAt_7 e (fun v1 tv1 e => ?_)
  refine x_iload_n Ma.x dJ14_putStringAt_10 1 rfl ?_
  refine x_aload_n Ma.x dJ14_putStringAt_11 0 rfl ?_
  refine g_get Ma.ga fH_J14_22_J15 (c := 3) (kd := 0) rfl rfl hT dJ14_putStringAt_12 e (fun v2 tv2 e => ?_)
  obtain ⟨q3, e⟩ := bds1 e
  obtain ⟨h4, e1, e⟩ := bds e
  refine a_callV Ma.b hT hO [(2, v1), (0, p0_), (0, v2)] [] [] (T_J0_getBytes C hE h hT p1_ v1 p0_ v2 h_p1_ tv1 h_p0_ tv2 (tgc_s q3) e1) (tgc_s q3) ⟨by decide, by decide, _, rfl, rfl⟩ dJ14_putStringAt_15 q1712 q1713 q1714 q219 q1715 ck_J0_getBytes rfl rfl rfl rfl rfl (fun _ Th4 Oh4 => ?_)
  exact a_retv dJ14_putStringAt_18 (Option.some.inj e) Th4
def A_J14_append (k : Nat → Int) (h : AH) (this : Int) (p0_ : Int) : Option (Int × AH) :=
  if p0_ < 0 then
    none
  else
    (tgc h 1 p0_).bind fun _ =>
    (A_J0_length h p0_).bind fun v2 =>
    (gf h 4 3 this).bind fun v3 =>
    (A_J14_ensureCapacityInternal k h this (wr (v3 + v2))).bind fun h4 =>
    (gf h4 4 3 this).bind fun v5 =>
    (A_J14_putStringAt h4 this v5 p0_).bind fun h6 =>
    (gf h6 4 3 this).bind fun v7 =>
    (pf h6 4 3 this (wr (v7 + v2))).bind fun h8 =>
    some (this, h8)
theorem ck_J14_append : CkA yJ14_append 1 := ⟨by decide, by decide, by decide +kernel⟩
abbrev Z_J14_append (C : Cx) (l : Launch) (E : EA) (h : AH) (hZ : AH) (vZ : Int) (h1 : AH) : Zs := zA (Ma C cJ14_append 3 RJ14 E l 4 h hZ 5 vZ (Option.some (.object "java/lang/AbstractStringBuilder")) yJ14_append.name) (Ea hZ 5 vZ) E hZ h h1
theorem T_J14_append {l : Launch} {E : EA} (C0 : Cx) (hE : ∀ i, TI 5 (E.2.2 i)) (h : AH) (hT : TH h) (this : Int) (p0_ : Int) (h_this : TI 5 this) (h_p0_ : TI 5 p0_) (ht : aT h this = 4) {vZ : Int} {hZ : AH} (e : A_J14_append E.2.2 h this p0_ = some (vZ, hZ)) : MetA l yJ14_append cJ14_append 3 (Option.some (.object "java/lang/AbstractStringBuilder")) 4 E h [(2, this), (2, p0_)] 5 vZ hZ ∧ Old h hZ ∧ TH hZ ∧ TIr 5 vZ := by
  unfold A_J14_append at e
  refine a_start (own := RJ14) C0 [(2, this), (2, p0_)] hT rfl rfl rfl (fun C => ?_)
  have hO := Old.rf h
  show X C (Z_J14_append C l E h hZ vZ h) [(0, (2, this)), (1, (2, p0_))] 0 []
  refine x_aload_n Ma.x dJ14_append_0 1 rfl ?_
  refine x_ifnonnull Ma.x 9 dJ14_append_1 rfl e (fun e => ?_) (fun e => ?_)
  · cases e
  · refine x_aload_n Ma.x dJ14_append_9 1 rfl ?_
    obtain ⟨q1, e⟩ := bds1 e
    obtain ⟨v2, e1, e⟩ := bds e
    refine a_callV Ma.b hT hO [] [] [(0, v2)] (T_J0_length C hE h hT p0_ h_p0_ (tgc_s q1) e1) (tgc_s q1) ⟨by decide, by decide, _, rfl, rfl⟩ dJ14_append_10 q1683 q304 q305 q219 q306 ck_J0_length rfl rfl rfl rfl rfl (fun tv2 _ _ => ?_)
    refine x_istore_n Ma.x (lv' := [(2, (0, v2)), (0, (2, this)), (1, (2, p0_))]) dJ14_append_13 [0, 1] rfl rfl (by decide) ?_
    refine x_aload_n Ma.x dJ14_append_14 1 rfl ?_
    refine x_aload_n Ma.x dJ14_append_15 1 rfl ?_
    refine g_get Ma.ga fH_J14_79_J15 (c := 0) (kd := 0) rfl rfl hT dJ14_append_16 e (fun v3 tv3 e => ?_)
    refine x_iload_n Ma.x dJ14_append_19 0 rfl ?_
    refine x_iadd Ma.x dJ14_append_20 ?_
    obtain ⟨h4, e1, e⟩ := bds e
    refine a_callP Ma.b (Cn := "java/lang/StringBuilder") hT hO [(0, (wr (v3 + v2)))] [] [] (T_J14_ensureCapacityInternal C hE h hT this (wr (v3 + v2)) h_this (wr_in _) ht e1) ht ⟨by decide, by decide, _, rfl, rfl⟩ dJ14_append_21 q1643 q3895 q1644 q1645 q234 q1646 ck_J14_ensureCapacityInternal rfl rfl rfl rfl rfl (fun _ Th4 Oh4 => ?_)
    refine x_aload_n Ma.x dJ14_append_24 1 rfl ?_
    refine x_aload_n Ma.x dJ14_append_25 1 rfl ?_
    refine g_get Ma.ga fH_J14_79_J15 (c := 0) (kd := 0) rfl rfl Th4 dJ14_append_26 e (fun v5 tv5 e => ?_)
    refine x_aload_n Ma.x dJ14_append_29 2 rfl ?_
    obtain ⟨h6, e1, e⟩ := bds e
    refine a_callP Ma.b (Cn := "java/lang/StringBuilder") Th4 Oh4 [(0, v5), (2, p0_)] [] [] (T_J14_putStringAt C hE h4 Th4 this v5 p0_ h_this tv5 h_p0_ (Oh4.at hT ht (by decide)) e1) (Oh4.at hT ht (by decide)) ⟨by decide, by decide, _, rfl, rfl⟩ dJ14_append_30 q1684 q3897 q1685 q1686 q234 q1687 ck_J14_putStringAt rfl rfl rfl rfl rfl (fun _ Th6 Oh6 => ?_)
    refine x_aload_n Ma.x dJ14_append_33 1 rfl ?_
    refine x_dup Ma.x dJ14_append_34 rfl ?_
    refine g_get Ma.ga fH_J14_79_J15 (c := 0) (kd := 0) rfl rfl Th6 dJ14_append_35 e (fun v7 tv7 e => ?_)
    refine x_iload_n Ma.x dJ14_append_38 0 rfl ?_
    refine x_iadd Ma.x dJ14_append_39 ?_
    refine g_put Ma.ga fH_J14_79_J15 (c := 0) (kd := 0) rfl rfl (NoFin.of rfl) Th6 Oh6 (wr_in _) dJ14_append_40 e (fun h8 Th8 Oh8 _ e => ?_)
    refine x_aload_n Ma.x dJ14_append_43 1 rfl ?_
    exact a_reta dJ14_append_44 (Or.inl ⟨_, rfl⟩) (congrArg Prod.fst (Option.some.inj e)) (congrArg Prod.snd (Option.some.inj e)) Th8 h_this
def A_J14_append_2 (k : Nat → Int) (h : AH) (this : Int) (p0_ : Int) : Option (Int × AH) :=
  (gf h 4 3 this).bind fun v1 =>
  (A_J14_ensureCapacityInternal k h this (wr (v1 + 1))).bind fun h2 =>
  (A_J14_isLatin1 h2 this).bind fun v3 =>
  if v3 = 0 then
    none
  else
    (A_J1_canEncode h2 p0_).bind fun v4 =>
    if v4 = 0 then
      none
    else
      (gf h2 4 0 this).bind fun v5 =>
      (gf h2 4 3 this).bind fun v6 =>
      (pf h2 4 3 this (wr (v6 + 1))).bind fun h7 =>
      (pa h7 66 v5 v6 (i2b p0_)).bind fun h8 =>
      some (this, h8)
theorem ck_J14_append_2 : CkA yJ14_append_2 1 := ⟨by decide, by decide, by decide +kernel⟩
abbrev Z_J14_append_2 (C : Cx) (l : Launch) (E : EA) (h : AH) (hZ : AH) (vZ : Int) (h1 : AH) : Zs := zA (Ma C cJ14_append_2 2 RJ14 E l 4 h hZ 5 vZ (Option.some (.object "java/lang/AbstractStringBuilder")) yJ14_append_2.name) (Ea hZ 5 vZ) E hZ h h1
theorem T_J14_append_2 {l : Launch} {E : EA} (C0 : Cx) (hE : ∀ i, TI 5 (E.2.2 i)) (h : AH) (hT : TH h) (this : Int) (p0_ : Int) (h_this : TI 5 this) (h_p0_ : TI 2 p0_) (ht : aT h this = 4) {vZ : Int} {hZ : AH} (e : A_J14_append_2 E.2.2 h this p0_ = some (vZ, hZ)) : MetA l yJ14_append_2 cJ14_append_2 2 (Option.some (.object "java/lang/AbstractStringBuilder")) 4 E h [(2, this), (0, p0_)] 5 vZ hZ ∧ Old h hZ ∧ TH hZ ∧ TIr 5 vZ := by
  unfold A_J14_append_2 at e
  refine a_start (own := RJ14) C0 [(2, this), (0, p0_)] hT rfl rfl rfl (fun C => ?_)
  have hO := Old.rf h
  show X C (Z_J14_append_2 C l E h hZ vZ h) [(0, (2, this)), (1, (0, p0_))] 0 []
  refine x_aload_n Ma.x dJ14_append_2_0 0 rfl ?_
  refine x_aload_n Ma.x dJ14_append_2_1 0 rfl ?_
  refine g_get Ma.ga fH_J14_79_J15 (c := 0) (kd := 0) rfl rfl hT dJ14_append_2_2 e (fun v1 tv1 e => ?_)
  refine x_iconst Ma.x dJ14_append_2_5 ?_
  refine x_iadd Ma.x dJ14_append_2_6 ?_
  obtain ⟨h2, e1, e⟩ := bds e
  refine a_callP Ma.b (Cn := "java/lang/StringBuilder") hT hO [(0, (wr (v1 + 1)))] [] [] (T_J14_ensureCapacityInternal C hE h hT this (wr (v1 + 1)) h_this (wr_in _) ht e1) ht ⟨by decide, by decide, _, rfl, rfl⟩ dJ14_append_2_7 q1643 q3895 q1644 q1645 q234 q1646 ck_J14_ensureCapacityInternal rfl rfl rfl rfl rfl (fun _ Th2 Oh2 => ?_)
  refine x_aload_n Ma.x dJ14_append_2_10 0 rfl ?_
  obtain ⟨v3, e1, e⟩ := bds e
  refine a_callU Ma.b (Cn := "java/lang/StringBuilder") (owner := "java/lang/AbstractStringBuilder") Th2 Oh2 [] [] [(0, v3)] (T_J14_isLatin1 C hE h2 Th2 this h_this (Oh2.at hT ht (by decide)) e1) (Oh2.at hT ht (by decide)) ⟨by decide, by decide, _, rfl, rfl⟩ dJ14_append_2_11 q1663 q1665 q1666 q1664 q234 q1667 rfl ck_J14_isLatin1 rfl rfl rfl rfl rfl (fun tv3 _ _ => ?_)
  refine x_if_eq Ma.x 45 dJ14_append_2_14 rfl tv3.z e (fun e => ?_) (fun e => ?_)
  · cases e
  · refine x_iload_n Ma.x dJ14_append_2_17 1 rfl ?_
    obtain ⟨v4, e1, e⟩ := bds e
    refine a_callS Ma.b Th2 Oh2 [(0, p0_)] [] [(0, v4)] (T_J1_canEncode C hE h2 Th2 p0_ h_p0_ e1) dJ14_append_2_18 q1734 q1735 q220 q1736 ck_J1_canEncode rfl rfl rfl rfl rfl (fun tv4 _ _ => ?_)
    refine x_if_eq Ma.x 45 dJ14_append_2_21 rfl tv4.z e (fun e => ?_) (fun e => ?_)
    · cases e
    · refine x_aload_n Ma.x dJ14_append_2_24 0 rfl ?_
      refine g_get Ma.ga fH_J14_15_J15 (c := 5) (kd := 2) rfl rfl Th2 dJ14_append_2_25 e (fun v5 tv5 e => ?_)
      refine x_aload_n Ma.x dJ14_append_2_28 0 rfl ?_
      refine x_dup Ma.x dJ14_append_2_29 rfl ?_
      refine g_get Ma.ga fH_J14_79_J15 (c := 0) (kd := 0) rfl rfl Th2 dJ14_append_2_30 e (fun v6 tv6 e => ?_)
      refine x_dup_x1 Ma.x dJ14_append_2_33 rfl rfl ?_
      refine x_iconst Ma.x dJ14_append_2_34 ?_
      refine x_iadd Ma.x dJ14_append_2_35 ?_
      refine g_put Ma.ga fH_J14_79_J15 (c := 0) (kd := 0) rfl rfl (NoFin.of rfl) Th2 Oh2 (wr_in _) dJ14_append_2_36 e (fun h7 Th7 Oh7 _ e => ?_)
      refine x_iload_n Ma.x dJ14_append_2_39 1 rfl ?_
      refine x_i2b Ma.x dJ14_append_2_40 ?_
      refine h_bast Ma.ga Th7 Oh7 (i2b_ti _) dJ14_append_2_41 e (fun h8 Th8 Oh8 _ e => ?_)
      refine x_goto Ma.x 75 dJ14_append_2_42 rfl ?_
      refine x_aload_n Ma.x dJ14_append_2_75 0 rfl ?_
      exact a_reta dJ14_append_2_76 (Or.inl ⟨_, rfl⟩) (congrArg Prod.fst (Option.some.inj e)) (congrArg Prod.snd (Option.some.inj e)) Th8 h_this
def B_J20_stringSize_16 (l0_1 : Int) (l1_2 : Int) (rec7 : (Int × Int) → Option (Sum (Int) (Unit))) : (Int × Int) → Option (Sum (Int) (Unit)) := fun (l2_4, l3_5) =>
  if l3_5 < 10 then
    if l2_4 < l0_1 then
      some (.inl (wr (l3_5 + l1_2)))
    else
      bd1 (wr (10 * l2_4)) fun l2_8 =>
      bd1 (wr (l3_5 + 1)) fun l3_9 =>
      rec7 (l2_8, l3_9)
  else
    some (.inr ())
def A_J20_stringSize (h : AH) (p0_ : Int) : Option (Int) :=
  (
    if p0_ < 0 then
      some (p0_, 1)
    else
      bd1 (wr (-p0_)) fun l0_11 =>
      some (l0_11, 0) : Option (Int × Int)).bind fun (l0_1, l1_2) =>
  sb (lp (B_J20_stringSize_16 l0_1 l1_2) FU ((-10), 1)) fun _ =>
  some (wr (10 + l1_2))
theorem ck_J20_stringSize : CkA yJ20_stringSize 1 := ⟨by decide, by decide, by decide +kernel⟩
abbrev Z_J20_stringSize (C : Cx) (l : Launch) (E : EA) (h : AH) (vZ : Int) (h1 : AH) : Zs := zA (Ma C cJ20_stringSize 4 RJ20 E l 0 h h 0 vZ (Option.some .int) yJ20_stringSize.name) (Ea h 0 vZ) E h h h1
theorem T_J20_stringSize {l : Launch} {E : EA} (C0 : Cx) (hE : ∀ i, TI 5 (E.2.2 i)) (h : AH) (hT : TH h) (p0_ : Int) (h_p0_ : InR p0_) {vZ : Int} (e : A_J20_stringSize h p0_ = some vZ) : MetA l yJ20_stringSize cJ20_stringSize 4 (Option.some .int) 0 E h [(0, p0_)] 0 vZ h ∧ Old h h ∧ TH h ∧ TIr 0 vZ := by
  unfold A_J20_stringSize at e
  refine a_start (own := RJ20) C0 [(0, p0_)] hT rfl rfl rfl (fun C => ?_)
  have hO := Old.rf h
  show X C (Z_J20_stringSize C l E h vZ h) [(0, (0, p0_))] 0 []
  refine x_iconst Ma.x dJ20_stringSize_0 ?_
  refine x_istore_n Ma.x (lv' := [(1, (0, 1)), (0, (0, p0_))]) dJ20_stringSize_1 [0] rfl rfl (by decide) ?_
  refine x_iload_n Ma.x dJ20_stringSize_2 1 rfl ?_
  refine bd_rule e (Y := fun (l0_1, l1_2) => InR l0_1 → TI 1 l1_2 → X C (Z_J20_stringSize C l E h vZ h) [(0, (0, l0_1)), (1, (0, l1_2))] 11 []) ?_ ?_
  · rintro ⟨l0_1, l1_2⟩ e tl0_1 tl1_2
    refine x_bip Ma.x dJ20_stringSize_11 rfl ?_
    refine x_istore_n Ma.x (lv' := [(2, (0, (-10))), (0, (0, l0_1)), (1, (0, l1_2))]) dJ20_stringSize_13 [0, 1] rfl rfl (by decide) ?_
    refine x_iconst Ma.x dJ20_stringSize_14 ?_
    refine x_istore_n Ma.x (lv' := [(3, (0, 1)), (2, (0, (-10))), (0, (0, l0_1)), (1, (0, l1_2))]) dJ20_stringSize_15 [0, 1, 2] rfl rfl (by decide) ?_
    refine sb_rule e (Y := fun _ => X C (Z_J20_stringSize C l E h vZ h) [(1, (0, l1_2))] 42 []) ?_ ?_
    · intro _ e
      refine x_bip Ma.x dJ20_stringSize_42 rfl ?_
      refine x_iload_n Ma.x dJ20_stringSize_44 0 rfl ?_
      refine x_iadd Ma.x dJ20_stringSize_45 ?_
      exact a_reti dJ20_stringSize_46 (Option.some.inj e) rfl hT (wr_in _)
    · intro tt hY6 e
      refine x_drop [2, 3, 1, 0] rfl ((lp_rule (P := fun (l2_4, l3_5) => InR l2_4 → InR l3_5 → X C (Z_J20_stringSize C l E h vZ h) [(0, (0, l0_1)), (1, (0, l1_2)), (2, (0, l2_4)), (3, (0, l3_5))] 16 []) (fun rec7 ihrec7 => ?_) FU ((-10), 1) e) (litI rfl) (litI rfl))
      rintro ⟨l2_4, l3_5⟩ e tl2_4 tl3_5
      dsimp only [B_J20_stringSize_16] at e
      refine x_iload_n Ma.x dJ20_stringSize_16 3 rfl ?_
      refine x_bip Ma.x dJ20_stringSize_17 rfl ?_
      refine x_icmp_ge Ma.x 42 dJ20_stringSize_19 rfl tl3_5 (litI rfl) e (fun e => ?_) (fun e => ?_)
      · refine x_iload_n Ma.x dJ20_stringSize_22 0 rfl ?_
        refine x_iload_n Ma.x dJ20_stringSize_23 2 rfl ?_
        refine x_icmp_le Ma.x 31 dJ20_stringSize_24 rfl tl0_1 tl2_4 e (fun e => ?_) (fun e => ?_)
        · refine x_iload_n Ma.x dJ20_stringSize_27 3 rfl ?_
          refine x_iload_n Ma.x dJ20_stringSize_28 1 rfl ?_
          refine x_iadd Ma.x dJ20_stringSize_29 ?_
          have e := lfl e hY6
          exact a_reti dJ20_stringSize_30 (Option.some.inj e) rfl hT (wr_in _)
        · refine x_bip Ma.x dJ20_stringSize_31 rfl ?_
          refine x_iload_n Ma.x dJ20_stringSize_33 2 rfl ?_
          refine x_imul Ma.x dJ20_stringSize_34 ?_
          refine x_istore_nb Ma.x (fun l2_8 => [(2, (0, l2_8)), (0, (0, l0_1)), (1, (0, l1_2)), (3, (0, l3_5))]) dJ20_stringSize_35 [0, 1, 3] (fun _ => rfl) rfl rfl (t := 0) (wr_in _) e (fun l2_8 tl2_8 e => ?_)
          refine x_iincb Ma.x (fun l3_9 => [(3, (0, l3_9)), (2, (0, l2_8)), (0, (0, l0_1)), (1, (0, l1_2))]) dJ20_stringSize_36 3 rfl [0, 1, 2] (fun _ => rfl) rfl rfl e (fun l3_9 tl3_9 e => ?_)
          refine x_goto Ma.x 16 dJ20_stringSize_39 rfl ?_
          exact x_drop [2, 3, 1, 0] rfl (ihrec7 (l2_8, l3_9) e tl2_8 tl3_9)
      · cases e
        exact x_drop [1] rfl (hY6 )
  · intro tt hY3 e
    refine x_if_lt Ma.x 11 dJ20_stringSize_3 rfl h_p0_ e (fun e => ?_) (fun e => ?_)
    · cases e
      exact x_drop [1, 0] rfl (hY3 h_p0_ litZ1)
    · refine x_iconst Ma.x dJ20_stringSize_6 ?_
      refine x_istore_n Ma.x (lv' := [(1, (0, 0)), (0, (0, p0_))]) dJ20_stringSize_7 [1] rfl rfl (by decide) ?_
      refine x_iload_n Ma.x dJ20_stringSize_8 1 rfl ?_
      refine x_ineg Ma.x dJ20_stringSize_9 ?_
      refine x_istore_nb Ma.x (fun l0_11 => [(0, (0, l0_11)), (1, (0, 0))]) dJ20_stringSize_10 [0] (fun _ => rfl) rfl rfl (t := 0) (wr_in _) e (fun l0_11 tl0_11 e => ?_)
      cases e
      exact x_drop [0, 1] rfl (hY3 tl0_11 litZ0)
def B_J20_getChars_22 (k : Nat → Int) (p2_ : Int) (rec12 : (Int × Int × AH) → Option (Int × Int × AH)) : (Int × Int × AH) → Option (Int × Int × AH) := fun (l0_5, l5_6, h7) =>
  if (-100) < l0_5 then
    some (l0_5, l5_6, h7)
  else
    (dvc l0_5 100).bind fun v13 =>
    bd1 (wr ((wr (v13 * 100)) - l0_5)) fun l4_14 =>
    bd1 (wr (l5_6 + (-1))) fun l5_15 =>
    (ga h7 66 (k 2) l4_14).bind fun v16 =>
    (pa h7 66 p2_ l5_15 v16).bind fun h17 =>
    bd1 (wr (l5_15 + (-1))) fun l5_18 =>
    (ga h17 66 (k 3) l4_14).bind fun v19 =>
    (pa h17 66 p2_ l5_18 v19).bind fun h20 =>
    rec12 (v13, l5_18, h20)
def A_J20_getChars (k : Nat → Int) (h : AH) (p0_ : Int) (p1_ : Int) (p2_ : Int) : Option (Int × AH) :=
  (
    if p0_ < 0 then
      some 1
    else
      some 0 : Option (Int)).bind fun c1 =>
  (
    if c1 = 0 then
      bd1 (wr (-p0_)) fun l0_34 =>
      some l0_34
    else
      some p0_ : Option (Int)).bind fun l0_3 =>
  (lp (B_J20_getChars_22 k p2_) FU (l0_3, p1_, h)).bind fun (l0_8, l5_9, h10) =>
  bd1 (wr (l5_9 + (-1))) fun l5_21 =>
  (ga h10 66 (k 2) (wr (-l0_8))).bind fun v22 =>
  (pa h10 66 p2_ l5_21 v22).bind fun h23 =>
  (
    if l0_8 < (-9) then
      bd1 (wr (l5_21 + (-1))) fun l5_30 =>
      (ga h23 66 (k 3) (wr (-l0_8))).bind fun v31 =>
      (pa h23 66 p2_ l5_30 v31).bind fun h32 =>
      some (l5_30, h32)
    else
      some (l5_21, h23) : Option (Int × AH)).bind fun (l5_24, h25) =>
  if c1 = 0 then
    some (l5_24, h25)
  else
    bd1 (wr (l5_24 + (-1))) fun l5_27 =>
    (pa h25 66 p2_ l5_27 45).bind fun h28 =>
    some (l5_27, h28)
theorem ck_J20_getChars : CkA yJ20_getChars 3 := ⟨by decide, by decide, by decide +kernel⟩
abbrev Z_J20_getChars (C : Cx) (l : Launch) (E : EA) (h : AH) (hZ : AH) (vZ : Int) (h1 : AH) : Zs := zA (Ma C cJ20_getChars 7 RJ20 E l 0 h hZ 0 vZ (Option.some .int) yJ20_getChars.name) (Ea hZ 0 vZ) E hZ h h1
theorem T_J20_getChars {l : Launch} {E : EA} (C0 : Cx) (hE : ∀ i, TI 5 (E.2.2 i)) (h : AH) (hT : TH h) (p0_ : Int) (p1_ : Int) (p2_ : Int) (h_p0_ : InR p0_) (h_p1_ : InR p1_) (h_p2_ : TI 5 p2_) {vZ : Int} {hZ : AH} (e : A_J20_getChars E.2.2 h p0_ p1_ p2_ = some (vZ, hZ)) : MetA l yJ20_getChars cJ20_getChars 7 (Option.some .int) 0 E h [(0, p0_), (0, p1_), (2, p2_)] 0 vZ hZ ∧ Old h hZ ∧ TH hZ ∧ TIr 0 vZ := by
  unfold A_J20_getChars at e
  refine a_start (own := RJ20) C0 [(0, p0_), (0, p1_), (2, p2_)] hT rfl rfl rfl (fun C => ?_)
  have hO := Old.rf h
  show X C (Z_J20_getChars C l E h hZ vZ h) [(0, (0, p0_)), (1, (0, p1_)), (2, (2, p2_))] 0 []
  refine x_iload_n Ma.x dJ20_getChars_0 1 rfl ?_
  refine x_istore Ma.x (lv' := [(5, (0, p1_)), (0, (0, p0_)), (1, (0, p1_)), (2, (2, p2_))]) dJ20_getChars_1 [0, 1, 2] rfl rfl (by decide) ?_
  refine x_iload_n Ma.x dJ20_getChars_3 1 rfl ?_
  refine bd_rule e (Y := fun c1 => TI 1 c1 → X C (Z_J20_getChars C l E h hZ vZ h) [(0, (0, p0_)), (2, (2, p2_)), (5, (0, p1_))] 12 [(0, c1)]) ?_ ?_
  · rintro c1 e tc1
    refine x_istore Ma.x (lv' := [(6, (0, c1)), (0, (0, p0_)), (2, (2, p2_)), (5, (0, p1_))]) dJ20_getChars_12 [0, 1, 2] rfl rfl (by decide) ?_
    refine x_iload Ma.x dJ20_getChars_14 0 rfl ?_
    refine bd_rule e (Y := fun l0_3 => InR l0_3 → X C (Z_J20_getChars C l E h hZ vZ h) [(0, (0, l0_3)), (2, (2, p2_)), (5, (0, p1_)), (6, (0, c1))] 22 []) ?_ ?_
    · rintro l0_3 e tl0_3
      refine bd_rule e (Y := fun (l0_8, l5_9, h10) => InR l0_8 → InR l5_9 → TH h10 → Old h h10 → X C (Z_J20_getChars C l E h hZ vZ h10) [(0, (0, l0_8)), (2, (2, p2_)), (5, (0, l5_9)), (6, (0, c1))] 72 []) ?_ ?_
      · rintro ⟨l0_8, l5_9, h10⟩ e tl0_8 tl5_9 Th10 Oh10
        refine x_aload_n Ma.x dJ20_getChars_72 1 rfl ?_
        refine x_iincb Ma.x (fun l5_21 => [(5, (0, l5_21)), (0, (0, l0_8)), (2, (2, p2_)), (6, (0, c1))]) dJ20_getChars_73 2 rfl [0, 1, 3] (fun _ => rfl) rfl rfl e (fun l5_21 tl5_21 e => ?_)
        refine x_iload Ma.x dJ20_getChars_76 0 rfl ?_
        refine h_gets Ma.b (i := 4) (t := 2) (x := E.2.2 2) rfl q1802 (Or.inl rfl) dJ20_getChars_78 ?_
        refine x_iload_n Ma.x dJ20_getChars_81 1 rfl ?_
        refine x_ineg Ma.x dJ20_getChars_82 ?_
        refine h_bald Ma.ga Th10 dJ20_getChars_83 e (fun v22 tv22 e => ?_)
        refine h_bast Ma.ga Th10 Oh10 tv22 dJ20_getChars_84 e (fun h23 Th23 Oh23 _ e => ?_)
        refine x_iload_n Ma.x dJ20_getChars_85 1 rfl ?_
        refine x_bip Ma.x dJ20_getChars_86 rfl ?_
        refine bd_rule e (Y := fun (l5_24, h25) => InR l5_24 → TH h25 → Old h h25 → X C (Z_J20_getChars C l E h hZ vZ h25) [(2, (2, p2_)), (5, (0, l5_24)), (6, (0, c1))] 104 []) ?_ ?_
        · rintro ⟨l5_24, h25⟩ e tl5_24 Th25 Oh25
          refine x_iload Ma.x dJ20_getChars_104 2 rfl ?_
          refine x_if_eq Ma.x 118 dJ20_getChars_106 rfl tc1.z e (fun e => ?_) (fun e => ?_)
          · refine x_iload Ma.x dJ20_getChars_118 1 rfl ?_
            exact a_reti dJ20_getChars_120 (congrArg Prod.fst (Option.some.inj e)) (congrArg Prod.snd (Option.some.inj e)) Th25 tl5_24
          · refine x_aload_n Ma.x dJ20_getChars_109 0 rfl ?_
            refine x_iincb Ma.x (fun l5_27 => [(5, (0, l5_27)), (2, (2, p2_)), (6, (0, c1))]) dJ20_getChars_110 1 rfl [0, 2] (fun _ => rfl) rfl rfl e (fun l5_27 tl5_27 e => ?_)
            refine x_iload Ma.x dJ20_getChars_113 0 rfl ?_
            refine x_bip Ma.x dJ20_getChars_115 rfl ?_
            refine h_bast Ma.ga Th25 Oh25 ⟨by decide, by decide⟩ dJ20_getChars_117 e (fun h28 Th28 Oh28 _ e => ?_)
            refine x_iload Ma.x dJ20_getChars_118 0 rfl ?_
            exact a_reti dJ20_getChars_120 (congrArg Prod.fst (Option.some.inj e)) (congrArg Prod.snd (Option.some.inj e)) Th28 tl5_27
        · intro tt hY26 e
          refine x_icmp_ge Ma.x 104 dJ20_getChars_88 rfl tl0_8 (litI rfl) e (fun e => ?_) (fun e => ?_)
          · refine x_aload_n Ma.x dJ20_getChars_91 2 rfl ?_
            refine x_iincb Ma.x (fun l5_30 => [(5, (0, l5_30)), (0, (0, l0_8)), (2, (2, p2_)), (6, (0, c1))]) dJ20_getChars_92 0 rfl [1, 2, 3] (fun _ => rfl) rfl rfl e (fun l5_30 tl5_30 e => ?_)
            refine x_iload Ma.x dJ20_getChars_95 0 rfl ?_
            refine h_gets Ma.b (i := 5) (t := 2) (x := E.2.2 3) rfl q1804 (Or.inl rfl) dJ20_getChars_97 ?_
            refine x_iload_n Ma.x dJ20_getChars_100 1 rfl ?_
            refine x_ineg Ma.x dJ20_getChars_101 ?_
            refine h_bald Ma.ga Th23 dJ20_getChars_102 e (fun v31 tv31 e => ?_)
            refine h_bast Ma.ga Th23 Oh23 tv31 dJ20_getChars_103 e (fun h32 Th32 Oh32 _ e => ?_)
            cases e
            exact x_drop [2, 0, 3] rfl (hY26 tl5_30 Th32 Oh32)
          · cases e
            exact x_drop [2, 0, 3] rfl (hY26 tl5_21 Th23 Oh23)
      · intro tt hY11 e
        refine x_drop [0, 1, 2, 3] rfl ((lp_rule (P := fun (l0_5, l5_6, h7) => InR l0_5 → InR l5_6 → TH h7 → Old h h7 → X C (Z_J20_getChars C l E h hZ vZ h7) [(0, (0, l0_5)), (2, (2, p2_)), (5, (0, l5_6)), (6, (0, c1))] 22 []) (fun rec12 ihrec12 => ?_) FU (l0_3, p1_, h) e) tl0_3 h_p1_ hT hO)
        rintro ⟨l0_5, l5_6, h7⟩ e tl0_5 tl5_6 Th7 Oh7
        dsimp only [B_J20_getChars_22] at e
        refine x_iload_n Ma.x dJ20_getChars_22 0 rfl ?_
        refine x_bip Ma.x dJ20_getChars_23 rfl ?_
        refine x_icmp_gt Ma.x 72 dJ20_getChars_25 rfl tl0_5 (litI rfl) e (fun e => ?_) (fun e => ?_)
        · cases e
          exact x_drop [0, 1, 2, 3] rfl (hY11 tl0_5 tl5_6 Th7 Oh7)
        · refine x_iload_n Ma.x dJ20_getChars_28 0 rfl ?_
          refine x_bip Ma.x dJ20_getChars_29 rfl ?_
          refine x_idiv Ma.x dJ20_getChars_31 tl0_5 (litI rfl) e (fun v13 tv13 _ e => ?_)
          refine x_istore_n Ma.x (lv' := [(3, (0, v13)), (0, (0, l0_5)), (2, (2, p2_)), (5, (0, l5_6)), (6, (0, c1))]) dJ20_getChars_32 [0, 1, 2, 3] rfl rfl (by decide) ?_
          refine x_iload_n Ma.x dJ20_getChars_33 0 rfl ?_
          refine x_bip Ma.x dJ20_getChars_34 rfl ?_
          refine x_imul Ma.x dJ20_getChars_36 ?_
          refine x_iload_n Ma.x dJ20_getChars_37 1 rfl ?_
          refine x_isub Ma.x dJ20_getChars_38 ?_
          refine x_istoreb Ma.x (fun l4_14 => [(4, (0, l4_14)), (3, (0, v13)), (0, (0, l0_5)), (2, (2, p2_)), (5, (0, l5_6)), (6, (0, c1))]) dJ20_getChars_39 [0, 1, 2, 3, 4] (fun _ => rfl) rfl rfl (t := 0) (wr_in _) e (fun l4_14 tl4_14 e => ?_)
          refine x_iload_n Ma.x dJ20_getChars_41 1 rfl ?_
          refine x_istore_n Ma.x (lv' := [(0, (0, v13)), (4, (0, l4_14)), (3, (0, v13)), (2, (2, p2_)), (5, (0, l5_6)), (6, (0, c1))]) dJ20_getChars_42 [0, 1, 3, 4, 5] rfl rfl (by decide) ?_
          refine x_aload_n Ma.x dJ20_getChars_43 3 rfl ?_
          refine x_iincb Ma.x (fun l5_15 => [(5, (0, l5_15)), (0, (0, v13)), (4, (0, l4_14)), (3, (0, v13)), (2, (2, p2_)), (6, (0, c1))]) dJ20_getChars_44 4 rfl [0, 1, 2, 3, 5] (fun _ => rfl) rfl rfl e (fun l5_15 tl5_15 e => ?_)
          refine x_iload Ma.x dJ20_getChars_47 0 rfl ?_
          refine h_gets Ma.b (i := 4) (t := 2) (x := E.2.2 2) rfl q1802 (Or.inl rfl) dJ20_getChars_49 ?_
          refine x_iload Ma.x dJ20_getChars_52 2 rfl ?_
          refine h_bald Ma.ga Th7 dJ20_getChars_54 e (fun v16 tv16 e => ?_)
          refine h_bast Ma.ga Th7 Oh7 tv16 dJ20_getChars_55 e (fun h17 Th17 Oh17 _ e => ?_)
          refine x_aload_n Ma.x dJ20_getChars_56 4 rfl ?_
          refine x_iincb Ma.x (fun l5_18 => [(5, (0, l5_18)), (0, (0, v13)), (4, (0, l4_14)), (3, (0, v13)), (2, (2, p2_)), (6, (0, c1))]) dJ20_getChars_57 0 rfl [1, 2, 3, 4, 5] (fun _ => rfl) rfl rfl e (fun l5_18 tl5_18 e => ?_)
          refine x_iload Ma.x dJ20_getChars_60 0 rfl ?_
          refine h_gets Ma.b (i := 5) (t := 2) (x := E.2.2 3) rfl q1804 (Or.inl rfl) dJ20_getChars_62 ?_
          refine x_iload Ma.x dJ20_getChars_65 2 rfl ?_
          refine h_bald Ma.ga Th17 dJ20_getChars_67 e (fun v19 tv19 e => ?_)
          refine h_bast Ma.ga Th17 Oh17 tv19 dJ20_getChars_68 e (fun h20 Th20 Oh20 _ e => ?_)
          refine x_goto Ma.x 22 dJ20_getChars_69 rfl ?_
          exact x_drop [1, 4, 0, 5] rfl (ihrec12 (v13, l5_18, h20) e tv13 tl5_18 Th20 Oh20)
    · intro tt hY4 e
      refine x_if_ne Ma.x 22 dJ20_getChars_16 rfl tc1.z e (fun e => ?_) (fun e => ?_)
      · refine x_iload_n Ma.x dJ20_getChars_19 1 rfl ?_
        refine x_ineg Ma.x dJ20_getChars_20 ?_
        refine x_istore_nb Ma.x (fun l0_34 => [(0, (0, l0_34)), (6, (0, c1)), (2, (2, p2_)), (5, (0, p1_))]) dJ20_getChars_21 [0, 2, 3] (fun _ => rfl) rfl rfl (t := 0) (wr_in _) e (fun l0_34 tl0_34 e => ?_)
        cases e
        exact x_drop [0, 2, 3, 1] rfl (hY4 tl0_34)
      · cases e
        exact x_drop [1, 2, 3, 0] rfl (hY4 h_p0_)
  · intro tt hY2 e
    refine x_if_ge Ma.x 11 dJ20_getChars_4 rfl h_p0_ e (fun e => ?_) (fun e => ?_)
    · refine x_iconst Ma.x dJ20_getChars_7 ?_
      refine x_goto Ma.x 12 dJ20_getChars_8 rfl ?_
      cases e
      exact x_drop [1, 3, 0] rfl (hY2 litZ1)
    · refine x_iconst Ma.x dJ20_getChars_11 ?_
      cases e
      exact x_drop [1, 3, 0] rfl (hY2 litZ0)
def A_J14_append_3 (k : Nat → Int) (h : AH) (this : Int) (p0_ : Int) : Option (Int × AH) :=
  (gf h 4 3 this).bind fun v1 =>
  (A_J20_stringSize h p0_).bind fun v2 =>
  bd1 (wr (v1 + v2)) fun l3_3 =>
  (A_J14_ensureCapacityInternal k h this l3_3).bind fun h4 =>
  (A_J14_isLatin1 h4 this).bind fun v5 =>
  if v5 = 0 then
    none
  else
    (gf h4 4 0 this).bind fun v6 =>
    (A_J20_getChars k h4 p0_ l3_3 v6).bind fun (v7, h8) =>
    (pf h8 4 3 this l3_3).bind fun h9 =>
    some (this, h9)
theorem ck_J14_append_3 : CkA yJ14_append_3 1 := ⟨by decide, by decide, by decide +kernel⟩
abbrev Z_J14_append_3 (C : Cx) (l : Launch) (E : EA) (h : AH) (hZ : AH) (vZ : Int) (h1 : AH) : Zs := zA (Ma C cJ14_append_3 4 RJ14 E l 4 h hZ 5 vZ (Option.some (.object "java/lang/AbstractStringBuilder")) yJ14_append_3.name) (Ea hZ 5 vZ) E hZ h h1
theorem T_J14_append_3 {l : Launch} {E : EA} (C0 : Cx) (hE : ∀ i, TI 5 (E.2.2 i)) (h : AH) (hT : TH h) (this : Int) (p0_ : Int) (h_this : TI 5 this) (h_p0_ : InR p0_) (ht : aT h this = 4) {vZ : Int} {hZ : AH} (e : A_J14_append_3 E.2.2 h this p0_ = some (vZ, hZ)) : MetA l yJ14_append_3 cJ14_append_3 4 (Option.some (.object "java/lang/AbstractStringBuilder")) 4 E h [(2, this), (0, p0_)] 5 vZ hZ ∧ Old h hZ ∧ TH hZ ∧ TIr 5 vZ := by
  unfold A_J14_append_3 at e
  refine a_start (own := RJ14) C0 [(2, this), (0, p0_)] hT rfl rfl rfl (fun C => ?_)
  have hO := Old.rf h
  show X C (Z_J14_append_3 C l E h hZ vZ h) [(0, (2, this)), (1, (0, p0_))] 0 []
  refine x_aload_n Ma.x dJ14_append_3_0 0 rfl ?_
  refine g_get Ma.ga fH_J14_79_J15 (c := 0) (kd := 0) rfl rfl hT dJ14_append_3_1 e (fun v1 tv1 e => ?_)
  refine x_istore_n Ma.x (lv' := [(2, (0, v1)), (0, (2, this)), (1, (0, p0_))]) dJ14_append_3_4 [0, 1] rfl rfl (by decide) ?_
  refine x_iload_n Ma.x dJ14_append_3_5 0 rfl ?_
  refine x_iload_n Ma.x dJ14_append_3_6 2 rfl ?_
  obtain ⟨v2, e1, e⟩ := bds e
  refine a_callS Ma.b hT hO [(0, p0_)] [(0, v1)] [(0, v2), (0, v1)] (T_J20_stringSize C hE h hT p0_ h_p0_ e1) dJ14_append_3_7 q1796 q1797 q241 q1798 ck_J20_stringSize rfl rfl rfl rfl rfl (fun tv2 _ _ => ?_)
  refine x_iadd Ma.x dJ14_append_3_10 ?_
  refine x_istore_nb Ma.x (fun l3_3 => [(3, (0, l3_3)), (2, (0, v1)), (0, (2, this)), (1, (0, p0_))]) dJ14_append_3_11 [0, 1, 2] (fun _ => rfl) rfl rfl (t := 0) (wr_in _) e (fun l3_3 tl3_3 e => ?_)
  refine x_aload_n Ma.x dJ14_append_3_12 2 rfl ?_
  refine x_iload_n Ma.x dJ14_append_3_13 0 rfl ?_
  obtain ⟨h4, e1, e⟩ := bds e
  refine a_callP Ma.b (Cn := "java/lang/StringBuilder") hT hO [(0, l3_3)] [] [] (T_J14_ensureCapacityInternal C hE h hT this l3_3 h_this tl3_3 ht e1) ht ⟨by decide, by decide, _, rfl, rfl⟩ dJ14_append_3_14 q1643 q3895 q1644 q1645 q234 q1646 ck_J14_ensureCapacityInternal rfl rfl rfl rfl rfl (fun _ Th4 Oh4 => ?_)
  refine x_aload_n Ma.x dJ14_append_3_17 2 rfl ?_
  obtain ⟨v5, e1, e⟩ := bds e
  refine a_callU Ma.b (Cn := "java/lang/StringBuilder") (owner := "java/lang/AbstractStringBuilder") Th4 Oh4 [] [] [(0, v5)] (T_J14_isLatin1 C hE h4 Th4 this h_this (Oh4.at hT ht (by decide)) e1) (Oh4.at hT ht (by decide)) ⟨by decide, by decide, _, rfl, rfl⟩ dJ14_append_3_18 q1663 q1665 q1666 q1664 q234 q1667 rfl ck_J14_isLatin1 rfl rfl rfl rfl rfl (fun tv5 _ _ => ?_)
  refine x_if_eq Ma.x 37 dJ14_append_3_21 rfl tv5.z e (fun e => ?_) (fun e => ?_)
  · cases e
  · refine x_iload_n Ma.x dJ14_append_3_24 3 rfl ?_
    refine x_iload_n Ma.x dJ14_append_3_25 0 rfl ?_
    refine x_aload_n Ma.x dJ14_append_3_26 2 rfl ?_
    refine g_get Ma.ga fH_J14_15_J15 (c := 5) (kd := 2) rfl rfl Th4 dJ14_append_3_27 e (fun v6 tv6 e => ?_)
    obtain ⟨⟨v7, h8⟩, e1, e⟩ := bds e
    refine a_callS Ma.b Th4 Oh4 [(0, p0_), (0, l3_3), (2, v6)] [] [(0, v7)] (T_J20_getChars C hE h4 Th4 p0_ l3_3 v6 h_p0_ tl3_3 tv6 e1) dJ14_append_3_30 q1799 q1800 q241 q1801 ck_J20_getChars rfl rfl rfl rfl rfl (fun tv7 Th8 Oh8 => ?_)
    refine x_pop Ma.x dJ14_append_3_33 rfl ?_
    refine x_goto Ma.x 48 dJ14_append_3_34 rfl ?_
    refine x_aload_n Ma.x dJ14_append_3_48 2 rfl ?_
    refine x_iload_n Ma.x dJ14_append_3_49 0 rfl ?_
    refine g_put Ma.ga fH_J14_79_J15 (c := 0) (kd := 0) rfl rfl (NoFin.of rfl) Th8 Oh8 tl3_3 dJ14_append_3_50 e (fun h9 Th9 Oh9 _ e => ?_)
    refine x_aload_n Ma.x dJ14_append_3_53 2 rfl ?_
    exact a_reta dJ14_append_3_54 (Or.inl ⟨_, rfl⟩) (congrArg Prod.fst (Option.some.inj e)) (congrArg Prod.snd (Option.some.inj e)) Th9 h_this
def A_J15_init (h : AH) (this : Int) : Option (AH) :=
  (A_J14_init h this 16).bind fun h1 =>
  some h1
theorem ck_J15_init : CkA yJ15_init 0 := ⟨by decide, by decide, by decide +kernel⟩
abbrev Z_J15_init (C : Cx) (l : Launch) (E : EA) (h : AH) (hZ : AH) (h1 : AH) : Zs := zA (Ma C cJ15_init 1 RJ15 E l 2 h hZ 6 0 none yJ15_init.name) (Ea hZ 6 0) E hZ h h1
theorem T_J15_init {l : Launch} {E : EA} (C0 : Cx) (hE : ∀ i, TI 5 (E.2.2 i)) (h : AH) (hT : TH h) (this : Int) (h_this : TI 5 this) (ht : aT h this = 4) {hZ : AH} (e : A_J15_init h this = some hZ) : MetA l yJ15_init cJ15_init 1 none 2 E h [(2, this)] 6 0 hZ ∧ Old h hZ ∧ TH hZ ∧ TIr 6 0 := by
  unfold A_J15_init at e
  refine a_start (own := RJ15) C0 [(2, this)] hT rfl rfl rfl (fun C => ?_)
  have hO := Old.rf h
  show X C (Z_J15_init C l E h hZ h) [(0, (2, this))] 0 []
  refine x_aload_n Ma.x dJ15_init_0 0 rfl ?_
  refine x_bip Ma.x dJ15_init_1 rfl ?_
  obtain ⟨h1, e1, e⟩ := bds e
  refine a_callI Ma.b hT hO [(0, 16)] [] [] (T_J14_init C hE h hT this 16 h_this (litI rfl) ht e1) ht (by decide) dJ15_init_3 q1605 q1606 q234 q1607 rfl ck_J14_init rfl rfl rfl rfl rfl (fun _ Th1 Oh1 => ?_)
  exact a_retv dJ15_init_6 (Option.some.inj e) Th1
def A_J15_append (k : Nat → Int) (h : AH) (this : Int) (p0_ : Int) : Option (Int × AH) :=
  (A_J14_append k h this p0_).bind fun (v1, h2) =>
  some (this, h2)
theorem ck_J15_append : CkA yJ15_append 1 := ⟨by decide, by decide, by decide +kernel⟩
abbrev Z_J15_append (C : Cx) (l : Launch) (E : EA) (h : AH) (hZ : AH) (vZ : Int) (h1 : AH) : Zs := zA (Ma C cJ15_append 2 RJ15 E l 5 h hZ 5 vZ (Option.some (.object "java/lang/StringBuilder")) yJ15_append.name) (Ea hZ 5 vZ) E hZ h h1
theorem T_J15_append {l : Launch} {E : EA} (C0 : Cx) (hE : ∀ i, TI 5 (E.2.2 i)) (h : AH) (hT : TH h) (this : Int) (p0_ : Int) (h_this : TI 5 this) (h_p0_ : TI 5 p0_) (ht : aT h this = 4) {vZ : Int} {hZ : AH} (e : A_J15_append E.2.2 h this p0_ = some (vZ, hZ)) : MetA l yJ15_append cJ15_append 2 (Option.some (.object "java/lang/StringBuilder")) 5 E h [(2, this), (2, p0_)] 5 vZ hZ ∧ Old h hZ ∧ TH hZ ∧ TIr 5 vZ := by
  unfold A_J15_append at e
  refine a_start (own := RJ15) C0 [(2, this), (2, p0_)] hT rfl rfl rfl (fun C => ?_)
  have hO := Old.rf h
  show X C (Z_J15_append C l E h hZ vZ h) [(0, (2, this)), (1, (2, p0_))] 0 []
  refine x_aload_n Ma.x dJ15_append_0 0 rfl ?_
  refine x_aload_n Ma.x dJ15_append_1 1 rfl ?_
  obtain ⟨⟨v1, h2⟩, e1, e⟩ := bds e
  refine a_callSU Ma.b (Cn := "java/lang/StringBuilder") hT hO [(2, p0_)] [] [(2, v1)] (T_J14_append C hE h hT this p0_ h_this h_p0_ ht e1) ht ⟨by decide, by decide, _, rfl, rfl⟩ dJ15_append_2 q1636 q3893 q1629 q1637 q234 q1638 ⟨by decide, ck_J14_append.2.2⟩ rfl rfl rfl rfl rfl (fun tv1 Th2 Oh2 => ?_)
  refine x_pop Ma.x dJ15_append_5 rfl ?_
  refine x_aload_n Ma.x dJ15_append_6 0 rfl ?_
  exact a_reta dJ15_append_7 (Or.inl ⟨_, rfl⟩) (congrArg Prod.fst (Option.some.inj e)) (congrArg Prod.snd (Option.some.inj e)) Th2 h_this
def A_J15_append_2 (k : Nat → Int) (h : AH) (this : Int) (p0_ : Int) : Option (Int × AH) :=
  (A_J14_append_2 k h this p0_).bind fun (v1, h2) =>
  some (this, h2)
theorem ck_J15_append_2 : CkA yJ15_append_2 1 := ⟨by decide, by decide, by decide +kernel⟩
abbrev Z_J15_append_2 (C : Cx) (l : Launch) (E : EA) (h : AH) (hZ : AH) (vZ : Int) (h1 : AH) : Zs := zA (Ma C cJ15_append_2 2 RJ15 E l 5 h hZ 5 vZ (Option.some (.object "java/lang/StringBuilder")) yJ15_append_2.name) (Ea hZ 5 vZ) E hZ h h1
theorem T_J15_append_2 {l : Launch} {E : EA} (C0 : Cx) (hE : ∀ i, TI 5 (E.2.2 i)) (h : AH) (hT : TH h) (this : Int) (p0_ : Int) (h_this : TI 5 this) (h_p0_ : TI 2 p0_) (ht : aT h this = 4) {vZ : Int} {hZ : AH} (e : A_J15_append_2 E.2.2 h this p0_ = some (vZ, hZ)) : MetA l yJ15_append_2 cJ15_append_2 2 (Option.some (.object "java/lang/StringBuilder")) 5 E h [(2, this), (0, p0_)] 5 vZ hZ ∧ Old h hZ ∧ TH hZ ∧ TIr 5 vZ := by
  unfold A_J15_append_2 at e
  refine a_start (own := RJ15) C0 [(2, this), (0, p0_)] hT rfl rfl rfl (fun C => ?_)
  have hO := Old.rf h
  show X C (Z_J15_append_2 C l E h hZ vZ h) [(0, (2, this)), (1, (0, p0_))] 0 []
  refine x_aload_n Ma.x dJ15_append_2_0 0 rfl ?_
  refine x_iload_n Ma.x dJ15_append_2_1 1 rfl ?_
  obtain ⟨⟨v1, h2⟩, e1, e⟩ := bds e
  refine a_callSU Ma.b (Cn := "java/lang/StringBuilder") hT hO [(0, p0_)] [] [(2, v1)] (T_J14_append_2 C hE h hT this p0_ h_this h_p0_ ht e1) ht ⟨by decide, by decide, _, rfl, rfl⟩ dJ15_append_2_2 q1731 q3900 q1629 q1732 q234 q1733 ⟨by decide, ck_J14_append_2.2.2⟩ rfl rfl rfl rfl rfl (fun tv1 Th2 Oh2 => ?_)
  refine x_pop Ma.x dJ15_append_2_5 rfl ?_
  refine x_aload_n Ma.x dJ15_append_2_6 0 rfl ?_
  exact a_reta dJ15_append_2_7 (Or.inl ⟨_, rfl⟩) (congrArg Prod.fst (Option.some.inj e)) (congrArg Prod.snd (Option.some.inj e)) Th2 h_this
def A_J15_append_3 (k : Nat → Int) (h : AH) (this : Int) (p0_ : Int) : Option (Int × AH) :=
  (A_J14_append_3 k h this p0_).bind fun (v1, h2) =>
  some (this, h2)
theorem ck_J15_append_3 : CkA yJ15_append_3 1 := ⟨by decide, by decide, by decide +kernel⟩
abbrev Z_J15_append_3 (C : Cx) (l : Launch) (E : EA) (h : AH) (hZ : AH) (vZ : Int) (h1 : AH) : Zs := zA (Ma C cJ15_append_3 2 RJ15 E l 5 h hZ 5 vZ (Option.some (.object "java/lang/StringBuilder")) yJ15_append_3.name) (Ea hZ 5 vZ) E hZ h h1
theorem T_J15_append_3 {l : Launch} {E : EA} (C0 : Cx) (hE : ∀ i, TI 5 (E.2.2 i)) (h : AH) (hT : TH h) (this : Int) (p0_ : Int) (h_this : TI 5 this) (h_p0_ : InR p0_) (ht : aT h this = 4) {vZ : Int} {hZ : AH} (e : A_J15_append_3 E.2.2 h this p0_ = some (vZ, hZ)) : MetA l yJ15_append_3 cJ15_append_3 2 (Option.some (.object "java/lang/StringBuilder")) 5 E h [(2, this), (0, p0_)] 5 vZ hZ ∧ Old h hZ ∧ TH hZ ∧ TIr 5 vZ := by
  unfold A_J15_append_3 at e
  refine a_start (own := RJ15) C0 [(2, this), (0, p0_)] hT rfl rfl rfl (fun C => ?_)
  have hO := Old.rf h
  show X C (Z_J15_append_3 C l E h hZ vZ h) [(0, (2, this)), (1, (0, p0_))] 0 []
  refine x_aload_n Ma.x dJ15_append_3_0 0 rfl ?_
  refine x_iload_n Ma.x dJ15_append_3_1 1 rfl ?_
  obtain ⟨⟨v1, h2⟩, e1, e⟩ := bds e
  refine a_callSU Ma.b (Cn := "java/lang/StringBuilder") hT hO [(0, p0_)] [] [(2, v1)] (T_J14_append_3 C hE h hT this p0_ h_this h_p0_ ht e1) ht ⟨by decide, by decide, _, rfl, rfl⟩ dJ15_append_3_2 q1793 q3901 q1629 q1794 q234 q1795 ⟨by decide, ck_J14_append_3.2.2⟩ rfl rfl rfl rfl rfl (fun tv1 Th2 Oh2 => ?_)
  refine x_pop Ma.x dJ15_append_3_5 rfl ?_
  refine x_aload_n Ma.x dJ15_append_3_6 0 rfl ?_
  exact a_reta dJ15_append_3_7 (Or.inl ⟨_, rfl⟩) (congrArg Prod.fst (Option.some.inj e)) (congrArg Prod.snd (Option.some.inj e)) Th2 h_this
def A_J15_append_4 (k : Nat → Int) (h : AH) (this : Int) (p0_ : Int) : Option (Int × AH) :=
  (A_J0_valueOf k h p0_).bind fun (v1, h2) =>
  (A_J15_append k h2 this v1).bind fun (v3, h4) =>
  some (v3, h4)
theorem ck_J15_append_4 : CkA yJ15_append_4 1 := ⟨by decide, by decide, by decide +kernel⟩
abbrev Z_J15_append_4 (C : Cx) (l : Launch) (E : EA) (h : AH) (hZ : AH) (vZ : Int) (h1 : AH) : Zs := zA (Ma C cJ15_append_4 2 RJ15 E l 7 h hZ 5 vZ (Option.some (.object "java/lang/StringBuilder")) yJ15_append_4.name) (Ea hZ 5 vZ) E hZ h h1
theorem T_J15_append_4 {l : Launch} {E : EA} (C0 : Cx) (hE : ∀ i, TI 5 (E.2.2 i)) (h : AH) (hT : TH h) (this : Int) (p0_ : Int) (h_this : TI 5 this) (h_p0_ : TI 5 p0_) (ht : aT h this = 4) {vZ : Int} {hZ : AH} (e : A_J15_append_4 E.2.2 h this p0_ = some (vZ, hZ)) : MetA l yJ15_append_4 cJ15_append_4 2 (Option.some (.object "java/lang/StringBuilder")) 7 E h [(2, this), (2, p0_)] 5 vZ hZ ∧ Old h hZ ∧ TH hZ ∧ TIr 5 vZ := by
  unfold A_J15_append_4 at e
  refine a_start (own := RJ15) C0 [(2, this), (2, p0_)] hT rfl rfl rfl (fun C => ?_)
  have hO := Old.rf h
  show X C (Z_J15_append_4 C l E h hZ vZ h) [(0, (2, this)), (1, (2, p0_))] 0 []
  refine x_aload_n Ma.x dJ15_append_4_0 0 rfl ?_
  refine x_aload_n Ma.x dJ15_append_4_1 1 rfl ?_
  obtain ⟨⟨v1, h2⟩, e1, e⟩ := bds e
  refine a_callS Ma.b hT hO [(2, p0_)] [(2, this)] [(2, v1), (2, this)] (T_J0_valueOf C hE h hT p0_ h_p0_ e1) dJ15_append_4_2 q1859 q1860 q219 q1861 ck_J0_valueOf rfl rfl rfl rfl rfl (fun tv1 Th2 Oh2 => ?_)
  obtain ⟨⟨v3, h4⟩, e1, e⟩ := bds e
  refine a_callV Ma.b Th2 Oh2 [(2, v1)] [] [(2, v3)] (T_J15_append C hE h2 Th2 this v1 h_this tv1 (Oh2.at hT ht (by decide)) e1) (Oh2.at hT ht (by decide)) ⟨by decide, by decide, _, rfl, rfl⟩ dJ15_append_4_5 q1939 q1633 q1634 q235 q1635 ck_J15_append rfl rfl rfl rfl rfl (fun tv3 Th4 Oh4 => ?_)
  exact a_reta dJ15_append_4_8 (Or.inl ⟨_, rfl⟩) (congrArg Prod.fst (Option.some.inj e)) (congrArg Prod.snd (Option.some.inj e)) Th4 tv3
def A_J18_copyOf_2 (k : Nat → Int) (h : AH) (p0_ : Int) (p1_ : Int) (p2_ : Int) : Option (Int × AH) :=
  if p2_ = (k 5) then
    (nwa h 68 p1_).bind fun (v1, h2) =>
    (al h2 68 p0_).bind fun v3 =>
    (cpo h2 68 p0_ 0 v1 0 (mn32 v3 p1_)).bind fun h4 =>
    some (v1, h4)
  else
    none
theorem ck_J18_copyOf_2 : CkA yJ18_copyOf_2 3 := ⟨by decide, by decide, by decide +kernel⟩
abbrev Z_J18_copyOf_2 (C : Cx) (l : Launch) (E : EA) (h : AH) (hZ : AH) (vZ : Int) (h1 : AH) : Zs := zA (Ma C cJ18_copyOf_2 4 RJ18 E l 1 h hZ 5 vZ (Option.some (.array (.object "java/lang/Object"))) yJ18_copyOf_2.name) (Ea hZ 5 vZ) E hZ h h1
theorem T_J18_copyOf_2 {l : Launch} {E : EA} (C0 : Cx) (hE : ∀ i, TI 5 (E.2.2 i)) (h : AH) (hT : TH h) (p0_ : Int) (p1_ : Int) (p2_ : Int) (h_p0_ : TI 5 p0_) (h_p1_ : InR p1_) (h_p2_ : TI 5 p2_) {vZ : Int} {hZ : AH} (e : A_J18_copyOf_2 E.2.2 h p0_ p1_ p2_ = some (vZ, hZ)) : MetA l yJ18_copyOf_2 cJ18_copyOf_2 4 (Option.some (.array (.object "java/lang/Object"))) 1 E h [(2, p0_), (0, p1_), (2, p2_)] 5 vZ hZ ∧ Old h hZ ∧ TH hZ ∧ TIr 5 vZ := by
  unfold A_J18_copyOf_2 at e
  refine a_start (own := RJ18) C0 [(2, p0_), (0, p1_), (2, p2_)] hT rfl rfl rfl (fun C => ?_)
  have hO := Old.rf h
  show X C (Z_J18_copyOf_2 C l E h hZ vZ h) [(0, (2, p0_)), (1, (0, p1_)), (2, (2, p2_))] 0 []
  refine x_aload_n Ma.x dJ18_copyOf_2_0 2 rfl ?_
  refine h_ldcM Ma.b dJ18_copyOf_2_1 q850 ?_
  refine x_acmp_ne Ma.x 13 dJ18_copyOf_2_3 rfl h_p2_ (hE 5) e (fun e => ?_) (fun e => ?_)
  · refine x_iload_n Ma.x dJ18_copyOf_2_6 1 rfl ?_
    refine h_anew Ma.ga Ma.rm (Ma.ao (.head _)) (t := 68) ⟨by decide, rfl, rfl, rfl⟩ q852 hT hO dJ18_copyOf_2_7 e (fun v1 h2 tv1 gv1 Th2 Oh2 e => ?_)
    refine x_goto Ma.x 24 dJ18_copyOf_2_10 rfl ?_
    refine x_astore_n Ma.x (lv' := [(3, (2, v1)), (0, (2, p0_)), (1, (0, p1_)), (2, (2, p2_))]) dJ18_copyOf_2_24 [0, 1, 2] rfl rfl (by decide) ?_
    refine x_aload_n Ma.x dJ18_copyOf_2_25 1 rfl ?_
    refine x_iconst Ma.x dJ18_copyOf_2_26 ?_
    refine x_aload_n Ma.x dJ18_copyOf_2_27 0 rfl ?_
    refine x_iconst Ma.x dJ18_copyOf_2_28 ?_
    refine x_aload_n Ma.x dJ18_copyOf_2_29 1 rfl ?_
    refine h_len Ma.ga (t := 68) (by decide) rfl Th2 dJ18_copyOf_2_30 e (fun v3 tv3 e => ?_)
    refine x_iload_n Ma.x dJ18_copyOf_2_31 2 rfl ?_
    refine h_min Ma.b Oh2 tv3 h_p1_ dJ18_copyOf_2_32 q853 rfl rfl ?_
    refine h_copyo Ma.b (t := 68) (Or.inl ⟨rfl, rfl⟩) Th2 Oh2 dJ18_copyOf_2_35 q856 rfl rfl e (fun h4 Th4 Oh4 _ e => ?_)
    refine x_aload_n Ma.x dJ18_copyOf_2_38 0 rfl ?_
    exact a_reta dJ18_copyOf_2_39 (Or.inr ⟨_, rfl⟩) (congrArg Prod.fst (Option.some.inj e)) (congrArg Prod.snd (Option.some.inj e)) Th4 tv1
  · cases e
def A_J18_copyOf (k : Nat → Int) (h : AH) (p0_ : Int) (p1_ : Int) : Option (Int × AH) :=
  (tgc h 68 p0_).bind fun _ =>
  (A_J18_copyOf_2 k h p0_ p1_ (k 5)).bind fun (v2, h3) =>
  some (v2, h3)
theorem ck_J18_copyOf : CkA yJ18_copyOf 2 := ⟨by decide, by decide, by decide +kernel⟩
abbrev Z_J18_copyOf (C : Cx) (l : Launch) (E : EA) (h : AH) (hZ : AH) (vZ : Int) (h1 : AH) : Zs := zA (Ma C cJ18_copyOf 2 RJ18 E l 2 h hZ 5 vZ (Option.some (.array (.object "java/lang/Object"))) yJ18_copyOf.name) (Ea hZ 5 vZ) E hZ h h1
theorem T_J18_copyOf {l : Launch} {E : EA} (C0 : Cx) (hE : ∀ i, TI 5 (E.2.2 i)) (h : AH) (hT : TH h) (p0_ : Int) (p1_ : Int) (h_p0_ : TI 5 p0_) (h_p1_ : InR p1_) {vZ : Int} {hZ : AH} (e : A_J18_copyOf E.2.2 h p0_ p1_ = some (vZ, hZ)) : MetA l yJ18_copyOf cJ18_copyOf 2 (Option.some (.array (.object "java/lang/Object"))) 2 E h [(2, p0_), (0, p1_)] 5 vZ hZ ∧ Old h hZ ∧ TH hZ ∧ TIr 5 vZ := by
  unfold A_J18_copyOf at e
  refine a_start (own := RJ18) C0 [(2, p0_), (0, p1_)] hT rfl rfl rfl (fun C => ?_)
  have hO := Old.rf h
  show X C (Z_J18_copyOf C l E h hZ vZ h) [(0, (2, p0_)), (1, (0, p1_))] 0 []
  refine x_aload_n Ma.x dJ18_copyOf_0 0 rfl ?_
  refine x_iload_n Ma.x dJ18_copyOf_1 1 rfl ?_
  refine x_aload_n Ma.x dJ18_copyOf_2 0 rfl ?_
  obtain ⟨q1, e⟩ := bds1 e
  refine h_getC Ma.b (tgc_s q1) hT dJ18_copyOf_3 q804 rfl rfl ?_
  obtain ⟨⟨v2, h3⟩, e1, e⟩ := bds e
  refine a_callS Ma.b hT hO [(2, p0_), (0, p1_), (2, (E.2.2 5))] [] [(2, v2)] (T_J18_copyOf_2 C hE h hT p0_ p1_ (E.2.2 5) h_p0_ h_p1_ (hE 5) e1) dJ18_copyOf_6 q847 q848 q238 q849 ck_J18_copyOf_2 rfl rfl rfl rfl rfl (fun tv2 Th3 Oh3 => ?_)
  exact a_reta dJ18_copyOf_9 (Or.inr ⟨_, rfl⟩) (congrArg Prod.fst (Option.some.inj e)) (congrArg Prod.snd (Option.some.inj e)) Th3 tv2
def A_J19_init (h : AH) (this : Int) : Option (Unit) :=
  some ()
theorem ck_J19_init : CkA yJ19_init 0 := ⟨by decide, by decide, by decide +kernel⟩
abbrev Z_J19_init (C : Cx) (l : Launch) (E : EA) (h : AH) (h1 : AH) : Zs := zA (Ma C cJ19_init 1 RJ19 E l 1 h h 6 0 none yJ19_init.name) (Ea h 6 0) E h h h1
theorem T_J19_init {l : Launch} {E : EA} (C0 : Cx) (hE : ∀ i, TI 5 (E.2.2 i)) (h : AH) (hT : TH h) (this : Int) (h_this : TI 5 this) (ht : aT h this = 2) (e : A_J19_init h this = some ()) : MetA l yJ19_init cJ19_init 1 none 1 E h [(2, this)] 6 0 h ∧ Old h h ∧ TH h ∧ TIr 6 0 := by
  unfold A_J19_init at e
  refine a_start (own := RJ19) C0 [(2, this)] hT rfl rfl rfl (fun C => ?_)
  have hO := Old.rf h
  show X C (Z_J19_init C l E h h) [(0, (2, this))] 0 []
  refine x_aload_n Ma.x dJ19_init_0 0 rfl ?_
  refine a_objInit Ma.b hT ht (by decide) rfl rfl dJ19_init_1 q764 q280 q281 ?_
  exact a_retv dJ19_init_4 rfl hT
def A_J20_init (h : AH) (this : Int) (p0_ : Int) : Option (AH) :=
  (A_J19_init h this).bind fun _ =>
  (pf h 2 0 this p0_).bind fun h1 =>
  some h1
theorem ck_J20_init : CkA yJ20_init 1 := ⟨by decide, by decide, by decide +kernel⟩
abbrev Z_J20_init (C : Cx) (l : Launch) (E : EA) (h : AH) (hZ : AH) (h1 : AH) : Zs := zA (Ma C cJ20_init 2 RJ20 E l 2 h hZ 6 0 none yJ20_init.name) (Ea hZ 6 0) E hZ h h1
theorem T_J20_init {l : Launch} {E : EA} (C0 : Cx) (hE : ∀ i, TI 5 (E.2.2 i)) (h : AH) (hT : TH h) (this : Int) (p0_ : Int) (h_this : TI 5 this) (h_p0_ : InR p0_) (ht : aT h this = 2) {hZ : AH} (e : A_J20_init h this p0_ = some hZ) : MetA l yJ20_init cJ20_init 2 none 2 E h [(2, this), (0, p0_)] 6 0 hZ ∧ Old h hZ ∧ TH hZ ∧ TIr 6 0 := by
  unfold A_J20_init at e
  refine a_start (own := RJ20) C0 [(2, this), (0, p0_)] hT rfl rfl rfl (fun C => ?_)
  have hO := Old.rf h
  show X C (Z_J20_init C l E h hZ h) [(0, (2, this)), (1, (0, p0_))] 0 []
  refine x_aload_n Ma.x dJ20_init_0 0 rfl ?_
  obtain ⟨_, e1, e⟩ := bds e
  refine a_callI Ma.b hT hO [] [] [] (T_J19_init C hE h hT this h_this ht e1) ht (by decide) dJ20_init_1 q761 q762 q240 q763 rfl ck_J19_init rfl rfl rfl rfl rfl (fun _ _ _ => ?_)
  refine x_aload_n Ma.x dJ20_init_4 0 rfl ?_
  refine x_iload_n Ma.x dJ20_init_5 1 rfl ?_
  refine g_putF Ma.ga fH_J20_205_J20 (c := 0) (kd := 0) rfl rfl (IsFin.of rfl) (fun m => (Ma.nam m).trans rfl) hT hO h_p0_ dJ20_init_6 e (fun h1 Th1 Oh1 _ e => ?_)
  exact a_retv dJ20_init_9 (Option.some.inj e) Th1
def A_J20_valueOf (k : Nat → Int) (h : AH) (p0_ : Int) : Option (Int × AH) :=
  jn (α := Unit) (fun _ =>
    bd1 (nwo h 2 1) fun (v2, h3) =>
    (A_J20_init h3 v2 p0_).bind fun h4 =>
    some (v2, h4)) fun j5 =>
  if p0_ < (-128) then
    j5 ()
  else
    if 127 < p0_ then
      j5 ()
    else
      (ga h 78 (k 1) (wr (p0_ + 128))).bind fun v6 =>
      some (v6, h)
theorem ck_J20_valueOf : CkA yJ20_valueOf 1 := ⟨by decide, by decide, by decide +kernel⟩
abbrev Z_J20_valueOf (C : Cx) (l : Launch) (E : EA) (h : AH) (hZ : AH) (vZ : Int) (h1 : AH) : Zs := zA (Ma C cJ20_valueOf 1 RJ20 E l 3 h hZ 5 vZ (Option.some (.object "java/lang/Integer")) yJ20_valueOf.name) (Ea hZ 5 vZ) E hZ h h1
theorem T_J20_valueOf {l : Launch} {E : EA} (C0 : Cx) (hE : ∀ i, TI 5 (E.2.2 i)) (h : AH) (hT : TH h) (p0_ : Int) (h_p0_ : InR p0_) {vZ : Int} {hZ : AH} (e : A_J20_valueOf E.2.2 h p0_ = some (vZ, hZ)) : MetA l yJ20_valueOf cJ20_valueOf 1 (Option.some (.object "java/lang/Integer")) 3 E h [(0, p0_)] 5 vZ hZ ∧ Old h hZ ∧ TH hZ ∧ TIr 5 vZ := by
  unfold A_J20_valueOf at e
  refine a_start (own := RJ20) C0 [(0, p0_)] hT rfl rfl rfl (fun C => ?_)
  have hO := Old.rf h
  show X C (Z_J20_valueOf C l E h hZ vZ h) [(0, (0, p0_))] 0 []
  refine x_iload_n Ma.x dJ20_valueOf_0 0 rfl ?_
  refine x_bip Ma.x dJ20_valueOf_1 rfl ?_
  refine jn_rule e (Y := fun _ => X C (Z_J20_valueOf C l E h hZ vZ h) [(0, (0, p0_))] 23 []) ?_ ?_
  · intro _ e
    refine h_new Ma.ga Ma.rm ⟨by decide, by decide, (RJ20, TJ20, 1), 1, rfl, rfl, q756, q757, q241, Or.inr cl_2⟩ hT hO dJ20_valueOf_23 e (fun v2 h3 tv2 gv2 Th3 Oh3 e => ?_)
    refine x_dup Ma.x dJ20_valueOf_26 rfl ?_
    refine x_iload_n Ma.x dJ20_valueOf_27 0 rfl ?_
    obtain ⟨h4, e1, e⟩ := bds e
    refine a_callI Ma.b Th3 Oh3 [(0, p0_)] [(2, v2)] [(2, v2)] (T_J20_init C hE h3 Th3 v2 p0_ tv2 h_p0_ gv2 e1) gv2 (by decide) dJ20_valueOf_28 q758 q759 q241 q760 rfl ck_J20_init rfl rfl rfl rfl rfl (fun _ Th4 Oh4 => ?_)
    exact a_reta dJ20_valueOf_31 (Or.inl ⟨_, rfl⟩) (congrArg Prod.fst (Option.some.inj e)) (congrArg Prod.snd (Option.some.inj e)) Th4 tv2
  · intro j5 hj5 e
    refine x_icmp_lt Ma.x 23 dJ20_valueOf_3 rfl h_p0_ (litI rfl) e (fun e => ?_) (fun e => ?_)
    · exact x_drop [0] rfl (hj5 () e )
    · refine x_iload_n Ma.x dJ20_valueOf_6 0 rfl ?_
      refine h_gets Ma.b (i := 2) (t := 0) (x := 127) rfl q752 (Or.inl rfl) dJ20_valueOf_7 ?_
      refine x_icmp_gt Ma.x 23 dJ20_valueOf_10 rfl h_p0_ (litI rfl) e (fun e => ?_) (fun e => ?_)
      · exact x_drop [0] rfl (hj5 () e )
      · refine h_gets Ma.b (i := 3) (t := 2) (x := E.2.2 1) rfl q754 (Or.inl rfl) dJ20_valueOf_13 ?_
        refine x_iload_n Ma.x dJ20_valueOf_16 0 rfl ?_
        refine x_sip Ma.x dJ20_valueOf_17 rfl ?_
        refine x_iadd Ma.x dJ20_valueOf_20 ?_
        refine h_aald Ma.ga (t := 78) ⟨by decide, rfl, rfl, rfl⟩ hT dJ20_valueOf_21 e (fun v6 tv6 e => ?_)
        exact a_reta dJ20_valueOf_22 (Or.inl ⟨_, rfl⟩) (congrArg Prod.fst (Option.some.inj e)) (congrArg Prod.snd (Option.some.inj e)) hT tv6
def A_J20_intValue (h : AH) (this : Int) : Option (Int) :=
  (gf h 2 0 this).bind fun v1 =>
  some v1
theorem ck_J20_intValue : CkA yJ20_intValue 0 := ⟨by decide, by decide, by decide +kernel⟩
abbrev Z_J20_intValue (C : Cx) (l : Launch) (E : EA) (h : AH) (vZ : Int) (h1 : AH) : Zs := zA (Ma C cJ20_intValue 1 RJ20 E l 0 h h 0 vZ (Option.some .int) yJ20_intValue.name) (Ea h 0 vZ) E h h h1
theorem T_J20_intValue {l : Launch} {E : EA} (C0 : Cx) (hE : ∀ i, TI 5 (E.2.2 i)) (h : AH) (hT : TH h) (this : Int) (h_this : TI 5 this) (ht : aT h this = 2) {vZ : Int} (e : A_J20_intValue h this = some vZ) : MetA l yJ20_intValue cJ20_intValue 1 (Option.some .int) 0 E h [(2, this)] 0 vZ h ∧ Old h h ∧ TH h ∧ TIr 0 vZ := by
  unfold A_J20_intValue at e
  refine a_start (own := RJ20) C0 [(2, this)] hT rfl rfl rfl (fun C => ?_)
  have hO := Old.rf h
  show X C (Z_J20_intValue C l E h vZ h) [(0, (2, this))] 0 []
  refine x_aload_n Ma.x dJ20_intValue_0 0 rfl ?_
  refine g_get Ma.ga fH_J20_205_J20 (c := 0) (kd := 0) rfl rfl hT dJ20_intValue_1 e (fun v1 tv1 e => ?_)
  exact a_reti dJ20_intValue_4 (Option.some.inj e) rfl hT tv1
def A_J20_toString_2 (k : Nat → Int) (h : AH) (p0_ : Int) : Option (Int × AH) :=
  (A_J20_stringSize h p0_).bind fun v1 =>
  if (1 : Int) = 0 then
    none
  else
    (nwa h 66 v1).bind fun (v2, h3) =>
    (A_J20_getChars k h3 p0_ v1 v2).bind fun (v4, h5) =>
    bd1 (nwo h5 1 4) fun (v6, h7) =>
    (A_J0_init_3 h7 v6 v2 0).bind fun h8 =>
    some (v6, h8)
theorem ck_J20_toString_2 : CkA yJ20_toString_2 1 := ⟨by decide, by decide, by decide +kernel⟩
abbrev Z_J20_toString_2 (C : Cx) (l : Launch) (E : EA) (h : AH) (hZ : AH) (vZ : Int) (h1 : AH) : Zs := zA (Ma C cJ20_toString_2 3 RJ20 E l 2 h hZ 5 vZ (Option.some (.object "java/lang/String")) yJ20_toString_2.name) (Ea hZ 5 vZ) E hZ h h1
theorem T_J20_toString_2 {l : Launch} {E : EA} (C0 : Cx) (hE : ∀ i, TI 5 (E.2.2 i)) (h : AH) (hT : TH h) (p0_ : Int) (h_p0_ : InR p0_) {vZ : Int} {hZ : AH} (e : A_J20_toString_2 E.2.2 h p0_ = some (vZ, hZ)) : MetA l yJ20_toString_2 cJ20_toString_2 3 (Option.some (.object "java/lang/String")) 2 E h [(0, p0_)] 5 vZ hZ ∧ Old h hZ ∧ TH hZ ∧ TIr 5 vZ := by
  unfold A_J20_toString_2 at e
  refine a_start (own := RJ20) C0 [(0, p0_)] hT rfl rfl rfl (fun C => ?_)
  have hO := Old.rf h
  show X C (Z_J20_toString_2 C l E h hZ vZ h) [(0, (0, p0_))] 0 []
  refine x_iload_n Ma.x dJ20_toString_2_0 0 rfl ?_
  obtain ⟨v1, e1, e⟩ := bds e
  refine a_callS Ma.b hT hO [(0, p0_)] [] [(0, v1)] (T_J20_stringSize C hE h hT p0_ h_p0_ e1) dJ20_toString_2_1 q1927 q1797 q241 q1798 ck_J20_stringSize rfl rfl rfl rfl rfl (fun tv1 _ _ => ?_)
  refine x_istore_n Ma.x (lv' := [(1, (0, v1)), (0, (0, p0_))]) dJ20_toString_2_4 [0] rfl rfl (by decide) ?_
  refine h_gets Ma.b (i := 0) (t := 0) (x := 1) rfl q1928 (Or.inl rfl) dJ20_toString_2_5 ?_
  refine x_if_eq Ma.x 32 dJ20_toString_2_8 rfl (litI rfl) e (fun e => ?_) (fun e => ?_)
  · cases e
  · refine x_iload_n Ma.x dJ20_toString_2_11 0 rfl ?_
    refine h_newa Ma.ga Ma.rm nA_B hT hO dJ20_toString_2_12 e (fun v2 h3 tv2 gv2 Th3 Oh3 e => ?_)
    refine x_astore_n Ma.x (lv' := [(2, (2, v2)), (1, (0, v1)), (0, (0, p0_))]) dJ20_toString_2_14 [0, 1] rfl rfl (by decide) ?_
    refine x_iload_n Ma.x dJ20_toString_2_15 2 rfl ?_
    refine x_iload_n Ma.x dJ20_toString_2_16 1 rfl ?_
    refine x_aload_n Ma.x dJ20_toString_2_17 0 rfl ?_
    obtain ⟨⟨v4, h5⟩, e1, e⟩ := bds e
    refine a_callS Ma.b Th3 Oh3 [(0, p0_), (0, v1), (2, v2)] [] [(0, v4)] (T_J20_getChars C hE h3 Th3 p0_ v1 v2 h_p0_ tv1 tv2 e1) dJ20_toString_2_18 q1929 q1800 q241 q1801 ck_J20_getChars rfl rfl rfl rfl rfl (fun tv4 Th5 Oh5 => ?_)
    refine x_pop Ma.x dJ20_toString_2_21 rfl ?_
    refine h_new Ma.ga Ma.rm ⟨by decide, by decide, (RJ0, TJ0, 4), 4, rfl, rfl, q1930, q1745, q219, Or.inr cl_1⟩ Th5 Oh5 dJ20_toString_2_22 e (fun v6 h7 tv6 gv6 Th7 Oh7 e => ?_)
    refine x_dup Ma.x dJ20_toString_2_25 rfl ?_
    refine x_aload_n Ma.x dJ20_toString_2_26 0 rfl ?_
    refine x_iconst Ma.x dJ20_toString_2_27 ?_
    obtain ⟨h8, e1, e⟩ := bds e
    refine a_callI Ma.b Th7 Oh7 [(2, v2), (0, 0)] [(2, v6)] [(2, v6)] (T_J0_init_3 C hE h7 Th7 v6 v2 0 tv6 tv2 ⟨by decide, by decide⟩ gv6 e1) gv6 (by decide) dJ20_toString_2_28 q1931 q1932 q219 q1933 rfl ck_J0_init_3 rfl rfl rfl rfl rfl (fun _ Th8 Oh8 => ?_)
    exact a_reta dJ20_toString_2_31 (Or.inl ⟨_, rfl⟩) (congrArg Prod.fst (Option.some.inj e)) (congrArg Prod.snd (Option.some.inj e)) Th8 tv6
def A_J20_toString (k : Nat → Int) (h : AH) (this : Int) : Option (Int × AH) :=
  (gf h 2 0 this).bind fun v1 =>
  (A_J20_toString_2 k h v1).bind fun (v2, h3) =>
  some (v2, h3)
theorem ck_J20_toString : CkA yJ20_toString 0 := ⟨by decide, by decide, by decide +kernel⟩
abbrev Z_J20_toString (C : Cx) (l : Launch) (E : EA) (h : AH) (hZ : AH) (vZ : Int) (h1 : AH) : Zs := zA (Ma C cJ20_toString 1 RJ20 E l 3 h hZ 5 vZ (Option.some (.object "java/lang/String")) yJ20_toString.name) (Ea hZ 5 vZ) E hZ h h1
theorem T_J20_toString {l : Launch} {E : EA} (C0 : Cx) (hE : ∀ i, TI 5 (E.2.2 i)) (h : AH) (hT : TH h) (this : Int) (h_this : TI 5 this) (ht : aT h this = 2) {vZ : Int} {hZ : AH} (e : A_J20_toString E.2.2 h this = some (vZ, hZ)) : MetA l yJ20_toString cJ20_toString 1 (Option.some (.object "java/lang/String")) 3 E h [(2, this)] 5 vZ hZ ∧ Old h hZ ∧ TH hZ ∧ TIr 5 vZ := by
  unfold A_J20_toString at e
  refine a_start (own := RJ20) C0 [(2, this)] hT rfl rfl rfl (fun C => ?_)
  have hO := Old.rf h
  show X C (Z_J20_toString C l E h hZ vZ h) [(0, (2, this))] 0 []
  refine x_aload_n Ma.x dJ20_toString_0 0 rfl ?_
  refine g_get Ma.ga fH_J20_205_J20 (c := 0) (kd := 0) rfl rfl hT dJ20_toString_1 e (fun v1 tv1 e => ?_)
  obtain ⟨⟨v2, h3⟩, e1, e⟩ := bds e
  refine a_callS Ma.b hT hO [(0, v1)] [] [(2, v2)] (T_J20_toString_2 C hE h hT v1 tv1 e1) dJ20_toString_4 q1924 q1925 q241 q1926 ck_J20_toString_2 rfl rfl rfl rfl rfl (fun tv2 Th3 Oh3 => ?_)
  exact a_reta dJ20_toString_7 (Or.inl ⟨_, rfl⟩) (congrArg Prod.fst (Option.some.inj e)) (congrArg Prod.snd (Option.some.inj e)) Th3 tv2
def A_J21_init (h : AH) (this : Int) : Option (Unit) :=
  some ()
theorem ck_J21_init : CkA yJ21_init 0 := ⟨by decide, by decide, by decide +kernel⟩
abbrev Z_J21_init (C : Cx) (l : Launch) (E : EA) (h : AH) (h1 : AH) : Zs := zA (Ma C cJ21_init 1 RJ21 E l 1 h h 6 0 none yJ21_init.name) (Ea h 6 0) E h h h1
theorem T_J21_init {l : Launch} {E : EA} (C0 : Cx) (hE : ∀ i, TI 5 (E.2.2 i)) (h : AH) (hT : TH h) (this : Int) (h_this : TI 5 this) {tt : Nat} (ht : aT h this = tt) (tt0 : tt ≠ 0) (e : A_J21_init h this = some ()) : MetA l yJ21_init cJ21_init 1 none 1 E h [(2, this)] 6 0 h ∧ Old h h ∧ TH h ∧ TIr 6 0 := by
  unfold A_J21_init at e
  refine a_start (own := RJ21) C0 [(2, this)] hT rfl rfl rfl (fun C => ?_)
  have hO := Old.rf h
  show X C (Z_J21_init C l E h h) [(0, (2, this))] 0 []
  refine x_aload_n Ma.x dJ21_init_0 0 rfl ?_
  refine a_objInit Ma.b hT ht tt0 rfl rfl dJ21_init_1 q916 q280 q281 ?_
  exact a_retv dJ21_init_4 rfl hT
def A_J22_checkIndex (h : AH) (p0_ : Int) (p1_ : Int) : Option (Int) :=
  (A_J2_checkIndex h p0_ p1_ (-1)).bind fun v1 =>
  some v1
theorem ck_J22_checkIndex : CkA yJ22_checkIndex 2 := ⟨by decide, by decide, by decide +kernel⟩
abbrev Z_J22_checkIndex (C : Cx) (l : Launch) (E : EA) (h : AH) (vZ : Int) (h1 : AH) : Zs := zA (Ma C cJ22_checkIndex 2 RJ22 E l 1 h h 0 vZ (Option.some .int) yJ22_checkIndex.name) (Ea h 0 vZ) E h h h1
theorem T_J22_checkIndex {l : Launch} {E : EA} (C0 : Cx) (hE : ∀ i, TI 5 (E.2.2 i)) (h : AH) (hT : TH h) (p0_ : Int) (p1_ : Int) (h_p0_ : InR p0_) (h_p1_ : InR p1_) {vZ : Int} (e : A_J22_checkIndex h p0_ p1_ = some vZ) : MetA l yJ22_checkIndex cJ22_checkIndex 2 (Option.some .int) 1 E h [(0, p0_), (0, p1_)] 0 vZ h ∧ Old h h ∧ TH h ∧ TIr 0 vZ := by
  unfold A_J22_checkIndex at e
  refine a_start (own := RJ22) C0 [(0, p0_), (0, p1_)] hT rfl rfl rfl (fun C => ?_)
  have hO := Old.rf h
  show X C (Z_J22_checkIndex C l E h vZ h) [(0, (0, p0_)), (1, (0, p1_))] 0 []
  refine x_iload_n Ma.x dJ22_checkIndex_0 0 rfl ?_
  refine x_iload_n Ma.x dJ22_checkIndex_1 1 rfl ?_
  refine x_null Ma.x dJ22_checkIndex_2 ?_
  obtain ⟨v1, e1, e⟩ := bds e
  refine a_callS Ma.b hT hO [(0, p0_), (0, p1_), (2, (-1))] [] [(0, v1)] (T_J2_checkIndex C hE h hT p0_ p1_ (-1) h_p0_ h_p1_ (Int.le_refl _) e1) dJ22_checkIndex_3 q1212 q338 q221 q339 ck_J2_checkIndex rfl rfl rfl rfl rfl (fun tv1 _ _ => ?_)
  exact a_reti dJ22_checkIndex_6 (Option.some.inj e) rfl hT tv1
def A_J4_init (h : AH) (this : Int) : Option (Unit) :=
  some ()
theorem ck_J4_init : CkA yJ4_init 0 := ⟨by decide, by decide, by decide +kernel⟩
abbrev Z_J4_init (C : Cx) (l : Launch) (E : EA) (h : AH) (h1 : AH) : Zs := zA (Ma C cJ4_init 1 RJ4 E l 1 h h 6 0 none yJ4_init.name) (Ea h 6 0) E h h h1
theorem T_J4_init {l : Launch} {E : EA} (C0 : Cx) (hE : ∀ i, TI 5 (E.2.2 i)) (h : AH) (hT : TH h) (this : Int) (h_this : TI 5 this) (ht : aT h this = 3) (e : A_J4_init h this = some ()) : MetA l yJ4_init cJ4_init 1 none 1 E h [(2, this)] 6 0 h ∧ Old h h ∧ TH h ∧ TIr 6 0 := by
  unfold A_J4_init at e
  refine a_start (own := RJ4) C0 [(2, this)] hT rfl rfl rfl (fun C => ?_)
  have hO := Old.rf h
  show X C (Z_J4_init C l E h h) [(0, (2, this))] 0 []
  refine x_aload_n Ma.x dJ4_init_0 0 rfl ?_
  refine a_objInit Ma.b hT ht (by decide) rfl rfl dJ4_init_1 q471 q280 q281 ?_
  exact a_retv dJ4_init_4 rfl hT
def A_J5_init (h : AH) (this : Int) : Option (AH) :=
  (A_J4_init h this).bind fun _ =>
  (pf h 3 0 this 0).bind fun h1 =>
  some h1
theorem ck_J5_init : CkA yJ5_init 0 := ⟨by decide, by decide, by decide +kernel⟩
abbrev Z_J5_init (C : Cx) (l : Launch) (E : EA) (h : AH) (hZ : AH) (h1 : AH) : Zs := zA (Ma C cJ5_init 1 RJ5 E l 2 h hZ 6 0 none yJ5_init.name) (Ea hZ 6 0) E hZ h h1
theorem T_J5_init {l : Launch} {E : EA} (C0 : Cx) (hE : ∀ i, TI 5 (E.2.2 i)) (h : AH) (hT : TH h) (this : Int) (h_this : TI 5 this) (ht : aT h this = 3) {hZ : AH} (e : A_J5_init h this = some hZ) : MetA l yJ5_init cJ5_init 1 none 2 E h [(2, this)] 6 0 hZ ∧ Old h hZ ∧ TH hZ ∧ TIr 6 0 := by
  unfold A_J5_init at e
  refine a_start (own := RJ5) C0 [(2, this)] hT rfl rfl rfl (fun C => ?_)
  have hO := Old.rf h
  show X C (Z_J5_init C l E h hZ h) [(0, (2, this))] 0 []
  refine x_aload_n Ma.x dJ5_init_0 0 rfl ?_
  obtain ⟨_, e1, e⟩ := bds e
  refine a_callI Ma.b hT hO [] [] [] (T_J4_init C hE h hT this h_this ht e1) ht (by decide) dJ5_init_1 q468 q469 q223 q470 rfl ck_J4_init rfl rfl rfl rfl rfl (fun _ _ _ => ?_)
  refine x_aload_n Ma.x dJ5_init_4 0 rfl ?_
  refine x_iconst Ma.x dJ5_init_5 ?_
  refine g_put Ma.ga fH_J5_7_J6 (c := 0) (kd := 0) rfl rfl (NoFin.of rfl) hT hO (litI rfl) dJ5_init_6 e (fun h1 Th1 Oh1 _ e => ?_)
  exact a_retv dJ5_init_9 (Option.some.inj e) Th1
def A_J6_init (k : Nat → Int) (h : AH) (this : Int) : Option (AH) :=
  (A_J5_init h this).bind fun h1 =>
  (pf h1 3 1 this (k 0)).bind fun h2 =>
  some h2
theorem ck_J6_init : CkA yJ6_init 0 := ⟨by decide, by decide, by decide +kernel⟩
abbrev Z_J6_init (C : Cx) (l : Launch) (E : EA) (h : AH) (hZ : AH) (h1 : AH) : Zs := zA (Ma C cJ6_init 1 RJ6 E l 3 h hZ 6 0 none yJ6_init.name) (Ea hZ 6 0) E hZ h h1
theorem T_J6_init {l : Launch} {E : EA} (C0 : Cx) (hE : ∀ i, TI 5 (E.2.2 i)) (h : AH) (hT : TH h) (this : Int) (h_this : TI 5 this) (ht : aT h this = 3) {hZ : AH} (e : A_J6_init E.2.2 h this = some hZ) : MetA l yJ6_init cJ6_init 1 none 3 E h [(2, this)] 6 0 hZ ∧ Old h hZ ∧ TH hZ ∧ TIr 6 0 := by
  unfold A_J6_init at e
  refine a_start (own := RJ6) C0 [(2, this)] hT rfl rfl rfl (fun C => ?_)
  have hO := Old.rf h
  show X C (Z_J6_init C l E h hZ h) [(0, (2, this))] 0 []
  refine x_aload_n Ma.x dJ6_init_0 0 rfl ?_
  obtain ⟨h1, e1, e⟩ := bds e
  refine a_callI Ma.b hT hO [] [] [] (T_J5_init C hE h hT this h_this ht e1) ht (by decide) dJ6_init_1 q465 q466 q224 q467 rfl ck_J5_init rfl rfl rfl rfl rfl (fun _ Th1 Oh1 => ?_)
  refine x_aload_n Ma.x dJ6_init_4 0 rfl ?_
  refine h_gets Ma.b (i := 1) (t := 2) (x := E.2.2 0) rfl q472 (Or.inl rfl) dJ6_init_5 ?_
  refine g_put Ma.ga fH_J6_9_J6 (c := 5) (kd := 2) rfl rfl (NoFin.of rfl) Th1 Oh1 (hE 0) dJ6_init_8 e (fun h2 Th2 Oh2 _ e => ?_)
  exact a_retv dJ6_init_11 (Option.some.inj e) Th2
def A_J6_grow_2 (k : Nat → Int) (h : AH) (this : Int) (p0_ : Int) : Option (Int × AH) :=
  (gf h 3 1 this).bind fun v1 =>
  (al h 68 v1).bind fun v2 =>
  jn (α := AH) (fun h3 =>
    (A_J16_newLength h3 v2 (wr (p0_ - v2)) (shr32 v2 1)).bind fun v5 =>
    (gf h3 3 1 this).bind fun v6 =>
    (A_J18_copyOf k h3 v6 v5).bind fun (v7, h8) =>
    (pf h8 3 1 this v7).bind fun h9 =>
    some (v7, h9)) fun j10 =>
  if 0 < v2 then
    j10 h
  else
    (gf h 3 1 this).bind fun v11 =>
    if v11 = (k 0) then
      (nwa h 68 (mx32 10 p0_)).bind fun (v12, h13) =>
      (pf h13 3 1 this v12).bind fun h14 =>
      some (v12, h14)
    else
      j10 h
theorem ck_J6_grow_2 : CkA yJ6_grow_2 1 := ⟨by decide, by decide, by decide +kernel⟩
abbrev Z_J6_grow_2 (C : Cx) (l : Launch) (E : EA) (h : AH) (hZ : AH) (vZ : Int) (h1 : AH) : Zs := zA (Ma C cJ6_grow_2 4 RJ6 E l 3 h hZ 5 vZ (Option.some (.array (.object "java/lang/Object"))) yJ6_grow_2.name) (Ea hZ 5 vZ) E hZ h h1
theorem T_J6_grow_2 {l : Launch} {E : EA} (C0 : Cx) (hE : ∀ i, TI 5 (E.2.2 i)) (h : AH) (hT : TH h) (this : Int) (p0_ : Int) (h_this : TI 5 this) (h_p0_ : InR p0_) (ht : aT h this = 3) {vZ : Int} {hZ : AH} (e : A_J6_grow_2 E.2.2 h this p0_ = some (vZ, hZ)) : MetA l yJ6_grow_2 cJ6_grow_2 4 (Option.some (.array (.object "java/lang/Object"))) 3 E h [(2, this), (0, p0_)] 5 vZ hZ ∧ Old h hZ ∧ TH hZ ∧ TIr 5 vZ := by
  unfold A_J6_grow_2 at e
  refine a_start (own := RJ6) C0 [(2, this), (0, p0_)] hT rfl rfl rfl (fun C => ?_)
  have hO := Old.rf h
  show X C (Z_J6_grow_2 C l E h hZ vZ h) [(0, (2, this)), (1, (0, p0_))] 0 []
  refine x_aload_n Ma.x dJ6_grow_2_0 0 rfl ?_
  refine g_get Ma.ga fH_J6_9_J6 (c := 5) (kd := 2) rfl rfl hT dJ6_grow_2_1 e (fun v1 tv1 e => ?_)
  refine h_len Ma.ga (t := 68) (by decide) rfl hT dJ6_grow_2_4 e (fun v2 tv2 e => ?_)
  refine x_istore_n Ma.x (lv' := [(2, (0, v2)), (0, (2, this)), (1, (0, p0_))]) dJ6_grow_2_5 [0, 1] rfl rfl (by decide) ?_
  refine x_iload_n Ma.x dJ6_grow_2_6 0 rfl ?_
  refine jn_rule e (Y := fun h3 => TH h3 → Old h h3 → X C (Z_J6_grow_2 C l E h hZ vZ h3) [(0, (2, this)), (1, (0, p0_)), (2, (0, v2))] 20 []) ?_ ?_
  · rintro h3 e  Th3 Oh3
    refine x_iload_n Ma.x dJ6_grow_2_20 2 rfl ?_
    refine x_iload_n Ma.x dJ6_grow_2_21 1 rfl ?_
    refine x_iload_n Ma.x dJ6_grow_2_22 2 rfl ?_
    refine x_isub Ma.x dJ6_grow_2_23 ?_
    refine x_iload_n Ma.x dJ6_grow_2_24 2 rfl ?_
    refine x_iconst Ma.x dJ6_grow_2_25 ?_
    refine x_ishr Ma.x dJ6_grow_2_26 ?_
    obtain ⟨v5, e1, e⟩ := bds e
    refine a_callS Ma.b Th3 Oh3 [(0, v2), (0, (wr (p0_ - v2))), (0, (shr32 v2 1))] [] [(0, v5)] (T_J16_newLength C hE h3 Th3 v2 (wr (p0_ - v2)) (shr32 v2 1) tv2 (wr_in _) (shr32_in _ _) e1) dJ6_grow_2_27 q791 q792 q236 q793 ck_J16_newLength rfl rfl rfl rfl rfl (fun tv5 _ _ => ?_)
    refine x_istore_n Ma.x (lv' := [(3, (0, v5)), (0, (2, this)), (1, (0, p0_)), (2, (0, v2))]) dJ6_grow_2_30 [0, 1, 2] rfl rfl (by decide) ?_
    refine x_aload_n Ma.x dJ6_grow_2_31 1 rfl ?_
    refine x_aload_n Ma.x dJ6_grow_2_32 1 rfl ?_
    refine g_get Ma.ga fH_J6_9_J6 (c := 5) (kd := 2) rfl rfl Th3 dJ6_grow_2_33 e (fun v6 tv6 e => ?_)
    refine x_iload_n Ma.x dJ6_grow_2_36 0 rfl ?_
    obtain ⟨⟨v7, h8⟩, e1, e⟩ := bds e
    refine a_callS Ma.b Th3 Oh3 [(2, v6), (0, v5)] [(2, this)] [(2, v7), (2, this)] (T_J18_copyOf C hE h3 Th3 v6 v5 tv6 tv5 e1) dJ6_grow_2_37 q801 q802 q238 q803 ck_J18_copyOf rfl rfl rfl rfl rfl (fun tv7 Th8 Oh8 => ?_)
    refine x_dup_x1 Ma.x dJ6_grow_2_40 rfl rfl ?_
    refine g_put Ma.ga fH_J6_9_J6 (c := 5) (kd := 2) rfl rfl (NoFin.of rfl) Th8 Oh8 tv7 dJ6_grow_2_41 e (fun h9 Th9 Oh9 _ e => ?_)
    exact a_reta dJ6_grow_2_44 (Or.inr ⟨_, rfl⟩) (congrArg Prod.fst (Option.some.inj e)) (congrArg Prod.snd (Option.some.inj e)) Th9 tv7
  · intro j10 hj10 e
    refine x_if_gt Ma.x 20 dJ6_grow_2_7 rfl tv2 e (fun e => ?_) (fun e => ?_)
    · exact x_drop [1, 2, 0] rfl (hj10 h e hT hO)
    · refine x_aload_n Ma.x dJ6_grow_2_10 1 rfl ?_
      refine g_get Ma.ga fH_J6_9_J6 (c := 5) (kd := 2) rfl rfl hT dJ6_grow_2_11 e (fun v11 tv11 e => ?_)
      refine h_gets Ma.b (i := 1) (t := 2) (x := E.2.2 0) rfl q472 (Or.inl rfl) dJ6_grow_2_14 ?_
      refine x_acmp_eq Ma.x 45 dJ6_grow_2_17 rfl tv11 (hE 0) e (fun e => ?_) (fun e => ?_)
      · refine x_aload_n Ma.x dJ6_grow_2_45 1 rfl ?_
        refine x_bip Ma.x dJ6_grow_2_46 rfl ?_
        refine x_iload_n Ma.x dJ6_grow_2_48 2 rfl ?_
        refine h_max Ma.b hO (litI rfl) h_p0_ dJ6_grow_2_49 q859 rfl rfl ?_
        refine h_anew Ma.ga Ma.rm (Ma.ao (.head _)) (t := 68) ⟨by decide, rfl, rfl, rfl⟩ q860 hT hO dJ6_grow_2_52 e (fun v12 h13 tv12 gv12 Th13 Oh13 e => ?_)
        refine x_dup_x1 Ma.x dJ6_grow_2_55 rfl rfl ?_
        refine g_put Ma.ga fH_J6_9_J6 (c := 5) (kd := 2) rfl rfl (NoFin.of rfl) Th13 Oh13 tv12 dJ6_grow_2_56 e (fun h14 Th14 Oh14 _ e => ?_)
        exact a_reta dJ6_grow_2_59 (Or.inr ⟨_, rfl⟩) (congrArg Prod.fst (Option.some.inj e)) (congrArg Prod.snd (Option.some.inj e)) Th14 tv12
      · exact x_drop [1, 2, 0] rfl (hj10 h e hT hO)
def A_J6_grow (k : Nat → Int) (h : AH) (this : Int) : Option (Int × AH) :=
  (gf h 3 2 this).bind fun v1 =>
  (A_J6_grow_2 k h this (wr (v1 + 1))).bind fun (v2, h3) =>
  some (v2, h3)
theorem ck_J6_grow : CkA yJ6_grow 0 := ⟨by decide, by decide, by decide +kernel⟩
abbrev Z_J6_grow (C : Cx) (l : Launch) (E : EA) (h : AH) (hZ : AH) (vZ : Int) (h1 : AH) : Zs := zA (Ma C cJ6_grow 1 RJ6 E l 4 h hZ 5 vZ (Option.some (.array (.object "java/lang/Object"))) yJ6_grow.name) (Ea hZ 5 vZ) E hZ h h1
theorem T_J6_grow {l : Launch} {E : EA} (C0 : Cx) (hE : ∀ i, TI 5 (E.2.2 i)) (h : AH) (hT : TH h) (this : Int) (h_this : TI 5 this) (ht : aT h this = 3) {vZ : Int} {hZ : AH} (e : A_J6_grow E.2.2 h this = some (vZ, hZ)) : MetA l yJ6_grow cJ6_grow 1 (Option.some (.array (.object "java/lang/Object"))) 4 E h [(2, this)] 5 vZ hZ ∧ Old h hZ ∧ TH hZ ∧ TIr 5 vZ := by
  unfold A_J6_grow at e
  refine a_start (own := RJ6) C0 [(2, this)] hT rfl rfl rfl (fun C => ?_)
  have hO := Old.rf h
  show X C (Z_J6_grow C l E h hZ vZ h) [(0, (2, this))] 0 []
  refine x_aload_n Ma.x dJ6_grow_0 0 rfl ?_
  refine x_aload_n Ma.x dJ6_grow_1 0 rfl ?_
  refine g_get Ma.ga fH_J6_48_J6 (c := 0) (kd := 0) rfl rfl hT dJ6_grow_2 e (fun v1 tv1 e => ?_)
  refine x_iconst Ma.x dJ6_grow_5 ?_
  refine x_iadd Ma.x dJ6_grow_6 ?_
  obtain ⟨⟨v2, h3⟩, e1, e⟩ := bds e
  refine a_callV Ma.b hT hO [(0, (wr (v1 + 1)))] [] [(2, v2)] (T_J6_grow_2 C hE h hT this (wr (v1 + 1)) h_this (wr_in _) ht e1) ht ⟨by decide, by decide, _, rfl, rfl⟩ dJ6_grow_7 q787 q789 qs10 q225 q790 ck_J6_grow_2 rfl rfl rfl rfl rfl (fun tv2 Th3 Oh3 => ?_)
  exact a_reta dJ6_grow_10 (Or.inr ⟨_, rfl⟩) (congrArg Prod.fst (Option.some.inj e)) (congrArg Prod.snd (Option.some.inj e)) Th3 tv2
def A_J6_add_2 (k : Nat → Int) (h : AH) (this : Int) (p0_ : Int) (p1_ : Int) (p2_ : Int) : Option (AH) :=
  (al h 68 p1_).bind fun v1 =>
  (
    if p2_ = v1 then
      (A_J6_grow k h this).bind fun (v8, h9) =>
      some (v8, h9)
    else
      some (p1_, h) : Option (Int × AH)).bind fun (l2_2, h3) =>
  (pao h3 68 l2_2 p2_ p0_).bind fun h5 =>
  (pf h5 3 2 this (wr (p2_ + 1))).bind fun h6 =>
  some h6
theorem ck_J6_add_2 : CkA yJ6_add_2 3 := ⟨by decide, by decide, by decide +kernel⟩
abbrev Z_J6_add_2 (C : Cx) (l : Launch) (E : EA) (h : AH) (hZ : AH) (h1 : AH) : Zs := zA (Ma C cJ6_add_2 4 RJ6 E l 5 h hZ 6 0 none yJ6_add_2.name) (Ea hZ 6 0) E hZ h h1
theorem T_J6_add_2 {l : Launch} {E : EA} (C0 : Cx) (hE : ∀ i, TI 5 (E.2.2 i)) (h : AH) (hT : TH h) (this : Int) (p0_ : Int) (p1_ : Int) (p2_ : Int) (h_this : TI 5 this) (h_p0_ : TI 5 p0_) (h_p1_ : TI 5 p1_) (h_p2_ : InR p2_) (ht : aT h this = 3) {hZ : AH} (e : A_J6_add_2 E.2.2 h this p0_ p1_ p2_ = some hZ) : MetA l yJ6_add_2 cJ6_add_2 4 none 5 E h [(2, this), (2, p0_), (2, p1_), (0, p2_)] 6 0 hZ ∧ Old h hZ ∧ TH hZ ∧ TIr 6 0 := by
  unfold A_J6_add_2 at e
  refine a_start (own := RJ6) C0 [(2, this), (2, p0_), (2, p1_), (0, p2_)] hT rfl rfl rfl (fun C => ?_)
  have hO := Old.rf h
  show X C (Z_J6_add_2 C l E h hZ h) [(0, (2, this)), (1, (2, p0_)), (2, (2, p1_)), (3, (0, p2_))] 0 []
  refine x_iload_n Ma.x dJ6_add_2_0 3 rfl ?_
  refine x_aload_n Ma.x dJ6_add_2_1 2 rfl ?_
  refine h_len Ma.ga (t := 68) (by decide) rfl hT dJ6_add_2_2 e (fun v1 tv1 e => ?_)
  refine bd_rule e (Y := fun (l2_2, h3) => TI 5 l2_2 → TH h3 → Old h h3 → X C (Z_J6_add_2 C l E h hZ h3) [(0, (2, this)), (1, (2, p0_)), (2, (2, l2_2)), (3, (0, p2_))] 11 []) ?_ ?_
  · rintro ⟨l2_2, h3⟩ e tl2_2 Th3 Oh3
    refine x_aload_n Ma.x dJ6_add_2_11 2 rfl ?_
    refine x_iload_n Ma.x dJ6_add_2_12 3 rfl ?_
    refine x_aload_n Ma.x dJ6_add_2_13 1 rfl ?_
    refine h_aast Ma.ga Ma.kb (t := 68) ⟨by decide, rfl, rfl, rfl⟩ Th3 Oh3 h_p0_ dJ6_add_2_14 e (fun h5 Th5 Oh5 _ e => ?_)
    refine x_aload_n Ma.x dJ6_add_2_15 0 rfl ?_
    refine x_iload_n Ma.x dJ6_add_2_16 3 rfl ?_
    refine x_iconst Ma.x dJ6_add_2_17 ?_
    refine x_iadd Ma.x dJ6_add_2_18 ?_
    refine g_put Ma.ga fH_J6_48_J6 (c := 0) (kd := 0) rfl rfl (NoFin.of rfl) Th5 Oh5 (wr_in _) dJ6_add_2_19 e (fun h6 Th6 Oh6 _ e => ?_)
    exact a_retv dJ6_add_2_22 (Option.some.inj e) Th6
  · intro tt hY4 e
    refine x_icmp_ne Ma.x 11 dJ6_add_2_3 rfl h_p2_ tv1 e (fun e => ?_) (fun e => ?_)
    · refine x_aload_n Ma.x dJ6_add_2_6 0 rfl ?_
      obtain ⟨⟨v8, h9⟩, e1, e⟩ := bds e
      refine a_callV Ma.b hT hO [] [] [(2, v8)] (T_J6_grow C hE h hT this h_this ht e1) ht ⟨by decide, by decide, _, rfl, rfl⟩ dJ6_add_2_7 q783 q785 qs9 q225 q786 ck_J6_grow rfl rfl rfl rfl rfl (fun tv8 Th9 Oh9 => ?_)
      refine x_astore_n Ma.x (lv' := [(2, (2, v8)), (0, (2, this)), (1, (2, p0_)), (3, (0, p2_))]) dJ6_add_2_10 [0, 1, 3] rfl rfl (by decide) ?_
      cases e
      exact x_drop [1, 2, 0, 3] rfl (hY4 tv8 Th9 Oh9)
    · cases e
      exact x_drop [0, 1, 2, 3] rfl (hY4 h_p1_ hT hO)
def A_J6_add (k : Nat → Int) (h : AH) (this : Int) (p0_ : Int) : Option (Int × AH) :=
  (gf h 3 0 this).bind fun v1 =>
  (pf h 3 0 this (wr (v1 + 1))).bind fun h2 =>
  (gf h2 3 1 this).bind fun v3 =>
  (gf h2 3 2 this).bind fun v4 =>
  (A_J6_add_2 k h2 this p0_ v3 v4).bind fun h5 =>
  some (1, h5)
theorem ck_J6_add : CkA yJ6_add 1 := ⟨by decide, by decide, by decide +kernel⟩
abbrev Z_J6_add (C : Cx) (l : Launch) (E : EA) (h : AH) (hZ : AH) (vZ : Int) (h1 : AH) : Zs := zA (Ma C cJ6_add 2 RJ6 E l 6 h hZ 1 vZ (Option.some .boolean) yJ6_add.name) (Ea hZ 1 vZ) E hZ h h1
theorem T_J6_add {l : Launch} {E : EA} (C0 : Cx) (hE : ∀ i, TI 5 (E.2.2 i)) (h : AH) (hT : TH h) (this : Int) (p0_ : Int) (h_this : TI 5 this) (h_p0_ : TI 5 p0_) (ht : aT h this = 3) {vZ : Int} {hZ : AH} (e : A_J6_add E.2.2 h this p0_ = some (vZ, hZ)) : MetA l yJ6_add cJ6_add 2 (Option.some .boolean) 6 E h [(2, this), (2, p0_)] 1 vZ hZ ∧ Old h hZ ∧ TH hZ ∧ TIr 1 vZ := by
  unfold A_J6_add at e
  refine a_start (own := RJ6) C0 [(2, this), (2, p0_)] hT rfl rfl rfl (fun C => ?_)
  have hO := Old.rf h
  show X C (Z_J6_add C l E h hZ vZ h) [(0, (2, this)), (1, (2, p0_))] 0 []
  refine x_aload_n Ma.x dJ6_add_0 0 rfl ?_
  refine x_dup Ma.x dJ6_add_1 rfl ?_
  refine g_get Ma.ga fH_J6_63_J6 (c := 0) (kd := 0) rfl rfl hT dJ6_add_2 e (fun v1 tv1 e => ?_)
  refine x_iconst Ma.x dJ6_add_5 ?_
  refine x_iadd Ma.x dJ6_add_6 ?_
  refine g_put Ma.ga fH_J6_63_J6 (c := 0) (kd := 0) rfl rfl (NoFin.of rfl) hT hO (wr_in _) dJ6_add_7 e (fun h2 Th2 Oh2 _ e => ?_)
  refine x_aload_n Ma.x dJ6_add_10 0 rfl ?_
  refine x_aload_n Ma.x dJ6_add_11 1 rfl ?_
  refine x_aload_n Ma.x dJ6_add_12 0 rfl ?_
  refine g_get Ma.ga fH_J6_9_J6 (c := 5) (kd := 2) rfl rfl Th2 dJ6_add_13 e (fun v3 tv3 e => ?_)
  refine x_aload_n Ma.x dJ6_add_16 0 rfl ?_
  refine g_get Ma.ga fH_J6_48_J6 (c := 0) (kd := 0) rfl rfl Th2 dJ6_add_17 e (fun v4 tv4 e => ?_)
  obtain ⟨h5, e1, e⟩ := bds e
  refine a_callV Ma.b Th2 Oh2 [(2, p0_), (2, v3), (0, v4)] [] [] (T_J6_add_2 C hE h2 Th2 this p0_ v3 v4 h_this h_p0_ tv3 tv4 (Oh2.at hT ht (by decide)) e1) (Oh2.at hT ht (by decide)) ⟨by decide, by decide, _, rfl, rfl⟩ dJ6_add_20 q779 q781 qs8 q225 q782 ck_J6_add_2 rfl rfl rfl rfl rfl (fun _ Th5 Oh5 => ?_)
  refine x_iconst Ma.x dJ6_add_23 ?_
  exact a_retz dJ6_add_24 (congrArg Prod.fst (Option.some.inj e)) (congrArg Prod.snd (Option.some.inj e)) Th5 litZ1
def A_J6_size (h : AH) (this : Int) : Option (Int) :=
  (gf h 3 2 this).bind fun v1 =>
  some v1
theorem ck_J6_size : CkA yJ6_size 0 := ⟨by decide, by decide, by decide +kernel⟩
abbrev Z_J6_size (C : Cx) (l : Launch) (E : EA) (h : AH) (vZ : Int) (h1 : AH) : Zs := zA (Ma C cJ6_size 1 RJ6 E l 0 h h 0 vZ (Option.some .int) yJ6_size.name) (Ea h 0 vZ) E h h h1
theorem T_J6_size {l : Launch} {E : EA} (C0 : Cx) (hE : ∀ i, TI 5 (E.2.2 i)) (h : AH) (hT : TH h) (this : Int) (h_this : TI 5 this) (ht : aT h this = 3) {vZ : Int} (e : A_J6_size h this = some vZ) : MetA l yJ6_size cJ6_size 1 (Option.some .int) 0 E h [(2, this)] 0 vZ h ∧ Old h h ∧ TH h ∧ TIr 0 vZ := by
  unfold A_J6_size at e
  refine a_start (own := RJ6) C0 [(2, this)] hT rfl rfl rfl (fun C => ?_)
  have hO := Old.rf h
  show X C (Z_J6_size C l E h vZ h) [(0, (2, this))] 0 []
  refine x_aload_n Ma.x dJ6_size_0 0 rfl ?_
  refine g_get Ma.ga fH_J6_48_J6 (c := 0) (kd := 0) rfl rfl hT dJ6_size_1 e (fun v1 tv1 e => ?_)
  exact a_reti dJ6_size_4 (Option.some.inj e) rfl hT tv1
def A_J6_elementData (h : AH) (this : Int) (p0_ : Int) : Option (Int) :=
  (gf h 3 1 this).bind fun v1 =>
  (ga h 68 v1 p0_).bind fun v2 =>
  some v2
theorem ck_J6_elementData : CkA yJ6_elementData 1 := ⟨by decide, by decide, by decide +kernel⟩
abbrev Z_J6_elementData (C : Cx) (l : Launch) (E : EA) (h : AH) (vZ : Int) (h1 : AH) : Zs := zA (Ma C cJ6_elementData 2 RJ6 E l 0 h h 5 vZ (Option.some (.object "java/lang/Object")) yJ6_elementData.name) (Ea h 5 vZ) E h h h1
theorem T_J6_elementData {l : Launch} {E : EA} (C0 : Cx) (hE : ∀ i, TI 5 (E.2.2 i)) (h : AH) (hT : TH h) (this : Int) (p0_ : Int) (h_this : TI 5 this) (h_p0_ : InR p0_) (ht : aT h this = 3) {vZ : Int} (e : A_J6_elementData h this p0_ = some vZ) : MetA l yJ6_elementData cJ6_elementData 2 (Option.some (.object "java/lang/Object")) 0 E h [(2, this), (0, p0_)] 5 vZ h ∧ Old h h ∧ TH h ∧ TIr 5 vZ := by
  unfold A_J6_elementData at e
  refine a_start (own := RJ6) C0 [(2, this), (0, p0_)] hT rfl rfl rfl (fun C => ?_)
  have hO := Old.rf h
  show X C (Z_J6_elementData C l E h vZ h) [(0, (2, this)), (1, (0, p0_))] 0 []
  refine x_aload_n Ma.x dJ6_elementData_0 0 rfl ?_
  refine g_get Ma.ga fH_J6_9_J6 (c := 5) (kd := 2) rfl rfl hT dJ6_elementData_1 e (fun v1 tv1 e => ?_)
  refine x_iload_n Ma.x dJ6_elementData_4 1 rfl ?_
  refine h_aald Ma.ga (t := 68) ⟨by decide, rfl, rfl, rfl⟩ hT dJ6_elementData_5 e (fun v2 tv2 e => ?_)
  exact a_reta dJ6_elementData_6 (Or.inl ⟨_, rfl⟩) (Option.some.inj e) rfl hT tv2
def A_J6_get (h : AH) (this : Int) (p0_ : Int) : Option (Int) :=
  (gf h 3 2 this).bind fun v1 =>
  (A_J22_checkIndex h p0_ v1).bind fun v2 =>
  (A_J6_elementData h this p0_).bind fun v3 =>
  some v3
theorem ck_J6_get : CkA yJ6_get 1 := ⟨by decide, by decide, by decide +kernel⟩
abbrev Z_J6_get (C : Cx) (l : Launch) (E : EA) (h : AH) (vZ : Int) (h1 : AH) : Zs := zA (Ma C cJ6_get 2 RJ6 E l 2 h h 5 vZ (Option.some (.object "java/lang/Object")) yJ6_get.name) (Ea h 5 vZ) E h h h1
theorem T_J6_get {l : Launch} {E : EA} (C0 : Cx) (hE : ∀ i, TI 5 (E.2.2 i)) (h : AH) (hT : TH h) (this : Int) (p0_ : Int) (h_this : TI 5 this) (h_p0_ : InR p0_) (ht : aT h this = 3) {vZ : Int} (e : A_J6_get h this p0_ = some vZ) : MetA l yJ6_get cJ6_get 2 (Option.some (.object "java/lang/Object")) 2 E h [(2, this), (0, p0_)] 5 vZ h ∧ Old h h ∧ TH h ∧ TIr 5 vZ := by
  unfold A_J6_get at e
  refine a_start (own := RJ6) C0 [(2, this), (0, p0_)] hT rfl rfl rfl (fun C => ?_)
  have hO := Old.rf h
  show X C (Z_J6_get C l E h vZ h) [(0, (2, this)), (1, (0, p0_))] 0 []
  refine x_iload_n Ma.x dJ6_get_0 1 rfl ?_
  refine x_aload_n Ma.x dJ6_get_1 0 rfl ?_
  refine g_get Ma.ga fH_J6_48_J6 (c := 0) (kd := 0) rfl rfl hT dJ6_get_2 e (fun v1 tv1 e => ?_)
  obtain ⟨v2, e1, e⟩ := bds e
  refine a_callS Ma.b hT hO [(0, p0_), (0, v1)] [] [(0, v2)] (T_J22_checkIndex C hE h hT p0_ v1 h_p0_ tv1 e1) dJ6_get_5 q1209 q1210 q263 q1211 ck_J22_checkIndex rfl rfl rfl rfl rfl (fun tv2 _ _ => ?_)
  refine x_pop Ma.x dJ6_get_8 rfl ?_
  refine x_aload_n Ma.x dJ6_get_9 0 rfl ?_
  refine x_iload_n Ma.x dJ6_get_10 1 rfl ?_
  obtain ⟨v3, e1, e⟩ := bds e
  refine a_callV Ma.b hT hO [(0, p0_)] [] [(2, v3)] (T_J6_elementData C hE h hT this p0_ h_this h_p0_ ht e1) ht ⟨by decide, by decide, _, rfl, rfl⟩ dJ6_get_11 q1213 q1214 q1215 q225 q1216 ck_J6_elementData rfl rfl rfl rfl rfl (fun tv3 _ _ => ?_)
  exact a_reta dJ6_get_14 (Or.inl ⟨_, rfl⟩) (Option.some.inj e) rfl hT tv3
def B_J6_clear_27 (v3 : Int) (v4 : Int) (rec10 : (Int × AH) → Option (AH)) : (Int × AH) → Option (AH) := fun (l3_6, h7) =>
  if l3_6 < v4 then
    (pao h7 68 v3 l3_6 (-1)).bind fun h11 =>
    bd1 (wr (l3_6 + 1)) fun l3_12 =>
    rec10 (l3_12, h11)
  else
    some h7
def A_J6_clear (h : AH) (this : Int) : Option (AH) :=
  (gf h 3 0 this).bind fun v1 =>
  (pf h 3 0 this (wr (v1 + 1))).bind fun h2 =>
  (gf h2 3 1 this).bind fun v3 =>
  (gf h2 3 2 this).bind fun v4 =>
  (pf h2 3 2 this 0).bind fun h5 =>
  (lp (B_J6_clear_27 v3 v4) FU (0, h5)).bind fun h8 =>
  some h8
theorem ck_J6_clear : CkA yJ6_clear 0 := ⟨by decide, by decide, by decide +kernel⟩
abbrev Z_J6_clear (C : Cx) (l : Launch) (E : EA) (h : AH) (hZ : AH) (h1 : AH) : Zs := zA (Ma C cJ6_clear 4 RJ6 E l 0 h hZ 6 0 none yJ6_clear.name) (Ea hZ 6 0) E hZ h h1
theorem T_J6_clear {l : Launch} {E : EA} (C0 : Cx) (hE : ∀ i, TI 5 (E.2.2 i)) (h : AH) (hT : TH h) (this : Int) (h_this : TI 5 this) (ht : aT h this = 3) {hZ : AH} (e : A_J6_clear h this = some hZ) : MetA l yJ6_clear cJ6_clear 4 none 0 E h [(2, this)] 6 0 hZ ∧ Old h hZ ∧ TH hZ ∧ TIr 6 0 := by
  unfold A_J6_clear at e
  refine a_start (own := RJ6) C0 [(2, this)] hT rfl rfl rfl (fun C => ?_)
  have hO := Old.rf h
  show X C (Z_J6_clear C l E h hZ h) [(0, (2, this))] 0 []
  refine x_aload_n Ma.x dJ6_clear_0 0 rfl ?_
  refine x_dup Ma.x dJ6_clear_1 rfl ?_
  refine g_get Ma.ga fH_J6_63_J6 (c := 0) (kd := 0) rfl rfl hT dJ6_clear_2 e (fun v1 tv1 e => ?_)
  refine x_iconst Ma.x dJ6_clear_5 ?_
  refine x_iadd Ma.x dJ6_clear_6 ?_
  refine g_put Ma.ga fH_J6_63_J6 (c := 0) (kd := 0) rfl rfl (NoFin.of rfl) hT hO (wr_in _) dJ6_clear_7 e (fun h2 Th2 Oh2 _ e => ?_)
  refine x_aload_n Ma.x dJ6_clear_10 0 rfl ?_
  refine g_get Ma.ga fH_J6_9_J6 (c := 5) (kd := 2) rfl rfl Th2 dJ6_clear_11 e (fun v3 tv3 e => ?_)
  refine x_astore_n Ma.x (lv' := [(1, (2, v3)), (0, (2, this))]) dJ6_clear_14 [0] rfl rfl (by decide) ?_
  refine x_aload_n Ma.x dJ6_clear_15 1 rfl ?_
  refine g_get Ma.ga fH_J6_48_J6 (c := 0) (kd := 0) rfl rfl Th2 dJ6_clear_16 e (fun v4 tv4 e => ?_)
  refine x_istore_n Ma.x (lv' := [(2, (0, v4)), (1, (2, v3)), (0, (2, this))]) dJ6_clear_19 [0, 1] rfl rfl (by decide) ?_
  refine x_aload_n Ma.x dJ6_clear_20 2 rfl ?_
  refine x_iconst Ma.x dJ6_clear_21 ?_
  refine x_dup_x1 Ma.x dJ6_clear_22 rfl rfl ?_
  refine g_put Ma.ga fH_J6_48_J6 (c := 0) (kd := 0) rfl rfl (NoFin.of rfl) Th2 Oh2 (litI rfl) dJ6_clear_23 e (fun h5 Th5 Oh5 _ e => ?_)
  refine x_istore_n Ma.x (lv' := [(3, (0, 0)), (2, (0, v4)), (1, (2, v3)), (0, (2, this))]) dJ6_clear_26 [0, 1, 2] rfl rfl (by decide) ?_
  refine bd_rule e (Y := fun h8 => TH h8 → Old h h8 → X C (Z_J6_clear C l E h hZ h8) [] 42 []) ?_ ?_
  · rintro h8 e  Th8 Oh8
    exact a_retv dJ6_clear_42 (Option.some.inj e) Th8
  · intro tt hY9 e
    refine x_drop [2, 1, 0] rfl ((lp_rule (P := fun (l3_6, h7) => InR l3_6 → TH h7 → Old h h7 → X C (Z_J6_clear C l E h hZ h7) [(1, (2, v3)), (2, (0, v4)), (3, (0, l3_6))] 27 []) (fun rec10 ihrec10 => ?_) FU (0, h5) e) (litI rfl) Th5 Oh5)
    rintro ⟨l3_6, h7⟩ e tl3_6 Th7 Oh7
    dsimp only [B_J6_clear_27] at e
    refine x_iload_n Ma.x dJ6_clear_27 2 rfl ?_
    refine x_iload_n Ma.x dJ6_clear_28 1 rfl ?_
    refine x_icmp_ge Ma.x 42 dJ6_clear_29 rfl tl3_6 tv4 e (fun e => ?_) (fun e => ?_)
    · refine x_aload_n Ma.x dJ6_clear_32 0 rfl ?_
      refine x_iload_n Ma.x dJ6_clear_33 2 rfl ?_
      refine x_null Ma.x dJ6_clear_34 ?_
      refine h_aast Ma.ga Ma.kb (t := 68) ⟨by decide, rfl, rfl, rfl⟩ Th7 Oh7 (Int.le_refl _) dJ6_clear_35 e (fun h11 Th11 Oh11 _ e => ?_)
      refine x_iincb Ma.x (fun l3_12 => [(3, (0, l3_12)), (1, (2, v3)), (2, (0, v4))]) dJ6_clear_36 2 rfl [0, 1] (fun _ => rfl) rfl rfl e (fun l3_12 tl3_12 e => ?_)
      refine x_goto Ma.x 27 dJ6_clear_39 rfl ?_
      exact x_drop [1, 2, 0] rfl (ihrec10 (l3_12, h11) e tl3_12 Th11 Oh11)
    · cases e
      exact x_drop [] rfl (hY9 Th7 Oh7)
def A_J6_isEmpty (h : AH) (this : Int) : Option (Int) :=
  (gf h 3 2 this).bind fun v1 =>
  if v1 = 0 then
    some 1
  else
    some 0
theorem ck_J6_isEmpty : CkA yJ6_isEmpty 0 := ⟨by decide, by decide, by decide +kernel⟩
abbrev Z_J6_isEmpty (C : Cx) (l : Launch) (E : EA) (h : AH) (vZ : Int) (h1 : AH) : Zs := zA (Ma C cJ6_isEmpty 1 RJ6 E l 0 h h 1 vZ (Option.some .boolean) yJ6_isEmpty.name) (Ea h 1 vZ) E h h h1
theorem T_J6_isEmpty {l : Launch} {E : EA} (C0 : Cx) (hE : ∀ i, TI 5 (E.2.2 i)) (h : AH) (hT : TH h) (this : Int) (h_this : TI 5 this) (ht : aT h this = 3) {vZ : Int} (e : A_J6_isEmpty h this = some vZ) : MetA l yJ6_isEmpty cJ6_isEmpty 1 (Option.some .boolean) 0 E h [(2, this)] 1 vZ h ∧ Old h h ∧ TH h ∧ TIr 1 vZ := by
  unfold A_J6_isEmpty at e
  refine a_start (own := RJ6) C0 [(2, this)] hT rfl rfl rfl (fun C => ?_)
  have hO := Old.rf h
  show X C (Z_J6_isEmpty C l E h vZ h) [(0, (2, this))] 0 []
  refine x_aload_n Ma.x dJ6_isEmpty_0 0 rfl ?_
  refine g_get Ma.ga fH_J6_48_J6 (c := 0) (kd := 0) rfl rfl hT dJ6_isEmpty_1 e (fun v1 tv1 e => ?_)
  refine x_if_ne Ma.x 11 dJ6_isEmpty_4 rfl tv1 e (fun e => ?_) (fun e => ?_)
  · refine x_iconst Ma.x dJ6_isEmpty_7 ?_
    refine x_goto Ma.x 12 dJ6_isEmpty_8 rfl ?_
    exact a_retz dJ6_isEmpty_12 (Option.some.inj e) rfl hT litZ1
  · refine x_iconst Ma.x dJ6_isEmpty_11 ?_
    exact a_retz dJ6_isEmpty_12 (Option.some.inj e) rfl hT litZ0
