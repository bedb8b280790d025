/-! THE LAW's start: what the Statement's premises give (printed by gen/start.py) -/
set_option maxRecDepth 100000
def subL : List Cond → List Cond → Bool
  | [], _ => true
  | _ :: _, [] => false
  | x :: xs, y :: ys => if x = y then subL xs ys else subL (x :: xs) ys
theorem subL_mem : ∀ (ys xs : List Cond), subL xs ys = true → ∀ x ∈ xs, x ∈ ys
  | [], [], _ => fun x h => by cases h
  | [], _ :: _, h => by cases h
  | y :: ys, [], _ => fun x h => by cases h
  | y :: ys, x :: xs, h => by
    unfold subL at h
    split at h
    · rename_i e
      subst e
      intro z hz
      rcases List.mem_cons.mp hz with rfl | hz
      · exact List.mem_cons_self
      · exact List.mem_cons_of_mem _ (subL_mem ys xs h z hz)
    · intro z hz
      exact List.mem_cons_of_mem _ (subL_mem ys (x :: xs) h z hz)
abbrev nrT : Cond := Cond.and given_1 narrow_1
def stT (x : String × Nat × List Int32 × Int32 × Int32) : Term := .string x.1 x.2.1
def stV (t : Term) : Term := .field t "java/lang/String" "value" "[B"
def stW (x : String × Nat × List Int32 × Int32 × Int32) : List Cond :=
  [.exactly (stT x) "java/lang/String", .eq (.field (stT x) "java/lang/String" "coder" "B") (.int 0), .arrayOf (stV (stT x)) .byte, .eq (.length (stV (stT x))) (.int (Int32.ofNat x.2.2.1.length))] ++ (x.2.2.1.mapIdx fun j v => .eq (.elem (stV (stT x)) (.int (Int32.ofNat j))) (.int v)) ++ [.eq (.field (stT x) "java/lang/String" "hash" "I") (.int x.2.2.2.1), .eq (.field (stT x) "java/lang/String" "hashIsZero" "Z") (.int x.2.2.2.2)]
/-- the String constants: class, entry, bytes, hash, hashIsZero, in the Statement's order -/
def stL : List (String × Nat × List Int32 × Int32 × Int32) := [("Syntaxspan$Desk", 30, [], 0, 1), ("Syntaxspan", 65, [117, 115, 101], 116103, 0), ("Syntaxspan", 67, [102, 110], 3272, 0), ("Syntaxspan", 69, [108, 101, 116], 107035, 0), ("Syntaxspan", 71, [105, 102], 3357, 0), ("Syntaxspan", 73, [101, 108, 115, 101], 3116345, 0), ("Syntaxspan", 75, [114, 101, 116], 112801, 0), ("Syntaxspan", 77, [121, 101, 115], 119527, 0), ("Syntaxspan", 79, [110, 111], 3521, 0), ("Syntaxspan", 199, [], 0, 1), ("Syntaxspan$Inlining", 166, [32], 32, 0), ("Syntaxspan$Inlining", 168, [], 0, 1), ("Syntaxspan$Inlining", 173, [40], 40, 0), ("Syntaxspan$Inlining", 178, [41], 41, 0), ("Syntaxspan$Moving", 138, [], 0, 1), ("Syntaxspan$Moving", 152, [117, 115, 101, 32], 3599225, 0), ("Syntaxspan$Moving", 161, [59], 59, 0), ("Syntaxspan", 1, [102, 110, 32, 102, 40, 120, 41, 32, 123], 54923430, 0), ("Syntaxspan", 3, [102, 110, 32, 103, 40, 120, 44, 32, 121, 41, 32, 123], -1880222722, 0), ("Syntaxspan", 5, [102, 110, 32, 104, 40, 41, 32, 123], 1527563308, 0), ("Syntaxspan", 7, [125], 125, 0), ("Syntaxspan", 9, [108, 101, 116, 32, 121, 32, 61, 32, 120, 32, 43, 32, 49, 59], -1482171114, 0), ("Syntaxspan", 11, [108, 101, 116, 32, 120, 32, 61, 32, 50, 59], 191886681, 0), ("Syntaxspan", 13, [114, 101, 116, 32, 120, 59], -934478174, 0), ("Syntaxspan", 15, [114, 101, 116, 32, 121, 32, 42, 32, 50, 59], -959131227, 0), ("Syntaxspan", 17, [105, 102, 32, 120, 32, 60, 32, 51, 32, 123], 1198319679, 0), ("Syntaxspan", 19, [125, 32, 101, 108, 115, 101, 32, 123], 138115159, 0), ("Syntaxspan", 21, [120, 32, 61, 32, 120, 32, 45, 32, 49, 59], 923233680, 0), ("Syntaxspan", 23, [114, 101, 116, 32, 102, 40, 120, 41, 59], 921658281, 0), ("Syntaxspan", 25, [108, 101, 116, 32, 122, 32, 61, 32, 103, 40, 120, 44, 32, 121, 41, 59], -1441011282, 0), ("Syntaxspan", 27, [117, 115, 101, 32, 97, 59], -836109005, 0), ("Syntaxspan", 29, [117, 115, 101, 32, 98, 59], -836108974, 0), ("Syntaxspan", 31, [117, 115, 101, 32, 99, 59], -836108943, 0), ("Syntaxspan", 33, [114, 101, 116, 32, 120, 32, 61, 61, 32, 121, 59], -537405125, 0), ("Syntaxspan", 35, [102, 40, 49, 41, 59], 95439201, 0), ("Syntaxspan", 37, [47, 42, 32], 46501, 0), ("Syntaxspan", 39, [32, 42, 47], 32101, 0), ("Syntaxspan", 41, [108, 101, 116, 32, 121, 32, 61, 32, 33, 110, 111, 59], 1461863112, 0), ("Syntaxspan", 43, [114, 101, 116, 32, 102, 40, 103, 40, 120, 44, 32, 49, 41, 41, 59], -1544231884, 0), ("Syntaxspan", 45, [123], 123, 0), ("Syntaxspan", 47, [108, 101, 116, 32, 61, 32, 120, 32, 43, 32, 59], 884890422, 0)]
theorem stL_sub : subL (stL.flatMap stW) (flatC nrT) = true := by decide +kernel
def ncS : List (String × String) := [("Syntaxspan$Function", "Syntaxspan$Call"), ("Syntaxspan$Fault", "Syntaxspan$Call"), ("Syntaxspan$Block", "Syntaxspan$Call"), ("Syntaxspan$Leaf", "Syntaxspan$Call"), ("Syntaxspan$Negation", "Syntaxspan$Call"), ("Syntaxspan$Two", "Syntaxspan$Call"), ("Syntaxspan$Let", "Syntaxspan$Call"), ("Syntaxspan$Returning", "Syntaxspan$Call"), ("Syntaxspan$Calling", "Syntaxspan$Call"), ("Syntaxspan$Setting", "Syntaxspan$Call"), ("Syntaxspan$Broken", "Syntaxspan$Call"), ("Syntaxspan$Choice", "Syntaxspan$Call"), ("Syntaxspan$Function", "Syntaxspan$Let"), ("Syntaxspan$Fault", "Syntaxspan$Let"), ("Syntaxspan$Block", "Syntaxspan$Let"), ("Syntaxspan$Call", "Syntaxspan$Let"), ("Syntaxspan$Leaf", "Syntaxspan$Let"), ("Syntaxspan$Negation", "Syntaxspan$Let"), ("Syntaxspan$Two", "Syntaxspan$Let"), ("Syntaxspan$Returning", "Syntaxspan$Let"), ("Syntaxspan$Calling", "Syntaxspan$Let"), ("Syntaxspan$Setting", "Syntaxspan$Let"), ("Syntaxspan$Broken", "Syntaxspan$Let"), ("Syntaxspan$Choice", "Syntaxspan$Let"), ("Syntaxspan$Function", "Syntaxspan$Two"), ("Syntaxspan$Fault", "Syntaxspan$Two"), ("Syntaxspan$Block", "Syntaxspan$Two"), ("Syntaxspan$Call", "Syntaxspan$Two"), ("Syntaxspan$Leaf", "Syntaxspan$Two"), ("Syntaxspan$Negation", "Syntaxspan$Two"), ("Syntaxspan$Let", "Syntaxspan$Two"), ("Syntaxspan$Returning", "Syntaxspan$Two"), ("Syntaxspan$Calling", "Syntaxspan$Two"), ("Syntaxspan$Setting", "Syntaxspan$Two"), ("Syntaxspan$Broken", "Syntaxspan$Two"), ("Syntaxspan$Choice", "Syntaxspan$Two"), ("Syntaxspan$Function", "Syntaxspan$Negation"), ("Syntaxspan$Fault", "Syntaxspan$Negation"), ("Syntaxspan$Block", "Syntaxspan$Negation"), ("Syntaxspan$Call", "Syntaxspan$Negation"), ("Syntaxspan$Leaf", "Syntaxspan$Negation"), ("Syntaxspan$Two", "Syntaxspan$Negation"), ("Syntaxspan$Let", "Syntaxspan$Negation"), ("Syntaxspan$Returning", "Syntaxspan$Negation"), ("Syntaxspan$Calling", "Syntaxspan$Negation"), ("Syntaxspan$Setting", "Syntaxspan$Negation"), ("Syntaxspan$Broken", "Syntaxspan$Negation"), ("Syntaxspan$Choice", "Syntaxspan$Negation"), ("Syntaxspan$Function", "Syntaxspan$Leaf"), ("Syntaxspan$Fault", "Syntaxspan$Leaf"), ("Syntaxspan$Block", "Syntaxspan$Leaf"), ("Syntaxspan$Call", "Syntaxspan$Leaf"), ("Syntaxspan$Negation", "Syntaxspan$Leaf"), ("Syntaxspan$Two", "Syntaxspan$Leaf"), ("Syntaxspan$Let", "Syntaxspan$Leaf"), ("Syntaxspan$Returning", "Syntaxspan$Leaf"), ("Syntaxspan$Calling", "Syntaxspan$Leaf"), ("Syntaxspan$Setting", "Syntaxspan$Leaf"), ("Syntaxspan$Broken", "Syntaxspan$Leaf"), ("Syntaxspan$Choice", "Syntaxspan$Leaf"), ("Syntaxspan$Function", "Syntaxspan$Setting"), ("Syntaxspan$Fault", "Syntaxspan$Setting"), ("Syntaxspan$Block", "Syntaxspan$Setting"), ("Syntaxspan$Call", "Syntaxspan$Setting"), ("Syntaxspan$Leaf", "Syntaxspan$Setting"), ("Syntaxspan$Negation", "Syntaxspan$Setting"), ("Syntaxspan$Two", "Syntaxspan$Setting"), ("Syntaxspan$Let", "Syntaxspan$Setting"), ("Syntaxspan$Returning", "Syntaxspan$Setting"), ("Syntaxspan$Calling", "Syntaxspan$Setting"), ("Syntaxspan$Broken", "Syntaxspan$Setting"), ("Syntaxspan$Choice", "Syntaxspan$Setting"), ("Syntaxspan$Function", "Syntaxspan$Calling"), ("Syntaxspan$Fault", "Syntaxspan$Calling"), ("Syntaxspan$Block", "Syntaxspan$Calling"), ("Syntaxspan$Call", "Syntaxspan$Calling"), ("Syntaxspan$Leaf", "Syntaxspan$Calling"), ("Syntaxspan$Negation", "Syntaxspan$Calling"), ("Syntaxspan$Two", "Syntaxspan$Calling"), ("Syntaxspan$Let", "Syntaxspan$Calling"), ("Syntaxspan$Returning", "Syntaxspan$Calling"), ("Syntaxspan$Setting", "Syntaxspan$Calling"), ("Syntaxspan$Broken", "Syntaxspan$Calling"), ("Syntaxspan$Choice", "Syntaxspan$Calling"), ("Syntaxspan$Function", "Syntaxspan$Returning"), ("Syntaxspan$Fault", "Syntaxspan$Returning"), ("Syntaxspan$Block", "Syntaxspan$Returning"), ("Syntaxspan$Call", "Syntaxspan$Returning"), ("Syntaxspan$Leaf", "Syntaxspan$Returning"), ("Syntaxspan$Negation", "Syntaxspan$Returning"), ("Syntaxspan$Two", "Syntaxspan$Returning"), ("Syntaxspan$Let", "Syntaxspan$Returning"), ("Syntaxspan$Calling", "Syntaxspan$Returning"), ("Syntaxspan$Setting", "Syntaxspan$Returning"), ("Syntaxspan$Broken", "Syntaxspan$Returning"), ("Syntaxspan$Choice", "Syntaxspan$Returning"), ("Syntaxspan$Function", "Syntaxspan$Choice"), ("Syntaxspan$Fault", "Syntaxspan$Choice"), ("Syntaxspan$Block", "Syntaxspan$Choice"), ("Syntaxspan$Call", "Syntaxspan$Choice"), ("Syntaxspan$Leaf", "Syntaxspan$Choice"), ("Syntaxspan$Negation", "Syntaxspan$Choice"), ("Syntaxspan$Two", "Syntaxspan$Choice"), ("Syntaxspan$Let", "Syntaxspan$Choice"), ("Syntaxspan$Returning", "Syntaxspan$Choice"), ("Syntaxspan$Calling", "Syntaxspan$Choice"), ("Syntaxspan$Setting", "Syntaxspan$Choice"), ("Syntaxspan$Broken", "Syntaxspan$Choice"), ("Syntaxspan$Function", "Syntaxspan$Block"), ("Syntaxspan$Fault", "Syntaxspan$Block"), ("Syntaxspan$Call", "Syntaxspan$Block"), ("Syntaxspan$Leaf", "Syntaxspan$Block"), ("Syntaxspan$Negation", "Syntaxspan$Block"), ("Syntaxspan$Two", "Syntaxspan$Block"), ("Syntaxspan$Let", "Syntaxspan$Block"), ("Syntaxspan$Returning", "Syntaxspan$Block"), ("Syntaxspan$Calling", "Syntaxspan$Block"), ("Syntaxspan$Setting", "Syntaxspan$Block"), ("Syntaxspan$Broken", "Syntaxspan$Block"), ("Syntaxspan$Choice", "Syntaxspan$Block"), ("Syntaxspan$Function", "java/lang/String"), ("Syntaxspan$Fault", "java/lang/String"), ("Syntaxspan$Block", "java/lang/String"), ("Syntaxspan$Call", "java/lang/String"), ("Syntaxspan$Leaf", "java/lang/String"), ("Syntaxspan$Negation", "java/lang/String"), ("Syntaxspan$Two", "java/lang/String"), ("Syntaxspan$Let", "java/lang/String"), ("Syntaxspan$Returning", "java/lang/String"), ("Syntaxspan$Calling", "java/lang/String"), ("Syntaxspan$Setting", "java/lang/String"), ("Syntaxspan$Broken", "java/lang/String"), ("Syntaxspan$Choice", "java/lang/String"), ("java/lang/IllegalArgumentException", "java/lang/IndexOutOfBoundsException"), ("java/lang/IllegalStateException", "java/lang/IndexOutOfBoundsException"), ("java/lang/IllegalStateException", "java/lang/IllegalArgumentException"), ("Syntaxspan$Function", "Syntaxspan$Broken"), ("Syntaxspan$Fault", "Syntaxspan$Broken"), ("Syntaxspan$Block", "Syntaxspan$Broken"), ("Syntaxspan$Call", "Syntaxspan$Broken"), ("Syntaxspan$Leaf", "Syntaxspan$Broken"), ("Syntaxspan$Negation", "Syntaxspan$Broken"), ("Syntaxspan$Two", "Syntaxspan$Broken"), ("Syntaxspan$Let", "Syntaxspan$Broken"), ("Syntaxspan$Returning", "Syntaxspan$Broken"), ("Syntaxspan$Calling", "Syntaxspan$Broken"), ("Syntaxspan$Setting", "Syntaxspan$Broken"), ("Syntaxspan$Choice", "Syntaxspan$Broken")]
theorem ncS_sub : subL (ncS.map fun p => .not (.castable p.1 p.2)) (flatC nrT) = true := by decide +kernel
theorem ncA_sub : ∀ x ∈ ncA, x ∈ ncS := by decide +kernel
def DigitOnesL : List Int32 := [48, 49, 50, 51, 52, 53, 54, 55, 56, 57, 48, 49, 50, 51, 52, 53, 54, 55, 56, 57, 48, 49, 50, 51, 52, 53, 54, 55, 56, 57, 48, 49, 50, 51, 52, 53, 54, 55, 56, 57, 48, 49, 50, 51, 52, 53, 54, 55, 56, 57, 48, 49, 50, 51, 52, 53, 54, 55, 56, 57, 48, 49, 50, 51, 52, 53, 54, 55, 56, 57, 48, 49, 50, 51, 52, 53, 54, 55, 56, 57, 48, 49, 50, 51, 52, 53, 54, 55, 56, 57, 48, 49, 50, 51, 52, 53, 54, 55, 56, 57]
def DigitTensL : List Int32 := [48, 48, 48, 48, 48, 48, 48, 48, 48, 48, 49, 49, 49, 49, 49, 49, 49, 49, 49, 49, 50, 50, 50, 50, 50, 50, 50, 50, 50, 50, 51, 51, 51, 51, 51, 51, 51, 51, 51, 51, 52, 52, 52, 52, 52, 52, 52, 52, 52, 52, 53, 53, 53, 53, 53, 53, 53, 53, 53, 53, 54, 54, 54, 54, 54, 54, 54, 54, 54, 54, 55, 55, 55, 55, 55, 55, 55, 55, 55, 55, 56, 56, 56, 56, 56, 56, 56, 56, 56, 56, 57, 57, 57, 57, 57, 57, 57, 57, 57, 57]
def dgW (n : String) (vs : List Int32) : List Cond := [.isRef (.static "java/lang/Integer" n "[B"), .arrayOf (.static "java/lang/Integer" n "[B") .byte, .eq (.length (.static "java/lang/Integer" n "[B")) (.int 100)] ++ (vs.mapIdx fun j v => .eq (.elem (.static "java/lang/Integer" n "[B") (.int (Int32.ofNat j))) (.int v))
def icT : Term := .static "java/lang/Integer$IntegerCache" "cache" "[Ljava/lang/Integer;"
def deT : Term := .static "java/util/ArrayList" "DEFAULTCAPACITY_EMPTY_ELEMENTDATA" "[Ljava/lang/Object;"
def icW : Cond := .and (.exactly (.elem icT (.index 0)) "java/lang/Integer") (.eq (.field (.elem icT (.index 0)) "java/lang/Integer" "value" "I") (.sub (.index 0) (.int 128)))
def msW : List Cond := [.eq (.static "java/lang/String" "COMPACT_STRINGS" "Z") (.int 1), .isRef (.static "jdk/internal/util/Preconditions" "SIOOBE_FORMATTER" "Ljava/util/function/BiFunction;"), .isRef deT, .arrayOf deT (.object "java/lang/Object"), .exactly deT "[Ljava/lang/Object;", .eq (.length deT) (.int 0), .isRef (.static "java/lang/Throwable" "UNASSIGNED_STACK" "[Ljava/lang/StackTraceElement;"), .isRef (.static "java/lang/Throwable" "SUPPRESSED_SENTINEL" "Ljava/util/List;"), .eq (.static "java/lang/Integer$IntegerCache" "high" "I") (.int 127), .isRef icT, .arrayOf icT (.object "java/lang/Integer"), .eq (.length icT) (.int 256), .all icT icW] ++ dgW "DigitOnes" DigitOnesL ++ dgW "DigitTens" DigitTensL ++ [.isRef (.mirror "[Ljava/lang/Object;")]
theorem msW_sub : subL msW (flatC nrT) = true := by decide +kernel
def exW : List Cond := [.exactly (.static "java/lang/Integer" "DigitOnes" "[B") "[B", .exactly (.static "java/lang/Integer" "DigitTens" "[B") "[B"] ++ stL.map fun x => .exactly (stV (stT x)) "[B"
theorem exW_sub : subL exW (flatC nrT) = true := by decide +kernel
/-- the String constants in the order of skA -/
def stA : List (String × Nat × List Int32 × Int32 × Int32) := [("Syntaxspan", 65, [117, 115, 101], 116103, 0), ("Syntaxspan", 67, [102, 110], 3272, 0), ("Syntaxspan", 69, [108, 101, 116], 107035, 0), ("Syntaxspan", 71, [105, 102], 3357, 0), ("Syntaxspan", 73, [101, 108, 115, 101], 3116345, 0), ("Syntaxspan", 75, [114, 101, 116], 112801, 0), ("Syntaxspan", 77, [121, 101, 115], 119527, 0), ("Syntaxspan", 79, [110, 111], 3521, 0), ("Syntaxspan", 199, [], 0, 1), ("Syntaxspan", 1, [102, 110, 32, 102, 40, 120, 41, 32, 123], 54923430, 0), ("Syntaxspan", 3, [102, 110, 32, 103, 40, 120, 44, 32, 121, 41, 32, 123], -1880222722, 0), ("Syntaxspan", 5, [102, 110, 32, 104, 40, 41, 32, 123], 1527563308, 0), ("Syntaxspan", 7, [125], 125, 0), ("Syntaxspan", 9, [108, 101, 116, 32, 121, 32, 61, 32, 120, 32, 43, 32, 49, 59], -1482171114, 0), ("Syntaxspan", 11, [108, 101, 116, 32, 120, 32, 61, 32, 50, 59], 191886681, 0), ("Syntaxspan", 13, [114, 101, 116, 32, 120, 59], -934478174, 0), ("Syntaxspan", 15, [114, 101, 116, 32, 121, 32, 42, 32, 50, 59], -959131227, 0), ("Syntaxspan", 17, [105, 102, 32, 120, 32, 60, 32, 51, 32, 123], 1198319679, 0), ("Syntaxspan", 19, [125, 32, 101, 108, 115, 101, 32, 123], 138115159, 0), ("Syntaxspan", 21, [120, 32, 61, 32, 120, 32, 45, 32, 49, 59], 923233680, 0), ("Syntaxspan", 23, [114, 101, 116, 32, 102, 40, 120, 41, 59], 921658281, 0), ("Syntaxspan", 25, [108, 101, 116, 32, 122, 32, 61, 32, 103, 40, 120, 44, 32, 121, 41, 59], -1441011282, 0), ("Syntaxspan", 27, [117, 115, 101, 32, 97, 59], -836109005, 0), ("Syntaxspan", 29, [117, 115, 101, 32, 98, 59], -836108974, 0), ("Syntaxspan", 31, [117, 115, 101, 32, 99, 59], -836108943, 0), ("Syntaxspan", 33, [114, 101, 116, 32, 120, 32, 61, 61, 32, 121, 59], -537405125, 0), ("Syntaxspan", 35, [102, 40, 49, 41, 59], 95439201, 0), ("Syntaxspan", 37, [47, 42, 32], 46501, 0), ("Syntaxspan", 39, [32, 42, 47], 32101, 0), ("Syntaxspan", 41, [108, 101, 116, 32, 121, 32, 61, 32, 33, 110, 111, 59], 1461863112, 0), ("Syntaxspan", 43, [114, 101, 116, 32, 102, 40, 103, 40, 120, 44, 32, 49, 41, 41, 59], -1544231884, 0), ("Syntaxspan", 45, [123], 123, 0), ("Syntaxspan", 47, [108, 101, 116, 32, 61, 32, 120, 32, 43, 32, 59], 884890422, 0), ("Syntaxspan$Desk", 30, [], 0, 1), ("Syntaxspan$Inlining", 166, [32], 32, 0), ("Syntaxspan$Inlining", 168, [], 0, 1), ("Syntaxspan$Inlining", 173, [40], 40, 0), ("Syntaxspan$Inlining", 178, [41], 41, 0), ("Syntaxspan$Moving", 138, [], 0, 1), ("Syntaxspan$Moving", 152, [117, 115, 101, 32], 3599225, 0), ("Syntaxspan$Moving", 161, [59], 59, 0)]
theorem stA_st : ∀ x ∈ stA, x ∈ stL := by decide +kernel
theorem stA_sk : stA.map (fun x => (x.1, x.2.1)) = skA.map fun x => (x.1, x.2.1) := by decide +kernel
theorem stL_ok : ∀ x ∈ stL, (x.2.2.1.length < 1000 ∧ ∀ v ∈ x.2.2.1, 0 ≤ v.toInt ∧ v.toInt < 128) ∧ (x.2.2.2.2 = 0 ∨ x.2.2.2.2 = 1) := by decide +kernel
theorem dgO_ok : DigitOnesL.length = 100 ∧ ∀ v ∈ DigitOnesL, 0 ≤ v.toInt ∧ v.toInt < 128 := by decide +kernel
theorem dgT_ok : DigitTensL.length = 100 ∧ ∀ v ∈ DigitTensL, 0 ≤ v.toInt ∧ v.toInt < 128 := by decide +kernel
theorem cls_all {s : State} {args : Array Value} (hta : ∀ w ∈ lw_all, w.before args s = true) : ∀ q ∈ clA, ∃ (cC : ClassId) (iS : Nat → Nat), u_Kn s q.1 q.2.1 q.2.2 cC iS :=
  List.forall_mem_cons.mpr ⟨⟨_, _, (u_known (C := RJ0) (T := TJ0) (N := 4) (n := 4) hta in_J0 (hta _ q1745)).choose_spec.choose_spec⟩, List.forall_mem_cons.mpr ⟨⟨_, _, (u_known (C := RJ20) (T := TJ20) (N := 1) (n := 1) hta in_J20 (hta _ q757)).choose_spec.choose_spec⟩, List.forall_mem_cons.mpr ⟨⟨_, _, (u_known (C := RJ6) (T := TJ6) (N := 3) (n := 3) hta in_J6 (hta _ q461)).choose_spec.choose_spec⟩, List.forall_mem_cons.mpr ⟨⟨_, _, (u_known (C := RJ15) (T := TJ15) (N := 4) (n := 4) hta in_J15 (hta _ q1601)).choose_spec.choose_spec⟩, List.forall_mem_cons.mpr ⟨⟨_, _, (u_known (C := RX9) (T := TX9) (N := 0) (n := 6) hta (fun w h => by cases h) (hta _ q650)).choose_spec.choose_spec⟩, List.forall_mem_cons.mpr ⟨⟨_, _, (u_known (C := RX1) (T := TX1) (N := 7) (n := 7) hta in_X1 (hta _ q275)).choose_spec.choose_spec⟩, List.forall_mem_cons.mpr ⟨⟨_, _, (u_known (C := RX2) (T := TX2) (N := 5) (n := 5) hta in_X2 (hta _ q283)).choose_spec.choose_spec⟩, List.forall_mem_cons.mpr ⟨⟨_, _, (u_known (C := RX3) (T := TX3) (N := 8) (n := 8) hta in_X3 (hta _ q297)).choose_spec.choose_spec⟩, List.forall_mem_cons.mpr ⟨⟨_, _, (u_known (C := RX5) (T := TX5) (N := 5) (n := 5) hta in_X5 (hta _ q547)).choose_spec.choose_spec⟩, List.forall_mem_cons.mpr ⟨⟨_, _, (u_known (C := RX6) (T := TX6) (N := 10) (n := 10) hta in_X6 (hta _ q535)).choose_spec.choose_spec⟩, List.forall_mem_cons.mpr ⟨⟨_, _, (u_known (C := RX7) (T := TX7) (N := 7) (n := 7) hta in_X7 (hta _ q598)).choose_spec.choose_spec⟩, List.forall_mem_cons.mpr ⟨⟨_, _, (u_known (C := RX8) (T := TX8) (N := 6) (n := 6) hta in_X8 (hta _ q605)).choose_spec.choose_spec⟩, List.forall_mem_cons.mpr ⟨⟨_, _, (u_known (C := RX10) (T := TX10) (N := 4) (n := 4) hta in_X10 (hta _ q866)).choose_spec.choose_spec⟩, List.forall_mem_cons.mpr ⟨⟨_, _, (u_known (C := RX11) (T := TX11) (N := 3) (n := 3) hta in_X11 (hta _ q909)).choose_spec.choose_spec⟩, List.forall_mem_cons.mpr ⟨⟨_, _, (u_known (C := RX12) (T := TX12) (N := 3) (n := 3) hta in_X12 (hta _ q945)).choose_spec.choose_spec⟩, List.forall_mem_cons.mpr ⟨⟨_, _, (u_known (C := RX14) (T := TX14) (N := 3) (n := 3) hta in_X14 (hta _ q988)).choose_spec.choose_spec⟩, List.forall_mem_cons.mpr ⟨⟨_, _, (u_known (C := RX15) (T := TX15) (N := 2) (n := 2) hta in_X15 (hta _ q1041)).choose_spec.choose_spec⟩, List.forall_mem_cons.mpr ⟨⟨_, _, (u_known (C := RX16) (T := TX16) (N := 2) (n := 2) hta in_X16 (hta _ q1055)).choose_spec.choose_spec⟩, List.forall_mem_cons.mpr ⟨⟨_, _, (u_known (C := RX17) (T := TX17) (N := 4) (n := 4) hta in_X17 (hta _ q1074)).choose_spec.choose_spec⟩, List.forall_mem_cons.mpr ⟨⟨_, _, (u_known (C := RX18) (T := TX18) (N := 4) (n := 4) hta in_X18 (hta _ q1109)).choose_spec.choose_spec⟩, List.forall_mem_cons.mpr ⟨⟨_, _, (u_known (C := RX19) (T := TX19) (N := 1) (n := 1) hta in_X19 (hta _ q1128)).choose_spec.choose_spec⟩, List.forall_mem_cons.mpr ⟨⟨_, _, (u_known (C := RX20) (T := TX20) (N := 1) (n := 1) hta in_X20 (hta _ q1138)).choose_spec.choose_spec⟩, List.forall_mem_cons.mpr ⟨⟨_, _, (u_known (C := RX21) (T := TX21) (N := 2) (n := 2) hta in_X21 (hta _ q1148)).choose_spec.choose_spec⟩, List.forall_mem_cons.mpr ⟨⟨_, _, (u_known (C := RX22) (T := TX22) (N := 1) (n := 1) hta in_X22 (hta _ q1165)).choose_spec.choose_spec⟩, List.forall_mem_cons.mpr ⟨⟨_, _, (u_known (C := RX23) (T := TX23) (N := 3) (n := 3) hta in_X23 (hta _ q1179)).choose_spec.choose_spec⟩, List.forall_mem_cons.mpr ⟨⟨_, _, (u_known (C := RX24) (T := TX24) (N := 5) (n := 5) hta in_X24 (hta _ q2339)).choose_spec.choose_spec⟩, List.forall_mem_cons.mpr ⟨⟨_, _, (u_known (C := RX25) (T := TX25) (N := 2) (n := 2) hta in_X25 (hta _ q2393)).choose_spec.choose_spec⟩, List.forall_mem_cons.mpr ⟨⟨_, _, (u_known (C := RX26) (T := TX26) (N := 9) (n := 9) hta in_X26 (hta _ q521)).choose_spec.choose_spec⟩, List.forall_mem_cons.mpr ⟨⟨_, _, (u_known (C := RX28) (T := TX28) (N := 3) (n := 3) hta in_X28 (hta _ q2582)).choose_spec.choose_spec⟩, List.forall_mem_cons.mpr ⟨⟨_, _, (u_known (C := RX29) (T := TX29) (N := 2) (n := 2) hta in_X29 (hta _ q1564)).choose_spec.choose_spec⟩, List.forall_mem_cons.mpr ⟨⟨_, _, (u_known (C := RX30) (T := TX30) (N := 5) (n := 5) hta in_X30 (hta _ q1989)).choose_spec.choose_spec⟩, List.forall_mem_cons.mpr ⟨⟨_, _, (u_known (C := RX31) (T := TX31) (N := 2) (n := 2) hta in_X31 (hta _ q1512)).choose_spec.choose_spec⟩, List.forall_mem_cons.mpr ⟨⟨_, _, (u_known (C := RX32) (T := TX32) (N := 4) (n := 4) hta in_X32 (hta _ q2671)).choose_spec.choose_spec⟩, List.forall_mem_cons.mpr ⟨⟨_, _, (u_known (C := RX33) (T := TX33) (N := 6) (n := 6) hta in_X33 (hta _ q2697)).choose_spec.choose_spec⟩, List.forall_mem_cons.mpr ⟨⟨_, _, (u_known (C := RX4) (T := TX4) (N := 118) (n := 118) hta in_X4 (hta _ q2801)).choose_spec.choose_spec⟩, fun _ h => absurd h List.not_mem_nil⟩⟩⟩⟩⟩⟩⟩⟩⟩⟩⟩⟩⟩⟩⟩⟩⟩⟩⟩⟩⟩⟩⟩⟩⟩⟩⟩⟩⟩⟩⟩⟩⟩⟩⟩
section ST
variable {s : State} {args : Array Value}
theorem stand_less {p : Program} {l : Launch} {e : Env} {R R' : Room} {m : MethodId} {below : List Frame} {meth : Method} {c : Code} {T : State} {locs : List Loc} {cells slots : Nat} (X : Stand p l e R s m args below meth c T locs cells slots) (h1 : R'.frames ≤ R.frames) (h2 : R'.cells ≤ R.cells) (h3 : R'.slots ≤ R.slots) (h4 : R'.locals ≤ R.locals) : Stand p l e R' s m args below meth c T locs cells slots :=
  have hr : s.hasRoom e.platform R' = true := by
    have h := X.room
    simp only [State.hasRoom, Bool.and_eq_true, decide_eq_true_eq] at h ⊢
    obtain ⟨⟨⟨⟨a1, a2, a3, a4, a5, a6⟩, a7⟩, a8⟩, a9⟩ := h
    exact ⟨⟨⟨⟨by omega, by omega, by omega, by omega, by omega, a6⟩, by omega⟩, by omega⟩, a9⟩
  ⟨X.admits, X.cas, X.clock, X.frames, hr, X.hears, X.method, X.code, X.here, X.tail, X.warmed, X.limits, X.bytes, X.same⟩
theorem cls_D (hta : ∀ w ∈ lw_all, w.before args s = true) : ∃ D : va_G, ∀ (c : Nat) (q : vw_C), clA[c]? = some q → u_Kn s q.1 q.2.1 q.2.2 (D.1 c) (D.2 c) := by
  have h : ∀ c : Nat, ∃ d : ClassId × (Nat → Nat), ∀ q : vw_C, clA[c]? = some q → u_Kn s q.1 q.2.1 q.2.2 d.1 d.2 := fun c => by
    cases e : clA[c]? with
    | none => exact ⟨(0, fun _ => 0), fun q h => by cases h⟩
    | some q =>
      obtain ⟨cC, iS, k⟩ := cls_all hta q (List.mem_of_getElem? e)
      exact ⟨(cC, iS), fun q' h => by cases h; exact k⟩
  obtain ⟨f, hf⟩ := Classical.axiomOfChoice h
  exact ⟨(fun c => (f c).1, fun c => (f c).2), hf⟩
theorem arr_c {t : FieldType} (h : (Cond.arrayClass t).before args s = true) (ho : ∀ C, t ≠ .object C) : ∃ cA, ArrOfT s cA t ∧ va_RA s cA t := by
  obtain ⟨c, k, comp, h1, h2, h3⟩ := Cond.arrayClass_spec h
  refine ⟨c, fun n z => ⟨(fun k q => by cases q), k, h2, comp, h3⟩, ?_⟩
  cases t <;> first | exact h1 | exact absurd rfl (ho _)
theorem arr_o {n : String} (h : (Cond.arrayOver (.object n)).before args s = true) : ∃ cA, ArrOfT s cA (.object n) ∧ va_RA s cA (.object n) := by
  obtain ⟨comp, c, k, f1, -, f3, f4, f5⟩ := Cond.arrayOver_spec h
  exact ⟨c, fun n z => ⟨(fun k q => by cases q), k, f3, comp, f4⟩, k, comp, f3, f4, f1, f5⟩
theorem arr_a {t : FieldType} (h : (Cond.arrayOver (.array t)).before args s = true) : ∃ cA, ArrOfT s cA (.array t) ∧ va_RA s cA (.array t) := by
  obtain ⟨comp, c, k, f1, f3, f4, f5⟩ := Cond.arrayOver_specA h
  exact ⟨c, fun n z => ⟨(fun k q => by cases q), k, f3, comp, f4⟩, f5⟩
theorem arr_all (hts : ∀ w ∈ lw_tbl, w.before args s = true) : ∀ ty ∈ tyA.take 14, ∃ cA, ArrOfT s cA ty ∧ va_RA s cA ty :=
  List.forall_mem_cons.mpr ⟨(arr_c (hts _ (lw_all_tbl q434)) (fun _ q => by cases q)), List.forall_mem_cons.mpr ⟨(arr_c (hts _ (lw_all_tbl q435)) (fun _ q => by cases q)), List.forall_mem_cons.mpr ⟨(arr_c (hts _ (lw_all_tbl q433)) (fun _ q => by cases q)), List.forall_mem_cons.mpr ⟨(arr_c (hts _ (lw_all_tbl q2731)) (fun _ q => by cases q)),
  List.forall_mem_cons.mpr ⟨(arr_o (hts _ q851)), List.forall_mem_cons.mpr ⟨(arr_o (hts _ q290)), List.forall_mem_cons.mpr ⟨(arr_o (hts _ q293)), List.forall_mem_cons.mpr ⟨(arr_o (hts _ q295)), List.forall_mem_cons.mpr ⟨(arr_o (hts _ q457)),
  List.forall_mem_cons.mpr ⟨(arr_a (hts _ q527)), List.forall_mem_cons.mpr ⟨(arr_a (hts _ q542)), List.forall_mem_cons.mpr ⟨(arr_a (hts _ q289)), List.forall_mem_cons.mpr ⟨(arr_a (hts _ q456)), List.forall_mem_cons.mpr ⟨(arr_a (hts _ q2346)),
  fun _ h => absurd h List.not_mem_nil⟩⟩⟩⟩⟩⟩⟩⟩⟩⟩⟩⟩⟩⟩
theorem arr_D (hts : ∀ w ∈ lw_tbl, w.before args s = true) {c14 c15 : ClassId} (hI : ArrOfT s c14 (.object "java/lang/Integer")) (hS : ArrOfT s c15 .int) : ∃ A : Nat → ClassId, (∀ (j : Nat) (ty : FieldType), tyA[j]? = some ty → ArrOfT s (A j) ty ∧ (j < 14 → va_RA s (A j) ty)) ∧ A 14 = c14 ∧ A 15 = c15 := by
  have h : ∀ j : Nat, ∃ c : ClassId, (∀ ty : FieldType, tyA[j]? = some ty → ArrOfT s c ty ∧ (j < 14 → va_RA s c ty)) ∧ (j = 14 → c = c14) ∧ (j = 15 → c = c15) := fun j => by
    by_cases h14 : j = 14
    · subst h14
      exact ⟨c14, (fun ty h => by cases h; exact ⟨hI, fun z => absurd z (by decide)⟩), fun _ => rfl, (fun z => by cases z)⟩
    · by_cases h15 : j = 15
      · subst h15
        exact ⟨c15, (fun ty h => by cases h; exact ⟨hS, fun z => absurd z (by decide)⟩), (fun z => by cases z), fun _ => rfl⟩
      · cases e : tyA[j]? with
        | none => exact ⟨0, (fun q h => by cases h), fun z => absurd z h14, fun z => absurd z h15⟩
        | some ty =>
          have hj : j < 16 := (List.getElem?_eq_some_iff.mp e).1
          have hj' : j < 14 := by omega
          obtain ⟨c, k1, k2⟩ := arr_all hts ty (List.mem_of_getElem? (i := j) (by rw [List.getElem?_take_of_lt hj']; exact e))
          exact ⟨c, (fun q' h => by cases h; exact ⟨k1, fun _ => k2⟩), fun z => absurd z h14, fun z => absurd z h15⟩
  obtain ⟨f, hf⟩ := Classical.axiomOfChoice h
  exact ⟨f, fun j ty hj => (hf j).1 ty hj, (hf 14).2.1 rfl, (hf 15).2.2 rfl⟩
theorem kb_1 {E : EA} (hK : KA E s) {j i : Nat} {t : FieldType} (hj : tyA[j]? = some (.array t)) (hi : tyA[i]? = some t) (hj' : j < 14) (hi' : i < 14) (h : (Cond.arrayOver (.array t)).before args s = true) : ∃ (kA : Class) (ty : FieldType), tyA[i]? = some ty ∧ s.vm.classes[E.2.1 j]? = some kA ∧ kA.kind = .array (E.2.1 i) (.array ty) := by
  obtain ⟨comp, c, k, f1, f3, f4, f5⟩ := Cond.arrayOver_specA h
  have hA : s.vm.findClass ("[" ++ (FieldType.array t).toString) = some (E.2.1 j) := (hK.arr hj hj').2
  have hI : s.vm.findClass ("[" ++ t.toString) = some (E.2.1 i) := by
    have h2 := (hK.arr hi hi').2
    cases t with
    | object n => obtain ⟨k', comp', -, -, -, g4⟩ := h2; exact g4
    | _ => exact h2
  have e1 : c = E.2.1 j := Option.some.inj (f5.symm.trans hA)
  have e2 : comp = E.2.1 i := Option.some.inj (f1.symm.trans hI)
  subst e1
  subst e2
  exact ⟨k, t, hi, f3, f4⟩
theorem kb_all {E : EA} (hK : KA E s) (hts : ∀ w ∈ lw_tbl, w.before args s = true) : KB E s := by
  intro j i hm
  simp only [List.mem_cons, List.not_mem_nil, or_false, Prod.mk.injEq] at hm
  rcases hm with ⟨rfl, rfl⟩ | ⟨rfl, rfl⟩ | ⟨rfl, rfl⟩ | ⟨rfl, rfl⟩ | ⟨rfl, rfl⟩
  · exact kb_1 hK (t := .int) rfl rfl (by decide) (by decide) (hts _ q527)
  · exact kb_1 hK (t := .boolean) rfl rfl (by decide) (by decide) (hts _ q542)
  · exact kb_1 hK (t := .object "Syntaxspan$Line") rfl rfl (by decide) (by decide) (hts _ q289)
  · exact kb_1 hK (t := .object "java/lang/String") rfl rfl (by decide) (by decide) (hts _ q456)
  · exact kb_1 hK (t := .array .int) rfl rfl (by decide) (by decide) (hts _ q2346)
/-! cells of constants -/
theorem arr_fact {tm : Term} {ty : FieldType} {N : Nat} (hN : N < 2 ^ 31) (harr : (Cond.arrayOf tm ty).before args s = true) (hlen : (Cond.eq (.length tm) (.int (Int32.ofNat N))).before args s = true) : ∃ (t : Nat) (cell : Cell), tm.eval args s none [] s = some (.ref t) ∧ s.arrayAt? t = some cell ∧ s.heap[t]? = some cell ∧ s.isArrayOf cell ty ∧ (cell.vm ≠ .unknown ∧ cell.vm.isStatics = false) ∧ cell.slots.size = N := by
  have hlen := va_eqt hlen
  obtain ⟨t, cell, ht, hat, hv⟩ := Term.length_spec hlen
  have hsz : cell.slots.size < 2 ^ 31 := by
    simp only [Term.eval, ht, hat, Option.bind_eq_bind, Option.bind_some] at hlen
    by_cases hlt : cell.slots.size < 2147483648
    · exact hlt
    · simp [hlt] at hlen
  obtain ⟨hcell, hk1, hk2, -⟩ := State.arrayAt?_spec hat
  refine ⟨t, cell, ht, hat, hcell, (Cond.arrayOf_spec harr ht hcell).1, ⟨hk1, hk2⟩, ?_⟩
  have h1 := congrArg Int32.toInt (Value.int.inj hv)
  rw [Int32.toInt_ofNat_small hN] at h1
  have h2 : cell.slots.size.toInt32.toInt = cell.slots.size := Int32.toInt_ofNat_small hsz
  omega
theorem arr_el {tm : Term} {t : Nat} {cell : Cell} (ht : tm.eval args s none [] s = some (.ref t)) (hat : s.arrayAt? t = some cell) {j : Nat} (hj : j < 2 ^ 31) {v : Int32} (h : (Cond.eq (.elem tm (.int (Int32.ofNat j))) (.int v)).before args s = true) : cell.slots[j]? = some (.int v) := by
  obtain ⟨a, j', cell', h1, h2, h3, -, h5⟩ := Term.elem_spec (va_eqt h)
  cases h1.symm.trans ht
  cases h3.symm.trans hat
  have e : j' = Int32.ofNat j := by
    have : (Term.int (Int32.ofNat j)).eval args s none [] s = some (.int (Int32.ofNat j)) := rfl
    cases h2.symm.trans this
    rfl
  rw [e] at h5
  have : (Int32.ofNat j).toNatClampNeg = j := by
    show (Int32.ofNat j).toInt.toNat = j
    rw [Int32.toInt_ofNat_small hj]; rfl
  rwa [this] at h5
theorem fld_at {tm : Term} {idx : List Nat} {o n d : String} {a i : Nat} {v : Value} {cell : Cell} (ht : tm.eval args s none idx s = some (.ref a)) (hs : SlotIs s o n d i) (hv : (Term.field tm o n d).eval args s none idx s = some v) (hc : s.heap[a]? = some cell) : cell.vm ≠ .unknown ∧ cell.slots[i]? = some v := by
  obtain ⟨cf, kf, fi, fd, hi, hsl⟩ := hs
  obtain ⟨-, cell', g2, g3, -, -, g6⟩ := Term.field_spec hi ht hv
  cases hc.symm.trans g2
  exact ⟨g3, by rw [← hsl]; exact g6⟩
/-- an object's cell: its class, its slots -/
def CkO (E : EA) (H : Heap) (a t : Nat) (f : Nat → Int) : Prop := ∃ cell : Cell, H[a]? = some cell ∧ cell.cls = E.1.1 (t - 1) ∧ (cell.vm ≠ .unknown ∧ cell.vm.isStatics = false) ∧ cell.slots.size = nf t ∧ ∀ k, k < nf t → TI (ft t k) (f k) ∧ cell.slots[E.1.2 (t - 1) k]? = some (ev (kof (ft t k)) (f k))
def CkR (E : EA) (H : Heap) (a t n : Nat) (f : Nat → Int) : Prop := ∃ cell : Cell, H[a]? = some cell ∧ cell.cls = E.2.1 (t - 64) ∧ (cell.vm ≠ .unknown ∧ cell.vm.isStatics = false) ∧ cell.slots.size = n ∧ n ≤ 100000000 ∧ ∀ j, j < n → TI (ft t 0) (f j) ∧ cell.slots[j]? = some (ev (kof (ft t 0)) (f j))
theorem iI_of (v : Int32) : iI v.toInt = v := Int32.ofInt_toInt v
theorem ev_i (v : Int32) : ev 0 v.toInt = .int v := congrArg Value.int (iI_of v)
theorem bytes_R {E : EA} (hK : KA E s) {tm : Term} {bs : List Int32} (hN : bs.length < 1000) (hb : ∀ v ∈ bs, 0 ≤ v.toInt ∧ v.toInt < 128) (h1 : (Cond.arrayOf tm .byte).before args s = true) (h2 : (Cond.eq (.length tm) (.int (Int32.ofNat bs.length))).before args s = true) (h3 : ∀ (j : Nat) (v : Int32), bs[j]? = some v → (Cond.eq (.elem tm (.int (Int32.ofNat j))) (.int v)).before args s = true) (h4 : (Cond.exactly tm "[B").before args s = true) : ∃ t : Nat, tm.eval args s none [] s = some (.ref t) ∧ CkR E s.heap t 66 bs.length (fun j => (bs.getD j 0).toInt) := by
  obtain ⟨t, cell, q1, q2, q3, q4, q5, q6⟩ := arr_fact (by omega) h1 h2
  obtain ⟨a, c, cell', k, g1, g2, g3, -, -, g6, -⟩ := Cond.exactly_spec h4
  cases g1.symm.trans q1
  cases g3.symm.trans q3
  refine ⟨t, q1, cell, q3, ?_, q5, q6, by omega, fun j hj => ?_⟩
  · rw [g6]
    exact Option.some.inj (g2.symm.trans (va_nm_byte (hK.arr (j := 2) rfl).2))
  · have hv : bs[j]? = some bs[j] := List.getElem?_eq_getElem hj
    have hm := hb bs[j] (List.getElem_mem hj)
    have e : bs.getD j 0 = bs[j] := by rw [List.getD_eq_getElem?_getD, hv]; rfl
    refine ⟨?_, ?_⟩
    · show -128 ≤ (bs.getD j 0).toInt ∧ (bs.getD j 0).toInt < 128
      rw [e]; omega
    · show cell.slots[j]? = some (ev 0 (bs.getD j 0).toInt)
      rw [e, ev_i]
      exact arr_el q1 q2 (by omega) (h3 j _ hv)
theorem inst_sz {Cn : String} {n : Nat} {tm : Term} (hi : (Cond.instantiable Cn n).before args s = true) {idx : List Nat} (h : (Cond.exactly tm Cn).holds args s none s idx = true) : ∃ (a : Nat) (cell : Cell), tm.eval args s none idx s = some (.ref a) ∧ s.heap[a]? = some cell ∧ s.vm.findClass Cn = some cell.cls ∧ cell.vm.isStatics = false ∧ cell.slots.size = n := by
  obtain ⟨a, c, cell, k, g1, g2, g3, g4, g5, g6, g7⟩ := Cond.exactly_spec h
  obtain ⟨c', k', f1, f2, f3, -, -, f6⟩ := Cond.instantiable_spec hi
  cases g2.symm.trans f1
  cases g4.symm.trans f2
  exact ⟨a, cell, g1, g3, by rw [g6]; exact g2, g5, by rw [g7 f3]; exact f6⟩
def stF (x : String × Nat × List Int32 × Int32 × Int32) (q : Nat) : Nat → Int
  | 0 => q
  | 1 => 0
  | 2 => x.2.2.2.1.toInt
  | _ => x.2.2.2.2.toInt
theorem st_O {E : EA} (hK : KA E s) (hts : ∀ w ∈ lw_tbl, w.before args s = true) (hnr : nrT.before args s = true) (x : String × Nat × List Int32 × Int32 × Int32) (hx : x ∈ stL) : ∃ a q : Nat, (stT x).eval args s none [] s = some (.ref a) ∧ CkO E s.heap a 1 (stF x q) ∧ CkR E s.heap q 66 x.2.2.1.length (fun j => (x.2.2.1.getD j 0).toInt) := by
  have hfl := flat_of_before _ hnr
  have hw : ∀ w ∈ stW x, w.before args s = true := fun w hw => hfl w (subL_mem _ _ stL_sub w (List.mem_flatMap.mpr ⟨x, hx, hw⟩))
  have hex : (Cond.exactly (stV (stT x)) "[B").before args s = true := hfl _ (subL_mem _ _ exW_sub _ (List.mem_append_right _ (List.mem_map.mpr ⟨x, hx, rfl⟩)))
  obtain ⟨⟨hlen, hby⟩, hz01⟩ := stL_ok x hx
  have w0 : (Cond.exactly (stT x) "java/lang/String").before args s = true := hw _ (List.mem_append_left _ (List.mem_append_left _ (.head _)))
  have w1 : (Cond.eq (.field (stT x) "java/lang/String" "coder" "B") (.int 0)).before args s = true := hw _ (List.mem_append_left _ (List.mem_append_left _ (.tail _ (.head _))))
  have w2 : (Cond.arrayOf (stV (stT x)) .byte).before args s = true := hw _ (List.mem_append_left _ (List.mem_append_left _ (.tail _ (.tail _ (.head _)))))
  have w3 : (Cond.eq (.length (stV (stT x))) (.int (Int32.ofNat x.2.2.1.length))).before args s = true := hw _ (List.mem_append_left _ (List.mem_append_left _ (.tail _ (.tail _ (.tail _ (.head _))))))
  have w4 : ∀ (j : Nat) (v : Int32), x.2.2.1[j]? = some v → (Cond.eq (.elem (stV (stT x)) (.int (Int32.ofNat j))) (.int v)).before args s = true := fun j v hv => hw _ (List.mem_append_left _ (List.mem_append_right _ (List.mem_of_getElem? (i := j) (by rw [List.getElem?_mapIdx, hv]; rfl))))
  have w5 : (Cond.eq (.field (stT x) "java/lang/String" "hash" "I") (.int x.2.2.2.1)).before args s = true := hw _ (List.mem_append_right _ (.head _))
  have w6 : (Cond.eq (.field (stT x) "java/lang/String" "hashIsZero" "Z") (.int x.2.2.2.2)).before args s = true := hw _ (List.mem_append_right _ (.tail _ (.head _)))
  obtain ⟨q, hq, hR⟩ := bytes_R hK hlen hby w2 w3 w4 hex
  obtain ⟨a, cell, c1, c2, c3, c4, c5⟩ := inst_sz (hts _ (lw_all_tbl q1745)) w0
  obtain ⟨hS, hfc, -⟩ := hK.1 0 _ rfl
  have f0 := fld_at c1 (hS 0 (by decide)) hq c2
  have f1 := fld_at c1 (hS 1 (by decide)) (va_eqt w1) c2
  have f2 := fld_at c1 (hS 2 (by decide)) (va_eqt w5) c2
  have f3 := fld_at c1 (hS 3 (by decide)) (va_eqt w6) c2
  refine ⟨a, q, c1, ⟨cell, c2, ?_, ⟨f0.1, c4⟩, c5, fun k hk => ?_⟩, hR⟩
  · exact Option.some.inj (c3.symm.trans hfc)
  · have hk' : k < 4 := hk
    rcases (show k = 0 ∨ k = 1 ∨ k = 2 ∨ k = 3 by omega) with rfl | rfl | rfl | rfl
    · exact ⟨(show (-1 : Int) ≤ (q : Int) by omega), f0.2.trans (congrArg some (ev_ref q).symm)⟩
    · exact ⟨(show -128 ≤ (0 : Int) ∧ (0 : Int) < 128 by omega), f1.2⟩
    · exact ⟨⟨Int32.le_toInt _, Int32.toInt_lt _⟩, f2.2.trans (congrArg some (ev_i _).symm)⟩
    · refine ⟨?_, f3.2.trans (congrArg some (ev_i _).symm)⟩
      show x.2.2.2.2.toInt = 0 ∨ x.2.2.2.2.toInt = 1
      rcases hz01 with h | h <;> rw [h] <;> simp
/-- a row of references or bytes that a static holds -/
theorem dg_R {E : EA} (hK : KA E s) {n : String} {vs : List Int32} (hv : vs.length = 100 ∧ ∀ v ∈ vs, 0 ≤ v.toInt ∧ v.toInt < 128) (hw : ∀ w ∈ dgW n vs, w.before args s = true) (hex : (Cond.exactly (.static "java/lang/Integer" n "[B") "[B").before args s = true) : ∃ t : Nat, (Term.static "java/lang/Integer" n "[B").eval args s none [] s = some (.ref t) ∧ CkR E s.heap t 66 100 (fun j => (vs.getD j 0).toInt) := by
  have := bytes_R hK (bs := vs) (by omega) hv.2 (hw _ (List.mem_append_left _ (.tail _ (.head _)))) (by rw [hv.1]; exact hw _ (List.mem_append_left _ (.tail _ (.tail _ (.head _))))) (fun j v hj => hw _ (List.mem_append_right _ (List.mem_of_getElem? (i := j) (by rw [List.getElem?_mapIdx, hj]; rfl)))) hex
  rw [hv.1] at this
  exact this
theorem and_v {a b : Cond} {first : State} {o : Option Outcome} {idx : List Nat} (h : (Cond.and a b).value args first o s idx = some true) : a.value args first o s idx = some true ∧ b.value args first o s idx = some true := by
  simp only [Cond.value] at h
  cases ha : a.value args first o s idx with
  | none => rw [ha] at h; cases h
  | some x =>
    rw [ha] at h
    cases x
    · cases h
    · exact ⟨rfl, h⟩
theorem ic_R {E : EA} (hK : KA E s) (hts : ∀ w ∈ lw_tbl, w.before args s = true) (h1 : (Cond.arrayOf icT (.object "java/lang/Integer")).before args s = true) (h2 : (Cond.eq (.length icT) (.int 256)).before args s = true) (h3 : (Cond.all icT icW).before args s = true) (hcl : ∀ (t : Nat) (cell : Cell), icT.eval args s none [] s = some (.ref t) → s.heap[t]? = some cell → cell.cls = E.2.1 14) : ∃ (t : Nat) (ad : Nat → Nat), icT.eval args s none [] s = some (.ref t) ∧ CkR E s.heap t 78 256 (fun j => (ad j : Int)) ∧ ∀ j, j < 256 → CkO E s.heap (ad j) 2 (fun _ => (j : Int) - 128) := by
  obtain ⟨t, cell, q1, q2, q3, q4, q5, q6⟩ := arr_fact (N := 256) (by omega) h1 h2
  have hall := Cond.all_elim q1 q2 (by simpa [Cond.before, Cond.holds] using h3)
  rw [q6] at hall
  have key : ∀ j : Nat, ∃ a : Nat, j < 256 → cell.slots[j]? = some (.ref a) ∧ CkO E s.heap a 2 (fun _ => (j : Int) - 128) := fun j => by
    by_cases hj : j < 256
    · obtain ⟨v1, v2⟩ := and_v (hall j hj)
      obtain ⟨a, c2, e1, e2, e3, e4, e5⟩ := inst_sz (idx := [j]) (hts _ (lw_all_tbl q757)) (by show (_ == some true) = true; rw [v1]; rfl)
      have ht' : icT.eval args s none [j] s = some (.ref t) := q1
      have hneg : ¬ (j.toInt32 < 0) := Int32.ofNat_not_neg (by omega)
      have hnat : j.toInt32.toNatClampNeg = j := by
        show (Int32.ofNat j).toInt.toNat = j
        rw [Int32.toInt_ofNat_small (by omega)]; rfl
      have e1' : cell.slots[j]? = some (.ref a) := by
        simp [Term.eval, ht', q2, hneg, hnat] at e1
        exact e1
      have hr : (Term.sub (.index 0) (.int 128)).eval args s none [j] s = some (.int (Int32.ofNat j - 128)) := rfl
      obtain ⟨w, hw, e6⟩ : ∃ w, (Term.field (.elem icT (.index 0)) "java/lang/Integer" "value" "I").eval args s none [j] s = some (.int w) ∧ w = Int32.ofNat j - 128 := by
        simp only [Cond.value, hr] at v2
        cases hl : (Term.field (.elem icT (.index 0)) "java/lang/Integer" "value" "I").eval args s none [j] s with
        | none => rw [hl] at v2; cases v2
        | some x =>
          rw [hl] at v2
          cases x with
          | int w => exact ⟨w, rfl, of_decide_eq_true (Option.some.inj v2)⟩
          | _ => cases v2
      obtain ⟨hS, hfc, -⟩ := hK.1 1 _ rfl
      have f0 := fld_at e1 (hS 0 (by decide)) hw e2
      refine ⟨a, fun _ => ⟨e1', c2, e2, Option.some.inj (e3.symm.trans hfc), ⟨f0.1, e4⟩, e5, fun k hk => ?_⟩⟩
      have hk' : k < 1 := hk
      rw [show k = 0 by omega]
      refine ⟨(show -2147483648 ≤ (j : Int) - 128 ∧ (j : Int) - 128 < 2147483648 by omega), f0.2.trans (congrArg some ?_)⟩
      show Value.int w = .int (iI ((j : Int) - 128))
      rw [e6]
      refine congrArg Value.int ?_
      show _ = Int32.ofInt ((j : Int) - 128)
      rw [Int32.ofInt_sub]
      rfl
    · exact ⟨0, fun h => absurd h hj⟩
  obtain ⟨ad, had⟩ := Classical.axiomOfChoice key
  refine ⟨t, ad, q1, ⟨cell, q3, hcl t cell q1 q3, q5, q6, by omega, fun j hj => ⟨(show (-1 : Int) ≤ (ad j : Int) by omega), (had j hj).1.trans (congrArg some (ev_ref _).symm)⟩⟩, fun j hj => (had j hj).2⟩
end ST
/-! the start as an abstract heap -/
def dcV : Value → Int
  | .int x => x.toInt
  | .ref r => r
  | .null => -1
  | _ => 0
theorem dc_ev {c : Nat} {v : Int} (hc : c = 0 ∨ c = 1 ∨ c = 3 ∨ c = 5) (h : TI c v) : dcV (ev (kof c) v) = v := by
  rcases hc with rfl | rfl | rfl | rfl
  · exact iI_toInt h
  · exact iI_toInt (TI.z h)
  · exact iI_toInt (TI.b h)
  · have : -1 ≤ v := h
    show dcV (ev 2 v) = v
    by_cases q : v < 0
    · rw [ev_null q]
      show (-1 : Int) = v
      omega
    · rw [ev_some q]
      show ((v.toNat : Nat) : Int) = v
      omega
def tgN (E : EA) (c : ClassId) : Nat := if c = E.2.1 15 then 79 else if c = E.2.1 2 then 66 else if c = E.2.1 4 then 68 else if c = E.2.1 14 then 78 else if c = E.1.1 0 then 1 else if c = E.1.1 1 then 2 else 0
def tgOk (E : EA) : Prop := tgN E (E.2.1 15) = 79 ∧ tgN E (E.2.1 2) = 66 ∧ tgN E (E.2.1 4) = 68 ∧ tgN E (E.2.1 14) = 78 ∧ tgN E (E.1.1 0) = 1 ∧ tgN E (E.1.1 1) = 2
theorem arr_inj {U : State} {c : ClassId} {t t' : FieldType} (h : ArrOfT U c t) (h' : ArrOfT U c t') : t = t' := by
  obtain ⟨-, k, hk, comp, e⟩ := h 0 (fun _ => .null)
  obtain ⟨-, k', hk', comp', e'⟩ := h' 0 (fun _ => .null)
  cases hk.symm.trans hk'
  cases e.symm.trans e'
  rfl
theorem arr_ncls {U : State} {c : ClassId} {t : FieldType} {n : String} (h : ArrOfT U c t) (h' : ClassAt U n c) : False := by
  obtain ⟨-, k, hk, comp, e⟩ := h 0 (fun _ => .null)
  obtain ⟨-, k', hk', e'⟩ := h'
  cases hk.symm.trans hk'
  cases e.symm.trans e'
theorem tg_ok {E : EA} {U : State} (hK : KA E U) : tgOk E := by
  have a15 := hK.ar1 (j := 15) rfl
  have a2 := hK.ar1 (j := 2) rfl
  have a4 := hK.ar1 (j := 4) rfl
  have a14 := hK.ar1 (j := 14) rfl
  have c0 := (hK.1 0 _ rfl).2
  have c1 := (hK.1 1 _ rfl).2
  have ne : ∀ {i j : Nat} {t t' : FieldType}, ArrOfT U (E.2.1 i) t → ArrOfT U (E.2.1 j) t' → t ≠ t' → E.2.1 i ≠ E.2.1 j := fun h h' hn e => hn (arr_inj h (by rw [e]; exact h'))
  have nc : ∀ {i j : Nat} {t : FieldType} {n : String}, ClassAt U n (E.1.1 i) → ArrOfT U (E.2.1 j) t → E.1.1 i ≠ E.2.1 j := fun h h' e => arr_ncls (by rw [e]; exact h') h
  have n10 : E.1.1 1 ≠ E.1.1 0 := fun e => by
    obtain ⟨k, hk, hn⟩ := Vm.findClass_spec c0.1
    obtain ⟨k', hk', hn'⟩ := Vm.findClass_spec c1.1
    rw [e] at hk'
    cases hk.symm.trans hk'
    have : (RJ0 : String) = RJ20 := hn.symm.trans hn'
    exact absurd this (by decide)
  refine ⟨if_pos rfl, ?_, ?_, ?_, ?_, ?_⟩
  · unfold tgN
    rw [if_neg (ne a2 a15 (by decide)), if_pos rfl]
  · unfold tgN
    rw [if_neg (ne a4 a15 (by decide)), if_neg (ne a4 a2 (by decide)), if_pos rfl]
  · unfold tgN
    rw [if_neg (ne a14 a15 (by decide)), if_neg (ne a14 a2 (by decide)), if_neg (ne a14 a4 (by decide)), if_pos rfl]
  · unfold tgN
    rw [if_neg (nc c0 a15), if_neg (nc c0 a2), if_neg (nc c0 a4), if_neg (nc c0 a14), if_pos rfl]
  · unfold tgN
    rw [if_neg (nc c1 a15), if_neg (nc c1 a2), if_neg (nc c1 a4), if_neg (nc c1 a14), if_neg n10, if_pos rfl]
def clsH (H : Heap) (a : Nat) : ClassId := ((H[a]?).map (·.cls)).getD 0
def szH (H : Heap) (a : Nat) : Nat := ((H[a]?).map (·.slots.size)).getD 0
def slH (H : Heap) (a i : Nat) : Value := ((H[a]?).bind (·.slots[i]?)).getD (.int 0)
def hst (E : EA) (H : Heap) (L : List Nat) : AH := (H.size, 0,
  fun a => if 0 ≤ a ∧ a.toNat ∈ L then tgN E (clsH H a.toNat) else 0,
  fun a => if (0 ≤ a ∧ a.toNat ∈ L) ∧ 64 ≤ tgN E (clsH H a.toNat) then szH H a.toNat else 0,
  fun a i => if (0 ≤ a ∧ a.toNat ∈ L) ∧ 0 ≤ i then (if tgN E (clsH H a.toNat) < 64 then (if i < nf (tgN E (clsH H a.toNat)) then dcV (slH H a.toNat (E.1.2 (tgN E (clsH H a.toNat) - 1) i.toNat)) else 0) else (if i < szH H a.toNat then dcV (slH H a.toNat i.toNat) else 0)) else 0)
section HS
variable {E : EA} {H : Heap} {L : List Nat}
theorem hst_no {a : Int} (h : ¬ (0 ≤ a ∧ a.toNat ∈ L)) : aT (hst E H L) a = 0 ∧ aL (hst E H L) a = 0 ∧ ∀ i, aV (hst E H L) a i = 0 :=
  ⟨if_neg h, if_neg fun q => h q.1, fun i => if_neg fun q => h q.1⟩
theorem in_L {a : Nat} (hL : a ∈ L) : 0 ≤ (a : Int) ∧ (a : Int).toNat ∈ L := ⟨by omega, by rw [Int.toNat_natCast]; exact hL⟩
theorem hst_O (tg : tgOk E) {a t : Nat} {f : Nat → Int} (hL : a ∈ L) (ht : t = 1 ∨ t = 2) (h : CkO E H a t f) : aT (hst E H L) a = t ∧ aL (hst E H L) a = 0 ∧ ∀ i : Int, aV (hst E H L) a i = if 0 ≤ i ∧ i < nf t then f i.toNat else 0 := by
  obtain ⟨cell, h1, h2, h3, h4, h5⟩ := h
  have e1 : clsH H (a : Int).toNat = E.1.1 (t - 1) := by
    unfold clsH
    rw [Int.toNat_natCast, h1]
    exact h2
  have e2 : tgN E (clsH H (a : Int).toNat) = t := by
    rw [e1]
    rcases ht with rfl | rfl
    · exact tg.2.2.2.2.1
    · exact tg.2.2.2.2.2
  refine ⟨(if_pos (in_L hL)).trans e2, if_neg fun q => ?_, fun i => ?_⟩
  · have := q.2
    rw [e2] at this
    omega
  · show (if (0 ≤ (a : Int) ∧ (a : Int).toNat ∈ L) ∧ 0 ≤ i then (if tgN E (clsH H (a : Int).toNat) < 64 then (if i < nf (tgN E (clsH H (a : Int).toNat)) then dcV (slH H (a : Int).toNat (E.1.2 (tgN E (clsH H (a : Int).toNat) - 1) i.toNat)) else 0) else _) else 0) = _
    by_cases hi : 0 ≤ i
    · rw [if_pos ⟨in_L hL, hi⟩, e2, if_pos (by omega)]
      by_cases hn : i < nf t
      · rw [if_pos hn, if_pos ⟨hi, hn⟩]
        obtain ⟨k1, k2⟩ := h5 i.toNat (by omega)
        have e3 : slH H (a : Int).toNat (E.1.2 (t - 1) i.toNat) = ev (kof (ft t i.toNat)) (f i.toNat) := by
          unfold slH
          rw [Int.toNat_natCast, h1]
          show (cell.slots[E.1.2 (t - 1) i.toNat]?).getD _ = _
          rw [k2]; rfl
        rw [e3]
        refine dc_ev ?_ k1
        have hk : i.toNat < nf t := by omega
        rcases ht with rfl | rfl
        · have : i.toNat < 4 := hk
          rcases (show i.toNat = 0 ∨ i.toNat = 1 ∨ i.toNat = 2 ∨ i.toNat = 3 by omega) with q | q | q | q <;> rw [q] <;> decide
        · have : i.toNat < 1 := hk
          rw [show i.toNat = 0 by omega]; decide
      · rw [if_neg hn, if_neg (fun q => hn q.2)]
    · rw [if_neg (fun q => hi q.2), if_neg (fun q => hi q.1)]
def arT (t : Nat) : Prop := t = 79 ∨ t = 66 ∨ t = 68 ∨ t = 78
theorem hst_R (tg : tgOk E) {a t n : Nat} {f : Nat → Int} (hL : a ∈ L) (ht : arT t) (h : CkR E H a t n f) : aT (hst E H L) a = t ∧ aL (hst E H L) a = n ∧ ∀ i : Int, aV (hst E H L) a i = if 0 ≤ i ∧ i < n then f i.toNat else 0 := by
  obtain ⟨cell, h1, h2, h3, h4, h5, h6⟩ := h
  have e1 : clsH H (a : Int).toNat = E.2.1 (t - 64) := by
    unfold clsH
    rw [Int.toNat_natCast, h1]
    exact h2
  have e2 : tgN E (clsH H (a : Int).toNat) = t := by
    rw [e1]
    rcases ht with rfl | rfl | rfl | rfl
    · exact tg.1
    · exact tg.2.1
    · exact tg.2.2.1
    · exact tg.2.2.2.1
  have t64 : 64 ≤ t := by rcases ht with rfl | rfl | rfl | rfl <;> decide
  have e4 : szH H (a : Int).toNat = n := by
    unfold szH
    rw [Int.toNat_natCast, h1]
    exact h4
  refine ⟨(if_pos (in_L hL)).trans e2, ?_, fun i => ?_⟩
  · show (if (0 ≤ (a : Int) ∧ (a : Int).toNat ∈ L) ∧ 64 ≤ tgN E (clsH H (a : Int).toNat) then ((szH H (a : Int).toNat : Nat) : Int) else 0) = n
    rw [if_pos ⟨in_L hL, by rw [e2]; exact t64⟩, e4]
  · show (if (0 ≤ (a : Int) ∧ (a : Int).toNat ∈ L) ∧ 0 ≤ i then (if tgN E (clsH H (a : Int).toNat) < 64 then _ else (if i < szH H (a : Int).toNat then dcV (slH H (a : Int).toNat i.toNat) else 0)) else 0) = _
    by_cases hi : 0 ≤ i
    · rw [if_pos ⟨in_L hL, hi⟩, e2, if_neg (by omega), e4]
      by_cases hn : i < n
      · rw [if_pos hn, if_pos ⟨hi, hn⟩]
        obtain ⟨k1, k2⟩ := h6 i.toNat (by omega)
        have e3 : slH H (a : Int).toNat i.toNat = ev (kof (ft t 0)) (f i.toNat) := by
          unfold slH
          rw [Int.toNat_natCast, h1]
          show (cell.slots[i.toNat]?).getD _ = _
          rw [k2]; rfl
        rw [e3]
        refine dc_ev ?_ k1
        rcases ht with rfl | rfl | rfl | rfl <;> decide
      · rw [if_neg hn, if_neg (fun q => hn q.2)]
    · rw [if_neg (fun q => hi q.2), if_neg (fun q => hi q.1)]
def CkN (E : EA) (H : Heap) (a : Nat) : Prop := (∃ (t : Nat) (f : Nat → Int), (t = 1 ∨ t = 2) ∧ CkO E H a t f) ∨ ∃ (t n : Nat) (f : Nat → Int), arT t ∧ CkR E H a t n f
theorem CkN.cell {a : Nat} (h : CkN E H a) : ∃ cell : Cell, H[a]? = some cell ∧ cell.vm.isStatics = false := by
  rcases h with ⟨t, f, -, cell, h1, -, h3, -⟩ | ⟨t, n, f, -, cell, h1, -, h3, -⟩ <;> exact ⟨cell, h1, h3.2⟩
theorem TI0 (c : Nat) : TI c 0 := by
  unfold TI
  split <;> first | exact ⟨by decide, by decide⟩ | exact Or.inl rfl | decide
theorem ft64' {t : Nat} (h : 64 ≤ t) (i : Int) : ft t i = ft t 0 := by unfold ft; rw [if_neg (by omega), if_neg (by omega)]
theorem hst_T (tg : tgOk E) (hL : ∀ a ∈ L, CkN E H a) : TH (hst E H L) := by
  refine ⟨fun a i => ?_, fun a h => ?_, (by show (0 : Int) ≤ (H.size : Int); omega), fun a => ?_⟩
  · by_cases ha : 0 ≤ a ∧ a.toNat ∈ L
    · obtain ⟨q, rfl⟩ := Int.eq_ofNat_of_zero_le ha.1
      have hq : q ∈ L := by have := ha.2; rwa [Int.toNat_natCast] at this
      rcases hL q hq with ⟨t, f, ht, h⟩ | ⟨t, n, f, ht, h⟩
      · obtain ⟨z1, -, z3⟩ := hst_O tg hq ht h
        rw [z1, z3 i]
        split
        · rename_i hi
          have := (h.choose_spec.2.2.2.2 i.toNat (by omega)).1
          rwa [Int.toNat_of_nonneg hi.1] at this
        · exact TI0 _
      · obtain ⟨z1, -, z3⟩ := hst_R tg hq ht h
        rw [z1, z3 i, ft64' (by rcases ht with rfl | rfl | rfl | rfl <;> decide)]
        split
        · rename_i hi
          exact (h.choose_spec.2.2.2.2.2 i.toNat (by omega)).1
        · exact TI0 _
    · rw [(hst_no ha).2.2 i]; exact TI0 _
  · refine (hst_no fun q => ?_).1
    obtain ⟨cell, hc, -⟩ := (hL _ q.2).cell
    have := (Array.getElem?_eq_some_iff.mp hc).1
    have h' : a < 0 ∨ (H.size : Int) ≤ a := h
    omega
  · by_cases ha : 0 ≤ a ∧ a.toNat ∈ L
    · obtain ⟨q, rfl⟩ := Int.eq_ofNat_of_zero_le ha.1
      have hq : q ∈ L := by have := ha.2; rwa [Int.toNat_natCast] at this
      rcases hL q hq with ⟨t, f, ht, h⟩ | ⟨t, n, f, ht, h⟩
      · rw [(hst_O tg hq ht h).2.1]; omega
      · rw [(hst_R tg hq ht h).2.1]
        have := h.choose_spec.2.2.2.2.1
        omega
    · rw [(hst_no ha).2.1]; omega
theorem hst_H (tg : tgOk E) (hL : ∀ a ∈ L, CkN E H a) (hk : ∀ a ∈ L, E.2.2 (1000 + a) = 1) : RH E (hst E H L) H := by
  refine ⟨rfl, fun q hq => ?_⟩
  have hqL : q ∈ L := by
    by_cases ha : 0 ≤ (q : Int) ∧ (q : Int).toNat ∈ L
    · have := ha.2; rwa [Int.toNat_natCast] at this
    · exact absurd (hst_no ha).1 hq
  unfold aCell
  rcases hL q hqL with ⟨t, f, ht, h⟩ | ⟨t, n, f, ht, h⟩
  · obtain ⟨z1, -, z3⟩ := hst_O tg hqL ht h
    rw [z1, if_pos (by omega)]
    obtain ⟨cell, h1, h2, h3, h4, h5⟩ := h
    refine ⟨cell, h1, h2, ⟨h3.1, h3.2, fun z => by omega⟩, fun k hk => ?_⟩
    rw [(h5 k hk).2]
    show _ = some (ev (kof (ft t k)) (aV (hst E H L) q k))
    rw [z3, if_pos ⟨by omega, by omega⟩]
    rfl
  · obtain ⟨z1, z2, z3⟩ := hst_R tg hqL ht h
    have t64 : 64 ≤ t := by rcases ht with rfl | rfl | rfl | rfl <;> decide
    rw [z1, if_neg (by omega), z2]
    obtain ⟨cell, h1, h2, h3, h4, h5, h6⟩ := h
    refine ⟨cell, h1, ⟨h2, h3, by rw [h4]; exact Nat.le_of_eq (Int.toNat_natCast n), (by rw [h4, Int.toNat_natCast]), fun j hj => ?_⟩, fun z => absurd (hk q hqL) z⟩
    rw [Int.toNat_natCast] at hj
    rw [(h6 j hj).2]
    show _ = some (ev (kof (ft t 0)) (aV (hst E H L) q j))
    rw [z3, if_pos ⟨by omega, by omega⟩]
    rfl
end HS
/-- the String constants' bytes, in the order of skA -/
def skB : List (List Int) := stA.map fun x => x.2.2.1.map Int32.toInt
/-- what the start gives the law: constants and the script -/
def StartP (k : Nat → Int) (h : AH) (b : Int) : Prop :=
  TH h ∧ (∀ a : Nat, aN h ≤ a → k (1000 + a) ≠ 1) ∧ (aT h b = 79 ∧ aL h b ≤ 120) ∧
  (∀ (i : Nat) (bs : List Int), skB[i]? = some bs → aT h (k (100 + i)) = 1 ∧ aV h (k (100 + i)) 1 = 0 ∧ aT h (aV h (k (100 + i)) 0) = 66 ∧ aL h (aV h (k (100 + i)) 0) = bs.length ∧ ∀ (j : Nat) (c : Int), bs[j]? = some c → aV h (aV h (k (100 + i)) 0) j = c) ∧
  (aT h (k 0) = 68 ∧ aL h (k 0) = 0) ∧ (aT h (k 1) = 78 ∧ aL h (k 1) = 256 ∧ ∀ j : Nat, j < 256 → aT h (aV h (k 1) j) = 2 ∧ aV h (aV h (k 1) j) 0 = (j : Int) - 128) ∧
  (aT h (k 2) = 66 ∧ aL h (k 2) = 100 ∧ ∀ (j : Nat) (v : Int32), DigitOnesL[j]? = some v → aV h (k 2) j = v.toInt) ∧ (aT h (k 3) = 66 ∧ aL h (k 3) = 100 ∧ ∀ (j : Nat) (v : Int32), DigitTensL[j]? = some v → aV h (k 3) j = v.toInt) ∧ ∀ i, TI 5 (k i)
/-- what is left to show: no machine in it -/
def LawP : Prop := ∀ (k : Nat → Int) (h : AH) (b : Int), StartP k h b → ∃ hF : AH, A_L_law k h b = some (1, hF) ∧ aN hF ≤ aN h + 1200144 ∧ aS hF ≤ aS h + 5496442 ∧ ∀ a, aT h a ≠ 0 → aL hF a = aL h a ∧ ∀ j, aV hF a j = aV h a j
section WH
variable {s : State} {args : Array Value}
theorem nAA {E : EA} {H : Heap} {L : List Nat} (hL : ∀ a ∈ L, CkN E H a) {a : Nat} {cell : Cell} (hc : H[a]? = some cell) (hs : cell.vm.isStatics = true) : ¬ AA (hst E H L) a := by
  rintro (h | h)
  · have : a ∈ L := by
      by_cases q : 0 ≤ (a : Int) ∧ (a : Int).toNat ∈ L
      · have := q.2; rwa [Int.toNat_natCast] at this
      · exact absurd (hst_no q).1 h
    obtain ⟨cell', hc', hs'⟩ := (hL a this).cell
    cases hc.symm.trans hc'
    rw [hs] at hs'
    cases hs'
  · have h1 := (Array.getElem?_eq_some_iff.mp hc).1
    have h2 : (H.size : Int) ≤ a := h
    omega
theorem z_of {E : EA} {L : List Nat} (hL : ∀ a ∈ L, CkN E s.heap a) {C n d : String} {v : Value} (hl : (Cond.laysStatic C n d).before args s = true) (hini : (Cond.initialized C).before args s = true) (hv : (Term.static C n d).eval args s none [] s = some v) : va_Z C n d v (AA (hst E s.heap L)) s s.heap := by
  obtain ⟨cf, kf, fi, f, a, cell, h1, h2, h3, h4, h5, h6, h7, -⟩ := va_Zof (A := fun _ => False) hl hini hv (fun _ _ h => h)
  exact ⟨cf, kf, fi, f, a, cell, h1, h2, h3, h4, h5, h6, h7, nAA hL h5 h6⟩
theorem zq_of {E : EA} {L : List Nat} (hL : ∀ a ∈ L, CkN E s.heap a) {C n d : String} (hl : (Cond.laysStatic C n d).before args s = true) (hini : (Cond.initialized C).before args s = true) (h : (Cond.isRef (.static C n d)).before args s = true) : vx_Zq C n d (AA (hst E s.heap L)) s s.heap := by
  have h0 := vx_Zqof (A := fun _ => False) hl hini h (fun _ _ h => h)
  refine ⟨?_, ?_⟩
  · rcases h0.1 with ⟨cf, kf, fi, f, a, cell, h1, h2, h3, h4, h5, h6, h7, -⟩ | ⟨t, cf, kf, fi, f, a, cell, h1, h2, h3, h4, h5, h6, h7, -⟩
    · exact Or.inl ⟨cf, kf, fi, f, a, cell, h1, h2, h3, h4, h5, h6, h7, nAA hL h5 h6⟩
    · exact Or.inr ⟨t, cf, kf, fi, f, a, cell, h1, h2, h3, h4, h5, h6, h7, nAA hL h5 h6⟩
  · obtain ⟨c, k, i, f, a, cell, h1, h2, h3, h4, h5, h6, h7, h8, h9, -⟩ := h0.2
    exact ⟨c, k, i, f, a, cell, h1, h2, h3, h4, h5, h6, h7, h8, h9, nAA hL h5 h6⟩
theorem sk_ref (hts : ∀ w ∈ lw_tbl, w.before args s = true) : ∀ x ∈ skA, (Cond.stringRef x.1 x.2.1 x.2.2).before args s = true :=
  List.forall_mem_cons.mpr ⟨(hts _ q384), List.forall_mem_cons.mpr ⟨(hts _ q385), List.forall_mem_cons.mpr ⟨(hts _ q386), List.forall_mem_cons.mpr ⟨(hts _ q387), List.forall_mem_cons.mpr ⟨(hts _ q388), List.forall_mem_cons.mpr ⟨(hts _ q389), List.forall_mem_cons.mpr ⟨(hts _ q390), List.forall_mem_cons.mpr ⟨(hts _ q391), List.forall_mem_cons.mpr ⟨(hts _ q459), List.forall_mem_cons.mpr ⟨(hts _ q2180), List.forall_mem_cons.mpr ⟨(hts _ q2181), List.forall_mem_cons.mpr ⟨(hts _ q2182), List.forall_mem_cons.mpr ⟨(hts _ q2183), List.forall_mem_cons.mpr ⟨(hts _ q2184), List.forall_mem_cons.mpr ⟨(hts _ q2185), List.forall_mem_cons.mpr ⟨(hts _ q2186), List.forall_mem_cons.mpr ⟨(hts _ q2187), List.forall_mem_cons.mpr ⟨(hts _ q2188), List.forall_mem_cons.mpr ⟨(hts _ q2189), List.forall_mem_cons.mpr ⟨(hts _ q2190), List.forall_mem_cons.mpr ⟨(hts _ q2191), List.forall_mem_cons.mpr ⟨(hts _ q2192), List.forall_mem_cons.mpr ⟨(hts _ q2193), List.forall_mem_cons.mpr ⟨(hts _ q2194), List.forall_mem_cons.mpr ⟨(hts _ q2195), List.forall_mem_cons.mpr ⟨(hts _ q2196), List.forall_mem_cons.mpr ⟨(hts _ q2197), List.forall_mem_cons.mpr ⟨(hts _ q2198), List.forall_mem_cons.mpr ⟨(hts _ q2199), List.forall_mem_cons.mpr ⟨(hts _ q2200), List.forall_mem_cons.mpr ⟨(hts _ q2201), List.forall_mem_cons.mpr ⟨(hts _ q2202), List.forall_mem_cons.mpr ⟨(hts _ q2203), List.forall_mem_cons.mpr ⟨(hts _ q298), List.forall_mem_cons.mpr ⟨(hts _ q1630), List.forall_mem_cons.mpr ⟨(hts _ q1631), List.forall_mem_cons.mpr ⟨(hts _ q1854), List.forall_mem_cons.mpr ⟨(hts _ q1940), List.forall_mem_cons.mpr ⟨(hts _ q2012), List.forall_mem_cons.mpr ⟨(hts _ q2037), List.forall_mem_cons.mpr ⟨(hts _ q2040), fun _ h => absurd h List.not_mem_nil⟩⟩⟩⟩⟩⟩⟩⟩⟩⟩⟩⟩⟩⟩⟩⟩⟩⟩⟩⟩⟩⟩⟩⟩⟩⟩⟩⟩⟩⟩⟩⟩⟩⟩⟩⟩⟩⟩⟩⟩⟩
theorem fw_all (hts : ∀ w ∈ lw_tbl, w.before args s = true) : ∀ x ∈ fwL, va_Fw "java/util/ArrayList" (mLi x.1 x.2) (mAL x.1 x.2) s :=
  List.forall_mem_cons.mpr ⟨va_Fw.of (hts _ q772) (hts _ q771) (hts _ q777) (hts _ q775) (hts _ q773), List.forall_mem_cons.mpr ⟨va_Fw.of (hts _ q934) (hts _ q933) (hts _ q938) (hts _ q936) (hts _ q773), List.forall_mem_cons.mpr ⟨va_Fw.of (hts _ q1203) (hts _ q1202) (hts _ q1207) (hts _ q1205) (hts _ q773), List.forall_mem_cons.mpr ⟨va_Fw.of (hts _ q1488) (hts _ q1487) (hts _ q1492) (hts _ q1490) (hts _ q773), List.forall_mem_cons.mpr ⟨va_Fw.of (hts _ q1505) (hts _ q1504) (hts _ q1509) (hts _ q1507) (hts _ q773), fun _ h => absurd h List.not_mem_nil⟩⟩⟩⟩⟩
/-- objects of the start: every slot is a field -/
theorem four {a b c d i : Nat} (ha : a < 4) (hb : b < 4) (hc : c < 4) (hd : d < 4) (h1 : a ≠ b) (h2 : a ≠ c) (h3 : a ≠ d) (h4 : b ≠ c) (h5 : b ≠ d) (h6 : c ≠ d) (hi : i < 4) : i = a ∨ i = b ∨ i = c ∨ i = d := by omega
theorem slots_same {E : EA} (hK : KA E s) (hta : ∀ w ∈ lw_all, w.before args s = true) {L : List Nat} (hL : ∀ a ∈ L, CkN E s.heap a) (tg : tgOk E) {hF : AH} {H : Heap} (hR : RH E hF H) (hO : Old (hst E s.heap L) hF) (hV : ∀ a, aT (hst E s.heap L) a ≠ 0 → aL hF a = aL (hst E s.heap L) a ∧ ∀ j, aV hF a j = aV (hst E s.heap L) a j) {a : Nat} (ha : a ∈ L) {c c' : Cell} (hc : s.heap[a]? = some c) (hc' : H[a]? = some c') (hsz : c'.slots.size = c.slots.size) (i : Nat) : c'.slots[i]? = c.slots[i]? := by
  by_cases hi : i < c.slots.size
  · rcases hL a ha with ⟨t, f, ht, h⟩ | ⟨t, n, f, ht, h⟩
    · obtain ⟨z1, -, z3⟩ := hst_O tg ha ht h
      obtain ⟨cell, h1, h2, h3, h4, h5⟩ := h
      cases hc.symm.trans h1
      have haN : (a : Int) < aN (hst E s.heap L) := by
        have := (Array.getElem?_eq_some_iff.mp hc).1
        show (a : Int) < (s.heap.size : Int)
        omega
      have hT : aT hF a = t := (hO.2.2 a haN).trans z1
      have hcell := hR.2 a (by rw [hT]; omega)
      unfold aCell at hcell
      rw [hT, if_pos (by omega)] at hcell
      obtain ⟨cell', g1, -, -, g4⟩ := hcell
      cases hc'.symm.trans g1
      have hv := (hV a (by rw [z1]; omega)).2
      have key : ∀ k, k < nf t → c'.slots[E.1.2 (t - 1) k]? = c.slots[E.1.2 (t - 1) k]? := fun k hk => by
        rw [g4 k hk, (h5 k hk).2]
        show some (ev (kof (ft t k)) (aV hF a k)) = _
        rw [hv, z3, if_pos ⟨by omega, by omega⟩]
        rfl
      have inb : ∀ k, k < nf t → E.1.2 (t - 1) k < c.slots.size := fun k hk => (Array.getElem?_eq_some_iff.mp (h5 k hk).2).1
      rcases ht with rfl | rfl
      · have hap := va_apart (own := RJ0) hta in_J0 tyJ0 tyJ0_ok nmJ0 hK.K (ci := 0) rfl
        have n4 : nf 1 = 4 := rfl
        rw [n4] at h4 key inb
        have := four (i := i) (by rw [← h4]; exact inb 0 (by decide)) (by rw [← h4]; exact inb 1 (by decide)) (by rw [← h4]; exact inb 2 (by decide)) (by rw [← h4]; exact inb 3 (by decide)) (hap 0 1 (by decide) (by decide) (by decide)) (hap 0 2 (by decide) (by decide) (by decide)) (hap 0 3 (by decide) (by decide) (by decide)) (hap 1 2 (by decide) (by decide) (by decide)) (hap 1 3 (by decide) (by decide) (by decide)) (hap 2 3 (by decide) (by decide) (by decide)) (by omega)
        rcases this with q | q | q | q <;> rw [q]
        · exact key 0 (by decide)
        · exact key 1 (by decide)
        · exact key 2 (by decide)
        · exact key 3 (by decide)
      · have n1 : nf 2 = 1 := rfl
        rw [n1] at h4 key inb
        have i0 := inb 0 (by decide)
        have : i = E.1.2 (2 - 1) 0 := by omega
        rw [this]
        exact key 0 (by decide)
    · obtain ⟨z1, z2, z3⟩ := hst_R tg ha ht h
      have t64 : 64 ≤ t := by rcases ht with rfl | rfl | rfl | rfl <;> decide
      obtain ⟨cell, h1, h2, h3, h4, h5, h6⟩ := h
      cases hc.symm.trans h1
      have haN : (a : Int) < aN (hst E s.heap L) := by
        have := (Array.getElem?_eq_some_iff.mp hc).1
        show (a : Int) < (s.heap.size : Int)
        omega
      have hT : aT hF a = t := (hO.2.2 a haN).trans z1
      have hcell := hR.2 a (by rw [hT]; omega)
      unfold aCell at hcell
      rw [hT, if_neg (by omega)] at hcell
      obtain ⟨cell', g1, g2, -⟩ := hcell
      cases hc'.symm.trans g1
      obtain ⟨hl, hv⟩ := hV a (by rw [z1]; omega)
      have := g2.2.2.2.2 i (by rw [hl, z2, Int.toNat_natCast]; omega)
      rw [this, (h6 i (by omega)).2]
      show some (ev (kof (ft t 0)) (aV hF a i)) = _
      rw [hv, z3, if_pos ⟨by omega, by omega⟩]
      rfl
  · rw [Array.getElem?_eq_none (by omega), Array.getElem?_eq_none (by omega)]
end WH
/-- THE WALK from the entry, out of the plain law -/
theorem whole_of (LP : LawP) {p : Program} {e : Env} {s : State} {m : MethodId} {below : List Frame} {meth : Method} {c : Code} (l : Launch) (hflags : l.flags = flags0) {b L : Nat} {xs : Nat → Int32} (hL : L ≤ 120) (C0 : lw_At p s m meth c b L xs) : W p l e room_1 s m #[Value.ref b] below meth c s.heap [] 0 0 (lw_Z below #[Value.ref b] s) (entryFrame m ([Value.ref b] : List Value).toArray 8) := by
  obtain ⟨hx, hb, hr, hml, hown, hts, hX, hbl, hlocks, hgv⟩ := C0
  have hta : ∀ w ∈ lw_all, w.before #[.ref b] s = true := fun w h => hts w (lw_all_tbl h)
  have hfl := flat_of_before _ hgv
  have hms : ∀ w ∈ msW, w.before #[.ref b] s = true := fun w h => hfl w (subL_mem _ _ msW_sub w h)
  have hm := fun (i : Nat) (w : Cond) (h : msW[i]? = some w) => hms w (List.mem_of_getElem? h)
  have hex : ∀ w ∈ exW, w.before #[.ref b] s = true := fun w h => hfl w (subL_mem _ _ exW_sub w h)
  have hdO : ∀ w ∈ dgW "DigitOnes" DigitOnesL, w.before #[.ref b] s = true := fun w h => hms w (List.mem_append_left _ (List.mem_append_left _ (List.mem_append_right _ h)))
  have hdT : ∀ w ∈ dgW "DigitTens" DigitTensL, w.before #[.ref b] s = true := fun w h => hms w (List.mem_append_left _ (List.mem_append_right _ h))
  obtain ⟨D, hD⟩ := cls_D hta
  have ic1 := hm 10 _ rfl
  have ic2 := hm 11 _ rfl
  have ic3 := hm 12 _ rfl
  obtain ⟨tc, cellc, q1, q2, q3, q4, q5, q6⟩ := arr_fact (N := 256) (by omega) ic1 ic2
  have hI : ArrOfT s cellc.cls (.object "java/lang/Integer") := fun n z => ⟨(fun k q => by cases q), q4.2⟩
  obtain ⟨scr, x1, x2, x3, x4, x5⟩ := hX
  have hS : ArrOfT s scr.cls .int := fun n z => ⟨(fun k q => by cases q), x2.2⟩
  obtain ⟨A, hA, hA14, hA15⟩ := arr_D hts hI hS
  have hK0 : ∀ kc : Nat → Int, KA (D, A, kc) s := fun kc => ⟨hD, hA⟩
  have hKe := hK0 (fun _ => 0)
  -- the constants' cells
  have hstr : ∀ i : Nat, ∃ r : Nat × Nat, ∀ x, stA[i]? = some x → (stT x).eval #[.ref b] s none [] s = some (.ref r.1) ∧ CkO (D, A, fun _ => 0) s.heap r.1 1 (stF x r.2) ∧ CkR (D, A, fun _ => 0) s.heap r.2 66 x.2.2.1.length (fun j => (x.2.2.1.getD j 0).toInt) := fun i => by
    cases e : stA[i]? with
    | none => exact ⟨(0, 0), fun x h => by cases h⟩
    | some x =>
      obtain ⟨a, q, h1, h2, h3⟩ := st_O hKe hts hgv x (stA_st x (List.mem_of_getElem? e))
      exact ⟨(a, q), fun y h => by cases h; exact ⟨h1, h2, h3⟩⟩
  obtain ⟨sr, hsr⟩ := Classical.axiomOfChoice hstr
  obtain ⟨t2, ht2, hR2⟩ := dg_R hKe dgO_ok hdO (hex _ (.head _))
  obtain ⟨t3, ht3, hR3⟩ := dg_R hKe dgT_ok hdT (hex _ (.tail _ (.head _)))
  obtain ⟨t1, ad, ht1, hR1, hO1⟩ := ic_R hKe hts ic1 ic2 ic3 (fun t cell h1 h2 => by
    cases h1.symm.trans q1
    cases h2.symm.trans q3
    exact hA14.symm)
  obtain ⟨t0, cd, ht0, -, d3, d4, d5, d6⟩ := arr_fact (N := 0) (by omega) (hm 3 _ rfl) (hm 5 _ rfl)
  have hR0 : CkR (D, A, fun _ => 0) s.heap t0 68 0 (fun _ => -1) := by
    obtain ⟨a, c', cell', k, g1, g2, g3, -, -, g6, -⟩ := Cond.exactly_spec (hm 4 _ rfl)
    cases g1.symm.trans ht0
    cases g3.symm.trans d3
    refine ⟨cd, d3, ?_, d5, d6, by omega, fun j hj => absurd hj (Nat.not_lt_zero j)⟩
    rw [g6]
    exact Option.some.inj (g2.symm.trans (va_nmO (nm := "[Ljava/lang/Object;") (hKe.arr (j := 4) rfl).2 (by decide +kernel)))
  have hRb : CkR (D, A, fun _ => 0) s.heap b 79 L (fun j => (xs j).toInt) :=
    ⟨scr, x1, hA15.symm, ⟨x3, by cases hv : scr.vm with | statics k => exact absurd hv (x2.1 k) | _ => rfl⟩, x4, by omega, fun j hj => ⟨⟨Int32.le_toInt _, Int32.toInt_lt _⟩, (x5 j hj).trans (congrArg some (ev_i _).symm)⟩⟩
  obtain ⟨v4, hv4, hr4⟩ := Cond.isRef_spec (hm 1 _ rfl)
  obtain ⟨n4, hn4, hv4'⟩ : ∃ n : Int, -1 ≤ n ∧ v4 = ev 2 n := by
    cases v4 with
    | null => exact ⟨-1, by omega, (ev_null (by omega)).symm⟩
    | ref q => exact ⟨q, by omega, (ev_ref q).symm⟩
    | _ => cases hr4
  subst hv4'
  obtain ⟨mi, hmi⟩ := va_Mi.of (hm (msW.length - 1) _ rfl)
  -- the environment
  have hLs : ∃ Ls : List Nat, Ls = [b, t0, t1, t2, t3] ++ (List.range 41).map (fun i => (sr i).1) ++ (List.range 41).map (fun i => (sr i).2) ++ (List.range 256).map ad := ⟨_, rfl⟩
  obtain ⟨Ls, hLs⟩ := hLs
  have hkc : ∃ kc : Nat → Int, kc = fun i => if 1000 ≤ i then (if i - 1000 ∈ Ls then 1 else 0) else if 100 ≤ i then ((sr (i - 100)).1 : Int) else if i = 0 then (t0 : Int) else if i = 1 then (t1 : Int) else if i = 2 then (t2 : Int) else if i = 3 then (t3 : Int) else if i = 4 then n4 else if i = 5 then (mi : Int) else 0 := ⟨_, rfl⟩
  obtain ⟨kc, hkc⟩ := hkc
  have k0 : kc 0 = t0 := by rw [hkc]; rfl
  have k1 : kc 1 = t1 := by rw [hkc]; rfl
  have k2 : kc 2 = t2 := by rw [hkc]; rfl
  have k3 : kc 3 = t3 := by rw [hkc]; rfl
  have k4 : kc 4 = n4 := by rw [hkc]; rfl
  have k5 : kc 5 = mi := by rw [hkc]; rfl
  have kS : ∀ i, i < 900 → kc (100 + i) = (sr i).1 := fun i hi => by
    rw [hkc]
    show (if 1000 ≤ 100 + i then _ else _) = _
    rw [if_neg (by omega), if_pos (by omega), show 100 + i - 100 = i by omega]
  have kT : ∀ a, kc (1000 + a) = if a ∈ Ls then 1 else 0 := fun a => by
    rw [hkc]
    show (if 1000 ≤ 1000 + a then _ else _) = _
    rw [if_pos (by omega), show 1000 + a - 1000 = a by omega]
  have hE : ∀ i, TI 5 (kc i) := fun i => by
    show -1 ≤ kc i
    rw [hkc]
    dsimp only
    repeat' split
    all_goals omega
  have hK := hK0 kc
  have tg := tg_ok hK
  have hsk : ∀ i, i < 41 → ∃ x, stA[i]? = some x := fun i hi => ⟨_, List.getElem?_eq_getElem (show i < stA.length from hi)⟩
  have hCk : ∀ a ∈ Ls, CkN (D, A, kc) s.heap a := by
    rw [hLs]
    intro a ha
    rcases List.mem_append.mp ha with ha | ha
    · rcases List.mem_append.mp ha with ha | ha
      · rcases List.mem_append.mp ha with ha | ha
        · simp only [List.mem_cons, List.not_mem_nil, or_false] at ha
          rcases ha with rfl | rfl | rfl | rfl | rfl
          · exact Or.inr ⟨79, L, _, Or.inl rfl, hRb⟩
          · exact Or.inr ⟨68, 0, _, Or.inr (Or.inr (Or.inl rfl)), hR0⟩
          · exact Or.inr ⟨78, 256, _, Or.inr (Or.inr (Or.inr rfl)), hR1⟩
          · exact Or.inr ⟨66, 100, _, Or.inr (Or.inl rfl), hR2⟩
          · exact Or.inr ⟨66, 100, _, Or.inr (Or.inl rfl), hR3⟩
        · obtain ⟨i, hi, rfl⟩ := List.mem_map.mp ha
          obtain ⟨x, hx⟩ := hsk i (List.mem_range.mp hi)
          exact Or.inl ⟨1, _, Or.inl rfl, (hsr i x hx).2.1⟩
      · obtain ⟨i, hi, rfl⟩ := List.mem_map.mp ha
        obtain ⟨x, hx⟩ := hsk i (List.mem_range.mp hi)
        exact Or.inr ⟨66, _, _, Or.inr (Or.inl rfl), (hsr i x hx).2.2⟩
    · obtain ⟨j, hj, rfl⟩ := List.mem_map.mp ha
      exact Or.inl ⟨2, _, Or.inr rfl, hO1 j (List.mem_range.mp hj)⟩
  have iS1 : ∀ i, i < 41 → (sr i).1 ∈ Ls := fun i hi => by rw [hLs]; exact List.mem_append_left _ (List.mem_append_left _ (List.mem_append_right _ (List.mem_map.mpr ⟨i, List.mem_range.mpr hi, rfl⟩)))
  have iS2 : ∀ i, i < 41 → (sr i).2 ∈ Ls := fun i hi => by rw [hLs]; exact List.mem_append_left _ (List.mem_append_right _ (List.mem_map.mpr ⟨i, List.mem_range.mpr hi, rfl⟩))
  have iAd : ∀ j, j < 256 → ad j ∈ Ls := fun j hj => by rw [hLs]; exact List.mem_append_right _ (List.mem_map.mpr ⟨j, List.mem_range.mpr hj, rfl⟩)
  have i5 : ∀ a ∈ [b, t0, t1, t2, t3], a ∈ Ls := fun a ha => by rw [hLs]; exact List.mem_append_left _ (List.mem_append_left _ (List.mem_append_left _ ha))
  have ib := i5 b (.head _)
  have i0 := i5 t0 (.tail _ (.head _))
  have i1 := i5 t1 (.tail _ (.tail _ (.head _)))
  have i2 := i5 t2 (.tail _ (.tail _ (.tail _ (.head _))))
  have i3 := i5 t3 (.tail _ (.tail _ (.tail _ (.tail _ (.head _)))))
  have hT := hst_T tg hCk
  have hR := hst_H tg hCk (fun a ha => by show kc (1000 + a) = 1; rw [kT, if_pos ha])
  have start : StartP kc (hst (D, A, kc) s.heap Ls) b := by
    refine ⟨hT, fun a ha => ?_, ?_, fun i bs hbs => ?_, ?_, ?_, ?_, ?_, hE⟩
    · have ha' : (s.heap.size : Int) ≤ a := ha
      rw [kT, if_neg (fun q => ?_)]
      · decide
      · obtain ⟨cell, hc, -⟩ := (hCk a q).cell
        have := (Array.getElem?_eq_some_iff.mp hc).1
        omega
    · obtain ⟨z1, z2, -⟩ := hst_R tg ib (Or.inl rfl) (show CkR (D, A, kc) s.heap b 79 L _ from hRb)
      exact ⟨z1, by rw [z2]; omega⟩
    · unfold skB at hbs
      rw [List.getElem?_map] at hbs
      cases e : stA[i]? with
      | none => rw [e] at hbs; cases hbs
      | some x =>
        rw [e] at hbs
        cases hbs
        have hi : i < 41 := (List.getElem?_eq_some_iff.mp e).1
        obtain ⟨h1, h2, h3⟩ := hsr i x e
        obtain ⟨z1, -, z3⟩ := hst_O tg (iS1 i hi) (Or.inl rfl) (show CkO (D, A, kc) s.heap _ 1 _ from h2)
        obtain ⟨y1, y2, y3⟩ := hst_R tg (iS2 i hi) (Or.inr (Or.inl rfl)) (show CkR (D, A, kc) s.heap _ 66 _ _ from h3)
        have e0 : aV (hst (D, A, kc) s.heap Ls) (sr i).1 0 = (sr i).2 := (z3 0).trans (if_pos ⟨by omega, by decide⟩)
        rw [kS i (by omega), e0]
        refine ⟨z1, (z3 1).trans (if_pos ⟨by omega, by decide⟩), y1, by rw [y2, List.length_map], fun j c hj => ?_⟩
        rw [List.getElem?_map] at hj
        cases e2 : x.2.2.1[j]? with
        | none => rw [e2] at hj; cases hj
        | some w =>
          rw [e2] at hj
          cases hj
          have hjl := (List.getElem?_eq_some_iff.mp e2).1
          rw [y3, if_pos ⟨by omega, by omega⟩, Int.toNat_natCast, List.getD_eq_getElem?_getD, e2]
          rfl
    · obtain ⟨z1, z2, -⟩ := hst_R tg i0 (Or.inr (Or.inr (Or.inl rfl))) (show CkR (D, A, kc) s.heap t0 68 0 _ from hR0)
      rw [k0]
      exact ⟨z1, z2⟩
    · obtain ⟨z1, z2, z3⟩ := hst_R tg i1 (Or.inr (Or.inr (Or.inr rfl))) (show CkR (D, A, kc) s.heap t1 78 256 _ from hR1)
      rw [k1]
      refine ⟨z1, z2, fun j hj => ?_⟩
      rw [z3, if_pos ⟨by omega, by omega⟩, Int.toNat_natCast]
      obtain ⟨y1, -, y3⟩ := hst_O tg (iAd j hj) (Or.inr rfl) (show CkO (D, A, kc) s.heap _ 2 _ from hO1 j hj)
      exact ⟨y1, (y3 0).trans (if_pos ⟨by omega, by decide⟩)⟩
    · obtain ⟨z1, z2, z3⟩ := hst_R tg i2 (Or.inr (Or.inl rfl)) (show CkR (D, A, kc) s.heap t2 66 100 _ from hR2)
      rw [k2]
      refine ⟨z1, z2, fun j v hv => ?_⟩
      have hj := (List.getElem?_eq_some_iff.mp hv).1
      rw [dgO_ok.1] at hj
      rw [z3, if_pos ⟨by omega, by omega⟩, Int.toNat_natCast, List.getD_eq_getElem?_getD, hv]
      rfl
    · obtain ⟨z1, z2, z3⟩ := hst_R tg i3 (Or.inr (Or.inl rfl)) (show CkR (D, A, kc) s.heap t3 66 100 _ from hR3)
      rw [k3]
      refine ⟨z1, z2, fun j v hv => ?_⟩
      have hj := (List.getElem?_eq_some_iff.mp hv).1
      rw [dgT_ok.1] at hj
      rw [z3, if_pos ⟨by omega, by omega⟩, Int.toNat_natCast, List.getD_eq_getElem?_getD, hv]
      rfl
  obtain ⟨hF, eF, bN, bS, bV⟩ := LP kc _ b start
  have hl9 : l.stackTraces = false := by unfold Launch.stackTraces; rw [hflags]; decide +kernel
  have hskl : ∀ (i : Nat) (x : String × Nat × String), skA[i]? = some x → i < 41 ∧ ∃ y, stA[i]? = some y ∧ y.1 = x.1 ∧ y.2.1 = x.2.1 := fun i x hx => by
    have hi : i < 41 := (List.getElem?_eq_some_iff.mp hx).1
    obtain ⟨y, hy⟩ := hsk i hi
    have h := congrArg (fun l => l[i]?) stA_sk
    simp only [List.getElem?_map, hx, hy, Option.map_some, Option.some.injEq, Prod.mk.injEq] at h
    exact ⟨hi, y, hy, h.1, h.2⟩
  have EFs : EF ncA skA (D, A, kc) s := by
    refine ⟨hK, kb_all hK hts, fun w hw hs => va_Nw.of (nwS_on hs) (hts w hw), ?_, ?_, fw_all hts, fun x hx => va_Nc.of (hfl _ (subL_mem _ _ ncS_sub _ (List.mem_map.mpr ⟨x, ncA_sub x hx, rfl⟩))), fun i x hx => ?_, ?_, ?_⟩
    · exact List.forall_mem_cons.mpr ⟨va_AO.of (hts _ q851), List.forall_mem_cons.mpr ⟨va_AO.of (hts _ q290), List.forall_mem_cons.mpr ⟨va_AO.of (hts _ q293), List.forall_mem_cons.mpr ⟨va_AO.of (hts _ q295), List.forall_mem_cons.mpr ⟨va_AO.of (hts _ q457), fun _ h => absurd h List.not_mem_nil⟩⟩⟩⟩⟩
    · exact List.forall_mem_cons.mpr ⟨(hts _ q527), List.forall_mem_cons.mpr ⟨(hts _ q542), List.forall_mem_cons.mpr ⟨(hts _ q289), List.forall_mem_cons.mpr ⟨(hts _ q456), List.forall_mem_cons.mpr ⟨(hts _ q2346), fun _ h => absurd h List.not_mem_nil⟩⟩⟩⟩⟩
    · obtain ⟨hi, y, hy, e1, e2⟩ := hskl i x hx
      have hv := (hsr i y hy).1
      show 0 ≤ kc (100 + i) ∧ vk_R x.1 x.2.1 x.2.2 (kc (100 + i)).toNat s
      rw [kS i (by omega), Int.toNat_natCast]
      refine ⟨by omega, vk_R.of (sk_ref hts x (List.mem_of_getElem? hx)) ?_⟩
      rw [← e1, ← e2]
      exact hv
    · show 0 ≤ kc 5
      rw [k5]; omega
    · show va_Mi _ (kc 5).toNat s
      rw [k5, Int.toNat_natCast]; exact hmi
  have ZSs : ZS (D, A, kc) (hst (D, A, kc) s.heap Ls) s := by
    have r0 : ev 2 (kc 0) = .ref t0 := by rw [k0]; exact ev_ref _
    have r1 : ev 2 (kc 1) = .ref t1 := by rw [k1]; exact ev_ref _
    have r2 : ev 2 (kc 2) = .ref t2 := by rw [k2]; exact ev_ref _
    have r3 : ev 2 (kc 3) = .ref t3 := by rw [k3]; exact ev_ref _
    refine ⟨?_, zq_of hCk (hts _ q674) (hts _ (lw_all_tbl q227)) (hm 6 _ rfl), zq_of hCk (hts _ q676) (hts _ (lw_all_tbl q227)) (hm 7 _ rfl)⟩
    refine List.forall_mem_cons.mpr ⟨z_of hCk (hts _ q312) (hts _ (lw_all_tbl q219)) (va_eqi (hm 0 _ rfl)), List.forall_mem_cons.mpr ⟨z_of hCk (hts _ q473) (hts _ (lw_all_tbl q225)) (ht0.trans (congrArg some r0.symm)), List.forall_mem_cons.mpr ⟨z_of hCk (hts _ q753) (hts _ (lw_all_tbl q247)) (va_eqi (hm 8 _ rfl)), List.forall_mem_cons.mpr ⟨z_of hCk (hts _ q755) (hts _ (lw_all_tbl q247)) (ht1.trans (congrArg some r1.symm)), List.forall_mem_cons.mpr ⟨z_of hCk (hts _ q1803) (hts _ (lw_all_tbl q241)) (ht2.trans (congrArg some r2.symm)), List.forall_mem_cons.mpr ⟨z_of hCk (hts _ q1805) (hts _ (lw_all_tbl q241)) (ht3.trans (congrArg some r3.symm)), List.forall_mem_cons.mpr ⟨z_of hCk (hts _ q336) (hts _ (lw_all_tbl q221)) ?_, fun _ h => absurd h List.not_mem_nil⟩⟩⟩⟩⟩⟩⟩
    show _ = some (ev 2 (kc 4))
    rw [k4]; exact hv4
  -- the walk
  generalize hh0 : hst (D, A, kc) s.heap Ls = h0 at hT hR start eF bN bS bV ZSs
  have hN0 : aN h0 = s.heap.size := by rw [← hh0]; rfl
  have kx := X_L_law (l := l) (E := (D, A, kc)) hE hl9 meth.name ((p, l, e, rmA 1569 h0 hF, s), (m, #[.ref b], below, meth, c), (AA h0, s.heap, MQ below (QA (D, A, kc) h0 hF 1 1) #[.ref b] s (aN hF - aN h0).toNat (aS hF - aS h0).toNat (AA h0), 8)) h0 hT b (show (-1 : Int) ≤ (b : Int) by omega) eF
  have hO : Old h0 hF := kx.1.1
  have hle := lv_entry ([.ref b]) (n := 8) (Nat.le_of_ble_eq_true rfl)
  rw [lg_entry_eq]
  generalize (lg_sl ([.ref b]) ++ List.replicate (8 - (lg_sl ([.ref b])).length) Slot.unset).toArray = ls at hle ⊢
  have hle : lv_has ls 8 (lvm [(0, (2, (b : Int)))]) := by
    show lv_has ls 8 [(0, ev 2 (b : Int))]
    rw [ev_ref]; exact hle
  have g : Ma ((p, l, e, rmA 1569 h0 hF, s), (m, #[.ref b], below, meth, c), (AA h0, s.heap, MQ below (QA (D, A, kc) h0 hF 1 1) #[.ref b] s (aN hF - aN h0).toNat (aS hF - aS h0).toNat (AA h0), 8)) cL_law 8 RX0 (D, A, kc) l 1569 h0 hF 1 1 (some .boolean) meth.name :=
    ⟨⟨⟨⟨hx, hb, hml, rfl, hown, hta, hlocks⟩, hK, EFs.2.2.1, rfl, hN0.symm, rfl⟩, EFs, ZSs, ⟨rfl, rfl⟩, rfl, ⟨rfl, rfl⟩, rfl⟩, rfl, hr⟩
  have w := kx.2 s.heap [] ls ⟨g, hR⟩ va_S.rf hle
  have w := XW.cs (k := 0) (n := 0) w (by show 0 = (aN h0 - aN h0).toNat; omega) (by show 0 = (aS h0 - aS h0).toNat; omega)
  intro T hTh X0
  have o1 := hO.1
  have o2 := hO.2.1
  obtain ⟨t, a1, o, b1, b2, ⟨c1, c2, -⟩, Lc, ⟨b4, b5, b6⟩, b7⟩ := w T hTh (stand_less X0 (R' := rmA 1569 h0 hF) (by show 1569 ≤ 8192; decide) (by show (aN hF - aN h0).toNat ≤ 1200144; omega) (by show (aS hF - aS h0).toNat ≤ 5496442; omega) (by show 64 * 1569 ≤ 104096; decide))
  obtain ⟨m1, m2, m3, m4, m5, m6⟩ := b6
  refine ⟨t, a1, o, b1, b2, c1, b4, b5, m1, m2, Nat.le_trans m3 (by omega), m4, Nat.le_trans m5 (by omega), fun a c0 hc0 => ?_⟩
  obtain ⟨c', n1, n2, n3, n4⟩ := m6 a c0 hc0
  refine ⟨c', n1, n2, n3, fun i _ => ?_⟩
  subst hh0
  by_cases q : a ∈ Ls
  · exact slots_same hK hta hCk tg c2 hO bV q hc0 n1 n3 i
  · refine n4 i (fun z => ?_)
    rcases b7 _ z with y | y
    · exact y (hst_no (fun x => q (by have := x.2; rwa [Int.toNat_natCast] at this))).1
    · have h1 := (Array.getElem?_eq_some_iff.mp hc0).1
      have h2 : (s.heap.size : Int) ≤ (a : Nat) := y
      omega

