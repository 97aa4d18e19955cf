-- single words out of what the Statement gives
section SW
variable {args : Array Value} {s : State}
abbrev st_g : Cond := Jvm.Cond.and given_1 narrow_1
theorem st_l {a b : Cond} (h : (Jvm.Cond.and a b).before args s = true) : a.before args s = true := by
  rw [Cond.before_and, Bool.and_eq_true] at h
  exact h.1
theorem st_r {a b : Cond} (h : (Jvm.Cond.and a b).before args s = true) : b.before args s = true := by
  rw [Cond.before_and, Bool.and_eq_true] at h
  exact h.2
def st_one (i : Nat) : Int32 := Int32.ofNat (48 + i % 10)
def st_ten (i : Nat) : Int32 := Int32.ofNat (48 + i / 10)
abbrev st_on : Term := .static "java/lang/Integer" "DigitOnes" "[B"
abbrev st_te : Term := .static "java/lang/Integer" "DigitTens" "[B"
def st_all (P : Nat → Prop) : Nat → Prop
  | 0 => True
  | n + 1 => st_all P n ∧ P n
theorem st_allS {P : Nat → Prop} : ∀ {n : Nat}, st_all P n → ∀ j : Nat, j < n → P j
  | 0, _, j, hj => absurd hj (Nat.not_lt_zero _)
  | n + 1, h, j, hj => by
    by_cases e : j = n
    · subst e; exact h.2
    · exact st_allS h.1 j (by omega)
theorem st_w0 (h : st_g.before args s = true) : (Jvm.Cond.exactly (Jvm.Term.static "java/util/ArrayList" "DEFAULTCAPACITY_EMPTY_ELEMENTDATA" "[Ljava/lang/Object;") "[Ljava/lang/Object;").before args s = true := (st_r (st_r (st_r (st_l (st_l (st_l (st_l (st_l (st_l (st_l (st_r h)))))))))))
theorem st_w1 (h : st_g.before args s = true) : (Jvm.Cond.arrayOf (Jvm.Term.static "java/util/ArrayList" "DEFAULTCAPACITY_EMPTY_ELEMENTDATA" "[Ljava/lang/Object;") (Jvm.ClassFile.FieldType.object "java/lang/Object")).before args s = true := (st_l (st_r (st_r (st_l (st_l (st_l (st_l (st_l (st_l (st_l (st_r h)))))))))))
theorem st_w2 (h : st_g.before args s = true) : (Jvm.Cond.eq (Jvm.Term.length (Jvm.Term.static "java/util/ArrayList" "DEFAULTCAPACITY_EMPTY_ELEMENTDATA" "[Ljava/lang/Object;")) (Jvm.Term.int (0 : Int32))).before args s = true := (st_l (st_l (st_r (st_l (st_l (st_l (st_l (st_l (st_l (st_r h))))))))))
theorem st_w3 (h : st_g.before args s = true) : (Jvm.Cond.exactly (Jvm.Term.static "java/lang/Integer" "DigitOnes" "[B") "[B").before args s = true := (st_l (st_r (st_l (st_r (st_l (st_r (st_r (st_r (st_r (st_r (st_r (st_r h))))))))))))
theorem st_w4 (h : st_g.before args s = true) : (Jvm.Cond.arrayOf (Jvm.Term.static "java/lang/Integer" "DigitOnes" "[B") Jvm.ClassFile.FieldType.byte).before args s = true := (st_r (st_r (st_l (st_l (st_r (st_l (st_l (st_l (st_l (st_l (st_r h)))))))))))
theorem st_w5 (h : st_g.before args s = true) : (Jvm.Cond.eq (Jvm.Term.length (Jvm.Term.static "java/lang/Integer" "DigitOnes" "[B")) (Jvm.Term.int (100 : Int32))).before args s = true := (st_l (st_r (st_l (st_r (st_l (st_l (st_l (st_l (st_l (st_r h))))))))))
theorem st_w6 (h : st_g.before args s = true) : (Jvm.Cond.exactly (Jvm.Term.static "java/lang/Integer" "DigitTens" "[B") "[B").before args s = true := (st_r (st_r (st_l (st_r (st_l (st_r (st_r (st_r (st_r (st_r (st_r (st_r h))))))))))))
theorem st_w7 (h : st_g.before args s = true) : (Jvm.Cond.arrayOf (Jvm.Term.static "java/lang/Integer" "DigitTens" "[B") Jvm.ClassFile.FieldType.byte).before args s = true := (st_r (st_r (st_r (st_l (st_r (st_l (st_l (st_r (st_l (st_l (st_r h)))))))))))
theorem st_w8 (h : st_g.before args s = true) : (Jvm.Cond.eq (Jvm.Term.length (Jvm.Term.static "java/lang/Integer" "DigitTens" "[B")) (Jvm.Term.int (100 : Int32))).before args s = true := (st_l (st_l (st_r (st_r (st_l (st_l (st_r (st_l (st_l (st_r h))))))))))
theorem st_w9 (h : st_g.before args s = true) : (Jvm.Cond.exactly (Jvm.Term.string "TreeDifferModel" (41 : Nat)) "java/lang/String").before args s = true := (st_l (st_r (st_r (st_l (st_l (st_r (st_r (st_r (st_r (st_r (st_r h)))))))))))
theorem st_w10 (h : st_g.before args s = true) : (Jvm.Cond.exactly (Jvm.Term.field (Jvm.Term.string "TreeDifferModel" (41 : Nat)) "java/lang/String" "value" "[B") "[B").before args s = true := (st_r (st_r (st_r (st_r (st_r (st_r (st_r (st_r (st_r (st_r (st_r (st_r h))))))))))))
theorem st_w11 (h : st_g.before args s = true) : (Jvm.Cond.arrayOf (Jvm.Term.field (Jvm.Term.string "TreeDifferModel" (41 : Nat)) "java/lang/String" "value" "[B") Jvm.ClassFile.FieldType.byte).before args s = true := (st_r (st_r (st_r (st_r (st_l (st_l (st_r (st_r (st_r (st_r (st_r (st_r h))))))))))))
theorem st_w12 (h : st_g.before args s = true) : (Jvm.Cond.eq (Jvm.Term.length (Jvm.Term.field (Jvm.Term.string "TreeDifferModel" (41 : Nat)) "java/lang/String" "value" "[B")) (Jvm.Term.int (0 : Int32))).before args s = true := (st_l (st_l (st_l (st_r (st_l (st_r (st_r (st_r (st_r (st_r (st_r h)))))))))))
theorem st_w13 (h : st_g.before args s = true) : (Jvm.Cond.eq (Jvm.Term.field (Jvm.Term.string "TreeDifferModel" (41 : Nat)) "java/lang/String" "coder" "B") (Jvm.Term.int (0 : Int32))).before args s = true := (st_l (st_r (st_r (st_r (st_l (st_l (st_r (st_r (st_r (st_r (st_r (st_r h))))))))))))
theorem st_w14 (h : st_g.before args s = true) : (Jvm.Cond.eq (Jvm.Term.field (Jvm.Term.string "TreeDifferModel" (41 : Nat)) "java/lang/String" "hash" "I") (Jvm.Term.int (0 : Int32))).before args s = true := (st_l (st_r (st_l (st_l (st_r (st_l (st_r (st_r (st_r (st_r (st_r (st_r h))))))))))))
theorem st_w15 (h : st_g.before args s = true) : (Jvm.Cond.eq (Jvm.Term.field (Jvm.Term.string "TreeDifferModel" (41 : Nat)) "java/lang/String" "hashIsZero" "Z") (Jvm.Term.int (1 : Int32))).before args s = true := (st_r (st_r (st_l (st_l (st_r (st_l (st_r (st_r (st_r (st_r (st_r (st_r h))))))))))))
theorem st_w16 (h : st_g.before args s = true) : (Jvm.Cond.eq (Jvm.Term.static "java/lang/String" "COMPACT_STRINGS" "Z") (Jvm.Term.int (1 : Int32))).before args s = true := (st_r (st_r (st_l (st_l (st_l (st_l (st_l (st_l (st_l (st_l (st_r h)))))))))))
theorem st_w17 (h : st_g.before args s = true) : (Jvm.Cond.eq (Jvm.Term.static "java/lang/StringUTF16" "$assertionsDisabled" "Z") (Jvm.Term.int (1 : Int32))).before args s = true := (st_l (st_r (st_r (st_r (st_l (st_l (st_l (st_l (st_l (st_l (st_r h)))))))))))
theorem st_w18 (h : st_g.before args s = true) : (Jvm.Cond.eq (Jvm.Term.static "java/lang/StringUTF16" "HI_BYTE_SHIFT" "I") (Jvm.Term.int (0 : Int32))).before args s = true := (st_r (st_r (st_r (st_r (st_l (st_l (st_l (st_l (st_l (st_l (st_r h)))))))))))
theorem st_w19 (h : st_g.before args s = true) : (Jvm.Cond.eq (Jvm.Term.static "java/lang/StringUTF16" "LO_BYTE_SHIFT" "I") (Jvm.Term.int (8 : Int32))).before args s = true := (st_l (st_l (st_l (st_r (st_l (st_l (st_l (st_l (st_l (st_r h))))))))))
theorem st_w20 (h : st_g.before args s = true) : (Jvm.Cond.isRef (Jvm.Term.static "jdk/internal/util/Preconditions" "SIOOBE_FORMATTER" "Ljava/util/function/BiFunction;")).before args s = true := (st_l (st_r (st_r (st_l (st_l (st_l (st_l (st_l (st_l (st_r h))))))))))
theorem st_w21 (h : st_g.before args s = true) : (Jvm.Cond.isRef (Jvm.Term.static "java/lang/Throwable" "UNASSIGNED_STACK" "[Ljava/lang/StackTraceElement;")).before args s = true := (st_l (st_r (st_l (st_r (st_l (st_l (st_l (st_l (st_l (st_l (st_r h)))))))))))
theorem st_w22 (h : st_g.before args s = true) : (Jvm.Cond.isRef (Jvm.Term.static "java/lang/Throwable" "SUPPRESSED_SENTINEL" "Ljava/util/List;")).before args s = true := (st_r (st_r (st_l (st_r (st_l (st_l (st_l (st_l (st_l (st_l (st_r h)))))))))))
theorem st_w23 (h : st_g.before args s = true) : (Jvm.Cond.isRef (Jvm.Term.mirror "[Ljava/lang/Object;")).before args s = true := (st_l (st_r (st_l (st_l (st_l (st_l (st_l (st_r (st_r (st_l (st_r (st_r h))))))))))))
theorem st_n0 (h : st_g.before args s = true) : (Jvm.Cond.not (Jvm.Cond.castable "java/lang/IndexOutOfBoundsException" "java/lang/IllegalArgumentException")).before args s = true := (st_l (st_l (st_l (st_l (st_l (st_r (st_l (st_l (st_l (st_r (st_r h)))))))))))
theorem st_n1 (h : st_g.before args s = true) : (Jvm.Cond.not (Jvm.Cond.castable "java/lang/IndexOutOfBoundsException" "java/lang/IllegalStateException")).before args s = true := (st_l (st_l (st_l (st_r (st_r (st_r (st_r (st_r (st_l (st_r h))))))))))
theorem st_n2 (h : st_g.before args s = true) : (Jvm.Cond.not (Jvm.Cond.castable "java/lang/IndexOutOfBoundsException" "java/util/NoSuchElementException")).before args s = true := (st_r (st_r (st_l (st_l (st_r (st_l (st_l (st_r (st_l (st_l (st_r (st_r h))))))))))))
theorem st_n3 (h : st_g.before args s = true) : (Jvm.Cond.not (Jvm.Cond.castable "java/lang/IndexOutOfBoundsException" "java/lang/UnsupportedOperationException")).before args s = true := (st_l (st_l (st_r (st_r (st_r (st_r (st_l (st_r (st_l (st_l (st_r (st_r h))))))))))))
theorem st_n4 (h : st_g.before args s = true) : (Jvm.Cond.not (Jvm.Cond.castable "java/lang/IndexOutOfBoundsException" "TreeDiffer$WrongText")).before args s = true := (st_l (st_r (st_l (st_r (st_l (st_r (st_r (st_l (st_l (st_l (st_r (st_r h))))))))))))
theorem st_n5 (h : st_g.before args s = true) : (Jvm.Cond.not (Jvm.Cond.castable "java/lang/IndexOutOfBoundsException" "TreeDiffer$Missing")).before args s = true := (st_l (st_r (st_r (st_r (st_l (st_l (st_r (st_l (st_r (st_l (st_r h)))))))))))
theorem st_n6 (h : st_g.before args s = true) : (Jvm.Cond.not (Jvm.Cond.castable "java/lang/IndexOutOfBoundsException" "TreeDiffer$Changed")).before args s = true := (st_r (st_r (st_r (st_l (st_r (st_r (st_r (st_l (st_r (st_l (st_r h)))))))))))
theorem st_n7 (h : st_g.before args s = true) : (Jvm.Cond.not (Jvm.Cond.castable "java/lang/IndexOutOfBoundsException" "TreeDiffer$Clash")).before args s = true := (st_r (st_r (st_r (st_r (st_r (st_l (st_l (st_r (st_r (st_l (st_r h)))))))))))
theorem st_n8 (h : st_g.before args s = true) : (Jvm.Cond.not (Jvm.Cond.castable "java/lang/IndexOutOfBoundsException" "TreeDiffer$Full")).before args s = true := (st_l (st_l (st_r (st_l (st_l (st_r (st_r (st_r (st_l (st_r h))))))))))
theorem st_n9 (h : st_g.before args s = true) : (Jvm.Cond.not (Jvm.Cond.castable "java/lang/IndexOutOfBoundsException" "TreeDiffer$Conflict")).before args s = true := (st_l (st_r (st_l (st_l (st_r (st_l (st_l (st_r (st_l (st_r h))))))))))
theorem st_n10 (h : st_g.before args s = true) : (Jvm.Cond.not (Jvm.Cond.castable "java/lang/IllegalArgumentException" "java/lang/IndexOutOfBoundsException")).before args s = true := (st_r (st_r (st_r (st_r (st_r (st_l (st_l (st_l (st_l (st_l (st_r (st_r h))))))))))))
theorem st_n11 (h : st_g.before args s = true) : (Jvm.Cond.not (Jvm.Cond.castable "java/lang/IllegalArgumentException" "java/lang/IllegalStateException")).before args s = true := (st_l (st_l (st_r (st_r (st_r (st_r (st_r (st_r (st_l (st_r h))))))))))
theorem st_n12 (h : st_g.before args s = true) : (Jvm.Cond.not (Jvm.Cond.castable "java/lang/IllegalArgumentException" "java/util/NoSuchElementException")).before args s = true := (st_l (st_r (st_l (st_r (st_r (st_l (st_l (st_r (st_l (st_l (st_r (st_r h))))))))))))
theorem st_n13 (h : st_g.before args s = true) : (Jvm.Cond.not (Jvm.Cond.castable "java/lang/IllegalArgumentException" "java/lang/UnsupportedOperationException")).before args s = true := (st_r (st_r (st_l (st_l (st_l (st_l (st_r (st_r (st_l (st_l (st_r (st_r h))))))))))))
theorem st_n14 (h : st_g.before args s = true) : (Jvm.Cond.not (Jvm.Cond.castable "java/lang/IllegalArgumentException" "TreeDiffer$WrongText")).before args s = true := (st_l (st_l (st_l (st_r (st_r (st_r (st_l (st_l (st_l (st_r (st_r h)))))))))))
theorem st_n15 (h : st_g.before args s = true) : (Jvm.Cond.not (Jvm.Cond.castable "java/lang/IllegalArgumentException" "TreeDiffer$Missing")).before args s = true := (st_l (st_r (st_r (st_l (st_r (st_l (st_r (st_l (st_r (st_l (st_r h)))))))))))
theorem st_n16 (h : st_g.before args s = true) : (Jvm.Cond.not (Jvm.Cond.castable "java/lang/IllegalArgumentException" "TreeDiffer$Changed")).before args s = true := (st_l (st_r (st_r (st_r (st_r (st_r (st_r (st_l (st_r (st_l (st_r h)))))))))))
theorem st_n17 (h : st_g.before args s = true) : (Jvm.Cond.not (Jvm.Cond.castable "java/lang/IllegalArgumentException" "TreeDiffer$Clash")).before args s = true := (st_r (st_r (st_r (st_l (st_l (st_r (st_l (st_r (st_r (st_l (st_r h)))))))))))
theorem st_n18 (h : st_g.before args s = true) : (Jvm.Cond.not (Jvm.Cond.castable "java/lang/IllegalArgumentException" "TreeDiffer$Full")).before args s = true := (st_l (st_l (st_l (st_r (st_l (st_r (st_r (st_r (st_l (st_r h))))))))))
theorem st_n19 (h : st_g.before args s = true) : (Jvm.Cond.not (Jvm.Cond.castable "java/lang/IllegalArgumentException" "TreeDiffer$Conflict")).before args s = true := (st_l (st_r (st_r (st_l (st_r (st_l (st_l (st_r (st_l (st_r h))))))))))
theorem st_n20 (h : st_g.before args s = true) : (Jvm.Cond.not (Jvm.Cond.castable "java/lang/IllegalStateException" "java/lang/IndexOutOfBoundsException")).before args s = true := (st_l (st_l (st_r (st_r (st_l (st_l (st_l (st_l (st_l (st_r (st_r h)))))))))))
theorem st_n21 (h : st_g.before args s = true) : (Jvm.Cond.not (Jvm.Cond.castable "java/lang/IllegalStateException" "java/lang/IllegalArgumentException")).before args s = true := (st_l (st_r (st_r (st_r (st_r (st_r (st_l (st_l (st_l (st_l (st_r (st_r h))))))))))))
theorem st_n22 (h : st_g.before args s = true) : (Jvm.Cond.not (Jvm.Cond.castable "java/lang/IllegalStateException" "java/util/NoSuchElementException")).before args s = true := (st_l (st_l (st_l (st_r (st_l (st_l (st_r (st_l (st_l (st_r (st_r h)))))))))))
theorem st_n23 (h : st_g.before args s = true) : (Jvm.Cond.not (Jvm.Cond.castable "java/lang/IllegalStateException" "java/lang/UnsupportedOperationException")).before args s = true := (st_l (st_r (st_l (st_r (st_r (st_r (st_l (st_r (st_l (st_l (st_r (st_r h))))))))))))
theorem st_n24 (h : st_g.before args s = true) : (Jvm.Cond.not (Jvm.Cond.castable "java/lang/IllegalStateException" "TreeDiffer$WrongText")).before args s = true := (st_r (st_r (st_r (st_l (st_l (st_r (st_r (st_l (st_l (st_l (st_r (st_r h))))))))))))
theorem st_n25 (h : st_g.before args s = true) : (Jvm.Cond.not (Jvm.Cond.castable "java/lang/IllegalStateException" "TreeDiffer$Missing")).before args s = true := (st_r (st_r (st_l (st_r (st_l (st_l (st_r (st_l (st_r (st_l (st_r h)))))))))))
theorem st_n26 (h : st_g.before args s = true) : (Jvm.Cond.not (Jvm.Cond.castable "java/lang/IllegalStateException" "TreeDiffer$Changed")).before args s = true := (st_l (st_r (st_l (st_r (st_r (st_r (st_l (st_r (st_l (st_r h))))))))))
theorem st_n27 (h : st_g.before args s = true) : (Jvm.Cond.not (Jvm.Cond.castable "java/lang/IllegalStateException" "TreeDiffer$Clash")).before args s = true := (st_r (st_l (st_r (st_r (st_r (st_l (st_l (st_r (st_r (st_l (st_r h)))))))))))
theorem st_n28 (h : st_g.before args s = true) : (Jvm.Cond.not (Jvm.Cond.castable "java/lang/IllegalStateException" "TreeDiffer$Full")).before args s = true := (st_l (st_r (st_r (st_l (st_l (st_l (st_r (st_r (st_r (st_l (st_r h)))))))))))
theorem st_n29 (h : st_g.before args s = true) : (Jvm.Cond.not (Jvm.Cond.castable "java/lang/IllegalStateException" "TreeDiffer$Conflict")).before args s = true := (st_l (st_r (st_l (st_l (st_l (st_r (st_l (st_l (st_r (st_l (st_r h)))))))))))
theorem st_n30 (h : st_g.before args s = true) : (Jvm.Cond.not (Jvm.Cond.castable "java/util/NoSuchElementException" "java/lang/IndexOutOfBoundsException")).before args s = true := (st_r (st_l (st_r (st_r (st_r (st_l (st_l (st_l (st_l (st_l (st_r (st_r h))))))))))))
theorem st_n31 (h : st_g.before args s = true) : (Jvm.Cond.not (Jvm.Cond.castable "java/util/NoSuchElementException" "java/lang/IllegalArgumentException")).before args s = true := (st_l (st_r (st_r (st_l (st_l (st_l (st_r (st_l (st_l (st_l (st_r (st_r h))))))))))))
theorem st_n32 (h : st_g.before args s = true) : (Jvm.Cond.not (Jvm.Cond.castable "java/util/NoSuchElementException" "java/lang/IllegalStateException")).before args s = true := (st_l (st_r (st_r (st_l (st_r (st_r (st_r (st_r (st_r (st_l (st_r h)))))))))))
theorem st_n33 (h : st_g.before args s = true) : (Jvm.Cond.not (Jvm.Cond.castable "java/util/NoSuchElementException" "java/lang/UnsupportedOperationException")).before args s = true := (st_l (st_l (st_l (st_l (st_l (st_r (st_r (st_l (st_l (st_r (st_r h)))))))))))
theorem st_n34 (h : st_g.before args s = true) : (Jvm.Cond.not (Jvm.Cond.castable "java/util/NoSuchElementException" "TreeDiffer$WrongText")).before args s = true := (st_l (st_r (st_r (st_r (st_l (st_r (st_r (st_l (st_l (st_l (st_r (st_r h))))))))))))
theorem st_n35 (h : st_g.before args s = true) : (Jvm.Cond.not (Jvm.Cond.castable "java/util/NoSuchElementException" "TreeDiffer$Missing")).before args s = true := (st_r (st_r (st_l (st_l (st_r (st_l (st_r (st_l (st_r (st_l (st_r h)))))))))))
theorem st_n36 (h : st_g.before args s = true) : (Jvm.Cond.not (Jvm.Cond.castable "java/util/NoSuchElementException" "TreeDiffer$Changed")).before args s = true := (st_l (st_l (st_r (st_r (st_r (st_r (st_r (st_l (st_r (st_l (st_r h)))))))))))
theorem st_n37 (h : st_g.before args s = true) : (Jvm.Cond.not (Jvm.Cond.castable "java/util/NoSuchElementException" "TreeDiffer$Clash")).before args s = true := (st_l (st_r (st_l (st_l (st_r (st_l (st_r (st_r (st_l (st_r h))))))))))
theorem st_n38 (h : st_g.before args s = true) : (Jvm.Cond.not (Jvm.Cond.castable "java/util/NoSuchElementException" "TreeDiffer$Full")).before args s = true := (st_l (st_r (st_r (st_r (st_l (st_l (st_r (st_r (st_r (st_l (st_r h)))))))))))
theorem st_n39 (h : st_g.before args s = true) : (Jvm.Cond.not (Jvm.Cond.castable "java/util/NoSuchElementException" "TreeDiffer$Conflict")).before args s = true := (st_l (st_r (st_l (st_r (st_l (st_r (st_l (st_l (st_r (st_l (st_r h)))))))))))
theorem st_n40 (h : st_g.before args s = true) : (Jvm.Cond.not (Jvm.Cond.castable "java/lang/UnsupportedOperationException" "java/lang/IndexOutOfBoundsException")).before args s = true := (st_r (st_r (st_l (st_l (st_l (st_r (st_l (st_l (st_l (st_l (st_r (st_r h))))))))))))
theorem st_n41 (h : st_g.before args s = true) : (Jvm.Cond.not (Jvm.Cond.castable "java/lang/UnsupportedOperationException" "java/lang/IllegalArgumentException")).before args s = true := (st_l (st_r (st_r (st_l (st_l (st_r (st_l (st_l (st_l (st_r (st_r h)))))))))))
theorem st_n42 (h : st_g.before args s = true) : (Jvm.Cond.not (Jvm.Cond.castable "java/lang/UnsupportedOperationException" "java/lang/IllegalStateException")).before args s = true := (st_r (st_l (st_r (st_r (st_r (st_r (st_r (st_r (st_r (st_l (st_r h)))))))))))
theorem st_n43 (h : st_g.before args s = true) : (Jvm.Cond.not (Jvm.Cond.castable "java/lang/UnsupportedOperationException" "java/util/NoSuchElementException")).before args s = true := (st_l (st_r (st_r (st_r (st_r (st_l (st_l (st_r (st_l (st_l (st_r (st_r h))))))))))))
theorem st_n44 (h : st_g.before args s = true) : (Jvm.Cond.not (Jvm.Cond.castable "java/lang/UnsupportedOperationException" "TreeDiffer$WrongText")).before args s = true := (st_l (st_r (st_r (st_l (st_r (st_r (st_r (st_l (st_l (st_l (st_r (st_r h))))))))))))
theorem st_n45 (h : st_g.before args s = true) : (Jvm.Cond.not (Jvm.Cond.castable "java/lang/UnsupportedOperationException" "TreeDiffer$Missing")).before args s = true := (st_r (st_r (st_l (st_r (st_r (st_l (st_r (st_l (st_r (st_l (st_r h)))))))))))
theorem st_n46 (h : st_g.before args s = true) : (Jvm.Cond.not (Jvm.Cond.castable "java/lang/UnsupportedOperationException" "TreeDiffer$Changed")).before args s = true := (st_r (st_r (st_l (st_l (st_l (st_l (st_l (st_r (st_r (st_l (st_r h)))))))))))
theorem st_n47 (h : st_g.before args s = true) : (Jvm.Cond.not (Jvm.Cond.castable "java/lang/UnsupportedOperationException" "TreeDiffer$Clash")).before args s = true := (st_l (st_r (st_r (st_l (st_r (st_l (st_r (st_r (st_l (st_r h))))))))))
theorem st_n48 (h : st_g.before args s = true) : (Jvm.Cond.not (Jvm.Cond.castable "java/lang/UnsupportedOperationException" "TreeDiffer$Full")).before args s = true := (st_l (st_r (st_r (st_l (st_r (st_l (st_r (st_r (st_r (st_l (st_r h)))))))))))
theorem st_n49 (h : st_g.before args s = true) : (Jvm.Cond.not (Jvm.Cond.castable "java/lang/UnsupportedOperationException" "TreeDiffer$Conflict")).before args s = true := (st_l (st_r (st_l (st_l (st_r (st_r (st_l (st_l (st_r (st_l (st_r h)))))))))))
theorem st_n50 (h : st_g.before args s = true) : (Jvm.Cond.not (Jvm.Cond.castable "TreeDiffer$WrongText" "java/lang/IndexOutOfBoundsException")).before args s = true := (st_r (st_r (st_l (st_r (st_r (st_l (st_l (st_l (st_l (st_l (st_r (st_r h))))))))))))
theorem st_n51 (h : st_g.before args s = true) : (Jvm.Cond.not (Jvm.Cond.castable "TreeDiffer$WrongText" "java/lang/IllegalArgumentException")).before args s = true := (st_r (st_r (st_l (st_l (st_l (st_l (st_r (st_l (st_l (st_l (st_r (st_r h))))))))))))
theorem st_n52 (h : st_g.before args s = true) : (Jvm.Cond.not (Jvm.Cond.castable "TreeDiffer$WrongText" "java/lang/IllegalStateException")).before args s = true := (st_r (st_r (st_l (st_l (st_r (st_r (st_r (st_r (st_r (st_l (st_r h)))))))))))
theorem st_n53 (h : st_g.before args s = true) : (Jvm.Cond.not (Jvm.Cond.castable "TreeDiffer$WrongText" "java/util/NoSuchElementException")).before args s = true := (st_l (st_r (st_r (st_l (st_r (st_l (st_l (st_r (st_l (st_l (st_r (st_r h))))))))))))
theorem st_n54 (h : st_g.before args s = true) : (Jvm.Cond.not (Jvm.Cond.castable "TreeDiffer$WrongText" "java/lang/UnsupportedOperationException")).before args s = true := (st_l (st_r (st_r (st_r (st_r (st_r (st_l (st_r (st_l (st_l (st_r (st_r h))))))))))))
theorem st_n55 (h : st_g.before args s = true) : (Jvm.Cond.not (Jvm.Cond.castable "TreeDiffer$WrongText" "TreeDiffer$Missing")).before args s = true := (st_l (st_l (st_l (st_r (st_l (st_r (st_l (st_r (st_l (st_r h))))))))))
theorem st_n56 (h : st_g.before args s = true) : (Jvm.Cond.not (Jvm.Cond.castable "TreeDiffer$WrongText" "TreeDiffer$Changed")).before args s = true := (st_l (st_r (st_l (st_r (st_r (st_r (st_r (st_l (st_r (st_l (st_r h)))))))))))
theorem st_n57 (h : st_g.before args s = true) : (Jvm.Cond.not (Jvm.Cond.castable "TreeDiffer$WrongText" "TreeDiffer$Clash")).before args s = true := (st_l (st_r (st_l (st_l (st_l (st_r (st_l (st_r (st_r (st_l (st_r h)))))))))))
theorem st_n58 (h : st_g.before args s = true) : (Jvm.Cond.not (Jvm.Cond.castable "TreeDiffer$WrongText" "TreeDiffer$Full")).before args s = true := (st_r (st_r (st_l (st_r (st_l (st_l (st_r (st_r (st_r (st_l (st_r h)))))))))))
theorem st_n59 (h : st_g.before args s = true) : (Jvm.Cond.not (Jvm.Cond.castable "TreeDiffer$WrongText" "TreeDiffer$Conflict")).before args s = true := (st_r (st_r (st_r (st_l (st_l (st_r (st_l (st_l (st_r (st_l (st_r h)))))))))))
theorem st_n60 (h : st_g.before args s = true) : (Jvm.Cond.not (Jvm.Cond.castable "TreeDiffer$Missing" "java/lang/IndexOutOfBoundsException")).before args s = true := (st_r (st_r (st_r (st_r (st_l (st_r (st_l (st_l (st_l (st_l (st_r (st_r h))))))))))))
theorem st_n61 (h : st_g.before args s = true) : (Jvm.Cond.not (Jvm.Cond.castable "TreeDiffer$Missing" "java/lang/IllegalArgumentException")).before args s = true := (st_l (st_l (st_r (st_r (st_l (st_r (st_l (st_l (st_l (st_r (st_r h)))))))))))
theorem st_n62 (h : st_g.before args s = true) : (Jvm.Cond.not (Jvm.Cond.castable "TreeDiffer$Missing" "java/lang/IllegalStateException")).before args s = true := (st_l (st_l (st_r (st_l (st_l (st_l (st_l (st_l (st_l (st_r (st_r h)))))))))))
theorem st_n63 (h : st_g.before args s = true) : (Jvm.Cond.not (Jvm.Cond.castable "TreeDiffer$Missing" "java/util/NoSuchElementException")).before args s = true := (st_l (st_r (st_l (st_r (st_l (st_r (st_l (st_r (st_l (st_l (st_r (st_r h))))))))))))
theorem st_n64 (h : st_g.before args s = true) : (Jvm.Cond.not (Jvm.Cond.castable "TreeDiffer$Missing" "java/lang/UnsupportedOperationException")).before args s = true := (st_r (st_r (st_l (st_l (st_r (st_l (st_r (st_r (st_l (st_l (st_r (st_r h))))))))))))
theorem st_n65 (h : st_g.before args s = true) : (Jvm.Cond.not (Jvm.Cond.castable "TreeDiffer$Missing" "TreeDiffer$WrongText")).before args s = true := (st_l (st_l (st_l (st_l (st_l (st_l (st_r (st_l (st_l (st_r (st_r h)))))))))))
theorem st_n66 (h : st_g.before args s = true) : (Jvm.Cond.not (Jvm.Cond.castable "TreeDiffer$Missing" "TreeDiffer$Changed")).before args s = true := (st_l (st_r (st_r (st_r (st_l (st_l (st_l (st_r (st_r (st_l (st_r h)))))))))))
theorem st_n67 (h : st_g.before args s = true) : (Jvm.Cond.not (Jvm.Cond.castable "TreeDiffer$Missing" "TreeDiffer$Clash")).before args s = true := (st_l (st_l (st_r (st_r (st_r (st_l (st_r (st_r (st_l (st_r h))))))))))
theorem st_n68 (h : st_g.before args s = true) : (Jvm.Cond.not (Jvm.Cond.castable "TreeDiffer$Missing" "TreeDiffer$Full")).before args s = true := (st_l (st_l (st_l (st_l (st_r (st_r (st_r (st_r (st_l (st_r h))))))))))
theorem st_n69 (h : st_g.before args s = true) : (Jvm.Cond.not (Jvm.Cond.castable "TreeDiffer$Missing" "TreeDiffer$Conflict")).before args s = true := (st_r (st_l (st_r (st_r (st_r (st_r (st_l (st_l (st_r (st_l (st_r h)))))))))))
theorem st_n70 (h : st_g.before args s = true) : (Jvm.Cond.not (Jvm.Cond.castable "TreeDiffer$Changed" "java/lang/IndexOutOfBoundsException")).before args s = true := (st_l (st_r (st_r (st_r (st_l (st_r (st_l (st_l (st_l (st_l (st_r (st_r h))))))))))))
theorem st_n71 (h : st_g.before args s = true) : (Jvm.Cond.not (Jvm.Cond.castable "TreeDiffer$Changed" "java/lang/IllegalArgumentException")).before args s = true := (st_r (st_r (st_r (st_l (st_r (st_l (st_r (st_l (st_l (st_l (st_r (st_r h))))))))))))
theorem st_n72 (h : st_g.before args s = true) : (Jvm.Cond.not (Jvm.Cond.castable "TreeDiffer$Changed" "java/lang/IllegalStateException")).before args s = true := (st_r (st_r (st_r (st_l (st_l (st_l (st_l (st_l (st_l (st_l (st_r (st_r h))))))))))))
theorem st_n73 (h : st_g.before args s = true) : (Jvm.Cond.not (Jvm.Cond.castable "TreeDiffer$Changed" "java/util/NoSuchElementException")).before args s = true := (st_l (st_l (st_r (st_l (st_r (st_l (st_r (st_l (st_l (st_r (st_r h)))))))))))
theorem st_n74 (h : st_g.before args s = true) : (Jvm.Cond.not (Jvm.Cond.castable "TreeDiffer$Changed" "java/lang/UnsupportedOperationException")).before args s = true := (st_l (st_r (st_l (st_l (st_r (st_l (st_r (st_r (st_l (st_l (st_r (st_r h))))))))))))
theorem st_n75 (h : st_g.before args s = true) : (Jvm.Cond.not (Jvm.Cond.castable "TreeDiffer$Changed" "TreeDiffer$WrongText")).before args s = true := (st_r (st_r (st_r (st_r (st_r (st_r (st_r (st_l (st_l (st_l (st_r (st_r h))))))))))))
theorem st_n76 (h : st_g.before args s = true) : (Jvm.Cond.not (Jvm.Cond.castable "TreeDiffer$Changed" "TreeDiffer$Missing")).before args s = true := (st_l (st_r (st_l (st_l (st_r (st_r (st_l (st_r (st_l (st_r h))))))))))
theorem st_n77 (h : st_g.before args s = true) : (Jvm.Cond.not (Jvm.Cond.castable "TreeDiffer$Changed" "TreeDiffer$Clash")).before args s = true := (st_r (st_r (st_r (st_l (st_r (st_r (st_l (st_r (st_r (st_l (st_r h)))))))))))
theorem st_n78 (h : st_g.before args s = true) : (Jvm.Cond.not (Jvm.Cond.castable "TreeDiffer$Changed" "TreeDiffer$Full")).before args s = true := (st_r (st_r (st_r (st_r (st_r (st_l (st_r (st_r (st_r (st_l (st_r h)))))))))))
theorem st_n79 (h : st_g.before args s = true) : (Jvm.Cond.not (Jvm.Cond.castable "TreeDiffer$Changed" "TreeDiffer$Conflict")).before args s = true := (st_l (st_l (st_r (st_r (st_r (st_r (st_l (st_l (st_r (st_l (st_r h)))))))))))
theorem st_n80 (h : st_g.before args s = true) : (Jvm.Cond.not (Jvm.Cond.castable "TreeDiffer$Clash" "java/lang/IndexOutOfBoundsException")).before args s = true := (st_l (st_l (st_l (st_r (st_r (st_l (st_l (st_l (st_l (st_r (st_r h)))))))))))
theorem st_n81 (h : st_g.before args s = true) : (Jvm.Cond.not (Jvm.Cond.castable "TreeDiffer$Clash" "java/lang/IllegalArgumentException")).before args s = true := (st_l (st_r (st_l (st_r (st_r (st_l (st_r (st_l (st_l (st_l (st_r (st_r h))))))))))))
theorem st_n82 (h : st_g.before args s = true) : (Jvm.Cond.not (Jvm.Cond.castable "TreeDiffer$Clash" "java/lang/IllegalStateException")).before args s = true := (st_l (st_r (st_l (st_r (st_l (st_l (st_l (st_l (st_l (st_l (st_r (st_r h))))))))))))
theorem st_n83 (h : st_g.before args s = true) : (Jvm.Cond.not (Jvm.Cond.castable "TreeDiffer$Clash" "java/util/NoSuchElementException")).before args s = true := (st_r (st_r (st_l (st_r (st_l (st_r (st_l (st_r (st_l (st_l (st_r (st_r h))))))))))))
theorem st_n84 (h : st_g.before args s = true) : (Jvm.Cond.not (Jvm.Cond.castable "TreeDiffer$Clash" "java/lang/UnsupportedOperationException")).before args s = true := (st_l (st_r (st_l (st_r (st_l (st_r (st_r (st_l (st_l (st_r (st_r h)))))))))))
theorem st_n85 (h : st_g.before args s = true) : (Jvm.Cond.not (Jvm.Cond.castable "TreeDiffer$Clash" "TreeDiffer$WrongText")).before args s = true := (st_l (st_r (st_l (st_l (st_l (st_l (st_l (st_r (st_l (st_l (st_r (st_r h))))))))))))
theorem st_n86 (h : st_g.before args s = true) : (Jvm.Cond.not (Jvm.Cond.castable "TreeDiffer$Clash" "TreeDiffer$Missing")).before args s = true := (st_l (st_r (st_r (st_l (st_l (st_r (st_r (st_l (st_r (st_l (st_r h)))))))))))
theorem st_n87 (h : st_g.before args s = true) : (Jvm.Cond.not (Jvm.Cond.castable "TreeDiffer$Clash" "TreeDiffer$Changed")).before args s = true := (st_r (st_r (st_r (st_r (st_l (st_l (st_l (st_r (st_r (st_l (st_r h)))))))))))
theorem st_n88 (h : st_g.before args s = true) : (Jvm.Cond.not (Jvm.Cond.castable "TreeDiffer$Clash" "TreeDiffer$Full")).before args s = true := (st_l (st_r (st_l (st_l (st_l (st_r (st_r (st_r (st_r (st_l (st_r h)))))))))))
theorem st_n89 (h : st_g.before args s = true) : (Jvm.Cond.not (Jvm.Cond.castable "TreeDiffer$Clash" "TreeDiffer$Conflict")).before args s = true := (st_l (st_r (st_r (st_r (st_r (st_r (st_l (st_l (st_r (st_l (st_r h)))))))))))
theorem st_n90 (h : st_g.before args s = true) : (Jvm.Cond.not (Jvm.Cond.castable "TreeDiffer$Full" "java/lang/IndexOutOfBoundsException")).before args s = true := (st_l (st_r (st_l (st_l (st_r (st_r (st_l (st_l (st_l (st_l (st_r (st_r h))))))))))))
theorem st_n91 (h : st_g.before args s = true) : (Jvm.Cond.not (Jvm.Cond.castable "TreeDiffer$Full" "java/lang/IllegalArgumentException")).before args s = true := (st_r (st_r (st_l (st_r (st_r (st_l (st_r (st_l (st_l (st_l (st_r (st_r h))))))))))))
theorem st_n92 (h : st_g.before args s = true) : (Jvm.Cond.not (Jvm.Cond.castable "TreeDiffer$Full" "java/lang/IllegalStateException")).before args s = true := (st_r (st_r (st_l (st_r (st_l (st_l (st_l (st_l (st_l (st_l (st_r (st_r h))))))))))))
theorem st_n93 (h : st_g.before args s = true) : (Jvm.Cond.not (Jvm.Cond.castable "TreeDiffer$Full" "java/util/NoSuchElementException")).before args s = true := (st_l (st_r (st_r (st_l (st_r (st_l (st_r (st_l (st_l (st_r (st_r h)))))))))))
theorem st_n94 (h : st_g.before args s = true) : (Jvm.Cond.not (Jvm.Cond.castable "TreeDiffer$Full" "java/lang/UnsupportedOperationException")).before args s = true := (st_l (st_r (st_r (st_l (st_r (st_l (st_r (st_r (st_l (st_l (st_r (st_r h))))))))))))
theorem st_n95 (h : st_g.before args s = true) : (Jvm.Cond.not (Jvm.Cond.castable "TreeDiffer$Full" "TreeDiffer$WrongText")).before args s = true := (st_r (st_r (st_l (st_l (st_l (st_l (st_l (st_r (st_l (st_l (st_r (st_r h))))))))))))
theorem st_n96 (h : st_g.before args s = true) : (Jvm.Cond.not (Jvm.Cond.castable "TreeDiffer$Full" "TreeDiffer$Missing")).before args s = true := (st_r (st_r (st_r (st_l (st_l (st_r (st_r (st_l (st_r (st_l (st_r h)))))))))))
theorem st_n97 (h : st_g.before args s = true) : (Jvm.Cond.not (Jvm.Cond.castable "TreeDiffer$Full" "TreeDiffer$Changed")).before args s = true := (st_l (st_l (st_l (st_r (st_l (st_l (st_r (st_r (st_l (st_r h))))))))))
theorem st_n98 (h : st_g.before args s = true) : (Jvm.Cond.not (Jvm.Cond.castable "TreeDiffer$Full" "TreeDiffer$Clash")).before args s = true := (st_l (st_r (st_l (st_r (st_r (st_r (st_l (st_r (st_r (st_l (st_r h)))))))))))
theorem st_n99 (h : st_g.before args s = true) : (Jvm.Cond.not (Jvm.Cond.castable "TreeDiffer$Full" "TreeDiffer$Conflict")).before args s = true := (st_r (st_r (st_r (st_r (st_r (st_r (st_l (st_l (st_r (st_l (st_r h)))))))))))
theorem st_n100 (h : st_g.before args s = true) : (Jvm.Cond.not (Jvm.Cond.castable "TreeDiffer$Conflict" "java/lang/IndexOutOfBoundsException")).before args s = true := (st_r (st_r (st_l (st_l (st_r (st_r (st_l (st_l (st_l (st_l (st_r (st_r h))))))))))))
theorem st_n101 (h : st_g.before args s = true) : (Jvm.Cond.not (Jvm.Cond.castable "TreeDiffer$Conflict" "java/lang/IllegalArgumentException")).before args s = true := (st_l (st_l (st_r (st_r (st_r (st_l (st_r (st_l (st_l (st_l (st_r (st_r h))))))))))))
theorem st_n102 (h : st_g.before args s = true) : (Jvm.Cond.not (Jvm.Cond.castable "TreeDiffer$Conflict" "java/lang/IllegalStateException")).before args s = true := (st_l (st_r (st_r (st_l (st_l (st_l (st_l (st_l (st_l (st_r (st_r h)))))))))))
theorem st_n103 (h : st_g.before args s = true) : (Jvm.Cond.not (Jvm.Cond.castable "TreeDiffer$Conflict" "java/util/NoSuchElementException")).before args s = true := (st_l (st_r (st_r (st_r (st_l (st_r (st_l (st_r (st_l (st_l (st_r (st_r h))))))))))))
theorem st_n104 (h : st_g.before args s = true) : (Jvm.Cond.not (Jvm.Cond.castable "TreeDiffer$Conflict" "java/lang/UnsupportedOperationException")).before args s = true := (st_r (st_r (st_r (st_l (st_r (st_l (st_r (st_r (st_l (st_l (st_r (st_r h))))))))))))
theorem st_n105 (h : st_g.before args s = true) : (Jvm.Cond.not (Jvm.Cond.castable "TreeDiffer$Conflict" "TreeDiffer$WrongText")).before args s = true := (st_l (st_r (st_l (st_l (st_l (st_l (st_r (st_l (st_l (st_r (st_r h)))))))))))
theorem st_n106 (h : st_g.before args s = true) : (Jvm.Cond.not (Jvm.Cond.castable "TreeDiffer$Conflict" "TreeDiffer$Missing")).before args s = true := (st_l (st_l (st_r (st_l (st_r (st_r (st_l (st_r (st_l (st_r h))))))))))
theorem st_n107 (h : st_g.before args s = true) : (Jvm.Cond.not (Jvm.Cond.castable "TreeDiffer$Conflict" "TreeDiffer$Changed")).before args s = true := (st_l (st_r (st_l (st_l (st_r (st_l (st_l (st_r (st_r (st_l (st_r h)))))))))))
theorem st_n108 (h : st_g.before args s = true) : (Jvm.Cond.not (Jvm.Cond.castable "TreeDiffer$Conflict" "TreeDiffer$Clash")).before args s = true := (st_r (st_r (st_l (st_r (st_r (st_r (st_l (st_r (st_r (st_l (st_r h)))))))))))
theorem st_n109 (h : st_g.before args s = true) : (Jvm.Cond.not (Jvm.Cond.castable "TreeDiffer$Conflict" "TreeDiffer$Full")).before args s = true := (st_r (st_r (st_l (st_l (st_l (st_r (st_r (st_r (st_r (st_l (st_r h)))))))))))
theorem st_o0 (h : st_g.before args s = true) : (Jvm.Cond.eq (Jvm.Term.elem (Jvm.Term.static "java/lang/Integer" "DigitOnes" "[B") (Jvm.Term.int (0 : Int32))) (Jvm.Term.int (48 : Int32))).before args s = true := (st_l (st_r (st_r (st_l (st_r (st_l (st_l (st_l (st_l (st_l (st_r h)))))))))))
theorem st_o1 (h : st_g.before args s = true) : (Jvm.Cond.eq (Jvm.Term.elem (Jvm.Term.static "java/lang/Integer" "DigitOnes" "[B") (Jvm.Term.int (1 : Int32))) (Jvm.Term.int (49 : Int32))).before args s = true := (st_r (st_r (st_r (st_l (st_r (st_l (st_l (st_l (st_l (st_l (st_r h)))))))))))
theorem st_o2 (h : st_g.before args s = true) : (Jvm.Cond.eq (Jvm.Term.elem (Jvm.Term.static "java/lang/Integer" "DigitOnes" "[B") (Jvm.Term.int (2 : Int32))) (Jvm.Term.int (50 : Int32))).before args s = true := (st_l (st_l (st_r (st_r (st_l (st_l (st_l (st_l (st_l (st_r h))))))))))
theorem st_o3 (h : st_g.before args s = true) : (Jvm.Cond.eq (Jvm.Term.elem (Jvm.Term.static "java/lang/Integer" "DigitOnes" "[B") (Jvm.Term.int (3 : Int32))) (Jvm.Term.int (51 : Int32))).before args s = true := (st_l (st_r (st_l (st_r (st_r (st_l (st_l (st_l (st_l (st_l (st_r h)))))))))))
theorem st_o4 (h : st_g.before args s = true) : (Jvm.Cond.eq (Jvm.Term.elem (Jvm.Term.static "java/lang/Integer" "DigitOnes" "[B") (Jvm.Term.int (4 : Int32))) (Jvm.Term.int (52 : Int32))).before args s = true := (st_r (st_r (st_l (st_r (st_r (st_l (st_l (st_l (st_l (st_l (st_r h)))))))))))
theorem st_o5 (h : st_g.before args s = true) : (Jvm.Cond.eq (Jvm.Term.elem (Jvm.Term.static "java/lang/Integer" "DigitOnes" "[B") (Jvm.Term.int (5 : Int32))) (Jvm.Term.int (53 : Int32))).before args s = true := (st_l (st_l (st_r (st_r (st_r (st_l (st_l (st_l (st_l (st_l (st_r h)))))))))))
theorem st_o6 (h : st_g.before args s = true) : (Jvm.Cond.eq (Jvm.Term.elem (Jvm.Term.static "java/lang/Integer" "DigitOnes" "[B") (Jvm.Term.int (6 : Int32))) (Jvm.Term.int (54 : Int32))).before args s = true := (st_r (st_l (st_r (st_r (st_r (st_l (st_l (st_l (st_l (st_l (st_r h)))))))))))
theorem st_o7 (h : st_g.before args s = true) : (Jvm.Cond.eq (Jvm.Term.elem (Jvm.Term.static "java/lang/Integer" "DigitOnes" "[B") (Jvm.Term.int (7 : Int32))) (Jvm.Term.int (55 : Int32))).before args s = true := (st_l (st_r (st_r (st_r (st_r (st_l (st_l (st_l (st_l (st_l (st_r h)))))))))))
theorem st_o8 (h : st_g.before args s = true) : (Jvm.Cond.eq (Jvm.Term.elem (Jvm.Term.static "java/lang/Integer" "DigitOnes" "[B") (Jvm.Term.int (8 : Int32))) (Jvm.Term.int (56 : Int32))).before args s = true := (st_r (st_r (st_r (st_r (st_r (st_l (st_l (st_l (st_l (st_l (st_r h)))))))))))
theorem st_o9 (h : st_g.before args s = true) : (Jvm.Cond.eq (Jvm.Term.elem (Jvm.Term.static "java/lang/Integer" "DigitOnes" "[B") (Jvm.Term.int (9 : Int32))) (Jvm.Term.int (57 : Int32))).before args s = true := (st_l (st_l (st_l (st_l (st_r (st_l (st_l (st_l (st_l (st_r h))))))))))
theorem st_o10 (h : st_g.before args s = true) : (Jvm.Cond.eq (Jvm.Term.elem (Jvm.Term.static "java/lang/Integer" "DigitOnes" "[B") (Jvm.Term.int (10 : Int32))) (Jvm.Term.int (48 : Int32))).before args s = true := (st_l (st_r (st_l (st_l (st_l (st_r (st_l (st_l (st_l (st_l (st_r h)))))))))))
theorem st_o11 (h : st_g.before args s = true) : (Jvm.Cond.eq (Jvm.Term.elem (Jvm.Term.static "java/lang/Integer" "DigitOnes" "[B") (Jvm.Term.int (11 : Int32))) (Jvm.Term.int (49 : Int32))).before args s = true := (st_r (st_r (st_l (st_l (st_l (st_r (st_l (st_l (st_l (st_l (st_r h)))))))))))
theorem st_o12 (h : st_g.before args s = true) : (Jvm.Cond.eq (Jvm.Term.elem (Jvm.Term.static "java/lang/Integer" "DigitOnes" "[B") (Jvm.Term.int (12 : Int32))) (Jvm.Term.int (50 : Int32))).before args s = true := (st_l (st_r (st_l (st_l (st_r (st_l (st_l (st_l (st_l (st_r h))))))))))
theorem st_o13 (h : st_g.before args s = true) : (Jvm.Cond.eq (Jvm.Term.elem (Jvm.Term.static "java/lang/Integer" "DigitOnes" "[B") (Jvm.Term.int (13 : Int32))) (Jvm.Term.int (51 : Int32))).before args s = true := (st_l (st_r (st_r (st_l (st_l (st_r (st_l (st_l (st_l (st_l (st_r h)))))))))))
theorem st_o14 (h : st_g.before args s = true) : (Jvm.Cond.eq (Jvm.Term.elem (Jvm.Term.static "java/lang/Integer" "DigitOnes" "[B") (Jvm.Term.int (14 : Int32))) (Jvm.Term.int (52 : Int32))).before args s = true := (st_r (st_r (st_r (st_l (st_l (st_r (st_l (st_l (st_l (st_l (st_r h)))))))))))
theorem st_o15 (h : st_g.before args s = true) : (Jvm.Cond.eq (Jvm.Term.elem (Jvm.Term.static "java/lang/Integer" "DigitOnes" "[B") (Jvm.Term.int (15 : Int32))) (Jvm.Term.int (53 : Int32))).before args s = true := (st_l (st_l (st_r (st_l (st_r (st_l (st_l (st_l (st_l (st_r h))))))))))
theorem st_o16 (h : st_g.before args s = true) : (Jvm.Cond.eq (Jvm.Term.elem (Jvm.Term.static "java/lang/Integer" "DigitOnes" "[B") (Jvm.Term.int (16 : Int32))) (Jvm.Term.int (54 : Int32))).before args s = true := (st_l (st_r (st_l (st_r (st_l (st_r (st_l (st_l (st_l (st_l (st_r h)))))))))))
theorem st_o17 (h : st_g.before args s = true) : (Jvm.Cond.eq (Jvm.Term.elem (Jvm.Term.static "java/lang/Integer" "DigitOnes" "[B") (Jvm.Term.int (17 : Int32))) (Jvm.Term.int (55 : Int32))).before args s = true := (st_r (st_r (st_l (st_r (st_l (st_r (st_l (st_l (st_l (st_l (st_r h)))))))))))
theorem st_o18 (h : st_g.before args s = true) : (Jvm.Cond.eq (Jvm.Term.elem (Jvm.Term.static "java/lang/Integer" "DigitOnes" "[B") (Jvm.Term.int (18 : Int32))) (Jvm.Term.int (56 : Int32))).before args s = true := (st_l (st_r (st_r (st_l (st_r (st_l (st_l (st_l (st_l (st_r h))))))))))
theorem st_o19 (h : st_g.before args s = true) : (Jvm.Cond.eq (Jvm.Term.elem (Jvm.Term.static "java/lang/Integer" "DigitOnes" "[B") (Jvm.Term.int (19 : Int32))) (Jvm.Term.int (57 : Int32))).before args s = true := (st_l (st_r (st_r (st_r (st_l (st_r (st_l (st_l (st_l (st_l (st_r h)))))))))))
theorem st_o20 (h : st_g.before args s = true) : (Jvm.Cond.eq (Jvm.Term.elem (Jvm.Term.static "java/lang/Integer" "DigitOnes" "[B") (Jvm.Term.int (20 : Int32))) (Jvm.Term.int (48 : Int32))).before args s = true := (st_r (st_r (st_r (st_r (st_l (st_r (st_l (st_l (st_l (st_l (st_r h)))))))))))
theorem st_o21 (h : st_g.before args s = true) : (Jvm.Cond.eq (Jvm.Term.elem (Jvm.Term.static "java/lang/Integer" "DigitOnes" "[B") (Jvm.Term.int (21 : Int32))) (Jvm.Term.int (49 : Int32))).before args s = true := (st_l (st_l (st_l (st_r (st_r (st_l (st_l (st_l (st_l (st_r h))))))))))
theorem st_o22 (h : st_g.before args s = true) : (Jvm.Cond.eq (Jvm.Term.elem (Jvm.Term.static "java/lang/Integer" "DigitOnes" "[B") (Jvm.Term.int (22 : Int32))) (Jvm.Term.int (50 : Int32))).before args s = true := (st_l (st_r (st_l (st_l (st_r (st_r (st_l (st_l (st_l (st_l (st_r h)))))))))))
theorem st_o23 (h : st_g.before args s = true) : (Jvm.Cond.eq (Jvm.Term.elem (Jvm.Term.static "java/lang/Integer" "DigitOnes" "[B") (Jvm.Term.int (23 : Int32))) (Jvm.Term.int (51 : Int32))).before args s = true := (st_r (st_r (st_l (st_l (st_r (st_r (st_l (st_l (st_l (st_l (st_r h)))))))))))
theorem st_o24 (h : st_g.before args s = true) : (Jvm.Cond.eq (Jvm.Term.elem (Jvm.Term.static "java/lang/Integer" "DigitOnes" "[B") (Jvm.Term.int (24 : Int32))) (Jvm.Term.int (52 : Int32))).before args s = true := (st_l (st_r (st_l (st_r (st_r (st_l (st_l (st_l (st_l (st_r h))))))))))
theorem st_o25 (h : st_g.before args s = true) : (Jvm.Cond.eq (Jvm.Term.elem (Jvm.Term.static "java/lang/Integer" "DigitOnes" "[B") (Jvm.Term.int (25 : Int32))) (Jvm.Term.int (53 : Int32))).before args s = true := (st_l (st_r (st_r (st_l (st_r (st_r (st_l (st_l (st_l (st_l (st_r h)))))))))))
theorem st_o26 (h : st_g.before args s = true) : (Jvm.Cond.eq (Jvm.Term.elem (Jvm.Term.static "java/lang/Integer" "DigitOnes" "[B") (Jvm.Term.int (26 : Int32))) (Jvm.Term.int (54 : Int32))).before args s = true := (st_r (st_r (st_r (st_l (st_r (st_r (st_l (st_l (st_l (st_l (st_r h)))))))))))
theorem st_o27 (h : st_g.before args s = true) : (Jvm.Cond.eq (Jvm.Term.elem (Jvm.Term.static "java/lang/Integer" "DigitOnes" "[B") (Jvm.Term.int (27 : Int32))) (Jvm.Term.int (55 : Int32))).before args s = true := (st_l (st_l (st_r (st_r (st_r (st_l (st_l (st_l (st_l (st_r h))))))))))
theorem st_o28 (h : st_g.before args s = true) : (Jvm.Cond.eq (Jvm.Term.elem (Jvm.Term.static "java/lang/Integer" "DigitOnes" "[B") (Jvm.Term.int (28 : Int32))) (Jvm.Term.int (56 : Int32))).before args s = true := (st_l (st_r (st_l (st_r (st_r (st_r (st_l (st_l (st_l (st_l (st_r h)))))))))))
theorem st_o29 (h : st_g.before args s = true) : (Jvm.Cond.eq (Jvm.Term.elem (Jvm.Term.static "java/lang/Integer" "DigitOnes" "[B") (Jvm.Term.int (29 : Int32))) (Jvm.Term.int (57 : Int32))).before args s = true := (st_r (st_r (st_l (st_r (st_r (st_r (st_l (st_l (st_l (st_l (st_r h)))))))))))
theorem st_o30 (h : st_g.before args s = true) : (Jvm.Cond.eq (Jvm.Term.elem (Jvm.Term.static "java/lang/Integer" "DigitOnes" "[B") (Jvm.Term.int (30 : Int32))) (Jvm.Term.int (48 : Int32))).before args s = true := (st_l (st_l (st_r (st_r (st_r (st_r (st_l (st_l (st_l (st_l (st_r h)))))))))))
theorem st_o31 (h : st_g.before args s = true) : (Jvm.Cond.eq (Jvm.Term.elem (Jvm.Term.static "java/lang/Integer" "DigitOnes" "[B") (Jvm.Term.int (31 : Int32))) (Jvm.Term.int (49 : Int32))).before args s = true := (st_r (st_l (st_r (st_r (st_r (st_r (st_l (st_l (st_l (st_l (st_r h)))))))))))
theorem st_o32 (h : st_g.before args s = true) : (Jvm.Cond.eq (Jvm.Term.elem (Jvm.Term.static "java/lang/Integer" "DigitOnes" "[B") (Jvm.Term.int (32 : Int32))) (Jvm.Term.int (50 : Int32))).before args s = true := (st_l (st_r (st_r (st_r (st_r (st_r (st_l (st_l (st_l (st_l (st_r h)))))))))))
theorem st_o33 (h : st_g.before args s = true) : (Jvm.Cond.eq (Jvm.Term.elem (Jvm.Term.static "java/lang/Integer" "DigitOnes" "[B") (Jvm.Term.int (33 : Int32))) (Jvm.Term.int (51 : Int32))).before args s = true := (st_r (st_r (st_r (st_r (st_r (st_r (st_l (st_l (st_l (st_l (st_r h)))))))))))
theorem st_o34 (h : st_g.before args s = true) : (Jvm.Cond.eq (Jvm.Term.elem (Jvm.Term.static "java/lang/Integer" "DigitOnes" "[B") (Jvm.Term.int (34 : Int32))) (Jvm.Term.int (52 : Int32))).before args s = true := (st_l (st_l (st_l (st_l (st_l (st_r (st_l (st_l (st_l (st_r h))))))))))
theorem st_o35 (h : st_g.before args s = true) : (Jvm.Cond.eq (Jvm.Term.elem (Jvm.Term.static "java/lang/Integer" "DigitOnes" "[B") (Jvm.Term.int (35 : Int32))) (Jvm.Term.int (53 : Int32))).before args s = true := (st_l (st_r (st_l (st_l (st_l (st_l (st_r (st_l (st_l (st_l (st_r h)))))))))))
theorem st_o36 (h : st_g.before args s = true) : (Jvm.Cond.eq (Jvm.Term.elem (Jvm.Term.static "java/lang/Integer" "DigitOnes" "[B") (Jvm.Term.int (36 : Int32))) (Jvm.Term.int (54 : Int32))).before args s = true := (st_r (st_r (st_l (st_l (st_l (st_l (st_r (st_l (st_l (st_l (st_r h)))))))))))
theorem st_o37 (h : st_g.before args s = true) : (Jvm.Cond.eq (Jvm.Term.elem (Jvm.Term.static "java/lang/Integer" "DigitOnes" "[B") (Jvm.Term.int (37 : Int32))) (Jvm.Term.int (55 : Int32))).before args s = true := (st_l (st_r (st_l (st_l (st_l (st_r (st_l (st_l (st_l (st_r h))))))))))
theorem st_o38 (h : st_g.before args s = true) : (Jvm.Cond.eq (Jvm.Term.elem (Jvm.Term.static "java/lang/Integer" "DigitOnes" "[B") (Jvm.Term.int (38 : Int32))) (Jvm.Term.int (56 : Int32))).before args s = true := (st_l (st_r (st_r (st_l (st_l (st_l (st_r (st_l (st_l (st_l (st_r h)))))))))))
theorem st_o39 (h : st_g.before args s = true) : (Jvm.Cond.eq (Jvm.Term.elem (Jvm.Term.static "java/lang/Integer" "DigitOnes" "[B") (Jvm.Term.int (39 : Int32))) (Jvm.Term.int (57 : Int32))).before args s = true := (st_r (st_r (st_r (st_l (st_l (st_l (st_r (st_l (st_l (st_l (st_r h)))))))))))
theorem st_o40 (h : st_g.before args s = true) : (Jvm.Cond.eq (Jvm.Term.elem (Jvm.Term.static "java/lang/Integer" "DigitOnes" "[B") (Jvm.Term.int (40 : Int32))) (Jvm.Term.int (48 : Int32))).before args s = true := (st_l (st_l (st_r (st_l (st_l (st_r (st_l (st_l (st_l (st_r h))))))))))
theorem st_o41 (h : st_g.before args s = true) : (Jvm.Cond.eq (Jvm.Term.elem (Jvm.Term.static "java/lang/Integer" "DigitOnes" "[B") (Jvm.Term.int (41 : Int32))) (Jvm.Term.int (49 : Int32))).before args s = true := (st_l (st_r (st_l (st_r (st_l (st_l (st_r (st_l (st_l (st_l (st_r h)))))))))))
theorem st_o42 (h : st_g.before args s = true) : (Jvm.Cond.eq (Jvm.Term.elem (Jvm.Term.static "java/lang/Integer" "DigitOnes" "[B") (Jvm.Term.int (42 : Int32))) (Jvm.Term.int (50 : Int32))).before args s = true := (st_r (st_r (st_l (st_r (st_l (st_l (st_r (st_l (st_l (st_l (st_r h)))))))))))
theorem st_o43 (h : st_g.before args s = true) : (Jvm.Cond.eq (Jvm.Term.elem (Jvm.Term.static "java/lang/Integer" "DigitOnes" "[B") (Jvm.Term.int (43 : Int32))) (Jvm.Term.int (51 : Int32))).before args s = true := (st_l (st_r (st_r (st_l (st_l (st_r (st_l (st_l (st_l (st_r h))))))))))
theorem st_o44 (h : st_g.before args s = true) : (Jvm.Cond.eq (Jvm.Term.elem (Jvm.Term.static "java/lang/Integer" "DigitOnes" "[B") (Jvm.Term.int (44 : Int32))) (Jvm.Term.int (52 : Int32))).before args s = true := (st_l (st_r (st_r (st_r (st_l (st_l (st_r (st_l (st_l (st_l (st_r h)))))))))))
theorem st_o45 (h : st_g.before args s = true) : (Jvm.Cond.eq (Jvm.Term.elem (Jvm.Term.static "java/lang/Integer" "DigitOnes" "[B") (Jvm.Term.int (45 : Int32))) (Jvm.Term.int (53 : Int32))).before args s = true := (st_r (st_r (st_r (st_r (st_l (st_l (st_r (st_l (st_l (st_l (st_r h)))))))))))
theorem st_o46 (h : st_g.before args s = true) : (Jvm.Cond.eq (Jvm.Term.elem (Jvm.Term.static "java/lang/Integer" "DigitOnes" "[B") (Jvm.Term.int (46 : Int32))) (Jvm.Term.int (54 : Int32))).before args s = true := (st_l (st_l (st_l (st_r (st_l (st_r (st_l (st_l (st_l (st_r h))))))))))
theorem st_o47 (h : st_g.before args s = true) : (Jvm.Cond.eq (Jvm.Term.elem (Jvm.Term.static "java/lang/Integer" "DigitOnes" "[B") (Jvm.Term.int (47 : Int32))) (Jvm.Term.int (55 : Int32))).before args s = true := (st_l (st_r (st_l (st_l (st_r (st_l (st_r (st_l (st_l (st_l (st_r h)))))))))))
theorem st_o48 (h : st_g.before args s = true) : (Jvm.Cond.eq (Jvm.Term.elem (Jvm.Term.static "java/lang/Integer" "DigitOnes" "[B") (Jvm.Term.int (48 : Int32))) (Jvm.Term.int (56 : Int32))).before args s = true := (st_r (st_r (st_l (st_l (st_r (st_l (st_r (st_l (st_l (st_l (st_r h)))))))))))
theorem st_o49 (h : st_g.before args s = true) : (Jvm.Cond.eq (Jvm.Term.elem (Jvm.Term.static "java/lang/Integer" "DigitOnes" "[B") (Jvm.Term.int (49 : Int32))) (Jvm.Term.int (57 : Int32))).before args s = true := (st_l (st_r (st_l (st_r (st_l (st_r (st_l (st_l (st_l (st_r h))))))))))
theorem st_o50 (h : st_g.before args s = true) : (Jvm.Cond.eq (Jvm.Term.elem (Jvm.Term.static "java/lang/Integer" "DigitOnes" "[B") (Jvm.Term.int (50 : Int32))) (Jvm.Term.int (48 : Int32))).before args s = true := (st_l (st_r (st_r (st_l (st_r (st_l (st_r (st_l (st_l (st_l (st_r h)))))))))))
theorem st_o51 (h : st_g.before args s = true) : (Jvm.Cond.eq (Jvm.Term.elem (Jvm.Term.static "java/lang/Integer" "DigitOnes" "[B") (Jvm.Term.int (51 : Int32))) (Jvm.Term.int (49 : Int32))).before args s = true := (st_r (st_r (st_r (st_l (st_r (st_l (st_r (st_l (st_l (st_l (st_r h)))))))))))
theorem st_o52 (h : st_g.before args s = true) : (Jvm.Cond.eq (Jvm.Term.elem (Jvm.Term.static "java/lang/Integer" "DigitOnes" "[B") (Jvm.Term.int (52 : Int32))) (Jvm.Term.int (50 : Int32))).before args s = true := (st_l (st_l (st_r (st_r (st_l (st_r (st_l (st_l (st_l (st_r h))))))))))
theorem st_o53 (h : st_g.before args s = true) : (Jvm.Cond.eq (Jvm.Term.elem (Jvm.Term.static "java/lang/Integer" "DigitOnes" "[B") (Jvm.Term.int (53 : Int32))) (Jvm.Term.int (51 : Int32))).before args s = true := (st_l (st_r (st_l (st_r (st_r (st_l (st_r (st_l (st_l (st_l (st_r h)))))))))))
theorem st_o54 (h : st_g.before args s = true) : (Jvm.Cond.eq (Jvm.Term.elem (Jvm.Term.static "java/lang/Integer" "DigitOnes" "[B") (Jvm.Term.int (54 : Int32))) (Jvm.Term.int (52 : Int32))).before args s = true := (st_r (st_r (st_l (st_r (st_r (st_l (st_r (st_l (st_l (st_l (st_r h)))))))))))
theorem st_o55 (h : st_g.before args s = true) : (Jvm.Cond.eq (Jvm.Term.elem (Jvm.Term.static "java/lang/Integer" "DigitOnes" "[B") (Jvm.Term.int (55 : Int32))) (Jvm.Term.int (53 : Int32))).before args s = true := (st_l (st_l (st_r (st_r (st_r (st_l (st_r (st_l (st_l (st_l (st_r h)))))))))))
theorem st_o56 (h : st_g.before args s = true) : (Jvm.Cond.eq (Jvm.Term.elem (Jvm.Term.static "java/lang/Integer" "DigitOnes" "[B") (Jvm.Term.int (56 : Int32))) (Jvm.Term.int (54 : Int32))).before args s = true := (st_r (st_l (st_r (st_r (st_r (st_l (st_r (st_l (st_l (st_l (st_r h)))))))))))
theorem st_o57 (h : st_g.before args s = true) : (Jvm.Cond.eq (Jvm.Term.elem (Jvm.Term.static "java/lang/Integer" "DigitOnes" "[B") (Jvm.Term.int (57 : Int32))) (Jvm.Term.int (55 : Int32))).before args s = true := (st_l (st_r (st_r (st_r (st_r (st_l (st_r (st_l (st_l (st_l (st_r h)))))))))))
theorem st_o58 (h : st_g.before args s = true) : (Jvm.Cond.eq (Jvm.Term.elem (Jvm.Term.static "java/lang/Integer" "DigitOnes" "[B") (Jvm.Term.int (58 : Int32))) (Jvm.Term.int (56 : Int32))).before args s = true := (st_r (st_r (st_r (st_r (st_r (st_l (st_r (st_l (st_l (st_l (st_r h)))))))))))
theorem st_o59 (h : st_g.before args s = true) : (Jvm.Cond.eq (Jvm.Term.elem (Jvm.Term.static "java/lang/Integer" "DigitOnes" "[B") (Jvm.Term.int (59 : Int32))) (Jvm.Term.int (57 : Int32))).before args s = true := (st_l (st_l (st_l (st_l (st_r (st_r (st_l (st_l (st_l (st_r h))))))))))
theorem st_o60 (h : st_g.before args s = true) : (Jvm.Cond.eq (Jvm.Term.elem (Jvm.Term.static "java/lang/Integer" "DigitOnes" "[B") (Jvm.Term.int (60 : Int32))) (Jvm.Term.int (48 : Int32))).before args s = true := (st_l (st_r (st_l (st_l (st_l (st_r (st_r (st_l (st_l (st_l (st_r h)))))))))))
theorem st_o61 (h : st_g.before args s = true) : (Jvm.Cond.eq (Jvm.Term.elem (Jvm.Term.static "java/lang/Integer" "DigitOnes" "[B") (Jvm.Term.int (61 : Int32))) (Jvm.Term.int (49 : Int32))).before args s = true := (st_r (st_r (st_l (st_l (st_l (st_r (st_r (st_l (st_l (st_l (st_r h)))))))))))
theorem st_o62 (h : st_g.before args s = true) : (Jvm.Cond.eq (Jvm.Term.elem (Jvm.Term.static "java/lang/Integer" "DigitOnes" "[B") (Jvm.Term.int (62 : Int32))) (Jvm.Term.int (50 : Int32))).before args s = true := (st_l (st_r (st_l (st_l (st_r (st_r (st_l (st_l (st_l (st_r h))))))))))
theorem st_o63 (h : st_g.before args s = true) : (Jvm.Cond.eq (Jvm.Term.elem (Jvm.Term.static "java/lang/Integer" "DigitOnes" "[B") (Jvm.Term.int (63 : Int32))) (Jvm.Term.int (51 : Int32))).before args s = true := (st_l (st_r (st_r (st_l (st_l (st_r (st_r (st_l (st_l (st_l (st_r h)))))))))))
theorem st_o64 (h : st_g.before args s = true) : (Jvm.Cond.eq (Jvm.Term.elem (Jvm.Term.static "java/lang/Integer" "DigitOnes" "[B") (Jvm.Term.int (64 : Int32))) (Jvm.Term.int (52 : Int32))).before args s = true := (st_r (st_r (st_r (st_l (st_l (st_r (st_r (st_l (st_l (st_l (st_r h)))))))))))
theorem st_o65 (h : st_g.before args s = true) : (Jvm.Cond.eq (Jvm.Term.elem (Jvm.Term.static "java/lang/Integer" "DigitOnes" "[B") (Jvm.Term.int (65 : Int32))) (Jvm.Term.int (53 : Int32))).before args s = true := (st_l (st_l (st_r (st_l (st_r (st_r (st_l (st_l (st_l (st_r h))))))))))
theorem st_o66 (h : st_g.before args s = true) : (Jvm.Cond.eq (Jvm.Term.elem (Jvm.Term.static "java/lang/Integer" "DigitOnes" "[B") (Jvm.Term.int (66 : Int32))) (Jvm.Term.int (54 : Int32))).before args s = true := (st_l (st_r (st_l (st_r (st_l (st_r (st_r (st_l (st_l (st_l (st_r h)))))))))))
theorem st_o67 (h : st_g.before args s = true) : (Jvm.Cond.eq (Jvm.Term.elem (Jvm.Term.static "java/lang/Integer" "DigitOnes" "[B") (Jvm.Term.int (67 : Int32))) (Jvm.Term.int (55 : Int32))).before args s = true := (st_r (st_r (st_l (st_r (st_l (st_r (st_r (st_l (st_l (st_l (st_r h)))))))))))
theorem st_o68 (h : st_g.before args s = true) : (Jvm.Cond.eq (Jvm.Term.elem (Jvm.Term.static "java/lang/Integer" "DigitOnes" "[B") (Jvm.Term.int (68 : Int32))) (Jvm.Term.int (56 : Int32))).before args s = true := (st_l (st_r (st_r (st_l (st_r (st_r (st_l (st_l (st_l (st_r h))))))))))
theorem st_o69 (h : st_g.before args s = true) : (Jvm.Cond.eq (Jvm.Term.elem (Jvm.Term.static "java/lang/Integer" "DigitOnes" "[B") (Jvm.Term.int (69 : Int32))) (Jvm.Term.int (57 : Int32))).before args s = true := (st_l (st_r (st_r (st_r (st_l (st_r (st_r (st_l (st_l (st_l (st_r h)))))))))))
theorem st_o70 (h : st_g.before args s = true) : (Jvm.Cond.eq (Jvm.Term.elem (Jvm.Term.static "java/lang/Integer" "DigitOnes" "[B") (Jvm.Term.int (70 : Int32))) (Jvm.Term.int (48 : Int32))).before args s = true := (st_r (st_r (st_r (st_r (st_l (st_r (st_r (st_l (st_l (st_l (st_r h)))))))))))
theorem st_o71 (h : st_g.before args s = true) : (Jvm.Cond.eq (Jvm.Term.elem (Jvm.Term.static "java/lang/Integer" "DigitOnes" "[B") (Jvm.Term.int (71 : Int32))) (Jvm.Term.int (49 : Int32))).before args s = true := (st_l (st_l (st_l (st_r (st_r (st_r (st_l (st_l (st_l (st_r h))))))))))
theorem st_o72 (h : st_g.before args s = true) : (Jvm.Cond.eq (Jvm.Term.elem (Jvm.Term.static "java/lang/Integer" "DigitOnes" "[B") (Jvm.Term.int (72 : Int32))) (Jvm.Term.int (50 : Int32))).before args s = true := (st_l (st_r (st_l (st_l (st_r (st_r (st_r (st_l (st_l (st_l (st_r h)))))))))))
theorem st_o73 (h : st_g.before args s = true) : (Jvm.Cond.eq (Jvm.Term.elem (Jvm.Term.static "java/lang/Integer" "DigitOnes" "[B") (Jvm.Term.int (73 : Int32))) (Jvm.Term.int (51 : Int32))).before args s = true := (st_r (st_r (st_l (st_l (st_r (st_r (st_r (st_l (st_l (st_l (st_r h)))))))))))
theorem st_o74 (h : st_g.before args s = true) : (Jvm.Cond.eq (Jvm.Term.elem (Jvm.Term.static "java/lang/Integer" "DigitOnes" "[B") (Jvm.Term.int (74 : Int32))) (Jvm.Term.int (52 : Int32))).before args s = true := (st_l (st_r (st_l (st_r (st_r (st_r (st_l (st_l (st_l (st_r h))))))))))
theorem st_o75 (h : st_g.before args s = true) : (Jvm.Cond.eq (Jvm.Term.elem (Jvm.Term.static "java/lang/Integer" "DigitOnes" "[B") (Jvm.Term.int (75 : Int32))) (Jvm.Term.int (53 : Int32))).before args s = true := (st_l (st_r (st_r (st_l (st_r (st_r (st_r (st_l (st_l (st_l (st_r h)))))))))))
theorem st_o76 (h : st_g.before args s = true) : (Jvm.Cond.eq (Jvm.Term.elem (Jvm.Term.static "java/lang/Integer" "DigitOnes" "[B") (Jvm.Term.int (76 : Int32))) (Jvm.Term.int (54 : Int32))).before args s = true := (st_r (st_r (st_r (st_l (st_r (st_r (st_r (st_l (st_l (st_l (st_r h)))))))))))
theorem st_o77 (h : st_g.before args s = true) : (Jvm.Cond.eq (Jvm.Term.elem (Jvm.Term.static "java/lang/Integer" "DigitOnes" "[B") (Jvm.Term.int (77 : Int32))) (Jvm.Term.int (55 : Int32))).before args s = true := (st_l (st_l (st_r (st_r (st_r (st_r (st_l (st_l (st_l (st_r h))))))))))
theorem st_o78 (h : st_g.before args s = true) : (Jvm.Cond.eq (Jvm.Term.elem (Jvm.Term.static "java/lang/Integer" "DigitOnes" "[B") (Jvm.Term.int (78 : Int32))) (Jvm.Term.int (56 : Int32))).before args s = true := (st_l (st_r (st_l (st_r (st_r (st_r (st_r (st_l (st_l (st_l (st_r h)))))))))))
theorem st_o79 (h : st_g.before args s = true) : (Jvm.Cond.eq (Jvm.Term.elem (Jvm.Term.static "java/lang/Integer" "DigitOnes" "[B") (Jvm.Term.int (79 : Int32))) (Jvm.Term.int (57 : Int32))).before args s = true := (st_r (st_r (st_l (st_r (st_r (st_r (st_r (st_l (st_l (st_l (st_r h)))))))))))
theorem st_o80 (h : st_g.before args s = true) : (Jvm.Cond.eq (Jvm.Term.elem (Jvm.Term.static "java/lang/Integer" "DigitOnes" "[B") (Jvm.Term.int (80 : Int32))) (Jvm.Term.int (48 : Int32))).before args s = true := (st_l (st_l (st_r (st_r (st_r (st_r (st_r (st_l (st_l (st_l (st_r h)))))))))))
theorem st_o81 (h : st_g.before args s = true) : (Jvm.Cond.eq (Jvm.Term.elem (Jvm.Term.static "java/lang/Integer" "DigitOnes" "[B") (Jvm.Term.int (81 : Int32))) (Jvm.Term.int (49 : Int32))).before args s = true := (st_r (st_l (st_r (st_r (st_r (st_r (st_r (st_l (st_l (st_l (st_r h)))))))))))
theorem st_o82 (h : st_g.before args s = true) : (Jvm.Cond.eq (Jvm.Term.elem (Jvm.Term.static "java/lang/Integer" "DigitOnes" "[B") (Jvm.Term.int (82 : Int32))) (Jvm.Term.int (50 : Int32))).before args s = true := (st_l (st_r (st_r (st_r (st_r (st_r (st_r (st_l (st_l (st_l (st_r h)))))))))))
theorem st_o83 (h : st_g.before args s = true) : (Jvm.Cond.eq (Jvm.Term.elem (Jvm.Term.static "java/lang/Integer" "DigitOnes" "[B") (Jvm.Term.int (83 : Int32))) (Jvm.Term.int (51 : Int32))).before args s = true := (st_r (st_r (st_r (st_r (st_r (st_r (st_r (st_l (st_l (st_l (st_r h)))))))))))
theorem st_o84 (h : st_g.before args s = true) : (Jvm.Cond.eq (Jvm.Term.elem (Jvm.Term.static "java/lang/Integer" "DigitOnes" "[B") (Jvm.Term.int (84 : Int32))) (Jvm.Term.int (52 : Int32))).before args s = true := (st_l (st_l (st_l (st_l (st_l (st_l (st_r (st_l (st_l (st_r h))))))))))
theorem st_o85 (h : st_g.before args s = true) : (Jvm.Cond.eq (Jvm.Term.elem (Jvm.Term.static "java/lang/Integer" "DigitOnes" "[B") (Jvm.Term.int (85 : Int32))) (Jvm.Term.int (53 : Int32))).before args s = true := (st_l (st_r (st_l (st_l (st_l (st_l (st_l (st_r (st_l (st_l (st_r h)))))))))))
theorem st_o86 (h : st_g.before args s = true) : (Jvm.Cond.eq (Jvm.Term.elem (Jvm.Term.static "java/lang/Integer" "DigitOnes" "[B") (Jvm.Term.int (86 : Int32))) (Jvm.Term.int (54 : Int32))).before args s = true := (st_r (st_r (st_l (st_l (st_l (st_l (st_l (st_r (st_l (st_l (st_r h)))))))))))
theorem st_o87 (h : st_g.before args s = true) : (Jvm.Cond.eq (Jvm.Term.elem (Jvm.Term.static "java/lang/Integer" "DigitOnes" "[B") (Jvm.Term.int (87 : Int32))) (Jvm.Term.int (55 : Int32))).before args s = true := (st_l (st_r (st_l (st_l (st_l (st_l (st_r (st_l (st_l (st_r h))))))))))
theorem st_o88 (h : st_g.before args s = true) : (Jvm.Cond.eq (Jvm.Term.elem (Jvm.Term.static "java/lang/Integer" "DigitOnes" "[B") (Jvm.Term.int (88 : Int32))) (Jvm.Term.int (56 : Int32))).before args s = true := (st_l (st_r (st_r (st_l (st_l (st_l (st_l (st_r (st_l (st_l (st_r h)))))))))))
theorem st_o89 (h : st_g.before args s = true) : (Jvm.Cond.eq (Jvm.Term.elem (Jvm.Term.static "java/lang/Integer" "DigitOnes" "[B") (Jvm.Term.int (89 : Int32))) (Jvm.Term.int (57 : Int32))).before args s = true := (st_r (st_r (st_r (st_l (st_l (st_l (st_l (st_r (st_l (st_l (st_r h)))))))))))
theorem st_o90 (h : st_g.before args s = true) : (Jvm.Cond.eq (Jvm.Term.elem (Jvm.Term.static "java/lang/Integer" "DigitOnes" "[B") (Jvm.Term.int (90 : Int32))) (Jvm.Term.int (48 : Int32))).before args s = true := (st_l (st_l (st_r (st_l (st_l (st_l (st_r (st_l (st_l (st_r h))))))))))
theorem st_o91 (h : st_g.before args s = true) : (Jvm.Cond.eq (Jvm.Term.elem (Jvm.Term.static "java/lang/Integer" "DigitOnes" "[B") (Jvm.Term.int (91 : Int32))) (Jvm.Term.int (49 : Int32))).before args s = true := (st_l (st_r (st_l (st_r (st_l (st_l (st_l (st_r (st_l (st_l (st_r h)))))))))))
theorem st_o92 (h : st_g.before args s = true) : (Jvm.Cond.eq (Jvm.Term.elem (Jvm.Term.static "java/lang/Integer" "DigitOnes" "[B") (Jvm.Term.int (92 : Int32))) (Jvm.Term.int (50 : Int32))).before args s = true := (st_r (st_r (st_l (st_r (st_l (st_l (st_l (st_r (st_l (st_l (st_r h)))))))))))
theorem st_o93 (h : st_g.before args s = true) : (Jvm.Cond.eq (Jvm.Term.elem (Jvm.Term.static "java/lang/Integer" "DigitOnes" "[B") (Jvm.Term.int (93 : Int32))) (Jvm.Term.int (51 : Int32))).before args s = true := (st_l (st_r (st_r (st_l (st_l (st_l (st_r (st_l (st_l (st_r h))))))))))
theorem st_o94 (h : st_g.before args s = true) : (Jvm.Cond.eq (Jvm.Term.elem (Jvm.Term.static "java/lang/Integer" "DigitOnes" "[B") (Jvm.Term.int (94 : Int32))) (Jvm.Term.int (52 : Int32))).before args s = true := (st_l (st_r (st_r (st_r (st_l (st_l (st_l (st_r (st_l (st_l (st_r h)))))))))))
theorem st_o95 (h : st_g.before args s = true) : (Jvm.Cond.eq (Jvm.Term.elem (Jvm.Term.static "java/lang/Integer" "DigitOnes" "[B") (Jvm.Term.int (95 : Int32))) (Jvm.Term.int (53 : Int32))).before args s = true := (st_r (st_r (st_r (st_r (st_l (st_l (st_l (st_r (st_l (st_l (st_r h)))))))))))
theorem st_o96 (h : st_g.before args s = true) : (Jvm.Cond.eq (Jvm.Term.elem (Jvm.Term.static "java/lang/Integer" "DigitOnes" "[B") (Jvm.Term.int (96 : Int32))) (Jvm.Term.int (54 : Int32))).before args s = true := (st_l (st_l (st_l (st_r (st_l (st_l (st_r (st_l (st_l (st_r h))))))))))
theorem st_o97 (h : st_g.before args s = true) : (Jvm.Cond.eq (Jvm.Term.elem (Jvm.Term.static "java/lang/Integer" "DigitOnes" "[B") (Jvm.Term.int (97 : Int32))) (Jvm.Term.int (55 : Int32))).before args s = true := (st_l (st_r (st_l (st_l (st_r (st_l (st_l (st_r (st_l (st_l (st_r h)))))))))))
theorem st_o98 (h : st_g.before args s = true) : (Jvm.Cond.eq (Jvm.Term.elem (Jvm.Term.static "java/lang/Integer" "DigitOnes" "[B") (Jvm.Term.int (98 : Int32))) (Jvm.Term.int (56 : Int32))).before args s = true := (st_r (st_r (st_l (st_l (st_r (st_l (st_l (st_r (st_l (st_l (st_r h)))))))))))
theorem st_o99 (h : st_g.before args s = true) : (Jvm.Cond.eq (Jvm.Term.elem (Jvm.Term.static "java/lang/Integer" "DigitOnes" "[B") (Jvm.Term.int (99 : Int32))) (Jvm.Term.int (57 : Int32))).before args s = true := (st_l (st_r (st_l (st_r (st_l (st_l (st_r (st_l (st_l (st_r h))))))))))
theorem st_t0 (h : st_g.before args s = true) : (Jvm.Cond.eq (Jvm.Term.elem (Jvm.Term.static "java/lang/Integer" "DigitTens" "[B") (Jvm.Term.int (0 : Int32))) (Jvm.Term.int (48 : Int32))).before args s = true := (st_l (st_r (st_l (st_r (st_r (st_l (st_l (st_r (st_l (st_l (st_r h)))))))))))
theorem st_t1 (h : st_g.before args s = true) : (Jvm.Cond.eq (Jvm.Term.elem (Jvm.Term.static "java/lang/Integer" "DigitTens" "[B") (Jvm.Term.int (1 : Int32))) (Jvm.Term.int (48 : Int32))).before args s = true := (st_r (st_r (st_l (st_r (st_r (st_l (st_l (st_r (st_l (st_l (st_r h)))))))))))
theorem st_t2 (h : st_g.before args s = true) : (Jvm.Cond.eq (Jvm.Term.elem (Jvm.Term.static "java/lang/Integer" "DigitTens" "[B") (Jvm.Term.int (2 : Int32))) (Jvm.Term.int (48 : Int32))).before args s = true := (st_l (st_l (st_r (st_r (st_r (st_l (st_l (st_r (st_l (st_l (st_r h)))))))))))
theorem st_t3 (h : st_g.before args s = true) : (Jvm.Cond.eq (Jvm.Term.elem (Jvm.Term.static "java/lang/Integer" "DigitTens" "[B") (Jvm.Term.int (3 : Int32))) (Jvm.Term.int (48 : Int32))).before args s = true := (st_r (st_l (st_r (st_r (st_r (st_l (st_l (st_r (st_l (st_l (st_r h)))))))))))
theorem st_t4 (h : st_g.before args s = true) : (Jvm.Cond.eq (Jvm.Term.elem (Jvm.Term.static "java/lang/Integer" "DigitTens" "[B") (Jvm.Term.int (4 : Int32))) (Jvm.Term.int (48 : Int32))).before args s = true := (st_l (st_r (st_r (st_r (st_r (st_l (st_l (st_r (st_l (st_l (st_r h)))))))))))
theorem st_t5 (h : st_g.before args s = true) : (Jvm.Cond.eq (Jvm.Term.elem (Jvm.Term.static "java/lang/Integer" "DigitTens" "[B") (Jvm.Term.int (5 : Int32))) (Jvm.Term.int (48 : Int32))).before args s = true := (st_r (st_r (st_r (st_r (st_r (st_l (st_l (st_r (st_l (st_l (st_r h)))))))))))
theorem st_t6 (h : st_g.before args s = true) : (Jvm.Cond.eq (Jvm.Term.elem (Jvm.Term.static "java/lang/Integer" "DigitTens" "[B") (Jvm.Term.int (6 : Int32))) (Jvm.Term.int (48 : Int32))).before args s = true := (st_l (st_l (st_l (st_l (st_r (st_l (st_r (st_l (st_l (st_r h))))))))))
theorem st_t7 (h : st_g.before args s = true) : (Jvm.Cond.eq (Jvm.Term.elem (Jvm.Term.static "java/lang/Integer" "DigitTens" "[B") (Jvm.Term.int (7 : Int32))) (Jvm.Term.int (48 : Int32))).before args s = true := (st_l (st_r (st_l (st_l (st_l (st_r (st_l (st_r (st_l (st_l (st_r h)))))))))))
theorem st_t8 (h : st_g.before args s = true) : (Jvm.Cond.eq (Jvm.Term.elem (Jvm.Term.static "java/lang/Integer" "DigitTens" "[B") (Jvm.Term.int (8 : Int32))) (Jvm.Term.int (48 : Int32))).before args s = true := (st_r (st_r (st_l (st_l (st_l (st_r (st_l (st_r (st_l (st_l (st_r h)))))))))))
theorem st_t9 (h : st_g.before args s = true) : (Jvm.Cond.eq (Jvm.Term.elem (Jvm.Term.static "java/lang/Integer" "DigitTens" "[B") (Jvm.Term.int (9 : Int32))) (Jvm.Term.int (48 : Int32))).before args s = true := (st_l (st_r (st_l (st_l (st_r (st_l (st_r (st_l (st_l (st_r h))))))))))
theorem st_t10 (h : st_g.before args s = true) : (Jvm.Cond.eq (Jvm.Term.elem (Jvm.Term.static "java/lang/Integer" "DigitTens" "[B") (Jvm.Term.int (10 : Int32))) (Jvm.Term.int (49 : Int32))).before args s = true := (st_l (st_r (st_r (st_l (st_l (st_r (st_l (st_r (st_l (st_l (st_r h)))))))))))
theorem st_t11 (h : st_g.before args s = true) : (Jvm.Cond.eq (Jvm.Term.elem (Jvm.Term.static "java/lang/Integer" "DigitTens" "[B") (Jvm.Term.int (11 : Int32))) (Jvm.Term.int (49 : Int32))).before args s = true := (st_r (st_r (st_r (st_l (st_l (st_r (st_l (st_r (st_l (st_l (st_r h)))))))))))
theorem st_t12 (h : st_g.before args s = true) : (Jvm.Cond.eq (Jvm.Term.elem (Jvm.Term.static "java/lang/Integer" "DigitTens" "[B") (Jvm.Term.int (12 : Int32))) (Jvm.Term.int (49 : Int32))).before args s = true := (st_l (st_l (st_r (st_l (st_r (st_l (st_r (st_l (st_l (st_r h))))))))))
theorem st_t13 (h : st_g.before args s = true) : (Jvm.Cond.eq (Jvm.Term.elem (Jvm.Term.static "java/lang/Integer" "DigitTens" "[B") (Jvm.Term.int (13 : Int32))) (Jvm.Term.int (49 : Int32))).before args s = true := (st_l (st_r (st_l (st_r (st_l (st_r (st_l (st_r (st_l (st_l (st_r h)))))))))))
theorem st_t14 (h : st_g.before args s = true) : (Jvm.Cond.eq (Jvm.Term.elem (Jvm.Term.static "java/lang/Integer" "DigitTens" "[B") (Jvm.Term.int (14 : Int32))) (Jvm.Term.int (49 : Int32))).before args s = true := (st_r (st_r (st_l (st_r (st_l (st_r (st_l (st_r (st_l (st_l (st_r h)))))))))))
theorem st_t15 (h : st_g.before args s = true) : (Jvm.Cond.eq (Jvm.Term.elem (Jvm.Term.static "java/lang/Integer" "DigitTens" "[B") (Jvm.Term.int (15 : Int32))) (Jvm.Term.int (49 : Int32))).before args s = true := (st_l (st_r (st_r (st_l (st_r (st_l (st_r (st_l (st_l (st_r h))))))))))
theorem st_t16 (h : st_g.before args s = true) : (Jvm.Cond.eq (Jvm.Term.elem (Jvm.Term.static "java/lang/Integer" "DigitTens" "[B") (Jvm.Term.int (16 : Int32))) (Jvm.Term.int (49 : Int32))).before args s = true := (st_l (st_r (st_r (st_r (st_l (st_r (st_l (st_r (st_l (st_l (st_r h)))))))))))
theorem st_t17 (h : st_g.before args s = true) : (Jvm.Cond.eq (Jvm.Term.elem (Jvm.Term.static "java/lang/Integer" "DigitTens" "[B") (Jvm.Term.int (17 : Int32))) (Jvm.Term.int (49 : Int32))).before args s = true := (st_r (st_r (st_r (st_r (st_l (st_r (st_l (st_r (st_l (st_l (st_r h)))))))))))
theorem st_t18 (h : st_g.before args s = true) : (Jvm.Cond.eq (Jvm.Term.elem (Jvm.Term.static "java/lang/Integer" "DigitTens" "[B") (Jvm.Term.int (18 : Int32))) (Jvm.Term.int (49 : Int32))).before args s = true := (st_l (st_l (st_l (st_r (st_r (st_l (st_r (st_l (st_l (st_r h))))))))))
theorem st_t19 (h : st_g.before args s = true) : (Jvm.Cond.eq (Jvm.Term.elem (Jvm.Term.static "java/lang/Integer" "DigitTens" "[B") (Jvm.Term.int (19 : Int32))) (Jvm.Term.int (49 : Int32))).before args s = true := (st_l (st_r (st_l (st_l (st_r (st_r (st_l (st_r (st_l (st_l (st_r h)))))))))))
theorem st_t20 (h : st_g.before args s = true) : (Jvm.Cond.eq (Jvm.Term.elem (Jvm.Term.static "java/lang/Integer" "DigitTens" "[B") (Jvm.Term.int (20 : Int32))) (Jvm.Term.int (50 : Int32))).before args s = true := (st_r (st_r (st_l (st_l (st_r (st_r (st_l (st_r (st_l (st_l (st_r h)))))))))))
theorem st_t21 (h : st_g.before args s = true) : (Jvm.Cond.eq (Jvm.Term.elem (Jvm.Term.static "java/lang/Integer" "DigitTens" "[B") (Jvm.Term.int (21 : Int32))) (Jvm.Term.int (50 : Int32))).before args s = true := (st_l (st_r (st_l (st_r (st_r (st_l (st_r (st_l (st_l (st_r h))))))))))
theorem st_t22 (h : st_g.before args s = true) : (Jvm.Cond.eq (Jvm.Term.elem (Jvm.Term.static "java/lang/Integer" "DigitTens" "[B") (Jvm.Term.int (22 : Int32))) (Jvm.Term.int (50 : Int32))).before args s = true := (st_l (st_r (st_r (st_l (st_r (st_r (st_l (st_r (st_l (st_l (st_r h)))))))))))
theorem st_t23 (h : st_g.before args s = true) : (Jvm.Cond.eq (Jvm.Term.elem (Jvm.Term.static "java/lang/Integer" "DigitTens" "[B") (Jvm.Term.int (23 : Int32))) (Jvm.Term.int (50 : Int32))).before args s = true := (st_r (st_r (st_r (st_l (st_r (st_r (st_l (st_r (st_l (st_l (st_r h)))))))))))
theorem st_t24 (h : st_g.before args s = true) : (Jvm.Cond.eq (Jvm.Term.elem (Jvm.Term.static "java/lang/Integer" "DigitTens" "[B") (Jvm.Term.int (24 : Int32))) (Jvm.Term.int (50 : Int32))).before args s = true := (st_l (st_l (st_r (st_r (st_r (st_l (st_r (st_l (st_l (st_r h))))))))))
theorem st_t25 (h : st_g.before args s = true) : (Jvm.Cond.eq (Jvm.Term.elem (Jvm.Term.static "java/lang/Integer" "DigitTens" "[B") (Jvm.Term.int (25 : Int32))) (Jvm.Term.int (50 : Int32))).before args s = true := (st_l (st_r (st_l (st_r (st_r (st_r (st_l (st_r (st_l (st_l (st_r h)))))))))))
theorem st_t26 (h : st_g.before args s = true) : (Jvm.Cond.eq (Jvm.Term.elem (Jvm.Term.static "java/lang/Integer" "DigitTens" "[B") (Jvm.Term.int (26 : Int32))) (Jvm.Term.int (50 : Int32))).before args s = true := (st_r (st_r (st_l (st_r (st_r (st_r (st_l (st_r (st_l (st_l (st_r h)))))))))))
theorem st_t27 (h : st_g.before args s = true) : (Jvm.Cond.eq (Jvm.Term.elem (Jvm.Term.static "java/lang/Integer" "DigitTens" "[B") (Jvm.Term.int (27 : Int32))) (Jvm.Term.int (50 : Int32))).before args s = true := (st_l (st_l (st_r (st_r (st_r (st_r (st_l (st_r (st_l (st_l (st_r h)))))))))))
theorem st_t28 (h : st_g.before args s = true) : (Jvm.Cond.eq (Jvm.Term.elem (Jvm.Term.static "java/lang/Integer" "DigitTens" "[B") (Jvm.Term.int (28 : Int32))) (Jvm.Term.int (50 : Int32))).before args s = true := (st_r (st_l (st_r (st_r (st_r (st_r (st_l (st_r (st_l (st_l (st_r h)))))))))))
theorem st_t29 (h : st_g.before args s = true) : (Jvm.Cond.eq (Jvm.Term.elem (Jvm.Term.static "java/lang/Integer" "DigitTens" "[B") (Jvm.Term.int (29 : Int32))) (Jvm.Term.int (50 : Int32))).before args s = true := (st_l (st_r (st_r (st_r (st_r (st_r (st_l (st_r (st_l (st_l (st_r h)))))))))))
theorem st_t30 (h : st_g.before args s = true) : (Jvm.Cond.eq (Jvm.Term.elem (Jvm.Term.static "java/lang/Integer" "DigitTens" "[B") (Jvm.Term.int (30 : Int32))) (Jvm.Term.int (51 : Int32))).before args s = true := (st_r (st_r (st_r (st_r (st_r (st_r (st_l (st_r (st_l (st_l (st_r h)))))))))))
theorem st_t31 (h : st_g.before args s = true) : (Jvm.Cond.eq (Jvm.Term.elem (Jvm.Term.static "java/lang/Integer" "DigitTens" "[B") (Jvm.Term.int (31 : Int32))) (Jvm.Term.int (51 : Int32))).before args s = true := (st_l (st_l (st_l (st_l (st_l (st_r (st_r (st_l (st_l (st_r h))))))))))
theorem st_t32 (h : st_g.before args s = true) : (Jvm.Cond.eq (Jvm.Term.elem (Jvm.Term.static "java/lang/Integer" "DigitTens" "[B") (Jvm.Term.int (32 : Int32))) (Jvm.Term.int (51 : Int32))).before args s = true := (st_l (st_r (st_l (st_l (st_l (st_l (st_r (st_r (st_l (st_l (st_r h)))))))))))
theorem st_t33 (h : st_g.before args s = true) : (Jvm.Cond.eq (Jvm.Term.elem (Jvm.Term.static "java/lang/Integer" "DigitTens" "[B") (Jvm.Term.int (33 : Int32))) (Jvm.Term.int (51 : Int32))).before args s = true := (st_r (st_r (st_l (st_l (st_l (st_l (st_r (st_r (st_l (st_l (st_r h)))))))))))
theorem st_t34 (h : st_g.before args s = true) : (Jvm.Cond.eq (Jvm.Term.elem (Jvm.Term.static "java/lang/Integer" "DigitTens" "[B") (Jvm.Term.int (34 : Int32))) (Jvm.Term.int (51 : Int32))).before args s = true := (st_l (st_r (st_l (st_l (st_l (st_r (st_r (st_l (st_l (st_r h))))))))))
theorem st_t35 (h : st_g.before args s = true) : (Jvm.Cond.eq (Jvm.Term.elem (Jvm.Term.static "java/lang/Integer" "DigitTens" "[B") (Jvm.Term.int (35 : Int32))) (Jvm.Term.int (51 : Int32))).before args s = true := (st_l (st_r (st_r (st_l (st_l (st_l (st_r (st_r (st_l (st_l (st_r h)))))))))))
theorem st_t36 (h : st_g.before args s = true) : (Jvm.Cond.eq (Jvm.Term.elem (Jvm.Term.static "java/lang/Integer" "DigitTens" "[B") (Jvm.Term.int (36 : Int32))) (Jvm.Term.int (51 : Int32))).before args s = true := (st_r (st_r (st_r (st_l (st_l (st_l (st_r (st_r (st_l (st_l (st_r h)))))))))))
theorem st_t37 (h : st_g.before args s = true) : (Jvm.Cond.eq (Jvm.Term.elem (Jvm.Term.static "java/lang/Integer" "DigitTens" "[B") (Jvm.Term.int (37 : Int32))) (Jvm.Term.int (51 : Int32))).before args s = true := (st_l (st_l (st_r (st_l (st_l (st_r (st_r (st_l (st_l (st_r h))))))))))
theorem st_t38 (h : st_g.before args s = true) : (Jvm.Cond.eq (Jvm.Term.elem (Jvm.Term.static "java/lang/Integer" "DigitTens" "[B") (Jvm.Term.int (38 : Int32))) (Jvm.Term.int (51 : Int32))).before args s = true := (st_l (st_r (st_l (st_r (st_l (st_l (st_r (st_r (st_l (st_l (st_r h)))))))))))
theorem st_t39 (h : st_g.before args s = true) : (Jvm.Cond.eq (Jvm.Term.elem (Jvm.Term.static "java/lang/Integer" "DigitTens" "[B") (Jvm.Term.int (39 : Int32))) (Jvm.Term.int (51 : Int32))).before args s = true := (st_r (st_r (st_l (st_r (st_l (st_l (st_r (st_r (st_l (st_l (st_r h)))))))))))
theorem st_t40 (h : st_g.before args s = true) : (Jvm.Cond.eq (Jvm.Term.elem (Jvm.Term.static "java/lang/Integer" "DigitTens" "[B") (Jvm.Term.int (40 : Int32))) (Jvm.Term.int (52 : Int32))).before args s = true := (st_l (st_r (st_r (st_l (st_l (st_r (st_r (st_l (st_l (st_r h))))))))))
theorem st_t41 (h : st_g.before args s = true) : (Jvm.Cond.eq (Jvm.Term.elem (Jvm.Term.static "java/lang/Integer" "DigitTens" "[B") (Jvm.Term.int (41 : Int32))) (Jvm.Term.int (52 : Int32))).before args s = true := (st_l (st_r (st_r (st_r (st_l (st_l (st_r (st_r (st_l (st_l (st_r h)))))))))))
theorem st_t42 (h : st_g.before args s = true) : (Jvm.Cond.eq (Jvm.Term.elem (Jvm.Term.static "java/lang/Integer" "DigitTens" "[B") (Jvm.Term.int (42 : Int32))) (Jvm.Term.int (52 : Int32))).before args s = true := (st_r (st_r (st_r (st_r (st_l (st_l (st_r (st_r (st_l (st_l (st_r h)))))))))))
theorem st_t43 (h : st_g.before args s = true) : (Jvm.Cond.eq (Jvm.Term.elem (Jvm.Term.static "java/lang/Integer" "DigitTens" "[B") (Jvm.Term.int (43 : Int32))) (Jvm.Term.int (52 : Int32))).before args s = true := (st_l (st_l (st_l (st_r (st_l (st_r (st_r (st_l (st_l (st_r h))))))))))
theorem st_t44 (h : st_g.before args s = true) : (Jvm.Cond.eq (Jvm.Term.elem (Jvm.Term.static "java/lang/Integer" "DigitTens" "[B") (Jvm.Term.int (44 : Int32))) (Jvm.Term.int (52 : Int32))).before args s = true := (st_l (st_r (st_l (st_l (st_r (st_l (st_r (st_r (st_l (st_l (st_r h)))))))))))
theorem st_t45 (h : st_g.before args s = true) : (Jvm.Cond.eq (Jvm.Term.elem (Jvm.Term.static "java/lang/Integer" "DigitTens" "[B") (Jvm.Term.int (45 : Int32))) (Jvm.Term.int (52 : Int32))).before args s = true := (st_r (st_r (st_l (st_l (st_r (st_l (st_r (st_r (st_l (st_l (st_r h)))))))))))
theorem st_t46 (h : st_g.before args s = true) : (Jvm.Cond.eq (Jvm.Term.elem (Jvm.Term.static "java/lang/Integer" "DigitTens" "[B") (Jvm.Term.int (46 : Int32))) (Jvm.Term.int (52 : Int32))).before args s = true := (st_l (st_r (st_l (st_r (st_l (st_r (st_r (st_l (st_l (st_r h))))))))))
theorem st_t47 (h : st_g.before args s = true) : (Jvm.Cond.eq (Jvm.Term.elem (Jvm.Term.static "java/lang/Integer" "DigitTens" "[B") (Jvm.Term.int (47 : Int32))) (Jvm.Term.int (52 : Int32))).before args s = true := (st_l (st_r (st_r (st_l (st_r (st_l (st_r (st_r (st_l (st_l (st_r h)))))))))))
theorem st_t48 (h : st_g.before args s = true) : (Jvm.Cond.eq (Jvm.Term.elem (Jvm.Term.static "java/lang/Integer" "DigitTens" "[B") (Jvm.Term.int (48 : Int32))) (Jvm.Term.int (52 : Int32))).before args s = true := (st_r (st_r (st_r (st_l (st_r (st_l (st_r (st_r (st_l (st_l (st_r h)))))))))))
theorem st_t49 (h : st_g.before args s = true) : (Jvm.Cond.eq (Jvm.Term.elem (Jvm.Term.static "java/lang/Integer" "DigitTens" "[B") (Jvm.Term.int (49 : Int32))) (Jvm.Term.int (52 : Int32))).before args s = true := (st_l (st_l (st_r (st_r (st_l (st_r (st_r (st_l (st_l (st_r h))))))))))
theorem st_t50 (h : st_g.before args s = true) : (Jvm.Cond.eq (Jvm.Term.elem (Jvm.Term.static "java/lang/Integer" "DigitTens" "[B") (Jvm.Term.int (50 : Int32))) (Jvm.Term.int (53 : Int32))).before args s = true := (st_l (st_r (st_l (st_r (st_r (st_l (st_r (st_r (st_l (st_l (st_r h)))))))))))
theorem st_t51 (h : st_g.before args s = true) : (Jvm.Cond.eq (Jvm.Term.elem (Jvm.Term.static "java/lang/Integer" "DigitTens" "[B") (Jvm.Term.int (51 : Int32))) (Jvm.Term.int (53 : Int32))).before args s = true := (st_r (st_r (st_l (st_r (st_r (st_l (st_r (st_r (st_l (st_l (st_r h)))))))))))
theorem st_t52 (h : st_g.before args s = true) : (Jvm.Cond.eq (Jvm.Term.elem (Jvm.Term.static "java/lang/Integer" "DigitTens" "[B") (Jvm.Term.int (52 : Int32))) (Jvm.Term.int (53 : Int32))).before args s = true := (st_l (st_l (st_r (st_r (st_r (st_l (st_r (st_r (st_l (st_l (st_r h)))))))))))
theorem st_t53 (h : st_g.before args s = true) : (Jvm.Cond.eq (Jvm.Term.elem (Jvm.Term.static "java/lang/Integer" "DigitTens" "[B") (Jvm.Term.int (53 : Int32))) (Jvm.Term.int (53 : Int32))).before args s = true := (st_r (st_l (st_r (st_r (st_r (st_l (st_r (st_r (st_l (st_l (st_r h)))))))))))
theorem st_t54 (h : st_g.before args s = true) : (Jvm.Cond.eq (Jvm.Term.elem (Jvm.Term.static "java/lang/Integer" "DigitTens" "[B") (Jvm.Term.int (54 : Int32))) (Jvm.Term.int (53 : Int32))).before args s = true := (st_l (st_r (st_r (st_r (st_r (st_l (st_r (st_r (st_l (st_l (st_r h)))))))))))
theorem st_t55 (h : st_g.before args s = true) : (Jvm.Cond.eq (Jvm.Term.elem (Jvm.Term.static "java/lang/Integer" "DigitTens" "[B") (Jvm.Term.int (55 : Int32))) (Jvm.Term.int (53 : Int32))).before args s = true := (st_r (st_r (st_r (st_r (st_r (st_l (st_r (st_r (st_l (st_l (st_r h)))))))))))
theorem st_t56 (h : st_g.before args s = true) : (Jvm.Cond.eq (Jvm.Term.elem (Jvm.Term.static "java/lang/Integer" "DigitTens" "[B") (Jvm.Term.int (56 : Int32))) (Jvm.Term.int (53 : Int32))).before args s = true := (st_l (st_l (st_l (st_l (st_r (st_r (st_r (st_l (st_l (st_r h))))))))))
theorem st_t57 (h : st_g.before args s = true) : (Jvm.Cond.eq (Jvm.Term.elem (Jvm.Term.static "java/lang/Integer" "DigitTens" "[B") (Jvm.Term.int (57 : Int32))) (Jvm.Term.int (53 : Int32))).before args s = true := (st_l (st_r (st_l (st_l (st_l (st_r (st_r (st_r (st_l (st_l (st_r h)))))))))))
theorem st_t58 (h : st_g.before args s = true) : (Jvm.Cond.eq (Jvm.Term.elem (Jvm.Term.static "java/lang/Integer" "DigitTens" "[B") (Jvm.Term.int (58 : Int32))) (Jvm.Term.int (53 : Int32))).before args s = true := (st_r (st_r (st_l (st_l (st_l (st_r (st_r (st_r (st_l (st_l (st_r h)))))))))))
theorem st_t59 (h : st_g.before args s = true) : (Jvm.Cond.eq (Jvm.Term.elem (Jvm.Term.static "java/lang/Integer" "DigitTens" "[B") (Jvm.Term.int (59 : Int32))) (Jvm.Term.int (53 : Int32))).before args s = true := (st_l (st_r (st_l (st_l (st_r (st_r (st_r (st_l (st_l (st_r h))))))))))
theorem st_t60 (h : st_g.before args s = true) : (Jvm.Cond.eq (Jvm.Term.elem (Jvm.Term.static "java/lang/Integer" "DigitTens" "[B") (Jvm.Term.int (60 : Int32))) (Jvm.Term.int (54 : Int32))).before args s = true := (st_l (st_r (st_r (st_l (st_l (st_r (st_r (st_r (st_l (st_l (st_r h)))))))))))
theorem st_t61 (h : st_g.before args s = true) : (Jvm.Cond.eq (Jvm.Term.elem (Jvm.Term.static "java/lang/Integer" "DigitTens" "[B") (Jvm.Term.int (61 : Int32))) (Jvm.Term.int (54 : Int32))).before args s = true := (st_r (st_r (st_r (st_l (st_l (st_r (st_r (st_r (st_l (st_l (st_r h)))))))))))
theorem st_t62 (h : st_g.before args s = true) : (Jvm.Cond.eq (Jvm.Term.elem (Jvm.Term.static "java/lang/Integer" "DigitTens" "[B") (Jvm.Term.int (62 : Int32))) (Jvm.Term.int (54 : Int32))).before args s = true := (st_l (st_l (st_r (st_l (st_r (st_r (st_r (st_l (st_l (st_r h))))))))))
theorem st_t63 (h : st_g.before args s = true) : (Jvm.Cond.eq (Jvm.Term.elem (Jvm.Term.static "java/lang/Integer" "DigitTens" "[B") (Jvm.Term.int (63 : Int32))) (Jvm.Term.int (54 : Int32))).before args s = true := (st_l (st_r (st_l (st_r (st_l (st_r (st_r (st_r (st_l (st_l (st_r h)))))))))))
theorem st_t64 (h : st_g.before args s = true) : (Jvm.Cond.eq (Jvm.Term.elem (Jvm.Term.static "java/lang/Integer" "DigitTens" "[B") (Jvm.Term.int (64 : Int32))) (Jvm.Term.int (54 : Int32))).before args s = true := (st_r (st_r (st_l (st_r (st_l (st_r (st_r (st_r (st_l (st_l (st_r h)))))))))))
theorem st_t65 (h : st_g.before args s = true) : (Jvm.Cond.eq (Jvm.Term.elem (Jvm.Term.static "java/lang/Integer" "DigitTens" "[B") (Jvm.Term.int (65 : Int32))) (Jvm.Term.int (54 : Int32))).before args s = true := (st_l (st_r (st_r (st_l (st_r (st_r (st_r (st_l (st_l (st_r h))))))))))
theorem st_t66 (h : st_g.before args s = true) : (Jvm.Cond.eq (Jvm.Term.elem (Jvm.Term.static "java/lang/Integer" "DigitTens" "[B") (Jvm.Term.int (66 : Int32))) (Jvm.Term.int (54 : Int32))).before args s = true := (st_l (st_r (st_r (st_r (st_l (st_r (st_r (st_r (st_l (st_l (st_r h)))))))))))
theorem st_t67 (h : st_g.before args s = true) : (Jvm.Cond.eq (Jvm.Term.elem (Jvm.Term.static "java/lang/Integer" "DigitTens" "[B") (Jvm.Term.int (67 : Int32))) (Jvm.Term.int (54 : Int32))).before args s = true := (st_r (st_r (st_r (st_r (st_l (st_r (st_r (st_r (st_l (st_l (st_r h)))))))))))
theorem st_t68 (h : st_g.before args s = true) : (Jvm.Cond.eq (Jvm.Term.elem (Jvm.Term.static "java/lang/Integer" "DigitTens" "[B") (Jvm.Term.int (68 : Int32))) (Jvm.Term.int (54 : Int32))).before args s = true := (st_l (st_l (st_l (st_r (st_r (st_r (st_r (st_l (st_l (st_r h))))))))))
theorem st_t69 (h : st_g.before args s = true) : (Jvm.Cond.eq (Jvm.Term.elem (Jvm.Term.static "java/lang/Integer" "DigitTens" "[B") (Jvm.Term.int (69 : Int32))) (Jvm.Term.int (54 : Int32))).before args s = true := (st_l (st_r (st_l (st_l (st_r (st_r (st_r (st_r (st_l (st_l (st_r h)))))))))))
theorem st_t70 (h : st_g.before args s = true) : (Jvm.Cond.eq (Jvm.Term.elem (Jvm.Term.static "java/lang/Integer" "DigitTens" "[B") (Jvm.Term.int (70 : Int32))) (Jvm.Term.int (55 : Int32))).before args s = true := (st_r (st_r (st_l (st_l (st_r (st_r (st_r (st_r (st_l (st_l (st_r h)))))))))))
theorem st_t71 (h : st_g.before args s = true) : (Jvm.Cond.eq (Jvm.Term.elem (Jvm.Term.static "java/lang/Integer" "DigitTens" "[B") (Jvm.Term.int (71 : Int32))) (Jvm.Term.int (55 : Int32))).before args s = true := (st_l (st_r (st_l (st_r (st_r (st_r (st_r (st_l (st_l (st_r h))))))))))
theorem st_t72 (h : st_g.before args s = true) : (Jvm.Cond.eq (Jvm.Term.elem (Jvm.Term.static "java/lang/Integer" "DigitTens" "[B") (Jvm.Term.int (72 : Int32))) (Jvm.Term.int (55 : Int32))).before args s = true := (st_l (st_r (st_r (st_l (st_r (st_r (st_r (st_r (st_l (st_l (st_r h)))))))))))
theorem st_t73 (h : st_g.before args s = true) : (Jvm.Cond.eq (Jvm.Term.elem (Jvm.Term.static "java/lang/Integer" "DigitTens" "[B") (Jvm.Term.int (73 : Int32))) (Jvm.Term.int (55 : Int32))).before args s = true := (st_r (st_r (st_r (st_l (st_r (st_r (st_r (st_r (st_l (st_l (st_r h)))))))))))
theorem st_t74 (h : st_g.before args s = true) : (Jvm.Cond.eq (Jvm.Term.elem (Jvm.Term.static "java/lang/Integer" "DigitTens" "[B") (Jvm.Term.int (74 : Int32))) (Jvm.Term.int (55 : Int32))).before args s = true := (st_l (st_l (st_r (st_r (st_r (st_r (st_r (st_l (st_l (st_r h))))))))))
theorem st_t75 (h : st_g.before args s = true) : (Jvm.Cond.eq (Jvm.Term.elem (Jvm.Term.static "java/lang/Integer" "DigitTens" "[B") (Jvm.Term.int (75 : Int32))) (Jvm.Term.int (55 : Int32))).before args s = true := (st_l (st_r (st_l (st_r (st_r (st_r (st_r (st_r (st_l (st_l (st_r h)))))))))))
theorem st_t76 (h : st_g.before args s = true) : (Jvm.Cond.eq (Jvm.Term.elem (Jvm.Term.static "java/lang/Integer" "DigitTens" "[B") (Jvm.Term.int (76 : Int32))) (Jvm.Term.int (55 : Int32))).before args s = true := (st_r (st_r (st_l (st_r (st_r (st_r (st_r (st_r (st_l (st_l (st_r h)))))))))))
theorem st_t77 (h : st_g.before args s = true) : (Jvm.Cond.eq (Jvm.Term.elem (Jvm.Term.static "java/lang/Integer" "DigitTens" "[B") (Jvm.Term.int (77 : Int32))) (Jvm.Term.int (55 : Int32))).before args s = true := (st_l (st_l (st_r (st_r (st_r (st_r (st_r (st_r (st_l (st_l (st_r h)))))))))))
theorem st_t78 (h : st_g.before args s = true) : (Jvm.Cond.eq (Jvm.Term.elem (Jvm.Term.static "java/lang/Integer" "DigitTens" "[B") (Jvm.Term.int (78 : Int32))) (Jvm.Term.int (55 : Int32))).before args s = true := (st_r (st_l (st_r (st_r (st_r (st_r (st_r (st_r (st_l (st_l (st_r h)))))))))))
theorem st_t79 (h : st_g.before args s = true) : (Jvm.Cond.eq (Jvm.Term.elem (Jvm.Term.static "java/lang/Integer" "DigitTens" "[B") (Jvm.Term.int (79 : Int32))) (Jvm.Term.int (55 : Int32))).before args s = true := (st_l (st_r (st_r (st_r (st_r (st_r (st_r (st_r (st_l (st_l (st_r h)))))))))))
theorem st_t80 (h : st_g.before args s = true) : (Jvm.Cond.eq (Jvm.Term.elem (Jvm.Term.static "java/lang/Integer" "DigitTens" "[B") (Jvm.Term.int (80 : Int32))) (Jvm.Term.int (56 : Int32))).before args s = true := (st_r (st_r (st_r (st_r (st_r (st_r (st_r (st_r (st_l (st_l (st_r h)))))))))))
theorem st_t81 (h : st_g.before args s = true) : (Jvm.Cond.eq (Jvm.Term.elem (Jvm.Term.static "java/lang/Integer" "DigitTens" "[B") (Jvm.Term.int (81 : Int32))) (Jvm.Term.int (56 : Int32))).before args s = true := (st_l (st_l (st_l (st_l (st_l (st_l (st_l (st_r (st_l (st_r h))))))))))
theorem st_t82 (h : st_g.before args s = true) : (Jvm.Cond.eq (Jvm.Term.elem (Jvm.Term.static "java/lang/Integer" "DigitTens" "[B") (Jvm.Term.int (82 : Int32))) (Jvm.Term.int (56 : Int32))).before args s = true := (st_l (st_r (st_l (st_l (st_l (st_l (st_l (st_l (st_r (st_l (st_r h)))))))))))
theorem st_t83 (h : st_g.before args s = true) : (Jvm.Cond.eq (Jvm.Term.elem (Jvm.Term.static "java/lang/Integer" "DigitTens" "[B") (Jvm.Term.int (83 : Int32))) (Jvm.Term.int (56 : Int32))).before args s = true := (st_r (st_r (st_l (st_l (st_l (st_l (st_l (st_l (st_r (st_l (st_r h)))))))))))
theorem st_t84 (h : st_g.before args s = true) : (Jvm.Cond.eq (Jvm.Term.elem (Jvm.Term.static "java/lang/Integer" "DigitTens" "[B") (Jvm.Term.int (84 : Int32))) (Jvm.Term.int (56 : Int32))).before args s = true := (st_l (st_r (st_l (st_l (st_l (st_l (st_l (st_r (st_l (st_r h))))))))))
theorem st_t85 (h : st_g.before args s = true) : (Jvm.Cond.eq (Jvm.Term.elem (Jvm.Term.static "java/lang/Integer" "DigitTens" "[B") (Jvm.Term.int (85 : Int32))) (Jvm.Term.int (56 : Int32))).before args s = true := (st_l (st_r (st_r (st_l (st_l (st_l (st_l (st_l (st_r (st_l (st_r h)))))))))))
theorem st_t86 (h : st_g.before args s = true) : (Jvm.Cond.eq (Jvm.Term.elem (Jvm.Term.static "java/lang/Integer" "DigitTens" "[B") (Jvm.Term.int (86 : Int32))) (Jvm.Term.int (56 : Int32))).before args s = true := (st_r (st_r (st_r (st_l (st_l (st_l (st_l (st_l (st_r (st_l (st_r h)))))))))))
theorem st_t87 (h : st_g.before args s = true) : (Jvm.Cond.eq (Jvm.Term.elem (Jvm.Term.static "java/lang/Integer" "DigitTens" "[B") (Jvm.Term.int (87 : Int32))) (Jvm.Term.int (56 : Int32))).before args s = true := (st_l (st_l (st_r (st_l (st_l (st_l (st_l (st_r (st_l (st_r h))))))))))
theorem st_t88 (h : st_g.before args s = true) : (Jvm.Cond.eq (Jvm.Term.elem (Jvm.Term.static "java/lang/Integer" "DigitTens" "[B") (Jvm.Term.int (88 : Int32))) (Jvm.Term.int (56 : Int32))).before args s = true := (st_l (st_r (st_l (st_r (st_l (st_l (st_l (st_l (st_r (st_l (st_r h)))))))))))
theorem st_t89 (h : st_g.before args s = true) : (Jvm.Cond.eq (Jvm.Term.elem (Jvm.Term.static "java/lang/Integer" "DigitTens" "[B") (Jvm.Term.int (89 : Int32))) (Jvm.Term.int (56 : Int32))).before args s = true := (st_r (st_r (st_l (st_r (st_l (st_l (st_l (st_l (st_r (st_l (st_r h)))))))))))
theorem st_t90 (h : st_g.before args s = true) : (Jvm.Cond.eq (Jvm.Term.elem (Jvm.Term.static "java/lang/Integer" "DigitTens" "[B") (Jvm.Term.int (90 : Int32))) (Jvm.Term.int (57 : Int32))).before args s = true := (st_l (st_r (st_r (st_l (st_l (st_l (st_l (st_r (st_l (st_r h))))))))))
theorem st_t91 (h : st_g.before args s = true) : (Jvm.Cond.eq (Jvm.Term.elem (Jvm.Term.static "java/lang/Integer" "DigitTens" "[B") (Jvm.Term.int (91 : Int32))) (Jvm.Term.int (57 : Int32))).before args s = true := (st_l (st_r (st_r (st_r (st_l (st_l (st_l (st_l (st_r (st_l (st_r h)))))))))))
theorem st_t92 (h : st_g.before args s = true) : (Jvm.Cond.eq (Jvm.Term.elem (Jvm.Term.static "java/lang/Integer" "DigitTens" "[B") (Jvm.Term.int (92 : Int32))) (Jvm.Term.int (57 : Int32))).before args s = true := (st_r (st_r (st_r (st_r (st_l (st_l (st_l (st_l (st_r (st_l (st_r h)))))))))))
theorem st_t93 (h : st_g.before args s = true) : (Jvm.Cond.eq (Jvm.Term.elem (Jvm.Term.static "java/lang/Integer" "DigitTens" "[B") (Jvm.Term.int (93 : Int32))) (Jvm.Term.int (57 : Int32))).before args s = true := (st_l (st_l (st_l (st_r (st_l (st_l (st_l (st_r (st_l (st_r h))))))))))
theorem st_t94 (h : st_g.before args s = true) : (Jvm.Cond.eq (Jvm.Term.elem (Jvm.Term.static "java/lang/Integer" "DigitTens" "[B") (Jvm.Term.int (94 : Int32))) (Jvm.Term.int (57 : Int32))).before args s = true := (st_l (st_r (st_l (st_l (st_r (st_l (st_l (st_l (st_r (st_l (st_r h)))))))))))
theorem st_t95 (h : st_g.before args s = true) : (Jvm.Cond.eq (Jvm.Term.elem (Jvm.Term.static "java/lang/Integer" "DigitTens" "[B") (Jvm.Term.int (95 : Int32))) (Jvm.Term.int (57 : Int32))).before args s = true := (st_r (st_r (st_l (st_l (st_r (st_l (st_l (st_l (st_r (st_l (st_r h)))))))))))
theorem st_t96 (h : st_g.before args s = true) : (Jvm.Cond.eq (Jvm.Term.elem (Jvm.Term.static "java/lang/Integer" "DigitTens" "[B") (Jvm.Term.int (96 : Int32))) (Jvm.Term.int (57 : Int32))).before args s = true := (st_l (st_r (st_l (st_r (st_l (st_l (st_l (st_r (st_l (st_r h))))))))))
theorem st_t97 (h : st_g.before args s = true) : (Jvm.Cond.eq (Jvm.Term.elem (Jvm.Term.static "java/lang/Integer" "DigitTens" "[B") (Jvm.Term.int (97 : Int32))) (Jvm.Term.int (57 : Int32))).before args s = true := (st_l (st_r (st_r (st_l (st_r (st_l (st_l (st_l (st_r (st_l (st_r h)))))))))))
theorem st_t98 (h : st_g.before args s = true) : (Jvm.Cond.eq (Jvm.Term.elem (Jvm.Term.static "java/lang/Integer" "DigitTens" "[B") (Jvm.Term.int (98 : Int32))) (Jvm.Term.int (57 : Int32))).before args s = true := (st_r (st_r (st_r (st_l (st_r (st_l (st_l (st_l (st_r (st_l (st_r h)))))))))))
theorem st_t99 (h : st_g.before args s = true) : (Jvm.Cond.eq (Jvm.Term.elem (Jvm.Term.static "java/lang/Integer" "DigitTens" "[B") (Jvm.Term.int (99 : Int32))) (Jvm.Term.int (57 : Int32))).before args s = true := (st_l (st_l (st_r (st_r (st_l (st_l (st_l (st_r (st_l (st_r h))))))))))
theorem st_do (h : st_g.before args s = true) : ∀ j : Nat, j < 100 → (Cond.eq (.elem st_on (.int (Int32.ofNat j))) (.int (st_one j))).before args s = true := by
  have a0 : st_all (fun j => (Cond.eq (.elem st_on (.int (Int32.ofNat j))) (.int (st_one j))).before args s = true) 0 := trivial
  have a1 : st_all (fun j => (Cond.eq (.elem st_on (.int (Int32.ofNat j))) (.int (st_one j))).before args s = true) 1 := ⟨a0, st_o0 h⟩
  have a2 : st_all (fun j => (Cond.eq (.elem st_on (.int (Int32.ofNat j))) (.int (st_one j))).before args s = true) 2 := ⟨a1, st_o1 h⟩
  have a3 : st_all (fun j => (Cond.eq (.elem st_on (.int (Int32.ofNat j))) (.int (st_one j))).before args s = true) 3 := ⟨a2, st_o2 h⟩
  have a4 : st_all (fun j => (Cond.eq (.elem st_on (.int (Int32.ofNat j))) (.int (st_one j))).before args s = true) 4 := ⟨a3, st_o3 h⟩
  have a5 : st_all (fun j => (Cond.eq (.elem st_on (.int (Int32.ofNat j))) (.int (st_one j))).before args s = true) 5 := ⟨a4, st_o4 h⟩
  have a6 : st_all (fun j => (Cond.eq (.elem st_on (.int (Int32.ofNat j))) (.int (st_one j))).before args s = true) 6 := ⟨a5, st_o5 h⟩
  have a7 : st_all (fun j => (Cond.eq (.elem st_on (.int (Int32.ofNat j))) (.int (st_one j))).before args s = true) 7 := ⟨a6, st_o6 h⟩
  have a8 : st_all (fun j => (Cond.eq (.elem st_on (.int (Int32.ofNat j))) (.int (st_one j))).before args s = true) 8 := ⟨a7, st_o7 h⟩
  have a9 : st_all (fun j => (Cond.eq (.elem st_on (.int (Int32.ofNat j))) (.int (st_one j))).before args s = true) 9 := ⟨a8, st_o8 h⟩
  have a10 : st_all (fun j => (Cond.eq (.elem st_on (.int (Int32.ofNat j))) (.int (st_one j))).before args s = true) 10 := ⟨a9, st_o9 h⟩
  have a11 : st_all (fun j => (Cond.eq (.elem st_on (.int (Int32.ofNat j))) (.int (st_one j))).before args s = true) 11 := ⟨a10, st_o10 h⟩
  have a12 : st_all (fun j => (Cond.eq (.elem st_on (.int (Int32.ofNat j))) (.int (st_one j))).before args s = true) 12 := ⟨a11, st_o11 h⟩
  have a13 : st_all (fun j => (Cond.eq (.elem st_on (.int (Int32.ofNat j))) (.int (st_one j))).before args s = true) 13 := ⟨a12, st_o12 h⟩
  have a14 : st_all (fun j => (Cond.eq (.elem st_on (.int (Int32.ofNat j))) (.int (st_one j))).before args s = true) 14 := ⟨a13, st_o13 h⟩
  have a15 : st_all (fun j => (Cond.eq (.elem st_on (.int (Int32.ofNat j))) (.int (st_one j))).before args s = true) 15 := ⟨a14, st_o14 h⟩
  have a16 : st_all (fun j => (Cond.eq (.elem st_on (.int (Int32.ofNat j))) (.int (st_one j))).before args s = true) 16 := ⟨a15, st_o15 h⟩
  have a17 : st_all (fun j => (Cond.eq (.elem st_on (.int (Int32.ofNat j))) (.int (st_one j))).before args s = true) 17 := ⟨a16, st_o16 h⟩
  have a18 : st_all (fun j => (Cond.eq (.elem st_on (.int (Int32.ofNat j))) (.int (st_one j))).before args s = true) 18 := ⟨a17, st_o17 h⟩
  have a19 : st_all (fun j => (Cond.eq (.elem st_on (.int (Int32.ofNat j))) (.int (st_one j))).before args s = true) 19 := ⟨a18, st_o18 h⟩
  have a20 : st_all (fun j => (Cond.eq (.elem st_on (.int (Int32.ofNat j))) (.int (st_one j))).before args s = true) 20 := ⟨a19, st_o19 h⟩
  have a21 : st_all (fun j => (Cond.eq (.elem st_on (.int (Int32.ofNat j))) (.int (st_one j))).before args s = true) 21 := ⟨a20, st_o20 h⟩
  have a22 : st_all (fun j => (Cond.eq (.elem st_on (.int (Int32.ofNat j))) (.int (st_one j))).before args s = true) 22 := ⟨a21, st_o21 h⟩
  have a23 : st_all (fun j => (Cond.eq (.elem st_on (.int (Int32.ofNat j))) (.int (st_one j))).before args s = true) 23 := ⟨a22, st_o22 h⟩
  have a24 : st_all (fun j => (Cond.eq (.elem st_on (.int (Int32.ofNat j))) (.int (st_one j))).before args s = true) 24 := ⟨a23, st_o23 h⟩
  have a25 : st_all (fun j => (Cond.eq (.elem st_on (.int (Int32.ofNat j))) (.int (st_one j))).before args s = true) 25 := ⟨a24, st_o24 h⟩
  have a26 : st_all (fun j => (Cond.eq (.elem st_on (.int (Int32.ofNat j))) (.int (st_one j))).before args s = true) 26 := ⟨a25, st_o25 h⟩
  have a27 : st_all (fun j => (Cond.eq (.elem st_on (.int (Int32.ofNat j))) (.int (st_one j))).before args s = true) 27 := ⟨a26, st_o26 h⟩
  have a28 : st_all (fun j => (Cond.eq (.elem st_on (.int (Int32.ofNat j))) (.int (st_one j))).before args s = true) 28 := ⟨a27, st_o27 h⟩
  have a29 : st_all (fun j => (Cond.eq (.elem st_on (.int (Int32.ofNat j))) (.int (st_one j))).before args s = true) 29 := ⟨a28, st_o28 h⟩
  have a30 : st_all (fun j => (Cond.eq (.elem st_on (.int (Int32.ofNat j))) (.int (st_one j))).before args s = true) 30 := ⟨a29, st_o29 h⟩
  have a31 : st_all (fun j => (Cond.eq (.elem st_on (.int (Int32.ofNat j))) (.int (st_one j))).before args s = true) 31 := ⟨a30, st_o30 h⟩
  have a32 : st_all (fun j => (Cond.eq (.elem st_on (.int (Int32.ofNat j))) (.int (st_one j))).before args s = true) 32 := ⟨a31, st_o31 h⟩
  have a33 : st_all (fun j => (Cond.eq (.elem st_on (.int (Int32.ofNat j))) (.int (st_one j))).before args s = true) 33 := ⟨a32, st_o32 h⟩
  have a34 : st_all (fun j => (Cond.eq (.elem st_on (.int (Int32.ofNat j))) (.int (st_one j))).before args s = true) 34 := ⟨a33, st_o33 h⟩
  have a35 : st_all (fun j => (Cond.eq (.elem st_on (.int (Int32.ofNat j))) (.int (st_one j))).before args s = true) 35 := ⟨a34, st_o34 h⟩
  have a36 : st_all (fun j => (Cond.eq (.elem st_on (.int (Int32.ofNat j))) (.int (st_one j))).before args s = true) 36 := ⟨a35, st_o35 h⟩
  have a37 : st_all (fun j => (Cond.eq (.elem st_on (.int (Int32.ofNat j))) (.int (st_one j))).before args s = true) 37 := ⟨a36, st_o36 h⟩
  have a38 : st_all (fun j => (Cond.eq (.elem st_on (.int (Int32.ofNat j))) (.int (st_one j))).before args s = true) 38 := ⟨a37, st_o37 h⟩
  have a39 : st_all (fun j => (Cond.eq (.elem st_on (.int (Int32.ofNat j))) (.int (st_one j))).before args s = true) 39 := ⟨a38, st_o38 h⟩
  have a40 : st_all (fun j => (Cond.eq (.elem st_on (.int (Int32.ofNat j))) (.int (st_one j))).before args s = true) 40 := ⟨a39, st_o39 h⟩
  have a41 : st_all (fun j => (Cond.eq (.elem st_on (.int (Int32.ofNat j))) (.int (st_one j))).before args s = true) 41 := ⟨a40, st_o40 h⟩
  have a42 : st_all (fun j => (Cond.eq (.elem st_on (.int (Int32.ofNat j))) (.int (st_one j))).before args s = true) 42 := ⟨a41, st_o41 h⟩
  have a43 : st_all (fun j => (Cond.eq (.elem st_on (.int (Int32.ofNat j))) (.int (st_one j))).before args s = true) 43 := ⟨a42, st_o42 h⟩
  have a44 : st_all (fun j => (Cond.eq (.elem st_on (.int (Int32.ofNat j))) (.int (st_one j))).before args s = true) 44 := ⟨a43, st_o43 h⟩
  have a45 : st_all (fun j => (Cond.eq (.elem st_on (.int (Int32.ofNat j))) (.int (st_one j))).before args s = true) 45 := ⟨a44, st_o44 h⟩
  have a46 : st_all (fun j => (Cond.eq (.elem st_on (.int (Int32.ofNat j))) (.int (st_one j))).before args s = true) 46 := ⟨a45, st_o45 h⟩
  have a47 : st_all (fun j => (Cond.eq (.elem st_on (.int (Int32.ofNat j))) (.int (st_one j))).before args s = true) 47 := ⟨a46, st_o46 h⟩
  have a48 : st_all (fun j => (Cond.eq (.elem st_on (.int (Int32.ofNat j))) (.int (st_one j))).before args s = true) 48 := ⟨a47, st_o47 h⟩
  have a49 : st_all (fun j => (Cond.eq (.elem st_on (.int (Int32.ofNat j))) (.int (st_one j))).before args s = true) 49 := ⟨a48, st_o48 h⟩
  have a50 : st_all (fun j => (Cond.eq (.elem st_on (.int (Int32.ofNat j))) (.int (st_one j))).before args s = true) 50 := ⟨a49, st_o49 h⟩
  have a51 : st_all (fun j => (Cond.eq (.elem st_on (.int (Int32.ofNat j))) (.int (st_one j))).before args s = true) 51 := ⟨a50, st_o50 h⟩
  have a52 : st_all (fun j => (Cond.eq (.elem st_on (.int (Int32.ofNat j))) (.int (st_one j))).before args s = true) 52 := ⟨a51, st_o51 h⟩
  have a53 : st_all (fun j => (Cond.eq (.elem st_on (.int (Int32.ofNat j))) (.int (st_one j))).before args s = true) 53 := ⟨a52, st_o52 h⟩
  have a54 : st_all (fun j => (Cond.eq (.elem st_on (.int (Int32.ofNat j))) (.int (st_one j))).before args s = true) 54 := ⟨a53, st_o53 h⟩
  have a55 : st_all (fun j => (Cond.eq (.elem st_on (.int (Int32.ofNat j))) (.int (st_one j))).before args s = true) 55 := ⟨a54, st_o54 h⟩
  have a56 : st_all (fun j => (Cond.eq (.elem st_on (.int (Int32.ofNat j))) (.int (st_one j))).before args s = true) 56 := ⟨a55, st_o55 h⟩
  have a57 : st_all (fun j => (Cond.eq (.elem st_on (.int (Int32.ofNat j))) (.int (st_one j))).before args s = true) 57 := ⟨a56, st_o56 h⟩
  have a58 : st_all (fun j => (Cond.eq (.elem st_on (.int (Int32.ofNat j))) (.int (st_one j))).before args s = true) 58 := ⟨a57, st_o57 h⟩
  have a59 : st_all (fun j => (Cond.eq (.elem st_on (.int (Int32.ofNat j))) (.int (st_one j))).before args s = true) 59 := ⟨a58, st_o58 h⟩
  have a60 : st_all (fun j => (Cond.eq (.elem st_on (.int (Int32.ofNat j))) (.int (st_one j))).before args s = true) 60 := ⟨a59, st_o59 h⟩
  have a61 : st_all (fun j => (Cond.eq (.elem st_on (.int (Int32.ofNat j))) (.int (st_one j))).before args s = true) 61 := ⟨a60, st_o60 h⟩
  have a62 : st_all (fun j => (Cond.eq (.elem st_on (.int (Int32.ofNat j))) (.int (st_one j))).before args s = true) 62 := ⟨a61, st_o61 h⟩
  have a63 : st_all (fun j => (Cond.eq (.elem st_on (.int (Int32.ofNat j))) (.int (st_one j))).before args s = true) 63 := ⟨a62, st_o62 h⟩
  have a64 : st_all (fun j => (Cond.eq (.elem st_on (.int (Int32.ofNat j))) (.int (st_one j))).before args s = true) 64 := ⟨a63, st_o63 h⟩
  have a65 : st_all (fun j => (Cond.eq (.elem st_on (.int (Int32.ofNat j))) (.int (st_one j))).before args s = true) 65 := ⟨a64, st_o64 h⟩
  have a66 : st_all (fun j => (Cond.eq (.elem st_on (.int (Int32.ofNat j))) (.int (st_one j))).before args s = true) 66 := ⟨a65, st_o65 h⟩
  have a67 : st_all (fun j => (Cond.eq (.elem st_on (.int (Int32.ofNat j))) (.int (st_one j))).before args s = true) 67 := ⟨a66, st_o66 h⟩
  have a68 : st_all (fun j => (Cond.eq (.elem st_on (.int (Int32.ofNat j))) (.int (st_one j))).before args s = true) 68 := ⟨a67, st_o67 h⟩
  have a69 : st_all (fun j => (Cond.eq (.elem st_on (.int (Int32.ofNat j))) (.int (st_one j))).before args s = true) 69 := ⟨a68, st_o68 h⟩
  have a70 : st_all (fun j => (Cond.eq (.elem st_on (.int (Int32.ofNat j))) (.int (st_one j))).before args s = true) 70 := ⟨a69, st_o69 h⟩
  have a71 : st_all (fun j => (Cond.eq (.elem st_on (.int (Int32.ofNat j))) (.int (st_one j))).before args s = true) 71 := ⟨a70, st_o70 h⟩
  have a72 : st_all (fun j => (Cond.eq (.elem st_on (.int (Int32.ofNat j))) (.int (st_one j))).before args s = true) 72 := ⟨a71, st_o71 h⟩
  have a73 : st_all (fun j => (Cond.eq (.elem st_on (.int (Int32.ofNat j))) (.int (st_one j))).before args s = true) 73 := ⟨a72, st_o72 h⟩
  have a74 : st_all (fun j => (Cond.eq (.elem st_on (.int (Int32.ofNat j))) (.int (st_one j))).before args s = true) 74 := ⟨a73, st_o73 h⟩
  have a75 : st_all (fun j => (Cond.eq (.elem st_on (.int (Int32.ofNat j))) (.int (st_one j))).before args s = true) 75 := ⟨a74, st_o74 h⟩
  have a76 : st_all (fun j => (Cond.eq (.elem st_on (.int (Int32.ofNat j))) (.int (st_one j))).before args s = true) 76 := ⟨a75, st_o75 h⟩
  have a77 : st_all (fun j => (Cond.eq (.elem st_on (.int (Int32.ofNat j))) (.int (st_one j))).before args s = true) 77 := ⟨a76, st_o76 h⟩
  have a78 : st_all (fun j => (Cond.eq (.elem st_on (.int (Int32.ofNat j))) (.int (st_one j))).before args s = true) 78 := ⟨a77, st_o77 h⟩
  have a79 : st_all (fun j => (Cond.eq (.elem st_on (.int (Int32.ofNat j))) (.int (st_one j))).before args s = true) 79 := ⟨a78, st_o78 h⟩
  have a80 : st_all (fun j => (Cond.eq (.elem st_on (.int (Int32.ofNat j))) (.int (st_one j))).before args s = true) 80 := ⟨a79, st_o79 h⟩
  have a81 : st_all (fun j => (Cond.eq (.elem st_on (.int (Int32.ofNat j))) (.int (st_one j))).before args s = true) 81 := ⟨a80, st_o80 h⟩
  have a82 : st_all (fun j => (Cond.eq (.elem st_on (.int (Int32.ofNat j))) (.int (st_one j))).before args s = true) 82 := ⟨a81, st_o81 h⟩
  have a83 : st_all (fun j => (Cond.eq (.elem st_on (.int (Int32.ofNat j))) (.int (st_one j))).before args s = true) 83 := ⟨a82, st_o82 h⟩
  have a84 : st_all (fun j => (Cond.eq (.elem st_on (.int (Int32.ofNat j))) (.int (st_one j))).before args s = true) 84 := ⟨a83, st_o83 h⟩
  have a85 : st_all (fun j => (Cond.eq (.elem st_on (.int (Int32.ofNat j))) (.int (st_one j))).before args s = true) 85 := ⟨a84, st_o84 h⟩
  have a86 : st_all (fun j => (Cond.eq (.elem st_on (.int (Int32.ofNat j))) (.int (st_one j))).before args s = true) 86 := ⟨a85, st_o85 h⟩
  have a87 : st_all (fun j => (Cond.eq (.elem st_on (.int (Int32.ofNat j))) (.int (st_one j))).before args s = true) 87 := ⟨a86, st_o86 h⟩
  have a88 : st_all (fun j => (Cond.eq (.elem st_on (.int (Int32.ofNat j))) (.int (st_one j))).before args s = true) 88 := ⟨a87, st_o87 h⟩
  have a89 : st_all (fun j => (Cond.eq (.elem st_on (.int (Int32.ofNat j))) (.int (st_one j))).before args s = true) 89 := ⟨a88, st_o88 h⟩
  have a90 : st_all (fun j => (Cond.eq (.elem st_on (.int (Int32.ofNat j))) (.int (st_one j))).before args s = true) 90 := ⟨a89, st_o89 h⟩
  have a91 : st_all (fun j => (Cond.eq (.elem st_on (.int (Int32.ofNat j))) (.int (st_one j))).before args s = true) 91 := ⟨a90, st_o90 h⟩
  have a92 : st_all (fun j => (Cond.eq (.elem st_on (.int (Int32.ofNat j))) (.int (st_one j))).before args s = true) 92 := ⟨a91, st_o91 h⟩
  have a93 : st_all (fun j => (Cond.eq (.elem st_on (.int (Int32.ofNat j))) (.int (st_one j))).before args s = true) 93 := ⟨a92, st_o92 h⟩
  have a94 : st_all (fun j => (Cond.eq (.elem st_on (.int (Int32.ofNat j))) (.int (st_one j))).before args s = true) 94 := ⟨a93, st_o93 h⟩
  have a95 : st_all (fun j => (Cond.eq (.elem st_on (.int (Int32.ofNat j))) (.int (st_one j))).before args s = true) 95 := ⟨a94, st_o94 h⟩
  have a96 : st_all (fun j => (Cond.eq (.elem st_on (.int (Int32.ofNat j))) (.int (st_one j))).before args s = true) 96 := ⟨a95, st_o95 h⟩
  have a97 : st_all (fun j => (Cond.eq (.elem st_on (.int (Int32.ofNat j))) (.int (st_one j))).before args s = true) 97 := ⟨a96, st_o96 h⟩
  have a98 : st_all (fun j => (Cond.eq (.elem st_on (.int (Int32.ofNat j))) (.int (st_one j))).before args s = true) 98 := ⟨a97, st_o97 h⟩
  have a99 : st_all (fun j => (Cond.eq (.elem st_on (.int (Int32.ofNat j))) (.int (st_one j))).before args s = true) 99 := ⟨a98, st_o98 h⟩
  have a100 : st_all (fun j => (Cond.eq (.elem st_on (.int (Int32.ofNat j))) (.int (st_one j))).before args s = true) 100 := ⟨a99, st_o99 h⟩
  exact st_allS a100
theorem st_dt (h : st_g.before args s = true) : ∀ j : Nat, j < 100 → (Cond.eq (.elem st_te (.int (Int32.ofNat j))) (.int (st_ten j))).before args s = true := by
  have a0 : st_all (fun j => (Cond.eq (.elem st_te (.int (Int32.ofNat j))) (.int (st_ten j))).before args s = true) 0 := trivial
  have a1 : st_all (fun j => (Cond.eq (.elem st_te (.int (Int32.ofNat j))) (.int (st_ten j))).before args s = true) 1 := ⟨a0, st_t0 h⟩
  have a2 : st_all (fun j => (Cond.eq (.elem st_te (.int (Int32.ofNat j))) (.int (st_ten j))).before args s = true) 2 := ⟨a1, st_t1 h⟩
  have a3 : st_all (fun j => (Cond.eq (.elem st_te (.int (Int32.ofNat j))) (.int (st_ten j))).before args s = true) 3 := ⟨a2, st_t2 h⟩
  have a4 : st_all (fun j => (Cond.eq (.elem st_te (.int (Int32.ofNat j))) (.int (st_ten j))).before args s = true) 4 := ⟨a3, st_t3 h⟩
  have a5 : st_all (fun j => (Cond.eq (.elem st_te (.int (Int32.ofNat j))) (.int (st_ten j))).before args s = true) 5 := ⟨a4, st_t4 h⟩
  have a6 : st_all (fun j => (Cond.eq (.elem st_te (.int (Int32.ofNat j))) (.int (st_ten j))).before args s = true) 6 := ⟨a5, st_t5 h⟩
  have a7 : st_all (fun j => (Cond.eq (.elem st_te (.int (Int32.ofNat j))) (.int (st_ten j))).before args s = true) 7 := ⟨a6, st_t6 h⟩
  have a8 : st_all (fun j => (Cond.eq (.elem st_te (.int (Int32.ofNat j))) (.int (st_ten j))).before args s = true) 8 := ⟨a7, st_t7 h⟩
  have a9 : st_all (fun j => (Cond.eq (.elem st_te (.int (Int32.ofNat j))) (.int (st_ten j))).before args s = true) 9 := ⟨a8, st_t8 h⟩
  have a10 : st_all (fun j => (Cond.eq (.elem st_te (.int (Int32.ofNat j))) (.int (st_ten j))).before args s = true) 10 := ⟨a9, st_t9 h⟩
  have a11 : st_all (fun j => (Cond.eq (.elem st_te (.int (Int32.ofNat j))) (.int (st_ten j))).before args s = true) 11 := ⟨a10, st_t10 h⟩
  have a12 : st_all (fun j => (Cond.eq (.elem st_te (.int (Int32.ofNat j))) (.int (st_ten j))).before args s = true) 12 := ⟨a11, st_t11 h⟩
  have a13 : st_all (fun j => (Cond.eq (.elem st_te (.int (Int32.ofNat j))) (.int (st_ten j))).before args s = true) 13 := ⟨a12, st_t12 h⟩
  have a14 : st_all (fun j => (Cond.eq (.elem st_te (.int (Int32.ofNat j))) (.int (st_ten j))).before args s = true) 14 := ⟨a13, st_t13 h⟩
  have a15 : st_all (fun j => (Cond.eq (.elem st_te (.int (Int32.ofNat j))) (.int (st_ten j))).before args s = true) 15 := ⟨a14, st_t14 h⟩
  have a16 : st_all (fun j => (Cond.eq (.elem st_te (.int (Int32.ofNat j))) (.int (st_ten j))).before args s = true) 16 := ⟨a15, st_t15 h⟩
  have a17 : st_all (fun j => (Cond.eq (.elem st_te (.int (Int32.ofNat j))) (.int (st_ten j))).before args s = true) 17 := ⟨a16, st_t16 h⟩
  have a18 : st_all (fun j => (Cond.eq (.elem st_te (.int (Int32.ofNat j))) (.int (st_ten j))).before args s = true) 18 := ⟨a17, st_t17 h⟩
  have a19 : st_all (fun j => (Cond.eq (.elem st_te (.int (Int32.ofNat j))) (.int (st_ten j))).before args s = true) 19 := ⟨a18, st_t18 h⟩
  have a20 : st_all (fun j => (Cond.eq (.elem st_te (.int (Int32.ofNat j))) (.int (st_ten j))).before args s = true) 20 := ⟨a19, st_t19 h⟩
  have a21 : st_all (fun j => (Cond.eq (.elem st_te (.int (Int32.ofNat j))) (.int (st_ten j))).before args s = true) 21 := ⟨a20, st_t20 h⟩
  have a22 : st_all (fun j => (Cond.eq (.elem st_te (.int (Int32.ofNat j))) (.int (st_ten j))).before args s = true) 22 := ⟨a21, st_t21 h⟩
  have a23 : st_all (fun j => (Cond.eq (.elem st_te (.int (Int32.ofNat j))) (.int (st_ten j))).before args s = true) 23 := ⟨a22, st_t22 h⟩
  have a24 : st_all (fun j => (Cond.eq (.elem st_te (.int (Int32.ofNat j))) (.int (st_ten j))).before args s = true) 24 := ⟨a23, st_t23 h⟩
  have a25 : st_all (fun j => (Cond.eq (.elem st_te (.int (Int32.ofNat j))) (.int (st_ten j))).before args s = true) 25 := ⟨a24, st_t24 h⟩
  have a26 : st_all (fun j => (Cond.eq (.elem st_te (.int (Int32.ofNat j))) (.int (st_ten j))).before args s = true) 26 := ⟨a25, st_t25 h⟩
  have a27 : st_all (fun j => (Cond.eq (.elem st_te (.int (Int32.ofNat j))) (.int (st_ten j))).before args s = true) 27 := ⟨a26, st_t26 h⟩
  have a28 : st_all (fun j => (Cond.eq (.elem st_te (.int (Int32.ofNat j))) (.int (st_ten j))).before args s = true) 28 := ⟨a27, st_t27 h⟩
  have a29 : st_all (fun j => (Cond.eq (.elem st_te (.int (Int32.ofNat j))) (.int (st_ten j))).before args s = true) 29 := ⟨a28, st_t28 h⟩
  have a30 : st_all (fun j => (Cond.eq (.elem st_te (.int (Int32.ofNat j))) (.int (st_ten j))).before args s = true) 30 := ⟨a29, st_t29 h⟩
  have a31 : st_all (fun j => (Cond.eq (.elem st_te (.int (Int32.ofNat j))) (.int (st_ten j))).before args s = true) 31 := ⟨a30, st_t30 h⟩
  have a32 : st_all (fun j => (Cond.eq (.elem st_te (.int (Int32.ofNat j))) (.int (st_ten j))).before args s = true) 32 := ⟨a31, st_t31 h⟩
  have a33 : st_all (fun j => (Cond.eq (.elem st_te (.int (Int32.ofNat j))) (.int (st_ten j))).before args s = true) 33 := ⟨a32, st_t32 h⟩
  have a34 : st_all (fun j => (Cond.eq (.elem st_te (.int (Int32.ofNat j))) (.int (st_ten j))).before args s = true) 34 := ⟨a33, st_t33 h⟩
  have a35 : st_all (fun j => (Cond.eq (.elem st_te (.int (Int32.ofNat j))) (.int (st_ten j))).before args s = true) 35 := ⟨a34, st_t34 h⟩
  have a36 : st_all (fun j => (Cond.eq (.elem st_te (.int (Int32.ofNat j))) (.int (st_ten j))).before args s = true) 36 := ⟨a35, st_t35 h⟩
  have a37 : st_all (fun j => (Cond.eq (.elem st_te (.int (Int32.ofNat j))) (.int (st_ten j))).before args s = true) 37 := ⟨a36, st_t36 h⟩
  have a38 : st_all (fun j => (Cond.eq (.elem st_te (.int (Int32.ofNat j))) (.int (st_ten j))).before args s = true) 38 := ⟨a37, st_t37 h⟩
  have a39 : st_all (fun j => (Cond.eq (.elem st_te (.int (Int32.ofNat j))) (.int (st_ten j))).before args s = true) 39 := ⟨a38, st_t38 h⟩
  have a40 : st_all (fun j => (Cond.eq (.elem st_te (.int (Int32.ofNat j))) (.int (st_ten j))).before args s = true) 40 := ⟨a39, st_t39 h⟩
  have a41 : st_all (fun j => (Cond.eq (.elem st_te (.int (Int32.ofNat j))) (.int (st_ten j))).before args s = true) 41 := ⟨a40, st_t40 h⟩
  have a42 : st_all (fun j => (Cond.eq (.elem st_te (.int (Int32.ofNat j))) (.int (st_ten j))).before args s = true) 42 := ⟨a41, st_t41 h⟩
  have a43 : st_all (fun j => (Cond.eq (.elem st_te (.int (Int32.ofNat j))) (.int (st_ten j))).before args s = true) 43 := ⟨a42, st_t42 h⟩
  have a44 : st_all (fun j => (Cond.eq (.elem st_te (.int (Int32.ofNat j))) (.int (st_ten j))).before args s = true) 44 := ⟨a43, st_t43 h⟩
  have a45 : st_all (fun j => (Cond.eq (.elem st_te (.int (Int32.ofNat j))) (.int (st_ten j))).before args s = true) 45 := ⟨a44, st_t44 h⟩
  have a46 : st_all (fun j => (Cond.eq (.elem st_te (.int (Int32.ofNat j))) (.int (st_ten j))).before args s = true) 46 := ⟨a45, st_t45 h⟩
  have a47 : st_all (fun j => (Cond.eq (.elem st_te (.int (Int32.ofNat j))) (.int (st_ten j))).before args s = true) 47 := ⟨a46, st_t46 h⟩
  have a48 : st_all (fun j => (Cond.eq (.elem st_te (.int (Int32.ofNat j))) (.int (st_ten j))).before args s = true) 48 := ⟨a47, st_t47 h⟩
  have a49 : st_all (fun j => (Cond.eq (.elem st_te (.int (Int32.ofNat j))) (.int (st_ten j))).before args s = true) 49 := ⟨a48, st_t48 h⟩
  have a50 : st_all (fun j => (Cond.eq (.elem st_te (.int (Int32.ofNat j))) (.int (st_ten j))).before args s = true) 50 := ⟨a49, st_t49 h⟩
  have a51 : st_all (fun j => (Cond.eq (.elem st_te (.int (Int32.ofNat j))) (.int (st_ten j))).before args s = true) 51 := ⟨a50, st_t50 h⟩
  have a52 : st_all (fun j => (Cond.eq (.elem st_te (.int (Int32.ofNat j))) (.int (st_ten j))).before args s = true) 52 := ⟨a51, st_t51 h⟩
  have a53 : st_all (fun j => (Cond.eq (.elem st_te (.int (Int32.ofNat j))) (.int (st_ten j))).before args s = true) 53 := ⟨a52, st_t52 h⟩
  have a54 : st_all (fun j => (Cond.eq (.elem st_te (.int (Int32.ofNat j))) (.int (st_ten j))).before args s = true) 54 := ⟨a53, st_t53 h⟩
  have a55 : st_all (fun j => (Cond.eq (.elem st_te (.int (Int32.ofNat j))) (.int (st_ten j))).before args s = true) 55 := ⟨a54, st_t54 h⟩
  have a56 : st_all (fun j => (Cond.eq (.elem st_te (.int (Int32.ofNat j))) (.int (st_ten j))).before args s = true) 56 := ⟨a55, st_t55 h⟩
  have a57 : st_all (fun j => (Cond.eq (.elem st_te (.int (Int32.ofNat j))) (.int (st_ten j))).before args s = true) 57 := ⟨a56, st_t56 h⟩
  have a58 : st_all (fun j => (Cond.eq (.elem st_te (.int (Int32.ofNat j))) (.int (st_ten j))).before args s = true) 58 := ⟨a57, st_t57 h⟩
  have a59 : st_all (fun j => (Cond.eq (.elem st_te (.int (Int32.ofNat j))) (.int (st_ten j))).before args s = true) 59 := ⟨a58, st_t58 h⟩
  have a60 : st_all (fun j => (Cond.eq (.elem st_te (.int (Int32.ofNat j))) (.int (st_ten j))).before args s = true) 60 := ⟨a59, st_t59 h⟩
  have a61 : st_all (fun j => (Cond.eq (.elem st_te (.int (Int32.ofNat j))) (.int (st_ten j))).before args s = true) 61 := ⟨a60, st_t60 h⟩
  have a62 : st_all (fun j => (Cond.eq (.elem st_te (.int (Int32.ofNat j))) (.int (st_ten j))).before args s = true) 62 := ⟨a61, st_t61 h⟩
  have a63 : st_all (fun j => (Cond.eq (.elem st_te (.int (Int32.ofNat j))) (.int (st_ten j))).before args s = true) 63 := ⟨a62, st_t62 h⟩
  have a64 : st_all (fun j => (Cond.eq (.elem st_te (.int (Int32.ofNat j))) (.int (st_ten j))).before args s = true) 64 := ⟨a63, st_t63 h⟩
  have a65 : st_all (fun j => (Cond.eq (.elem st_te (.int (Int32.ofNat j))) (.int (st_ten j))).before args s = true) 65 := ⟨a64, st_t64 h⟩
  have a66 : st_all (fun j => (Cond.eq (.elem st_te (.int (Int32.ofNat j))) (.int (st_ten j))).before args s = true) 66 := ⟨a65, st_t65 h⟩
  have a67 : st_all (fun j => (Cond.eq (.elem st_te (.int (Int32.ofNat j))) (.int (st_ten j))).before args s = true) 67 := ⟨a66, st_t66 h⟩
  have a68 : st_all (fun j => (Cond.eq (.elem st_te (.int (Int32.ofNat j))) (.int (st_ten j))).before args s = true) 68 := ⟨a67, st_t67 h⟩
  have a69 : st_all (fun j => (Cond.eq (.elem st_te (.int (Int32.ofNat j))) (.int (st_ten j))).before args s = true) 69 := ⟨a68, st_t68 h⟩
  have a70 : st_all (fun j => (Cond.eq (.elem st_te (.int (Int32.ofNat j))) (.int (st_ten j))).before args s = true) 70 := ⟨a69, st_t69 h⟩
  have a71 : st_all (fun j => (Cond.eq (.elem st_te (.int (Int32.ofNat j))) (.int (st_ten j))).before args s = true) 71 := ⟨a70, st_t70 h⟩
  have a72 : st_all (fun j => (Cond.eq (.elem st_te (.int (Int32.ofNat j))) (.int (st_ten j))).before args s = true) 72 := ⟨a71, st_t71 h⟩
  have a73 : st_all (fun j => (Cond.eq (.elem st_te (.int (Int32.ofNat j))) (.int (st_ten j))).before args s = true) 73 := ⟨a72, st_t72 h⟩
  have a74 : st_all (fun j => (Cond.eq (.elem st_te (.int (Int32.ofNat j))) (.int (st_ten j))).before args s = true) 74 := ⟨a73, st_t73 h⟩
  have a75 : st_all (fun j => (Cond.eq (.elem st_te (.int (Int32.ofNat j))) (.int (st_ten j))).before args s = true) 75 := ⟨a74, st_t74 h⟩
  have a76 : st_all (fun j => (Cond.eq (.elem st_te (.int (Int32.ofNat j))) (.int (st_ten j))).before args s = true) 76 := ⟨a75, st_t75 h⟩
  have a77 : st_all (fun j => (Cond.eq (.elem st_te (.int (Int32.ofNat j))) (.int (st_ten j))).before args s = true) 77 := ⟨a76, st_t76 h⟩
  have a78 : st_all (fun j => (Cond.eq (.elem st_te (.int (Int32.ofNat j))) (.int (st_ten j))).before args s = true) 78 := ⟨a77, st_t77 h⟩
  have a79 : st_all (fun j => (Cond.eq (.elem st_te (.int (Int32.ofNat j))) (.int (st_ten j))).before args s = true) 79 := ⟨a78, st_t78 h⟩
  have a80 : st_all (fun j => (Cond.eq (.elem st_te (.int (Int32.ofNat j))) (.int (st_ten j))).before args s = true) 80 := ⟨a79, st_t79 h⟩
  have a81 : st_all (fun j => (Cond.eq (.elem st_te (.int (Int32.ofNat j))) (.int (st_ten j))).before args s = true) 81 := ⟨a80, st_t80 h⟩
  have a82 : st_all (fun j => (Cond.eq (.elem st_te (.int (Int32.ofNat j))) (.int (st_ten j))).before args s = true) 82 := ⟨a81, st_t81 h⟩
  have a83 : st_all (fun j => (Cond.eq (.elem st_te (.int (Int32.ofNat j))) (.int (st_ten j))).before args s = true) 83 := ⟨a82, st_t82 h⟩
  have a84 : st_all (fun j => (Cond.eq (.elem st_te (.int (Int32.ofNat j))) (.int (st_ten j))).before args s = true) 84 := ⟨a83, st_t83 h⟩
  have a85 : st_all (fun j => (Cond.eq (.elem st_te (.int (Int32.ofNat j))) (.int (st_ten j))).before args s = true) 85 := ⟨a84, st_t84 h⟩
  have a86 : st_all (fun j => (Cond.eq (.elem st_te (.int (Int32.ofNat j))) (.int (st_ten j))).before args s = true) 86 := ⟨a85, st_t85 h⟩
  have a87 : st_all (fun j => (Cond.eq (.elem st_te (.int (Int32.ofNat j))) (.int (st_ten j))).before args s = true) 87 := ⟨a86, st_t86 h⟩
  have a88 : st_all (fun j => (Cond.eq (.elem st_te (.int (Int32.ofNat j))) (.int (st_ten j))).before args s = true) 88 := ⟨a87, st_t87 h⟩
  have a89 : st_all (fun j => (Cond.eq (.elem st_te (.int (Int32.ofNat j))) (.int (st_ten j))).before args s = true) 89 := ⟨a88, st_t88 h⟩
  have a90 : st_all (fun j => (Cond.eq (.elem st_te (.int (Int32.ofNat j))) (.int (st_ten j))).before args s = true) 90 := ⟨a89, st_t89 h⟩
  have a91 : st_all (fun j => (Cond.eq (.elem st_te (.int (Int32.ofNat j))) (.int (st_ten j))).before args s = true) 91 := ⟨a90, st_t90 h⟩
  have a92 : st_all (fun j => (Cond.eq (.elem st_te (.int (Int32.ofNat j))) (.int (st_ten j))).before args s = true) 92 := ⟨a91, st_t91 h⟩
  have a93 : st_all (fun j => (Cond.eq (.elem st_te (.int (Int32.ofNat j))) (.int (st_ten j))).before args s = true) 93 := ⟨a92, st_t92 h⟩
  have a94 : st_all (fun j => (Cond.eq (.elem st_te (.int (Int32.ofNat j))) (.int (st_ten j))).before args s = true) 94 := ⟨a93, st_t93 h⟩
  have a95 : st_all (fun j => (Cond.eq (.elem st_te (.int (Int32.ofNat j))) (.int (st_ten j))).before args s = true) 95 := ⟨a94, st_t94 h⟩
  have a96 : st_all (fun j => (Cond.eq (.elem st_te (.int (Int32.ofNat j))) (.int (st_ten j))).before args s = true) 96 := ⟨a95, st_t95 h⟩
  have a97 : st_all (fun j => (Cond.eq (.elem st_te (.int (Int32.ofNat j))) (.int (st_ten j))).before args s = true) 97 := ⟨a96, st_t96 h⟩
  have a98 : st_all (fun j => (Cond.eq (.elem st_te (.int (Int32.ofNat j))) (.int (st_ten j))).before args s = true) 98 := ⟨a97, st_t97 h⟩
  have a99 : st_all (fun j => (Cond.eq (.elem st_te (.int (Int32.ofNat j))) (.int (st_ten j))).before args s = true) 99 := ⟨a98, st_t98 h⟩
  have a100 : st_all (fun j => (Cond.eq (.elem st_te (.int (Int32.ofNat j))) (.int (st_ten j))).before args s = true) 100 := ⟨a99, st_t99 h⟩
  exact st_allS a100
theorem st_nc (h : st_g.before args s = true) : ∀ q ∈ tw_nc, va_Nc q.1 q.2 s := by
  intro q hq
  simp only [tw_nc, List.mem_cons, List.not_mem_nil, or_false] at hq
  rcases hq with rfl | rfl | rfl | rfl | rfl | rfl | rfl | rfl | rfl | rfl | rfl | rfl | rfl | rfl | rfl | rfl | rfl | rfl | rfl | rfl | rfl | rfl | rfl | rfl | rfl | rfl | rfl | rfl | rfl | rfl | rfl | rfl | rfl | rfl | rfl | rfl | rfl | rfl | rfl | rfl | rfl | rfl | rfl | rfl | rfl | rfl | rfl | rfl | rfl | rfl | rfl | rfl | rfl | rfl | rfl | rfl | rfl | rfl | rfl | rfl | rfl | rfl | rfl | rfl | rfl | rfl | rfl | rfl | rfl | rfl | rfl | rfl | rfl | rfl | rfl | rfl | rfl | rfl | rfl | rfl | rfl | rfl | rfl | rfl | rfl | rfl | rfl | rfl | rfl | rfl | rfl | rfl | rfl | rfl | rfl | rfl | rfl | rfl | rfl | rfl | rfl | rfl | rfl | rfl | rfl | rfl | rfl | rfl | rfl | rfl
  · exact va_Nc.of (st_n0 h)
  · exact va_Nc.of (st_n1 h)
  · exact va_Nc.of (st_n2 h)
  · exact va_Nc.of (st_n3 h)
  · exact va_Nc.of (st_n4 h)
  · exact va_Nc.of (st_n5 h)
  · exact va_Nc.of (st_n6 h)
  · exact va_Nc.of (st_n7 h)
  · exact va_Nc.of (st_n8 h)
  · exact va_Nc.of (st_n9 h)
  · exact va_Nc.of (st_n10 h)
  · exact va_Nc.of (st_n11 h)
  · exact va_Nc.of (st_n12 h)
  · exact va_Nc.of (st_n13 h)
  · exact va_Nc.of (st_n14 h)
  · exact va_Nc.of (st_n15 h)
  · exact va_Nc.of (st_n16 h)
  · exact va_Nc.of (st_n17 h)
  · exact va_Nc.of (st_n18 h)
  · exact va_Nc.of (st_n19 h)
  · exact va_Nc.of (st_n20 h)
  · exact va_Nc.of (st_n21 h)
  · exact va_Nc.of (st_n22 h)
  · exact va_Nc.of (st_n23 h)
  · exact va_Nc.of (st_n24 h)
  · exact va_Nc.of (st_n25 h)
  · exact va_Nc.of (st_n26 h)
  · exact va_Nc.of (st_n27 h)
  · exact va_Nc.of (st_n28 h)
  · exact va_Nc.of (st_n29 h)
  · exact va_Nc.of (st_n30 h)
  · exact va_Nc.of (st_n31 h)
  · exact va_Nc.of (st_n32 h)
  · exact va_Nc.of (st_n33 h)
  · exact va_Nc.of (st_n34 h)
  · exact va_Nc.of (st_n35 h)
  · exact va_Nc.of (st_n36 h)
  · exact va_Nc.of (st_n37 h)
  · exact va_Nc.of (st_n38 h)
  · exact va_Nc.of (st_n39 h)
  · exact va_Nc.of (st_n40 h)
  · exact va_Nc.of (st_n41 h)
  · exact va_Nc.of (st_n42 h)
  · exact va_Nc.of (st_n43 h)
  · exact va_Nc.of (st_n44 h)
  · exact va_Nc.of (st_n45 h)
  · exact va_Nc.of (st_n46 h)
  · exact va_Nc.of (st_n47 h)
  · exact va_Nc.of (st_n48 h)
  · exact va_Nc.of (st_n49 h)
  · exact va_Nc.of (st_n50 h)
  · exact va_Nc.of (st_n51 h)
  · exact va_Nc.of (st_n52 h)
  · exact va_Nc.of (st_n53 h)
  · exact va_Nc.of (st_n54 h)
  · exact va_Nc.of (st_n55 h)
  · exact va_Nc.of (st_n56 h)
  · exact va_Nc.of (st_n57 h)
  · exact va_Nc.of (st_n58 h)
  · exact va_Nc.of (st_n59 h)
  · exact va_Nc.of (st_n60 h)
  · exact va_Nc.of (st_n61 h)
  · exact va_Nc.of (st_n62 h)
  · exact va_Nc.of (st_n63 h)
  · exact va_Nc.of (st_n64 h)
  · exact va_Nc.of (st_n65 h)
  · exact va_Nc.of (st_n66 h)
  · exact va_Nc.of (st_n67 h)
  · exact va_Nc.of (st_n68 h)
  · exact va_Nc.of (st_n69 h)
  · exact va_Nc.of (st_n70 h)
  · exact va_Nc.of (st_n71 h)
  · exact va_Nc.of (st_n72 h)
  · exact va_Nc.of (st_n73 h)
  · exact va_Nc.of (st_n74 h)
  · exact va_Nc.of (st_n75 h)
  · exact va_Nc.of (st_n76 h)
  · exact va_Nc.of (st_n77 h)
  · exact va_Nc.of (st_n78 h)
  · exact va_Nc.of (st_n79 h)
  · exact va_Nc.of (st_n80 h)
  · exact va_Nc.of (st_n81 h)
  · exact va_Nc.of (st_n82 h)
  · exact va_Nc.of (st_n83 h)
  · exact va_Nc.of (st_n84 h)
  · exact va_Nc.of (st_n85 h)
  · exact va_Nc.of (st_n86 h)
  · exact va_Nc.of (st_n87 h)
  · exact va_Nc.of (st_n88 h)
  · exact va_Nc.of (st_n89 h)
  · exact va_Nc.of (st_n90 h)
  · exact va_Nc.of (st_n91 h)
  · exact va_Nc.of (st_n92 h)
  · exact va_Nc.of (st_n93 h)
  · exact va_Nc.of (st_n94 h)
  · exact va_Nc.of (st_n95 h)
  · exact va_Nc.of (st_n96 h)
  · exact va_Nc.of (st_n97 h)
  · exact va_Nc.of (st_n98 h)
  · exact va_Nc.of (st_n99 h)
  · exact va_Nc.of (st_n100 h)
  · exact va_Nc.of (st_n101 h)
  · exact va_Nc.of (st_n102 h)
  · exact va_Nc.of (st_n103 h)
  · exact va_Nc.of (st_n104 h)
  · exact va_Nc.of (st_n105 h)
  · exact va_Nc.of (st_n106 h)
  · exact va_Nc.of (st_n107 h)
  · exact va_Nc.of (st_n108 h)
  · exact va_Nc.of (st_n109 h)
end SW
