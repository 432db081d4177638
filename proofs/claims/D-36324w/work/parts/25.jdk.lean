/-! What the JDK's methods do, over the abstract heap -/
set_option maxRecDepth 100000
def isal (w : AW) (v : Value) (n : Nat) (xs : List Value) (cap : Nat) (mc : Int32) : Prop := v = .ref n ∧ w.1 n = some (.inr (.inr (.inl (xs, cap, mc))))
def ncap (cap : Nat) : Nat := if cap = 0 then 10 else cap + cap / 2
/-- room and capacity behind an add -/
def adc (n cap : Nat) : Nat := if n = cap then ncap cap else cap
def adu (n cap : Nat) : Nat := if n = cap then ncap cap + 4 else 0
def B_J2_init (v : Value) (w : AW) (Q : AOut → AW → Prop) : Prop := ∃ n, v = .ref n ∧ w.1 n = some (.inl (20, [.int 0, .null, .int 0])) ∧ Q (.inl none) (upm w.1 n (.inr (.inr (.inl ([], 0, 0)))), w.2)
def B_J2_size (v : Value) (w : AW) (Q : AOut → AW → Prop) : Prop := ∃ n xs cap mc, isal w v n xs cap mc ∧ Q (.inl (some (.int (nI xs.length)))) w
def B_J2_isEmpty (v : Value) (w : AW) (Q : AOut → AW → Prop) : Prop := ∃ n xs cap mc, isal w v n xs cap mc ∧ Q (.inl (some (.int (if xs.length = 0 then 1 else 0)))) w
def B_J2_get (v : Value) (i : Int32) (w : AW) (Q : AOut → AW → Prop) : Prop := ∃ n xs cap mc k x, isal w v n xs cap mc ∧ i = nI k ∧ k < xs.length ∧ xs[k]? = some x ∧ isr x ∧ Q (.inl (some x)) w
def B_J2_add (v x : Value) (w : AW) (Q : AOut → AW → Prop) : Prop := ∃ n xs cap mc, isal w v n xs cap mc ∧ nsp x ∧ adc xs.length cap ≤ 65536 ∧ w.2 + adu xs.length cap ≤ LU ∧ Q (.inl (some (.int 1))) (upm w.1 n (.inr (.inr (.inl (xs ++ [x], adc xs.length cap, mc + 1)))), w.2 + adu xs.length cap)
def B_J2_add_3 (v : Value) (i : Int32) (x : Value) (w : AW) (Q : AOut → AW → Prop) : Prop := ∃ n xs cap mc k, isal w v n xs cap mc ∧ i = nI k ∧ k ≤ xs.length ∧ nsp x ∧ adc xs.length cap ≤ 65536 ∧ w.2 + adu xs.length cap ≤ LU ∧ Q (.inl none) (upm w.1 n (.inr (.inr (.inl (xs.take k ++ x :: xs.drop k, adc xs.length cap, mc + 1)))), w.2 + adu xs.length cap)
def B_J2_remove_2 (v : Value) (i : Int32) (w : AW) (Q : AOut → AW → Prop) : Prop := ∃ n xs cap mc k x, isal w v n xs cap mc ∧ i = nI k ∧ k < xs.length ∧ xs[k]? = some x ∧ isr x ∧ Q (.inl (some x)) (upm w.1 n (.inr (.inr (.inl (xs.eraseIdx k, cap, mc + 1)))), w.2)
/-- the place of the first like one: of names -/
def B_J2_remove (v x : Value) (w : AW) (Q : AOut → AW → Prop) : Prop := ∃ n xs cap mc k, isal w v n xs cap mc ∧ (∀ y ∈ xs, rcv w y 6) ∧ xs[k]? = some x ∧ (∀ j, j < k → xs[j]? ≠ some x) ∧ Q (.inl (some (.int 1))) (upm w.1 n (.inr (.inr (.inl (xs.eraseIdx k, cap, mc + 1)))), w.2)
def B_J2_contains (v x : Value) (w : AW) (Q : AOut → AW → Prop) : Prop := ∃ n xs cap mc, isal w v n xs cap mc ∧ (rcv w x 6 ∧ (∀ y ∈ xs, rcv w y 6) ∨ (∃ z, x = bx z) ∧ ∀ y ∈ xs, ∃ z, y = bx z) ∧ Q (.inl (some (.int (if x ∈ xs then 1 else 0)))) w
def B_J2_iterator (v : Value) (w : AW) (Q : AOut → AW → Prop) : Prop := ∃ n xs cap mc, isal w v n xs cap mc ∧ w.2 + 4 ≤ LU ∧ ∀ b : Nat, (∀ j, b ≤ j → w.1 j = none) → ∃ j, w.1 j = none ∧ Q (.inl (some (.ref j))) (upm w.1 j (.inl (21, [.int 0, .int (-1), .int mc, .ref n])), w.2 + 4)
def isit (w : AW) (v : Value) (j k : Nat) (r mc : Int32) (n : Nat) (xs : List Value) (cap : Nat) : Prop := v = .ref j ∧ w.1 j = some (.inl (21, [.int (nI k), .int r, .int mc, .ref n])) ∧ w.1 n = some (.inr (.inr (.inl (xs, cap, mc))))
def B_J17_hasNext (v : Value) (w : AW) (Q : AOut → AW → Prop) : Prop := ∃ j k r mc n xs cap, isit w v j k r mc n xs cap ∧ k ≤ xs.length ∧ Q (.inl (some (.int (if k = xs.length then 0 else 1)))) w
def B_J17_next (v : Value) (w : AW) (Q : AOut → AW → Prop) : Prop := ∃ j k r mc n xs cap x, isit w v j k r mc n xs cap ∧ xs[k]? = some x ∧ isr x ∧ Q (.inl (some x)) (upm w.1 j (.inl (21, [.int (nI (k + 1)), .int (nI k), .int mc, .ref n])), w.2)
def B_J23_valueOf (x : Int32) (w : AW) (Q : AOut → AW → Prop) : Prop := w.2 + 4 ≤ LU ∧ Q (.inl (some (bx x))) (w.1, w.2 + 4)
def B_J23_intValue (v : Value) (w : AW) (Q : AOut → AW → Prop) : Prop := ∃ x, v = bx x ∧ Q (.inl (some (.int x))) w
def B_J23_compareTo (v u : Value) (w : AW) (Q : AOut → AW → Prop) : Prop := ∃ x y, v = bx x ∧ u = bx y ∧ Q (.inl (some (.int (if x < y then -1 else if x = y then 0 else 1)))) w
def ilf (xs : List Value) : List Value := match xs with
  | [x] => [x, .retAddr 4294967299]
  | ys => ys
def isil (w : AW) (v : Value) (n : Nat) (xs : List Value) : Prop := v = .ref n ∧ w.1 n = some (.inl (22, ilf xs)) ∧ (xs.length = 1 ∨ xs.length = 2) ∧ ∀ x ∈ xs, ∃ z, x = bx z
def B_J28_of (x y : Value) (w : AW) (Q : AOut → AW → Prop) : Prop := (∃ z, x = bx z) ∧ (∃ z, y = bx z) ∧ w.2 + 4 ≤ LU ∧ ∀ b : Nat, (∀ j, b ≤ j → w.1 j = none) → ∃ j, w.1 j = none ∧ Q (.inl (some (.ref j))) (upm w.1 j (.inl (22, [x, y])), w.2 + 4)
def B_J28_of_2 (x : Value) (w : AW) (Q : AOut → AW → Prop) : Prop := (∃ z, x = bx z) ∧ w.2 + 4 ≤ LU ∧ ∀ b : Nat, (∀ j, b ≤ j → w.1 j = none) → ∃ j, w.1 j = none ∧ Q (.inl (some (.ref j))) (upm w.1 j (.inl (22, [x, .retAddr 4294967299])), w.2 + 4)
def B_J31_size (v : Value) (w : AW) (Q : AOut → AW → Prop) : Prop := ∃ n xs, isil w v n xs ∧ Q (.inl (some (.int (nI xs.length)))) w
def B_J31_get (v : Value) (i : Int32) (w : AW) (Q : AOut → AW → Prop) : Prop := ∃ n xs k x, isil w v n xs ∧ i = nI k ∧ xs[k]? = some x ∧ isr x ∧ Q (.inl (some x)) w
def B_J3_fill (v : Value) (x : Int32) (w : AW) (Q : AOut → AW → Prop) : Prop := ∃ n N f, v = .ref n ∧ w.1 n = some (.inr (.inl (N, .inl f))) ∧ N ≤ 65536 ∧ Q (.inl none) (upm w.1 n (.inr (.inl (N, .inl (fun j => if j < N then x else f j)))), w.2)
/-- the two texts: "dla", "bgitf" -/
def txt (k : Nat) : List Int32 := if k = 4294967296 then [100, 108, 97] else [98, 103, 105, 116, 102]
def idxOf (xs : List Int32) (c : Int32) : Int32 := if c ∈ xs then nI (xs.idxOf c) else -1
def B_J14_indexOf (v : Value) (c : Int32) (w : AW) (Q : AOut → AW → Prop) : Prop := ∃ k, (k = 4294967296 ∨ k = 4294967297) ∧ v = .retAddr k ∧ (0 ≤ c ∧ c < 65536) ∧ Q (.inl (some (.int (idxOf (txt k) c)))) w
def P_J2_init : PP := fun avs w Q => ∃ (a0 : Value), avs = [a0] ∧ isr a0 ∧ B_J2_init a0 w Q
theorem hd_J2_init : yJ2_init.cls = RJ2 ∧ yJ2_init.cls ≠ "java/lang/invoke/MethodHandle" ∧ yJ2_init.cls ≠ "java/lang/invoke/VarHandle" ∧ (parseMethodDescriptor yJ2_init.desc).map (fun d => d.parameters.length) = some 0 := by decide +kernel
def P_J2_size : PP := fun avs w Q => ∃ (a0 : Value), avs = [a0] ∧ isr a0 ∧ B_J2_size a0 w Q
theorem hd_J2_size : yJ2_size.cls = RJ2 ∧ yJ2_size.cls ≠ "java/lang/invoke/MethodHandle" ∧ yJ2_size.cls ≠ "java/lang/invoke/VarHandle" ∧ (parseMethodDescriptor yJ2_size.desc).map (fun d => d.parameters.length) = some 0 := by decide +kernel
def P_J2_isEmpty : PP := fun avs w Q => ∃ (a0 : Value), avs = [a0] ∧ isr a0 ∧ B_J2_isEmpty a0 w Q
theorem hd_J2_isEmpty : yJ2_isEmpty.cls = RJ2 ∧ yJ2_isEmpty.cls ≠ "java/lang/invoke/MethodHandle" ∧ yJ2_isEmpty.cls ≠ "java/lang/invoke/VarHandle" ∧ (parseMethodDescriptor yJ2_isEmpty.desc).map (fun d => d.parameters.length) = some 0 := by decide +kernel
def P_J2_get : PP := fun avs w Q => ∃ (a0 : Value) (x1 : Int32), avs = [a0, .int x1] ∧ isr a0 ∧ B_J2_get a0 x1 w Q
theorem hd_J2_get : yJ2_get.cls = RJ2 ∧ yJ2_get.cls ≠ "java/lang/invoke/MethodHandle" ∧ yJ2_get.cls ≠ "java/lang/invoke/VarHandle" ∧ (parseMethodDescriptor yJ2_get.desc).map (fun d => d.parameters.length) = some 1 := by decide +kernel
def P_J2_add : PP := fun avs w Q => ∃ (a0 : Value) (a1 : Value), avs = [a0, a1] ∧ isr a0 ∧ isr a1 ∧ B_J2_add a0 a1 w Q
theorem hd_J2_add : yJ2_add.cls = RJ2 ∧ yJ2_add.cls ≠ "java/lang/invoke/MethodHandle" ∧ yJ2_add.cls ≠ "java/lang/invoke/VarHandle" ∧ (parseMethodDescriptor yJ2_add.desc).map (fun d => d.parameters.length) = some 1 := by decide +kernel
def P_J2_add_3 : PP := fun avs w Q => ∃ (a0 : Value) (x1 : Int32) (a2 : Value), avs = [a0, .int x1, a2] ∧ isr a0 ∧ isr a2 ∧ B_J2_add_3 a0 x1 a2 w Q
theorem hd_J2_add_3 : yJ2_add_3.cls = RJ2 ∧ yJ2_add_3.cls ≠ "java/lang/invoke/MethodHandle" ∧ yJ2_add_3.cls ≠ "java/lang/invoke/VarHandle" ∧ (parseMethodDescriptor yJ2_add_3.desc).map (fun d => d.parameters.length) = some 2 := by decide +kernel
def P_J2_remove_2 : PP := fun avs w Q => ∃ (a0 : Value) (x1 : Int32), avs = [a0, .int x1] ∧ isr a0 ∧ B_J2_remove_2 a0 x1 w Q
theorem hd_J2_remove_2 : yJ2_remove_2.cls = RJ2 ∧ yJ2_remove_2.cls ≠ "java/lang/invoke/MethodHandle" ∧ yJ2_remove_2.cls ≠ "java/lang/invoke/VarHandle" ∧ (parseMethodDescriptor yJ2_remove_2.desc).map (fun d => d.parameters.length) = some 1 := by decide +kernel
def P_J2_remove : PP := fun avs w Q => ∃ (a0 : Value) (a1 : Value), avs = [a0, a1] ∧ isr a0 ∧ isr a1 ∧ B_J2_remove a0 a1 w Q
theorem hd_J2_remove : yJ2_remove.cls = RJ2 ∧ yJ2_remove.cls ≠ "java/lang/invoke/MethodHandle" ∧ yJ2_remove.cls ≠ "java/lang/invoke/VarHandle" ∧ (parseMethodDescriptor yJ2_remove.desc).map (fun d => d.parameters.length) = some 1 := by decide +kernel
def P_J2_contains : PP := fun avs w Q => ∃ (a0 : Value) (a1 : Value), avs = [a0, a1] ∧ isr a0 ∧ isr a1 ∧ B_J2_contains a0 a1 w Q
theorem hd_J2_contains : yJ2_contains.cls = RJ2 ∧ yJ2_contains.cls ≠ "java/lang/invoke/MethodHandle" ∧ yJ2_contains.cls ≠ "java/lang/invoke/VarHandle" ∧ (parseMethodDescriptor yJ2_contains.desc).map (fun d => d.parameters.length) = some 1 := by decide +kernel
def P_J2_iterator : PP := fun avs w Q => ∃ (a0 : Value), avs = [a0] ∧ isr a0 ∧ B_J2_iterator a0 w Q
theorem hd_J2_iterator : yJ2_iterator.cls = RJ2 ∧ yJ2_iterator.cls ≠ "java/lang/invoke/MethodHandle" ∧ yJ2_iterator.cls ≠ "java/lang/invoke/VarHandle" ∧ (parseMethodDescriptor yJ2_iterator.desc).map (fun d => d.parameters.length) = some 0 := by decide +kernel
def P_J17_hasNext : PP := fun avs w Q => ∃ (a0 : Value), avs = [a0] ∧ isr a0 ∧ B_J17_hasNext a0 w Q
theorem hd_J17_hasNext : yJ17_hasNext.cls = RJ17 ∧ yJ17_hasNext.cls ≠ "java/lang/invoke/MethodHandle" ∧ yJ17_hasNext.cls ≠ "java/lang/invoke/VarHandle" ∧ (parseMethodDescriptor yJ17_hasNext.desc).map (fun d => d.parameters.length) = some 0 := by decide +kernel
def P_J17_next : PP := fun avs w Q => ∃ (a0 : Value), avs = [a0] ∧ isr a0 ∧ B_J17_next a0 w Q
theorem hd_J17_next : yJ17_next.cls = RJ17 ∧ yJ17_next.cls ≠ "java/lang/invoke/MethodHandle" ∧ yJ17_next.cls ≠ "java/lang/invoke/VarHandle" ∧ (parseMethodDescriptor yJ17_next.desc).map (fun d => d.parameters.length) = some 0 := by decide +kernel
def P_J23_valueOf : PP := fun avs w Q => ∃ (x0 : Int32), avs = [.int x0] ∧ B_J23_valueOf x0 w Q
theorem hd_J23_valueOf : yJ23_valueOf.cls = RJ23 ∧ yJ23_valueOf.cls ≠ "java/lang/invoke/MethodHandle" ∧ yJ23_valueOf.cls ≠ "java/lang/invoke/VarHandle" ∧ (parseMethodDescriptor yJ23_valueOf.desc).map (fun d => d.parameters.length) = some 1 := by decide +kernel
def P_J23_intValue : PP := fun avs w Q => ∃ (a0 : Value), avs = [a0] ∧ isr a0 ∧ B_J23_intValue a0 w Q
theorem hd_J23_intValue : yJ23_intValue.cls = RJ23 ∧ yJ23_intValue.cls ≠ "java/lang/invoke/MethodHandle" ∧ yJ23_intValue.cls ≠ "java/lang/invoke/VarHandle" ∧ (parseMethodDescriptor yJ23_intValue.desc).map (fun d => d.parameters.length) = some 0 := by decide +kernel
def P_J23_compareTo : PP := fun avs w Q => ∃ (a0 : Value) (a1 : Value), avs = [a0, a1] ∧ isr a0 ∧ isr a1 ∧ B_J23_compareTo a0 a1 w Q
theorem hd_J23_compareTo : yJ23_compareTo.cls = RJ23 ∧ yJ23_compareTo.cls ≠ "java/lang/invoke/MethodHandle" ∧ yJ23_compareTo.cls ≠ "java/lang/invoke/VarHandle" ∧ (parseMethodDescriptor yJ23_compareTo.desc).map (fun d => d.parameters.length) = some 1 := by decide +kernel
def P_J28_of : PP := fun avs w Q => ∃ (a0 : Value) (a1 : Value), avs = [a0, a1] ∧ isr a0 ∧ isr a1 ∧ B_J28_of a0 a1 w Q
theorem hd_J28_of : yJ28_of.cls = RJ28 ∧ yJ28_of.cls ≠ "java/lang/invoke/MethodHandle" ∧ yJ28_of.cls ≠ "java/lang/invoke/VarHandle" ∧ (parseMethodDescriptor yJ28_of.desc).map (fun d => d.parameters.length) = some 2 := by decide +kernel
def P_J28_of_2 : PP := fun avs w Q => ∃ (a0 : Value), avs = [a0] ∧ isr a0 ∧ B_J28_of_2 a0 w Q
theorem hd_J28_of_2 : yJ28_of_2.cls = RJ28 ∧ yJ28_of_2.cls ≠ "java/lang/invoke/MethodHandle" ∧ yJ28_of_2.cls ≠ "java/lang/invoke/VarHandle" ∧ (parseMethodDescriptor yJ28_of_2.desc).map (fun d => d.parameters.length) = some 1 := by decide +kernel
def P_J31_size : PP := fun avs w Q => ∃ (a0 : Value), avs = [a0] ∧ isr a0 ∧ B_J31_size a0 w Q
theorem hd_J31_size : yJ31_size.cls = RJ31 ∧ yJ31_size.cls ≠ "java/lang/invoke/MethodHandle" ∧ yJ31_size.cls ≠ "java/lang/invoke/VarHandle" ∧ (parseMethodDescriptor yJ31_size.desc).map (fun d => d.parameters.length) = some 0 := by decide +kernel
def P_J31_get : PP := fun avs w Q => ∃ (a0 : Value) (x1 : Int32), avs = [a0, .int x1] ∧ isr a0 ∧ B_J31_get a0 x1 w Q
theorem hd_J31_get : yJ31_get.cls = RJ31 ∧ yJ31_get.cls ≠ "java/lang/invoke/MethodHandle" ∧ yJ31_get.cls ≠ "java/lang/invoke/VarHandle" ∧ (parseMethodDescriptor yJ31_get.desc).map (fun d => d.parameters.length) = some 1 := by decide +kernel
def P_J3_fill : PP := fun avs w Q => ∃ (a0 : Value) (x1 : Int32), avs = [a0, .int x1] ∧ isr a0 ∧ B_J3_fill a0 x1 w Q
theorem hd_J3_fill : yJ3_fill.cls = RJ3 ∧ yJ3_fill.cls ≠ "java/lang/invoke/MethodHandle" ∧ yJ3_fill.cls ≠ "java/lang/invoke/VarHandle" ∧ (parseMethodDescriptor yJ3_fill.desc).map (fun d => d.parameters.length) = some 2 := by decide +kernel
def P_J14_indexOf : PP := fun avs w Q => ∃ (a0 : Value) (x1 : Int32), avs = [a0, .int x1] ∧ isr a0 ∧ B_J14_indexOf a0 x1 w Q
theorem hd_J14_indexOf : yJ14_indexOf.cls = RJ14 ∧ yJ14_indexOf.cls ≠ "java/lang/invoke/MethodHandle" ∧ yJ14_indexOf.cls ≠ "java/lang/invoke/VarHandle" ∧ (parseMethodDescriptor yJ14_indexOf.desc).map (fun d => d.parameters.length) = some 1 := by decide +kernel
