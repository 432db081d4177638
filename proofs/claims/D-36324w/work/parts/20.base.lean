/-! The abstract heap: names for addresses; lists, immutable lists and boxes as values. -/
set_option maxRecDepth 100000
abbrev vwCl : List vw_C := [(RX1, TX1, 10), (RX2, TX2, 12), (RX3, TX3, 5), (RX4, TX4, 5), (RX5, TX5, 7), (RX6, TX6, 6), (RX7, TX7, 21), (RX8, TX8, 3), (RX9, TX9, 20), (RX11, TX11, 3), (RX12, TX12, 2), (RX13, TX13, 2), (RX14, TX14, 5), (RX15, TX15, 4), (RX16, TX16, 4), (RX17, TX17, 4), (RX18, TX18, 4), (RX19, TX19, 3), (RX20, TX20, 3), (RX21, TX21, 3), (RJ2, TJ2, 3), (RJ17, TJ17, 4), (RJ31, TJ31, 2), (RJ23, TJ23, 1)]
abbrev AO : Type := (Nat × List Value) ⊕ (vp_A ⊕ ((List Value × Nat × Int32) ⊕ (Nat × (Nat → Value))))
abbrev AM : Type := Nat → Option AO
abbrev AW : Type := AM × Nat
abbrev AOut : Type := Option Value ⊕ String
abbrev KK : Type := (Nat → Nat) × (Nat → Nat) × (Nat → Option Nat)
/-- the law's start; the classes' numbers; the array classes' numbers; the addresses of what is there from the start on: 0, 1 the texts, 2 ArrayList's default empty array, 3 ImmutableCollections.EMPTY, 4 Object[].class, 5, 6 the texts' bytes, 7 the cache of Integers, 16 + j the cached Integers -/
abbrev GG : Type := State × va_G × (Nat → ClassId) × (Nat → Nat)
def LU : Nat := 4800576
def upm (M : AM) (n : Nat) (e : AO) : AM := fun j => if j = n then some e else M j
theorem upm_s (M : AM) (n : Nat) (e : AO) : upm M n e n = some e := by simp [upm]
theorem upm_n (M : AM) {n j : Nat} (e : AO) (h : j ≠ n) : upm M n e j = M j := by simp [upm, h]
theorem upm_none (M : AM) {n j : Nat} (e : AO) (h : M j ≠ none) : upm M n e j ≠ none := by
  unfold upm
  split
  · exact fun z => by cases z
  · exact h
def cv (κ : KK) (M : AM) (v c : Value) : Prop := match v with
  | .ref n => M n ≠ none ∧ c = .ref (κ.1 n)
  | .retAddr k => ∃ a, c = .ref a ∧ κ.2.2 a = some k
  | v => c = v
def isr (v : Value) : Prop := match v with
  | .null => True
  | .ref _ => True
  | .retAddr _ => True
  | _ => False
def rl (R : Value → Value → Prop) : List Value → List Value → Prop
  | [], [] => True
  | a :: as, b :: bs => R a b ∧ rl R as bs
  | _, _ => False
theorem rl_c {R : Value → Value → Prop} {a : Value} {as bs : List Value} (h : rl R (a :: as) bs) : ∃ b bs', bs = b :: bs' ∧ R a b ∧ rl R as bs' := by
  cases bs with
  | nil => exact h.elim
  | cons b bs' => exact ⟨b, bs', rfl, h.1, h.2⟩
theorem rl_n {R : Value → Value → Prop} {bs : List Value} (h : rl R [] bs) : bs = [] := by
  cases bs with
  | nil => rfl
  | cons b bs' => exact h.elim
theorem rl_mono {R R' : Value → Value → Prop} (hR : ∀ a b, R a b → R' a b) : ∀ {as bs : List Value}, rl R as bs → rl R' as bs
  | [], [], _ => trivial
  | a :: as, b :: bs, h => ⟨hR a b h.1, rl_mono hR h.2⟩
  | [], _ :: _, h => h.elim
  | _ :: _, [], h => h.elim
theorem rl_len {R : Value → Value → Prop} : ∀ {as bs : List Value}, rl R as bs → as.length = bs.length
  | [], [], _ => rfl
  | a :: as, b :: bs, h => by simp [rl_len h.2]
  | [], _ :: _, h => h.elim
  | _ :: _, [], h => h.elim
theorem rl_split {R : Value → Value → Prop} : ∀ {as as' bs : List Value}, rl R (as ++ as') bs → ∃ b1 b2, bs = b1 ++ b2 ∧ rl R as b1 ∧ rl R as' b2
  | [], as', bs, h => ⟨[], bs, rfl, trivial, h⟩
  | a :: as, as', bs, h => by
    obtain ⟨b, bs', rfl, h1, h2⟩ := rl_c (show rl R (a :: (as ++ as')) bs from h)
    obtain ⟨b1, b2, rfl, h3, h4⟩ := rl_split h2
    exact ⟨b :: b1, b2, rfl, ⟨h1, h3⟩, h4⟩
theorem rl_app {R : Value → Value → Prop} : ∀ {as as' bs bs' : List Value}, rl R as bs → rl R as' bs' → rl R (as ++ as') (bs ++ bs')
  | [], _, [], _, _, h => h
  | _ :: _, _, _ :: _, _, h, h' => ⟨h.1, rl_app h.2 h'⟩
  | [], _, _ :: _, _, h, _ => h.elim
  | _ :: _, _, [], _, h, _ => h.elim
theorem rl_rev {R : Value → Value → Prop} : ∀ {as bs : List Value}, rl R as bs → rl R as.reverse bs.reverse
  | [], [], _ => trivial
  | a :: as, b :: bs, h => by
    rw [List.reverse_cons, List.reverse_cons]
    exact rl_app (rl_rev h.2) ⟨h.1, trivial⟩
  | [], _ :: _, h => h.elim
  | _ :: _, [], h => h.elim
theorem rl_get {R : Value → Value → Prop} : ∀ {as bs : List Value} {i : Nat} {a : Value}, rl R as bs → as[i]? = some a → ∃ b, bs[i]? = some b ∧ R a b
  | [], _, _, _, _, h => by simp at h
  | a :: as, bs, i, x, h, hi => by
    obtain ⟨b, bs', rfl, h1, h2⟩ := rl_c h
    cases i with
    | zero => simp at hi; subst hi; exact ⟨b, by simp, h1⟩
    | succ i =>
      simp at hi
      obtain ⟨c, h3, h4⟩ := rl_get h2 hi
      exact ⟨c, by simpa using h3, h4⟩
theorem rl_set {R : Value → Value → Prop} {a b : Value} (hab : R a b) : ∀ {as bs : List Value} (i : Nat), rl R as bs → rl R (as.set i a) (bs.set i b)
  | [], [], _, _ => trivial
  | x :: as, y :: bs, i, h => by
    cases i with
    | zero => exact ⟨hab, h.2⟩
    | succ i => exact ⟨h.1, rl_set hab i h.2⟩
  | [], _ :: _, _, h => h.elim
  | _ :: _, [], _, h => h.elim
def xt (κ0 : KK) (M0 : AM) (κ : KK) (M : AM) : Prop := (∀ n, M0 n ≠ none → M n ≠ none ∧ κ.1 n = κ0.1 n) ∧ ∀ a k, κ0.2.2 a = some k → κ.2.2 a = some k
theorem xt_rf {κ : KK} {M : AM} : xt κ M κ M := ⟨fun _ h => ⟨h, rfl⟩, fun _ _ h => h⟩
theorem xt_tr {κ0 κ1 κ2 : KK} {M0 M1 M2 : AM} (h : xt κ0 M0 κ1 M1) (h' : xt κ1 M1 κ2 M2) : xt κ0 M0 κ2 M2 :=
  ⟨fun n q => ⟨(h'.1 n (h.1 n q).1).1, ((h'.1 n (h.1 n q).1).2).trans (h.1 n q).2⟩, fun a k q => h'.2 a k (h.2 a k q)⟩
theorem cv_xt {κ0 κ : KK} {M0 M : AM} (h : xt κ0 M0 κ M) {v c : Value} (q : cv κ0 M0 v c) : cv κ M v c := by
  cases v with
  | ref n => exact ⟨(h.1 n q.1).1, by rw [(h.1 n q.1).2]; exact q.2⟩
  | retAddr k => obtain ⟨a, h1, h2⟩ := q; exact ⟨a, h1, h.2 a k h2⟩
  | int x => exact q
  | long x => exact q
  | float x => exact q
  | double x => exact q
  | null => exact q
theorem cv_cat {κ : KK} {M : AM} {v c : Value} (q : cv κ M v c) : c.category = v.category := by
  cases v with
  | ref n => rw [q.2]; rfl
  | retAddr k => obtain ⟨a, h1, h2⟩ := q; rw [h1]; rfl
  | int x => rw [show c = _ from q]
  | long x => rw [show c = _ from q]
  | float x => rw [show c = _ from q]
  | double x => rw [show c = _ from q]
  | null => rw [show c = _ from q]
/-- a reference's concrete value: null, or an address -/
theorem cv_isr {κ : KK} {M : AM} {v c : Value} (q : cv κ M v c) (h : isr v) : c = .null ∨ ∃ a, c = .ref a := by
  cases v with
  | ref n => exact Or.inr ⟨_, q.2⟩
  | retAddr k => obtain ⟨a, h1, h2⟩ := q; exact Or.inr ⟨a, h1⟩
  | null => exact Or.inl q
  | int x => exact h.elim
  | long x => exact h.elim
  | float x => exact h.elim
  | double x => exact h.elim
def lrel (κ : KK) (M : AM) (lsC : Array Slot) (nL : Nat) (ls : List (Nat × Value)) : Prop := lsC.size = nL ∧ lv_wf lsC ∧ ∀ q ∈ ls, ∃ c, lsC[q.1]? = some (.val c) ∧ cv κ M q.2 c
theorem lrel_at {κ : KK} {M : AM} {lsC : Array Slot} {nL : Nat} {ls : List (Nat × Value)} (h : lrel κ M lsC nL ls) (k : Nat) {i : Nat} {v : Value} (hk : ls[k]? = some (i, v)) : ∃ c, lsC[i]? = some (.val c) ∧ cv κ M v c := h.2.2 (i, v) (List.mem_of_getElem? hk)
theorem lrel_xt {κ0 κ : KK} {M0 M : AM} (hx : xt κ0 M0 κ M) {lsC : Array Slot} {nL : Nat} {ls : List (Nat × Value)} (h : lrel κ0 M0 lsC nL ls) : lrel κ M lsC nL ls :=
  ⟨h.1, h.2.1, fun q hq => by obtain ⟨c, h1, h2⟩ := h.2.2 q hq; exact ⟨c, h1, cv_xt hx h2⟩⟩
theorem lrel_sub {κ : KK} {M : AM} {lsC : Array Slot} {nL : Nat} {ls ls' : List (Nat × Value)} (h : lrel κ M lsC nL ls) (ks : List Nat) (hl : lv_pick ls ks = ls') : lrel κ M lsC nL ls' := by
  refine ⟨h.1, h.2.1, fun q hq => ?_⟩
  rw [← hl] at hq
  obtain ⟨k, -, hk⟩ := List.mem_filterMap.mp hq
  exact h.2.2 q (List.mem_of_getElem? hk)
def arid (γ : GG) (a : vp_A) : ClassId := match a.2 with
  | .inl _ => γ.2.2.1 0
  | .inr (.inl _) => γ.2.2.1 1
  | .inr (.inr (.inl _)) => γ.2.2.1 0
  | .inr (.inr (.inr (.inl _))) => γ.2.2.1 2
  | .inr (.inr (.inr (.inr _))) => γ.2.2.1 3
/-- nothing that is there from the start on -/
def nsp (v : Value) : Prop := match v with
  | .null => True
  | .ref _ => True
  | .retAddr k => k < 4294967296
  | _ => False
/-- an ArrayList: its contents, its capacity, its count of changes -/
def alat (γ : GG) (κ : KK) (M : AM) (n : Nat) (t : List Value × Nat × Int32) (H : Heap) : Prop :=
  ∃ g : Nat → Option Nat, va_at γ.2.1 vwCl (κ.1 n, .inr (20, [.int t.2.2, .ref (κ.2.1 n), .int (nI t.1.length)])) H ∧ t.1.length ≤ t.2.1 ∧ t.2.1 ≤ 65536 ∧
    (0 < t.2.1 → va_at γ.2.1 vwCl (κ.2.1 n, .inl (γ.2.2.1 3, (t.2.1, .inr (.inr (.inr (.inr g)))))) H) ∧ (∀ (i : Nat) (x : Value), t.1[i]? = some x → cv κ M x (va_rf (g i)) ∧ nsp x) ∧ (∀ i : Nat, t.1.length ≤ i → g i = none) ∧ (t.2.1 = 0 → κ.2.1 n = (γ.2.2.2 2)) ∧ (t.2.1 = 0 ∨ 10 ≤ t.2.1)
/-- an array of references, by their abstract values -/
def raat (γ : GG) (κ : KK) (M : AM) (n : Nat) (t : Nat × (Nat → Value)) (H : Heap) : Prop :=
  ∃ g : Nat → Option Nat, va_at γ.2.1 vwCl (κ.1 n, .inl (γ.2.2.1 3, (t.1, .inr (.inr (.inr (.inr g)))))) H ∧ ∀ i : Nat, i < t.1 → cv κ M (t.2 i) (va_rf (g i)) ∧ nsp (t.2 i)
def aat (γ : GG) (κ : KK) (M : AM) (n : Nat) (e : AO) (H : Heap) : Prop := match e with
  | .inl o => ∃ cs, rl (cv κ M) o.2 cs ∧ va_at γ.2.1 vwCl (κ.1 n, .inr (o.1, cs)) H
  | .inr (.inl a) => va_at γ.2.1 vwCl (κ.1 n, .inl (arid γ a, a)) H
  | .inr (.inr (.inl t)) => alat γ κ M n t H
  | .inr (.inr (.inr t)) => raat γ κ M n t H
/-- which addresses belong to a name: its own, and that of a list's array -/
def ow (M : AM) (q : Nat × Bool) : Prop := match q.2 with
  | false => M q.1 ≠ none
  | true => ∃ t : List Value × Nat × Int32, M q.1 = some (.inr (.inr (.inl t))) ∧ 0 < t.2.1
def oa (κ : KK) (q : Nat × Bool) : Nat := match q.2 with
  | false => κ.1 q.1
  | true => κ.2.1 q.1
/-- the codes of what is there from the start on -/
def scode (k : Nat) : Nat := if k < 16 then 4294967296 + k else (nI (k - 16) - 128 : Int32).toBitVec.toNat
/-- a box (an Integer) by its bits; behind them what is there from the start on -/
def spat (γ : GG) (k a : Nat) (H : Heap) : Prop := if k < 4294967296 then va_at γ.2.1 vwCl (a, .inr (23, [.int (Int32.ofNat k)])) H else a = γ.2.2.2 (k - 4294967296) ∧ a < γ.1.heap.size
def sd (n : Nat) (H : Heap) : Nat := ((H.toList.drop n).map (fun c => c.slots.size)).sum
def strs (γ : GG) (κ : KK) : Prop := ∀ k : Nat, k < 272 → κ.2.2 (γ.2.2.2 k) = some (scode k)
def hp (γ : GG) (κ : KK) (w : AW) (H : Heap) : Prop :=
  (∀ (n : Nat) (e : AO), w.1 n = some e → aat γ κ w.1 n e H) ∧
  (∀ q q' : Nat × Bool, ow w.1 q → ow w.1 q' → oa κ q = oa κ q' → q = q') ∧
  (∀ q : Nat × Bool, ow w.1 q → γ.1.heap.size ≤ oa κ q ∧ oa κ q < H.size) ∧
  (∀ a k : Nat, κ.2.2 a = some k → (spat γ k a H ∧ a < H.size) ∧ ∀ q : Nat × Bool, ow w.1 q → oa κ q ≠ a) ∧
  (∃ b : Nat, (∀ n, b ≤ n → w.1 n = none) ∧ strs γ κ) ∧
  (γ.1.heap.size ≤ H.size ∧ ∀ q : Nat, q < γ.1.heap.size → H[q]? = γ.1.heap[q]?) ∧
  (4 * (H.size - γ.1.heap.size) ≤ w.2 ∧ sd γ.1.heap.size H ≤ w.2 ∧ w.2 ≤ LU)
def An (γ : GG) : Nat → Prop := fun q => γ.1.heap.size ≤ q
def orl (R : Value → Value → Prop) (a b : Option Value) : Prop := match a, b with
  | none, none => True
  | some x, some y => R x y
  | _, _ => False
def Qn (γ : GG) (κ0 : KK) (M0 : AM) (Q : AOut → AW → Prop) : Array Value → State → Outcome → State → Prop := fun _ st o t =>
  (∃ (κ : KK) (w : AW) (rv rc : Option Value), o = .returned rc ∧ orl (cv κ w.1) rv rc ∧ hp γ κ w t.heap ∧ xt κ0 M0 κ w.1 ∧ Q (.inl rv) w) ∧ va_F (An γ) st t
def Qx (γ : GG) (κ0 : KK) (M0 : AM) (Q : AOut → AW → Prop) : String → State → State → Prop := fun E st t =>
  (∃ (κ : KK) (w : AW), hp γ κ w t.heap ∧ xt κ0 M0 κ w.1 ∧ Q (.inr E) w) ∧ va_F (An γ) st t
def QFo (b : Bool) (γ : GG) (R : Room) (s : State) (args : Array Value) (below : List Frame) (κ0 : KK) (M0 : AM) (Q : AOut → AW → Prop) : State → Prop := match b with
  | true => vx_MQ below (Qn γ κ0 M0 Q) (Qx γ κ0 M0 Q) args s R.cells R.slots (An γ)
  | false => MQ below (Qn γ κ0 M0 Q) args s R.cells R.slots (An γ)
def J (γ : GG) (p : Program) (l : Launch) (e : Env) (R : Room) (s : State) (m : MethodId) (args : Array Value) (below : List Frame) (meth : Method) (c : Code) (nL : Nat) (b : Bool) (κ0 : KK) (M0 : AM) (Q : AOut → AW → Prop) (w : AW) (pc : Nat) (ls : List (Nat × Value)) (st : List Value) : Prop :=
  ∀ (κ : KK) (H : Heap) (locs : List Loc) (lsC : Array Slot) (stC : List Value), hp γ κ w H → xt κ0 M0 κ w.1 → lrel κ w.1 lsC nL ls → rl (cv κ w.1) st stC → va_S (An γ) s.heap H locs →
    W p l e R s m args below meth c H locs (H.size - s.heap.size) (sd s.heap.size H) (QFo b γ R s args below κ0 M0 Q) (F0 m pc lsC stC)
/-- the array classes that are known -/
def tysL (γ : GG) : List (ClassId × FieldType) := [(γ.2.2.1 0, .int), (γ.2.2.1 1, .long), (γ.2.2.1 2, .double), (γ.2.2.1 3, .object "java/lang/Object")]
/-- what is known of the law's start, once and for all -/
def Gs (γ : GG) : Prop := vk_R "VaultyardModel" 241 "dla" (γ.2.2.2 0) γ.1 ∧ vk_R "VaultyardModel" 306 "bgitf" (γ.2.2.2 1) γ.1 ∧ (va_Z "java/util/ArrayList" "DEFAULTCAPACITY_EMPTY_ELEMENTDATA" "[Ljava/lang/Object;" (.ref (γ.2.2.2 2)) (An γ) γ.1 γ.1.heap ∧ va_Z "java/util/ImmutableCollections" "EMPTY" "Ljava/lang/Object;" (.ref (γ.2.2.2 3)) (An γ) γ.1 γ.1.heap ∧ va_Mi "[Ljava/lang/Object;" (γ.2.2.2 4) γ.1) ∧ va_T (.object "java/lang/Object") (γ.2.2.2 2) 0 (fun _ => .null) (An γ) γ.1 γ.1.heap ∧ (va_Z "java/lang/Integer$IntegerCache" "high" "I" (.int 127) (An γ) γ.1 γ.1.heap ∧ va_Z "java/lang/Integer$IntegerCache" "cache" "[Ljava/lang/Integer;" (.ref (γ.2.2.2 7)) (An γ) γ.1 γ.1.heap ∧ va_T (.object "java/lang/Integer") (γ.2.2.2 7) 256 (fun j => .ref (γ.2.2.2 (16 + j))) (An γ) γ.1 γ.1.heap)
def Gm (γ : GG) : Prop := (∃ a0 : Array Value, ∀ w ∈ lw_tbl, w.before a0 γ.1 = true) ∧ va_K γ.2.1 vwCl (tysL γ) γ.1 ∧ ((γ.2.2.2 2) < γ.1.heap.size ∧ (γ.2.2.2 3) < γ.1.heap.size) ∧ (vx_Zq Bundle.tN "UNASSIGNED_STACK" Bundle.steD (An γ) γ.1 γ.1.heap ∧ vx_Zq Bundle.tN "SUPPRESSED_SENTINEL" Bundle.listD (An γ) γ.1 γ.1.heap) ∧ Gs γ
/-- what holds all through a method: the machine, its code, the tables' words, what is known of the start, its room (d frames deep) -/
def Cx (γ : GG) (p : Program) (l : Launch) (R : Room) (s : State) (m : MethodId) (args : Array Value) (meth : Method) (c : Code) (cc : ByteArray) (own : String) (nL : Nat) (ret : Option FieldType) (D : Nat) : Prop :=
  p.tables.exec = Jvm.exec ∧ c.code = cc ∧ meth.sig.returnType = ret ∧ meth.locks = false ∧ c.maxLocals = nL ∧ s.vm.findClass own = some m.cls ∧ (∀ w ∈ lw_all, w.before args s = true) ∧ γ.1.WarmedH s.vm ∧
    (γ.1.heap.size ≤ s.heap.size ∧ ∀ q : Nat, q < γ.1.heap.size → s.heap[q]? = γ.1.heap[q]?) ∧ l.stackTraces = false ∧ (R.frames = D ∧ R.locals = 64 * D ∧ R.cells = 1200144 - (s.heap.size - γ.1.heap.size) ∧ R.slots = 5496250 - sd γ.1.heap.size s.heap) ∧ Gm γ
section CX
variable {γ : GG} {p : Program} {l : Launch} {R : Room} {s : State} {m : MethodId} {args : Array Value} {meth : Method} {c : Code} {cc : ByteArray} {own : String} {nL : Nat} {ret : Option FieldType} {D : Nat}
theorem Cx.x (X : Cx γ p l R s m args meth c cc own nL ret D) : p.tables.exec = Jvm.exec := X.1
theorem Cx.b (X : Cx γ p l R s m args meth c cc own nL ret D) : c.code = cc := X.2.1
theorem Cx.r (X : Cx γ p l R s m args meth c cc own nL ret D) : meth.sig.returnType = ret := X.2.2.1
theorem Cx.k (X : Cx γ p l R s m args meth c cc own nL ret D) : meth.locks = false := X.2.2.2.1
theorem Cx.nl (X : Cx γ p l R s m args meth c cc own nL ret D) : c.maxLocals = nL := X.2.2.2.2.1
theorem Cx.o (X : Cx γ p l R s m args meth c cc own nL ret D) : s.vm.findClass own = some m.cls := X.2.2.2.2.2.1
theorem Cx.t (X : Cx γ p l R s m args meth c cc own nL ret D) : ∀ w ∈ lw_all, w.before args s = true := X.2.2.2.2.2.2.1
theorem Cx.w (X : Cx γ p l R s m args meth c cc own nL ret D) : γ.1.WarmedH s.vm := X.2.2.2.2.2.2.2.1
theorem Cx.h (X : Cx γ p l R s m args meth c cc own nL ret D) : γ.1.heap.size ≤ s.heap.size ∧ ∀ q : Nat, q < γ.1.heap.size → s.heap[q]? = γ.1.heap[q]? := X.2.2.2.2.2.2.2.2.1
theorem Cx.f (X : Cx γ p l R s m args meth c cc own nL ret D) : l.stackTraces = false := X.2.2.2.2.2.2.2.2.2.1
theorem Cx.rm (X : Cx γ p l R s m args meth c cc own nL ret D) : R.frames = D ∧ R.locals = 64 * D ∧ R.cells = 1200144 - (s.heap.size - γ.1.heap.size) ∧ R.slots = 5496250 - sd γ.1.heap.size s.heap := X.2.2.2.2.2.2.2.2.2.2.1
theorem Cx.g (X : Cx γ p l R s m args meth c cc own nL ret D) : Gm γ := X.2.2.2.2.2.2.2.2.2.2.2
theorem Cx.K (X : Cx γ p l R s m args meth c cc own nL ret D) : va_K γ.2.1 vwCl (tysL γ) s := va_K.moved X.w.alike X.g.2.1
end CX
