/-! A row an opcode, over the abstract heap: the goal first -/
set_option maxRecDepth 100000
def pr (κ : KK) (M : AM) : List (Nat × Value) → List (Nat × Value) → Prop
  | [], [] => True
  | a :: as, b :: bs => (a.1 = b.1 ∧ cv κ M a.2 b.2) ∧ pr κ M as bs
  | _, _ => False
theorem pr_filter {κ : KK} {M : AM} (f : Nat → Nat → Bool) : ∀ {as bs : List (Nat × Value)}, pr κ M as bs → pr κ M (as.filter (fun q => f q.1 q.2.category)) (bs.filter (fun q => f q.1 q.2.category))
  | [], [], _ => trivial
  | a :: as, b :: bs, h => by
    have e : f b.1 b.2.category = f a.1 a.2.category := by rw [cv_cat h.1.2, h.1.1]
    rw [List.filter_cons, List.filter_cons, e]
    split
    · exact ⟨h.1, pr_filter f h.2⟩
    · exact pr_filter f h.2
  | [], _ :: _, h => h.elim
  | _ :: _, [], h => h.elim
theorem lrel_has {κ : KK} {M : AM} {lsC : Array Slot} {nL : Nat} {ls : List (Nat × Value)} (h : lrel κ M lsC nL ls) : ∃ lC, lv_has lsC nL lC ∧ pr κ M ls lC := by
  obtain ⟨h1, h2, h3⟩ := h
  have key : ∀ ls : List (Nat × Value), (∀ q ∈ ls, ∃ c, lsC[q.1]? = some (.val c) ∧ cv κ M q.2 c) → ∃ lC : List (Nat × Value), (∀ q ∈ lC, lsC[q.1]? = some (.val q.2)) ∧ pr κ M ls lC := by
    intro ls
    induction ls with
    | nil => exact fun _ => ⟨[], (fun q hq => by cases hq), trivial⟩
    | cons a as ih =>
      intro hq
      obtain ⟨c, e1, e2⟩ := hq a List.mem_cons_self
      obtain ⟨lC, g1, g2⟩ := ih fun q hm => hq q (List.mem_cons_of_mem _ hm)
      refine ⟨(a.1, c) :: lC, fun q hm => ?_, ⟨rfl, e2⟩, g2⟩
      rcases List.mem_cons.mp hm with z | z
      · rw [z]; exact e1
      · exact g1 q z
  obtain ⟨lC, g1, g2⟩ := key ls h3
  exact ⟨lC, ⟨h1, h2, g1⟩, g2⟩
theorem has_lrel {κ : KK} {M : AM} {lsC : Array Slot} {nL : Nat} {ls lC : List (Nat × Value)} (h : lv_has lsC nL lC) (hp : pr κ M ls lC) : lrel κ M lsC nL ls := by
  refine ⟨h.1, h.2.1, ?_⟩
  have key : ∀ (ls lC : List (Nat × Value)), pr κ M ls lC → (∀ q ∈ lC, lsC[q.1]? = some (.val q.2)) → ∀ q ∈ ls, ∃ c, lsC[q.1]? = some (.val c) ∧ cv κ M q.2 c := by
    intro ls
    induction ls with
    | nil => exact fun _ _ _ q hq => by cases hq
    | cons a as ih =>
      intro lC hpr hm q hq
      cases lC with
      | nil => exact hpr.elim
      | cons d lC =>
        rcases List.mem_cons.mp hq with z | z
        · rw [z]
          exact ⟨d.2, by rw [hpr.1.1]; exact hm d List.mem_cons_self, hpr.1.2⟩
        · exact ih lC hpr.2 (fun x hx => hm x (List.mem_cons_of_mem _ hx)) q z
  exact key ls lC hp h.2.2
theorem rl_cat {κ : KK} {M : AM} : ∀ {as bs : List Value}, rl (cv κ M) as bs → bs.map (fun v => v.category) = as.map (fun v => v.category)
  | [], [], _ => rfl
  | a :: as, b :: bs, h => by rw [List.map_cons, List.map_cons, cv_cat h.1, rl_cat h.2]
  | [], _ :: _, h => h.elim
  | _ :: _, [], h => h.elim
/-- neither a box nor a text: null or a name -/
def ish (v : Value) : Prop := match v with
  | .null => True
  | .ref _ => True
  | _ => False
def ri (K : Int32 → AW → Prop) (Kx : String → AW → Prop) : AOut → AW → Prop := fun o w => match o with
  | .inl (some (.int x)) => K x w
  | .inr E => Kx E w
  | _ => False
def rlo (K : Int64 → AW → Prop) (Kx : String → AW → Prop) : AOut → AW → Prop := fun o w => match o with
  | .inl (some (.long x)) => K x w
  | .inr E => Kx E w
  | _ => False
def rfl_ (K : UInt32 → AW → Prop) (Kx : String → AW → Prop) : AOut → AW → Prop := fun o w => match o with
  | .inl (some (.float x)) => K x w
  | .inr E => Kx E w
  | _ => False
def rdo (K : UInt64 → AW → Prop) (Kx : String → AW → Prop) : AOut → AW → Prop := fun o w => match o with
  | .inl (some (.double x)) => K x w
  | .inr E => Kx E w
  | _ => False
def rvo (K : AW → Prop) (Kx : String → AW → Prop) : AOut → AW → Prop := fun o w => match o with
  | .inl none => K w
  | .inr E => Kx E w
  | _ => False
def rr (K : Value → AW → Prop) (Kx : String → AW → Prop) : AOut → AW → Prop := fun o w => match o with
  | .inl (some v) => isr v ∧ K v w
  | .inr E => Kx E w
  | _ => False
section ROWS
variable {γ : GG} {p : Program} {l : Launch} {e : Env} {R : Room} {s : State} {m : MethodId} {args : Array Value} {below : List Frame} {meth : Method} {c : Code} {nL : Nat} {b : Bool} {κ0 : KK} {M0 : AM} {Q : AOut → AW → Prop} {w : AW} {pc : Nat} {ls : List (Nat × Value)} {st rest : List Value}
variable {cc : ByteArray} {own : String} {ret : Option FieldType} {D : Nat}
theorem kri {K : Int32 → AW → Prop} {Kx : String → AW → Prop} (h : ∀ x w', K x w' → J γ p l e R s m args below meth c nL b κ0 M0 Q w' pc ls (.int x :: st)) : ∀ (rv : Option Value) w', ri K Kx (.inl rv) w' → J γ p l e R s m args below meth c nL b κ0 M0 Q w' pc ls (rv.toList ++ st) := by
  intro rv w' q
  match rv, q with
  | some (.int x), q => exact h x w' q
theorem krl {K : Int64 → AW → Prop} {Kx : String → AW → Prop} (h : ∀ x w', K x w' → J γ p l e R s m args below meth c nL b κ0 M0 Q w' pc ls (.long x :: st)) : ∀ (rv : Option Value) w', rlo K Kx (.inl rv) w' → J γ p l e R s m args below meth c nL b κ0 M0 Q w' pc ls (rv.toList ++ st) := by
  intro rv w' q
  match rv, q with
  | some (.long x), q => exact h x w' q
theorem krf {K : UInt32 → AW → Prop} {Kx : String → AW → Prop} (h : ∀ x w', K x w' → J γ p l e R s m args below meth c nL b κ0 M0 Q w' pc ls (.float x :: st)) : ∀ (rv : Option Value) w', rfl_ K Kx (.inl rv) w' → J γ p l e R s m args below meth c nL b κ0 M0 Q w' pc ls (rv.toList ++ st) := by
  intro rv w' q
  match rv, q with
  | some (.float x), q => exact h x w' q
theorem krd {K : UInt64 → AW → Prop} {Kx : String → AW → Prop} (h : ∀ x w', K x w' → J γ p l e R s m args below meth c nL b κ0 M0 Q w' pc ls (.double x :: st)) : ∀ (rv : Option Value) w', rdo K Kx (.inl rv) w' → J γ p l e R s m args below meth c nL b κ0 M0 Q w' pc ls (rv.toList ++ st) := by
  intro rv w' q
  match rv, q with
  | some (.double x), q => exact h x w' q
theorem krv {K : AW → Prop} {Kx : String → AW → Prop} (h : ∀ w', K w' → J γ p l e R s m args below meth c nL b κ0 M0 Q w' pc ls st) : ∀ (rv : Option Value) w', rvo K Kx (.inl rv) w' → J γ p l e R s m args below meth c nL b κ0 M0 Q w' pc ls (rv.toList ++ st) := by
  intro rv w' q
  match rv, q with
  | none, q => exact h w' q
theorem krr {K : Value → AW → Prop} {Kx : String → AW → Prop} (h : ∀ v w', isr v → K v w' → J γ p l e R s m args below meth c nL b κ0 M0 Q w' pc ls (v :: st)) : ∀ (rv : Option Value) w', rr K Kx (.inl rv) w' → J γ p l e R s m args below meth c nL b κ0 M0 Q w' pc ls (rv.toList ++ st) := by
  intro rv w' q
  match rv, q with
  | some v, q => exact h v w' q.1 q.2
theorem Jgo {pc' : Nat} {ls' : List (Nat × Value)} {st' : List Value} (k : J γ p l e R s m args below meth c nL b κ0 M0 Q w pc' ls' st')
    (h : ∀ (κ : KK) (lsC : Array Slot) (stC : List Value), lrel κ w.1 lsC nL ls → rl (cv κ w.1) st stC → lrel κ w.1 lsC nL ls' ∧ ∃ stC', rl (cv κ w.1) st' stC' ∧ ∀ (H : Heap) (locs : List Loc) (cells slots : Nat) (QF : State → Prop), hp γ κ w H → W p l e R s m args below meth c H locs cells slots QF (F0 m pc' lsC stC') → W p l e R s m args below meth c H locs cells slots QF (F0 m pc lsC stC)) : J γ p l e R s m args below meth c nL b κ0 M0 Q w pc ls st := by
  intro κ H locs lsC stC hH hx hl hs hS
  obtain ⟨hl', stC', hs', hW⟩ := h κ lsC stC hl hs
  exact hW H locs _ _ _ hH (k κ H locs lsC stC' hH hx hl' hs' hS)
theorem J_sub {ls' : List (Nat × Value)} (ks : List Nat) (h : lv_pick ls ks = ls') (k : J γ p l e R s m args below meth c nL b κ0 M0 Q w pc ls' st) : J γ p l e R s m args below meth c nL b κ0 M0 Q w pc ls st := by
  intro κ H locs lsC stC hH hx hl hs hS
  exact k κ H locs lsC stC hH hx (lrel_sub hl ks h) hs hS

theorem J_iconst (X : Cx γ p l R s m args meth c cc own nL ret D) {n : Int} {v : Int32} (d : decode cc pc = .ok (.iconst n, 1)) (hv : Int32.ofInt n = v) (k : J γ p l e R s m args below meth c nL b κ0 M0 Q w (pc + 1) ls (.int v :: st)) : J γ p l e R s m args below meth c nL b κ0 M0 Q w pc ls st :=
  Jgo k fun κ lsC stC hl hs => ⟨hl, .int v :: stC, ⟨rfl, hs⟩, fun _ _ _ _ _ _ kk => lv_iconst X.x X.b d hv kk⟩
theorem J_bipush (X : Cx γ p l R s m args meth c cc own nL ret D) {n : Int} {v : Int32} (d : decode cc pc = .ok (.bipush n, 2)) (hv : (Int8.ofInt n).toInt32 = v) (k : J γ p l e R s m args below meth c nL b κ0 M0 Q w (pc + 2) ls (.int v :: st)) : J γ p l e R s m args below meth c nL b κ0 M0 Q w pc ls st :=
  Jgo k fun κ lsC stC hl hs => ⟨hl, .int v :: stC, ⟨rfl, hs⟩, fun _ _ _ _ _ _ kk => lv_bipush X.x X.b d hv kk⟩
theorem J_sipush (X : Cx γ p l R s m args meth c cc own nL ret D) {n : Int} {v : Int32} (d : decode cc pc = .ok (.sipush n, 3)) (hv : (Int16.ofInt n).toInt32 = v) (k : J γ p l e R s m args below meth c nL b κ0 M0 Q w (pc + 3) ls (.int v :: st)) : J γ p l e R s m args below meth c nL b κ0 M0 Q w pc ls st :=
  Jgo k fun κ lsC stC hl hs => ⟨hl, .int v :: stC, ⟨rfl, hs⟩, fun _ _ _ _ _ _ kk => lv_sipush X.x X.b d hv kk⟩
theorem J_lconst (X : Cx γ p l R s m args meth c cc own nL ret D) {n : Fin 2} {v : Int64} (d : decode cc pc = .ok (.lconst n, 1)) (hv : Int64.ofNat (n : Nat) = v) (k : J γ p l e R s m args below meth c nL b κ0 M0 Q w (pc + 1) ls (.long v :: st)) : J γ p l e R s m args below meth c nL b κ0 M0 Q w pc ls st :=
  Jgo k fun κ lsC stC hl hs => ⟨hl, .long v :: stC, ⟨rfl, hs⟩, fun _ _ _ _ _ _ kk => lv_lconst X.x X.b d hv kk⟩
theorem J_ldc (X : Cx γ p l R s m args meth c cc own nL ret D) {index : Nat} {v : Int32} (h : Jvm.Cond.constant own index v ∈ lw_all) (d : decode cc pc = .ok (.ldc index, 2)) (k : J γ p l e R s m args below meth c nL b κ0 M0 Q w (pc + 2) ls (.int v :: st)) : J γ p l e R s m args below meth c nL b κ0 M0 Q w pc ls st :=
  Jgo k fun κ lsC stC hl hs => ⟨hl, .int v :: stC, ⟨rfl, hs⟩, fun _ _ _ _ _ _ kk => lv_ldc X.x X.b X.o (X.t _ h) d kk⟩
theorem J_ldcw (X : Cx γ p l R s m args meth c cc own nL ret D) {index : Nat} {v : Int32} (h : Jvm.Cond.constant own index v ∈ lw_all) (d : decode cc pc = .ok (.ldc_w index, 3)) (k : J γ p l e R s m args below meth c nL b κ0 M0 Q w (pc + 3) ls (.int v :: st)) : J γ p l e R s m args below meth c nL b κ0 M0 Q w pc ls st :=
  Jgo k fun κ lsC stC hl hs => ⟨hl, .int v :: stC, ⟨rfl, hs⟩, fun _ _ _ _ _ _ kk => lv_ldcw X.x X.b X.o (X.t _ h) d kk⟩
theorem J_ldc2 (X : Cx γ p l R s m args meth c cc own nL ret D) {index : Nat} {v : Int64} (h : Jvm.Cond.constantLong own index v ∈ lw_all) (d : decode cc pc = .ok (.ldc2_w index, 3)) (k : J γ p l e R s m args below meth c nL b κ0 M0 Q w (pc + 3) ls (.long v :: st)) : J γ p l e R s m args below meth c nL b κ0 M0 Q w pc ls st :=
  Jgo k fun κ lsC stC hl hs => ⟨hl, .long v :: stC, ⟨rfl, hs⟩, fun _ _ _ _ _ _ kk => lv_ldc2 X.x X.b X.o (X.t _ h) d kk⟩
theorem J_fconst0 (X : Cx γ p l R s m args meth c cc own nL ret D) (d : decode cc pc = .ok (.fconst 0, 1)) (k : J γ p l e R s m args below meth c nL b κ0 M0 Q w (pc + 1) ls (.float 0 :: st)) : J γ p l e R s m args below meth c nL b κ0 M0 Q w pc ls st :=
  Jgo k fun κ lsC stC hl hs => ⟨hl, .float 0 :: stC, ⟨rfl, hs⟩, fun _ _ _ _ _ _ kk => lv_fconst0 X.x X.b d kk⟩
theorem J_dconst0 (X : Cx γ p l R s m args meth c cc own nL ret D) (d : decode cc pc = .ok (.dconst 0, 1)) (k : J γ p l e R s m args below meth c nL b κ0 M0 Q w (pc + 1) ls (.double 0 :: st)) : J γ p l e R s m args below meth c nL b κ0 M0 Q w pc ls st :=
  Jgo k fun κ lsC stC hl hs => ⟨hl, .double 0 :: stC, ⟨rfl, hs⟩, fun _ _ _ _ _ _ kk => lv_dconst0 X.x X.b d kk⟩
theorem J_null (X : Cx γ p l R s m args meth c cc own nL ret D) (d : decode cc pc = .ok (.aconst_null, 1)) (k : J γ p l e R s m args below meth c nL b κ0 M0 Q w (pc + 1) ls (.null :: st)) : J γ p l e R s m args below meth c nL b κ0 M0 Q w pc ls st :=
  Jgo k fun κ lsC stC hl hs => ⟨hl, .null :: stC, ⟨rfl, hs⟩, fun _ _ _ _ _ _ kk => lv_null X.x X.b d kk⟩
theorem J_iload_n (X : Cx γ p l R s m args meth c cc own nL ret D) {kk : Fin 4} {i : Nat} {x : Int32} (d : decode cc pc = .ok (.iload_n kk, 1)) (hi : (kk : Nat) = i) (j : Nat) (hj : ls[j]? = some (i, .int x)) (k : J γ p l e R s m args below meth c nL b κ0 M0 Q w (pc + 1) ls (.int x :: st)) : J γ p l e R s m args below meth c nL b κ0 M0 Q w pc ls st :=
  Jgo k fun κ lsC stC hl hs => by
    obtain ⟨c1, h1, h2⟩ := lrel_at hl j hj
    obtain rfl : c1 = .int x := h2
    exact ⟨hl, .int x :: stC, ⟨rfl, hs⟩, fun _ _ _ _ _ _ kk => lv_iload_n X.x X.b d hi h1 kk⟩
theorem J_iload (X : Cx γ p l R s m args meth c cc own nL ret D) {i : Nat} {x : Int32} (d : decode cc pc = .ok (.iload i, 2)) (j : Nat) (hj : ls[j]? = some (i, .int x)) (k : J γ p l e R s m args below meth c nL b κ0 M0 Q w (pc + 2) ls (.int x :: st)) : J γ p l e R s m args below meth c nL b κ0 M0 Q w pc ls st :=
  Jgo k fun κ lsC stC hl hs => by
    obtain ⟨c1, h1, h2⟩ := lrel_at hl j hj
    obtain rfl : c1 = .int x := h2
    exact ⟨hl, .int x :: stC, ⟨rfl, hs⟩, fun _ _ _ _ _ _ kk => lv_iload X.x X.b d h1 kk⟩
theorem J_lload_n (X : Cx γ p l R s m args meth c cc own nL ret D) {kk : Fin 4} {i : Nat} {x : Int64} (d : decode cc pc = .ok (.lload_n kk, 1)) (hi : (kk : Nat) = i) (j : Nat) (hj : ls[j]? = some (i, .long x)) (k : J γ p l e R s m args below meth c nL b κ0 M0 Q w (pc + 1) ls (.long x :: st)) : J γ p l e R s m args below meth c nL b κ0 M0 Q w pc ls st :=
  Jgo k fun κ lsC stC hl hs => by
    obtain ⟨c1, h1, h2⟩ := lrel_at hl j hj
    obtain rfl : c1 = .long x := h2
    exact ⟨hl, .long x :: stC, ⟨rfl, hs⟩, fun _ _ _ _ _ _ kk => lv_lload_n X.x X.b d hi h1 kk⟩
theorem J_lload (X : Cx γ p l R s m args meth c cc own nL ret D) {i : Nat} {x : Int64} (d : decode cc pc = .ok (.lload i, 2)) (j : Nat) (hj : ls[j]? = some (i, .long x)) (k : J γ p l e R s m args below meth c nL b κ0 M0 Q w (pc + 2) ls (.long x :: st)) : J γ p l e R s m args below meth c nL b κ0 M0 Q w pc ls st :=
  Jgo k fun κ lsC stC hl hs => by
    obtain ⟨c1, h1, h2⟩ := lrel_at hl j hj
    obtain rfl : c1 = .long x := h2
    exact ⟨hl, .long x :: stC, ⟨rfl, hs⟩, fun _ _ _ _ _ _ kk => lv_lload X.x X.b d h1 kk⟩
theorem J_fload_n (X : Cx γ p l R s m args meth c cc own nL ret D) {kk : Fin 4} {i : Nat} {x : UInt32} (d : decode cc pc = .ok (.fload_n kk, 1)) (hi : (kk : Nat) = i) (j : Nat) (hj : ls[j]? = some (i, .float x)) (k : J γ p l e R s m args below meth c nL b κ0 M0 Q w (pc + 1) ls (.float x :: st)) : J γ p l e R s m args below meth c nL b κ0 M0 Q w pc ls st :=
  Jgo k fun κ lsC stC hl hs => by
    obtain ⟨c1, h1, h2⟩ := lrel_at hl j hj
    obtain rfl : c1 = .float x := h2
    exact ⟨hl, .float x :: stC, ⟨rfl, hs⟩, fun _ _ _ _ _ _ kk => lv_fload_n X.x X.b d hi h1 kk⟩
theorem J_fload (X : Cx γ p l R s m args meth c cc own nL ret D) {i : Nat} {x : UInt32} (d : decode cc pc = .ok (.fload i, 2)) (j : Nat) (hj : ls[j]? = some (i, .float x)) (k : J γ p l e R s m args below meth c nL b κ0 M0 Q w (pc + 2) ls (.float x :: st)) : J γ p l e R s m args below meth c nL b κ0 M0 Q w pc ls st :=
  Jgo k fun κ lsC stC hl hs => by
    obtain ⟨c1, h1, h2⟩ := lrel_at hl j hj
    obtain rfl : c1 = .float x := h2
    exact ⟨hl, .float x :: stC, ⟨rfl, hs⟩, fun _ _ _ _ _ _ kk => lv_fload X.x X.b d h1 kk⟩
theorem J_dload_n (X : Cx γ p l R s m args meth c cc own nL ret D) {kk : Fin 4} {i : Nat} {x : UInt64} (d : decode cc pc = .ok (.dload_n kk, 1)) (hi : (kk : Nat) = i) (j : Nat) (hj : ls[j]? = some (i, .double x)) (k : J γ p l e R s m args below meth c nL b κ0 M0 Q w (pc + 1) ls (.double x :: st)) : J γ p l e R s m args below meth c nL b κ0 M0 Q w pc ls st :=
  Jgo k fun κ lsC stC hl hs => by
    obtain ⟨c1, h1, h2⟩ := lrel_at hl j hj
    obtain rfl : c1 = .double x := h2
    exact ⟨hl, .double x :: stC, ⟨rfl, hs⟩, fun _ _ _ _ _ _ kk => lv_dload_n X.x X.b d hi h1 kk⟩
theorem J_dload (X : Cx γ p l R s m args meth c cc own nL ret D) {i : Nat} {x : UInt64} (d : decode cc pc = .ok (.dload i, 2)) (j : Nat) (hj : ls[j]? = some (i, .double x)) (k : J γ p l e R s m args below meth c nL b κ0 M0 Q w (pc + 2) ls (.double x :: st)) : J γ p l e R s m args below meth c nL b κ0 M0 Q w pc ls st :=
  Jgo k fun κ lsC stC hl hs => by
    obtain ⟨c1, h1, h2⟩ := lrel_at hl j hj
    obtain rfl : c1 = .double x := h2
    exact ⟨hl, .double x :: stC, ⟨rfl, hs⟩, fun _ _ _ _ _ _ kk => lv_dload X.x X.b d h1 kk⟩
theorem J_aload_n (X : Cx γ p l R s m args meth c cc own nL ret D) {kk : Fin 4} {i : Nat} {v : Value} (d : decode cc pc = .ok (.aload_n kk, 1)) (hi : (kk : Nat) = i) (j : Nat) (hj : ls[j]? = some (i, v)) (hr : isr v) (k : J γ p l e R s m args below meth c nL b κ0 M0 Q w (pc + 1) ls (v :: st)) : J γ p l e R s m args below meth c nL b κ0 M0 Q w pc ls st :=
  Jgo k fun κ lsC stC hl hs => by
    obtain ⟨c1, h1, h2⟩ := lrel_at hl j hj
    rcases cv_isr h2 hr with rfl | ⟨a, rfl⟩
    · exact ⟨hl, .null :: stC, ⟨h2, hs⟩, fun _ _ _ _ _ _ kk => lv_aload_nN X.x X.b d hi h1 kk⟩
    · exact ⟨hl, .ref a :: stC, ⟨h2, hs⟩, fun _ _ _ _ _ _ kk => lv_aload_n X.x X.b d hi h1 kk⟩
theorem J_aload (X : Cx γ p l R s m args meth c cc own nL ret D) {i : Nat} {v : Value} (d : decode cc pc = .ok (.aload i, 2)) (j : Nat) (hj : ls[j]? = some (i, v)) (hr : isr v) (k : J γ p l e R s m args below meth c nL b κ0 M0 Q w (pc + 2) ls (v :: st)) : J γ p l e R s m args below meth c nL b κ0 M0 Q w pc ls st :=
  Jgo k fun κ lsC stC hl hs => by
    obtain ⟨c1, h1, h2⟩ := lrel_at hl j hj
    rcases cv_isr h2 hr with rfl | ⟨a, rfl⟩
    · exact ⟨hl, .null :: stC, ⟨h2, hs⟩, fun _ _ _ _ _ _ kk => lv_aloadN X.x X.b d h1 kk⟩
    · exact ⟨hl, .ref a :: stC, ⟨h2, hs⟩, fun _ _ _ _ _ _ kk => lv_aload X.x X.b d h1 kk⟩
/-- no entry just below i is wide -/
def cok (i : Nat) : List (Nat × Value) → Prop
  | [] => True
  | q :: l => (q.1 + 1 ≠ i ∨ q.2.category = 1) ∧ cok i l
theorem cok_mem {i : Nat} : ∀ {l : List (Nat × Value)}, cok i l → ∀ q ∈ l, q.1 + 1 ≠ i ∨ q.2.category = 1
  | [], _, q, hq => by cases hq
  | a :: l, h, q, hq => by
    rcases List.mem_cons.mp hq with z | z
    · rw [z]; exact h.1
    · exact cok_mem h.2 q z
theorem cok_f1 {i : Nat} {l : List (Nat × Value)} (h : cok i l) : l.filter (fun q => !(q.1 == i) && !(q.1 + 1 == i && q.2.category == 2)) = l.filter (fun q => !(q.1 == i)) := by
  apply List.filter_congr
  intro q hq
  rcases cok_mem h q hq with z | z
  · have : (q.1 + 1 == i) = false := by simpa using z
    simp [this]
  · simp [z]
theorem cok_f2 {i : Nat} {l : List (Nat × Value)} (h : cok i l) : l.filter (fun q => !(q.1 == i) && (!(q.1 == i + 1) && !(q.1 + 1 == i && q.2.category == 2))) = l.filter (fun q => !(q.1 == i) && !(q.1 == i + 1)) := by
  apply List.filter_congr
  intro q hq
  rcases cok_mem h q hq with z | z
  · have : (q.1 + 1 == i) = false := by simpa using z
    simp [this]
  · simp [z]
theorem J_istore_n (X : Cx γ p l R s m args meth c cc own nL ret D) {kk : Fin 4} {i : Nat} {x : Int32} {ls' : List (Nat × Value)} (d : decode cc pc = .ok (.istore_n kk, 1)) (hi : (kk : Nat) = i) (hn : i < nL) (hc : cok i ls) (hl' : (i, .int x) :: ls.filter (fun q => !(q.1 == i)) = ls') (k : J γ p l e R s m args below meth c nL b κ0 M0 Q w (pc + 1) ls' st) : J γ p l e R s m args below meth c nL b κ0 M0 Q w pc ls (.int x :: st) := by
  intro κ H locs lsC stC hH hx hl hs hS
  obtain ⟨c1, r1, rfl, h1, hs1⟩ := rl_c hs
  obtain rfl : c1 = .int x := h1
  obtain ⟨lC, g1, g2⟩ := lrel_has hl
  rw [← cok_f1 hc] at hl'
  subst hl'
  exact lv_istore_n X.x X.b d hi g1 hn rfl (fun ls' h' => k κ H locs ls' r1 hH hx (has_lrel h' ⟨⟨rfl, rfl⟩, pr_filter (fun a z => !(a == i) && !(a + 1 == i && z == 2)) g2⟩) hs1 hS)
theorem J_istore (X : Cx γ p l R s m args meth c cc own nL ret D) {i : Nat} {x : Int32} {ls' : List (Nat × Value)} (d : decode cc pc = .ok (.istore i, 2)) (hn : i < nL) (hc : cok i ls) (hl' : (i, .int x) :: ls.filter (fun q => !(q.1 == i)) = ls') (k : J γ p l e R s m args below meth c nL b κ0 M0 Q w (pc + 2) ls' st) : J γ p l e R s m args below meth c nL b κ0 M0 Q w pc ls (.int x :: st) := by
  intro κ H locs lsC stC hH hx hl hs hS
  obtain ⟨c1, r1, rfl, h1, hs1⟩ := rl_c hs
  obtain rfl : c1 = .int x := h1
  obtain ⟨lC, g1, g2⟩ := lrel_has hl
  rw [← cok_f1 hc] at hl'
  subst hl'
  exact lv_istore X.x X.b d g1 hn rfl (fun ls' h' => k κ H locs ls' r1 hH hx (has_lrel h' ⟨⟨rfl, rfl⟩, pr_filter (fun a z => !(a == i) && !(a + 1 == i && z == 2)) g2⟩) hs1 hS)
theorem J_lstore_n (X : Cx γ p l R s m args meth c cc own nL ret D) {kk : Fin 4} {i : Nat} {x : Int64} {ls' : List (Nat × Value)} (d : decode cc pc = .ok (.lstore_n kk, 1)) (hi : (kk : Nat) = i) (hn : i + 1 < nL) (hc : cok i ls) (hl' : (i, .long x) :: ls.filter (fun q => !(q.1 == i) && !(q.1 == i + 1)) = ls') (k : J γ p l e R s m args below meth c nL b κ0 M0 Q w (pc + 1) ls' st) : J γ p l e R s m args below meth c nL b κ0 M0 Q w pc ls (.long x :: st) := by
  intro κ H locs lsC stC hH hx hl hs hS
  obtain ⟨c1, r1, rfl, h1, hs1⟩ := rl_c hs
  obtain rfl : c1 = .long x := h1
  obtain ⟨lC, g1, g2⟩ := lrel_has hl
  rw [← cok_f2 hc] at hl'
  subst hl'
  exact lv_lstore_n X.x X.b d hi g1 hn rfl (fun ls' h' => k κ H locs ls' r1 hH hx (has_lrel h' ⟨⟨rfl, rfl⟩, pr_filter (fun a z => !(a == i) && (!(a == i + 1) && !(a + 1 == i && z == 2))) g2⟩) hs1 hS)
theorem J_lstore (X : Cx γ p l R s m args meth c cc own nL ret D) {i : Nat} {x : Int64} {ls' : List (Nat × Value)} (d : decode cc pc = .ok (.lstore i, 2)) (hn : i + 1 < nL) (hc : cok i ls) (hl' : (i, .long x) :: ls.filter (fun q => !(q.1 == i) && !(q.1 == i + 1)) = ls') (k : J γ p l e R s m args below meth c nL b κ0 M0 Q w (pc + 2) ls' st) : J γ p l e R s m args below meth c nL b κ0 M0 Q w pc ls (.long x :: st) := by
  intro κ H locs lsC stC hH hx hl hs hS
  obtain ⟨c1, r1, rfl, h1, hs1⟩ := rl_c hs
  obtain rfl : c1 = .long x := h1
  obtain ⟨lC, g1, g2⟩ := lrel_has hl
  rw [← cok_f2 hc] at hl'
  subst hl'
  exact lv_lstore X.x X.b d g1 hn rfl (fun ls' h' => k κ H locs ls' r1 hH hx (has_lrel h' ⟨⟨rfl, rfl⟩, pr_filter (fun a z => !(a == i) && (!(a == i + 1) && !(a + 1 == i && z == 2))) g2⟩) hs1 hS)
theorem J_fstore_n (X : Cx γ p l R s m args meth c cc own nL ret D) {kk : Fin 4} {i : Nat} {x : UInt32} {ls' : List (Nat × Value)} (d : decode cc pc = .ok (.fstore_n kk, 1)) (hi : (kk : Nat) = i) (hn : i < nL) (hc : cok i ls) (hl' : (i, .float x) :: ls.filter (fun q => !(q.1 == i)) = ls') (k : J γ p l e R s m args below meth c nL b κ0 M0 Q w (pc + 1) ls' st) : J γ p l e R s m args below meth c nL b κ0 M0 Q w pc ls (.float x :: st) := by
  intro κ H locs lsC stC hH hx hl hs hS
  obtain ⟨c1, r1, rfl, h1, hs1⟩ := rl_c hs
  obtain rfl : c1 = .float x := h1
  obtain ⟨lC, g1, g2⟩ := lrel_has hl
  rw [← cok_f1 hc] at hl'
  subst hl'
  exact lv_fstore_n X.x X.b d hi g1 hn rfl (fun ls' h' => k κ H locs ls' r1 hH hx (has_lrel h' ⟨⟨rfl, rfl⟩, pr_filter (fun a z => !(a == i) && !(a + 1 == i && z == 2)) g2⟩) hs1 hS)
theorem J_fstore (X : Cx γ p l R s m args meth c cc own nL ret D) {i : Nat} {x : UInt32} {ls' : List (Nat × Value)} (d : decode cc pc = .ok (.fstore i, 2)) (hn : i < nL) (hc : cok i ls) (hl' : (i, .float x) :: ls.filter (fun q => !(q.1 == i)) = ls') (k : J γ p l e R s m args below meth c nL b κ0 M0 Q w (pc + 2) ls' st) : J γ p l e R s m args below meth c nL b κ0 M0 Q w pc ls (.float x :: st) := by
  intro κ H locs lsC stC hH hx hl hs hS
  obtain ⟨c1, r1, rfl, h1, hs1⟩ := rl_c hs
  obtain rfl : c1 = .float x := h1
  obtain ⟨lC, g1, g2⟩ := lrel_has hl
  rw [← cok_f1 hc] at hl'
  subst hl'
  exact lv_fstore X.x X.b d g1 hn rfl (fun ls' h' => k κ H locs ls' r1 hH hx (has_lrel h' ⟨⟨rfl, rfl⟩, pr_filter (fun a z => !(a == i) && !(a + 1 == i && z == 2)) g2⟩) hs1 hS)
theorem J_dstore_n (X : Cx γ p l R s m args meth c cc own nL ret D) {kk : Fin 4} {i : Nat} {x : UInt64} {ls' : List (Nat × Value)} (d : decode cc pc = .ok (.dstore_n kk, 1)) (hi : (kk : Nat) = i) (hn : i + 1 < nL) (hc : cok i ls) (hl' : (i, .double x) :: ls.filter (fun q => !(q.1 == i) && !(q.1 == i + 1)) = ls') (k : J γ p l e R s m args below meth c nL b κ0 M0 Q w (pc + 1) ls' st) : J γ p l e R s m args below meth c nL b κ0 M0 Q w pc ls (.double x :: st) := by
  intro κ H locs lsC stC hH hx hl hs hS
  obtain ⟨c1, r1, rfl, h1, hs1⟩ := rl_c hs
  obtain rfl : c1 = .double x := h1
  obtain ⟨lC, g1, g2⟩ := lrel_has hl
  rw [← cok_f2 hc] at hl'
  subst hl'
  exact lv_dstore_n X.x X.b d hi g1 hn rfl (fun ls' h' => k κ H locs ls' r1 hH hx (has_lrel h' ⟨⟨rfl, rfl⟩, pr_filter (fun a z => !(a == i) && (!(a == i + 1) && !(a + 1 == i && z == 2))) g2⟩) hs1 hS)
theorem J_dstore (X : Cx γ p l R s m args meth c cc own nL ret D) {i : Nat} {x : UInt64} {ls' : List (Nat × Value)} (d : decode cc pc = .ok (.dstore i, 2)) (hn : i + 1 < nL) (hc : cok i ls) (hl' : (i, .double x) :: ls.filter (fun q => !(q.1 == i) && !(q.1 == i + 1)) = ls') (k : J γ p l e R s m args below meth c nL b κ0 M0 Q w (pc + 2) ls' st) : J γ p l e R s m args below meth c nL b κ0 M0 Q w pc ls (.double x :: st) := by
  intro κ H locs lsC stC hH hx hl hs hS
  obtain ⟨c1, r1, rfl, h1, hs1⟩ := rl_c hs
  obtain rfl : c1 = .double x := h1
  obtain ⟨lC, g1, g2⟩ := lrel_has hl
  rw [← cok_f2 hc] at hl'
  subst hl'
  exact lv_dstore X.x X.b d g1 hn rfl (fun ls' h' => k κ H locs ls' r1 hH hx (has_lrel h' ⟨⟨rfl, rfl⟩, pr_filter (fun a z => !(a == i) && (!(a == i + 1) && !(a + 1 == i && z == 2))) g2⟩) hs1 hS)
theorem J_astore_n (X : Cx γ p l R s m args meth c cc own nL ret D) {kk : Fin 4} {i : Nat} {v : Value} {ls' : List (Nat × Value)} (d : decode cc pc = .ok (.astore_n kk, 1)) (hi : (kk : Nat) = i) (hn : i < nL) (hr : isr v) (hc : cok i ls) (hl' : (i, v) :: ls.filter (fun q => !(q.1 == i)) = ls') (k : J γ p l e R s m args below meth c nL b κ0 M0 Q w (pc + 1) ls' st) : J γ p l e R s m args below meth c nL b κ0 M0 Q w pc ls (v :: st) := by
  intro κ H locs lsC stC hH hx hl hs hS
  obtain ⟨c1, r1, rfl, h1, hs1⟩ := rl_c hs
  obtain ⟨lC, g1, g2⟩ := lrel_has hl
  rw [← cok_f1 hc] at hl'
  subst hl'
  rcases cv_isr h1 hr with rfl | ⟨a, rfl⟩
  · exact lv_astore_nN X.x X.b d hi g1 hn rfl (fun ls' h' => k κ H locs ls' r1 hH hx (has_lrel h' ⟨⟨rfl, h1⟩, pr_filter (fun a z => !(a == i) && !(a + 1 == i && z == 2)) g2⟩) hs1 hS)
  · exact lv_astore_n X.x X.b d hi g1 hn rfl (fun ls' h' => k κ H locs ls' r1 hH hx (has_lrel h' ⟨⟨rfl, h1⟩, pr_filter (fun a z => !(a == i) && !(a + 1 == i && z == 2)) g2⟩) hs1 hS)
theorem J_astore (X : Cx γ p l R s m args meth c cc own nL ret D) {i : Nat} {v : Value} {ls' : List (Nat × Value)} (d : decode cc pc = .ok (.astore i, 2)) (hn : i < nL) (hr : isr v) (hc : cok i ls) (hl' : (i, v) :: ls.filter (fun q => !(q.1 == i)) = ls') (k : J γ p l e R s m args below meth c nL b κ0 M0 Q w (pc + 2) ls' st) : J γ p l e R s m args below meth c nL b κ0 M0 Q w pc ls (v :: st) := by
  intro κ H locs lsC stC hH hx hl hs hS
  obtain ⟨c1, r1, rfl, h1, hs1⟩ := rl_c hs
  obtain ⟨lC, g1, g2⟩ := lrel_has hl
  rw [← cok_f1 hc] at hl'
  subst hl'
  rcases cv_isr h1 hr with rfl | ⟨a, rfl⟩
  · exact lv_astoreN X.x X.b d g1 hn rfl (fun ls' h' => k κ H locs ls' r1 hH hx (has_lrel h' ⟨⟨rfl, h1⟩, pr_filter (fun a z => !(a == i) && !(a + 1 == i && z == 2)) g2⟩) hs1 hS)
  · exact lv_astore X.x X.b d g1 hn rfl (fun ls' h' => k κ H locs ls' r1 hH hx (has_lrel h' ⟨⟨rfl, h1⟩, pr_filter (fun a z => !(a == i) && !(a + 1 == i && z == 2)) g2⟩) hs1 hS)
theorem J_iinc (X : Cx γ p l R s m args meth c cc own nL ret D) {i : Nat} {n : Int} {x v : Int32} {ls' : List (Nat × Value)} (d : decode cc pc = .ok (.iinc i n, 3)) (j : Nat) (hj : ls[j]? = some (i, .int x)) (hv : x + Int32.ofInt n = v) (hn : i < nL) (hc : cok i ls) (hl' : (i, .int v) :: ls.filter (fun q => !(q.1 == i)) = ls') (k : J γ p l e R s m args below meth c nL b κ0 M0 Q w (pc + 3) ls' st) : J γ p l e R s m args below meth c nL b κ0 M0 Q w pc ls st := by
  intro κ H locs lsC stC hH hx hl hs hS
  obtain ⟨lC, g1, g2⟩ := lrel_has hl
  have hg : ∃ c1 : Value, lC[j]? = some (i, c1) ∧ cv κ w.1 (.int x) c1 := by
    have key : ∀ (as bs : List (Nat × Value)) (j : Nat), pr κ w.1 as bs → as[j]? = some (i, .int x) → ∃ c1 : Value, bs[j]? = some (i, c1) ∧ cv κ w.1 (.int x) c1 := by
      intro as
      induction as with
      | nil => intro bs j _ h; simp at h
      | cons a as ih =>
        intro bs j hp h
        cases bs with
        | nil => exact hp.elim
        | cons d bs =>
          cases j with
          | zero =>
            simp at h
            subst h
            exact ⟨d.2, by rw [show d = (i, d.2) from Prod.ext hp.1.1.symm rfl]; simp, hp.1.2⟩
          | succ j =>
            simp at h
            obtain ⟨c1, q1, q2⟩ := ih bs j hp.2 h
            exact ⟨c1, by simpa using q1, q2⟩
    exact key ls lC j g2 hj
  obtain ⟨c1, e1, e2⟩ := hg
  obtain rfl : c1 = .int x := e2
  rw [← cok_f1 hc] at hl'
  subst hl'
  exact lv_iinc X.x X.b d g1 e1 hv hn rfl (fun ls' h' => k κ H locs ls' stC hH hx (has_lrel h' ⟨⟨rfl, rfl⟩, pr_filter (fun a z => !(a == i) && !(a + 1 == i && z == 2)) g2⟩) hs hS)
theorem J_iadd (X : Cx γ p l R s m args meth c cc own nL ret D) {x y : Int32} (d : decode cc pc = .ok (.iadd, 1)) (k : J γ p l e R s m args below meth c nL b κ0 M0 Q w (pc + 1) ls (.int (x + y) :: st)) : J γ p l e R s m args below meth c nL b κ0 M0 Q w pc ls (.int y :: .int x :: st) :=
  Jgo k fun κ lsC stC hl hs => by
    obtain ⟨c1, r1, rfl, h1, hs1⟩ := rl_c hs
    obtain ⟨c2, r2, rfl, h2, hs2⟩ := rl_c hs1
    obtain rfl : c1 = .int y := h1
    obtain rfl : c2 = .int x := h2
    exact ⟨hl, .int (x + y) :: r2, ⟨rfl, hs2⟩, fun _ _ _ _ _ _ kk => lv_iadd X.x X.b d kk⟩
theorem J_isub (X : Cx γ p l R s m args meth c cc own nL ret D) {x y : Int32} (d : decode cc pc = .ok (.isub, 1)) (k : J γ p l e R s m args below meth c nL b κ0 M0 Q w (pc + 1) ls (.int (x - y) :: st)) : J γ p l e R s m args below meth c nL b κ0 M0 Q w pc ls (.int y :: .int x :: st) :=
  Jgo k fun κ lsC stC hl hs => by
    obtain ⟨c1, r1, rfl, h1, hs1⟩ := rl_c hs
    obtain ⟨c2, r2, rfl, h2, hs2⟩ := rl_c hs1
    obtain rfl : c1 = .int y := h1
    obtain rfl : c2 = .int x := h2
    exact ⟨hl, .int (x - y) :: r2, ⟨rfl, hs2⟩, fun _ _ _ _ _ _ kk => lv_isub X.x X.b d kk⟩
theorem J_imul (X : Cx γ p l R s m args meth c cc own nL ret D) {x y : Int32} (d : decode cc pc = .ok (.imul, 1)) (k : J γ p l e R s m args below meth c nL b κ0 M0 Q w (pc + 1) ls (.int (x * y) :: st)) : J γ p l e R s m args below meth c nL b κ0 M0 Q w pc ls (.int y :: .int x :: st) :=
  Jgo k fun κ lsC stC hl hs => by
    obtain ⟨c1, r1, rfl, h1, hs1⟩ := rl_c hs
    obtain ⟨c2, r2, rfl, h2, hs2⟩ := rl_c hs1
    obtain rfl : c1 = .int y := h1
    obtain rfl : c2 = .int x := h2
    exact ⟨hl, .int (x * y) :: r2, ⟨rfl, hs2⟩, fun _ _ _ _ _ _ kk => lv_imul X.x X.b d kk⟩
theorem J_iand (X : Cx γ p l R s m args meth c cc own nL ret D) {x y : Int32} (d : decode cc pc = .ok (.iand, 1)) (k : J γ p l e R s m args below meth c nL b κ0 M0 Q w (pc + 1) ls (.int (x &&& y) :: st)) : J γ p l e R s m args below meth c nL b κ0 M0 Q w pc ls (.int y :: .int x :: st) :=
  Jgo k fun κ lsC stC hl hs => by
    obtain ⟨c1, r1, rfl, h1, hs1⟩ := rl_c hs
    obtain ⟨c2, r2, rfl, h2, hs2⟩ := rl_c hs1
    obtain rfl : c1 = .int y := h1
    obtain rfl : c2 = .int x := h2
    exact ⟨hl, .int (x &&& y) :: r2, ⟨rfl, hs2⟩, fun _ _ _ _ _ _ kk => lv_iand X.x X.b d kk⟩
theorem J_ior (X : Cx γ p l R s m args meth c cc own nL ret D) {x y : Int32} (d : decode cc pc = .ok (.ior, 1)) (k : J γ p l e R s m args below meth c nL b κ0 M0 Q w (pc + 1) ls (.int (x ||| y) :: st)) : J γ p l e R s m args below meth c nL b κ0 M0 Q w pc ls (.int y :: .int x :: st) :=
  Jgo k fun κ lsC stC hl hs => by
    obtain ⟨c1, r1, rfl, h1, hs1⟩ := rl_c hs
    obtain ⟨c2, r2, rfl, h2, hs2⟩ := rl_c hs1
    obtain rfl : c1 = .int y := h1
    obtain rfl : c2 = .int x := h2
    exact ⟨hl, .int (x ||| y) :: r2, ⟨rfl, hs2⟩, fun _ _ _ _ _ _ kk => lv_ior X.x X.b d kk⟩
theorem J_ixor (X : Cx γ p l R s m args meth c cc own nL ret D) {x y : Int32} (d : decode cc pc = .ok (.ixor, 1)) (k : J γ p l e R s m args below meth c nL b κ0 M0 Q w (pc + 1) ls (.int (x ^^^ y) :: st)) : J γ p l e R s m args below meth c nL b κ0 M0 Q w pc ls (.int y :: .int x :: st) :=
  Jgo k fun κ lsC stC hl hs => by
    obtain ⟨c1, r1, rfl, h1, hs1⟩ := rl_c hs
    obtain ⟨c2, r2, rfl, h2, hs2⟩ := rl_c hs1
    obtain rfl : c1 = .int y := h1
    obtain rfl : c2 = .int x := h2
    exact ⟨hl, .int (x ^^^ y) :: r2, ⟨rfl, hs2⟩, fun _ _ _ _ _ _ kk => lv_ixor X.x X.b d kk⟩
theorem J_ishl (X : Cx γ p l R s m args meth c cc own nL ret D) {x y : Int32} (d : decode cc pc = .ok (.ishl, 1)) (k : J γ p l e R s m args below meth c nL b κ0 M0 Q w (pc + 1) ls (.int (x <<< (y &&& 31)) :: st)) : J γ p l e R s m args below meth c nL b κ0 M0 Q w pc ls (.int y :: .int x :: st) :=
  Jgo k fun κ lsC stC hl hs => by
    obtain ⟨c1, r1, rfl, h1, hs1⟩ := rl_c hs
    obtain ⟨c2, r2, rfl, h2, hs2⟩ := rl_c hs1
    obtain rfl : c1 = .int y := h1
    obtain rfl : c2 = .int x := h2
    exact ⟨hl, .int (x <<< (y &&& 31)) :: r2, ⟨rfl, hs2⟩, fun _ _ _ _ _ _ kk => lv_ishl X.x X.b d kk⟩
theorem J_ishr (X : Cx γ p l R s m args meth c cc own nL ret D) {x y : Int32} (d : decode cc pc = .ok (.ishr, 1)) (k : J γ p l e R s m args below meth c nL b κ0 M0 Q w (pc + 1) ls (.int (x >>> (y &&& 31)) :: st)) : J γ p l e R s m args below meth c nL b κ0 M0 Q w pc ls (.int y :: .int x :: st) :=
  Jgo k fun κ lsC stC hl hs => by
    obtain ⟨c1, r1, rfl, h1, hs1⟩ := rl_c hs
    obtain ⟨c2, r2, rfl, h2, hs2⟩ := rl_c hs1
    obtain rfl : c1 = .int y := h1
    obtain rfl : c2 = .int x := h2
    exact ⟨hl, .int (x >>> (y &&& 31)) :: r2, ⟨rfl, hs2⟩, fun _ _ _ _ _ _ kk => lv_ishr X.x X.b d kk⟩
theorem J_iushr (X : Cx γ p l R s m args meth c cc own nL ret D) {x y : Int32} (d : decode cc pc = .ok (.iushr, 1)) (k : J γ p l e R s m args below meth c nL b κ0 M0 Q w (pc + 1) ls (.int ((x.toUInt32 >>> (y.toUInt32 &&& Int32.toUInt32 31)).toInt32) :: st)) : J γ p l e R s m args below meth c nL b κ0 M0 Q w pc ls (.int y :: .int x :: st) :=
  Jgo k fun κ lsC stC hl hs => by
    obtain ⟨c1, r1, rfl, h1, hs1⟩ := rl_c hs
    obtain ⟨c2, r2, rfl, h2, hs2⟩ := rl_c hs1
    obtain rfl : c1 = .int y := h1
    obtain rfl : c2 = .int x := h2
    exact ⟨hl, .int ((x.toUInt32 >>> (y.toUInt32 &&& Int32.toUInt32 31)).toInt32) :: r2, ⟨rfl, hs2⟩, fun _ _ _ _ _ _ kk => lv_iushr X.x X.b d rfl kk⟩
theorem J_idiv (X : Cx γ p l R s m args meth c cc own nL ret D) {x y : Int32} (d : decode cc pc = .ok (.idiv, 1)) (hne : ¬ y = 0) (k : J γ p l e R s m args below meth c nL b κ0 M0 Q w (pc + 1) ls (.int (x / y) :: st)) : J γ p l e R s m args below meth c nL b κ0 M0 Q w pc ls (.int y :: .int x :: st) :=
  Jgo k fun κ lsC stC hl hs => by
    obtain ⟨c1, r1, rfl, h1, hs1⟩ := rl_c hs
    obtain ⟨c2, r2, rfl, h2, hs2⟩ := rl_c hs1
    obtain rfl : c1 = .int y := h1
    obtain rfl : c2 = .int x := h2
    exact ⟨hl, .int (x / y) :: r2, ⟨rfl, hs2⟩, fun _ _ _ _ _ _ kk => lv_idiv X.x X.b d hne kk⟩
theorem J_irem (X : Cx γ p l R s m args meth c cc own nL ret D) {x y : Int32} (d : decode cc pc = .ok (.irem, 1)) (hne : ¬ y = 0) (k : J γ p l e R s m args below meth c nL b κ0 M0 Q w (pc + 1) ls (.int (x - x / y * y) :: st)) : J γ p l e R s m args below meth c nL b κ0 M0 Q w pc ls (.int y :: .int x :: st) :=
  Jgo k fun κ lsC stC hl hs => by
    obtain ⟨c1, r1, rfl, h1, hs1⟩ := rl_c hs
    obtain ⟨c2, r2, rfl, h2, hs2⟩ := rl_c hs1
    obtain rfl : c1 = .int y := h1
    obtain rfl : c2 = .int x := h2
    exact ⟨hl, .int (x - x / y * y) :: r2, ⟨rfl, hs2⟩, fun _ _ _ _ _ _ kk => lv_irem X.x X.b d hne kk⟩
theorem J_ladd (X : Cx γ p l R s m args meth c cc own nL ret D) {x y : Int64} (d : decode cc pc = .ok (.ladd, 1)) (k : J γ p l e R s m args below meth c nL b κ0 M0 Q w (pc + 1) ls (.long (x + y) :: st)) : J γ p l e R s m args below meth c nL b κ0 M0 Q w pc ls (.long y :: .long x :: st) :=
  Jgo k fun κ lsC stC hl hs => by
    obtain ⟨c1, r1, rfl, h1, hs1⟩ := rl_c hs
    obtain ⟨c2, r2, rfl, h2, hs2⟩ := rl_c hs1
    obtain rfl : c1 = .long y := h1
    obtain rfl : c2 = .long x := h2
    exact ⟨hl, .long (x + y) :: r2, ⟨rfl, hs2⟩, fun _ _ _ _ _ _ kk => lv_ladd X.x X.b d kk⟩
theorem J_lsub (X : Cx γ p l R s m args meth c cc own nL ret D) {x y : Int64} (d : decode cc pc = .ok (.lsub, 1)) (k : J γ p l e R s m args below meth c nL b κ0 M0 Q w (pc + 1) ls (.long (x - y) :: st)) : J γ p l e R s m args below meth c nL b κ0 M0 Q w pc ls (.long y :: .long x :: st) :=
  Jgo k fun κ lsC stC hl hs => by
    obtain ⟨c1, r1, rfl, h1, hs1⟩ := rl_c hs
    obtain ⟨c2, r2, rfl, h2, hs2⟩ := rl_c hs1
    obtain rfl : c1 = .long y := h1
    obtain rfl : c2 = .long x := h2
    exact ⟨hl, .long (x - y) :: r2, ⟨rfl, hs2⟩, fun _ _ _ _ _ _ kk => lv_lsub X.x X.b d kk⟩
theorem J_lmul (X : Cx γ p l R s m args meth c cc own nL ret D) {x y : Int64} (d : decode cc pc = .ok (.lmul, 1)) (k : J γ p l e R s m args below meth c nL b κ0 M0 Q w (pc + 1) ls (.long (x * y) :: st)) : J γ p l e R s m args below meth c nL b κ0 M0 Q w pc ls (.long y :: .long x :: st) :=
  Jgo k fun κ lsC stC hl hs => by
    obtain ⟨c1, r1, rfl, h1, hs1⟩ := rl_c hs
    obtain ⟨c2, r2, rfl, h2, hs2⟩ := rl_c hs1
    obtain rfl : c1 = .long y := h1
    obtain rfl : c2 = .long x := h2
    exact ⟨hl, .long (x * y) :: r2, ⟨rfl, hs2⟩, fun _ _ _ _ _ _ kk => lv_lmul X.x X.b d kk⟩
theorem J_ldiv (X : Cx γ p l R s m args meth c cc own nL ret D) {x y : Int64} (d : decode cc pc = .ok (.ldiv, 1)) (hne : ¬ y = 0) (k : J γ p l e R s m args below meth c nL b κ0 M0 Q w (pc + 1) ls (.long (x / y) :: st)) : J γ p l e R s m args below meth c nL b κ0 M0 Q w pc ls (.long y :: .long x :: st) :=
  Jgo k fun κ lsC stC hl hs => by
    obtain ⟨c1, r1, rfl, h1, hs1⟩ := rl_c hs
    obtain ⟨c2, r2, rfl, h2, hs2⟩ := rl_c hs1
    obtain rfl : c1 = .long y := h1
    obtain rfl : c2 = .long x := h2
    exact ⟨hl, .long (x / y) :: r2, ⟨rfl, hs2⟩, fun _ _ _ _ _ _ kk => lv_ldiv X.x X.b d hne kk⟩
theorem J_lrem (X : Cx γ p l R s m args meth c cc own nL ret D) {x y : Int64} (d : decode cc pc = .ok (.lrem, 1)) (hne : ¬ y = 0) (k : J γ p l e R s m args below meth c nL b κ0 M0 Q w (pc + 1) ls (.long (x - x / y * y) :: st)) : J γ p l e R s m args below meth c nL b κ0 M0 Q w pc ls (.long y :: .long x :: st) :=
  Jgo k fun κ lsC stC hl hs => by
    obtain ⟨c1, r1, rfl, h1, hs1⟩ := rl_c hs
    obtain ⟨c2, r2, rfl, h2, hs2⟩ := rl_c hs1
    obtain rfl : c1 = .long y := h1
    obtain rfl : c2 = .long x := h2
    exact ⟨hl, .long (x - x / y * y) :: r2, ⟨rfl, hs2⟩, fun _ _ _ _ _ _ kk => lv_lrem X.x X.b d hne kk⟩
theorem J_fdiv (X : Cx γ p l R s m args meth c cc own nL ret D) {x y : UInt32} (d : decode cc pc = .ok (.fdiv, 1)) (hne : vf_n32 (FP.fdiv x y)) (k : J γ p l e R s m args below meth c nL b κ0 M0 Q w (pc + 1) ls (.float (FP.fdiv x y) :: st)) : J γ p l e R s m args below meth c nL b κ0 M0 Q w pc ls (.float y :: .float x :: st) :=
  Jgo k fun κ lsC stC hl hs => by
    obtain ⟨c1, r1, rfl, h1, hs1⟩ := rl_c hs
    obtain ⟨c2, r2, rfl, h2, hs2⟩ := rl_c hs1
    obtain rfl : c1 = .float y := h1
    obtain rfl : c2 = .float x := h2
    exact ⟨hl, .float (FP.fdiv x y) :: r2, ⟨rfl, hs2⟩, fun _ _ _ _ _ _ kk => lv_fdiv X.x X.b d hne kk⟩
theorem J_ddiv (X : Cx γ p l R s m args meth c cc own nL ret D) {x y : UInt64} (d : decode cc pc = .ok (.ddiv, 1)) (hne : vf_n64 (FP.ddiv x y)) (k : J γ p l e R s m args below meth c nL b κ0 M0 Q w (pc + 1) ls (.double (FP.ddiv x y) :: st)) : J γ p l e R s m args below meth c nL b κ0 M0 Q w pc ls (.double y :: .double x :: st) :=
  Jgo k fun κ lsC stC hl hs => by
    obtain ⟨c1, r1, rfl, h1, hs1⟩ := rl_c hs
    obtain ⟨c2, r2, rfl, h2, hs2⟩ := rl_c hs1
    obtain rfl : c1 = .double y := h1
    obtain rfl : c2 = .double x := h2
    exact ⟨hl, .double (FP.ddiv x y) :: r2, ⟨rfl, hs2⟩, fun _ _ _ _ _ _ kk => lv_ddiv X.x X.b d hne kk⟩
theorem J_lcmp (X : Cx γ p l R s m args meth c cc own nL ret D) {x y : Int64} (d : decode cc pc = .ok (.lcmp, 1)) (k : J γ p l e R s m args below meth c nL b κ0 M0 Q w (pc + 1) ls (.int (lg_cmp x y) :: st)) : J γ p l e R s m args below meth c nL b κ0 M0 Q w pc ls (.long y :: .long x :: st) :=
  Jgo k fun κ lsC stC hl hs => by
    obtain ⟨c1, r1, rfl, h1, hs1⟩ := rl_c hs
    obtain ⟨c2, r2, rfl, h2, hs2⟩ := rl_c hs1
    obtain rfl : c1 = .long y := h1
    obtain rfl : c2 = .long x := h2
    exact ⟨hl, .int (lg_cmp x y) :: r2, ⟨rfl, hs2⟩, fun _ _ _ _ _ _ kk => W.lcmp X.x X.b d kk⟩
theorem J_fcmp (X : Cx γ p l R s m args meth c cc own nL ret D) {x y : UInt32} {op : CmpOp} (d : decode cc pc = .ok (.fcmp op, 1)) (k : J γ p l e R s m args below meth c nL b κ0 M0 Q w (pc + 1) ls (.int (Op.cmpValue (FP.fcmp x y) op) :: st)) : J γ p l e R s m args below meth c nL b κ0 M0 Q w pc ls (.float y :: .float x :: st) :=
  Jgo k fun κ lsC stC hl hs => by
    obtain ⟨c1, r1, rfl, h1, hs1⟩ := rl_c hs
    obtain ⟨c2, r2, rfl, h2, hs2⟩ := rl_c hs1
    obtain rfl : c1 = .float y := h1
    obtain rfl : c2 = .float x := h2
    exact ⟨hl, .int (Op.cmpValue (FP.fcmp x y) op) :: r2, ⟨rfl, hs2⟩, fun _ _ _ _ _ _ kk => lv_fcmp X.x X.b d kk⟩
theorem J_dcmp (X : Cx γ p l R s m args meth c cc own nL ret D) {x y : UInt64} {op : CmpOp} (d : decode cc pc = .ok (.dcmp op, 1)) (k : J γ p l e R s m args below meth c nL b κ0 M0 Q w (pc + 1) ls (.int (Op.cmpValue (FP.dcmp x y) op) :: st)) : J γ p l e R s m args below meth c nL b κ0 M0 Q w pc ls (.double y :: .double x :: st) :=
  Jgo k fun κ lsC stC hl hs => by
    obtain ⟨c1, r1, rfl, h1, hs1⟩ := rl_c hs
    obtain ⟨c2, r2, rfl, h2, hs2⟩ := rl_c hs1
    obtain rfl : c1 = .double y := h1
    obtain rfl : c2 = .double x := h2
    exact ⟨hl, .int (Op.cmpValue (FP.dcmp x y) op) :: r2, ⟨rfl, hs2⟩, fun _ _ _ _ _ _ kk => lv_dcmp X.x X.b d kk⟩
theorem J_ineg (X : Cx γ p l R s m args meth c cc own nL ret D) {x : Int32} (d : decode cc pc = .ok (.ineg, 1)) (k : J γ p l e R s m args below meth c nL b κ0 M0 Q w (pc + 1) ls (.int (-x) :: st)) : J γ p l e R s m args below meth c nL b κ0 M0 Q w pc ls (.int x :: st) :=
  Jgo k fun κ lsC stC hl hs => by
    obtain ⟨c1, r1, rfl, h1, hs1⟩ := rl_c hs
    obtain rfl : c1 = .int x := h1
    exact ⟨hl, .int (-x) :: r1, ⟨rfl, hs1⟩, fun _ _ _ _ _ _ kk => lv_ineg X.x X.b d kk⟩
theorem J_i2l (X : Cx γ p l R s m args meth c cc own nL ret D) {x : Int32} (d : decode cc pc = .ok (.i2l, 1)) (k : J γ p l e R s m args below meth c nL b κ0 M0 Q w (pc + 1) ls (.long (x.toInt64) :: st)) : J γ p l e R s m args below meth c nL b κ0 M0 Q w pc ls (.int x :: st) :=
  Jgo k fun κ lsC stC hl hs => by
    obtain ⟨c1, r1, rfl, h1, hs1⟩ := rl_c hs
    obtain rfl : c1 = .int x := h1
    exact ⟨hl, .long (x.toInt64) :: r1, ⟨rfl, hs1⟩, fun _ _ _ _ _ _ kk => lv_i2l X.x X.b d rfl kk⟩
theorem J_l2i (X : Cx γ p l R s m args meth c cc own nL ret D) {x : Int64} (d : decode cc pc = .ok (.l2i, 1)) (k : J γ p l e R s m args below meth c nL b κ0 M0 Q w (pc + 1) ls (.int (x.toInt32) :: st)) : J γ p l e R s m args below meth c nL b κ0 M0 Q w pc ls (.long x :: st) :=
  Jgo k fun κ lsC stC hl hs => by
    obtain ⟨c1, r1, rfl, h1, hs1⟩ := rl_c hs
    obtain rfl : c1 = .long x := h1
    exact ⟨hl, .int (x.toInt32) :: r1, ⟨rfl, hs1⟩, fun _ _ _ _ _ _ kk => lv_l2i X.x X.b d rfl kk⟩
theorem J_i2c (X : Cx γ p l R s m args meth c cc own nL ret D) {x : Int32} (d : decode cc pc = .ok (.i2c, 1)) (k : J γ p l e R s m args below meth c nL b κ0 M0 Q w (pc + 1) ls (.int ((x.toUInt32 % 65536).toInt32) :: st)) : J γ p l e R s m args below meth c nL b κ0 M0 Q w pc ls (.int x :: st) :=
  Jgo k fun κ lsC stC hl hs => by
    obtain ⟨c1, r1, rfl, h1, hs1⟩ := rl_c hs
    obtain rfl : c1 = .int x := h1
    exact ⟨hl, .int ((x.toUInt32 % 65536).toInt32) :: r1, ⟨rfl, hs1⟩, fun _ _ _ _ _ _ kk => lv_i2c X.x X.b d rfl kk⟩
theorem J_i2f (X : Cx γ p l R s m args meth c cc own nL ret D) {x : Int32} (d : decode cc pc = .ok (.i2f, 1)) (k : J γ p l e R s m args below meth c nL b κ0 M0 Q w (pc + 1) ls (.float (FP.i2f x) :: st)) : J γ p l e R s m args below meth c nL b κ0 M0 Q w pc ls (.int x :: st) :=
  Jgo k fun κ lsC stC hl hs => by
    obtain ⟨c1, r1, rfl, h1, hs1⟩ := rl_c hs
    obtain rfl : c1 = .int x := h1
    exact ⟨hl, .float (FP.i2f x) :: r1, ⟨rfl, hs1⟩, fun _ _ _ _ _ _ kk => lv_i2f X.x X.b d kk⟩
theorem J_i2d (X : Cx γ p l R s m args meth c cc own nL ret D) {x : Int32} (d : decode cc pc = .ok (.i2d, 1)) (k : J γ p l e R s m args below meth c nL b κ0 M0 Q w (pc + 1) ls (.double (FP.i2d x) :: st)) : J γ p l e R s m args below meth c nL b κ0 M0 Q w pc ls (.int x :: st) :=
  Jgo k fun κ lsC stC hl hs => by
    obtain ⟨c1, r1, rfl, h1, hs1⟩ := rl_c hs
    obtain rfl : c1 = .int x := h1
    exact ⟨hl, .double (FP.i2d x) :: r1, ⟨rfl, hs1⟩, fun _ _ _ _ _ _ kk => lv_i2d X.x X.b d kk⟩
theorem J_l2d (X : Cx γ p l R s m args meth c cc own nL ret D) {x : Int64} (d : decode cc pc = .ok (.l2d, 1)) (k : J γ p l e R s m args below meth c nL b κ0 M0 Q w (pc + 1) ls (.double (FP.l2d x) :: st)) : J γ p l e R s m args below meth c nL b κ0 M0 Q w pc ls (.long x :: st) :=
  Jgo k fun κ lsC stC hl hs => by
    obtain ⟨c1, r1, rfl, h1, hs1⟩ := rl_c hs
    obtain rfl : c1 = .long x := h1
    exact ⟨hl, .double (FP.l2d x) :: r1, ⟨rfl, hs1⟩, fun _ _ _ _ _ _ kk => lv_l2d X.x X.b d kk⟩
theorem J_f2d (X : Cx γ p l R s m args meth c cc own nL ret D) {x : UInt32} (d : decode cc pc = .ok (.f2d, 1)) (hne : vf_n64 (FP.f2d x)) (k : J γ p l e R s m args below meth c nL b κ0 M0 Q w (pc + 1) ls (.double (FP.f2d x) :: st)) : J γ p l e R s m args below meth c nL b κ0 M0 Q w pc ls (.float x :: st) :=
  Jgo k fun κ lsC stC hl hs => by
    obtain ⟨c1, r1, rfl, h1, hs1⟩ := rl_c hs
    obtain rfl : c1 = .float x := h1
    exact ⟨hl, .double (FP.f2d x) :: r1, ⟨rfl, hs1⟩, fun _ _ _ _ _ _ kk => lv_f2d X.x X.b d hne kk⟩
theorem J_dup (X : Cx γ p l R s m args meth c cc own nL ret D) {v : Value} (d : decode cc pc = .ok (.dup, 1)) (hv : v.category = 1) (k : J γ p l e R s m args below meth c nL b κ0 M0 Q w (pc + 1) ls (v :: v :: st)) : J γ p l e R s m args below meth c nL b κ0 M0 Q w pc ls (v :: st) :=
  Jgo k fun κ lsC stC hl hs => by
    obtain ⟨c1, r1, rfl, h1, hs1⟩ := rl_c hs
    exact ⟨hl, c1 :: c1 :: r1, ⟨h1, h1, hs1⟩, fun _ _ _ _ _ _ kk => lv_dup X.x X.b d ((cv_cat h1).trans hv) kk⟩
theorem J_pop (X : Cx γ p l R s m args meth c cc own nL ret D) {v : Value} (d : decode cc pc = .ok (.pop, 1)) (hv : v.category = 1) (k : J γ p l e R s m args below meth c nL b κ0 M0 Q w (pc + 1) ls st) : J γ p l e R s m args below meth c nL b κ0 M0 Q w pc ls (v :: st) :=
  Jgo k fun κ lsC stC hl hs => by
    obtain ⟨c1, r1, rfl, h1, hs1⟩ := rl_c hs
    exact ⟨hl, r1, hs1, fun _ _ _ _ _ _ kk => lv_pop X.x X.b d ((cv_cat h1).trans hv) kk⟩
theorem J_dup2 (X : Cx γ p l R s m args meth c cc own nL ret D) {v u : Value} (d : decode cc pc = .ok (.dup2, 1)) (hv : v.category = 1) (hu : u.category = 1) (k : J γ p l e R s m args below meth c nL b κ0 M0 Q w (pc + 1) ls (v :: u :: v :: u :: st)) : J γ p l e R s m args below meth c nL b κ0 M0 Q w pc ls (v :: u :: st) :=
  Jgo k fun κ lsC stC hl hs => by
    obtain ⟨c1, r1, rfl, h1, hs1⟩ := rl_c hs
    obtain ⟨c2, r2, rfl, h2, hs2⟩ := rl_c hs1
    exact ⟨hl, c1 :: c2 :: c1 :: c2 :: r2, ⟨h1, h2, h1, h2, hs2⟩, fun _ _ _ _ _ _ kk => lv_dup2_11 X.x X.b d ((cv_cat h1).trans hv) ((cv_cat h2).trans hu) kk⟩
theorem J_goto (X : Cx γ p l R s m args meth c cc own nL ret D) {off : Int} {tgt : Nat} (d : decode cc pc = .ok (.goto off, 3)) (ht : (pc : Int) + off = (tgt : Int)) (k : J γ p l e R s m args below meth c nL b κ0 M0 Q w tgt ls st) : J γ p l e R s m args below meth c nL b κ0 M0 Q w pc ls st :=
  Jgo k fun κ lsC stC hl hs => ⟨hl, stC, hs, fun _ _ _ _ _ _ kk => lv_goto X.x X.b d ht kk⟩
theorem isr_cat {v : Value} (h : isr v) : v.category = 1 := by
  cases v <;> first | rfl | exact h.elim
theorem J_if_eq (X : Cx γ p l R s m args meth c cc own nL ret D) {x : Int32} {off : Int} {tgt : Nat} (d : decode cc pc = .ok (.ifCond .eq off, 3)) (ht : (pc : Int) + off = (tgt : Int)) (kt : x = 0 → J γ p l e R s m args below meth c nL b κ0 M0 Q w tgt ls st) (kf : ¬ x = 0 → J γ p l e R s m args below meth c nL b κ0 M0 Q w (pc + 3) ls st) : J γ p l e R s m args below meth c nL b κ0 M0 Q w pc ls (.int x :: st) := by
  intro κ H locs lsC stC hH hx hl hs hS
  obtain ⟨c1, r1, rfl, h1, hs1⟩ := rl_c hs
  obtain rfl : c1 = .int x := h1
  exact lv_if_eq X.x X.b d ht (fun q => kt q κ H locs lsC r1 hH hx hl hs1 hS) (fun q => kf q κ H locs lsC r1 hH hx hl hs1 hS)
theorem J_icmp_eq (X : Cx γ p l R s m args meth c cc own nL ret D) {x y : Int32} {off : Int} {tgt : Nat} (d : decode cc pc = .ok (.if_icmp .eq off, 3)) (ht : (pc : Int) + off = (tgt : Int)) (kt : x = y → J γ p l e R s m args below meth c nL b κ0 M0 Q w tgt ls st) (kf : ¬ x = y → J γ p l e R s m args below meth c nL b κ0 M0 Q w (pc + 3) ls st) : J γ p l e R s m args below meth c nL b κ0 M0 Q w pc ls (.int y :: .int x :: st) := by
  intro κ H locs lsC stC hH hx hl hs hS
  obtain ⟨c1, r1, rfl, h1, hs1⟩ := rl_c hs
  obtain ⟨c2, r2, rfl, h2, hs2⟩ := rl_c hs1
  obtain rfl : c1 = .int y := h1
  obtain rfl : c2 = .int x := h2
  exact lv_icmp_eq X.x X.b d ht (fun q => kt q κ H locs lsC r2 hH hx hl hs2 hS) (fun q => kf q κ H locs lsC r2 hH hx hl hs2 hS)
theorem J_if_ne (X : Cx γ p l R s m args meth c cc own nL ret D) {x : Int32} {off : Int} {tgt : Nat} (d : decode cc pc = .ok (.ifCond .ne off, 3)) (ht : (pc : Int) + off = (tgt : Int)) (kt : ¬ x = 0 → J γ p l e R s m args below meth c nL b κ0 M0 Q w tgt ls st) (kf : x = 0 → J γ p l e R s m args below meth c nL b κ0 M0 Q w (pc + 3) ls st) : J γ p l e R s m args below meth c nL b κ0 M0 Q w pc ls (.int x :: st) := by
  intro κ H locs lsC stC hH hx hl hs hS
  obtain ⟨c1, r1, rfl, h1, hs1⟩ := rl_c hs
  obtain rfl : c1 = .int x := h1
  exact lv_if_ne X.x X.b d ht (fun q => kt q κ H locs lsC r1 hH hx hl hs1 hS) (fun q => kf q κ H locs lsC r1 hH hx hl hs1 hS)
theorem J_icmp_ne (X : Cx γ p l R s m args meth c cc own nL ret D) {x y : Int32} {off : Int} {tgt : Nat} (d : decode cc pc = .ok (.if_icmp .ne off, 3)) (ht : (pc : Int) + off = (tgt : Int)) (kt : ¬ x = y → J γ p l e R s m args below meth c nL b κ0 M0 Q w tgt ls st) (kf : x = y → J γ p l e R s m args below meth c nL b κ0 M0 Q w (pc + 3) ls st) : J γ p l e R s m args below meth c nL b κ0 M0 Q w pc ls (.int y :: .int x :: st) := by
  intro κ H locs lsC stC hH hx hl hs hS
  obtain ⟨c1, r1, rfl, h1, hs1⟩ := rl_c hs
  obtain ⟨c2, r2, rfl, h2, hs2⟩ := rl_c hs1
  obtain rfl : c1 = .int y := h1
  obtain rfl : c2 = .int x := h2
  exact lv_icmp_ne X.x X.b d ht (fun q => kt q κ H locs lsC r2 hH hx hl hs2 hS) (fun q => kf q κ H locs lsC r2 hH hx hl hs2 hS)
theorem J_if_lt (X : Cx γ p l R s m args meth c cc own nL ret D) {x : Int32} {off : Int} {tgt : Nat} (d : decode cc pc = .ok (.ifCond .lt off, 3)) (ht : (pc : Int) + off = (tgt : Int)) (kt : x < 0 → J γ p l e R s m args below meth c nL b κ0 M0 Q w tgt ls st) (kf : ¬ x < 0 → J γ p l e R s m args below meth c nL b κ0 M0 Q w (pc + 3) ls st) : J γ p l e R s m args below meth c nL b κ0 M0 Q w pc ls (.int x :: st) := by
  intro κ H locs lsC stC hH hx hl hs hS
  obtain ⟨c1, r1, rfl, h1, hs1⟩ := rl_c hs
  obtain rfl : c1 = .int x := h1
  exact lv_if_lt X.x X.b d ht (fun q => kt q κ H locs lsC r1 hH hx hl hs1 hS) (fun q => kf q κ H locs lsC r1 hH hx hl hs1 hS)
theorem J_icmp_lt (X : Cx γ p l R s m args meth c cc own nL ret D) {x y : Int32} {off : Int} {tgt : Nat} (d : decode cc pc = .ok (.if_icmp .lt off, 3)) (ht : (pc : Int) + off = (tgt : Int)) (kt : x < y → J γ p l e R s m args below meth c nL b κ0 M0 Q w tgt ls st) (kf : ¬ x < y → J γ p l e R s m args below meth c nL b κ0 M0 Q w (pc + 3) ls st) : J γ p l e R s m args below meth c nL b κ0 M0 Q w pc ls (.int y :: .int x :: st) := by
  intro κ H locs lsC stC hH hx hl hs hS
  obtain ⟨c1, r1, rfl, h1, hs1⟩ := rl_c hs
  obtain ⟨c2, r2, rfl, h2, hs2⟩ := rl_c hs1
  obtain rfl : c1 = .int y := h1
  obtain rfl : c2 = .int x := h2
  exact lv_icmp_lt X.x X.b d ht (fun q => kt q κ H locs lsC r2 hH hx hl hs2 hS) (fun q => kf q κ H locs lsC r2 hH hx hl hs2 hS)
theorem J_if_ge (X : Cx γ p l R s m args meth c cc own nL ret D) {x : Int32} {off : Int} {tgt : Nat} (d : decode cc pc = .ok (.ifCond .ge off, 3)) (ht : (pc : Int) + off = (tgt : Int)) (kt : 0 ≤ x → J γ p l e R s m args below meth c nL b κ0 M0 Q w tgt ls st) (kf : ¬ 0 ≤ x → J γ p l e R s m args below meth c nL b κ0 M0 Q w (pc + 3) ls st) : J γ p l e R s m args below meth c nL b κ0 M0 Q w pc ls (.int x :: st) := by
  intro κ H locs lsC stC hH hx hl hs hS
  obtain ⟨c1, r1, rfl, h1, hs1⟩ := rl_c hs
  obtain rfl : c1 = .int x := h1
  exact lv_if_ge X.x X.b d ht (fun q => kt q κ H locs lsC r1 hH hx hl hs1 hS) (fun q => kf q κ H locs lsC r1 hH hx hl hs1 hS)
theorem J_icmp_ge (X : Cx γ p l R s m args meth c cc own nL ret D) {x y : Int32} {off : Int} {tgt : Nat} (d : decode cc pc = .ok (.if_icmp .ge off, 3)) (ht : (pc : Int) + off = (tgt : Int)) (kt : y ≤ x → J γ p l e R s m args below meth c nL b κ0 M0 Q w tgt ls st) (kf : ¬ y ≤ x → J γ p l e R s m args below meth c nL b κ0 M0 Q w (pc + 3) ls st) : J γ p l e R s m args below meth c nL b κ0 M0 Q w pc ls (.int y :: .int x :: st) := by
  intro κ H locs lsC stC hH hx hl hs hS
  obtain ⟨c1, r1, rfl, h1, hs1⟩ := rl_c hs
  obtain ⟨c2, r2, rfl, h2, hs2⟩ := rl_c hs1
  obtain rfl : c1 = .int y := h1
  obtain rfl : c2 = .int x := h2
  exact lv_icmp_ge X.x X.b d ht (fun q => kt q κ H locs lsC r2 hH hx hl hs2 hS) (fun q => kf q κ H locs lsC r2 hH hx hl hs2 hS)
theorem J_if_gt (X : Cx γ p l R s m args meth c cc own nL ret D) {x : Int32} {off : Int} {tgt : Nat} (d : decode cc pc = .ok (.ifCond .gt off, 3)) (ht : (pc : Int) + off = (tgt : Int)) (kt : 0 < x → J γ p l e R s m args below meth c nL b κ0 M0 Q w tgt ls st) (kf : ¬ 0 < x → J γ p l e R s m args below meth c nL b κ0 M0 Q w (pc + 3) ls st) : J γ p l e R s m args below meth c nL b κ0 M0 Q w pc ls (.int x :: st) := by
  intro κ H locs lsC stC hH hx hl hs hS
  obtain ⟨c1, r1, rfl, h1, hs1⟩ := rl_c hs
  obtain rfl : c1 = .int x := h1
  exact lv_if_gt X.x X.b d ht (fun q => kt q κ H locs lsC r1 hH hx hl hs1 hS) (fun q => kf q κ H locs lsC r1 hH hx hl hs1 hS)
theorem J_icmp_gt (X : Cx γ p l R s m args meth c cc own nL ret D) {x y : Int32} {off : Int} {tgt : Nat} (d : decode cc pc = .ok (.if_icmp .gt off, 3)) (ht : (pc : Int) + off = (tgt : Int)) (kt : y < x → J γ p l e R s m args below meth c nL b κ0 M0 Q w tgt ls st) (kf : ¬ y < x → J γ p l e R s m args below meth c nL b κ0 M0 Q w (pc + 3) ls st) : J γ p l e R s m args below meth c nL b κ0 M0 Q w pc ls (.int y :: .int x :: st) := by
  intro κ H locs lsC stC hH hx hl hs hS
  obtain ⟨c1, r1, rfl, h1, hs1⟩ := rl_c hs
  obtain ⟨c2, r2, rfl, h2, hs2⟩ := rl_c hs1
  obtain rfl : c1 = .int y := h1
  obtain rfl : c2 = .int x := h2
  exact lv_icmp_gt X.x X.b d ht (fun q => kt q κ H locs lsC r2 hH hx hl hs2 hS) (fun q => kf q κ H locs lsC r2 hH hx hl hs2 hS)
theorem J_if_le (X : Cx γ p l R s m args meth c cc own nL ret D) {x : Int32} {off : Int} {tgt : Nat} (d : decode cc pc = .ok (.ifCond .le off, 3)) (ht : (pc : Int) + off = (tgt : Int)) (kt : x ≤ 0 → J γ p l e R s m args below meth c nL b κ0 M0 Q w tgt ls st) (kf : ¬ x ≤ 0 → J γ p l e R s m args below meth c nL b κ0 M0 Q w (pc + 3) ls st) : J γ p l e R s m args below meth c nL b κ0 M0 Q w pc ls (.int x :: st) := by
  intro κ H locs lsC stC hH hx hl hs hS
  obtain ⟨c1, r1, rfl, h1, hs1⟩ := rl_c hs
  obtain rfl : c1 = .int x := h1
  exact lv_if_le X.x X.b d ht (fun q => kt q κ H locs lsC r1 hH hx hl hs1 hS) (fun q => kf q κ H locs lsC r1 hH hx hl hs1 hS)
theorem J_icmp_le (X : Cx γ p l R s m args meth c cc own nL ret D) {x y : Int32} {off : Int} {tgt : Nat} (d : decode cc pc = .ok (.if_icmp .le off, 3)) (ht : (pc : Int) + off = (tgt : Int)) (kt : x ≤ y → J γ p l e R s m args below meth c nL b κ0 M0 Q w tgt ls st) (kf : ¬ x ≤ y → J γ p l e R s m args below meth c nL b κ0 M0 Q w (pc + 3) ls st) : J γ p l e R s m args below meth c nL b κ0 M0 Q w pc ls (.int y :: .int x :: st) := by
  intro κ H locs lsC stC hH hx hl hs hS
  obtain ⟨c1, r1, rfl, h1, hs1⟩ := rl_c hs
  obtain ⟨c2, r2, rfl, h2, hs2⟩ := rl_c hs1
  obtain rfl : c1 = .int y := h1
  obtain rfl : c2 = .int x := h2
  exact lv_icmp_le X.x X.b d ht (fun q => kt q κ H locs lsC r2 hH hx hl hs2 hS) (fun q => kf q κ H locs lsC r2 hH hx hl hs2 hS)
theorem J_ifnull (X : Cx γ p l R s m args meth c cc own nL ret D) {v : Value} {off : Int} {tgt : Nat} (d : decode cc pc = .ok (.ifnull off, 3)) (ht : (pc : Int) + off = (tgt : Int)) (hr : isr v) (kt : v = .null → J γ p l e R s m args below meth c nL b κ0 M0 Q w tgt ls st) (kf : ¬ v = .null → J γ p l e R s m args below meth c nL b κ0 M0 Q w (pc + 3) ls st) : J γ p l e R s m args below meth c nL b κ0 M0 Q w pc ls (v :: st) := by
  intro κ H locs lsC stC hH hx hl hs hS
  obtain ⟨c1, r1, rfl, h1, hs1⟩ := rl_c hs
  cases v with
  | null =>
    obtain rfl : c1 = .null := h1
    exact lv_ifnullN X.x X.b d ht (kt rfl κ H locs lsC r1 hH hx hl hs1 hS)
  | ref n =>
    obtain ⟨-, rfl⟩ := h1
    exact lv_ifnull X.x X.b d (kf (fun z => by cases z) κ H locs lsC r1 hH hx hl hs1 hS)
  | retAddr n =>
    obtain ⟨a, rfl, -⟩ := h1
    exact lv_ifnull X.x X.b d (kf (fun z => by cases z) κ H locs lsC r1 hH hx hl hs1 hS)
  | int x => exact hr.elim
  | long x => exact hr.elim
  | float x => exact hr.elim
  | double x => exact hr.elim
theorem J_ifnonnull (X : Cx γ p l R s m args meth c cc own nL ret D) {v : Value} {off : Int} {tgt : Nat} (d : decode cc pc = .ok (.ifnonnull off, 3)) (ht : (pc : Int) + off = (tgt : Int)) (hr : isr v) (kt : ¬ v = .null → J γ p l e R s m args below meth c nL b κ0 M0 Q w tgt ls st) (kf : v = .null → J γ p l e R s m args below meth c nL b κ0 M0 Q w (pc + 3) ls st) : J γ p l e R s m args below meth c nL b κ0 M0 Q w pc ls (v :: st) := by
  intro κ H locs lsC stC hH hx hl hs hS
  obtain ⟨c1, r1, rfl, h1, hs1⟩ := rl_c hs
  cases v with
  | null =>
    obtain rfl : c1 = .null := h1
    exact lv_ifnonnullN X.x X.b d (kf rfl κ H locs lsC r1 hH hx hl hs1 hS)
  | ref n =>
    obtain ⟨-, rfl⟩ := h1
    exact lv_ifnonnull X.x X.b d ht (kt (fun z => by cases z) κ H locs lsC r1 hH hx hl hs1 hS)
  | retAddr n =>
    obtain ⟨a, rfl, -⟩ := h1
    exact lv_ifnonnull X.x X.b d ht (kt (fun z => by cases z) κ H locs lsC r1 hH hx hl hs1 hS)
  | int x => exact hr.elim
  | long x => exact hr.elim
  | float x => exact hr.elim
  | double x => exact hr.elim
theorem cv_rf {κ : KK} {M : AM} {v c : Value} (h : cv κ M v c) (hv : ish v) : ∃ r : Option Nat, c = va_rf r ∧ ((v = .null ∧ r = none) ∨ ∃ n, v = .ref n ∧ M n ≠ none ∧ r = some (κ.1 n)) := by
  cases v with
  | null => exact ⟨none, h, Or.inl ⟨rfl, rfl⟩⟩
  | ref n => exact ⟨some (κ.1 n), h.2, Or.inr ⟨n, rfl, h.1, rfl⟩⟩
  | retAddr n => exact hv.elim
  | int x => exact hv.elim
  | long x => exact hv.elim
  | float x => exact hv.elim
  | double x => exact hv.elim
theorem cv_eq {κ : KK} {H : Heap} (hH : hp γ κ w H) {v u c1 c2 : Value} (h1 : cv κ w.1 v c1) (h2 : cv κ w.1 u c2) (hv : ish v) (hu : ish u) : ∃ r1 r2 : Option Nat, c1 = va_rf r1 ∧ c2 = va_rf r2 ∧ (r1 = r2 ↔ v = u) := by
  obtain ⟨r1, e1, q1⟩ := cv_rf h1 hv
  obtain ⟨r2, e2, q2⟩ := cv_rf h2 hu
  refine ⟨r1, r2, e1, e2, ?_⟩
  rcases q1 with ⟨rfl, rfl⟩ | ⟨n, rfl, g1, rfl⟩ <;> rcases q2 with ⟨rfl, rfl⟩ | ⟨n', rfl, g2, rfl⟩
  · exact ⟨fun _ => rfl, fun _ => rfl⟩
  · exact ⟨(fun z => by cases z), (fun z => by cases z)⟩
  · exact ⟨(fun z => by cases z), (fun z => by cases z)⟩
  · refine ⟨fun z => ?_, fun z => by cases z; rfl⟩
    have h9 := hH.2.1 (n, false) (n', false) g1 g2 (Option.some.inj z)
    cases h9
    rfl
theorem J_acmp_eq (X : Cx γ p l R s m args meth c cc own nL ret D) {v u : Value} {off : Int} {tgt : Nat} (d : decode cc pc = .ok (.if_acmp .eq off, 3)) (ht : (pc : Int) + off = (tgt : Int)) (hv : ish v) (hu : ish u) (kt : u = v → J γ p l e R s m args below meth c nL b κ0 M0 Q w tgt ls st) (kf : ¬ u = v → J γ p l e R s m args below meth c nL b κ0 M0 Q w (pc + 3) ls st) : J γ p l e R s m args below meth c nL b κ0 M0 Q w pc ls (v :: u :: st) := by
  intro κ H locs lsC stC hH hx hl hs hS
  obtain ⟨c1, r1, rfl, h1, hs1⟩ := rl_c hs
  obtain ⟨c2, r2, rfl, h2, hs2⟩ := rl_c hs1
  obtain ⟨a1, a2, rfl, rfl, hi⟩ := cv_eq hH h2 h1 hu hv
  exact lv_acmp_eq X.x X.b d ht (fun q => kt (hi.mp q) κ H locs lsC r2 hH hx hl hs2 hS) (fun q => kf (fun z => q (hi.mpr z)) κ H locs lsC r2 hH hx hl hs2 hS)
theorem J_acmp_ne (X : Cx γ p l R s m args meth c cc own nL ret D) {v u : Value} {off : Int} {tgt : Nat} (d : decode cc pc = .ok (.if_acmp .ne off, 3)) (ht : (pc : Int) + off = (tgt : Int)) (hv : ish v) (hu : ish u) (kt : ¬ u = v → J γ p l e R s m args below meth c nL b κ0 M0 Q w tgt ls st) (kf : u = v → J γ p l e R s m args below meth c nL b κ0 M0 Q w (pc + 3) ls st) : J γ p l e R s m args below meth c nL b κ0 M0 Q w pc ls (v :: u :: st) := by
  intro κ H locs lsC stC hH hx hl hs hS
  obtain ⟨c1, r1, rfl, h1, hs1⟩ := rl_c hs
  obtain ⟨c2, r2, rfl, h2, hs2⟩ := rl_c hs1
  obtain ⟨a1, a2, rfl, rfl, hi⟩ := cv_eq hH h2 h1 hu hv
  exact lv_acmp_ne X.x X.b d ht (fun q => kt (fun z => q (hi.mpr z)) κ H locs lsC r2 hH hx hl hs2 hS) (fun q => kf (hi.mp q) κ H locs lsC r2 hH hx hl hs2 hS)
end ROWS
