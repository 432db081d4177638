/-! Rows with the heap, and a method's ends -/
set_option maxRecDepth 100000
def gf (w : AW) (v : Value) (ci i : Nat) (K : Value → Prop) : Prop := ∃ (n : Nat) (fs : List Value) (x : Value), v = .ref n ∧ w.1 n = some (.inl (ci, fs)) ∧ fs[i]? = some x ∧ K x
def gfi (w : AW) (v : Value) (ci i : Nat) (K : Int32 → Prop) : Prop := ∃ (n : Nat) (fs : List Value) (x : Int32), v = .ref n ∧ w.1 n = some (.inl (ci, fs)) ∧ fs[i]? = some (.int x) ∧ K x
def gfl (w : AW) (v : Value) (ci i : Nat) (K : Int64 → Prop) : Prop := ∃ (n : Nat) (fs : List Value) (x : Int64), v = .ref n ∧ w.1 n = some (.inl (ci, fs)) ∧ fs[i]? = some (.long x) ∧ K x
def gfr (w : AW) (v : Value) (ci i : Nat) (K : Value → Prop) : Prop := ∃ (n : Nat) (fs : List Value) (x : Value), v = .ref n ∧ w.1 n = some (.inl (ci, fs)) ∧ fs[i]? = some x ∧ isr x ∧ K x
def pfi (w : AW) (v : Value) (ci i : Nat) (x : Int32) (K : AW → Prop) : Prop := ∃ (n : Nat) (fs : List Value), v = .ref n ∧ w.1 n = some (.inl (ci, fs)) ∧ i < fs.length ∧ K (upm w.1 n (.inl (ci, fs.set i (.int x))), w.2)
def pfl (w : AW) (v : Value) (ci i : Nat) (x : Int64) (K : AW → Prop) : Prop := ∃ (n : Nat) (fs : List Value), v = .ref n ∧ w.1 n = some (.inl (ci, fs)) ∧ i < fs.length ∧ K (upm w.1 n (.inl (ci, fs.set i (.long x))), w.2)
def pfr (w : AW) (v : Value) (ci i : Nat) (x : Value) (K : AW → Prop) : Prop := ∃ (n : Nat) (fs : List Value), v = .ref n ∧ w.1 n = some (.inl (ci, fs)) ∧ i < fs.length ∧ K (upm w.1 n (.inl (ci, fs.set i x)), w.2)
/-- a char or boolean as it is kept -/
def okt (ty : FieldType) (x : Int32) : Prop := narrow ty (.int x) = .int x ∧ fits ty (.int x) = true
def nw (w : AW) (ci cst : Nat) (fs : List Value) (K : Value → AW → Prop) : Prop := w.2 + cst ≤ LU ∧ ∀ b : Nat, (∀ n, b ≤ n → w.1 n = none) → ∃ n, w.1 n = none ∧ K (.ref n) (upm w.1 n (.inl (ci, fs)), w.2 + cst)
def nai (w : AW) (x : Int32) (K : Value → AW → Prop) : Prop := ∃ N : Nat, ¬ x < 0 ∧ x.toNatClampNeg = N ∧ N ≤ 65536 ∧ w.2 + (N + 4) ≤ LU ∧ ∀ b : Nat, (∀ n, b ≤ n → w.1 n = none) → ∃ n, w.1 n = none ∧ K (.ref n) (upm w.1 n (.inr (.inl (N, .inl (fun _ => 0)))), w.2 + (N + 4))
def nal (w : AW) (x : Int32) (K : Value → AW → Prop) : Prop := ∃ N : Nat, ¬ x < 0 ∧ x.toNatClampNeg = N ∧ N ≤ 65536 ∧ w.2 + (N + 4) ≤ LU ∧ ∀ b : Nat, (∀ n, b ≤ n → w.1 n = none) → ∃ n, w.1 n = none ∧ K (.ref n) (upm w.1 n (.inr (.inl (N, .inr (.inl (fun _ => 0))))), w.2 + (N + 4))
def nad (w : AW) (x : Int32) (K : Value → AW → Prop) : Prop := ∃ N : Nat, ¬ x < 0 ∧ x.toNatClampNeg = N ∧ N ≤ 65536 ∧ w.2 + (N + 4) ≤ LU ∧ ∀ b : Nat, (∀ n, b ≤ n → w.1 n = none) → ∃ n, w.1 n = none ∧ K (.ref n) (upm w.1 n (.inr (.inl (N, .inr (.inr (.inr (.inl (fun _ => 0))))))), w.2 + (N + 4))
def aln (w : AW) (v : Value) (K : Int32 → Prop) : Prop := ∃ (n : Nat) (a : vp_A), v = .ref n ∧ w.1 n = some (.inr (.inl a)) ∧ (∀ g, a.2 ≠ .inr (.inr (.inl g))) ∧ K (Int32.ofNat a.1)
def ald (w : AW) (v : Value) (i : Int32) (K : Int32 → Prop) : Prop := ∃ (n N : Nat) (f : Nat → Int32), v = .ref n ∧ w.1 n = some (.inr (.inl (N, .inl f))) ∧ vp_in i N ∧ K (f i.toNatClampNeg)
def ast (w : AW) (v : Value) (i x : Int32) (K : AW → Prop) : Prop := ∃ (n N : Nat) (f : Nat → Int32), v = .ref n ∧ w.1 n = some (.inr (.inl (N, .inl f))) ∧ vp_in i N ∧ K (upm w.1 n (.inr (.inl (N, .inl (upd f i.toNatClampNeg x)))), w.2)
def lld (w : AW) (v : Value) (i : Int32) (K : Int64 → Prop) : Prop := ∃ (n N : Nat) (f : Nat → Int64), v = .ref n ∧ w.1 n = some (.inr (.inl (N, .inr (.inl f)))) ∧ vp_in i N ∧ K (f i.toNatClampNeg)
def lst (w : AW) (v : Value) (i : Int32) (x : Int64) (K : AW → Prop) : Prop := ∃ (n N : Nat) (f : Nat → Int64), v = .ref n ∧ w.1 n = some (.inr (.inl (N, .inr (.inl f)))) ∧ vp_in i N ∧ K (upm w.1 n (.inr (.inl (N, .inr (.inl (vp_updL f i.toNatClampNeg x))))), w.2)
def dld (w : AW) (v : Value) (i : Int32) (K : UInt64 → Prop) : Prop := ∃ (n N : Nat) (f : Nat → UInt64), v = .ref n ∧ w.1 n = some (.inr (.inl (N, .inr (.inr (.inr (.inl f)))))) ∧ vp_in i N ∧ K (f i.toNatClampNeg)
def dst (w : AW) (v : Value) (i : Int32) (x : UInt64) (K : AW → Prop) : Prop := ∃ (n N : Nat) (f : Nat → UInt64), v = .ref n ∧ w.1 n = some (.inr (.inl (N, .inr (.inr (.inr (.inl f)))))) ∧ vp_in i N ∧ K (upm w.1 n (.inr (.inl (N, .inr (.inr (.inr (.inl (vf_upd f i.toNatClampNeg x))))))), w.2)
/-- checkcast to a class of the list, to Integer (or Comparable), to int[] -/
def ckc (w : AW) (v : Value) (ci : Nat) (K : Prop) : Prop := (v = .null ∨ ∃ (n : Nat) (fs : List Value), v = .ref n ∧ w.1 n = some (.inl (ci, fs))) ∧ K
def bx (x : Int32) : Value := .retAddr x.toBitVec.toNat
def ckb (v : Value) (K : Prop) : Prop := (∃ x, v = bx x) ∧ K
def cka (w : AW) (v : Value) (K : Prop) : Prop := (∃ (n N : Nat) (f : Nat → Int32), v = .ref n ∧ w.1 n = some (.inr (.inl (N, .inl f)))) ∧ K
def it_ {σ : Type} (body : σ → (σ → Prop) → Prop) : Nat → σ → Prop
  | 0, _ => False
  | n + 1, z => body z (it_ body n)
def Lp {σ : Type} (body : σ → (σ → Prop) → Prop) (z : σ) : Prop := ∃ n, it_ body n z
def br (c : Prop) (a b : Prop) : Prop := (c → a) ∧ (¬ c → b)
def dv (y : Int32) (K : Prop) : Prop := ¬ y = 0 ∧ K
def dvl (y : Int64) (K : Prop) : Prop := ¬ y = 0 ∧ K
def okk (ty : FieldType) (x : Int32) (K : Prop) : Prop := okt ty x ∧ K
def rtz (ty : FieldType) (x : Int32) (K : Prop) : Prop := narrow ty (.int x) = .int x ∧ K
def aqq (v u : Value) (K : Prop) : Prop := ish v ∧ ish u ∧ K
def fdv (x y : UInt32) (K : UInt32 → Prop) : Prop := vf_n32 (FP.fdiv x y) ∧ K (FP.fdiv x y)
def ddv (x y : UInt64) (K : UInt64 → Prop) : Prop := vf_n64 (FP.ddiv x y) ∧ K (FP.ddiv x y)
def fdd (x : UInt32) (K : UInt64 → Prop) : Prop := vf_n64 (FP.f2d x) ∧ K (FP.f2d x)
def tw0 (w : AW) (E : String) (Q : AOut → AW → Prop) : Prop := w.2 + 6 ≤ LU ∧ Q (.inr E) (w.1, w.2 + 6)
def nx : String → AW → Prop := fun _ _ => True
/-- the class of a name's cell -/
def aoc (e : AO) : Nat := match e with
  | .inl o => o.1
  | .inr (.inl _) => 99
  | .inr (.inr (.inl _)) => 20
  | .inr (.inr (.inr _)) => 98
def rcv (w : AW) (v : Value) (ci : Nat) : Prop := (∃ (n : Nat) (e : AO), v = .ref n ∧ w.1 n = some e ∧ aoc e = ci) ∨ (ci = 23 ∧ ∃ x, v = bx x)
def rfn (v : Value) (K : Prop) : Prop := (∃ n, v = .ref n) ∧ K
def rcc (w : AW) (v : Value) (ci : Nat) (K : Prop) : Prop := rcv w v ci ∧ K
theorem bx_rt (x : Int32) : Int32.ofNat x.toBitVec.toNat = x := by
  apply Int32.toBitVec_inj.mp
  simp [Int32.ofNat]
theorem bx_lt (x : Int32) : x.toBitVec.toNat < 4294967296 := x.toBitVec.isLt
theorem va_ldcSw0 {p : Program} {l : Launch} {e : Env} {R : Room} {s : State} {m : MethodId} {args : Array Value} {below : List Frame} {meth : Method} {c : Code} {T : State} {locs : List Loc} {cells slots : Nat}
    (X : Stand p l e R s m args below meth c T locs cells slots) (hexec : p.tables.exec = Jvm.exec) {own text : String} {index : Nat} {a : Addr} (hown : s.vm.findClass own = some m.cls)
    (hconst : (Cond.stringRef own index text).before args s = true) (hev : (Term.string own index).eval args s none [] s = some (.ref a)) {g : JFrame} (hg : g.method = m) (hdg : decode c.code g.pc = .ok (.ldc_w index, 3)) :
    ∀ target, Steps p.tables e below (T.setTop { g with pc := g.pc + 3, stack := .ref a :: g.stack }) target → Steps p.tables e below (T.setTop g) target := by
  obtain ⟨k, cf, i, a', hk, hcf, hcp, -, hr, hev'⟩ := Cond.stringRef_spec hown hconst
  cases hev.symm.trans hev'
  obtain ⟨k', hk', he⟩ := X.warmed.alike.2.2 _ _ hk
  have hr' : k'.resolved[index]? = some (some (.string a)) := by
    rcases X.warmed.entry hk hk' index with h | ⟨h, -⟩
    · rw [h]; exact hr
    · rw [hr] at h; cases h
  intro target hrest
  subst hg
  jvm_step X.here [hexec, hdg, ldc_w.wp_string (e := e) (s := T) (f := g) X.here.top hk' (by rw [he]; exact hcf) hcp hr']
  exact hrest
theorem cat_int (x : Int32) : (Value.int x).category = 1 := rfl
theorem cat_long (x : Int64) : (Value.long x).category = 2 := rfl
theorem cat_float (x : UInt32) : (Value.float x).category = 1 := rfl
theorem cat_double (x : UInt64) : (Value.double x).category = 2 := rfl
section MEM
variable {γ : GG} {p : Program} {l : Launch} {e : Env} {R : Room} {s : State} {m : MethodId} {args : Array Value} {below : List Frame} {meth : Method} {c : Code} {nL : Nat} {b : Bool} {κ0 : KK} {M0 : AM} {Q : AOut → AW → Prop} {w : AW} {pc : Nat} {ls : List (Nat × Value)} {st rest : List Value}
variable {cc : ByteArray} {own : String} {ret : Option FieldType} {D : Nat} {H : Heap} {locs : List Loc} {cells slots : Nat} {QF : State → Prop} {lsC : Array Slot} {restC : List Value}
theorem Cx.nF (X : Cx γ p l R s m args meth c cc own nL ret D) {a : String} {i : Nat} {b' n d h : String} (q : Jvm.Cond.fieldLinkNest a i b' n d h ∈ lw_tbl) : (Jvm.Cond.fieldLinkNest a i b' n d h).before args s = true := by
  obtain ⟨a0, h0⟩ := X.g.1
  exact va_Nw.use rfl (va_Nw.warmF X.w (va_Nw.of rfl (h0 _ q)))
theorem Cx.nM (X : Cx γ p l R s m args meth c cc own nL ret D) {a : String} {i : Nat} {x : MethodName} {h : String} (q : Jvm.Cond.methodLinkNest a i x h ∈ lw_tbl) : va_Nw (Jvm.Cond.methodLinkNest a i x h) s := by
  obtain ⟨a0, h0⟩ := X.g.1
  exact va_Nw.warmM X.w (va_Nw.of rfl (h0 _ q))
theorem Cx.nC (X : Cx γ p l R s m args meth c cc own nL ret D) {C T : String} (q : Jvm.Cond.castable C T ∈ lw_tbl) : va_Nw (Jvm.Cond.castable C T) s := by
  obtain ⟨a0, h0⟩ := X.g.1
  exact va_Nw.warmC X.w (va_Nw.of rfl (h0 _ q))
theorem Cx.nD (X : Cx γ p l R s m args meth c cc own nL ret D) {x : MethodName} (q : Jvm.Cond.declares x ∈ lw_tbl) : va_Nw (Jvm.Cond.declares x) s := by
  obtain ⟨a0, h0⟩ := X.g.1
  exact va_Nw.warmD X.w (va_Nw.of rfl (h0 _ q))
theorem J_gf0 (X : Cx γ p l R s m args meth c cc own nL ret D) {C : String} {T : u_T} {N ci i index : Nat} (hc : vwCl[ci]? = some (C, T, N)) (hin : ∀ w ∈ u_ws C T N, w ∈ lw_all) (hi : i < N) (hk : Jvm.Cond.fieldLink own index (T i).1 (T i).2.1 (T i).2.2.1 ∈ lw_all ∨ ∃ host, Jvm.Cond.fieldLinkNest own index (T i).1 (T i).2.1 (T i).2.2.1 host ∈ lw_tbl) (d : decode cc pc = .ok (.getfield index, 3)) {n : Nat} {fs : List Value} {v : Value} (hM : w.1 n = some (.inl (ci, fs))) (hv : fs[i]? = some v) (k : J γ p l e R s m args below meth c nL b κ0 M0 Q w (pc + 3) ls (v :: st)) : J γ p l e R s m args below meth c nL b κ0 M0 Q w pc ls (.ref n :: st) := by
  intro κ H locs lsC stC hH hx hl hs hS
  obtain ⟨c1, r1, rfl, h1, hs1⟩ := rl_c hs
  obtain ⟨hn, rfl⟩ := h1
  obtain ⟨cs, g1, g2⟩ := hH.1 n _ hM
  obtain ⟨c2, g3, g4⟩ := rl_get g1 hv
  rcases hk with hk | ⟨host, hk⟩
  · exact va_get (D := γ.2.1) (cl := vwCl) (ci := ci) X.x X.b X.t hin X.o X.K (va_P1 g2) 0 rfl hc i hi (X.t _ hk) (fun _ h => h) g3 d (k κ H locs lsC (c2 :: r1) hH hx hl ⟨g4, hs1⟩ hS)
  · exact va_getN (D := γ.2.1) (cl := vwCl) (ci := ci) X.x X.b X.t hin X.o X.K (va_P1 g2) 0 rfl hc i hi (X.nF hk) (fun _ h => h) g3 d (k κ H locs lsC (c2 :: r1) hH hx hl ⟨g4, hs1⟩ hS)
theorem J_gfi (X : Cx γ p l R s m args meth c cc own nL ret D) {C : String} {T : u_T} {N ci i index : Nat} {v : Value} {K : Int32 → Prop} (hP : gfi w v ci i K) (hc : vwCl[ci]? = some (C, T, N)) (hin : ∀ w ∈ u_ws C T N, w ∈ lw_all) (hi : i < N) (hk : Jvm.Cond.fieldLink own index (T i).1 (T i).2.1 (T i).2.2.1 ∈ lw_all) (d : decode cc pc = .ok (.getfield index, 3)) (k : ∀ x, K x → J γ p l e R s m args below meth c nL b κ0 M0 Q w (pc + 3) ls (.int x :: st)) : J γ p l e R s m args below meth c nL b κ0 M0 Q w pc ls (v :: st) := by
  obtain ⟨n, fs, x, rfl, hM, hv, hK⟩ := hP
  exact J_gf0 X hc hin hi (Or.inl hk) d hM hv (k x hK)
theorem J_gfiN (X : Cx γ p l R s m args meth c cc own nL ret D) {C host : String} {T : u_T} {N ci i index : Nat} {v : Value} {K : Int32 → Prop} (hP : gfi w v ci i K) (hc : vwCl[ci]? = some (C, T, N)) (hin : ∀ w ∈ u_ws C T N, w ∈ lw_all) (hi : i < N) (hk : Jvm.Cond.fieldLinkNest own index (T i).1 (T i).2.1 (T i).2.2.1 host ∈ lw_tbl) (d : decode cc pc = .ok (.getfield index, 3)) (k : ∀ x, K x → J γ p l e R s m args below meth c nL b κ0 M0 Q w (pc + 3) ls (.int x :: st)) : J γ p l e R s m args below meth c nL b κ0 M0 Q w pc ls (v :: st) := by
  obtain ⟨n, fs, x, rfl, hM, hv, hK⟩ := hP
  exact J_gf0 X hc hin hi (Or.inr ⟨host, hk⟩) d hM hv (k x hK)
theorem J_gfl (X : Cx γ p l R s m args meth c cc own nL ret D) {C : String} {T : u_T} {N ci i index : Nat} {v : Value} {K : Int64 → Prop} (hP : gfl w v ci i K) (hc : vwCl[ci]? = some (C, T, N)) (hin : ∀ w ∈ u_ws C T N, w ∈ lw_all) (hi : i < N) (hk : Jvm.Cond.fieldLink own index (T i).1 (T i).2.1 (T i).2.2.1 ∈ lw_all) (d : decode cc pc = .ok (.getfield index, 3)) (k : ∀ x, K x → J γ p l e R s m args below meth c nL b κ0 M0 Q w (pc + 3) ls (.long x :: st)) : J γ p l e R s m args below meth c nL b κ0 M0 Q w pc ls (v :: st) := by
  obtain ⟨n, fs, x, rfl, hM, hv, hK⟩ := hP
  exact J_gf0 X hc hin hi (Or.inl hk) d hM hv (k x hK)
theorem J_gflN (X : Cx γ p l R s m args meth c cc own nL ret D) {C host : String} {T : u_T} {N ci i index : Nat} {v : Value} {K : Int64 → Prop} (hP : gfl w v ci i K) (hc : vwCl[ci]? = some (C, T, N)) (hin : ∀ w ∈ u_ws C T N, w ∈ lw_all) (hi : i < N) (hk : Jvm.Cond.fieldLinkNest own index (T i).1 (T i).2.1 (T i).2.2.1 host ∈ lw_tbl) (d : decode cc pc = .ok (.getfield index, 3)) (k : ∀ x, K x → J γ p l e R s m args below meth c nL b κ0 M0 Q w (pc + 3) ls (.long x :: st)) : J γ p l e R s m args below meth c nL b κ0 M0 Q w pc ls (v :: st) := by
  obtain ⟨n, fs, x, rfl, hM, hv, hK⟩ := hP
  exact J_gf0 X hc hin hi (Or.inr ⟨host, hk⟩) d hM hv (k x hK)
theorem J_gfr (X : Cx γ p l R s m args meth c cc own nL ret D) {C : String} {T : u_T} {N ci i index : Nat} {v : Value} {K : Value → Prop} (hP : gfr w v ci i K) (hc : vwCl[ci]? = some (C, T, N)) (hin : ∀ w ∈ u_ws C T N, w ∈ lw_all) (hi : i < N) (hk : Jvm.Cond.fieldLink own index (T i).1 (T i).2.1 (T i).2.2.1 ∈ lw_all) (d : decode cc pc = .ok (.getfield index, 3)) (k : ∀ x, isr x → K x → J γ p l e R s m args below meth c nL b κ0 M0 Q w (pc + 3) ls (x :: st)) : J γ p l e R s m args below meth c nL b κ0 M0 Q w pc ls (v :: st) := by
  obtain ⟨n, fs, x, rfl, hM, hv, hr, hK⟩ := hP
  exact J_gf0 X hc hin hi (Or.inl hk) d hM hv (k x hr hK)
theorem J_gfrN (X : Cx γ p l R s m args meth c cc own nL ret D) {C host : String} {T : u_T} {N ci i index : Nat} {v : Value} {K : Value → Prop} (hP : gfr w v ci i K) (hc : vwCl[ci]? = some (C, T, N)) (hin : ∀ w ∈ u_ws C T N, w ∈ lw_all) (hi : i < N) (hk : Jvm.Cond.fieldLinkNest own index (T i).1 (T i).2.1 (T i).2.2.1 host ∈ lw_tbl) (d : decode cc pc = .ok (.getfield index, 3)) (k : ∀ x, isr x → K x → J γ p l e R s m args below meth c nL b κ0 M0 Q w (pc + 3) ls (x :: st)) : J γ p l e R s m args below meth c nL b κ0 M0 Q w pc ls (v :: st) := by
  obtain ⟨n, fs, x, rfl, hM, hv, hr, hK⟩ := hP
  exact J_gf0 X hc hin hi (Or.inr ⟨host, hk⟩) d hM hv (k x hr hK)
theorem put_set {D0 : va_G} {C : String} {T : u_T} {N ci i : Nat} {fs : List Value} {v : Value} {a : Nat} {cell : Cell} {H' : Heap} (hc : vwCl[ci]? = some (C, T, N)) (hi : i < N) (q2 : cell.cls = D0.1 ci) (q3 : cell.vm = .none) (q4 : ∀ k, k < N → cell.slots[D0.2 ci k]? = some (vp_V fs k)) (hap : ∀ x y, x < N → y < N → x ≠ y → (D0.2 ci) x ≠ (D0.2 ci) y) (hl : i < fs.length) (e1 : H'[a]? = some (cell.setSlot (D0.2 ci i) v)) : va_at D0 vwCl (a, .inr (ci, fs.set i v)) H' :=
  ⟨_, hc, t_OB.to (V := updV (vp_V fs) i v) ⟨_, e1, q2, q3, t_set q4 hap hi v⟩ (fun j _ => vp_updV_set hl v j)⟩
/-- a write to a field, whoever's: its heap -/
def PutH (γ : GG) (κ : KK) (w : AW) (n ci i : Nat) (fs : List Value) (v : Value) (s : State) (H : Heap) (locs : List Loc) (H1 : Heap) (locs1 : List Loc) : Prop := hp γ κ (upm w.1 n (.inl (ci, fs.set i v)), w.2) H1 ∧ va_S (An γ) s.heap H1 locs1 ∧ H1.size = H.size ∧ sd s.heap.size H1 = sd s.heap.size H
theorem putH {κ : KK} {n ci i j : Nat} {fs cs : List Value} {v cv0 : Value} {cell : Cell} {H1 : Heap} (hg : (γ.2.2.2 2) < γ.1.heap.size) (hH : hp γ κ w H) (hS : va_S (An γ) s.heap H locs) (hM : w.1 n = some (.inl (ci, fs))) (g1 : rl (cv κ w.1) fs cs) (hcv : cv κ w.1 v cv0) (q1 : H[κ.1 n]? = some cell) (e1 : H1[κ.1 n]? = some (cell.setSlot j cv0)) (e2 : H1.size = H.size) (e3 : ∀ q, q ≠ κ.1 n → H1[q]? = H[q]?) (hat : va_at γ.2.1 vwCl (κ.1 n, .inr (ci, cs.set i cv0)) H1) : PutH γ κ w n ci i fs v s H locs H1 (locs ++ [⟨κ.1 n, j⟩]) := by
  have hn : w.1 n ≠ none := by rw [hM]; exact fun h => by cases h
  have hA := (hH.2.2.1 (n, false) hn).1
  refine ⟨hp_mut hH hg hM (q := (n, false)) hn rfl ⟨cs.set i cv0, rl_mono (fun _ _ q => cv_xt (xt_upm _ _ _) q) (rl_set hcv i g1), hat⟩ ?_ e2 e3 (sd_set q1 e1 e2 e3), hS.put e2 e3 hA, e2, sd_set q1 e1 e2 e3⟩
  intro x hx
  obtain ⟨j, bb⟩ := x
  cases bb with
  | false =>
    by_cases hj : j = n
    · rw [hj]; exact hn
    · have h9 : upm w.1 n (.inl (ci, fs.set i v)) j ≠ none := hx
      rw [upm_n _ _ hj] at h9
      exact h9
  | true =>
    obtain ⟨t, h1, h2⟩ := hx
    by_cases hj : j = n
    · have h9 : upm w.1 n (.inl (ci, fs.set i v)) j = some (.inr (.inr (.inl t))) := h1
      rw [hj, upm_s] at h9
      cases h9
    · have h9 : upm w.1 n (.inl (ci, fs.set i v)) j = some (.inr (.inr (.inl t))) := h1
      rw [upm_n _ _ hj] at h9
      exact ⟨t, h9, h2⟩
/-- how a putfield's word is had: its own, a nest mate's, a final one's in a constructor -/
def PutK (own : String) (index : Nat) (T : u_T) (i : Nat) (meth : Method) : Prop := (Jvm.Cond.fieldLink own index (T i).1 (T i).2.1 (T i).2.2.1 ∈ lw_all ∧ (T i).2.2.2 = false) ∨ (∃ host, Jvm.Cond.fieldLinkNest own index (T i).1 (T i).2.1 (T i).2.2.1 host ∈ lw_tbl ∧ (T i).2.2.2 = false) ∨ (Jvm.Cond.fieldLink own index (T i).1 (T i).2.1 (T i).2.2.1 ∈ lw_all ∧ (T i).2.2.2 = true ∧ meth.name = "<init>" ∧ (T i).1 = own)
theorem J_pf0 (X : Cx γ p l R s m args meth c cc own nL ret D) {C : String} {T : u_T} {N ci i index : Nat} {ty0 : Nat → FieldType} (hc : vwCl[ci]? = some (C, T, N)) (hin : ∀ w ∈ u_ws C T N, w ∈ lw_all) (hty : ∀ k, k < N → parseFieldDescriptor (T k).2.2.1 = some (ty0 k)) (hnm : ∀ a, a < N → ∀ b, b < N → a ≠ b → (T a).2.1 ≠ (T b).2.1) (hi : i < N) (hk : PutK own index T i meth) (d : decode cc pc = .ok (.putfield index, 3)) {n : Nat} {fs : List Value} {v : Value} (hM : w.1 n = some (.inl (ci, fs))) (hl : i < fs.length) (hfit : ∀ (κ : KK) (M : AM) (c0 : Value), cv κ M v c0 → narrow (ty0 i) c0 = c0 ∧ fits (ty0 i) c0 = true) (k : J γ p l e R s m args below meth c nL b κ0 M0 Q (upm w.1 n (.inl (ci, fs.set i v)), w.2) (pc + 3) ls st) : J γ p l e R s m args below meth c nL b κ0 M0 Q w pc ls (v :: .ref n :: st) := by
  intro κ H locs lsC stC hH hx hlr hs hS
  obtain ⟨c1, r1, rfl, h1, hs1⟩ := rl_c hs
  obtain ⟨c2, r2, rfl, h2, hs2⟩ := rl_c hs1
  obtain ⟨hn, rfl⟩ := h2
  obtain ⟨cs, g1, r, z1, cell, q1, q2, q3, q4⟩ := hH.1 n _ hM
  have hr : r = (C, T, N) := Option.some.inj (z1.symm.trans hc)
  subst hr
  obtain ⟨hfn, hff⟩ := hfit κ w.1 c1 h1
  have hlen : i < cs.length := by rw [← rl_len g1]; exact hl
  have hap := va_apart (own := own) X.t hin ty0 hty hnm X.K hc
  obtain ⟨hSl, hfc, kC, hkC, hkind⟩ := X.K.1 ci _ hc
  obtain ⟨cf, kf, fi, f, hif, hsl⟩ := hSl i hi
  have hst := (u_facts hfc hkC (u_lays X.t hin hi) hif).1
  have fin : ∀ (H1 : Heap), H1[κ.1 n]? = some (cell.setSlot f.slot c1) → H1.size = H.size → (∀ q, q ≠ κ.1 n → H1[q]? = H[q]?) → W p l e R s m args below meth c H1 (locs ++ [⟨κ.1 n, f.slot⟩]) (H.size - s.heap.size) (sd s.heap.size H) (QFo b γ R s args below κ0 M0 Q) (F0 m (pc + 3) lsC r2) := by
    intro H1 e1 e2 e3
    rw [hsl] at e1 ⊢
    obtain ⟨a1, a2, a3, a4⟩ := putH (s := s) (locs := locs) X.g.2.2.1.1 hH hS hM g1 h1 q1 e1 e2 e3 (put_set hc hi q2 q3 q4 hap hlen e1)
    have hxt : xt κ w.1 κ (upm w.1 n (.inl (ci, fs.set i v))) := xt_upm _ _ _
    have hW := k κ H1 _ lsC r2 a1 (xt_tr hx hxt) (lrel_xt hxt hlr) (rl_mono (fun _ _ q => cv_xt hxt q) hs2) a2
    rw [a3, a4] at hW
    exact hW
  have hlay := X.t _ (hin _ (u_in_lay hi))
  unfold u_lay at hlay
  rcases hk with ⟨hk, hfin⟩ | ⟨host, hk, hfin⟩ | ⟨hk, hfin, hin2, hdecl⟩
  · rw [if_neg (by rw [hfin]; decide)] at hlay
    have h6 := u_store hfc hkC hkind hlay hif (hty i hi) hfn hff
    exact W.putK X.x X.b (f := f) ⟨X.o, X.t _ hk, ⟨_, _, _, hif⟩, hst⟩ (by rw [q2]; exact h6) q1 q3 (by rw [hsl]; exact k2_hasslot (q4 i hi)) rfl rfl d fin
  · rw [if_neg (by rw [hfin]; decide)] at hlay
    have h6 := u_store hfc hkC hkind hlay hif (hty i hi) hfn hff
    exact va_WputK X.x X.b (f := f) X.o (X.nF hk) hif hst (by rw [q2]; exact h6) q1 q3 (by rw [hsl]; exact k2_hasslot (q4 i hi)) rfl rfl d fin
  · rw [if_pos hfin] at hlay
    have hcf : m.cls = cf := by
      obtain ⟨_, _, c', _, _, _, -, -, hf', -, -, -, hown2, -⟩ := Cond.laysFinal_spec hlay
      have e1 : c' = cf := by have := hif.symm.trans hf'; simp at this; exact this.1.symm
      rw [hdecl] at hown2
      rw [← e1]; exact Option.some.inj (X.o.symm.trans hown2)
    have h6 := u_fits hfc hkC hkind (Or.inr hlay) hif (hty i hi) hfn hff
    exact W.putFinK X.x X.b X.o (X.t _ hk) hif hst hcf hin2 (by rw [q2]; exact h6) q1 q3 (by rw [hsl]; exact k2_hasslot (q4 i hi)) rfl rfl d fin
theorem J_pfi (X : Cx γ p l R s m args meth c cc own nL ret D) {C : String} {T : u_T} {N ci i index : Nat} {ty0 : Nat → FieldType} {v : Value} {x : Int32} {K : AW → Prop} (hP : pfi w v ci i x K) (hc : vwCl[ci]? = some (C, T, N)) (hin : ∀ w ∈ u_ws C T N, w ∈ lw_all) (hty : ∀ k, k < N → parseFieldDescriptor (T k).2.2.1 = some (ty0 k)) (hnm : ∀ a, a < N → ∀ b, b < N → a ≠ b → (T a).2.1 ≠ (T b).2.1) (hi : i < N) (hk : PutK own index T i meth) (hfit : okt (ty0 i) x) (d : decode cc pc = .ok (.putfield index, 3)) (k : ∀ w', K w' → J γ p l e R s m args below meth c nL b κ0 M0 Q w' (pc + 3) ls st) : J γ p l e R s m args below meth c nL b κ0 M0 Q w pc ls (.int x :: v :: st) := by
  obtain ⟨n, fs, rfl, hM, hl, hK⟩ := hP
  exact J_pf0 X hc hin hty hnm hi hk d hM hl (fun κ M c0 h => by obtain rfl : c0 = .int x := h; exact hfit) (k _ hK)
theorem J_pfl (X : Cx γ p l R s m args meth c cc own nL ret D) {C : String} {T : u_T} {N ci i index : Nat} {ty0 : Nat → FieldType} {v : Value} {x : Int64} {K : AW → Prop} (hP : pfl w v ci i x K) (hc : vwCl[ci]? = some (C, T, N)) (hin : ∀ w ∈ u_ws C T N, w ∈ lw_all) (hty : ∀ k, k < N → parseFieldDescriptor (T k).2.2.1 = some (ty0 k)) (hnm : ∀ a, a < N → ∀ b, b < N → a ≠ b → (T a).2.1 ≠ (T b).2.1) (hi : i < N) (hk : PutK own index T i meth) (hfit : ty0 i = .long) (d : decode cc pc = .ok (.putfield index, 3)) (k : ∀ w', K w' → J γ p l e R s m args below meth c nL b κ0 M0 Q w' (pc + 3) ls st) : J γ p l e R s m args below meth c nL b κ0 M0 Q w pc ls (.long x :: v :: st) := by
  obtain ⟨n, fs, rfl, hM, hl, hK⟩ := hP
  exact J_pf0 X hc hin hty hnm hi hk d hM hl (fun κ M c0 h => by obtain rfl : c0 = .long x := h; rw [hfit]; exact ⟨rfl, rfl⟩) (k _ hK)
def refty (ty : FieldType) : Prop := (∃ n, ty = .object n) ∨ ∃ t, ty = .array t
theorem refty_fit {ty : FieldType} (h : refty ty) {v : Value} (hv : v = .null ∨ ∃ a, v = .ref a) : narrow ty v = v ∧ fits ty v = true := by
  rcases h with ⟨n, rfl⟩ | ⟨t, rfl⟩ <;> rcases hv with rfl | ⟨a, rfl⟩ <;> exact ⟨rfl, rfl⟩
theorem J_pfr (X : Cx γ p l R s m args meth c cc own nL ret D) {C : String} {T : u_T} {N ci i index : Nat} {ty0 : Nat → FieldType} {v x : Value} {K : AW → Prop} (hP : pfr w v ci i x K) (hr : isr x) (hc : vwCl[ci]? = some (C, T, N)) (hin : ∀ w ∈ u_ws C T N, w ∈ lw_all) (hty : ∀ k, k < N → parseFieldDescriptor (T k).2.2.1 = some (ty0 k)) (hnm : ∀ a, a < N → ∀ b, b < N → a ≠ b → (T a).2.1 ≠ (T b).2.1) (hi : i < N) (hk : PutK own index T i meth) (hfit : refty (ty0 i)) (d : decode cc pc = .ok (.putfield index, 3)) (k : ∀ w', K w' → J γ p l e R s m args below meth c nL b κ0 M0 Q w' (pc + 3) ls st) : J γ p l e R s m args below meth c nL b κ0 M0 Q w pc ls (x :: v :: st) := by
  obtain ⟨n, fs, rfl, hM, hl, hK⟩ := hP
  exact J_pf0 X hc hin hty hnm hi hk d hM hl (fun κ M c0 h => refty_fit hfit (cv_isr h hr)) (k _ hK)
theorem J_ald (X : Cx γ p l R s m args meth c cc own nL ret D) {v : Value} {i : Int32} {K : Int32 → Prop} (hP : ald w v i K) (d : decode cc pc = .ok (.iaload, 1)) (k : ∀ x, K x → J γ p l e R s m args below meth c nL b κ0 M0 Q w (pc + 1) ls (.int x :: st)) : J γ p l e R s m args below meth c nL b κ0 M0 Q w pc ls (.int i :: v :: st) := by
  obtain ⟨n, N, f, rfl, hM, hin, hK⟩ := hP
  intro κ H locs lsC stC hH hx hl hs hS
  obtain ⟨c1, r1, rfl, h1, hs1⟩ := rl_c hs
  obtain ⟨c2, r2, rfl, h2, hs2⟩ := rl_c hs1
  obtain rfl : c1 = .int i := h1
  obtain ⟨hn, rfl⟩ := h2
  have hat : va_at γ.2.1 vwCl (κ.1 n, .inl (γ.2.2.1 0, (N, .inl f))) H := hH.1 n _ hM
  exact va_iald X.x X.b X.K (va_P1 hat) 0 0 rfl rfl hin d (k _ hK κ H locs lsC (.int (f i.toNatClampNeg) :: r2) hH hx hl ⟨rfl, hs2⟩ hS)
theorem J_ast (X : Cx γ p l R s m args meth c cc own nL ret D) {v : Value} {i : Int32} {x : Int32} {K : AW → Prop} (hP : ast w v i x K) (d : decode cc pc = .ok (.iastore, 1)) (k : ∀ w', K w' → J γ p l e R s m args below meth c nL b κ0 M0 Q w' (pc + 1) ls st) : J γ p l e R s m args below meth c nL b κ0 M0 Q w pc ls (.int x :: .int i :: v :: st) := by
  obtain ⟨n, N, f, rfl, hM, hin, hK⟩ := hP
  have k := k _ hK
  intro κ H locs lsC stC hH hx hl hs hS
  obtain ⟨c1, r1, rfl, h1, hs1⟩ := rl_c hs
  obtain ⟨c2, r2, rfl, h2, hs2⟩ := rl_c hs1
  obtain ⟨c3, r3, rfl, h3, hs3⟩ := rl_c hs2
  obtain rfl : c1 = .int x := h1
  obtain rfl : c2 = .int i := h2
  obtain ⟨hn, rfl⟩ := h3
  have hat : va_at γ.2.1 vwCl (κ.1 n, .inl (γ.2.2.1 0, (N, .inl f))) H := hH.1 n _ hM
  have q1 : H[κ.1 n]? = some (vp_cell (γ.2.2.1 0) (N, .inl f)) := hat
  refine W.iast X.x X.b q1 ((X.K.2 0 _ rfl).1 N (fun j => .int (f j))) (fun q => by cases q) (by show ¬ (i < 0 ∨ (arrV _ _ _).slots.size ≤ _); rw [arrV_size]; exact hin) rfl rfl d fun H1 e1 e2 e3 => ?_
  have hA := (hH.2.2.1 (n, false) hn).1
  have hsd : ∀ z, sd z H1 = sd z H := fun z => sd_set q1 e1 e2 e3
  have hat1 : va_at γ.2.1 vwCl (κ.1 n, .inl (γ.2.2.1 0, (N, .inl (upd f i.toNatClampNeg x)))) H1 := by
    show H1[κ.1 n]? = some (vp_cell _ _)
    rw [e1, vp_cell_i, vp_cell_i, arrV_store]
    congr 2
    funext q
    by_cases hq : q = i.toNatClampNeg
    · subst hq
      simp [updV, upd]
    · simp [updV, upd, hq]
  have hxt : xt κ w.1 κ (upm w.1 n (.inr (.inl (N, .inl (upd f i.toNatClampNeg x))))) := xt_upm _ _ _
  have hH1 : hp γ κ (upm w.1 n (.inr (.inl (N, .inl (upd f i.toNatClampNeg x)))), w.2) H1 := by
    refine hp_mut hH X.g.2.2.1.1 hM (q := (n, false)) hn rfl hat1 (fun y hy => ?_) e2 e3 (hsd _)
    obtain ⟨j, bb⟩ := y
    cases bb with
    | false =>
      by_cases hj : j = n
      · rw [hj]; exact hn
      · have h9 : upm w.1 n (.inr (.inl (N, .inl (upd f i.toNatClampNeg x)))) j ≠ none := hy
        rw [upm_n _ _ hj] at h9
        exact h9
    | true =>
      obtain ⟨t, h1, h2⟩ := hy
      by_cases hj : j = n
      · have h9 : upm w.1 n (.inr (.inl (N, .inl (upd f i.toNatClampNeg x)))) j = some (.inr (.inr (.inl t))) := h1
        rw [hj, upm_s] at h9
        cases h9
      · have h9 : upm w.1 n (.inr (.inl (N, .inl (upd f i.toNatClampNeg x)))) j = some (.inr (.inr (.inl t))) := h1
        rw [upm_n _ _ hj] at h9
        exact ⟨t, h9, h2⟩
  have hW := k κ H1 (locs ++ [⟨κ.1 n, i.toNatClampNeg⟩]) lsC r3 hH1 (xt_tr hx hxt) (lrel_xt hxt hl) (rl_mono (fun _ _ q => cv_xt hxt q) hs3) (hS.put e2 e3 hA)
  rw [e2, hsd] at hW
  exact hW
theorem J_lld (X : Cx γ p l R s m args meth c cc own nL ret D) {v : Value} {i : Int32} {K : Int64 → Prop} (hP : lld w v i K) (d : decode cc pc = .ok (.laload, 1)) (k : ∀ x, K x → J γ p l e R s m args below meth c nL b κ0 M0 Q w (pc + 1) ls (.long x :: st)) : J γ p l e R s m args below meth c nL b κ0 M0 Q w pc ls (.int i :: v :: st) := by
  obtain ⟨n, N, f, rfl, hM, hin, hK⟩ := hP
  intro κ H locs lsC stC hH hx hl hs hS
  obtain ⟨c1, r1, rfl, h1, hs1⟩ := rl_c hs
  obtain ⟨c2, r2, rfl, h2, hs2⟩ := rl_c hs1
  obtain rfl : c1 = .int i := h1
  obtain ⟨hn, rfl⟩ := h2
  have hat : va_at γ.2.1 vwCl (κ.1 n, .inl (γ.2.2.1 1, (N, .inr (.inl f)))) H := hH.1 n _ hM
  exact va_lald X.x X.b X.K (va_P1 hat) 0 1 rfl rfl hin d (k _ hK κ H locs lsC (.long (f i.toNatClampNeg) :: r2) hH hx hl ⟨rfl, hs2⟩ hS)
theorem J_lst (X : Cx γ p l R s m args meth c cc own nL ret D) {v : Value} {i : Int32} {x : Int64} {K : AW → Prop} (hP : lst w v i x K) (d : decode cc pc = .ok (.lastore, 1)) (k : ∀ w', K w' → J γ p l e R s m args below meth c nL b κ0 M0 Q w' (pc + 1) ls st) : J γ p l e R s m args below meth c nL b κ0 M0 Q w pc ls (.long x :: .int i :: v :: st) := by
  obtain ⟨n, N, f, rfl, hM, hin, hK⟩ := hP
  have k := k _ hK
  intro κ H locs lsC stC hH hx hl hs hS
  obtain ⟨c1, r1, rfl, h1, hs1⟩ := rl_c hs
  obtain ⟨c2, r2, rfl, h2, hs2⟩ := rl_c hs1
  obtain ⟨c3, r3, rfl, h3, hs3⟩ := rl_c hs2
  obtain rfl : c1 = .long x := h1
  obtain rfl : c2 = .int i := h2
  obtain ⟨hn, rfl⟩ := h3
  have hat : va_at γ.2.1 vwCl (κ.1 n, .inl (γ.2.2.1 1, (N, .inr (.inl f)))) H := hH.1 n _ hM
  have q1 : H[κ.1 n]? = some (vp_cell (γ.2.2.1 1) (N, .inr (.inl f))) := hat
  refine W.last X.x X.b q1 ((X.K.2 1 _ rfl).1 N (fun j => .long (f j))) (fun q => by cases q) (by show ¬ (i < 0 ∨ (arrV _ _ _).slots.size ≤ _); rw [arrV_size]; exact hin) rfl rfl d fun H1 e1 e2 e3 => ?_
  have hA := (hH.2.2.1 (n, false) hn).1
  have hsd : ∀ z, sd z H1 = sd z H := fun z => sd_set q1 e1 e2 e3
  have hat1 : va_at γ.2.1 vwCl (κ.1 n, .inl (γ.2.2.1 1, (N, .inr (.inl (vp_updL f i.toNatClampNeg x))))) H1 := by
    show H1[κ.1 n]? = some (vp_cell _ _)
    rw [e1, vp_cell_l, vp_cell_l, arrV_store]
    congr 2
    funext q
    by_cases hq : q = i.toNatClampNeg
    · subst hq
      simp [updV, vp_updL]
    · simp [updV, vp_updL, hq]
  have hxt : xt κ w.1 κ (upm w.1 n (.inr (.inl (N, .inr (.inl (vp_updL f i.toNatClampNeg x)))))) := xt_upm _ _ _
  have hH1 : hp γ κ (upm w.1 n (.inr (.inl (N, .inr (.inl (vp_updL f i.toNatClampNeg x))))), w.2) H1 := by
    refine hp_mut hH X.g.2.2.1.1 hM (q := (n, false)) hn rfl hat1 (fun y hy => ?_) e2 e3 (hsd _)
    obtain ⟨j, bb⟩ := y
    cases bb with
    | false =>
      by_cases hj : j = n
      · rw [hj]; exact hn
      · have h9 : upm w.1 n (.inr (.inl (N, .inr (.inl (vp_updL f i.toNatClampNeg x))))) j ≠ none := hy
        rw [upm_n _ _ hj] at h9
        exact h9
    | true =>
      obtain ⟨t, h1, h2⟩ := hy
      by_cases hj : j = n
      · have h9 : upm w.1 n (.inr (.inl (N, .inr (.inl (vp_updL f i.toNatClampNeg x))))) j = some (.inr (.inr (.inl t))) := h1
        rw [hj, upm_s] at h9
        cases h9
      · have h9 : upm w.1 n (.inr (.inl (N, .inr (.inl (vp_updL f i.toNatClampNeg x))))) j = some (.inr (.inr (.inl t))) := h1
        rw [upm_n _ _ hj] at h9
        exact ⟨t, h9, h2⟩
  have hW := k κ H1 (locs ++ [⟨κ.1 n, i.toNatClampNeg⟩]) lsC r3 hH1 (xt_tr hx hxt) (lrel_xt hxt hl) (rl_mono (fun _ _ q => cv_xt hxt q) hs3) (hS.put e2 e3 hA)
  rw [e2, hsd] at hW
  exact hW
theorem J_dld (X : Cx γ p l R s m args meth c cc own nL ret D) {v : Value} {i : Int32} {K : UInt64 → Prop} (hP : dld w v i K) (d : decode cc pc = .ok (.daload, 1)) (k : ∀ x, K x → J γ p l e R s m args below meth c nL b κ0 M0 Q w (pc + 1) ls (.double x :: st)) : J γ p l e R s m args below meth c nL b κ0 M0 Q w pc ls (.int i :: v :: st) := by
  obtain ⟨n, N, f, rfl, hM, hin, hK⟩ := hP
  intro κ H locs lsC stC hH hx hl hs hS
  obtain ⟨c1, r1, rfl, h1, hs1⟩ := rl_c hs
  obtain ⟨c2, r2, rfl, h2, hs2⟩ := rl_c hs1
  obtain rfl : c1 = .int i := h1
  obtain ⟨hn, rfl⟩ := h2
  have hat : va_at γ.2.1 vwCl (κ.1 n, .inl (γ.2.2.1 2, (N, .inr (.inr (.inr (.inl f)))))) H := hH.1 n _ hM
  exact va_dald X.x X.b X.K (va_P1 hat) 0 2 rfl rfl hin d (k _ hK κ H locs lsC (.double (f i.toNatClampNeg) :: r2) hH hx hl ⟨rfl, hs2⟩ hS)
theorem J_dst (X : Cx γ p l R s m args meth c cc own nL ret D) {v : Value} {i : Int32} {x : UInt64} {K : AW → Prop} (hP : dst w v i x K) (d : decode cc pc = .ok (.dastore, 1)) (k : ∀ w', K w' → J γ p l e R s m args below meth c nL b κ0 M0 Q w' (pc + 1) ls st) : J γ p l e R s m args below meth c nL b κ0 M0 Q w pc ls (.double x :: .int i :: v :: st) := by
  obtain ⟨n, N, f, rfl, hM, hin, hK⟩ := hP
  have k := k _ hK
  intro κ H locs lsC stC hH hx hl hs hS
  obtain ⟨c1, r1, rfl, h1, hs1⟩ := rl_c hs
  obtain ⟨c2, r2, rfl, h2, hs2⟩ := rl_c hs1
  obtain ⟨c3, r3, rfl, h3, hs3⟩ := rl_c hs2
  obtain rfl : c1 = .double x := h1
  obtain rfl : c2 = .int i := h2
  obtain ⟨hn, rfl⟩ := h3
  have hat : va_at γ.2.1 vwCl (κ.1 n, .inl (γ.2.2.1 2, (N, .inr (.inr (.inr (.inl f)))))) H := hH.1 n _ hM
  have q1 : H[κ.1 n]? = some (vp_cell (γ.2.2.1 2) (N, .inr (.inr (.inr (.inl f))))) := hat
  refine W.dast X.x X.b q1 ((X.K.2 2 _ rfl).1 N (fun j => .double (f j))) (fun q => by cases q) (by show ¬ (i < 0 ∨ (arrV _ _ _).slots.size ≤ _); rw [arrV_size]; exact hin) rfl rfl d fun H1 e1 e2 e3 => ?_
  have hA := (hH.2.2.1 (n, false) hn).1
  have hsd : ∀ z, sd z H1 = sd z H := fun z => sd_set q1 e1 e2 e3
  have hat1 : va_at γ.2.1 vwCl (κ.1 n, .inl (γ.2.2.1 2, (N, .inr (.inr (.inr (.inl (vf_upd f i.toNatClampNeg x))))))) H1 := by
    show H1[κ.1 n]? = some (vp_cell _ _)
    rw [e1, vp_cell_d, vp_cell_d, arrV_store]
    congr 2
    funext q
    by_cases hq : q = i.toNatClampNeg
    · subst hq
      simp [updV, vf_upd]
    · simp [updV, vf_upd, hq]
  have hxt : xt κ w.1 κ (upm w.1 n (.inr (.inl (N, .inr (.inr (.inr (.inl (vf_upd f i.toNatClampNeg x)))))))) := xt_upm _ _ _
  have hH1 : hp γ κ (upm w.1 n (.inr (.inl (N, .inr (.inr (.inr (.inl (vf_upd f i.toNatClampNeg x))))))), w.2) H1 := by
    refine hp_mut hH X.g.2.2.1.1 hM (q := (n, false)) hn rfl hat1 (fun y hy => ?_) e2 e3 (hsd _)
    obtain ⟨j, bb⟩ := y
    cases bb with
    | false =>
      by_cases hj : j = n
      · rw [hj]; exact hn
      · have h9 : upm w.1 n (.inr (.inl (N, .inr (.inr (.inr (.inl (vf_upd f i.toNatClampNeg x))))))) j ≠ none := hy
        rw [upm_n _ _ hj] at h9
        exact h9
    | true =>
      obtain ⟨t, h1, h2⟩ := hy
      by_cases hj : j = n
      · have h9 : upm w.1 n (.inr (.inl (N, .inr (.inr (.inr (.inl (vf_upd f i.toNatClampNeg x))))))) j = some (.inr (.inr (.inl t))) := h1
        rw [hj, upm_s] at h9
        cases h9
      · have h9 : upm w.1 n (.inr (.inl (N, .inr (.inr (.inr (.inl (vf_upd f i.toNatClampNeg x))))))) j = some (.inr (.inr (.inl t))) := h1
        rw [upm_n _ _ hj] at h9
        exact ⟨t, h9, h2⟩
  have hW := k κ H1 (locs ++ [⟨κ.1 n, i.toNatClampNeg⟩]) lsC r3 hH1 (xt_tr hx hxt) (lrel_xt hxt hl) (rl_mono (fun _ _ q => cv_xt hxt q) hs3) (hS.put e2 e3 hA)
  rw [e2, hsd] at hW
  exact hW
theorem J_aln (X : Cx γ p l R s m args meth c cc own nL ret D) {v : Value} {K : Int32 → Prop} (hP : aln w v K) (d : decode cc pc = .ok (.arraylength, 1)) (k : ∀ x, K x → J γ p l e R s m args below meth c nL b κ0 M0 Q w (pc + 1) ls (.int x :: st)) : J γ p l e R s m args below meth c nL b κ0 M0 Q w pc ls (v :: st) := by
  obtain ⟨n, a, rfl, hM, hnf, hK⟩ := hP
  intro κ H locs lsC stC hH hx hl hs hS
  obtain ⟨c1, r1, rfl, h1, hs1⟩ := rl_c hs
  obtain ⟨hn, rfl⟩ := h1
  have hat : va_at γ.2.1 vwCl (κ.1 n, .inl (arid γ a, a)) H := hH.1 n _ hM
  have kk := k _ hK κ H locs lsC (.int (Int32.ofNat a.1) :: r1) hH hx hl ⟨rfl, hs1⟩ hS
  obtain ⟨N, f | f | f | f | f⟩ := a
  · exact va_alen (tys := tysL γ) X.x X.b X.K (va_P1 hat) 0 0 rfl (ty := .int) rfl rfl d kk
  · exact va_alen (tys := tysL γ) X.x X.b X.K (va_P1 hat) 0 1 rfl (ty := .long) rfl rfl d kk
  · exact absurd rfl (hnf f)
  · exact va_alen (tys := tysL γ) X.x X.b X.K (va_P1 hat) 0 2 rfl (ty := .double) rfl rfl d kk
  · exact va_alen (tys := tysL γ) X.x X.b X.K (va_P1 hat) 0 3 rfl (ty := .object "java/lang/Object") rfl rfl d kk
def dflt (fs : List Value) : Bool := fs.all (fun v => match v with | .ref _ => false | .retAddr _ => false | _ => true)
theorem dflt_rl {κ : KK} {M : AM} : ∀ {fs : List Value}, dflt fs = true → rl (cv κ M) fs fs
  | [], _ => trivial
  | v :: fs, h => by
    simp only [dflt, List.all_cons, Bool.and_eq_true] at h
    refine ⟨?_, dflt_rl (fs := fs) h.2⟩
    cases v with
    | ref n => exact Bool.noConfusion h.1
    | retAddr n => exact Bool.noConfusion h.1
    | int x => rfl
    | long x => rfl
    | float x => rfl
    | double x => rfl
    | null => rfl
theorem rmh1 (X : Cx γ p l R s m args meth c cc own nL ret D) {κ : KK} {T : State} {cst N : Nat} (hH : hp γ κ w H) (hcst : w.2 + cst ≤ LU) (h4 : 4 ≤ cst) (hN : N ≤ cst) (Y : Stand p l e R s m args below meth c T locs cells slots) (hT : T.heap = H) : (H.size - s.heap.size) + 1 ≤ R.cells ∧ sd s.heap.size H + N ≤ R.slots ∧ s.heap.size ≤ H.size := by
  obtain ⟨f1, f2⟩ := sd_of X.h.1 Y hT
  obtain ⟨-, -, -, -, -, ⟨b6, -⟩, b7, b8, -⟩ := hH
  obtain ⟨-, -, r1, r2⟩ := X.rm
  have r0 := X.h.1
  have hLU : LU = 4800576 := rfl
  rw [r1, r2]
  refine ⟨by omega, by omega, f1⟩
theorem J_new (X : Cx γ p l R s m args meth c cc own nL ret D) {C : String} {T : u_T} {N ci index cst : Nat} {ty0 : Nat → FieldType} {fs : List Value} {K : Value → AW → Prop} (hP : nw w ci cst fs K) (hc : vwCl[ci]? = some (C, T, N)) (hin : ∀ w ∈ u_ws C T N, w ∈ lw_all) (hty : ∀ k, k < N → parseFieldDescriptor (T k).2.2.1 = some (ty0 k)) (hcl : Jvm.Cond.classLink own index C ∈ lw_all) (hins : Jvm.Cond.instantiable C N ∈ lw_all) (hini : Jvm.Cond.initialized C ∈ lw_all) (hfs : ∀ j, j < N → defaultValue (ty0 j) = vp_V fs j) (hdf : dflt fs = true) (h4 : 4 ≤ cst) (hN : N ≤ cst) (d : decode cc pc = .ok (.new index, 3)) (k : ∀ v w', (∃ n, v = .ref n) → K v w' → J γ p l e R s m args below meth c nL b κ0 M0 Q w' (pc + 3) ls (v :: st)) : J γ p l e R s m args below meth c nL b κ0 M0 Q w pc ls st := by
  intro κ H locs lsC stC hH hx hl hs hS
  obtain ⟨hcst, hnm⟩ := hP
  obtain ⟨bb, hbb, -⟩ := hH.2.2.2.2.1
  obtain ⟨n, hn, hK⟩ := hnm bb hbb
  refine W_fact (fun T hT Y => rmh1 X hH hcst h4 hN Y hT) fun hR => ?_
  obtain ⟨hR1, hR2, hR3⟩ := hR
  have hKn := X.K.1 ci _ hc
  refine W.newc X.x X.b X.o (X.t _ hcl) (X.t _ hins) (X.t _ hini) rfl d hR1 hR2 fun cC kC hfC hkC hkd hsz => ?_
  have hcC : cC = γ.2.1.1 ci := Option.some.inj (hfC.symm.trans hKn.2.1)
  subst hcC
  generalize hcell : ({ cls := γ.2.1.1 ci, slots := kC.instanceTypes.map defaultValue, vm := .none } : Cell) = cell
  have e1 : (H.push cell)[H.size]? = some (blank (γ.2.1.1 ci) kC) := by rw [← hcell]; simp [blank]
  have o1 : ∀ x, x < H.size → (H.push cell)[x]? = H[x]? := fun x hx => by rw [Array.getElem?_push, if_neg (Nat.ne_of_lt hx)]
  have hcs : cell.slots.size = N := by rw [← hcell]; simp [hsz]
  have hn0 : γ.1.heap.size ≤ H.size := hH.2.2.2.2.2.1.1
  have hsd : ∀ z, z ≤ H.size → sd z (H.push cell) = sd z H + N := fun z hz => by rw [sd_push _ hz, hcs]
  obtain ⟨b7, b8, -⟩ := hH.2.2.2.2.2.2
  have hnew := hp_new hH X.g.2.2.1.1 hn (e' := .inl (ci, fs)) (u := w.2 + cst) (H1 := H.push cell) hcst (fun t h => by cases h) (by simp) o1 ⟨fs, dflt_rl hdf, ⟨_, hc, by
    have h9 := (u_born ty0 X.t hin hKn hkC e1 hty).to hfs
    show t_OB (if n = n then H.size else κ.1 n) _ _ _ _ _
    rw [if_pos rfl]
    exact h9⟩⟩ (by simp; omega) (by rw [hsd _ hn0]; omega)
  obtain ⟨hH1, hxt⟩ := hnew
  have hW := k (.ref n) _ ⟨n, rfl⟩ hK _ (H.push cell) locs lsC (.ref H.size :: stC) hH1 (xt_tr hx hxt) (lrel_xt hxt hl) ⟨⟨by show upm w.1 n _ n ≠ none; rw [upm_s]; exact fun h => by (cases h), by show Value.ref H.size = .ref (if n = n then H.size else κ.1 n); rw [if_pos rfl]⟩, rl_mono (fun _ _ q => cv_xt hxt q) hs⟩ ⟨by simp; omega, fun x h1 h2 => (o1 x (by omega)).trans (hS.2.1 x h1 h2), hS.2.2⟩
  exact W_t hW
theorem J_nai (X : Cx γ p l R s m args meth c cc own nL ret D) {x : Int32} {K : Value → AW → Prop} (hP : nai w x K) (harr : Jvm.Cond.arrayClass .int ∈ lw_all) (d : decode cc pc = .ok (.newarray .int, 2)) (k : ∀ v w', (∃ n, v = .ref n) → K v w' → J γ p l e R s m args below meth c nL b κ0 M0 Q w' (pc + 2) ls (v :: st)) : J γ p l e R s m args below meth c nL b κ0 M0 Q w pc ls (.int x :: st) := by
  intro κ H locs lsC stC hH hx hl hs hS
  obtain ⟨c1, r1, rfl, h1, hs1⟩ := rl_c hs
  obtain rfl : c1 = .int x := h1
  obtain ⟨N, hx0, hxN, hN, hcst, hnm⟩ := hP
  obtain ⟨bb, hbb, -⟩ := hH.2.2.2.2.1
  obtain ⟨n, hn, hK⟩ := hnm bb hbb
  refine W_fact (fun T hT Y => rmh1 X (N := N) hH hcst (by omega) (by omega) Y hT) fun hR => ?_
  obtain ⟨hR1, hR2, hR3⟩ := hR
  subst hxN
  refine W.newa (atype := .int) X.x X.b (X.t _ harr) rfl d rfl hx0 (by show x.toNatClampNeg * 4 ≤ 536870912; omega) hR1 hR2 fun cA kA comp h1 h2 h3 => ?_
  have hcA : cA = γ.2.2.1 0 := by
    have h9 : va_RA s (γ.2.2.1 0) .int := (X.K.2 0 _ rfl).2
    exact Option.some.inj (h1.symm.trans h9)
  subst hcA
  generalize hcell : ({ cls := γ.2.2.1 0, slots := Array.replicate x.toNatClampNeg (defaultValue (newarray.typeOf .int)), vm := .none } : Cell) = cell
  have o1 : ∀ q, q < H.size → (H.push cell)[q]? = H[q]? := fun q hq => by rw [Array.getElem?_push, if_neg (Nat.ne_of_lt hq)]
  have hcs : cell.slots.size = x.toNatClampNeg := by rw [← hcell]; simp
  have hn0 : γ.1.heap.size ≤ H.size := hH.2.2.2.2.2.1.1
  have hsd : ∀ z, z ≤ H.size → sd z (H.push cell) = sd z H + x.toNatClampNeg := fun z hz => by rw [sd_push _ hz, hcs]
  obtain ⟨b7, b8, -⟩ := hH.2.2.2.2.2.2
  have hnew := hp_new hH X.g.2.2.1.1 hn (e' := .inr (.inl (x.toNatClampNeg, .inl (fun _ => 0)))) (u := w.2 + (x.toNatClampNeg + 4)) (H1 := H.push cell) hcst (fun t h => by cases h) (by simp) o1 (by
    show (H.push cell)[if n = n then H.size else κ.1 n]? = some (vp_cell _ _)
    rw [if_pos rfl, ← hcell, arrV_new]
    simp
    rfl) (by simp; omega) (by rw [hsd _ hn0]; omega)
  obtain ⟨hH1, hxt⟩ := hnew
  have hW := k (.ref n) _ ⟨n, rfl⟩ hK _ (H.push cell) locs lsC (.ref H.size :: r1) hH1 (xt_tr hx hxt) (lrel_xt hxt hl) ⟨⟨by show upm w.1 n _ n ≠ none; rw [upm_s]; exact fun h => by (cases h), by show Value.ref H.size = .ref (if n = n then H.size else κ.1 n); rw [if_pos rfl]⟩, rl_mono (fun _ _ q => cv_xt hxt q) hs1⟩ ⟨by simp; omega, fun x h1 h2 => (o1 x (by omega)).trans (hS.2.1 x h1 h2), hS.2.2⟩
  exact W_t hW
theorem J_nal (X : Cx γ p l R s m args meth c cc own nL ret D) {x : Int32} {K : Value → AW → Prop} (hP : nal w x K) (harr : Jvm.Cond.arrayClass .long ∈ lw_all) (d : decode cc pc = .ok (.newarray .long, 2)) (k : ∀ v w', (∃ n, v = .ref n) → K v w' → J γ p l e R s m args below meth c nL b κ0 M0 Q w' (pc + 2) ls (v :: st)) : J γ p l e R s m args below meth c nL b κ0 M0 Q w pc ls (.int x :: st) := by
  intro κ H locs lsC stC hH hx hl hs hS
  obtain ⟨c1, r1, rfl, h1, hs1⟩ := rl_c hs
  obtain rfl : c1 = .int x := h1
  obtain ⟨N, hx0, hxN, hN, hcst, hnm⟩ := hP
  obtain ⟨bb, hbb, -⟩ := hH.2.2.2.2.1
  obtain ⟨n, hn, hK⟩ := hnm bb hbb
  refine W_fact (fun T hT Y => rmh1 X (N := N) hH hcst (by omega) (by omega) Y hT) fun hR => ?_
  obtain ⟨hR1, hR2, hR3⟩ := hR
  subst hxN
  refine W.newa (atype := .long) X.x X.b (X.t _ harr) rfl d rfl hx0 (by show x.toNatClampNeg * 8 ≤ 536870912; omega) hR1 hR2 fun cA kA comp h1 h2 h3 => ?_
  have hcA : cA = γ.2.2.1 1 := by
    have h9 : va_RA s (γ.2.2.1 1) .long := (X.K.2 1 _ rfl).2
    exact Option.some.inj (h1.symm.trans h9)
  subst hcA
  generalize hcell : ({ cls := γ.2.2.1 1, slots := Array.replicate x.toNatClampNeg (defaultValue (newarray.typeOf .long)), vm := .none } : Cell) = cell
  have o1 : ∀ q, q < H.size → (H.push cell)[q]? = H[q]? := fun q hq => by rw [Array.getElem?_push, if_neg (Nat.ne_of_lt hq)]
  have hcs : cell.slots.size = x.toNatClampNeg := by rw [← hcell]; simp
  have hn0 : γ.1.heap.size ≤ H.size := hH.2.2.2.2.2.1.1
  have hsd : ∀ z, z ≤ H.size → sd z (H.push cell) = sd z H + x.toNatClampNeg := fun z hz => by rw [sd_push _ hz, hcs]
  obtain ⟨b7, b8, -⟩ := hH.2.2.2.2.2.2
  have hnew := hp_new hH X.g.2.2.1.1 hn (e' := .inr (.inl (x.toNatClampNeg, .inr (.inl (fun _ => 0))))) (u := w.2 + (x.toNatClampNeg + 4)) (H1 := H.push cell) hcst (fun t h => by cases h) (by simp) o1 (by
    show (H.push cell)[if n = n then H.size else κ.1 n]? = some (vp_cell _ _)
    rw [if_pos rfl, ← hcell, arrV_new]
    simp
    rfl) (by simp; omega) (by rw [hsd _ hn0]; omega)
  obtain ⟨hH1, hxt⟩ := hnew
  have hW := k (.ref n) _ ⟨n, rfl⟩ hK _ (H.push cell) locs lsC (.ref H.size :: r1) hH1 (xt_tr hx hxt) (lrel_xt hxt hl) ⟨⟨by show upm w.1 n _ n ≠ none; rw [upm_s]; exact fun h => by (cases h), by show Value.ref H.size = .ref (if n = n then H.size else κ.1 n); rw [if_pos rfl]⟩, rl_mono (fun _ _ q => cv_xt hxt q) hs1⟩ ⟨by simp; omega, fun x h1 h2 => (o1 x (by omega)).trans (hS.2.1 x h1 h2), hS.2.2⟩
  exact W_t hW
theorem J_nad (X : Cx γ p l R s m args meth c cc own nL ret D) {x : Int32} {K : Value → AW → Prop} (hP : nad w x K) (harr : Jvm.Cond.arrayClass .double ∈ lw_all) (d : decode cc pc = .ok (.newarray .double, 2)) (k : ∀ v w', (∃ n, v = .ref n) → K v w' → J γ p l e R s m args below meth c nL b κ0 M0 Q w' (pc + 2) ls (v :: st)) : J γ p l e R s m args below meth c nL b κ0 M0 Q w pc ls (.int x :: st) := by
  intro κ H locs lsC stC hH hx hl hs hS
  obtain ⟨c1, r1, rfl, h1, hs1⟩ := rl_c hs
  obtain rfl : c1 = .int x := h1
  obtain ⟨N, hx0, hxN, hN, hcst, hnm⟩ := hP
  obtain ⟨bb, hbb, -⟩ := hH.2.2.2.2.1
  obtain ⟨n, hn, hK⟩ := hnm bb hbb
  refine W_fact (fun T hT Y => rmh1 X (N := N) hH hcst (by omega) (by omega) Y hT) fun hR => ?_
  obtain ⟨hR1, hR2, hR3⟩ := hR
  subst hxN
  refine W.newa (atype := .double) X.x X.b (X.t _ harr) rfl d rfl hx0 (by show x.toNatClampNeg * 8 ≤ 536870912; omega) hR1 hR2 fun cA kA comp h1 h2 h3 => ?_
  have hcA : cA = γ.2.2.1 2 := by
    have h9 : va_RA s (γ.2.2.1 2) .double := (X.K.2 2 _ rfl).2
    exact Option.some.inj (h1.symm.trans h9)
  subst hcA
  generalize hcell : ({ cls := γ.2.2.1 2, slots := Array.replicate x.toNatClampNeg (defaultValue (newarray.typeOf .double)), vm := .none } : Cell) = cell
  have o1 : ∀ q, q < H.size → (H.push cell)[q]? = H[q]? := fun q hq => by rw [Array.getElem?_push, if_neg (Nat.ne_of_lt hq)]
  have hcs : cell.slots.size = x.toNatClampNeg := by rw [← hcell]; simp
  have hn0 : γ.1.heap.size ≤ H.size := hH.2.2.2.2.2.1.1
  have hsd : ∀ z, z ≤ H.size → sd z (H.push cell) = sd z H + x.toNatClampNeg := fun z hz => by rw [sd_push _ hz, hcs]
  obtain ⟨b7, b8, -⟩ := hH.2.2.2.2.2.2
  have hnew := hp_new hH X.g.2.2.1.1 hn (e' := .inr (.inl (x.toNatClampNeg, .inr (.inr (.inr (.inl (fun _ => 0))))))) (u := w.2 + (x.toNatClampNeg + 4)) (H1 := H.push cell) hcst (fun t h => by cases h) (by simp) o1 (by
    show (H.push cell)[if n = n then H.size else κ.1 n]? = some (vp_cell _ _)
    rw [if_pos rfl, ← hcell, arrV_new]
    simp
    rfl) (by simp; omega) (by rw [hsd _ hn0]; omega)
  obtain ⟨hH1, hxt⟩ := hnew
  have hW := k (.ref n) _ ⟨n, rfl⟩ hK _ (H.push cell) locs lsC (.ref H.size :: r1) hH1 (xt_tr hx hxt) (lrel_xt hxt hl) ⟨⟨by show upm w.1 n _ n ≠ none; rw [upm_s]; exact fun h => by (cases h), by show Value.ref H.size = .ref (if n = n then H.size else κ.1 n); rw [if_pos rfl]⟩, rl_mono (fun _ _ q => cv_xt hxt q) hs1⟩ ⟨by simp; omega, fun x h1 h2 => (o1 x (by omega)).trans (hS.2.1 x h1 h2), hS.2.2⟩
  exact W_t hW
theorem J_ckc (X : Cx γ p l R s m args meth c cc own nL ret D) {C : String} {T : u_T} {N ci index : Nat} {v : Value} {K : Prop} (hP : ckc w v ci K) (hc : vwCl[ci]? = some (C, T, N)) (hlink : Jvm.Cond.classLink own index C ∈ lw_all) (d : decode cc pc = .ok (.checkcast index, 3)) (k : K → J γ p l e R s m args below meth c nL b κ0 M0 Q w (pc + 3) ls (v :: st)) : J γ p l e R s m args below meth c nL b κ0 M0 Q w pc ls (v :: st) := by
  obtain ⟨hv, hK⟩ := hP
  intro κ H locs lsC stC hH hx hl hs hS
  obtain ⟨c1, r1, rfl, h1, hs1⟩ := rl_c hs
  rcases hv with rfl | ⟨n, fs, rfl, hM⟩
  · obtain rfl : c1 = .null := h1
    exact lv_castN X.x X.b d (k hK κ H locs lsC _ hH hx hl ⟨rfl, hs1⟩ hS)
  · obtain ⟨hn, rfl⟩ := h1
    obtain ⟨cs, g1, g2⟩ := hH.1 n _ hM
    exact va_castS X.x X.b X.o (X.t _ hlink) (X.K.1 ci _ hc).2 (va_recv X.K (va_P1 g2) hc (q0 := 0) rfl) d (k hK κ H locs lsC _ hH hx hl ⟨⟨hn, rfl⟩, hs1⟩ hS)
theorem bx_cell (X : Cx γ p l R s m args meth c cc own nL ret D) {κ : KK} {x : Int32} {c1 : Value} (hH : hp γ κ w H) (h : cv κ w.1 (bx x) c1) : ∃ a, c1 = .ref a ∧ va_at γ.2.1 vwCl (a, .inr (23, [.int x])) H := by
  obtain ⟨a, h1, h2⟩ := h
  have h3 := (hH.2.2.2.1 a _ h2).1.1
  unfold spat at h3
  rw [if_pos (bx_lt x), bx_rt] at h3
  exact ⟨a, h1, h3⟩
theorem J_ckb (X : Cx γ p l R s m args meth c cc own nL ret D) {nm : String} {index : Nat} {v : Value} {K : Prop} (hP : ckb v K) (hlink : Jvm.Cond.classLink own index nm ∈ lw_all) (hcast : nm = RJ23 ∨ Jvm.Cond.castable RJ23 nm ∈ lw_tbl) (d : decode cc pc = .ok (.checkcast index, 3)) (k : K → J γ p l e R s m args below meth c nL b κ0 M0 Q w (pc + 3) ls (v :: st)) : J γ p l e R s m args below meth c nL b κ0 M0 Q w pc ls (v :: st) := by
  obtain ⟨⟨x, rfl⟩, hK⟩ := hP
  intro κ H locs lsC stC hH hx hl hs hS
  obtain ⟨c1, r1, rfl, h1, hs1⟩ := rl_c hs
  obtain ⟨a, rfl, h2⟩ := bx_cell X hH h1
  rcases hcast with rfl | hcast
  · exact va_castS X.x X.b X.o (X.t _ hlink) (X.K.1 23 _ rfl).2 (va_recv X.K (va_P1 h2) (ci := 23) rfl (q0 := 0) rfl) d (k hK κ H locs lsC _ hH hx hl ⟨h1, hs1⟩ hS)
  · exact va_castY X.x X.b X.o (X.t _ hlink) (X.nC hcast) (va_recv X.K (va_P1 h2) (ci := 23) rfl (q0 := 0) rfl) d (k hK κ H locs lsC _ hH hx hl ⟨h1, hs1⟩ hS)
/-- the ends -/
theorem fin0 (X : Cx γ p l R s m args meth c cc own nL ret D) {κ : KK} (hH : hp γ κ w H) (hk : ∀ (mc ms : Nat), H.size - s.heap.size ≤ mc → sd s.heap.size H ≤ ms → mc = R.cells → ms = R.slots → W p l e R s m args below meth c H locs (H.size - s.heap.size) (sd s.heap.size H) QF (F0 m pc lsC restC)) : W p l e R s m args below meth c H locs (H.size - s.heap.size) (sd s.heap.size H) QF (F0 m pc lsC restC) := by
  refine W_fact (fun T hT Y => sd_of X.h.1 Y hT) fun hR => ?_
  obtain ⟨f1, f2⟩ := hR
  obtain ⟨-, -, -, -, -, ⟨b6, -⟩, b7, b8, b9⟩ := hH
  obtain ⟨-, -, r1, r2⟩ := X.rm
  have r0 := X.h.1
  have hLU : LU = 4800576 := rfl
  exact hk R.cells R.slots (by rw [r1]; omega) (by rw [r2]; omega) rfl rfl
theorem J_mmax (X : Cx γ p l R s m args meth c cc own nL ret D) {x y : Int32} {index : Nat} (h1 : Jvm.Cond.methodLink own index Lib.Math.max.name ∈ lw_all) (h2 : Jvm.Cond.static Lib.Math.max.name ∈ lw_all) (h3 : Jvm.Cond.initialized "java/lang/Math" ∈ lw_all) (h4 : Jvm.Cond.code Lib.Math.max.name Lib.Math.max.code 2 (some .int) ∈ lw_all) (hD : 1 ≤ D) (hrest : (st.map fun v => v.category).sum ≤ 8) (d : decode cc pc = .ok (.invokestatic index, 3)) (k : J γ p l e R s m args below meth c nL b κ0 M0 Q w (pc + 3) ls (.int (if x < y then y else x) :: st)) : J γ p l e R s m args below meth c nL b κ0 M0 Q w pc ls (.int y :: .int x :: st) := by
  intro κ H locs lsC stC hH hx hl hs hS
  obtain ⟨c1, r1, rfl, g1, hs1⟩ := rl_c hs
  obtain ⟨c2, r2, rfl, g2, hs2⟩ := rl_c hs1
  obtain rfl : c1 = .int y := g1
  obtain rfl : c2 = .int x := g2
  refine fin0 X hH fun mc ms e1 e2 e3 e4 => ?_
  rw [e3] at e1
  rw [e4] at e2
  exact va_mmax X.x X.b (X.nl.trans hl.1.symm) X.o (X.t _ h1) (X.t _ h2) (X.t _ h3) (X.t _ h4) (by rw [X.rm.1]; exact hD) (by rw [X.rm.2.1, rl_cat hs2]; omega) e1 e2 d (k κ H locs lsC (.int (if x < y then y else x) :: r2) hH hx hl ⟨rfl, hs2⟩ hS)
theorem J_mmin (X : Cx γ p l R s m args meth c cc own nL ret D) {x y : Int32} {index : Nat} (h1 : Jvm.Cond.methodLink own index Lib.Math.min.name ∈ lw_all) (h2 : Jvm.Cond.static Lib.Math.min.name ∈ lw_all) (h3 : Jvm.Cond.initialized "java/lang/Math" ∈ lw_all) (h4 : Jvm.Cond.code Lib.Math.min.name Lib.Math.min.code 2 (some .int) ∈ lw_all) (hD : 1 ≤ D) (hrest : (st.map fun v => v.category).sum ≤ 8) (d : decode cc pc = .ok (.invokestatic index, 3)) (k : J γ p l e R s m args below meth c nL b κ0 M0 Q w (pc + 3) ls (.int (if y < x then y else x) :: st)) : J γ p l e R s m args below meth c nL b κ0 M0 Q w pc ls (.int y :: .int x :: st) := by
  intro κ H locs lsC stC hH hx hl hs hS
  obtain ⟨c1, r1, rfl, g1, hs1⟩ := rl_c hs
  obtain ⟨c2, r2, rfl, g2, hs2⟩ := rl_c hs1
  obtain rfl : c1 = .int y := g1
  obtain rfl : c2 = .int x := g2
  refine fin0 X hH fun mc ms e1 e2 e3 e4 => ?_
  rw [e3] at e1
  rw [e4] at e2
  exact va_mmin X.x X.b (X.nl.trans hl.1.symm) X.o (X.t _ h1) (X.t _ h2) (X.t _ h3) (X.t _ h4) (by rw [X.rm.1]; exact hD) (by rw [X.rm.2.1, rl_cat hs2]; omega) e1 e2 d (k κ H locs lsC (.int (if y < x then y else x) :: r2) hH hx hl ⟨rfl, hs2⟩ hS)
theorem J_mmaxl (X : Cx γ p l R s m args meth c cc own nL ret D) {x y : Int64} {index : Nat} (h1 : Jvm.Cond.methodLink own index Lib.MathLoose.max_long.x ∈ lw_all) (h2 : Jvm.Cond.static Lib.MathLoose.max_long.x ∈ lw_all) (h3 : Jvm.Cond.initialized "java/lang/Math" ∈ lw_all) (h4 : Jvm.Cond.code Lib.MathLoose.max_long.x Lib.MathLoose.max_long.code 4 (some .long) ∈ lw_all) (hD : 1 ≤ D) (hrest : (st.map fun v => v.category).sum ≤ 8) (d : decode cc pc = .ok (.invokestatic index, 3)) (k : J γ p l e R s m args below meth c nL b κ0 M0 Q w (pc + 3) ls (.long (if y < x then x else y) :: st)) : J γ p l e R s m args below meth c nL b κ0 M0 Q w pc ls (.long y :: .long x :: st) := by
  intro κ H locs lsC stC hH hx hl hs hS
  obtain ⟨c1, r1, rfl, g1, hs1⟩ := rl_c hs
  obtain ⟨c2, r2, rfl, g2, hs2⟩ := rl_c hs1
  obtain rfl : c1 = .long y := g1
  obtain rfl : c2 = .long x := g2
  refine fin0 X hH fun mc ms e1 e2 e3 e4 => ?_
  rw [e3] at e1
  rw [e4] at e2
  exact va_mmax_long X.x X.b (X.nl.trans hl.1.symm) X.o (X.t _ h1) (X.t _ h2) (X.t _ h3) (X.t _ h4) (by rw [X.rm.1]; exact hD) (by rw [X.rm.2.1, rl_cat hs2]; omega) e1 e2 d (k κ H locs lsC (.long (if y < x then x else y) :: r2) hH hx hl ⟨rfl, hs2⟩ hS)
theorem QFo_of {H : Heap} {g : JFrame} (k : W p l e R s m args below meth c H locs cells slots (MQ below (Qn γ κ0 M0 Q) args s R.cells R.slots (An γ)) g) : W p l e R s m args below meth c H locs cells slots (QFo b γ R s args below κ0 M0 Q) g := by
  cases b with
  | true => exact vx_ret k
  | false => exact k
theorem J_iret (X : Cx γ p l R s m args meth c cc own nL ret D) {v : Int32} {ty : FieldType} (hr : ret = some ty) (hn : narrow ty (.int v) = .int v) (d : decode cc pc = .ok (.ireturn, 1)) (hQ : Q (.inl (some (.int v))) w) : J γ p l e R s m args below meth c nL b κ0 M0 Q w pc ls [.int v] := by
  intro κ H locs lsC stC hH hx hl hs hS
  obtain ⟨c1, r1, rfl, h1, hs1⟩ := rl_c hs
  obtain rfl : c1 = .int v := h1
  obtain rfl := rl_n hs1
  refine fin0 X hH fun mc ms h1 h2 e1 e2 => QFo_of ?_
  subst e1; subst e2
  refine W.widen h1 h2 ?_
  exact W.zret (v := v) X.x X.b (X.r.trans hr) hn (fun t ht hW => ⟨⟨κ, w, some (.int v), some (.int v), rfl, rfl, by rw [ht]; exact hH, hx, hQ⟩, hS.F ht⟩) hS.2.2 d X.k
theorem J_lret (X : Cx γ p l R s m args meth c cc own nL ret D) {v : Int64} (hr : ret = some .long) (d : decode cc pc = .ok (.lreturn, 1)) (hQ : Q (.inl (some (.long v))) w) : J γ p l e R s m args below meth c nL b κ0 M0 Q w pc ls [.long v] := by
  intro κ H locs lsC stC hH hx hl hs hS
  obtain ⟨c1, r1, rfl, h1, hs1⟩ := rl_c hs
  obtain rfl : c1 = .long v := h1
  obtain rfl := rl_n hs1
  refine fin0 X hH fun mc ms h1 h2 e1 e2 => QFo_of ?_
  subst e1; subst e2
  refine W.widen h1 h2 ?_
  exact W.lret (v := v) X.x X.b (X.r.trans hr) (fun t ht hW => ⟨⟨κ, w, some (.long v), some (.long v), rfl, rfl, by rw [ht]; exact hH, hx, hQ⟩, hS.F ht⟩) hS.2.2 d X.k
theorem J_fret (X : Cx γ p l R s m args meth c cc own nL ret D) {v : UInt32} (hr : ret = some .float) (d : decode cc pc = .ok (.freturn, 1)) (hQ : Q (.inl (some (.float v))) w) : J γ p l e R s m args below meth c nL b κ0 M0 Q w pc ls [.float v] := by
  intro κ H locs lsC stC hH hx hl hs hS
  obtain ⟨c1, r1, rfl, h1, hs1⟩ := rl_c hs
  obtain rfl : c1 = .float v := h1
  obtain rfl := rl_n hs1
  refine fin0 X hH fun mc ms h1 h2 e1 e2 => QFo_of ?_
  subst e1; subst e2
  refine W.widen h1 h2 ?_
  exact W.fret (v := v) X.x X.b (X.r.trans hr) (fun t ht hW => ⟨⟨κ, w, some (.float v), some (.float v), rfl, rfl, by rw [ht]; exact hH, hx, hQ⟩, hS.F ht⟩) hS.2.2 d X.k
theorem J_dret (X : Cx γ p l R s m args meth c cc own nL ret D) {v : UInt64} (hr : ret = some .double) (d : decode cc pc = .ok (.dreturn, 1)) (hQ : Q (.inl (some (.double v))) w) : J γ p l e R s m args below meth c nL b κ0 M0 Q w pc ls [.double v] := by
  intro κ H locs lsC stC hH hx hl hs hS
  obtain ⟨c1, r1, rfl, h1, hs1⟩ := rl_c hs
  obtain rfl : c1 = .double v := h1
  obtain rfl := rl_n hs1
  refine fin0 X hH fun mc ms h1 h2 e1 e2 => QFo_of ?_
  subst e1; subst e2
  refine W.widen h1 h2 ?_
  exact W.dret (v := v) X.x X.b (X.r.trans hr) (fun t ht hW => ⟨⟨κ, w, some (.double v), some (.double v), rfl, rfl, by rw [ht]; exact hH, hx, hQ⟩, hS.F ht⟩) hS.2.2 d X.k
theorem J_vret (X : Cx γ p l R s m args meth c cc own nL ret D) (hr : ret = none) (d : decode cc pc = .ok (.return_, 1)) (hQ : Q (.inl none) w) : J γ p l e R s m args below meth c nL b κ0 M0 Q w pc ls [] := by
  intro κ H locs lsC stC hH hx hl hs hS
  obtain rfl := rl_n hs
  refine fin0 X hH fun mc ms h1 h2 e1 e2 => QFo_of ?_
  subst e1; subst e2
  refine W.widen h1 h2 ?_
  exact W.vret X.x X.b (X.r.trans hr) (fun t ht hW => ⟨⟨κ, w, none, none, rfl, trivial, by rw [ht]; exact hH, hx, hQ⟩, hS.F ht⟩) hS.2.2 d X.k
theorem J_aret (X : Cx γ p l R s m args meth c cc own nL ret D) {v : Value} {rt : FieldType} (hr : ret = some rt) (hrt : refty rt) (hv : isr v) (d : decode cc pc = .ok (.areturn, 1)) (hQ : Q (.inl (some v)) w) : J γ p l e R s m args below meth c nL b κ0 M0 Q w pc ls [v] := by
  intro κ H locs lsC stC hH hx hl hs hS
  obtain ⟨c1, r1, rfl, h1, hs1⟩ := rl_c hs
  obtain rfl := rl_n hs1
  refine fin0 X hH fun mc ms g1 g2 e1 e2 => QFo_of ?_
  subst e1; subst e2
  refine W.widen g1 g2 ?_
  exact W.aret X.x X.b (X.r.trans hr) hrt (cv_isr h1 hv) (fun t ht hW => ⟨⟨κ, w, some v, some c1, rfl, h1, by rw [ht]; exact hH, hx, hQ⟩, hS.F ht⟩) hS.2.2 d X.k
theorem va_ldcSw (hexec : p.tables.exec = Jvm.exec) (hb : c.code = cc) {own tx : String} {index q : Nat} (hown : s.vm.findClass own = some m.cls) (hZ : vk_R own index tx q s) (hdg : decode cc pc = .ok (.ldc_w index, 3))
    (k : W p l e R s m args below meth c H locs cells slots QF (F0 m (pc + 3) lsC (.ref q :: restC))) : W p l e R s m args below meth c H locs cells slots QF (F0 m pc lsC restC) := by
  intro T hT X
  obtain ⟨t, a1, b1⟩ := k T hT X
  exact ⟨t, va_ldcSw0 X hexec hown (text := tx) (a := q) hZ.1 hZ.2 (g := F0 m pc lsC restC) rfl (by rw [hb]; exact hdg) t a1, b1⟩
theorem J_ldcS0 (X : Cx γ p l R s m args meth c cc own nL ret D) {index : Nat} (ho : own = "VaultyardModel") (hi : index = 241) (d : decode cc pc = .ok (.ldc index, 2)) (k : J γ p l e R s m args below meth c nL b κ0 M0 Q w (pc + 2) ls (.retAddr 4294967296 :: st)) : J γ p l e R s m args below meth c nL b κ0 M0 Q w pc ls st := by
  subst ho; subst hi
  intro κ H locs lsC stC hH hx hl hs hS
  exact va_ldcS X.x X.b X.o (vk_R.warm X.w X.g.2.2.2.2.1) d (k κ H locs lsC (.ref (γ.2.2.2 0) :: stC) hH hx hl ⟨⟨_, rfl, hH.2.2.2.2.1.choose_spec.2 0 (by omega)⟩, hs⟩ hS)
theorem J_ldcS1 (X : Cx γ p l R s m args meth c cc own nL ret D) {index : Nat} (ho : own = "VaultyardModel") (hi : index = 306) (d : decode cc pc = .ok (.ldc_w index, 3)) (k : J γ p l e R s m args below meth c nL b κ0 M0 Q w (pc + 3) ls (.retAddr 4294967297 :: st)) : J γ p l e R s m args below meth c nL b κ0 M0 Q w pc ls st := by
  subst ho; subst hi
  intro κ H locs lsC stC hH hx hl hs hS
  exact va_ldcSw X.x X.b X.o (vk_R.warm X.w X.g.2.2.2.2.2.1) d (k κ H locs lsC (.ref (γ.2.2.2 1) :: stC) hH hx hl ⟨⟨_, rfl, hH.2.2.2.2.1.choose_spec.2 1 (by omega)⟩, hs⟩ hS)
theorem J_tsO (X : Cx γ p l R s m args meth c cc own nL ret D) {x : Int32} {dflt lo hi : Int} {offs : Array Int} {len tgt : Nat} (d : decode cc pc = .ok (.tableswitch dflt lo hi offs, len)) (h : x.toInt < lo ∨ hi < x.toInt) (ht : (pc : Int) + dflt = (tgt : Int)) (k : J γ p l e R s m args below meth c nL b κ0 M0 Q w tgt ls st) : J γ p l e R s m args below meth c nL b κ0 M0 Q w pc ls (.int x :: st) :=
  Jgo k fun κ lsC stC hl hs => by
    obtain ⟨c1, r1, rfl, h1, hs1⟩ := rl_c hs
    obtain rfl : c1 = .int x := h1
    exact ⟨hl, r1, hs1, fun _ _ _ _ _ _ kk => lv_tableOut X.x X.b d h ht kk⟩
theorem J_tsI (X : Cx γ p l R s m args meth c cc own nL ret D) {x : Int32} {dflt lo hi : Int} {offs : Array Int} {len tgt : Nat} {off : Int} (d : decode cc pc = .ok (.tableswitch dflt lo hi offs, len)) (h1 : ¬ x.toInt < lo) (h2 : ¬ hi < x.toInt) (ho : offs[(x.toInt - lo).toNat]? = some off) (ht : (pc : Int) + off = (tgt : Int)) (k : J γ p l e R s m args below meth c nL b κ0 M0 Q w tgt ls st) : J γ p l e R s m args below meth c nL b κ0 M0 Q w pc ls (.int x :: st) :=
  Jgo k fun κ lsC stC hl hs => by
    obtain ⟨c1, r1, rfl, hc1, hs1⟩ := rl_c hs
    obtain rfl : c1 = .int x := hc1
    exact ⟨hl, r1, hs1, fun _ _ _ _ _ _ kk => lv_tableIn X.x X.b d h1 h2 ho ht kk⟩
theorem J_cka (X : Cx γ p l R s m args meth c cc own nL ret D) {index : Nat} {v : Value} {K : Prop} (hP : cka w v K) (hlink : Jvm.Cond.classLink own index "[I" ∈ lw_all) (d : decode cc pc = .ok (.checkcast index, 3)) (k : K → J γ p l e R s m args below meth c nL b κ0 M0 Q w (pc + 3) ls (v :: st)) : J γ p l e R s m args below meth c nL b κ0 M0 Q w pc ls (v :: st) := by
  obtain ⟨⟨n, N, f, rfl, hM⟩, hK⟩ := hP
  intro κ H locs lsC stC hH hx hl hs hS
  obtain ⟨c1, r1, rfl, h1, hs1⟩ := rl_c hs
  obtain ⟨hn, rfl⟩ := h1
  have hat : va_at γ.2.1 vwCl (κ.1 n, .inl (γ.2.2.1 0, (N, .inl f))) H := hH.1 n _ hM
  have kk := k hK κ H locs lsC (.ref (κ.1 n) :: r1) hH hx hl ⟨⟨hn, rfl⟩, hs1⟩ hS
  have hnm : va_RA s (γ.2.2.1 0) .int := (X.K.2 0 _ rfl).2
  exact va_castA X.x X.b X.o (X.t _ hlink) (va_P1 hat) 0 rfl hnm d kk
theorem J_objInit (X : Cx γ p l R s m args meth c cc own nL ret D) {idx : Nat} {v : Value} (hv : ∃ n, v = .ref n) (h1 : Jvm.Cond.methodLink own idx Lib.objectInit ∈ lw_all) (h2 : Jvm.Cond.instanceMethod Lib.objectInit ∈ lw_all) (h3 : Jvm.Cond.code Lib.objectInit ⟨#[0xb1]⟩ 1 none ∈ lw_all) (hD : 1 ≤ D) (hst : (st.map fun v => v.category).sum ≤ 8) (d : decode cc pc = .ok (.invokespecial idx, 3)) (k : J γ p l e R s m args below meth c nL b κ0 M0 Q w (pc + 3) ls st) : J γ p l e R s m args below meth c nL b κ0 M0 Q w pc ls (v :: st) := by
  obtain ⟨n, rfl⟩ := hv
  intro κ H locs lsC stC hH hx hl hs hS
  obtain ⟨c1, r1, rfl, hc1, hs1⟩ := rl_c hs
  obtain ⟨hn, rfl⟩ := hc1
  exact W.objInit (g := F0 m pc lsC (.ref (κ.1 n) :: r1)) X.x X.b X.o (X.t _ h1) (X.t _ h2) (X.t _ h3) rfl (hl.1.trans X.nl.symm) rfl d (by rw [X.rm.1]; exact hD) (by rw [X.rm.2.1]; have h9 := lv_room (m := m) (pc := pc) (ls := lsC) (rest := []) (st := r1) (by rw [rl_cat hs1]; exact hst); show 2 * (F0 m pc lsC (.ref (κ.1 n) :: r1)).monitorRoom + (r1.map fun v => v.category).sum + 12 ≤ 64 * D; have h8 : (F0 m pc lsC (.ref (κ.1 n) :: r1)).monitorRoom = (F0 m pc lsC []).monitorRoom := rfl; omega) (k κ H locs lsC r1 hH hx hl hs1 hS)
end MEM
