/-! Rows that the JDK's methods alone need: what is there from the start, arrays of references -/
set_option maxRecDepth 100000
/-- Met.ofW by the method's own name -/
theorem met_ofF {l : Launch} {y : MethodName} {ws ws' : List Cond} {rm : Room} {Pc : Array Value → State → Prop} {Qc : Array Value → State → Outcome → State → Prop} {mc ms : Nat} {free : Addr → Prop} {cc : ByteArray} {maxL : Nat} {ret : Option FieldType}
    (hy : plainFor y = true) (hw : ws = Cond.code y cc maxL ret :: ws')
    (body : ∀ p e s m args below meth c s₁, BodyLoose p l y (headSpec ws rm) cc maxL ret e s m args below meth c s₁ → c.maxLocals = maxL → Pc args s →
      W p l e (headSpec ws rm).room s m args below meth c s.heap [] 0 0 (MQ below Qc args s mc ms free) (entryFrame m args maxL)) : Met l y ws rm Pc Qc mc ms free := by
  refine Free.MetFree.of_bodySF (code := cc) (maxLocals := maxL) (ret := ret) hy ?_ ?_
  · intro args s m h hn
    obtain ⟨meth, c, h1, h2, h3, h4, h5, h6, -, -⟩ := Cond.code_spec hn (atoms_spec (ws := ws) h _ (by rw [hw]; exact List.mem_cons_self))
    exact ⟨meth, c, h1, h2, h3, h4, h5, h6⟩
  · intro p e s m args below meth c s₁ B hml hP _
    have hh0 : s₁.heap = s.heap := by rw [B.state]; rfl
    obtain ⟨t, a1, o, b1, b2, b3⟩ := body p e s m args below meth c s₁ B hml hP s₁ hh0 (Stand.of_body B)
    exact ⟨t, o, a1, b1, b2, ⟨b3.1, b3.2⟩⟩
theorem CT_ofF {γ : GG} {y : MethodName} {cc : ByteArray} {nL : Nat} {ret : Option FieldType} {D : Nat} {P : PP} {own : String} (hG : Gm γ) (hy : plainFor y = true) (ho : y.cls = own) (hlen : ∀ avs w Q, P avs w Q → (avs.map fun v => v.category).sum ≤ nL)
    (h : ∀ (p : Program) (l : Launch) (e : Env) (R : Room) (s : State) (m : MethodId) (args : Array Value) (below : List Frame) (meth : Method) (c : Code) (κ0 : KK) (w : AW) (avs : List Value) (Q : AOut → AW → Prop), Cx γ p l R s m args meth c cc own nL ret D → meth.name = y.name → P avs w Q → J γ p l e R s m args below meth c nL false κ0 w.1 Q w 0 (lv_args 0 avs) []) : CT γ y cc nL ret D P := by
  intro l hl κ0 w avs Q sz ss hP
  refine met_ofF (cc := cc) (maxL := nL) (ret := ret) hy rfl ?_
  intro p e s m args below meth c s₁ B hml hv
  obtain ⟨⟨hsz, hss⟩, hW, hH, cs, hcs, rfl⟩ := hv
  have hts := atoms_spec (ws := ws_ y cc nL ret) B.pre
  have X : Cx γ p l (rmJ γ D sz ss) s m cs.toArray meth c cc own nL ret D := ⟨B.exec, B.bytes, B.returns, B.notSynchronized, hml, by rw [← ho]; exact findClass_of_methodNamed B.named, fun w h => hts w (List.mem_cons_of_mem _ h), hW, hH.2.2.2.2.2.1, hl, ⟨rfl, rfl, by rw [← hsz] <;> rfl, by rw [← hss] <;> rfl⟩, hG⟩
  have hin : meth.name = y.name := (name_of_methodNamed B.named B.method).1
  have hlC : (lg_sl cs).length ≤ nL := by rw [sl_len, rl_cat hcs]; exact hlen avs w Q hP
  have hl0 := lv_entry cs (n := nL) hlC
  rw [lg_entry_eq]
  generalize (lg_sl cs ++ List.replicate (nL - (lg_sl cs).length) Slot.unset).toArray = ls0 at hl0 ⊢
  have hJ := h p l e (rmJ γ D sz ss) s m cs.toArray below meth c κ0 w avs Q X hin hP κ0 s.heap [] ls0 [] hH xt_rf (has_lrel hl0 (args_rl 0 hcs)) trivial va_S.rf
  rw [Nat.sub_self, sd_self] at hJ
  exact hJ
section JR
variable {γ : GG} {p : Program} {l : Launch} {e : Env} {R : Room} {s : State} {m : MethodId} {args : Array Value} {below : List Frame} {meth : Method} {c : Code} {nL : Nat} {b : Bool} {κ0 : KK} {M0 : AM} {Q : AOut → AW → Prop} {w : AW} {pc : Nat} {ls : List (Nat × Value)} {st rest : List Value}
variable {cc : ByteArray} {own : String} {ret : Option FieldType} {D : Nat} {H : Heap} {locs : List Loc} {cells slots : Nat} {QF : State → Prop} {lsC : Array Slot} {restC : List Value}
theorem Cx.z (X : Cx γ p l R s m args meth c cc own nL ret D) {C n d : String} {v : Value} (h : va_Z C n d v (An γ) γ.1 γ.1.heap) : va_Z C n d v (An γ) s s.heap :=
  (va_Z.moved X.w.alike h).kept fun a h1 h2 => X.h.2 a (by unfold An at h2; omega)
theorem cv_sp {κ : KK} (hH : hp γ κ w H) {k : Nat} (hk : k < 16) : cv κ w.1 (.retAddr (4294967296 + k)) (.ref (γ.2.2.2 k)) := by
  obtain ⟨bb, -, h⟩ := hH.2.2.2.2.1
  have h1 := h k (by omega)
  unfold scode at h1
  rw [if_pos hk] at h1
  exact ⟨_, rfl, h1⟩
theorem J_gets (X : Cx γ p l R s m args meth c cc own nL ret D) {C n d0 : String} {index k : Nat} (hk : k < 16) (hZ : va_Z C n d0 (.ref (γ.2.2.2 k)) (An γ) γ.1 γ.1.heap) (hl0 : Jvm.Cond.fieldLink own index C n d0 ∈ lw_all ∨ ∃ host, Jvm.Cond.fieldLinkNest own index C n d0 host ∈ lw_tbl) (d : decode cc pc = .ok (.getstatic index, 3)) (kk : J γ p l e R s m args below meth c nL b κ0 M0 Q w (pc + 3) ls (.retAddr (4294967296 + k) :: st)) : J γ p l e R s m args below meth c nL b κ0 M0 Q w pc ls st := by
  intro κ H locs lsC stC hH hx hl hs hS
  have hW := kk κ H locs lsC (.ref (γ.2.2.2 k) :: stC) hH hx hl ⟨cv_sp hH hk, hs⟩ hS
  rcases hl0 with hl0 | ⟨host, hl0⟩
  · exact va_gets X.x X.b (X.z hZ) hS X.o (X.t _ hl0) (fun _ h => h) d hW
  · exact va_getsN X.x X.b (X.z hZ) hS X.o (X.nF hl0) (fun _ h => h) d hW
theorem J_dupx1 (X : Cx γ p l R s m args meth c cc own nL ret D) {v u : Value} (d : decode cc pc = .ok (.dup_x1, 1)) (hv : v.category = 1) (hu : u.category = 1) (k : J γ p l e R s m args below meth c nL b κ0 M0 Q w (pc + 1) ls (v :: u :: v :: st)) : J γ p l e R s m args below meth c nL b κ0 M0 Q w pc ls (v :: u :: st) := by
  intro κ H locs lsC stC hH hx hl hs hS
  obtain ⟨c1, r1, rfl, h1, hs1⟩ := rl_c hs
  obtain ⟨c2, r2, rfl, h2, hs2⟩ := rl_c hs1
  exact lv_dup_x1 X.x X.b d ((cv_cat h1).trans hv) ((cv_cat h2).trans hu) (k κ H locs lsC (c1 :: c2 :: c1 :: r2) hH hx hl ⟨h1, h2, h1, hs2⟩ hS)
theorem J_gfiS (X : Cx γ p l R s m args meth c cc own nL ret D) {C ref : String} {T : u_T} {N ci i index : Nat} {v : Value} {K : Int32 → Prop} (hP : gfi w v ci i K) (hc : vwCl[ci]? = some (C, T, N)) (hin : ∀ w ∈ u_ws C T N, w ∈ lw_all) (hi : i < N) (hk : Jvm.Cond.fieldLink own index ref (T i).2.1 (T i).2.2.1 ∈ lw_all) (hsm : Jvm.Cond.sameField ref (T i).1 (T i).2.1 (T i).2.2.1 ∈ lw_all) (d : decode cc pc = .ok (.getfield index, 3)) (k : ∀ x, K x → J γ p l e R s m args below meth c nL b κ0 M0 Q w (pc + 3) ls (.int x :: st)) : J γ p l e R s m args below meth c nL b κ0 M0 Q w pc ls (v :: st) := by
  obtain ⟨n, fs, x, rfl, hM, hv, hK⟩ := hP
  intro κ H locs lsC stC hH hx hl hs hS
  obtain ⟨c1, r1, rfl, h1, hs1⟩ := rl_c hs
  obtain ⟨hn, rfl⟩ := h1
  obtain ⟨cs, g1, g2⟩ := hH.1 n _ hM
  obtain ⟨c2, g3, g4⟩ := rl_get g1 hv
  exact va_get (D := γ.2.1) (cl := vwCl) (ci := ci) X.x X.b X.t hin X.o X.K (va_P1 g2) 0 rfl hc i hi (X.t _ hk) (u_same (X.t _ hsm)) g3 d (k x hK κ H locs lsC (c2 :: r1) hH hx hl ⟨g4, hs1⟩ hS)
theorem J_pfiS (X : Cx γ p l R s m args meth c cc own nL ret D) {C ref : String} {T : u_T} {N ci i index : Nat} {ty0 : Nat → FieldType} {v : Value} {x : Int32} {K : AW → Prop} (hP : pfi w v ci i x K) (hc : vwCl[ci]? = some (C, T, N)) (hin : ∀ w ∈ u_ws C T N, w ∈ lw_all) (hty : ∀ k, k < N → parseFieldDescriptor (T k).2.2.1 = some (ty0 k)) (hnm : ∀ a, a < N → ∀ b, b < N → a ≠ b → (T a).2.1 ≠ (T b).2.1) (hi : i < N) (hk : Jvm.Cond.fieldLink own index ref (T i).2.1 (T i).2.2.1 ∈ lw_all) (hsm : Jvm.Cond.sameField ref (T i).1 (T i).2.1 (T i).2.2.1 ∈ lw_all) (hfin : (T i).2.2.2 = false) (hfit : okt (ty0 i) x) (d : decode cc pc = .ok (.putfield index, 3)) (k : ∀ w', K w' → J γ p l e R s m args below meth c nL b κ0 M0 Q w' (pc + 3) ls st) : J γ p l e R s m args below meth c nL b κ0 M0 Q w pc ls (.int x :: v :: st) := by
  obtain ⟨n, fs, rfl, hM, hlf, hK⟩ := hP
  have k := k _ hK
  intro κ H locs lsC stC hH hx hlr hs hS
  obtain ⟨c1, r1, rfl, h1, hs1⟩ := rl_c hs
  obtain ⟨c2, r2, rfl, h2, hs2⟩ := rl_c hs1
  obtain rfl : c1 = .int x := h1
  obtain ⟨hn, rfl⟩ := h2
  obtain ⟨cs, g1, r, z1, cell, q1, q2, q3, q4⟩ := hH.1 n _ hM
  have hr : r = (C, T, N) := Option.some.inj (z1.symm.trans hc)
  subst hr
  have hlen : i < cs.length := by rw [← rl_len g1]; exact hlf
  have hap := va_apart (own := own) X.t hin ty0 hty hnm X.K hc
  obtain ⟨hSl, hfc, kC, hkC, hkind⟩ := X.K.1 ci _ hc
  obtain ⟨cf, kf, fi, f, hif, hsl⟩ := hSl i hi
  have hst := (u_facts hfc hkC (u_lays X.t hin hi) hif).1
  have hlay := X.t _ (hin _ (u_in_lay hi))
  unfold u_lay at hlay
  rw [if_neg (by rw [hfin]; decide)] at hlay
  have h6 := u_store hfc hkC hkind hlay hif (hty i hi) hfit.1 hfit.2
  refine W.putK X.x X.b (f := f) ⟨X.o, X.t _ hk, ⟨_, _, _, u_same (X.t _ hsm) _ hif⟩, hst⟩ (by rw [q2]; exact h6) q1 q3 (by rw [hsl]; exact k2_hasslot (q4 i hi)) rfl rfl d fun H1 e1 e2 e3 => ?_
  rw [hsl] at e1 ⊢
  obtain ⟨a1, a2, a3, a4⟩ := putH (s := s) (locs := locs) X.g.2.2.1.1 hH hS hM g1 (show cv κ w.1 (.int x) (.int x) from rfl) q1 e1 e2 e3 (put_set hc hi q2 q3 q4 hap hlen e1)
  have hxt : xt κ w.1 κ (upm w.1 n (.inl (ci, fs.set i (.int x)))) := xt_upm _ _ _
  have hW := k κ H1 _ lsC r2 a1 (xt_tr hx hxt) (lrel_xt hxt hlr) (rl_mono (fun _ _ q => cv_xt hxt q) hs2) a2
  rw [a3, a4] at hW
  exact hW
/-! arrays of references -/
def raO (N : Nat) (f : Nat → Value) : AO := .inr (.inr (.inr (N, f)))
def nar (w : AW) (x : Int32) (K : Value → AW → Prop) : Prop := ∃ N : Nat, ¬ x < 0 ∧ x.toNatClampNeg = N ∧ N ≤ 65536 ∧ w.2 + (N + 4) ≤ LU ∧ ∀ b : Nat, (∀ n, b ≤ n → w.1 n = none) → ∃ n, w.1 n = none ∧ K (.ref n) (upm w.1 n (raO N (fun _ => .null)), w.2 + (N + 4))
def rld (w : AW) (v : Value) (i : Int32) (K : Value → Prop) : Prop := ∃ (n N : Nat) (f : Nat → Value), v = .ref n ∧ w.1 n = some (raO N f) ∧ vp_in i N ∧ isr (f i.toNatClampNeg) ∧ K (f i.toNatClampNeg)
def rst (w : AW) (v : Value) (i : Int32) (x : Value) (K : AW → Prop) : Prop := ∃ (n N : Nat) (f : Nat → Value), v = .ref n ∧ w.1 n = some (raO N f) ∧ vp_in i N ∧ nsp x ∧ K (upm w.1 n (raO N (va_up f i.toNatClampNeg x)), w.2)
def rcp (w : AW) (v : Value) (sp : Int32) (u : Value) (dp n : Int32) (K : AW → Prop) : Prop := ∃ (j J N0 N1 : Nat) (f g : Nat → Value), v = .ref j ∧ u = .ref J ∧ w.1 j = some (raO N0 f) ∧ w.1 J = some (raO N1 g) ∧ ¬ sp < 0 ∧ ¬ dp < 0 ∧ ¬ n < 0 ∧ sp.toNatClampNeg + n.toNatClampNeg ≤ N0 ∧ dp.toNatClampNeg + n.toNatClampNeg ≤ N1 ∧ K (upm w.1 J (raO N1 (va_cpy f g sp.toNatClampNeg dp.toNatClampNeg n.toNatClampNeg)), w.2)
/-- the length of an array of references, or of the empty one -/
def rln (w : AW) (v : Value) (K : Int32 → Prop) : Prop := (∃ (n N : Nat) (f : Nat → Value), v = .ref n ∧ w.1 n = some (raO N f) ∧ K (Int32.ofNat N)) ∨ (v = .retAddr 4294967298 ∧ K 0)
theorem castO : ∀ (ci : Nat) (r : vw_C), vwCl[ci]? = some r → Jvm.Cond.castable r.1 "java/lang/Object" ∈ lw_tbl
  | 0, _, h => by obtain rfl := Option.some.inj h; exact q3037
  | 1, _, h => by obtain rfl := Option.some.inj h; exact q3039
  | 2, _, h => by obtain rfl := Option.some.inj h; exact q3042
  | 3, _, h => by obtain rfl := Option.some.inj h; exact q3043
  | 4, _, h => by obtain rfl := Option.some.inj h; exact q3044
  | 5, _, h => by obtain rfl := Option.some.inj h; exact q3045
  | 6, _, h => by obtain rfl := Option.some.inj h; exact q3051
  | 7, _, h => by obtain rfl := Option.some.inj h; exact q3052
  | 8, _, h => by obtain rfl := Option.some.inj h; exact q3053
  | 9, _, h => by obtain rfl := Option.some.inj h; exact q3054
  | 10, _, h => by obtain rfl := Option.some.inj h; exact q3055
  | 11, _, h => by obtain rfl := Option.some.inj h; exact q3056
  | 12, _, h => by obtain rfl := Option.some.inj h; exact q3062
  | 13, _, h => by obtain rfl := Option.some.inj h; exact q3063
  | 14, _, h => by obtain rfl := Option.some.inj h; exact q3064
  | 15, _, h => by obtain rfl := Option.some.inj h; exact q3065
  | 16, _, h => by obtain rfl := Option.some.inj h; exact q3066
  | 17, _, h => by obtain rfl := Option.some.inj h; exact q3067
  | 18, _, h => by obtain rfl := Option.some.inj h; exact q3068
  | 19, _, h => by obtain rfl := Option.some.inj h; exact q3070
  | 20, _, h => by obtain rfl := Option.some.inj h; exact q3038
  | 21, _, h => by obtain rfl := Option.some.inj h; exact q3048
  | 22, _, h => by obtain rfl := Option.some.inj h; exact q3058
  | 23, _, h => by obtain rfl := Option.some.inj h; exact q3057
  | _ + 24, _, h => by cases h
theorem any_of (X : Cx γ p l R s m args meth c cc own nL ret D) {C : String} (hq : Jvm.Cond.castable C "java/lang/Object" ∈ lw_tbl) {a : Nat} (h : ∃ cell : Cell, H[a]? = some cell ∧ cell.vm.isStatics = false ∧ s.vm.findClass C = some cell.cls) : va_Any "java/lang/Object" s H a := by
  obtain ⟨cell, h1, h2, h3⟩ := h
  obtain ⟨c0, t0, f1, f2, f3⟩ := Jvm.Cond.castable_spec (va_Nw.use (A := args) rfl (X.nC hq))
  cases h3.symm.trans f1
  obtain ⟨kC, hkC, -⟩ := Vm.findClass_spec h3
  exact ⟨cell, h1, h2, ⟨kC, hkC⟩, fun comp h => by cases f2.symm.trans h; exact f3⟩
theorem any_arr (X : Cx γ p l R s m args meth c cc own nL ret D) {k : Nat} {ty : FieldType} {C : String} {x : vp_A} {a : Nat} (hk : (tysL γ)[k]? = some (γ.2.2.1 k, ty)) (hnm : va_RA s (γ.2.2.1 k) ty → s.vm.findClass C = some (γ.2.2.1 k)) (hq : Jvm.Cond.castable C "java/lang/Object" ∈ lw_tbl) (h : va_at γ.2.1 vwCl (a, .inl (γ.2.2.1 k, x)) H) : va_Any "java/lang/Object" s H a := by
  have hvm0 : (vp_cell (γ.2.2.1 k) x).vm = .none := by
    obtain ⟨n, f | f | f | f | f⟩ := x <;> rfl
  have hcl0 : (vp_cell (γ.2.2.1 k) x).cls = γ.2.2.1 k := by
    obtain ⟨n, f | f | f | f | f⟩ := x <;> rfl
  exact any_of X hq ⟨_, h, by rw [hvm0]; rfl, by rw [hcl0]; exact hnm (X.K.2 k _ hk).2⟩
/-- whatever can be kept in an array is an object of some class -/
theorem any_cv (X : Cx γ p l R s m args meth c cc own nL ret D) {κ : KK} {v : Value} {a : Nat} (hH : hp γ κ w H) (h : cv κ w.1 v (.ref a)) (hv : nsp v) : va_Any "java/lang/Object" s H a := by
  cases v with
  | ref n =>
    obtain ⟨hn, h1⟩ := h
    cases h1
    cases hM : w.1 n with
    | none => exact absurd hM hn
    | some e =>
      have hat := hH.1 n e hM
      match e, hat with
      | .inl o, hat =>
        obtain ⟨cs, g1, g2⟩ := hat
        have g3 := g2
        obtain ⟨r, hr, -⟩ := g3
        exact any_of X (castO _ _ hr) (va_recv X.K (va_P1 g2) hr (q0 := 0) rfl)
      | .inr (.inl (N, .inl f)), hat => exact any_arr X (k := 0) rfl (fun h => h) q3076 hat
      | .inr (.inl (N, .inr (.inl f))), hat => exact any_arr X (k := 1) rfl (fun h => h) q3079 hat
      | .inr (.inl (N, .inr (.inr (.inl f)))), hat => exact any_arr X (k := 0) rfl (fun h => h) q3076 hat
      | .inr (.inl (N, .inr (.inr (.inr (.inl f))))), hat => exact any_arr X (k := 2) rfl (fun h => h) q3080 hat
      | .inr (.inl (N, .inr (.inr (.inr (.inr f))))), hat => exact any_arr X (k := 3) rfl (fun h => by obtain ⟨_, _, -, -, -, h4⟩ := h; exact h4) q3078 hat
      | .inr (.inr (.inl t)), hat =>
        obtain ⟨g, a1, -⟩ := hat
        have g3 := a1
        obtain ⟨r, hr, -⟩ := g3
        exact any_of X (castO _ _ hr) (va_recv X.K (va_P1 a1) hr (q0 := 0) rfl)
      | .inr (.inr (.inr t)), hat =>
        obtain ⟨g, a1, -⟩ := hat
        exact any_arr X (k := 3) rfl (fun h => by obtain ⟨_, _, -, -, -, h4⟩ := h; exact h4) q3078 a1
  | retAddr k =>
    obtain ⟨a1, h1, h2⟩ := h
    cases h1
    have h3 := (hH.2.2.2.1 a k h2).1.1
    unfold spat at h3
    have hv : k < 4294967296 := hv
    rw [if_pos hv] at h3
    have g3 := h3
    obtain ⟨r, hr, -⟩ := g3
    exact any_of X (castO _ _ hr) (va_recv X.K (va_P1 h3) hr (q0 := 0) rfl)
  | null => cases h
  | int x => cases h
  | long x => cases h
  | float x => cases h
  | double x => cases h
theorem vpq_size (cA : ClassId) (N : Nat) (g : Nat → Option Nat) : (vp_cell cA (N, .inr (.inr (.inr (.inr g))))).slots.size = N := by
  rw [vp_cell_q, arrV_size]
/-- a write to an array of references: its heap -/
theorem raH {κ : KK} {n N : Nat} {f f' : Nat → Value} {g g' : Nat → Option Nat} {H1 : Heap} (hg : (γ.2.2.2 2) < γ.1.heap.size) (hH : hp γ κ w H) (hM : w.1 n = some (raO N f)) (q1 : H[κ.1 n]? = some (vp_cell (γ.2.2.1 3) (N, .inr (.inr (.inr (.inr g)))))) (e1 : H1[κ.1 n]? = some (vp_cell (γ.2.2.1 3) (N, .inr (.inr (.inr (.inr g')))))) (e2 : H1.size = H.size) (e3 : ∀ q, q ≠ κ.1 n → H1[q]? = H[q]?) (hcv : ∀ i, i < N → cv κ w.1 (f' i) (va_rf (g' i)) ∧ nsp (f' i)) : hp γ κ (upm w.1 n (raO N f'), w.2) H1 ∧ xt κ w.1 κ (upm w.1 n (raO N f')) ∧ ∀ z, sd z H1 = sd z H := by
  have hn : w.1 n ≠ none := by rw [hM]; exact fun h => by cases h
  have hsd : ∀ z, sd z H1 = sd z H := fun z => sd_same e2 fun a x hx => by
    by_cases ha : a = κ.1 n
    · subst ha
      rw [q1] at hx
      cases hx
      exact ⟨_, e1, by rw [vpq_size, vpq_size]⟩
    · exact ⟨x, by rw [e3 a ha]; exact hx, rfl⟩
  have hxt : xt κ w.1 κ (upm w.1 n (raO N f')) := xt_upm _ _ _
  refine ⟨hp_mut hH hg hM (q := (n, false)) hn rfl ⟨g', e1, fun i hi => ⟨cv_xt hxt (hcv i hi).1, (hcv i hi).2⟩⟩ (fun y hy => ?_) e2 e3 (hsd _), hxt, hsd⟩
  obtain ⟨j, bb⟩ := y
  cases bb with
  | false =>
    by_cases hj : j = n
    · rw [hj]; exact hn
    · have h9 : upm w.1 n (raO N f') j ≠ none := hy
      rw [upm_n _ _ hj] at h9
      exact h9
  | true =>
    obtain ⟨t, h1, h2⟩ := hy
    by_cases hj : j = n
    · have h9 : upm w.1 n (raO N f') j = some (.inr (.inr (.inl t))) := h1
      rw [hj, upm_s] at h9
      cases h9
    · have h9 : upm w.1 n (raO N f') j = some (.inr (.inr (.inl t))) := h1
      rw [upm_n _ _ hj] at h9
      exact ⟨t, h9, h2⟩
theorem J_rld (X : Cx γ p l R s m args meth c cc own nL ret D) {v : Value} {i : Int32} {K : Value → Prop} (hP : rld w v i K) (d : decode cc pc = .ok (.aaload, 1)) (k : ∀ x, isr x → K x → J γ p l e R s m args below meth c nL b κ0 M0 Q w (pc + 1) ls (x :: st)) : J γ p l e R s m args below meth c nL b κ0 M0 Q w pc ls (.int i :: v :: st) := by
  obtain ⟨n, N, f, rfl, hM, hin, hr, hK⟩ := hP
  intro κ H locs lsC stC hH hx hl hs hS
  obtain ⟨c1, r1, rfl, h1, hs1⟩ := rl_c hs
  obtain ⟨c2, r2, rfl, h2, hs2⟩ := rl_c hs1
  obtain rfl : c1 = .int i := h1
  obtain ⟨hn, rfl⟩ := h2
  obtain ⟨g, a1, a2⟩ := hH.1 n _ hM
  have hlt : i.toNatClampNeg < N := Nat.not_le.mp fun q => hin (Or.inr q)
  exact va_aldq X.x X.b X.K (va_P1 a1) 0 3 rfl rfl hin d (k _ hr hK κ H locs lsC _ hH hx hl ⟨(a2 _ hlt).1, hs2⟩ hS)
theorem J_rst (X : Cx γ p l R s m args meth c cc own nL ret D) {v x : Value} {i : Int32} {K : AW → Prop} (hP : rst w v i x K) (d : decode cc pc = .ok (.aastore, 1)) (k : ∀ w', K w' → J γ p l e R s m args below meth c nL b κ0 M0 Q w' (pc + 1) ls st) : J γ p l e R s m args below meth c nL b κ0 M0 Q w pc ls (x :: .int i :: v :: st) := by
  obtain ⟨n, N, f, rfl, hM, hin, hv, hK⟩ := hP
  have k := k _ hK
  intro κ H locs lsC stC hH hx hl hs hS
  obtain ⟨c1, r1, rfl, h1, hs1⟩ := rl_c hs
  obtain ⟨c2, r2, rfl, h2, hs2⟩ := rl_c hs1
  obtain ⟨c3, r3, rfl, h3, hs3⟩ := rl_c hs2
  obtain rfl : c2 = .int i := h2
  obtain ⟨hn, rfl⟩ := h3
  obtain ⟨g, a1, a2⟩ := hH.1 n _ hM
  have q1 : H[κ.1 n]? = some (vp_cell (γ.2.2.1 3) (N, .inr (.inr (.inr (.inr g))))) := a1
  have hlt : i.toNatClampNeg < N := Nat.not_le.mp fun q => hin (Or.inr q)
  have h0 : ¬ i < 0 := fun q => hin (Or.inl q)
  have hA := (hH.2.2.1 (n, false) hn).1
  have fin : ∀ (r : Option Nat) (H1 : Heap), c1 = va_rf r → H1[κ.1 n]? = some ((vp_cell (γ.2.2.1 3) (N, .inr (.inr (.inr (.inr g))))).setSlot i.toNatClampNeg (va_rf r)) → H1.size = H.size → (∀ q, q ≠ κ.1 n → H1[q]? = H[q]?) → W p l e R s m args below meth c H1 (locs ++ [⟨κ.1 n, i.toNatClampNeg⟩]) (H.size - s.heap.size) (sd s.heap.size H) (QFo b γ R s args below κ0 M0 Q) (F0 m (pc + 1) lsC r3) := by
    intro r H1 hr e1 e2 e3
    subst hr
    have e4 : H1[κ.1 n]? = some (vp_cell (γ.2.2.1 3) (N, .inr (.inr (.inr (.inr (va_up g i.toNatClampNeg r)))))) := by
      rw [e1, vp_cell_q, vp_cell_q, arrV_store]
      congr 2
      funext q
      by_cases hq : q = i.toNatClampNeg
      · subst hq
        simp [updV, va_up]
      · simp [updV, va_up, hq]
    obtain ⟨b1, hxt, hsd⟩ := raH (f' := va_up f i.toNatClampNeg x) X.g.2.2.1.1 hH hM q1 e4 e2 e3 fun j hj => by
      by_cases hq : j = i.toNatClampNeg
      · subst hq
        rw [va_up_self, va_up_self]
        exact ⟨h1, hv⟩
      · rw [va_up_ne _ _ hq, va_up_ne _ _ hq]
        exact a2 j hj
    have hW := k κ H1 _ lsC r3 b1 (xt_tr hx hxt) (lrel_xt hxt hl) (rl_mono (fun _ _ q => cv_xt hxt q) hs3) (hS.put (k := i.toNatClampNeg) e2 e3 hA)
    rw [e2, hsd] at hW
    exact hW
  have harr := (X.K.2 3 _ rfl).1 N (fun j => va_rf (g j))
  rcases cv_isr h1 (by cases x <;> first | trivial | exact hv.elim) with rfl | ⟨a, rfl⟩
  · exact va_WaastN (C := "java/lang/Object") X.x X.b q1 harr (fun h => by cases h) (by show ¬ (i < 0 ∨ (arrV _ _ _).slots.size ≤ _); rw [arrV_size]; exact hin) rfl rfl d fun H1 e1 e2 e3 => fin none H1 rfl e1 e2 e3
  · obtain ⟨cellV, g1, g3, ⟨kC, hkC⟩, hasg⟩ := any_cv X hH h1 hv
    obtain ⟨kA, comp, k1, k2, k3, -⟩ := (X.K.2 3 _ rfl).2
    obtain ⟨kE, hkE, -⟩ := Vm.findClass_spec k3
    exact W.aast X.x X.b q1 (fun q h => by cases h) (fun h => by cases h) k1 k2 rfl hkE ⟨h0, by show _ < (arrV _ _ _).slots.size; rw [arrV_size]; exact hlt⟩ g1 (fun q h => by rw [h] at g3; cases g3) hkC (hasg _ k3) rfl rfl d fun H1 e1 e2 e3 => fin (some a) H1 rfl e1 e2 e3
theorem J_rln (X : Cx γ p l R s m args meth c cc own nL ret D) {v : Value} {K : Int32 → Prop} (hP : rln w v K) (d : decode cc pc = .ok (.arraylength, 1)) (k : ∀ x, K x → J γ p l e R s m args below meth c nL b κ0 M0 Q w (pc + 1) ls (.int x :: st)) : J γ p l e R s m args below meth c nL b κ0 M0 Q w pc ls (v :: st) := by
  intro κ H locs lsC stC hH hx hl hs hS
  obtain ⟨c1, r1, rfl, h1, hs1⟩ := rl_c hs
  rcases hP with ⟨n, N, f, rfl, hM, hK⟩ | ⟨rfl, hK⟩
  · obtain ⟨hn, rfl⟩ := h1
    obtain ⟨g, a1, a2⟩ := hH.1 n _ hM
    exact va_alen X.x X.b X.K (va_P1 a1) 0 3 rfl rfl rfl d (k _ hK κ H locs lsC _ hH hx hl ⟨rfl, hs1⟩ hS)
  · obtain ⟨a, rfl, h2⟩ := h1
    have h3 := (hH.2.2.2.1 a _ h2).1.1
    unfold spat at h3
    rw [if_neg (by omega)] at h3
    have ha : a = γ.2.2.2 2 := h3.1
    subst ha
    have hT : va_T (.object "java/lang/Object") (γ.2.2.2 2) 0 (fun _ => .null) (An γ) s s.heap := (va_T.moved X.w.alike X.g.2.2.2.2.2.2.2.1).kept fun a h1 h2 => X.h.2 a (by unfold An at h2; omega)
    exact va_tlen X.x X.b hT hS rfl d (k _ hK κ H locs lsC _ hH hx hl ⟨rfl, hs1⟩ hS)
theorem J_nar (X : Cx γ p l R s m args meth c cc own nL ret D) {x : Int32} {index : Nat} {K : Value → AW → Prop} (hP : nar w x K) (hlk : Jvm.Cond.classLink own index "java/lang/Object" ∈ lw_all) (d : decode cc pc = .ok (.anewarray index, 3)) (k : ∀ v w', (∃ n, v = .ref n) → K v w' → J γ p l e R s m args below meth c nL b κ0 M0 Q w' (pc + 3) ls (v :: st)) : J γ p l e R s m args below meth c nL b κ0 M0 Q w pc ls (.int x :: st) := by
  intro κ H locs lsC stC hH hx hl hs hS
  obtain ⟨c1, r1, rfl, h1, hs1⟩ := rl_c hs
  obtain rfl : c1 = .int x := h1
  obtain ⟨N, hx0, hxN, hN, hcst, hnm⟩ := hP
  obtain ⟨bb, hbb, -⟩ := hH.2.2.2.2.1
  obtain ⟨n, hn, hK⟩ := hnm bb hbb
  refine W_fact (fun T hT Y => rmh1 X (N := N) hH hcst (by omega) (by omega) Y hT) fun hR => ?_
  obtain ⟨hR1, hR2, hR3⟩ := hR
  subst hxN
  have hover : (Jvm.Cond.arrayOver (.object "java/lang/Object")).before args s = true := by
    obtain ⟨a0, h0⟩ := X.g.1
    exact va_AO.use (va_AO.moved X.w.alike (va_AO.of (h0 _ q902)))
  refine W.anew X.x X.b X.o (X.t _ hlk) hover rfl d rfl hx0 (by omega) hR1 hR2 fun cA kA comp f1 f2 f3 f4 => ?_
  have hcA : cA = γ.2.2.1 3 := by
    obtain ⟨_, _, -, -, -, h9⟩ : va_RA s (γ.2.2.1 3) (.object "java/lang/Object") := (X.K.2 3 _ rfl).2
    exact Option.some.inj (f1.symm.trans h9)
  subst hcA
  generalize hcell : ({ cls := γ.2.2.1 3, slots := Array.replicate x.toNatClampNeg .null, vm := .none } : Cell) = cell
  have o1 : ∀ q, q < H.size → (H.push cell)[q]? = H[q]? := fun q hq => by rw [Array.getElem?_push, if_neg (Nat.ne_of_lt hq)]
  have hcs : cell.slots.size = x.toNatClampNeg := by rw [← hcell]; simp
  have hn0 : γ.1.heap.size ≤ H.size := hH.2.2.2.2.2.1.1
  have hsd : ∀ z, z ≤ H.size → sd z (H.push cell) = sd z H + x.toNatClampNeg := fun z hz => by rw [sd_push _ hz, hcs]
  obtain ⟨b7, b8, -⟩ := hH.2.2.2.2.2.2
  have hnew := hp_new hH X.g.2.2.1.1 hn (e' := raO x.toNatClampNeg (fun _ => .null)) (u := w.2 + (x.toNatClampNeg + 4)) (H1 := H.push cell) hcst (fun t h => by cases h) (by simp) o1 (by
    refine ⟨fun _ => none, ?_, fun i hi => ⟨rfl, trivial⟩⟩
    show (H.push cell)[if n = n then H.size else κ.1 n]? = some (vp_cell _ _)
    rw [if_pos rfl, ← hcell, vp_cell_q, arrV_new]
    simp
    rfl) (by simp; omega) (by rw [hsd _ hn0]; omega)
  obtain ⟨hH1, hxt⟩ := hnew
  have hW := k (.ref n) _ ⟨n, rfl⟩ hK _ (H.push cell) locs lsC (.ref H.size :: r1) hH1 (xt_tr hx hxt) (lrel_xt hxt hl) ⟨⟨by show upm w.1 n _ n ≠ none; rw [upm_s]; exact fun h => by (cases h), by show Value.ref H.size = .ref (if n = n then H.size else κ.1 n); rw [if_pos rfl]⟩, rl_mono (fun _ _ q => cv_xt hxt q) hs1⟩ ⟨by simp; omega, fun x h1 h2 => (o1 x (by omega)).trans (hS.2.1 x h1 h2), hS.2.2⟩
  exact W_t hW
theorem nn_of {z : Int32} (hz : ¬ z < 0) : z.toInt = (z.toNatClampNeg : Int) := by
  have hz0 : (0 : Int) ≤ z.toInt := by
    have := Int32.not_lt.mp hz
    simpa using Int32.le_iff_toInt_le.mp this
  show z.toInt = ((z.toInt.toNat : Nat) : Int)
  omega
theorem J_rcp (X : Cx γ p l R s m args meth c cc own nL ret D) {v u : Value} {sp dp n : Int32} {index : Nat} {K : AW → Prop} (hP : rcp w v sp u dp n K) (hl1 : Jvm.Cond.methodLink own index arraycopyName ∈ lw_all) (hl2 : Jvm.Cond.native arraycopyName ∈ lw_all) (hl3 : Jvm.Cond.static arraycopyName ∈ lw_all) (hl4 : Jvm.Cond.initialized "java/lang/System" ∈ lw_all) (hD : 1 ≤ D) (hrest : (st.map fun v => v.category).sum + (nativeFrameWords "java/lang/System" "arraycopy" 5 + 11) ≤ 64) (d : decode cc pc = .ok (.invokestatic index, 3)) (k : ∀ w', K w' → J γ p l e R s m args below meth c nL b κ0 M0 Q w' (pc + 3) ls st) : J γ p l e R s m args below meth c nL b κ0 M0 Q w pc ls (.int n :: .int dp :: u :: .int sp :: v :: st) := by
  obtain ⟨j, J0, N0, N1, f, g, rfl, rfl, hM, hM1, h1, h2, h3, h4, h5, hK⟩ := hP
  have k := k _ hK
  intro κ H locs lsC stC hH hx hl hs hS
  obtain ⟨_, s1, rfl, z1, hs1⟩ := rl_c hs
  obtain ⟨_, s2, rfl, z2, hs2⟩ := rl_c hs1
  obtain ⟨_, s3, rfl, ⟨hn1, z3⟩, hs3⟩ := rl_c hs2
  obtain ⟨_, s4, rfl, z4, hs4⟩ := rl_c hs3
  obtain ⟨_, s5, rfl, ⟨hn, z5⟩, hs5⟩ := rl_c hs4
  subst z1 z2 z3 z4 z5
  obtain ⟨fc, a1, a2⟩ := hH.1 j _ hM
  obtain ⟨gc, b1, b2⟩ := hH.1 J0 _ hM1
  have hc0 : H[κ.1 j]? = some (vp_cell (γ.2.2.1 3) (N0, .inr (.inr (.inr (.inr fc))))) := a1
  have hc1 : H[κ.1 J0]? = some (vp_cell (γ.2.2.1 3) (N1, .inr (.inr (.inr (.inr gc))))) := b1
  obtain ⟨-, k0, hk0, cm0, hkk0⟩ := (X.K.2 3 _ rfl).1 N0 (fun j => va_rf (fc j))
  obtain ⟨-, k1, hk1, cm1, hkk1⟩ := (X.K.2 3 _ rfl).1 N1 (fun j => va_rf (gc j))
  have hA := (hH.2.2.1 (J0, false) hn1).1
  have hel : ∀ i : Nat, i < n.toNatClampNeg → ∀ y : Nat, fc (sp.toNatClampNeg + i) = some y → va_Any "java/lang/Object" s H y := fun i hi y hy => by
    have h9 := a2 (sp.toNatClampNeg + i) (by show _ < N0; omega)
    have h10 : cv κ w.1 (f (sp.toNatClampNeg + i)) (va_rf (fc (sp.toNatClampNeg + i))) := h9.1
    rw [hy] at h10
    exact any_cv X hH h10 h9.2
  intro T hT Y
  obtain ⟨vm', X', step⟩ := Y.arraycopy X.x X.o (X.t _ hl1) (X.t _ hl2) (X.t _ hl3) (X.t _ hl4) (src := κ.1 j) (dst := κ.1 J0) (cs := vp_cell (γ.2.2.1 3) (N0, .inr (.inr (.inr (.inr fc))))) (cd := vp_cell (γ.2.2.1 3) (N1, .inr (.inr (.inr (.inr gc))))) (srcPos := sp) (destPos := dp) (n := n) (by rw [hT]; exact hc0) (by rw [hT]; exact hc1)
    (fun _ h => by cases h) (fun _ h => by cases h) (fun h => by cases h) (fun h => by cases h) hk0 hk1 hkk0 hkk1 rfl h1 h2 h3
    (by rw [nn_of h1, nn_of h3]; show ¬ _ > ((arrV (γ.2.2.1 3) N0 (fun j => va_rf (fc j))).slots.size : Int); rw [arrV_size]; omega)
    (by rw [nn_of h2, nn_of h3]; show ¬ _ > ((arrV (γ.2.2.1 3) N1 (fun j => va_rf (gc j))).slots.size : Int); rw [arrV_size]; omega)
    (fun vm₁ hal i hi => by
      have e0 : (vp_cell (γ.2.2.1 3) (N0, .inr (.inr (.inr (.inr fc))))).slots.getD (sp.toNatClampNeg + i) .null = va_rf (fc (sp.toNatClampNeg + i)) := by
        show (arrV (γ.2.2.1 3) N0 (fun j => va_rf (fc j))).slots.getD _ _ = _
        rw [Array.getD_eq_getD_getElem?, arrV_read _ _ (by omega)]
        rfl
      rw [e0]
      cases hy : fc (sp.toNatClampNeg + i) with
      | none => exact ⟨rfl, trivial⟩
      | some y =>
        obtain ⟨cellV, g1, g2, ⟨kC, hkC⟩, hasg⟩ := hel i hi y hy
        obtain ⟨kA, comp, r1, r2, r3, -⟩ := (X.K.2 3 _ rfl).2
        cases hk1.symm.trans r1
        cases hkk1.symm.trans r2
        obtain ⟨kE, hkE, -⟩ := Vm.findClass_spec r3
        obtain ⟨kC', hkC', -⟩ := hal.2.2 _ _ hkC
        obtain ⟨kE', hkE', -⟩ := hal.2.2 _ _ hkE
        exact ⟨rfl, cellV, (show T.heap[y]? = some cellV by rw [hT]; exact g1), (fun q h => by rw [h] at g2; cases g2), ⟨kC', hkC'⟩, ⟨kE', hkE'⟩, (by show vm₁.assignable _ _ = true; rw [hal.assignable]; exact hasg _ r3)⟩)
    (g := F0 m pc lsC (.int n :: .int dp :: .ref (κ.1 J0) :: .int sp :: .ref (κ.1 j) :: s5)) rfl (hl.1.trans X.nl.symm) (rest := s5) rfl (by rw [X.b]; exact d) (by rw [X.rm.1]; exact hD) (by rw [X.rm.2.1]; show 2 * 0 + (s5.map fun v => v.category).sum + _ ≤ _; rw [rl_cat hs5]; omega)
  have e1 : copied (vp_cell (γ.2.2.1 3) (N0, .inr (.inr (.inr (.inr fc))))) (vp_cell (γ.2.2.1 3) (N1, .inr (.inr (.inr (.inr gc))))) sp dp n = vp_cell (γ.2.2.1 3) (N1, .inr (.inr (.inr (.inr (va_cpy fc gc sp.toNatClampNeg dp.toNatClampNeg n.toNatClampNeg))))) := by
    rw [vp_cell_q, vp_cell_q, vp_cell_q]
    exact va_copied (fun z => va_rf z) (γ.2.2.1 3) (γ.2.2.1 3) fc gc h4
  rw [e1] at X' step
  generalize hcell : vp_cell (γ.2.2.1 3) (N1, .inr (.inr (.inr (.inr (va_cpy fc gc sp.toNatClampNeg dp.toNatClampNeg n.toNatClampNeg))))) = cell at X' step
  have hlt : κ.1 J0 < H.size := (Array.getElem?_eq_some_iff.mp hc1).1
  have hheap : ((T.setVm vm').setCell (κ.1 J0) cell).heap = H.setIfInBounds (κ.1 J0) cell := by rw [← hT]; rfl
  have z4 : (H.setIfInBounds (κ.1 J0) cell)[κ.1 J0]? = some (vp_cell (γ.2.2.1 3) (N1, .inr (.inr (.inr (.inr (va_cpy fc gc sp.toNatClampNeg dp.toNatClampNeg n.toNatClampNeg)))))) := by rw [hcell]; simp [Array.getElem?_setIfInBounds, hlt]
  have e3 : ∀ q : Nat, q ≠ κ.1 J0 → (H.setIfInBounds (κ.1 J0) cell)[q]? = H[q]? := fun q hq => by simp [Array.getElem?_setIfInBounds, Ne.symm hq]
  obtain ⟨b3, hxt, hsd⟩ := raH (f' := va_cpy f g sp.toNatClampNeg dp.toNatClampNeg n.toNatClampNeg) X.g.2.2.1.1 hH hM1 hc1 z4 (by simp) e3 fun i hi => by
    unfold va_cpy
    by_cases hc : dp.toNatClampNeg ≤ i ∧ i < dp.toNatClampNeg + n.toNatClampNeg
    · rw [if_pos hc, if_pos hc]
      exact a2 _ (by show _ < N0; omega)
    · rw [if_neg hc, if_neg hc]
      exact b2 i hi
  obtain ⟨t, g1, g2⟩ := W_t (k κ (H.setIfInBounds (κ.1 J0) cell) _ lsC s5 b3 (xt_tr hx hxt) (lrel_xt hxt hl) (rl_mono (fun _ _ q => cv_xt hxt q) hs5) ⟨by simp; exact hS.1, fun q g1 g2 => by
      rw [e3 q (fun e => g2 (by rw [e]; exact hA))]
      exact hS.2.1 q g1 g2, fun q hq => by
      rcases List.mem_append.mp hq with h | h
      · exact hS.2.2 q h
      · obtain ⟨z, -, hz⟩ := List.mem_map.mp h
        rw [← hz]
        exact hA⟩) _ hheap X'
  exact ⟨t, step t g1, g2⟩
theorem J_getC4 (X : Cx γ p l R s m args meth c cc own nL ret D) {v : Value} {index : Nat} (hv : ∃ n N f, v = .ref n ∧ w.1 n = some (raO N f)) (hl1 : Jvm.Cond.methodLink own index ⟨"java/lang/Object", "getClass", "()Ljava/lang/Class;"⟩ ∈ lw_all) (hl2 : Jvm.Cond.declares ⟨"java/lang/Object", "getClass", "()Ljava/lang/Class;"⟩ ∈ lw_tbl) (hl3 : Jvm.Cond.selects "[Ljava/lang/Object;" ⟨"java/lang/Object", "getClass", "()Ljava/lang/Class;"⟩ ⟨"java/lang/Object", "getClass", "()Ljava/lang/Class;"⟩ ∈ lw_all) (hl4 : Jvm.Cond.instanceMethod ⟨"java/lang/Object", "getClass", "()Ljava/lang/Class;"⟩ ∈ lw_all) (hl5 : Jvm.Cond.native ⟨"java/lang/Object", "getClass", "()Ljava/lang/Class;"⟩ ∈ lw_all) (hD : 1 ≤ D) (hrest : (st.map fun v => v.category).sum + 14 ≤ 64) (d : decode cc pc = .ok (.invokevirtual index, 3)) (k : J γ p l e R s m args below meth c nL b κ0 M0 Q w (pc + 3) ls (.retAddr 4294967300 :: st)) : J γ p l e R s m args below meth c nL b κ0 M0 Q w pc ls (v :: st) := by
  obtain ⟨n, N, f, rfl, hM⟩ := hv
  intro κ H locs lsC stC hH hx hl hs hS
  obtain ⟨c1, r1, rfl, h1, hs1⟩ := rl_c hs
  obtain ⟨hn, rfl⟩ := h1
  obtain ⟨g, a1, a2⟩ := hH.1 n _ hM
  have q1 : H[κ.1 n]? = some (vp_cell (γ.2.2.1 3) (N, .inr (.inr (.inr (.inr g))))) := a1
  obtain ⟨_, _, -, -, -, h9⟩ : va_RA s (γ.2.2.1 3) (.object "java/lang/Object") := (X.K.2 3 _ rfl).2
  exact va_getC X.x X.b (X.nl.trans hl.1.symm) X.o (X.t _ hl1) (va_Nw.use (A := args) rfl (X.nD hl2)) (X.t _ hl3) (X.t _ hl4) (X.t _ hl5) (va_Mi.moved X.w.alike X.g.2.2.2.2.2.2.1.2.2) ⟨_, q1, rfl, h9⟩ (by rw [X.rm.1]; exact hD) (by rw [X.rm.2.1, rl_cat hs1]; omega) d (k κ H locs lsC _ hH hx hl ⟨cv_sp hH (k := 4) (by omega), hs1⟩ hS)
theorem J_ldcM (X : Cx γ p l R s m args meth c cc own nL ret D) {index : Nat} (hl1 : Jvm.Cond.classLink own index "[Ljava/lang/Object;" ∈ lw_all) (d : decode cc pc = .ok (.ldc index, 2)) (k : J γ p l e R s m args below meth c nL b κ0 M0 Q w (pc + 2) ls (.retAddr 4294967300 :: st)) : J γ p l e R s m args below meth c nL b κ0 M0 Q w pc ls st := by
  intro κ H locs lsC stC hH hx hl hs hS
  exact va_ldcM X.x X.b X.o (X.t _ hl1) (va_Mi.moved X.w.alike X.g.2.2.2.2.2.2.1.2.2) d (k κ H locs lsC _ hH hx hl ⟨cv_sp hH (k := 4) (by omega), hs⟩ hS)
/-- what is compared by its address: null, names, what is there from the start on -/
def isx (v : Value) : Prop := match v with
  | .null => True
  | .ref _ => True
  | .retAddr k => 4294967296 ≤ k
  | _ => False
theorem cv_eqx {κ : KK} (hH : hp γ κ w H) {v u c1 c2 : Value} (h1 : cv κ w.1 v c1) (h2 : cv κ w.1 u c2) (hr : isr v ∧ isr u) (hs : isx v ∨ isx u) : ∃ r1 r2 : Option Nat, c1 = va_rf r1 ∧ c2 = va_rf r2 ∧ (r1 = r2 ↔ v = u) := by
  obtain ⟨hv, hu⟩ := hr
  cases v with
  | null =>
    obtain rfl : c1 = .null := h1
    cases u with
    | null => exact ⟨none, none, rfl, h2, by simp⟩
    | ref n => exact ⟨none, some (κ.1 n), rfl, h2.2, by simp⟩
    | retAddr k => obtain ⟨a, rfl, -⟩ := h2; exact ⟨none, some a, rfl, rfl, by simp⟩
    | int x => exact hu.elim
    | long x => exact hu.elim
    | float x => exact hu.elim
    | double x => exact hu.elim
  | ref n =>
    obtain ⟨hn, rfl⟩ := h1
    cases u with
    | null => exact ⟨some (κ.1 n), none, rfl, h2, by simp⟩
    | ref n' =>
      obtain ⟨hn', rfl⟩ := h2
      refine ⟨some (κ.1 n), some (κ.1 n'), rfl, rfl, fun z => ?_, fun z => by cases z; rfl⟩
      have h9 := hH.2.1 (n, false) (n', false) hn hn' (Option.some.inj z)
      cases h9
      rfl
    | retAddr k =>
      obtain ⟨a, rfl, h3⟩ := h2
      refine ⟨some (κ.1 n), some a, rfl, rfl, fun z => ?_, fun z => by cases z⟩
      exact absurd (Option.some.inj z) ((hH.2.2.2.1 a k h3).2 (n, false) hn)
    | int x => exact hu.elim
    | long x => exact hu.elim
    | float x => exact hu.elim
    | double x => exact hu.elim
  | retAddr k =>
    obtain ⟨a, rfl, h3⟩ := h1
    cases u with
    | null => exact ⟨some a, none, rfl, h2, by simp⟩
    | ref n' =>
      obtain ⟨hn', rfl⟩ := h2
      refine ⟨some a, some (κ.1 n'), rfl, rfl, fun z => ?_, fun z => by cases z⟩
      exact absurd (Option.some.inj z).symm ((hH.2.2.2.1 a k h3).2 (n', false) hn')
    | retAddr k' =>
      obtain ⟨a', rfl, h4⟩ := h2
      refine ⟨some a, some a', rfl, rfl, fun z => ?_, fun z => ?_⟩
      · cases z
        cases h3.symm.trans h4
        rfl
      · cases z
        have g3 := (hH.2.2.2.1 a k h3).1.1
        have g4 := (hH.2.2.2.1 a' k h4).1.1
        unfold spat at g3 g4
        have hv : 4294967296 ≤ k := hs.elim id id
        rw [if_neg (by omega)] at g3 g4
        rw [g3.1, g4.1]
    | int x => exact hu.elim
    | long x => exact hu.elim
    | float x => exact hu.elim
    | double x => exact hu.elim
  | int x => exact hv.elim
  | long x => exact hv.elim
  | float x => exact hv.elim
  | double x => exact hv.elim
def aqx (v u : Value) (K : Prop) : Prop := (isr v ∧ isr u) ∧ (isx v ∨ isx u) ∧ K
theorem J_acmx_eq (X : Cx γ p l R s m args meth c cc own nL ret D) {v u : Value} {off : Int} {tgt : Nat} (d : decode cc pc = .ok (.if_acmp .eq off, 3)) (ht : (pc : Int) + off = (tgt : Int)) (hv : isx u ∨ isx v) (hu : isr u ∧ isr v) (kt : u = v → J γ p l e R s m args below meth c nL b κ0 M0 Q w tgt ls st) (kf : ¬ u = v → J γ p l e R s m args below meth c nL b κ0 M0 Q w (pc + 3) ls st) : J γ p l e R s m args below meth c nL b κ0 M0 Q w pc ls (v :: u :: st) := by
  intro κ H locs lsC stC hH hx hl hs hS
  obtain ⟨c1, r1, rfl, h1, hs1⟩ := rl_c hs
  obtain ⟨c2, r2, rfl, h2, hs2⟩ := rl_c hs1
  obtain ⟨a1, a2, rfl, rfl, hi⟩ := cv_eqx hH h2 h1 hu hv
  exact lv_acmp_eq X.x X.b d ht (fun q => kt (hi.mp q) κ H locs lsC r2 hH hx hl hs2 hS) (fun q => kf (fun z => q (hi.mpr z)) κ H locs lsC r2 hH hx hl hs2 hS)
theorem J_acmx_ne (X : Cx γ p l R s m args meth c cc own nL ret D) {v u : Value} {off : Int} {tgt : Nat} (d : decode cc pc = .ok (.if_acmp .ne off, 3)) (ht : (pc : Int) + off = (tgt : Int)) (hv : isx u ∨ isx v) (hu : isr u ∧ isr v) (kt : ¬ u = v → J γ p l e R s m args below meth c nL b κ0 M0 Q w tgt ls st) (kf : u = v → J γ p l e R s m args below meth c nL b κ0 M0 Q w (pc + 3) ls st) : J γ p l e R s m args below meth c nL b κ0 M0 Q w pc ls (v :: u :: st) := by
  intro κ H locs lsC stC hH hx hl hs hS
  obtain ⟨c1, r1, rfl, h1, hs1⟩ := rl_c hs
  obtain ⟨c2, r2, rfl, h2, hs2⟩ := rl_c hs1
  obtain ⟨a1, a2, rfl, rfl, hi⟩ := cv_eqx hH h2 h1 hu hv
  exact lv_acmp_ne X.x X.b d ht (fun q => kt (fun z => q (hi.mpr z)) κ H locs lsC r2 hH hx hl hs2 hS) (fun q => kf (hi.mp q) κ H locs lsC r2 hH hx hl hs2 hS)
/-- a box's number -/
def gbx (v : Value) (K : Int32 → Prop) : Prop := ∃ x, v = bx x ∧ K x
theorem J_gbx (X : Cx γ p l R s m args meth c cc own nL ret D) {index : Nat} {v : Value} {K : Int32 → Prop} (hP : gbx v K) (hin : ∀ w ∈ u_ws RJ23 TJ23 1, w ∈ lw_all) (hk : Jvm.Cond.fieldLink own index (TJ23 0).1 (TJ23 0).2.1 (TJ23 0).2.2.1 ∈ lw_all) (d : decode cc pc = .ok (.getfield index, 3)) (k : ∀ x, K x → J γ p l e R s m args below meth c nL b κ0 M0 Q w (pc + 3) ls (.int x :: st)) : J γ p l e R s m args below meth c nL b κ0 M0 Q w pc ls (v :: st) := by
  obtain ⟨x, rfl, hK⟩ := hP
  intro κ H locs lsC stC hH hx hl hs hS
  obtain ⟨c1, r1, rfl, h1, hs1⟩ := rl_c hs
  obtain ⟨a, rfl, h2⟩ := bx_cell X hH h1
  exact va_get (D := γ.2.1) (cl := vwCl) (ci := 23) X.x X.b X.t hin X.o X.K (va_P1 h2) 0 rfl rfl 0 (by omega) (X.t _ hk) (fun _ h => h) rfl d (k x hK κ H locs lsC _ hH hx hl ⟨rfl, hs1⟩ hS)
theorem J_insb (X : Cx γ p l R s m args meth c cc own nL ret D) {index : Nat} {v : Value} {K : Prop} (hP : ckb v K) (hlink : Jvm.Cond.classLink own index RJ23 ∈ lw_all) (d : decode cc pc = .ok (.instanceof index, 3)) (k : K → J γ p l e R s m args below meth c nL b κ0 M0 Q w (pc + 3) ls (.int 1 :: st)) : J γ p l e R s m args below meth c nL b κ0 M0 Q w pc ls (v :: st) := by
  obtain ⟨⟨x, rfl⟩, hK⟩ := hP
  intro κ H locs lsC stC hH hx hl hs hS
  obtain ⟨c1, r1, rfl, h1, hs1⟩ := rl_c hs
  obtain ⟨a, rfl, h2⟩ := bx_cell X hH h1
  exact va_instS X.x X.b X.o (X.t _ hlink) (X.K.1 23 _ rfl).2 (va_recv X.K (va_P1 h2) (ci := 23) rfl (q0 := 0) rfl) d (k hK κ H locs lsC _ hH hx hl ⟨rfl, hs1⟩ hS)
end JR
