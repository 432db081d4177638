/-! Contracts over the abstract heap; calls -/
set_option maxRecDepth 100000
def rmJ (γ : GG) (D sz ss : Nat) : Room := { frames := D, cells := 1200144 - (sz - γ.1.heap.size), slots := 5496250 - ss, locals := 64 * D }
def PcJ (γ : GG) (κ0 : KK) (w : AW) (avs : List Value) (sz ss : Nat) : Array Value → State → Prop := fun a U =>
  (U.heap.size = sz ∧ sd γ.1.heap.size U.heap = ss) ∧ γ.1.WarmedH U.vm ∧ hp γ κ0 w U.heap ∧ ∃ cs, rl (cv κ0 w.1) avs cs ∧ a = cs.toArray
abbrev PP : Type := List Value → AW → (AOut → AW → Prop) → Prop
/-- a method that returns -/
def CT (γ : GG) (y : MethodName) (cc : ByteArray) (nL : Nat) (ret : Option FieldType) (D : Nat) (P : PP) : Prop :=
  ∀ (l : Launch), l.stackTraces = false → ∀ (κ0 : KK) (w : AW) (avs : List Value) (Q : AOut → AW → Prop) (sz ss : Nat), P avs w Q →
    Met l y (ws_ y cc nL ret) (rmJ γ D sz ss) (PcJ γ κ0 w avs sz ss) (Qn γ κ0 w.1 Q) (rmJ γ D sz ss).cells (rmJ γ D sz ss).slots (An γ)
/-- a method that returns or throws -/
def CX (γ : GG) (y : MethodName) (cc : ByteArray) (nL : Nat) (ret : Option FieldType) (D : Nat) (P : PP) : Prop :=
  ∀ (l : Launch), l.stackTraces = false → ∀ (κ0 : KK) (w : AW) (avs : List Value) (Q : AOut → AW → Prop) (sz ss : Nat), P avs w Q →
    vx_Met l y (ws_ y cc nL ret) (rmJ γ D sz ss) (PcJ γ κ0 w avs sz ss) (Qn γ κ0 w.1 Q) (Qx γ κ0 w.1 Q) (rmJ γ D sz ss).cells (rmJ γ D sz ss).slots (An γ)
theorem PcJ_blind {γ : GG} {κ0 : KK} {w : AW} {avs : List Value} {sz ss : Nat} : FrameBlind (PcJ γ κ0 w avs sz ss) := fun _ _ _ _ h => h
theorem sl_len : ∀ (vs : List Value), (lg_sl vs).length = (vs.map fun v => v.category).sum
  | [] => rfl
  | v :: vs => by
    have ih := sl_len vs
    unfold lg_sl at ih ⊢
    rw [List.flatMap_cons, List.length_append, ih, List.map_cons, List.sum_cons]
    rcases lv_cat v with h | h <;> simp [h]
theorem sd_self (H : Heap) : sd H.size H = 0 := by
  unfold sd
  rw [List.drop_of_length_le (by simp)]
  rfl
theorem args_rl {κ : KK} {M : AM} : ∀ {as bs : List Value} (i : Nat), rl (cv κ M) as bs → pr κ M (lv_args i as) (lv_args i bs)
  | [], [], _, _ => trivial
  | a :: as, b :: bs, i, h => by
    unfold lv_args
    refine ⟨⟨rfl, h.1⟩, ?_⟩
    rw [cv_cat h.1]
    exact args_rl _ h.2
  | [], _ :: _, _, h => h.elim
  | _ :: _, [], _, h => h.elim
theorem CT_of {γ : GG} {y : MethodName} {cc : ByteArray} {nL : Nat} {ret : Option FieldType} {D : Nat} {P : PP} {own : String} (hG : Gm γ) (hy : plainName y.cls = true) (ho : y.cls = own) (hlen : ∀ avs w Q, P avs w Q → (avs.map fun v => v.category).sum ≤ nL)
    (h : ∀ (p : Program) (l : Launch) (e : Env) (R : Room) (s : State) (m : MethodId) (args : Array Value) (below : List Frame) (meth : Method) (c : Code) (κ0 : KK) (w : AW) (avs : List Value) (Q : AOut → AW → Prop), Cx γ p l R s m args meth c cc own nL ret D → meth.name = y.name → P avs w Q → J γ p l e R s m args below meth c nL false κ0 w.1 Q w 0 (lv_args 0 avs) []) : CT γ y cc nL ret D P := by
  intro l hl κ0 w avs Q sz ss hP
  refine Met.ofW (cc := cc) (maxL := nL) (ret := ret) hy rfl ?_
  intro p e s m args below meth c s₁ B hml hv
  obtain ⟨⟨hsz, hss⟩, hW, hH, cs, hcs, rfl⟩ := hv
  have hts := atoms_spec (ws := ws_ y cc nL ret) B.pre
  have X : Cx γ p l (rmJ γ D sz ss) s m cs.toArray meth c cc own nL ret D := ⟨B.exec, B.bytes, B.returns, B.notSynchronized, hml, by rw [← ho]; exact findClass_of_methodNamed B.named, fun w h => hts w (List.mem_cons_of_mem _ h), hW, hH.2.2.2.2.2.1, hl, ⟨rfl, rfl, by rw [← hsz] <;> rfl, by rw [← hss] <;> rfl⟩, hG⟩
  have hin : meth.name = y.name := (name_of_methodNamed B.named B.method).1
  have hlC : (lg_sl cs).length ≤ nL := by rw [sl_len, rl_cat hcs]; exact hlen avs w Q hP
  have hl0 := lv_entry cs (n := nL) hlC
  rw [lg_entry_eq]
  generalize (lg_sl cs ++ List.replicate (nL - (lg_sl cs).length) Slot.unset).toArray = ls0 at hl0 ⊢
  have hJ := h p l e (rmJ γ D sz ss) s m cs.toArray below meth c κ0 w avs Q X hin hP κ0 s.heap [] ls0 [] hH xt_rf (has_lrel hl0 (args_rl 0 hcs)) trivial va_S.rf
  rw [Nat.sub_self, sd_self] at hJ
  exact hJ
theorem CX_of {γ : GG} {y : MethodName} {cc : ByteArray} {nL : Nat} {ret : Option FieldType} {D : Nat} {P : PP} {own : String} (hG : Gm γ) (hy : plainName y.cls = true) (ho : y.cls = own) (hlen : ∀ avs w Q, P avs w Q → (avs.map fun v => v.category).sum ≤ nL)
    (h : ∀ (p : Program) (l : Launch) (e : Env) (R : Room) (s : State) (m : MethodId) (args : Array Value) (below : List Frame) (meth : Method) (c : Code) (κ0 : KK) (w : AW) (avs : List Value) (Q : AOut → AW → Prop), Cx γ p l R s m args meth c cc own nL ret D → meth.name = y.name → (∀ x ∈ c.exceptionTable.toList, False) → P avs w Q → J γ p l e R s m args below meth c nL true κ0 w.1 Q w 0 (lv_args 0 avs) []) : CX γ y cc nL ret D P := by
  intro l hl κ0 w avs Q sz ss hP
  refine vx_ofW (cc := cc) (maxL := nL) (ret := ret) hy rfl ?_
  intro p e s m args below meth c s₁ B hml hno hv
  obtain ⟨⟨hsz, hss⟩, hW, hH, cs, hcs, rfl⟩ := hv
  have hts := atoms_spec (ws := ws_ y cc nL ret) B.pre
  have X : Cx γ p l (rmJ γ D sz ss) s m cs.toArray meth c cc own nL ret D := ⟨B.exec, B.bytes, B.returns, B.notSynchronized, hml, by rw [← ho]; exact findClass_of_methodNamed B.named, fun w h => hts w (List.mem_cons_of_mem _ h), hW, hH.2.2.2.2.2.1, hl, ⟨rfl, rfl, by rw [← hsz] <;> rfl, by rw [← hss] <;> rfl⟩, hG⟩
  have hin : meth.name = y.name := (name_of_methodNamed B.named B.method).1
  have hlC : (lg_sl cs).length ≤ nL := by rw [sl_len, rl_cat hcs]; exact hlen avs w Q hP
  have hl0 := lv_entry cs (n := nL) hlC
  rw [lg_entry_eq]
  generalize (lg_sl cs ++ List.replicate (nL - (lg_sl cs).length) Slot.unset).toArray = ls0 at hl0 ⊢
  have hJ := h p l e (rmJ γ D sz ss) s m cs.toArray below meth c κ0 w avs Q X hin hno hP κ0 s.heap [] ls0 [] hH xt_rf (has_lrel hl0 (args_rl 0 hcs)) trivial va_S.rf
  rw [Nat.sub_self, sd_self] at hJ
  exact hJ
section CALLS
variable {γ : GG} {p : Program} {l : Launch} {e : Env} {R : Room} {s : State} {m : MethodId} {args : Array Value} {below : List Frame} {meth : Method} {c : Code} {nL : Nat} {b : Bool} {κ0 : KK} {M0 : AM} {Q : AOut → AW → Prop} {w : AW} {pc : Nat} {ls : List (Nat × Value)} {st rest : List Value}
variable {cc : ByteArray} {own : String} {ret : Option FieldType} {D : Nat} {H : Heap} {locs : List Loc} {cells slots : Nat} {QF : State → Prop} {lsC : Array Slot} {restC st0 : List Value} {κ : KK} {Q1 : AOut → AW → Prop} {mc ms : Nat} {av : Array Value}
theorem orl_list {R0 : Value → Value → Prop} {a c0 : Option Value} (h : orl R0 a c0) : rl R0 a.toList c0.toList := by
  cases a with
  | none =>
    cases c0 with
    | none => trivial
    | some x => exact h.elim
  | some y =>
    cases c0 with
    | none => exact h.elim
    | some x => exact ⟨h, trivial⟩
theorem S_after {A : Nat → Prop} {H0 H1 : Heap} {L : List Loc} {st0 t : State} (hS : va_S A H0 H locs) (h0 : st0.heap = H) (e1 : H1 = t.heap) (hF : va_F A st0 t) (hL : ∀ q ∈ L, A q.base) : va_S A H0 H1 (locs ++ L) := by
  obtain ⟨f1, f2⟩ := hF
  rw [h0] at f1 f2
  subst e1
  refine ⟨Nat.le_trans hS.1 f1, fun q h1 h2 => (f2 q (Nat.lt_of_lt_of_le h1 hS.1) h2).trans (hS.2.1 q h1 h2), fun q hq => ?_⟩
  rcases List.mem_append.mp hq with h | h
  · exact hS.2.2 q h
  · exact hL q h
theorem after (hH : hp γ κ w H) (hx : xt κ0 M0 κ w.1) (hl : lrel κ w.1 lsC nL ls) (hs : rl (cv κ w.1) rest restC) (hS : va_S (An γ) s.heap H locs) (hr : va_Run p l e R s m args below meth c H locs cells slots mc ms (F0 m pc lsC st0) restC (Qn γ κ w.1 Q1 av) (An γ)) (k : ∀ (rv : Option Value) w', Q1 (.inl rv) w' → J γ p l e R s m args below meth c nL b κ0 M0 Q w' (pc + 3) ls (rv.toList ++ rest)) : W p l e R s m args below meth c H locs cells slots (QFo b γ R s args below κ0 M0 Q) (F0 m pc lsC st0) := by
  intro T hT Y
  obtain ⟨v, st₀, t, T', L, h0, Y', hL, e1, e2, ⟨⟨κ1, w1, rv, rc, hv, ho, hH1, hx1, hQ⟩, hF⟩, hst⟩ := hr T hT Y
  cases hv
  have hW := k rv w1 hQ κ1 T'.heap (locs ++ L) lsC (v.toList ++ restC) (by rw [e1]; exact hH1) (xt_tr hx hx1) (lrel_xt hx1 hl) (rl_app (orl_list ho) (rl_mono (fun _ _ q => cv_xt hx1 q) hs)) (S_after hS h0 e1 hF hL)
  obtain ⟨t2, a1, b1⟩ := W_t hW T' rfl Y'
  exact ⟨t2, hst t2 a1, b1⟩
theorem after5 (hH : hp γ κ w H) (hx : xt κ0 M0 κ w.1) (hl : lrel κ w.1 lsC nL ls) (hs : rl (cv κ w.1) rest restC) (hS : va_S (An γ) s.heap H locs) (hr : va_Run5 p l e R s m args below meth c H locs cells slots mc ms (F0 m pc lsC st0) restC (Qn γ κ w.1 Q1 av) (An γ)) (k : ∀ (rv : Option Value) w', Q1 (.inl rv) w' → J γ p l e R s m args below meth c nL b κ0 M0 Q w' (pc + 5) ls (rv.toList ++ rest)) : W p l e R s m args below meth c H locs cells slots (QFo b γ R s args below κ0 M0 Q) (F0 m pc lsC st0) := by
  intro T hT Y
  obtain ⟨v, st₀, t, T', L, h0, Y', hL, e1, e2, ⟨⟨κ1, w1, rv, rc, hv, ho, hH1, hx1, hQ⟩, hF⟩, hst⟩ := hr T hT Y
  cases hv
  have hW := k rv w1 hQ κ1 T'.heap (locs ++ L) lsC (v.toList ++ restC) (by rw [e1]; exact hH1) (xt_tr hx hx1) (lrel_xt hx1 hl) (rl_app (orl_list ho) (rl_mono (fun _ _ q => cv_xt hx1 q) hs)) (S_after hS h0 e1 hF hL)
  obtain ⟨t2, a1, b1⟩ := W_t hW T' rfl Y'
  exact ⟨t2, hst t2 a1, b1⟩
theorem afterX (X : Cx γ p l R s m args meth c cc own nL ret D) (hno : ∀ x ∈ c.exceptionTable.toList, False) (hH : hp γ κ w H) (hx : xt κ0 M0 κ w.1) (hl : lrel κ w.1 lsC nL ls) (hs : rl (cv κ w.1) rest restC) (hS : va_S (An γ) s.heap H locs) (hr : vx_Run p l e R s m args below meth c H locs cells slots mc ms (F0 m pc lsC st0) restC (Qn γ κ w.1 Q1 av) (Qx γ κ w.1 Q1) (An γ)) (kx : ∀ E w', Q1 (.inr E) w' → Q (.inr E) w') (k : ∀ (rv : Option Value) w', Q1 (.inl rv) w' → J γ p l e R s m args below meth c nL true κ0 M0 Q w' (pc + 3) ls (rv.toList ++ rest)) : W p l e R s m args below meth c H locs cells slots (QFo true γ R s args below κ0 M0 Q) (F0 m pc lsC st0) := by
  intro T hT Y
  rcases hr T hT Y with ⟨v, st₀, t, T', L, h0, Y', hL, e1, e2, ⟨⟨κ1, w1, rv, rc, hv, ho, hH1, hx1, hQ⟩, hF⟩, hst⟩ | ⟨q, st₀, t, T', L, E, ce, h0, Y', hL, e1, e2, ⟨⟨κ1, w1, hH1, hx1, hQ⟩, hF⟩, hce, hcv, hcl, hst⟩
  · cases hv
    have hW := k rv w1 hQ κ1 T'.heap (locs ++ L) lsC (v.toList ++ restC) (by rw [e1]; exact hH1) (xt_tr hx hx1) (lrel_xt hx1 hl) (rl_app (orl_list ho) (rl_mono (fun _ _ q => cv_xt hx1 q) hs)) (S_after hS h0 e1 hF hL)
    obtain ⟨t2, a1, b1⟩ := W_t hW T' rfl Y'
    exact ⟨t2, hst t2 a1, b1⟩
  · have hS1 := S_after hS h0 e1 hF hL
    have Y2 := st_t Y' rfl
    obtain ⟨f1, f2⟩ := sd_of X.h.1 Y2 rfl
    rw [← e1] at hH1
    have hH9 := hH1
    obtain ⟨-, -, -, -, -, ⟨b6, -⟩, b7, b8, b9⟩ := hH1
    obtain ⟨-, -, r1, r2⟩ := X.rm
    have r0 := X.h.1
    have hLU : LU = 4800576 := rfl
    obtain ⟨t2, a1, b1⟩ := vx_out (Qc := Qn γ κ0 M0 Q) (XC := Qx γ κ0 M0 Q) (args := args) (below := below) (free := An γ) (ls := lsC) (rest := restC) (pc := pc) (l := l) (R := R) (mc := R.cells) (ms := R.slots) (fun x hx => (hno x hx).elim) X.k (by rw [e1]; exact hce) hcv hcl (fun t' ht' hal => ⟨⟨κ1, w1, by rw [ht']; exact hH9, xt_tr hx hx1, kx E w1 hQ⟩, hS1.F ht'⟩) hS1.2.2 (by rw [r1]; omega) (by rw [r2]; omega) T' rfl Y2
    exact ⟨t2, hst.trans a1, b1⟩
theorem rcv_cell (X : Cx γ p l R s m args meth c cc own nL ret D) {C : String} {T : u_T} {N ci : Nat} {v c1 : Value} (hH : hp γ κ w H) (h : cv κ w.1 v c1) (hrc : rcv w v ci) (hc : vwCl[ci]? = some (C, T, N)) : ∃ a, c1 = .ref a ∧ ∃ cell : Cell, H[a]? = some cell ∧ cell.vm.isStatics = false ∧ s.vm.findClass C = some cell.cls := by
  rcases hrc with ⟨n, e0, rfl, hM, hci⟩ | ⟨rfl, x, rfl⟩
  case inr =>
    obtain ⟨a, rfl, h2⟩ := bx_cell X hH h
    exact ⟨a, rfl, va_recv X.K (va_P1 h2) hc (q0 := 0) rfl⟩
  obtain ⟨hn, rfl⟩ := h
  refine ⟨_, rfl, ?_⟩
  have hat := hH.1 n e0 hM
  match e0, hci, hat with
  | .inl o, hci, hat =>
    obtain ⟨cs, g1, g2⟩ := hat
    have hci : o.1 = ci := hci
    rw [hci] at g2
    exact va_recv X.K (va_P1 g2) hc (q0 := 0) rfl
  | .inr (.inl a), hci, _ =>
    have hci : 99 = ci := hci
    subst hci
    cases hc
  | .inr (.inr (.inl t)), hci, hat =>
    obtain ⟨g, a1, -⟩ := hat
    have hci : 20 = ci := hci
    subst hci
    exact va_recv X.K (va_P1 a1) hc (q0 := 0) rfl
  | .inr (.inr (.inr t)), hci, _ =>
    have hci : 98 = ci := hci
    subst hci
    cases hc
/-- how much room a call has -/
theorem rm_call (X : Cx γ p l R s m args meth c cc own nL ret D) {T : State} (hH : hp γ κ w H) (Y : Stand p l e R s m args below meth c T locs cells slots) (hT : T.heap = H) (Dy : Nat) : (H.size - s.heap.size) + (rmJ γ Dy H.size (sd γ.1.heap.size H)).cells ≤ R.cells ∧ sd s.heap.size H + (rmJ γ Dy H.size (sd γ.1.heap.size H)).slots ≤ R.slots := by
  obtain ⟨f1, f2⟩ := sd_of X.h.1 Y hT
  obtain ⟨-, -, -, -, -, ⟨b6, -⟩, b7, b8, b9⟩ := hH
  obtain ⟨-, -, r1, r2⟩ := X.rm
  have r0 := X.h.1
  have hLU : LU = 4800576 := rfl
  rw [r1, r2]
  refine ⟨?_, ?_⟩
  · show (H.size - s.heap.size) + (1200144 - (H.size - γ.1.heap.size)) ≤ _
    omega
  · show sd s.heap.size H + (5496250 - sd γ.1.heap.size H) ≤ _
    omega
theorem PcJ_in (X : Cx γ p l R s m args meth c cc own nL ret D) {avs cs : List Value} (hH : hp γ κ w H) (hcs : rl (cv κ w.1) avs cs) : ∀ U : State, U.heap = H → s.WarmedH U.vm → PcJ γ κ w avs H.size (sd γ.1.heap.size H) cs.toArray U :=
  fun U hU hW => ⟨⟨by rw [hU], by rw [hU]⟩, State.WarmedH.trans X.w hW, by rw [hU]; exact hH, cs, hcs, rfl⟩
theorem J_cV (X : Cx γ p l R s m args meth c cc own nL ret D) {y : MethodName} {cy : ByteArray} {nLy Dy n index : Nat} {rety : Option FieldType} {P : PP} {C : String} {T : u_T} {N ci : Nat} (hc : vwCl[ci]? = some (C, T, N)) (hC : CT γ y cy nLy rety Dy P) (hG : GoodIn lw_all (wsV own index C y (ws_ y cy nLy rety))) (hd : y.cls = C ∧ y.cls ≠ "java/lang/invoke/MethodHandle" ∧ y.cls ≠ "java/lang/invoke/VarHandle" ∧ (parseMethodDescriptor y.desc).map (fun d => d.parameters.length) = some n) (hD : Dy + 1 ≤ D ∧ 19 + nLy + 64 * Dy ≤ 64 * D) (d : decode cc pc = .ok (.invokevirtual index, 3)) {avs : List Value} {v0 : Value} (hst : st = avs.reverse ++ v0 :: rest) (hn : avs.length = n) (hrc : rcv w v0 ci) (hrest : (rest.map fun v => v.category).sum ≤ 8) (hP : P (v0 :: avs) w Q1) (k : ∀ (rv : Option Value) w', Q1 (.inl rv) w' → J γ p l e R s m args below meth c nL b κ0 M0 Q w' (pc + 3) ls (rv.toList ++ rest)) : J γ p l e R s m args below meth c nL b κ0 M0 Q w pc ls st := by
  intro κ H locs lsC stC hH hx hl hs hS
  subst hst
  obtain ⟨b1, b2, rfl, hs1, hs2⟩ := rl_split hs
  have hAs : rl (cv κ w.1) avs b1.reverse := by have h9 := rl_rev hs1; rwa [List.reverse_reverse] at h9
  refine W_fact (fun T hT Y => rm_call X hH Y hT Dy) fun hR => ?_
  obtain ⟨c0, restC, rfl, hc0, hs3⟩ := rl_c hs2
  obtain ⟨a0, rfl, hcell⟩ := rcv_cell X hH hc0 hrc hc
  have hargs : rl (cv κ w.1) (v0 :: avs) (.ref a0 :: b1.reverse) := ⟨hc0, hAs⟩
  refine after hH hx hl hs3 hS (va_runV (mc := (rmJ γ Dy H.size (sd γ.1.heap.size H)).cells) (ms := (rmJ γ Dy H.size (sd γ.1.heap.size H)).slots) (rm := rmJ γ Dy H.size (sd γ.1.heap.size H)) (As := b1.reverse) (rest := restC) ⟨X.x, X.b, X.nl, X.o, X.t⟩ (hC l X.f κ w _ Q1 _ _ hP) (cwV n X.t hG rfl rfl rfl hd ⟨by rw [X.rm.1]; exact hD.1, by rw [X.rm.2.1]; show 8 + (nLy + 11) + 64 * Dy ≤ _; omega⟩) ⟨PcJ_blind, hcell, PcJ_in X hH hargs⟩ rfl ((by rw [← rl_len hAs]; exact hn)) hl.1 (by simp) (lv_room (by rw [rl_cat hs3]; exact hrest)) d hR) k
theorem J_cS (X : Cx γ p l R s m args meth c cc own nL ret D) {y : MethodName} {cy : ByteArray} {nLy Dy n index : Nat} {rety : Option FieldType} {P : PP} (hC : CT γ y cy nLy rety Dy P) (hG : GoodIn lw_all (va_wsS own index y (ws_ y cy nLy rety))) (hd : y.cls ≠ "java/lang/invoke/MethodHandle" ∧ y.cls ≠ "java/lang/invoke/VarHandle" ∧ (parseMethodDescriptor y.desc).map (fun d => d.parameters.length) = some n) (hD : Dy + 1 ≤ D ∧ 19 + nLy + 64 * Dy ≤ 64 * D) (d : decode cc pc = .ok (.invokestatic index, 3)) {avs : List Value} (hst : st = avs.reverse ++ rest) (hn : avs.length = n) (hrest : (rest.map fun v => v.category).sum ≤ 8) (hP : P (avs) w Q1) (k : ∀ (rv : Option Value) w', Q1 (.inl rv) w' → J γ p l e R s m args below meth c nL b κ0 M0 Q w' (pc + 3) ls (rv.toList ++ rest)) : J γ p l e R s m args below meth c nL b κ0 M0 Q w pc ls st := by
  intro κ H locs lsC stC hH hx hl hs hS
  subst hst
  obtain ⟨b1, b2, rfl, hs1, hs2⟩ := rl_split hs
  have hAs : rl (cv κ w.1) avs b1.reverse := by have h9 := rl_rev hs1; rwa [List.reverse_reverse] at h9
  refine W_fact (fun T hT Y => rm_call X hH Y hT Dy) fun hR => ?_
  have hargs := hAs
  refine after hH hx hl hs2 hS (va_runS (mc := (rmJ γ Dy H.size (sd γ.1.heap.size H)).cells) (ms := (rmJ γ Dy H.size (sd γ.1.heap.size H)).slots) (rm := rmJ γ Dy H.size (sd γ.1.heap.size H)) (As := b1.reverse) (rest := b2) ⟨X.x, X.b, X.nl, X.o, X.t⟩ (hC l X.f κ w _ Q1 _ _ hP) (va_cwS n X.t hG rfl rfl rfl hd ⟨by rw [X.rm.1]; exact hD.1, by rw [X.rm.2.1]; show 8 + (nLy + 11) + 64 * Dy ≤ _; omega⟩) ⟨PcJ_blind, PcJ_in X hH hargs⟩ rfl ((by rw [← rl_len hAs]; exact hn)) hl.1 (by simp) (lv_room (by rw [rl_cat hs2]; exact hrest)) d hR) k
theorem J_cVX (X : Cx γ p l R s m args meth c cc own nL ret D) {y : MethodName} {cy : ByteArray} {nLy Dy n index : Nat} {rety : Option FieldType} {P : PP} {C : String} {T : u_T} {N ci : Nat} (hc : vwCl[ci]? = some (C, T, N)) (hno : ∀ x ∈ c.exceptionTable.toList, False) (hC : CX γ y cy nLy rety Dy P) (hG : GoodIn lw_all (wsV own index C y (ws_ y cy nLy rety))) (hd : y.cls = C ∧ y.cls ≠ "java/lang/invoke/MethodHandle" ∧ y.cls ≠ "java/lang/invoke/VarHandle" ∧ (parseMethodDescriptor y.desc).map (fun d => d.parameters.length) = some n) (hD : Dy + 1 ≤ D ∧ 19 + nLy + 64 * Dy ≤ 64 * D) (d : decode cc pc = .ok (.invokevirtual index, 3)) {avs : List Value} {v0 : Value} (hst : st = avs.reverse ++ v0 :: rest) (hn : avs.length = n) (hrc : rcv w v0 ci) (hrest : (rest.map fun v => v.category).sum ≤ 8) (hP : P (v0 :: avs) w Q1) (kx : ∀ E w', Q1 (.inr E) w' → Q (.inr E) w') (k : ∀ (rv : Option Value) w', Q1 (.inl rv) w' → J γ p l e R s m args below meth c nL true κ0 M0 Q w' (pc + 3) ls (rv.toList ++ rest)) : J γ p l e R s m args below meth c nL true κ0 M0 Q w pc ls st := by
  intro κ H locs lsC stC hH hx hl hs hS
  subst hst
  obtain ⟨b1, b2, rfl, hs1, hs2⟩ := rl_split hs
  have hAs : rl (cv κ w.1) avs b1.reverse := by have h9 := rl_rev hs1; rwa [List.reverse_reverse] at h9
  refine W_fact (fun T hT Y => rm_call X hH Y hT Dy) fun hR => ?_
  obtain ⟨c0, restC, rfl, hc0, hs3⟩ := rl_c hs2
  obtain ⟨a0, rfl, hcell⟩ := rcv_cell X hH hc0 hrc hc
  have hargs : rl (cv κ w.1) (v0 :: avs) (.ref a0 :: b1.reverse) := ⟨hc0, hAs⟩
  refine afterX X hno hH hx hl hs3 hS (vx_runV (mc := (rmJ γ Dy H.size (sd γ.1.heap.size H)).cells) (ms := (rmJ γ Dy H.size (sd γ.1.heap.size H)).slots) (rm := rmJ γ Dy H.size (sd γ.1.heap.size H)) (As := b1.reverse) (rest := restC) ⟨X.x, X.b, X.nl, X.o, X.t⟩ (hC l X.f κ w _ Q1 _ _ hP) (cwV n X.t hG rfl rfl rfl hd ⟨by rw [X.rm.1]; exact hD.1, by rw [X.rm.2.1]; show 8 + (nLy + 11) + 64 * Dy ≤ _; omega⟩) ⟨PcJ_blind, hcell, PcJ_in X hH hargs⟩ rfl ((by rw [← rl_len hAs]; exact hn)) hl.1 (by simp) (lv_room (by rw [rl_cat hs3]; exact hrest)) d hR) kx k
theorem J_cSX (X : Cx γ p l R s m args meth c cc own nL ret D) {y : MethodName} {cy : ByteArray} {nLy Dy n index : Nat} {rety : Option FieldType} {P : PP} (hno : ∀ x ∈ c.exceptionTable.toList, False) (hC : CX γ y cy nLy rety Dy P) (hG : GoodIn lw_all (va_wsS own index y (ws_ y cy nLy rety))) (hd : y.cls ≠ "java/lang/invoke/MethodHandle" ∧ y.cls ≠ "java/lang/invoke/VarHandle" ∧ (parseMethodDescriptor y.desc).map (fun d => d.parameters.length) = some n) (hD : Dy + 1 ≤ D ∧ 19 + nLy + 64 * Dy ≤ 64 * D) (d : decode cc pc = .ok (.invokestatic index, 3)) {avs : List Value} (hst : st = avs.reverse ++ rest) (hn : avs.length = n) (hrest : (rest.map fun v => v.category).sum ≤ 8) (hP : P (avs) w Q1) (kx : ∀ E w', Q1 (.inr E) w' → Q (.inr E) w') (k : ∀ (rv : Option Value) w', Q1 (.inl rv) w' → J γ p l e R s m args below meth c nL true κ0 M0 Q w' (pc + 3) ls (rv.toList ++ rest)) : J γ p l e R s m args below meth c nL true κ0 M0 Q w pc ls st := by
  intro κ H locs lsC stC hH hx hl hs hS
  subst hst
  obtain ⟨b1, b2, rfl, hs1, hs2⟩ := rl_split hs
  have hAs : rl (cv κ w.1) avs b1.reverse := by have h9 := rl_rev hs1; rwa [List.reverse_reverse] at h9
  refine W_fact (fun T hT Y => rm_call X hH Y hT Dy) fun hR => ?_
  have hargs := hAs
  refine afterX X hno hH hx hl hs2 hS (vx_runS (mc := (rmJ γ Dy H.size (sd γ.1.heap.size H)).cells) (ms := (rmJ γ Dy H.size (sd γ.1.heap.size H)).slots) (rm := rmJ γ Dy H.size (sd γ.1.heap.size H)) (As := b1.reverse) (rest := b2) ⟨X.x, X.b, X.nl, X.o, X.t⟩ (hC l X.f κ w _ Q1 _ _ hP) (va_cwS n X.t hG rfl rfl rfl hd ⟨by rw [X.rm.1]; exact hD.1, by rw [X.rm.2.1]; show 8 + (nLy + 11) + 64 * Dy ≤ _; omega⟩) ⟨PcJ_blind, PcJ_in X hH hargs⟩ rfl ((by rw [← rl_len hAs]; exact hn)) hl.1 (by simp) (lv_room (by rw [rl_cat hs2]; exact hrest)) d hR) kx k
theorem J_cI (X : Cx γ p l R s m args meth c cc own nL ret D) {y : MethodName} {cy : ByteArray} {nLy Dy n index : Nat} {rety : Option FieldType} {P : PP} (hC : CT γ y cy nLy rety Dy P) (hrt : rety = none) (hl1 : Jvm.Cond.methodLink own index y ∈ lw_all) (hl2 : Jvm.Cond.instanceMethod y ∈ lw_all) (hl3 : Jvm.Cond.initialized y.cls ∈ lw_all) (hl4 : Jvm.Cond.code y cy nLy rety ∈ lw_all) (hy1 : y.name = "<init>") (hd : y.cls ≠ "java/lang/invoke/MethodHandle" ∧ y.cls ≠ "java/lang/invoke/VarHandle" ∧ (parseMethodDescriptor y.desc).map (fun d => d.parameters.length) = some n) (hD : Dy + 1 ≤ D ∧ 19 + nLy + 64 * Dy ≤ 64 * D) (d : decode cc pc = .ok (.invokespecial index, 3)) {avs : List Value} {v0 : Value} (hst : st = avs.reverse ++ v0 :: rest) (hn : avs.length = n) (hv0 : ∃ n0, v0 = .ref n0) (hrest : (rest.map fun v => v.category).sum ≤ 8) (hP : P (v0 :: avs) w Q1) (k : ∀ (rv : Option Value) w', Q1 (.inl rv) w' → J γ p l e R s m args below meth c nL b κ0 M0 Q w' (pc + 3) ls (rv.toList ++ rest)) : J γ p l e R s m args below meth c nL b κ0 M0 Q w pc ls st := by
  intro κ H locs lsC stC hH hx hl hs hS
  subst hst
  obtain ⟨b1, b2, rfl, hs1, hs2⟩ := rl_split hs
  have hAs : rl (cv κ w.1) avs b1.reverse := by have h9 := rl_rev hs1; rwa [List.reverse_reverse] at h9
  refine W_fact (fun T hT Y => rm_call X hH Y hT Dy) fun hR => ?_
  obtain ⟨c0, restC, rfl, hc0, hs3⟩ := rl_c hs2
  obtain ⟨n0, rfl⟩ := hv0
  obtain ⟨hn0, rfl⟩ := hc0
  have hargs : rl (cv κ w.1) (.ref n0 :: avs) (.ref (κ.1 n0) :: b1.reverse) := ⟨⟨hn0, rfl⟩, hAs⟩
  refine after hH hx hl hs3 hS (va_runI (mc := (rmJ γ Dy H.size (sd γ.1.heap.size H)).cells) (ms := (rmJ γ Dy H.size (sd γ.1.heap.size H)).slots) (rm := rmJ γ Dy H.size (sd γ.1.heap.size H)) (As := b1.reverse) (rest := restC) ⟨X.x, X.b, X.nl, X.o, X.t⟩ (hC l X.f κ w _ Q1 _ _ hP) (by subst hrt; exact cwI n X.t (lw_meth hl4) rfl rfl rfl (X.t _ hl3) (X.t _ hl1) (X.t _ hl2) hy1 hd ⟨by rw [X.rm.1]; exact hD.1, by rw [X.rm.2.1]; show 8 + (nLy + 11) + 64 * Dy ≤ _; omega⟩) ⟨PcJ_blind, PcJ_in X hH hargs⟩ rfl ((by rw [← rl_len hAs]; exact hn)) hl.1 (by simp) (lv_room (by rw [rl_cat hs3]; exact hrest)) d hR) k
theorem J_cIN (X : Cx γ p l R s m args meth c cc own nL ret D) {y : MethodName} {cy : ByteArray} {nLy Dy n index : Nat} {rety : Option FieldType} {P : PP} {host : String} (hC : CT γ y cy nLy rety Dy P) (hrt : rety = none) (hl1 : Jvm.Cond.methodLinkNest own index y host ∈ lw_tbl) (hl2 : Jvm.Cond.instanceMethod y ∈ lw_all) (hl3 : Jvm.Cond.initialized y.cls ∈ lw_all) (hl4 : Jvm.Cond.code y cy nLy rety ∈ lw_all) (hy1 : y.name = "<init>") (hd : y.cls ≠ "java/lang/invoke/MethodHandle" ∧ y.cls ≠ "java/lang/invoke/VarHandle" ∧ (parseMethodDescriptor y.desc).map (fun d => d.parameters.length) = some n) (hD : Dy + 1 ≤ D ∧ 19 + nLy + 64 * Dy ≤ 64 * D) (d : decode cc pc = .ok (.invokespecial index, 3)) {avs : List Value} {v0 : Value} (hst : st = avs.reverse ++ v0 :: rest) (hn : avs.length = n) (hv0 : ∃ n0, v0 = .ref n0) (hrest : (rest.map fun v => v.category).sum ≤ 8) (hP : P (v0 :: avs) w Q1) (k : ∀ (rv : Option Value) w', Q1 (.inl rv) w' → J γ p l e R s m args below meth c nL b κ0 M0 Q w' (pc + 3) ls (rv.toList ++ rest)) : J γ p l e R s m args below meth c nL b κ0 M0 Q w pc ls st := by
  intro κ H locs lsC stC hH hx hl hs hS
  subst hst
  obtain ⟨b1, b2, rfl, hs1, hs2⟩ := rl_split hs
  have hAs : rl (cv κ w.1) avs b1.reverse := by have h9 := rl_rev hs1; rwa [List.reverse_reverse] at h9
  refine W_fact (fun T hT Y => rm_call X hH Y hT Dy) fun hR => ?_
  obtain ⟨c0, restC, rfl, hc0, hs3⟩ := rl_c hs2
  obtain ⟨n0, rfl⟩ := hv0
  obtain ⟨hn0, rfl⟩ := hc0
  have hargs : rl (cv κ w.1) (.ref n0 :: avs) (.ref (κ.1 n0) :: b1.reverse) := ⟨⟨hn0, rfl⟩, hAs⟩
  refine after hH hx hl hs3 hS (va_runIN (host := host) (mc := (rmJ γ Dy H.size (sd γ.1.heap.size H)).cells) (ms := (rmJ γ Dy H.size (sd γ.1.heap.size H)).slots) (rm := rmJ γ Dy H.size (sd γ.1.heap.size H)) (As := b1.reverse) (rest := restC) ⟨X.x, X.b, X.nl, X.o, X.t⟩ (hC l X.f κ w _ Q1 _ _ hP) (by subst hrt; exact ⟨va_cnB n X.t (lw_meth hl4) rfl rfl rfl (X.nM hl1) (X.t _ hl3) hd ⟨by rw [X.rm.1]; exact hD.1, by rw [X.rm.2.1]; show 8 + (nLy + 11) + 64 * Dy ≤ _; omega⟩, hy1, X.t _ hl2⟩) ⟨PcJ_blind, PcJ_in X hH hargs⟩ rfl ((by rw [← rl_len hAs]; exact hn)) hl.1 (by simp) (lv_room (by rw [rl_cat hs3]; exact hrest)) d hR) k
theorem J_cVN (X : Cx γ p l R s m args meth c cc own nL ret D) {y : MethodName} {cy : ByteArray} {nLy Dy n index : Nat} {rety : Option FieldType} {P : PP} {host : String} {C : String} {T : u_T} {N ci : Nat} (hc : vwCl[ci]? = some (C, T, N)) (hC : CT γ y cy nLy rety Dy P) (hl1 : Jvm.Cond.methodLinkNest own index y host ∈ lw_tbl) (hl2 : Jvm.Cond.instanceMethod y ∈ lw_all) (hl5 : Jvm.Cond.selects C y y ∈ lw_all) (hl3 : Jvm.Cond.initialized y.cls ∈ lw_all) (hl4 : Jvm.Cond.code y cy nLy rety ∈ lw_all) (hd : y.cls ≠ "java/lang/invoke/MethodHandle" ∧ y.cls ≠ "java/lang/invoke/VarHandle" ∧ (parseMethodDescriptor y.desc).map (fun d => d.parameters.length) = some n) (hD : Dy + 1 ≤ D ∧ 19 + nLy + 64 * Dy ≤ 64 * D) (d : decode cc pc = .ok (.invokevirtual index, 3)) {avs : List Value} {v0 : Value} (hst : st = avs.reverse ++ v0 :: rest) (hn : avs.length = n) (hrc : rcv w v0 ci) (hrest : (rest.map fun v => v.category).sum ≤ 8) (hP : P (v0 :: avs) w Q1) (k : ∀ (rv : Option Value) w', Q1 (.inl rv) w' → J γ p l e R s m args below meth c nL b κ0 M0 Q w' (pc + 3) ls (rv.toList ++ rest)) : J γ p l e R s m args below meth c nL b κ0 M0 Q w pc ls st := by
  intro κ H locs lsC stC hH hx hl hs hS
  subst hst
  obtain ⟨b1, b2, rfl, hs1, hs2⟩ := rl_split hs
  have hAs : rl (cv κ w.1) avs b1.reverse := by have h9 := rl_rev hs1; rwa [List.reverse_reverse] at h9
  refine W_fact (fun T hT Y => rm_call X hH Y hT Dy) fun hR => ?_
  obtain ⟨c0, restC, rfl, hc0, hs3⟩ := rl_c hs2
  obtain ⟨a0, rfl, hcell⟩ := rcv_cell X hH hc0 hrc hc
  have hargs : rl (cv κ w.1) (v0 :: avs) (.ref a0 :: b1.reverse) := ⟨hc0, hAs⟩
  refine after hH hx hl hs3 hS (va_runVN (host := host) (mc := (rmJ γ Dy H.size (sd γ.1.heap.size H)).cells) (ms := (rmJ γ Dy H.size (sd γ.1.heap.size H)).slots) (rm := rmJ γ Dy H.size (sd γ.1.heap.size H)) (As := b1.reverse) (rest := restC) ⟨X.x, X.b, X.nl, X.o, X.t⟩ (hC l X.f κ w _ Q1 _ _ hP) (⟨va_cnB n X.t (lw_meth hl4) rfl rfl rfl (X.nM hl1) (X.t _ hl3) hd ⟨by rw [X.rm.1]; exact hD.1, by rw [X.rm.2.1]; show 8 + (nLy + 11) + 64 * Dy ≤ _; omega⟩, X.t _ hl2, X.t _ hl5⟩) ⟨PcJ_blind, hcell, PcJ_in X hH hargs⟩ rfl ((by rw [← rl_len hAs]; exact hn)) hl.1 (by simp) (lv_room (by rw [rl_cat hs3]; exact hrest)) d hR) k
theorem J_cSN (X : Cx γ p l R s m args meth c cc own nL ret D) {y : MethodName} {cy : ByteArray} {nLy Dy n index : Nat} {rety : Option FieldType} {P : PP} {host : String} (hC : CT γ y cy nLy rety Dy P) (hl1 : Jvm.Cond.methodLinkNest own index y host ∈ lw_tbl) (hl2 : Jvm.Cond.static y ∈ lw_all) (hl3 : Jvm.Cond.initialized y.cls ∈ lw_all) (hl4 : Jvm.Cond.code y cy nLy rety ∈ lw_all) (hd : y.cls ≠ "java/lang/invoke/MethodHandle" ∧ y.cls ≠ "java/lang/invoke/VarHandle" ∧ (parseMethodDescriptor y.desc).map (fun d => d.parameters.length) = some n) (hD : Dy + 1 ≤ D ∧ 19 + nLy + 64 * Dy ≤ 64 * D) (d : decode cc pc = .ok (.invokestatic index, 3)) {avs : List Value} (hst : st = avs.reverse ++ rest) (hn : avs.length = n) (hrest : (rest.map fun v => v.category).sum ≤ 8) (hP : P (avs) w Q1) (k : ∀ (rv : Option Value) w', Q1 (.inl rv) w' → J γ p l e R s m args below meth c nL b κ0 M0 Q w' (pc + 3) ls (rv.toList ++ rest)) : J γ p l e R s m args below meth c nL b κ0 M0 Q w pc ls st := by
  intro κ H locs lsC stC hH hx hl hs hS
  subst hst
  obtain ⟨b1, b2, rfl, hs1, hs2⟩ := rl_split hs
  have hAs : rl (cv κ w.1) avs b1.reverse := by have h9 := rl_rev hs1; rwa [List.reverse_reverse] at h9
  refine W_fact (fun T hT Y => rm_call X hH Y hT Dy) fun hR => ?_
  have hargs := hAs
  refine after hH hx hl hs2 hS (va_runSN (host := host) (mc := (rmJ γ Dy H.size (sd γ.1.heap.size H)).cells) (ms := (rmJ γ Dy H.size (sd γ.1.heap.size H)).slots) (rm := rmJ γ Dy H.size (sd γ.1.heap.size H)) (As := b1.reverse) (rest := b2) ⟨X.x, X.b, X.nl, X.o, X.t⟩ (hC l X.f κ w _ Q1 _ _ hP) (⟨va_cnB n X.t (lw_meth hl4) rfl rfl rfl (X.nM hl1) (X.t _ hl3) hd ⟨by rw [X.rm.1]; exact hD.1, by rw [X.rm.2.1]; show 8 + (nLy + 11) + 64 * Dy ≤ _; omega⟩, X.t _ hl2, trivial⟩) ⟨PcJ_blind, PcJ_in X hH hargs⟩ rfl ((by rw [← rl_len hAs]; exact hn)) hl.1 (by simp) (lv_room (by rw [rl_cat hs2]; exact hrest)) d hR) k
theorem J_cF (X : Cx γ p l R s m args meth c cc own nL ret D) {y : MethodName} {cy : ByteArray} {nLy Dy n index : Nat} {rety : Option FieldType} {P : PP} {x : MethodName} {count : Nat} {C : String} {T : u_T} {N ci : Nat} (hc : vwCl[ci]? = some (C, T, N)) (hC : CT γ y cy nLy rety Dy P) (hG : GoodIn lw_all (va_wsF own index C x y (ws_ y cy nLy rety))) (hF : va_Fw C x y γ.1) (hd : x.cls ≠ "java/lang/invoke/MethodHandle" ∧ x.cls ≠ "java/lang/invoke/VarHandle" ∧ (parseMethodDescriptor x.desc).map (fun d => d.parameters.length) = some n) (hD : Dy + 1 ≤ D ∧ 19 + nLy + 64 * Dy ≤ 64 * D) (d : decode cc pc = .ok (.invokeinterface index count, 5)) {avs : List Value} {v0 : Value} (hst : st = avs.reverse ++ v0 :: rest) (hn : avs.length = n) (hrc : rcv w v0 ci) (hrest : (rest.map fun v => v.category).sum ≤ 8) (hP : P (v0 :: avs) w Q1) (k : ∀ (rv : Option Value) w', Q1 (.inl rv) w' → J γ p l e R s m args below meth c nL b κ0 M0 Q w' (pc + 5) ls (rv.toList ++ rest)) : J γ p l e R s m args below meth c nL b κ0 M0 Q w pc ls st := by
  intro κ H locs lsC stC hH hx hl hs hS
  subst hst
  obtain ⟨b1, b2, rfl, hs1, hs2⟩ := rl_split hs
  have hAs : rl (cv κ w.1) avs b1.reverse := by have h9 := rl_rev hs1; rwa [List.reverse_reverse] at h9
  refine W_fact (fun T hT Y => rm_call X hH Y hT Dy) fun hR => ?_
  obtain ⟨c0, restC, rfl, hc0, hs3⟩ := rl_c hs2
  obtain ⟨a0, rfl, hcell⟩ := rcv_cell X hH hc0 hrc hc
  have hargs : rl (cv κ w.1) (v0 :: avs) (.ref a0 :: b1.reverse) := ⟨hc0, hAs⟩
  refine after5 hH hx hl hs3 hS (va_runF (mc := (rmJ γ Dy H.size (sd γ.1.heap.size H)).cells) (ms := (rmJ γ Dy H.size (sd γ.1.heap.size H)).slots) (rm := rmJ γ Dy H.size (sd γ.1.heap.size H)) (As := b1.reverse) (rest := restC) ((X.K.1 ci _ hc).2) ⟨X.x, X.b, X.nl, X.o, X.t⟩ (hC l X.f κ w _ Q1 _ _ hP) (va_cwF n X.t hG rfl rfl rfl (va_Fw.moved ⟨hd.1, hd.2.1⟩ X.w.alike hF) hd ⟨by rw [X.rm.1]; exact hD.1, by rw [X.rm.2.1]; show 8 + (nLy + 11) + 64 * Dy ≤ _; omega⟩) ⟨PcJ_blind, hcell, PcJ_in X hH hargs⟩ rfl ((by rw [← rl_len hAs]; exact hn)) hl.1 (by simp) (lv_room (by rw [rl_cat hs3]; exact hrest)) d hR) k
theorem J_cA (X : Cx γ p l R s m args meth c cc own nL ret D) {y : MethodName} {cy : ByteArray} {nLy Dy n index : Nat} {rety : Option FieldType} {P : PP} {x : MethodName} {owner : String} {C : String} {T : u_T} {N ci : Nat} (hc : vwCl[ci]? = some (C, T, N)) (hC : CT γ y cy nLy rety Dy P) (hG : GoodIn lw_all (va_wsU own index C owner x y (ws_ y cy nLy rety))) (hz : Jvm.Cond.declares ⟨owner, x.name, x.desc⟩ ∈ lw_tbl) (hd : owner ≠ "java/lang/invoke/MethodHandle" ∧ owner ≠ "java/lang/invoke/VarHandle" ∧ (parseMethodDescriptor x.desc).map (fun d => d.parameters.length) = some n) (hD : Dy + 1 ≤ D ∧ 19 + nLy + 64 * Dy ≤ 64 * D) (d : decode cc pc = .ok (.invokevirtual index, 3)) {avs : List Value} {v0 : Value} (hst : st = avs.reverse ++ v0 :: rest) (hn : avs.length = n) (hrc : rcv w v0 ci) (hrest : (rest.map fun v => v.category).sum ≤ 8) (hP : P (v0 :: avs) w Q1) (k : ∀ (rv : Option Value) w', Q1 (.inl rv) w' → J γ p l e R s m args below meth c nL b κ0 M0 Q w' (pc + 3) ls (rv.toList ++ rest)) : J γ p l e R s m args below meth c nL b κ0 M0 Q w pc ls st := by
  intro κ H locs lsC stC hH hx hl hs hS
  subst hst
  obtain ⟨b1, b2, rfl, hs1, hs2⟩ := rl_split hs
  have hAs : rl (cv κ w.1) avs b1.reverse := by have h9 := rl_rev hs1; rwa [List.reverse_reverse] at h9
  refine W_fact (fun T hT Y => rm_call X hH Y hT Dy) fun hR => ?_
  obtain ⟨c0, restC, rfl, hc0, hs3⟩ := rl_c hs2
  obtain ⟨a0, rfl, hcell⟩ := rcv_cell X hH hc0 hrc hc
  have hargs : rl (cv κ w.1) (v0 :: avs) (.ref a0 :: b1.reverse) := ⟨hc0, hAs⟩
  refine after hH hx hl hs3 hS (va_runU (mc := (rmJ γ Dy H.size (sd γ.1.heap.size H)).cells) (ms := (rmJ γ Dy H.size (sd γ.1.heap.size H)).slots) (rm := rmJ γ Dy H.size (sd γ.1.heap.size H)) (As := b1.reverse) (rest := restC) ⟨X.x, X.b, X.nl, X.o, X.t⟩ (hC l X.f κ w _ Q1 _ _ hP) (va_cwA n X.t hG rfl rfl rfl (X.nD hz) hd ⟨by rw [X.rm.1]; exact hD.1, by rw [X.rm.2.1]; show 8 + (nLy + 11) + 64 * Dy ≤ _; omega⟩) ⟨PcJ_blind, hcell, PcJ_in X hH hargs⟩ rfl ((by rw [← rl_len hAs]; exact hn)) hl.1 (by simp) (lv_room (by rw [rl_cat hs3]; exact hrest)) d hR) k
theorem lw_A {own : String} {idx : Nat} {C owner : String} {x y : MethodName} {b : ByteArray} {L : Nat} {r : Option FieldType} (h1 : Cond.methodLink own idx x ∈ lw_all) (h1' : Cond.sameMethod x.cls owner x.name x.desc ∈ lw_all) (h2 : Cond.selects C x y ∈ lw_all) (h3 : Cond.instanceMethod y ∈ lw_all) (h4 : Cond.initialized y.cls ∈ lw_all) (h5 : Cond.code y b L r ∈ lw_all) : GoodIn lw_all (va_wsU own idx C owner x y (ws_ y b L r)) := by
  refine lw_app ?_ (lw_meth h5)
  intro w hw
  simp only [List.mem_cons, List.not_mem_nil, or_false] at hw
  rcases hw with e | e | e | e | e
  · rw [e]; exact h1
  · rw [e]; exact h1'
  · rw [e]; exact h2
  · rw [e]; exact h3
  · rw [e]; exact h4
end CALLS
theorem lw_F {own : String} {idx : Nat} {C : String} {x y : MethodName} {b : ByteArray} {L : Nat} {r : Option FieldType} (h1 : Cond.methodLink own idx x ∈ lw_all) (h2 : Cond.selects C x y ∈ lw_all) (h3 : Cond.instanceMethod y ∈ lw_all) (h4 : Cond.initialized y.cls ∈ lw_all) (h5 : Cond.code y b L r ∈ lw_all) : GoodIn lw_all (va_wsF own idx C x y (ws_ y b L r)) := by
  refine lw_app ?_ (lw_meth h5)
  intro w hw
  simp only [List.mem_cons, List.not_mem_nil, or_false] at hw
  rcases hw with e | e | e | e
  · rw [e]; exact h1
  · rw [e]; exact h2
  · rw [e]; exact h3
  · rw [e]; exact h4
