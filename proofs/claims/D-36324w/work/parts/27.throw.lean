/-! throw new X() -/
set_option maxRecDepth 100000
theorem hp_more {γ : GG} {κ : KK} {w : AW} {H H1 : Heap} {u : Nat} (hH : hp γ κ w H) (hg : (γ.2.2.2 2) < γ.1.heap.size) (hz : H.size ≤ H1.size) (o : ∀ x, x < H.size → H1[x]? = H[x]?) (hu : u ≤ LU) (hc : 4 * (H1.size - γ.1.heap.size) ≤ u) (hs : sd γ.1.heap.size H1 ≤ u) : hp γ κ (w.1, u) H1 := by
  have hH0 := hH
  obtain ⟨b1, b2, b3, b4, b5, b6, b7⟩ := hH
  refine ⟨fun j ej hj => ?_, b2, fun x hx => ⟨(b3 x hx).1, Nat.lt_of_lt_of_le (b3 x hx).2 hz⟩, fun a k hak => ⟨⟨spat_to (b4 a k hak).1.1 (o a (b4 a k hak).1.2), Nat.lt_of_lt_of_le (b4 a k hak).1.2 hz⟩, (b4 a k hak).2⟩, b5, ⟨Nat.le_trans b6.1 hz, fun a ha => (o a (Nat.lt_of_lt_of_le ha b6.1)).trans (b6.2 a ha)⟩, hc, hs, hu⟩
  have hj' : w.1 j = some ej := hj
  have hj0 : w.1 j ≠ none := by rw [hj']; exact fun h => by cases h
  refine aat_to (b1 j ej hj') xt_rf rfl rfl (o _ (b3 (j, false) hj0).2) (fun t ht => ?_)
  subst ht
  rcases hp_ad hH0 hj' with ⟨-, h8⟩ | ⟨-, h8⟩
  · exact o _ (b3 _ h8).2
  · rw [h8]; exact o _ (by have := b6.1; omega)
section THROW
variable {γ : GG} {p : Program} {l : Launch} {e : Env} {R : Room} {s : State} {m : MethodId} {args : Array Value} {below : List Frame} {meth : Method} {c : Code} {nL : Nat} {κ0 : KK} {M0 : AM} {Q : AOut → AW → Prop} {w : AW} {pc : Nat} {ls : List (Nat × Value)}
variable {cc : ByteArray} {own : String} {ret : Option FieldType} {D : Nat}
theorem J_throw0 (X : Cx γ p l R s m args meth c cc own nL ret D) (hno : ∀ x ∈ c.exceptionTable.toList, False) {cls : String} {names : List String} {ik ic : Nat} (hcls : Bundle.fit cls = true) (hnames : ∀ n ∈ names, Bundle.fit n = true) (hk : Jvm.Cond.classLink own ik cls ∈ lw_all) (hini : Jvm.Cond.initialized cls ∈ lw_all)
    (h1 : ∀ w ∈ (vx_at0 own ic cls names).filter goodWord, w ∈ lw_all) (h2 : ∀ w ∈ (vx_at0 own ic cls names).filter (fun w => !goodWord w), (∃ x, w = .declares x ∧ w ∈ lw_tbl) ∨ ∃ C T, w = .castable C T ∧ w ∈ lw_tbl)
    (h3 : ∀ w ∈ Cond.classLink own ik cls :: Cond.initialized cls :: vx_at0 own ic cls names, vx_ot w = true) (hD1 : names.length + 3 < D) (hD2 : 13 * (names.length + 1) + 42 ≤ 64 * D)
    (d0 : decode cc pc = .ok (.new ik, 3)) (d3 : decode cc (pc + 3) = .ok (.dup, 1)) (d4 : decode cc (pc + 4) = .ok (.invokespecial ic, 3)) (d7 : decode cc (pc + 7) = .ok (.athrow, 1)) (hP : tw0 w cls Q) : J γ p l e R s m args below meth c nL true κ0 M0 Q w pc ls [] := by
  intro κ H locs lsC stC hH hx hl hs hS
  obtain rfl := rl_n hs
  obtain ⟨hu, hQ⟩ := hP
  refine W_fact (fun T hT Y => (⟨rmh1 X (cst := 6) (N := 6) hH hu (by omega) (by omega) Y hT, sd_of X.h.1 Y hT⟩ : _ ∧ _)) fun hR => ?_
  obtain ⟨⟨hR1, hR2, hR3⟩, -, f2⟩ := hR
  have hU : vx_Zq Bundle.tN "UNASSIGNED_STACK" Bundle.steD (An γ) s s.heap := vx_Zq.moved X.w.alike (X.g.2.2.2.1.1.kept (fun a h1 h2 => X.h.2 a h1))
  have hN : vx_Zq Bundle.tN "SUPPRESSED_SENTINEL" Bundle.listD (An γ) s s.heap := vx_Zq.moved X.w.alike (X.g.2.2.2.1.2.kept (fun a h1 h2 => X.h.2 a h1))
  have hat : ∀ w ∈ vx_at0 own ic cls names, w.before args s = true := by
    intro w hw
    cases hgw : goodWord w with
    | true => exact X.t _ (h1 w (List.mem_filter.mpr ⟨hw, hgw⟩))
    | false =>
      rcases h2 w (List.mem_filter.mpr ⟨hw, by rw [hgw]; rfl⟩) with ⟨x, rfl, q⟩ | ⟨C, T, rfl, q⟩
      · exact va_Nw.use rfl (X.nD q)
      · exact va_Nw.use rfl (X.nC q)
  have key := vx_throw0 (p := p) (l := l) (e := e) (R := R) (s := s) (m := m) (args := args) (below := below) (meth := meth) (c := c) (locs := locs) (cells := H.size - s.heap.size) (slots := sd s.heap.size H) (rest := []) (H := H) (ls := lsC) (Qc := fun _ _ _ _ => False) (XC := fun E _ t => E = cls ∧ H.size ≤ t.heap.size ∧ ∀ q : Nat, q < H.size → t.heap[q]? = H[q]?) (A := An γ) (free := An γ) (mc := (H.size - s.heap.size) + 1) (ms := sd s.heap.size H + 6) X.x X.b X.f X.o hcls hnames (X.t _ hk) (X.t _ hini) hat h3 hU hN hS (hl.1.trans X.nl.symm) d0 d3 d4 d7 (fun x hx => (hno x hx).elim) (by rw [X.rm.1]; exact hD1) (by rw [X.rm.2.1]; simpa using hD2) hR1 hR2 X.k (fun t _ g1 g2 => ⟨rfl, g1, g2⟩) hS.2.2 (Nat.le_refl _) (Nat.le_refl _)
  intro T hT Y
  obtain ⟨t, stp, o, b1, b2, b3⟩ := key T hT Y
  rcases b3 with ⟨h, -⟩ | ⟨q, rfl, E, ce, L, ⟨rfl, hz, hkp⟩, hce, hcv, hcl, hW, hsm, hL⟩
  · exact h.elim
  · have hsm0 := hsm
    obtain ⟨-, -, g3, -, g5, g6⟩ := hsm
    have g3' : t.heap.size ≤ s.heap.size + ((H.size - s.heap.size) + 1) := g3
    have g5' : sd s.heap.size t.heap ≤ sd s.heap.size H + 6 := g5
    have hsz : s.heap.size ≤ t.heap.size := Nat.le_trans hR3 hz
    have hsd : sd γ.1.heap.size t.heap = sd γ.1.heap.size s.heap + sd s.heap.size t.heap := sd_app X.h.1 hsz (fun a x hx => by
      obtain ⟨y, e1, -, e3, -⟩ := g6 a x hx
      exact ⟨y, e1, e3⟩)
    obtain ⟨b7, b8, -⟩ := hH.2.2.2.2.2.2
    have b6 := hH.2.2.2.2.2.1.1
    have hH1 : hp γ κ (w.1, w.2 + 6) t.heap := hp_more hH X.g.2.2.1.1 hz hkp hu (by omega) (by rw [hsd]; omega)
    refine ⟨t, stp, .threw q, b1, b2, Or.inr ⟨q, rfl, _, ce, L, ⟨⟨κ, (w.1, w.2 + 6), hH1, hx, hQ⟩, hsz, fun a h1 h2 => (hkp a (Nat.lt_of_lt_of_le h1 hR3)).trans (hS.2.1 a h1 h2)⟩, hce, hcv, hcl, hW, hsm0.mono hR1 hR2, hL⟩⟩
theorem xg_iob : ∀ w ∈ (vx_at0 RX1 49 "java/lang/IndexOutOfBoundsException" ["java/lang/RuntimeException", "java/lang/Exception"]).filter goodWord, w ∈ lw_all := lw_in _ [97, 363, 372, 380, 383, 385, 364, 365, 157, 158, 366, 371, 381, 634, 353, 635, 355, 636, 357, 367, 369, 359, 984, 985, 986, 726, 726, 727, 728, 729, 729, 730, 731, 364, 983, 342, 350, 351, 352, 354, 356, 358, 362, 361, 360] (by decide +kernel) (by decide +kernel)
theorem xb_iob : ∀ w ∈ (vx_at0 RX1 49 "java/lang/IndexOutOfBoundsException" ["java/lang/RuntimeException", "java/lang/Exception"]).filter (fun w => !goodWord w), (∃ x, w = .declares x ∧ w ∈ lw_tbl) ∨ ∃ C T, w = .castable C T ∧ w ∈ lw_tbl := by
  rw [show (vx_at0 RX1 49 "java/lang/IndexOutOfBoundsException" ["java/lang/RuntimeException", "java/lang/Exception"]).filter (fun w => !goodWord w) = [Cond.declares ⟨"java/lang/RuntimeException", "<init>", "()V"⟩, Cond.declares ⟨"java/lang/Exception", "<init>", "()V"⟩, Cond.declares ⟨"java/lang/Throwable", "<init>", "()V"⟩, Cond.castable "java/lang/IndexOutOfBoundsException" "java/lang/IndexOutOfBoundsException"] by decide +kernel]
  exact List.forall_mem_cons.mpr ⟨Or.inl ⟨_, rfl, q344⟩, List.forall_mem_cons.mpr ⟨Or.inl ⟨_, rfl, q346⟩, List.forall_mem_cons.mpr ⟨Or.inl ⟨_, rfl, q348⟩, List.forall_mem_cons.mpr ⟨Or.inr ⟨_, _, rfl, q343⟩, fun _ h => absurd h List.not_mem_nil⟩⟩⟩⟩
theorem J_throw_iob (X : Cx γ p l R s m args meth c cc RX1 nL ret D) (hno : ∀ x ∈ c.exceptionTable.toList, False) (hD : 12 ≤ D) (d0 : decode cc pc = .ok (.new 47, 3)) (d3 : decode cc (pc + 3) = .ok (.dup, 1)) (d4 : decode cc (pc + 4) = .ok (.invokespecial 49, 3)) (d7 : decode cc (pc + 7) = .ok (.athrow, 1)) (hP : tw0 w "java/lang/IndexOutOfBoundsException" Q) : J γ p l e R s m args below meth c nL true κ0 M0 Q w pc ls [] :=
  J_throw0 X hno (names := ["java/lang/RuntimeException", "java/lang/Exception"]) (by decide +kernel) (by decide +kernel) q982 q110 xg_iob xb_iob (by decide +kernel) (show 2 + 3 < D by omega) (show 13 * (2 + 1) + 42 ≤ 64 * D by omega) d0 d3 d4 d7 hP
theorem xg_iae : ∀ w ∈ (vx_at0 RX1 52 "java/lang/IllegalArgumentException" ["java/lang/RuntimeException", "java/lang/Exception"]).filter goodWord, w ∈ lw_all := lw_in _ [97, 363, 372, 380, 383, 385, 364, 365, 157, 158, 366, 371, 381, 634, 353, 635, 355, 636, 357, 367, 369, 359, 793, 794, 795, 726, 726, 727, 728, 729, 729, 730, 731, 364, 792, 606, 608, 376, 609, 610, 611, 612, 362, 361, 613] (by decide +kernel) (by decide +kernel)
theorem xb_iae : ∀ w ∈ (vx_at0 RX1 52 "java/lang/IllegalArgumentException" ["java/lang/RuntimeException", "java/lang/Exception"]).filter (fun w => !goodWord w), (∃ x, w = .declares x ∧ w ∈ lw_tbl) ∨ ∃ C T, w = .castable C T ∧ w ∈ lw_tbl := by
  rw [show (vx_at0 RX1 52 "java/lang/IllegalArgumentException" ["java/lang/RuntimeException", "java/lang/Exception"]).filter (fun w => !goodWord w) = [Cond.declares ⟨"java/lang/RuntimeException", "<init>", "()V"⟩, Cond.declares ⟨"java/lang/Exception", "<init>", "()V"⟩, Cond.declares ⟨"java/lang/Throwable", "<init>", "()V"⟩, Cond.castable "java/lang/IllegalArgumentException" "java/lang/IllegalArgumentException"] by decide +kernel]
  exact List.forall_mem_cons.mpr ⟨Or.inl ⟨_, rfl, q344⟩, List.forall_mem_cons.mpr ⟨Or.inl ⟨_, rfl, q346⟩, List.forall_mem_cons.mpr ⟨Or.inl ⟨_, rfl, q348⟩, List.forall_mem_cons.mpr ⟨Or.inr ⟨_, _, rfl, q607⟩, fun _ h => absurd h List.not_mem_nil⟩⟩⟩⟩
theorem J_throw_iae (X : Cx γ p l R s m args meth c cc RX1 nL ret D) (hno : ∀ x ∈ c.exceptionTable.toList, False) (hD : 12 ≤ D) (d0 : decode cc pc = .ok (.new 50, 3)) (d3 : decode cc (pc + 3) = .ok (.dup, 1)) (d4 : decode cc (pc + 4) = .ok (.invokespecial 52, 3)) (d7 : decode cc (pc + 7) = .ok (.athrow, 1)) (hP : tw0 w "java/lang/IllegalArgumentException" Q) : J γ p l e R s m args below meth c nL true κ0 M0 Q w pc ls [] :=
  J_throw0 X hno (names := ["java/lang/RuntimeException", "java/lang/Exception"]) (by decide +kernel) (by decide +kernel) q791 q100 xg_iae xb_iae (by decide +kernel) (show 2 + 3 < D by omega) (show 13 * (2 + 1) + 42 ≤ 64 * D by omega) d0 d3 d4 d7 hP
theorem xg_ise : ∀ w ∈ (vx_at0 RX1 55 "java/lang/IllegalStateException" ["java/lang/RuntimeException", "java/lang/Exception"]).filter goodWord, w ∈ lw_all := lw_in _ [97, 363, 372, 380, 383, 385, 364, 365, 157, 158, 366, 371, 381, 634, 353, 635, 355, 636, 357, 367, 369, 359, 809, 810, 811, 726, 726, 727, 728, 729, 729, 730, 731, 364, 808, 800, 802, 377, 803, 804, 805, 806, 362, 361, 807] (by decide +kernel) (by decide +kernel)
theorem xb_ise : ∀ w ∈ (vx_at0 RX1 55 "java/lang/IllegalStateException" ["java/lang/RuntimeException", "java/lang/Exception"]).filter (fun w => !goodWord w), (∃ x, w = .declares x ∧ w ∈ lw_tbl) ∨ ∃ C T, w = .castable C T ∧ w ∈ lw_tbl := by
  rw [show (vx_at0 RX1 55 "java/lang/IllegalStateException" ["java/lang/RuntimeException", "java/lang/Exception"]).filter (fun w => !goodWord w) = [Cond.declares ⟨"java/lang/RuntimeException", "<init>", "()V"⟩, Cond.declares ⟨"java/lang/Exception", "<init>", "()V"⟩, Cond.declares ⟨"java/lang/Throwable", "<init>", "()V"⟩, Cond.castable "java/lang/IllegalStateException" "java/lang/IllegalStateException"] by decide +kernel]
  exact List.forall_mem_cons.mpr ⟨Or.inl ⟨_, rfl, q344⟩, List.forall_mem_cons.mpr ⟨Or.inl ⟨_, rfl, q346⟩, List.forall_mem_cons.mpr ⟨Or.inl ⟨_, rfl, q348⟩, List.forall_mem_cons.mpr ⟨Or.inr ⟨_, _, rfl, q801⟩, fun _ h => absurd h List.not_mem_nil⟩⟩⟩⟩
theorem J_throw_ise (X : Cx γ p l R s m args meth c cc RX1 nL ret D) (hno : ∀ x ∈ c.exceptionTable.toList, False) (hD : 12 ≤ D) (d0 : decode cc pc = .ok (.new 53, 3)) (d3 : decode cc (pc + 3) = .ok (.dup, 1)) (d4 : decode cc (pc + 4) = .ok (.invokespecial 55, 3)) (d7 : decode cc (pc + 7) = .ok (.athrow, 1)) (hP : tw0 w "java/lang/IllegalStateException" Q) : J γ p l e R s m args below meth c nL true κ0 M0 Q w pc ls [] :=
  J_throw0 X hno (names := ["java/lang/RuntimeException", "java/lang/Exception"]) (by decide +kernel) (by decide +kernel) q799 q101 xg_ise xb_ise (by decide +kernel) (show 2 + 3 < D by omega) (show 13 * (2 + 1) + 42 ≤ 64 * D by omega) d0 d3 d4 d7 hP
theorem xg_uoe : ∀ w ∈ (vx_at0 RX1 58 "java/lang/UnsupportedOperationException" ["java/lang/RuntimeException", "java/lang/Exception"]).filter goodWord, w ∈ lw_all := lw_in _ [97, 363, 372, 380, 383, 385, 364, 365, 157, 158, 366, 371, 381, 634, 353, 635, 355, 636, 357, 367, 369, 359, 1021, 1022, 1023, 726, 726, 727, 728, 729, 729, 730, 731, 364, 1020, 1012, 1014, 378, 1015, 1016, 1017, 1018, 362, 361, 1019] (by decide +kernel) (by decide +kernel)
theorem xb_uoe : ∀ w ∈ (vx_at0 RX1 58 "java/lang/UnsupportedOperationException" ["java/lang/RuntimeException", "java/lang/Exception"]).filter (fun w => !goodWord w), (∃ x, w = .declares x ∧ w ∈ lw_tbl) ∨ ∃ C T, w = .castable C T ∧ w ∈ lw_tbl := by
  rw [show (vx_at0 RX1 58 "java/lang/UnsupportedOperationException" ["java/lang/RuntimeException", "java/lang/Exception"]).filter (fun w => !goodWord w) = [Cond.declares ⟨"java/lang/RuntimeException", "<init>", "()V"⟩, Cond.declares ⟨"java/lang/Exception", "<init>", "()V"⟩, Cond.declares ⟨"java/lang/Throwable", "<init>", "()V"⟩, Cond.castable "java/lang/UnsupportedOperationException" "java/lang/UnsupportedOperationException"] by decide +kernel]
  exact List.forall_mem_cons.mpr ⟨Or.inl ⟨_, rfl, q344⟩, List.forall_mem_cons.mpr ⟨Or.inl ⟨_, rfl, q346⟩, List.forall_mem_cons.mpr ⟨Or.inl ⟨_, rfl, q348⟩, List.forall_mem_cons.mpr ⟨Or.inr ⟨_, _, rfl, q1013⟩, fun _ h => absurd h List.not_mem_nil⟩⟩⟩⟩
theorem J_throw_uoe (X : Cx γ p l R s m args meth c cc RX1 nL ret D) (hno : ∀ x ∈ c.exceptionTable.toList, False) (hD : 12 ≤ D) (d0 : decode cc pc = .ok (.new 56, 3)) (d3 : decode cc (pc + 3) = .ok (.dup, 1)) (d4 : decode cc (pc + 4) = .ok (.invokespecial 58, 3)) (d7 : decode cc (pc + 7) = .ok (.athrow, 1)) (hP : tw0 w "java/lang/UnsupportedOperationException" Q) : J γ p l e R s m args below meth c nL true κ0 M0 Q w pc ls [] :=
  J_throw0 X hno (names := ["java/lang/RuntimeException", "java/lang/Exception"]) (by decide +kernel) (by decide +kernel) q1011 q124 xg_uoe xb_uoe (by decide +kernel) (show 2 + 3 < D by omega) (show 13 * (2 + 1) + 42 ≤ 64 * D by omega) d0 d3 d4 d7 hP
theorem xg_nse : ∀ w ∈ (vx_at0 RX1 61 "java/util/NoSuchElementException" ["java/lang/RuntimeException", "java/lang/Exception"]).filter goodWord, w ∈ lw_all := lw_in _ [97, 363, 372, 380, 383, 385, 364, 365, 157, 158, 366, 371, 381, 634, 353, 635, 355, 636, 357, 367, 369, 359, 723, 724, 725, 726, 726, 727, 728, 729, 729, 730, 731, 364, 1185, 714, 716, 379, 717, 718, 719, 720, 362, 361, 721] (by decide +kernel) (by decide +kernel)
theorem xb_nse : ∀ w ∈ (vx_at0 RX1 61 "java/util/NoSuchElementException" ["java/lang/RuntimeException", "java/lang/Exception"]).filter (fun w => !goodWord w), (∃ x, w = .declares x ∧ w ∈ lw_tbl) ∨ ∃ C T, w = .castable C T ∧ w ∈ lw_tbl := by
  rw [show (vx_at0 RX1 61 "java/util/NoSuchElementException" ["java/lang/RuntimeException", "java/lang/Exception"]).filter (fun w => !goodWord w) = [Cond.declares ⟨"java/lang/RuntimeException", "<init>", "()V"⟩, Cond.declares ⟨"java/lang/Exception", "<init>", "()V"⟩, Cond.declares ⟨"java/lang/Throwable", "<init>", "()V"⟩, Cond.castable "java/util/NoSuchElementException" "java/util/NoSuchElementException"] by decide +kernel]
  exact List.forall_mem_cons.mpr ⟨Or.inl ⟨_, rfl, q344⟩, List.forall_mem_cons.mpr ⟨Or.inl ⟨_, rfl, q346⟩, List.forall_mem_cons.mpr ⟨Or.inl ⟨_, rfl, q348⟩, List.forall_mem_cons.mpr ⟨Or.inr ⟨_, _, rfl, q715⟩, fun _ h => absurd h List.not_mem_nil⟩⟩⟩⟩
theorem J_throw_nse (X : Cx γ p l R s m args meth c cc RX1 nL ret D) (hno : ∀ x ∈ c.exceptionTable.toList, False) (hD : 12 ≤ D) (d0 : decode cc pc = .ok (.new 59, 3)) (d3 : decode cc (pc + 3) = .ok (.dup, 1)) (d4 : decode cc (pc + 4) = .ok (.invokespecial 61, 3)) (d7 : decode cc (pc + 7) = .ok (.athrow, 1)) (hP : tw0 w "java/util/NoSuchElementException" Q) : J γ p l e R s m args below meth c nL true κ0 M0 Q w pc ls [] :=
  J_throw0 X hno (names := ["java/lang/RuntimeException", "java/lang/Exception"]) (by decide +kernel) (by decide +kernel) q1184 q123 xg_nse xb_nse (by decide +kernel) (show 2 + 3 < D by omega) (show 13 * (2 + 1) + 42 ≤ 64 * D by omega) d0 d3 d4 d7 hP
theorem xg_ari : ∀ w ∈ (vx_at0 RX1 519 "java/lang/ArithmeticException" ["java/lang/RuntimeException", "java/lang/Exception"]).filter goodWord, w ∈ lw_all := lw_in _ [97, 363, 372, 380, 383, 385, 364, 365, 157, 158, 366, 371, 381, 634, 353, 635, 355, 636, 357, 367, 369, 359, 2286, 2287, 2288, 726, 726, 727, 728, 729, 729, 730, 731, 364, 2285, 2267, 2279, 374, 2273, 2274, 2276, 2272, 362, 361, 2271] (by decide +kernel) (by decide +kernel)
theorem xb_ari : ∀ w ∈ (vx_at0 RX1 519 "java/lang/ArithmeticException" ["java/lang/RuntimeException", "java/lang/Exception"]).filter (fun w => !goodWord w), (∃ x, w = .declares x ∧ w ∈ lw_tbl) ∨ ∃ C T, w = .castable C T ∧ w ∈ lw_tbl := by
  rw [show (vx_at0 RX1 519 "java/lang/ArithmeticException" ["java/lang/RuntimeException", "java/lang/Exception"]).filter (fun w => !goodWord w) = [Cond.declares ⟨"java/lang/RuntimeException", "<init>", "()V"⟩, Cond.declares ⟨"java/lang/Exception", "<init>", "()V"⟩, Cond.declares ⟨"java/lang/Throwable", "<init>", "()V"⟩, Cond.castable "java/lang/ArithmeticException" "java/lang/ArithmeticException"] by decide +kernel]
  exact List.forall_mem_cons.mpr ⟨Or.inl ⟨_, rfl, q344⟩, List.forall_mem_cons.mpr ⟨Or.inl ⟨_, rfl, q346⟩, List.forall_mem_cons.mpr ⟨Or.inl ⟨_, rfl, q348⟩, List.forall_mem_cons.mpr ⟨Or.inr ⟨_, _, rfl, q2278⟩, fun _ h => absurd h List.not_mem_nil⟩⟩⟩⟩
theorem J_throw_ari (X : Cx γ p l R s m args meth c cc RX1 nL ret D) (hno : ∀ x ∈ c.exceptionTable.toList, False) (hD : 12 ≤ D) (d0 : decode cc pc = .ok (.new 517, 3)) (d3 : decode cc (pc + 3) = .ok (.dup, 1)) (d4 : decode cc (pc + 4) = .ok (.invokespecial 519, 3)) (d7 : decode cc (pc + 7) = .ok (.athrow, 1)) (hP : tw0 w "java/lang/ArithmeticException" Q) : J γ p l e R s m args below meth c nL true κ0 M0 Q w pc ls [] :=
  J_throw0 X hno (names := ["java/lang/RuntimeException", "java/lang/Exception"]) (by decide +kernel) (by decide +kernel) q2284 q150 xg_ari xb_ari (by decide +kernel) (show 2 + 3 < D by omega) (show 13 * (2 + 1) + 42 ≤ 64 * D by omega) d0 d3 d4 d7 hP
end THROW
