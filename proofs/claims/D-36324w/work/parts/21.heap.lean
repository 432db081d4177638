/-! The abstract heap moves with the concrete one -/
set_option maxRecDepth 100000
theorem va_P1 {D : va_G} {cl : List vw_C} {a : Nat} {e : va_E} {H : Heap} (h : va_at D cl (a, e) H) : va_P D cl [(a, e)] H := by
  intro k q hk
  cases k with
  | zero => cases hk; exact h
  | succ k => simp at hk
theorem va_atK {D : va_G} {cl : List vw_C} {a : Nat} {e : va_E} {H H1 : Heap} (h : va_at D cl (a, e) H) (hq : H1[a]? = H[a]?) : va_at D cl (a, e) H1 := va_at.kept (q := (a, e)) h hq
section SD
variable {p : Program} {l : Launch} {e : Env} {R : Room} {s : State} {m : MethodId} {args : Array Value} {below : List Frame} {meth : Method} {c : Code} {H : Heap} {locs : List Loc} {cells slots : Nat} {Q : State → Prop} {T : State}
theorem st_t (X : Stand p l e R s m args below meth c T locs cells slots) (hT : T.heap = H) : Stand p l e R s m args below meth c T locs (H.size - s.heap.size) (sd s.heap.size H) := by
  subst hT
  refine { X with same := ?_ }
  obtain ⟨h1, h2, h3, h4, h5, h6⟩ := X.same
  have h2' : s.heap.size ≤ T.heap.size := h2
  refine ⟨h1, h2, ?_, h4, ?_, h6⟩
  · show T.heap.size ≤ s.heap.size + (T.heap.size - s.heap.size)
    omega
  · show ((T.heap.toList.drop s.heap.size).map (fun c => c.slots.size)).sum ≤ sd s.heap.size T.heap
    exact Nat.le_refl _
theorem W_t {g : JFrame} (k : W p l e R s m args below meth c H locs (H.size - s.heap.size) (sd s.heap.size H) Q g) : W p l e R s m args below meth c H locs cells slots Q g := fun T hT X => k T hT (st_t X hT)
theorem W_fact {F : Prop} {g : JFrame} (h : ∀ T : State, T.heap = H → Stand p l e R s m args below meth c T locs cells slots → F) (k : F → W p l e R s m args below meth c H locs cells slots Q g) : W p l e R s m args below meth c H locs cells slots Q g := fun T hT X => k (h T hT X) T hT X
theorem sd_app {n : Nat} {h H : Heap} (h0 : n ≤ h.size) (hle : h.size ≤ H.size) (hq : ∀ (a : Nat) (x : Cell), h[a]? = some x → ∃ y, H[a]? = some y ∧ y.slots.size = x.slots.size) : sd n H = sd n h + sd h.size H := by
  have e1 : (H.toList.take h.size).map (fun c : Cell => c.slots.size) = h.toList.map (fun c : Cell => c.slots.size) := by
    apply List.ext_getElem?
    intro i
    rw [List.getElem?_map, List.getElem?_map, List.getElem?_take]
    by_cases hi : i < h.size
    · obtain ⟨y, e1, e2⟩ := hq i _ (Array.getElem?_eq_getElem hi)
      rw [if_pos hi, Array.getElem?_toList, Array.getElem?_toList, e1, Array.getElem?_eq_getElem hi]
      simp [e2]
    · rw [if_neg hi, Array.getElem?_toList, Array.getElem?_eq_none (by omega)]
  have e2 : H.toList.drop n = (H.toList.take h.size).drop n ++ H.toList.drop h.size := by
    have h3 : H.toList = H.toList.take h.size ++ H.toList.drop h.size := (List.take_append_drop _ _).symm
    have h4 : n ≤ (H.toList.take h.size).length := by simp; omega
    calc H.toList.drop n = (H.toList.take h.size ++ H.toList.drop h.size).drop n := by rw [← h3]
      _ = _ := List.drop_append_of_le_length h4
  unfold sd
  rw [e2, List.map_append, List.sum_append, List.map_drop, e1, ← List.map_drop]
theorem sd_of {n : Nat} (hn : n ≤ s.heap.size) (Y : Stand p l e R s m args below meth c T locs cells slots) (hT : T.heap = H) : s.heap.size ≤ H.size ∧ sd n H = sd n s.heap + sd s.heap.size H := by
  subst hT
  obtain ⟨h1, h2, h3, h4, h5, h6⟩ := Y.same
  have h2' : s.heap.size ≤ T.heap.size := h2
  refine ⟨h2', sd_app hn h2' fun a x hx => ?_⟩
  obtain ⟨y, g1, -, g3, -⟩ := h6 a x hx
  exact ⟨y, g1, g3⟩
theorem sd_push {n : Nat} (x : Cell) (h : n ≤ H.size) : sd n (H.push x) = sd n H + x.slots.size := by
  unfold sd
  rw [Array.toList_push, List.drop_append_of_le_length (by simpa using h)]
  simp
theorem sd_same {n : Nat} {H1 : Heap} (z : H1.size = H.size) (hq : ∀ (a : Nat) (x : Cell), H[a]? = some x → ∃ y, H1[a]? = some y ∧ y.slots.size = x.slots.size) : sd n H1 = sd n H := by
  unfold sd
  have e1 : H1.toList.map (fun c : Cell => c.slots.size) = H.toList.map (fun c : Cell => c.slots.size) := by
    apply List.ext_getElem?
    intro i
    rw [List.getElem?_map, List.getElem?_map, Array.getElem?_toList, Array.getElem?_toList]
    by_cases hi : i < H.size
    · obtain ⟨y, e1, e2⟩ := hq i _ (Array.getElem?_eq_getElem hi)
      rw [e1, Array.getElem?_eq_getElem hi]
      simp [e2]
    · rw [Array.getElem?_eq_none (by omega), Array.getElem?_eq_none (by omega)]
  rw [List.map_drop, e1, ← List.map_drop]
theorem sd_set {n a k : Nat} {H1 : Heap} {x : Cell} {v : Value} (hx : H[a]? = some x) (h1 : H1[a]? = some (x.setSlot k v)) (z : H1.size = H.size) (o : ∀ q, q ≠ a → H1[q]? = H[q]?) : sd n H1 = sd n H := by
  refine sd_same z fun q y hy => ?_
  by_cases hq : q = a
  · subst hq
    rw [hx] at hy
    cases hy
    exact ⟨_, h1, by simp [Cell.setSlot]⟩
  · exact ⟨y, by rw [o q hq]; exact hy, rfl⟩
end SD
section HP
variable {γ : GG} {κ κ' : KK} {M M' : AM} {w : AW} {H H1 : Heap} {n : Nat} {e : AO}
theorem alat_to {t : List Value × Nat × Int32} (h : alat γ κ M n t H) (hx : xt κ M κ' M') (h1 : κ'.1 n = κ.1 n) (h2 : κ'.2.1 n = κ.2.1 n) (k1 : H1[κ.1 n]? = H[κ.1 n]?) (k2 : H1[κ.2.1 n]? = H[κ.2.1 n]?) : alat γ κ' M' n t H1 := by
  obtain ⟨g, a1, a2, a3, a4, a5, a6, a7, a8⟩ := h
  refine ⟨g, ?_, a2, a3, ?_, fun i x hi => ⟨cv_xt hx (a5 i x hi).1, (a5 i x hi).2⟩, a6, fun z => by rw [h2]; exact a7 z, a8⟩
  · rw [h1, h2]; exact va_atK a1 k1
  · intro hc; rw [h2]; exact va_atK (a4 hc) k2
theorem aat_to (h : aat γ κ M n e H) (hx : xt κ M κ' M') (h1 : κ'.1 n = κ.1 n) (h2 : κ'.2.1 n = κ.2.1 n) (k1 : H1[κ.1 n]? = H[κ.1 n]?) (k2 : ∀ t, e = .inr (.inr (.inl t)) → H1[κ.2.1 n]? = H[κ.2.1 n]?) : aat γ κ' M' n e H1 := by
  match e, h, k2 with
  | .inl o, h, _ =>
    obtain ⟨cs, a1, a2⟩ := h
    exact ⟨cs, rl_mono (fun _ _ q => cv_xt hx q) a1, by rw [h1]; exact va_atK a2 k1⟩
  | .inr (.inl a), h, _ =>
    show va_at γ.2.1 vwCl (κ'.1 n, .inl (arid γ a, a)) H1
    rw [h1]
    exact va_atK h k1
  | .inr (.inr (.inl t)), h, k2 => exact alat_to h hx h1 h2 k1 (k2 t rfl)
  | .inr (.inr (.inr t)), h, _ =>
    obtain ⟨g, a1, a2⟩ := h
    exact ⟨g, by rw [h1]; exact va_atK a1 k1, fun i hi => ⟨cv_xt hx (a2 i hi).1, (a2 i hi).2⟩⟩
theorem spat_to {k a : Nat} (h : spat γ k a H) (hq : H1[a]? = H[a]?) : spat γ k a H1 := by
  unfold spat at h ⊢
  split
  · next hk => rw [if_pos hk] at h; exact va_atK h hq
  · next hk => rw [if_neg hk] at h; exact h
theorem xt_upm (M : AM) (n : Nat) (e : AO) : xt κ M κ (upm M n e) := ⟨fun _ h => ⟨upm_none M e h, rfl⟩, fun _ _ h => h⟩
/-- which addresses does a name's cell stand on -/
theorem hp_ad (hH : hp γ κ w H) {j : Nat} {t : List Value × Nat × Int32} (hj : w.1 j = some (.inr (.inr (.inl t)))) : (0 < t.2.1 ∧ ow w.1 (j, true)) ∨ (t.2.1 = 0 ∧ κ.2.1 j = (γ.2.2.2 2)) := by
  rcases Nat.eq_zero_or_pos t.2.1 with h | h
  · obtain ⟨g, -, -, -, -, -, -, a7, -⟩ := hH.1 j _ hj
    exact Or.inr ⟨h, a7 h⟩
  · exact Or.inl ⟨h, t, hj, h⟩
/-- a cell of the name n changes, at one address of its own -/
theorem hp_mut (hH : hp γ κ w H) (hg : (γ.2.2.2 2) < γ.1.heap.size) (hM : w.1 n = some e) {e' : AO} {q : Nat × Bool} (hq : ow w.1 q) (hqn : q.1 = n) (hnew : aat γ κ (upm w.1 n e') n e' H1) (how : ∀ x, ow (upm w.1 n e') x → ow w.1 x) (z : H1.size = H.size) (o : ∀ x, x ≠ oa κ q → H1[x]? = H[x]?) (hsl : sd γ.1.heap.size H1 = sd γ.1.heap.size H) : hp γ κ (upm w.1 n e', w.2) H1 := by
  obtain ⟨b1, b2, b3, b4, ⟨b, b5, b51⟩, b6, b7⟩ := hH
  have hle := b3 q hq
  refine ⟨fun j ej hj => ?_, fun x y hx hy => b2 x y (how x hx) (how y hy), fun x hx => by rw [z]; exact b3 x (how x hx), fun a k hak => ⟨⟨spat_to (b4 a k hak).1.1 (o a fun h => (b4 a k hak).2 q hq h.symm), by rw [z]; exact (b4 a k hak).1.2⟩, fun x hx => (b4 a k hak).2 x (how x hx)⟩, ⟨Nat.max b (n + 1), fun j hj => ?_, b51⟩, ⟨by rw [z]; exact b6.1, fun a ha => (o a (by omega)).trans (b6.2 a ha)⟩, ⟨by rw [z]; exact b7.1, by rw [hsl]; exact b7.2.1, b7.2.2⟩⟩
  · by_cases hjn : j = n
    · subst hjn
      have hj : upm w.1 j e' j = some ej := hj
      rw [upm_s] at hj
      cases hj
      exact hnew
    · have hj : upm w.1 n e' j = some ej := hj
      rw [upm_n _ _ hjn] at hj
      have hj0 : w.1 j ≠ none := by rw [hj]; exact fun h => by cases h
      refine aat_to (b1 j ej hj) (xt_upm _ _ _) rfl rfl (o _ fun h => ?_) (fun t ht => o _ fun h => ?_)
      · have h9 := b2 (j, false) q hj0 hq h
        exact hjn (by rw [← hqn, ← h9])
      · subst ht
        rcases hp_ad ⟨b1, b2, b3, b4, ⟨b, b5, b51⟩, b6, b7⟩ hj with ⟨-, h8⟩ | ⟨-, h8⟩
        · have h9 := b2 (j, true) q h8 hq h
          exact hjn (by rw [← hqn, ← h9])
        · rw [h8] at h; omega
  · have h1 : Nat.max b (n + 1) ≤ j := hj
    have h2 : b ≤ j := Nat.le_trans (Nat.le_max_left _ _) h1
    have h3 : n + 1 ≤ j := Nat.le_trans (Nat.le_max_right _ _) h1
    show upm w.1 n e' j = none
    rw [upm_n _ _ (by omega)]
    exact b5 j h2
/-- a new cell, by a fresh name -/
theorem hp_new (hH : hp γ κ w H) (hg : (γ.2.2.2 2) < γ.1.heap.size) (hM : w.1 n = none) {e' : AO} {u : Nat} (hu : u ≤ LU) (hnt : ∀ t, e' = .inr (.inr (.inl t)) → t.2.1 = 0) (hz : H1.size = H.size + 1) (o : ∀ x, x < H.size → H1[x]? = H[x]?) (hnew : aat γ (fun j => if j = n then H.size else κ.1 j, κ.2) (upm w.1 n e') n e' H1)
    (hc : 4 * (H1.size - γ.1.heap.size) ≤ u) (hs : sd γ.1.heap.size H1 ≤ u) : hp γ (fun j => if j = n then H.size else κ.1 j, κ.2) (upm w.1 n e', u) H1 ∧ xt κ w.1 (fun j => if j = n then H.size else κ.1 j, κ.2) (upm w.1 n e') := by
  have hxt : xt κ w.1 (fun j => if j = n then H.size else κ.1 j, κ.2) (upm w.1 n e') := ⟨fun j hj => ⟨upm_none _ _ hj, if_neg fun h => hj (by rw [h]; exact hM)⟩, fun _ _ h => h⟩
  refine ⟨?_, hxt⟩
  have hH0 := hH
  obtain ⟨b1, b2, b3, b4, ⟨b, b5, b51⟩, b6, b7⟩ := hH
  have key : ∀ x : Nat × Bool, ow (upm w.1 n e') x → (x = (n, false) ∧ oa ((fun j => if j = n then H.size else κ.1 j, κ.2) : KK) x = H.size) ∨ (ow w.1 x ∧ oa ((fun j => if j = n then H.size else κ.1 j, κ.2) : KK) x = oa κ x ∧ oa κ x < H.size) := by
    intro x hx
    obtain ⟨j, bb⟩ := x
    by_cases hj : j = n
    · subst hj
      cases bb with
      | false => exact Or.inl ⟨rfl, if_pos rfl⟩
      | true =>
        exfalso
        obtain ⟨t, h1, h2⟩ := hx
        have h1' : upm w.1 j e' j = some (.inr (.inr (.inl t))) := h1
        rw [upm_s] at h1'
        have := hnt t (Option.some.inj h1')
        omega
    · have hx' : ow w.1 (j, bb) := by
        cases bb with
        | false =>
          have h9 : upm w.1 n e' j ≠ none := hx
          rw [upm_n _ _ hj] at h9
          exact h9
        | true =>
          obtain ⟨t, h1, h2⟩ := hx
          have h1' : upm w.1 n e' j = some (.inr (.inr (.inl t))) := h1
          rw [upm_n _ _ hj] at h1'
          exact ⟨t, h1', h2⟩
      refine Or.inr ⟨hx', ?_, (b3 _ hx').2⟩
      cases bb with
      | false => exact if_neg hj
      | true => rfl
  refine ⟨fun j ej hj => ?_, fun x y hx hy hxy => ?_, fun x hx => ?_, fun a k hak => ⟨⟨spat_to (b4 a k hak).1.1 (o a (b4 a k hak).1.2), by rw [hz]; have := (b4 a k hak).1.2; omega⟩, fun x hx => ?_⟩, ⟨Nat.max b (n + 1), fun j hj => ?_, b51⟩, ⟨by rw [hz]; have := b6.1; omega, fun a ha => (o a (by have := b6.1; omega)).trans (b6.2 a ha)⟩, ⟨hc, hs, hu⟩⟩
  · by_cases hjn : j = n
    · subst hjn
      have hj' : upm w.1 j e' j = some ej := hj
      rw [upm_s] at hj'
      cases hj'
      exact hnew
    · have hj' : upm w.1 n e' j = some ej := hj
      rw [upm_n _ _ hjn] at hj'
      have hj0 : w.1 j ≠ none := by rw [hj']; exact fun h => by cases h
      refine aat_to (b1 j ej hj') hxt (if_neg hjn) rfl (o _ (b3 (j, false) hj0).2) (fun t ht => ?_)
      subst ht
      rcases hp_ad hH0 hj' with ⟨-, h8⟩ | ⟨-, h8⟩
      · exact o _ (b3 _ h8).2
      · rw [h8]; exact o _ (by have := b6.1; omega)
  · rcases key x hx with ⟨h1, h2⟩ | ⟨h1, h2, h3⟩ <;> rcases key y hy with ⟨g1, g2⟩ | ⟨g1, g2, g3⟩
    · rw [h1, g1]
    · rw [h2, g2] at hxy; omega
    · rw [h2, g2] at hxy; omega
    · rw [h2, g2] at hxy; exact b2 x y h1 g1 hxy
  · rcases key x hx with ⟨h1, h2⟩ | ⟨h1, h2, h3⟩
    · rw [h2, hz]; have := b6.1; omega
    · rw [h2, hz]; have := (b3 x h1).1; omega
  · rcases key x hx with ⟨h1, h2⟩ | ⟨h1, h2, h3⟩
    · rw [h2]; have := (b4 a k hak).1.2; omega
    · rw [h2]; exact (b4 a k hak).2 x h1
  · have h1 : Nat.max b (n + 1) ≤ j := hj
    have h2 : b ≤ j := Nat.le_trans (Nat.le_max_left _ _) h1
    have h3 : n + 1 ≤ j := Nat.le_trans (Nat.le_max_right _ _) h1
    show upm w.1 n e' j = none
    rw [upm_n _ _ (by omega)]
    exact b5 j h2
end HP
