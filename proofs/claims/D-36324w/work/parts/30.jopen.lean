/-! Lists opened and closed -/
set_option maxRecDepth 100000
def lref (cap m : Nat) : Value := if cap = 0 then .retAddr 4294967298 else .ref m
def liO (cap m : Nat) (mc : Int32) (len : Nat) : AO := .inl (20, [.int mc, lref cap m, .int (nI len)])
def fxs (xs : List Value) (i : Nat) : Value := (xs[i]?).getD .null
def alO (t : List Value × Nat × Int32) : AO := .inr (.inr (.inl t))
/-- a list in its raw form, its array by the name m -/
def opM (M : AM) (n m : Nat) (t : List Value × Nat × Int32) : AM := fun j => if j = n then some (liO t.2.1 m t.2.2 t.1.length) else if j = m ∧ t.2.1 ≠ 0 then some (raO t.2.1 (fxs t.1)) else M j
theorem opM_n {M : AM} {n m : Nat} {t : List Value × Nat × Int32} : opM M n m t n = some (liO t.2.1 m t.2.2 t.1.length) := by simp [opM]
theorem opM_m {M : AM} {n m : Nat} {t : List Value × Nat × Int32} (h : m ≠ n) (hc : t.2.1 ≠ 0) : opM M n m t m = some (raO t.2.1 (fxs t.1)) := by simp [opM, h, hc]
theorem opM_o {M : AM} {n m j : Nat} {t : List Value × Nat × Int32} (h : j ≠ n) (h2 : j ≠ m) : opM M n m t j = M j := by simp [opM, h, h2]
def clV (M : AM) (v : Value) : Prop := match v with
  | .ref k => M k ≠ none
  | _ => True
def clE (M : AM) (e : AO) : Prop := match e with
  | .inl o => ∀ v ∈ o.2, clV M v
  | .inr (.inl _) => True
  | .inr (.inr (.inl t)) => ∀ v ∈ t.1, clV M v ∧ nsp v
  | .inr (.inr (.inr t)) => ∀ i, i < t.1 → clV M (t.2 i)
def clM (M : AM) : Prop := ∀ j e, M j = some e → clE M e
theorem cv_clV {κ : KK} {M : AM} {v c : Value} (h : cv κ M v c) : clV M v := by
  cases v <;> first | trivial | exact h.1
theorem rl_clV {κ : KK} {M : AM} : ∀ {vs cs : List Value}, rl (cv κ M) vs cs → ∀ v ∈ vs, clV M v
  | [], _, _, v, hv => by cases hv
  | a :: as, [], h, _, _ => h.elim
  | a :: as, b :: bs, h, v, hv => by
    rcases List.mem_cons.mp hv with rfl | h9
    · exact cv_clV h.1
    · exact rl_clV h.2 v h9
theorem cv_to {κ κ' : KK} {M M' : AM} {v c : Value} (h : cv κ M v c) (hc : clV M' v) (h1 : ∀ k, M' k ≠ none → κ'.1 k = κ.1 k) (h2 : κ'.2.2 = κ.2.2) : cv κ' M' v c := by
  cases v with
  | ref k => exact ⟨hc, by rw [h1 k hc]; exact h.2⟩
  | retAddr k => obtain ⟨a, e1, e2⟩ := h; exact ⟨a, e1, by rw [h2]; exact e2⟩
  | int x => exact h
  | long x => exact h
  | float x => exact h
  | double x => exact h
  | null => exact h
theorem rl_to {κ κ' : KK} {M M' : AM} : ∀ {vs cs : List Value}, rl (cv κ M) vs cs → (∀ v ∈ vs, clV M' v) → (∀ k, M' k ≠ none → κ'.1 k = κ.1 k) → κ'.2.2 = κ.2.2 → rl (cv κ' M') vs cs
  | [], [], _, _, _, _ => trivial
  | [], _ :: _, h, _, _, _ => h.elim
  | a :: as, [], h, _, _, _ => h.elim
  | a :: as, b :: bs, h, hc, h1, h2 => ⟨cv_to h.1 (hc a List.mem_cons_self) h1 h2, rl_to h.2 (fun v hv => hc v (List.mem_cons_of_mem _ hv)) h1 h2⟩
section OC
variable {γ : GG} {κ κ1 : KK} {M MF : AM} {w w1 : AW} {H H1 : Heap} {n m m' : Nat} {t t' : List Value × Nat × Int32}
theorem hp_clM (hH : hp γ κ w H) : clM w.1 := by
  intro j e hj
  have h := hH.1 j e hj
  match e, h with
  | .inl o, h => obtain ⟨cs, h1, -⟩ := h; exact rl_clV h1
  | .inr (.inl a), _ => trivial
  | .inr (.inr (.inl t)), h =>
    obtain ⟨g, -, -, -, -, a5, -⟩ := h
    intro v hv
    obtain ⟨i, hi, rfl⟩ := List.mem_iff_getElem.mp hv
    have h9 := a5 i _ (List.getElem?_eq_getElem hi)
    exact ⟨cv_clV h9.1, h9.2⟩
  | .inr (.inr (.inr t)), h =>
    obtain ⟨g, -, a2⟩ := h
    exact fun i hi => cv_clV (a2 i hi).1
theorem hp_open (hH : hp γ κ w H) (hM : w.1 n = some (alO t)) (hm : w.1 m = none) : hp γ (fun j => if j = m then κ.2.1 n else κ.1 j, κ.2) (opM w.1 n m t, w.2) H ∧ xt κ w.1 (fun j => if j = m then κ.2.1 n else κ.1 j, κ.2) (opM w.1 n m t) := by
  have hmn : m ≠ n := fun h => by rw [h, hM] at hm; cases hm
  have hnn : w.1 n ≠ none := by rw [hM]; exact fun h => by cases h
  have hxt : xt κ w.1 (fun j => if j = m then κ.2.1 n else κ.1 j, κ.2) (opM w.1 n m t) := by
    refine ⟨fun j hj => ⟨?_, if_neg fun h => hj (by rw [h]; exact hm)⟩, fun _ _ h => h⟩
    by_cases h1 : j = n
    · rw [h1, opM_n]; exact fun h => by cases h
    · rw [opM_o h1 fun h => hj (by rw [h]; exact hm)]; exact hj
  refine ⟨?_, hxt⟩
  have hal := hH.1 n _ hM
  have hsp2 : cv κ w.1 (.retAddr 4294967298) (.ref (γ.2.2.2 2)) := by
    obtain ⟨bb, -, h⟩ := hH.2.2.2.2.1
    exact ⟨_, rfl, h 2 (by omega)⟩
  obtain ⟨b1, b2, b3, b4, ⟨b, b5, b51⟩, b6, b7⟩ := hH
  obtain ⟨g, a1, a2, a3, a4, a5, a6, a7, a8⟩ := hal
  have key : ∀ x : Nat × Bool, ow (opM w.1 n m t) x → (x.1 ≠ m ∧ x ≠ (n, true) ∧ ow w.1 x ∧ oa ((fun j => if j = m then κ.2.1 n else κ.1 j, κ.2) : KK) x = oa κ x) ∨ (x = (m, false) ∧ ow w.1 (n, true) ∧ oa ((fun j => if j = m then κ.2.1 n else κ.1 j, κ.2) : KK) x = oa κ (n, true)) := by
    intro x hx
    obtain ⟨j, bb⟩ := x
    cases bb with
    | false =>
      have hx : opM w.1 n m t j ≠ none := hx
      by_cases h1 : j = n
      · subst h1
        exact Or.inl ⟨fun h => hmn h.symm, (fun h => by cases h), hnn, if_neg fun h => hmn h.symm⟩
      · by_cases h2 : j = m
        · subst h2
          have hc : t.2.1 ≠ 0 := fun hc => by
            unfold opM at hx
            rw [if_neg h1, if_neg (fun h => h.2 hc)] at hx
            exact hx hm
          exact Or.inr ⟨rfl, ⟨t, hM, Nat.pos_of_ne_zero hc⟩, if_pos rfl⟩
        · rw [opM_o h1 h2] at hx
          exact Or.inl ⟨h2, (fun h => by cases h), hx, if_neg h2⟩
    | true =>
      obtain ⟨t1, h1, h2⟩ := hx
      have h1 : opM w.1 n m t j = some (.inr (.inr (.inl t1))) := h1
      by_cases h3 : j = n
      · rw [h3, opM_n] at h1; cases h1
      · by_cases h4 : j = m
        · subst h4
          unfold opM at h1
          rw [if_neg h3] at h1
          split at h1
          · cases h1
          · rw [hm] at h1; cases h1
        · rw [opM_o h3 h4] at h1
          exact Or.inl ⟨h4, (fun h => h3 (by cases h; rfl)), ⟨t1, h1, h2⟩, rfl⟩
  refine ⟨fun j ej hj => ?_, fun x y hx hy hxy => ?_, fun x hx => ?_, fun a k hak => ⟨(b4 a k hak).1, fun x hx => ?_⟩, ⟨Nat.max b (m + 1), fun j hj => ?_, b51⟩, b6, b7⟩
  · have hj : opM w.1 n m t j = some ej := hj
    by_cases h1 : j = n
    · rw [h1] at hj ⊢
      rw [opM_n] at hj
      cases hj
      refine ⟨[.int t.2.2, .ref (κ.2.1 n), .int (nI t.1.length)], ⟨rfl, ?_, rfl, trivial⟩, ?_⟩
      · unfold lref
        split
        · next hc =>
          rw [a7 hc]
          exact cv_xt hxt hsp2
        · next hc =>
          exact ⟨by show opM w.1 n m t m ≠ none; rw [opM_m hmn hc]; exact (fun h => by cases h), by show Value.ref _ = .ref (if m = m then κ.2.1 n else κ.1 m); rw [if_pos rfl]⟩
      · show va_at γ.2.1 vwCl (if n = m then κ.2.1 n else κ.1 n, _) H
        rw [if_neg fun h => hmn h.symm]
        exact a1
    · by_cases h2 : j = m
      · subst h2
        unfold opM at hj
        rw [if_neg h1] at hj
        split at hj
        · next hc =>
          cases hj
          refine ⟨g, ?_, fun i hi => ?_⟩
          · show va_at γ.2.1 vwCl (if j = j then κ.2.1 n else κ.1 j, _) H
            rw [if_pos rfl]
            exact a4 (Nat.pos_of_ne_zero hc.2)
          · show cv _ _ (fxs t.1 i) _ ∧ nsp (fxs t.1 i)
            unfold fxs
            cases hx : t.1[i]? with
            | some x => exact ⟨cv_xt hxt (a5 i x hx).1, (a5 i x hx).2⟩
            | none =>
              rw [a6 i (List.getElem?_eq_none_iff.mp hx)]
              exact ⟨rfl, trivial⟩
        · rw [hm] at hj; cases hj
      · rw [opM_o h1 h2] at hj
        have hj0 : w.1 j ≠ none := by rw [hj]; exact fun h => by cases h
        exact aat_to (b1 j ej hj) hxt (if_neg h2) rfl rfl fun _ _ => rfl
  · rcases key x hx with ⟨g1, g2, g3, g4⟩ | ⟨g1, g2, g3⟩ <;> rcases key y hy with ⟨f1, f2, f3, f4⟩ | ⟨f1, f2, f3⟩
    · exact b2 x y g3 f3 (by rw [← g4, ← f4]; exact hxy)
    · exact absurd (b2 x (n, true) g3 f2 (by rw [← g4, ← f3]; exact hxy)) g2
    · exact absurd (b2 y (n, true) f3 g2 (by rw [← f4, ← g3]; exact hxy.symm)) f2
    · rw [g1, f1]
  · rcases key x hx with ⟨-, -, g3, g4⟩ | ⟨-, g2, g3⟩
    · rw [g4]; exact b3 x g3
    · rw [g3]; exact b3 _ g2
  · rcases key x hx with ⟨-, -, g3, g4⟩ | ⟨-, g2, g3⟩
    · rw [g4]; exact (b4 a k hak).2 x g3
    · rw [g3]; exact (b4 a k hak).2 _ g2
  · have h1 : Nat.max b (m + 1) ≤ j := hj
    have h2 : b ≤ j := Nat.le_trans (Nat.le_max_left _ _) h1
    have h3 : m + 1 ≤ j := Nat.le_trans (Nat.le_max_right _ _) h1
    show opM w.1 n m t j = none
    have h4 : j ≠ n := fun h => hnn (by rw [← h]; exact b5 j h2)
    rw [opM_o h4 (by omega)]
    exact b5 j h2
/-- what is to be seen for a list to be closed again -/
def clOK (MF : AM) (n m' : Nat) (t' : List Value × Nat × Int32) (w1 : AW) : Prop :=
  w1.1 n = some (liO t'.2.1 m' t'.2.2 t'.1.length) ∧ (t'.2.1 ≠ 0 → MF m' = none ∧ ∃ f' : Nat → Value, w1.1 m' = some (raO t'.2.1 f') ∧ ∀ i, i < t'.2.1 → f' i = fxs t'.1 i) ∧
  (t'.1.length ≤ t'.2.1 ∧ t'.2.1 ≤ 65536 ∧ (t'.2.1 = 0 ∨ 10 ≤ t'.2.1)) ∧ MF n = some (alO t') ∧ (∀ j, j ≠ n → MF j ≠ none → w1.1 j = MF j) ∧ clM MF
theorem vpq_congr (cA : ClassId) (N : Nat) {g g' : Nat → Option Nat} (h : ∀ i, i < N → g i = g' i) : vp_cell cA (N, .inr (.inr (.inr (.inr g)))) = vp_cell cA (N, .inr (.inr (.inr (.inr g')))) := by
  rw [vp_cell_q, vp_cell_q]
  unfold arrV
  congr 1
  apply Array.ext
  · simp
  · intro i h1 h2
    simp at h1
    simp [h i h1]
theorem hp_close (hH : hp γ κ1 w1 H1) (hc : clOK MF n m' t' w1) : hp γ (κ1.1, (fun j => if j = n then (if t'.2.1 = 0 then γ.2.2.2 2 else κ1.1 m') else κ1.2.1 j), κ1.2.2) (MF, w1.2) H1 := by
  obtain ⟨c1, c2, ⟨c3, c4, c5⟩, c6, c7, c8⟩ := hc
  have hMFn : MF n ≠ none := by rw [c6]; exact fun h => by cases h
  have hw : ∀ j, MF j ≠ none → w1.1 j ≠ none := fun j hj => by
    by_cases h : j = n
    · rw [h, c1]; exact fun h => by cases h
    · rw [c7 j h hj]; exact hj
  have hat := hH.1 n _ c1
  obtain ⟨b1, b2, b3, b4, ⟨b, b5, b51⟩, b6, b7⟩ := hH
  have key : ∀ x : Nat × Bool, ow MF x → (x ≠ (n, true) ∧ ow w1.1 x ∧ oa ((κ1.1, (fun j => if j = n then (if t'.2.1 = 0 then γ.2.2.2 2 else κ1.1 m') else κ1.2.1 j), κ1.2.2) : KK) x = oa κ1 x) ∨ (x = (n, true) ∧ MF m' = none ∧ ow w1.1 (m', false) ∧ oa ((κ1.1, (fun j => if j = n then (if t'.2.1 = 0 then γ.2.2.2 2 else κ1.1 m') else κ1.2.1 j), κ1.2.2) : KK) x = oa κ1 (m', false)) := by
    intro x hx
    obtain ⟨j, bb⟩ := x
    cases bb with
    | false => exact Or.inl ⟨(fun h => by cases h), hw j hx, rfl⟩
    | true =>
      obtain ⟨t1, h1, h2⟩ := hx
      have h1 : MF j = some (.inr (.inr (.inl t1))) := h1
      by_cases h3 : j = n
      · subst h3
        rw [c6] at h1
        cases h1
        have hne : t'.2.1 ≠ 0 := fun h => by have h2 : 0 < t'.2.1 := h2; omega
        obtain ⟨d1, f', d2, -⟩ := c2 hne
        refine Or.inr ⟨rfl, d1, (by show w1.1 m' ≠ none; rw [d2]; exact fun h => by cases h), ?_⟩
        show (if j = j then (if t'.2.1 = 0 then γ.2.2.2 2 else κ1.1 m') else κ1.2.1 j) = κ1.1 m'
        rw [if_pos rfl, if_neg hne]
      · have h4 : w1.1 j = some (.inr (.inr (.inl t1))) := by rw [c7 j h3 (by rw [h1]; exact fun h => by cases h)]; exact h1
        exact Or.inl ⟨(fun h => h3 (by cases h; rfl)), ⟨t1, h4, h2⟩, if_neg h3⟩
  refine ⟨fun j ej hj => ?_, fun x y hx hy hxy => ?_, fun x hx => ?_, fun a k hak => ⟨(b4 a k hak).1, fun x hx => ?_⟩, ⟨b, fun j hj => ?_, b51⟩, b6, b7⟩
  · have hj : MF j = some ej := hj
    have hj0 : MF j ≠ none := by rw [hj]; exact fun h => by cases h
    have hcl := c8 j ej hj
    by_cases h1 : j = n
    · rw [h1] at hj ⊢
      rw [c6] at hj
      cases hj
      obtain ⟨cs, g1, g2⟩ := hat
      obtain ⟨x1, cs1, rfl, g3, g4⟩ := rl_c g1
      obtain ⟨x2, cs2, rfl, g5, g6⟩ := rl_c g4
      obtain ⟨x3, cs3, rfl, g7, g8⟩ := rl_c g6
      obtain rfl := rl_n g8
      obtain rfl : x1 = .int t'.2.2 := g3
      obtain rfl : x3 = .int (nI t'.1.length) := g7
      by_cases hne : t'.2.1 = 0
      · have hnil : t'.1.length = 0 := by omega
        refine ⟨fun _ => none, ?_, c3, c4, fun h => absurd hne (by omega), fun i x hi => ?_, fun _ _ => rfl, fun _ => ?_, c5⟩
        · show va_at γ.2.1 vwCl (κ1.1 n, .inr (20, [.int t'.2.2, .ref (if n = n then (if t'.2.1 = 0 then γ.2.2.2 2 else κ1.1 m') else κ1.2.1 n), _])) H1
          rw [if_pos rfl, if_pos hne]
          have g5 : cv κ1 w1.1 (lref t'.2.1 m') x2 := g5
          unfold lref at g5
          rw [if_pos hne] at g5
          obtain ⟨a, rfl, e2⟩ := g5
          have e3 := (b4 a _ e2).1.1
          unfold spat at e3
          rw [if_neg (by omega)] at e3
          have e4 : a = γ.2.2.2 2 := e3.1
          rw [← e4]
          exact g2
        · rw [List.length_eq_zero_iff.mp hnil] at hi
          simp at hi
        · show (if n = n then (if t'.2.1 = 0 then γ.2.2.2 2 else κ1.1 m') else κ1.2.1 n) = _
          rw [if_pos rfl, if_pos hne]
      · obtain ⟨d1, f', d2, d3⟩ := c2 hne
        obtain ⟨g, e1, e2⟩ := b1 m' _ d2
        have g5 : cv κ1 w1.1 (lref t'.2.1 m') x2 := g5
        unfold lref at g5
        rw [if_neg hne] at g5
        obtain ⟨-, rfl⟩ := g5
        refine ⟨fun i => if i < t'.2.1 then g i else none, ?_, c3, c4, fun _ => ?_, fun i x hi => ?_, fun i hi => ?_, fun h => absurd h hne, c5⟩
        · show va_at γ.2.1 vwCl (κ1.1 n, .inr (20, [.int t'.2.2, .ref (if n = n then (if t'.2.1 = 0 then γ.2.2.2 2 else κ1.1 m') else κ1.2.1 n), _])) H1
          rw [if_pos rfl, if_neg hne]
          exact g2
        · show va_at γ.2.1 vwCl (if n = n then (if t'.2.1 = 0 then γ.2.2.2 2 else κ1.1 m') else κ1.2.1 n, _) H1
          rw [if_pos rfl, if_neg hne]
          show H1[κ1.1 m']? = some (vp_cell _ _)
          have e1 : H1[κ1.1 m']? = some (vp_cell (γ.2.2.1 3) (t'.2.1, .inr (.inr (.inr (.inr g))))) := e1
          rw [e1]
          exact congrArg some (vpq_congr _ _ fun i hi => by rw [if_pos hi])
        · have hlt : i < t'.1.length := (List.getElem?_eq_some_iff.mp hi).1
          have e3 := e2 i (by show i < t'.2.1; omega)
          have e3 : cv κ1 w1.1 (f' i) (va_rf (g i)) ∧ nsp (f' i) := e3
          rw [d3 i (by omega)] at e3
          unfold fxs at e3
          rw [hi] at e3
          show cv _ _ x (va_rf (if i < t'.2.1 then g i else none)) ∧ nsp x
          rw [if_pos (show i < t'.2.1 by omega)]
          exact ⟨cv_to e3.1 (hcl x (List.mem_of_getElem? hi)).1 (fun _ _ => rfl) rfl, e3.2⟩
        · show (if i < t'.2.1 then g i else none) = none
          split
          · next hlt =>
            have e3 : cv κ1 w1.1 (f' i) (va_rf (g i)) ∧ nsp (f' i) := e2 i hlt
            rw [d3 i hlt] at e3
            unfold fxs at e3
            have hi : t'.1.length ≤ i := hi
            rw [List.getElem?_eq_none_iff.mpr hi] at e3
            have e4 : va_rf (g i) = .null := e3.1
            cases hgi : g i with
            | none => rfl
            | some a => rw [hgi] at e4; cases e4
          · rfl
    · have hjw : w1.1 j = some ej := by rw [c7 j h1 hj0]; exact hj
      have h := b1 j ej hjw
      match ej, h, hcl with
      | .inl o, h, hcl => obtain ⟨cs, g1, g2⟩ := h; exact ⟨cs, rl_to g1 hcl (fun _ _ => rfl) rfl, g2⟩
      | .inr (.inl a), h, _ => exact h
      | .inr (.inr (.inl t1)), h, hcl =>
        obtain ⟨g, a1, a2, a3, a4, a5, a6, a7, a8⟩ := h
        have e9 : (if j = n then (if t'.2.1 = 0 then γ.2.2.2 2 else κ1.1 m') else κ1.2.1 j) = κ1.2.1 j := if_neg h1
        refine ⟨g, ?_, a2, a3, fun hh => ?_, fun i x hi => ⟨cv_to (a5 i x hi).1 (hcl x (List.mem_of_getElem? hi)).1 (fun _ _ => rfl) rfl, (a5 i x hi).2⟩, a6, fun hh => ?_, a8⟩
        · show va_at γ.2.1 vwCl (κ1.1 j, .inr (20, [_, .ref (if j = n then (if t'.2.1 = 0 then γ.2.2.2 2 else κ1.1 m') else κ1.2.1 j), _])) H1
          rw [e9]; exact a1
        · show va_at γ.2.1 vwCl (if j = n then (if t'.2.1 = 0 then γ.2.2.2 2 else κ1.1 m') else κ1.2.1 j, _) H1
          rw [e9]; exact a4 hh
        · show (if j = n then (if t'.2.1 = 0 then γ.2.2.2 2 else κ1.1 m') else κ1.2.1 j) = _
          rw [e9]; exact a7 hh
      | .inr (.inr (.inr t1)), h, hcl =>
        obtain ⟨g, a1, a2⟩ := h
        exact ⟨g, a1, fun i hi => ⟨cv_to (a2 i hi).1 (hcl i hi) (fun _ _ => rfl) rfl, (a2 i hi).2⟩⟩
  · rcases key x hx with ⟨g1, g3, g4⟩ | ⟨g1, g2, g3, g4⟩ <;> rcases key y hy with ⟨f1, f3, f4⟩ | ⟨f1, f2, f3, f4⟩
    · exact b2 x y g3 f3 (by rw [← g4, ← f4]; exact hxy)
    · exfalso
      have h9 := b2 x (m', false) g3 f3 (by rw [← g4, ← f4]; exact hxy)
      rw [h9] at hx
      exact hx f2
    · exfalso
      have h9 := b2 y (m', false) f3 g3 (by rw [← f4, ← g4]; exact hxy.symm)
      rw [h9] at hy
      exact hy g2
    · rw [g1, f1]
  · rcases key x hx with ⟨-, g3, g4⟩ | ⟨-, -, g3, g4⟩
    · rw [g4]; exact b3 x g3
    · rw [g4]; exact b3 _ g3
  · rcases key x hx with ⟨-, g3, g4⟩ | ⟨-, -, g3, g4⟩
    · rw [g4]; exact (b4 a k hak).2 x g3
    · rw [g4]; exact (b4 a k hak).2 _ g3
  · show MF j = none
    cases h : MF j with
    | none => rfl
    | some e => exact absurd (b5 j hj) (hw j (by rw [h]; exact fun h => by cases h))
end OC
/-! contracts: weaker, and over closed lists -/
theorem met_cs {l : Launch} {y : MethodName} {ws : List Cond} {rm : Room} {Pc' : Array Value → State → Prop} {Qc' : Array Value → State → Outcome → State → Prop} {mc ms : Nat} {free : Addr → Prop} (h : ∀ a U, Pc' a U → ∃ (Pc : Array Value → State → Prop) (Qc : Array Value → State → Outcome → State → Prop), Met l y ws rm Pc Qc mc ms free ∧ Pc a U ∧ ∀ o t, Qc a U o t → Qc' a U o t) : Met l y ws rm Pc' Qc' mc ms free := by
  intro p e ha hc hk s m args below hf happ hP hK
  obtain ⟨Pc, Qc, hM, hPc, hQ⟩ := h args s hP
  obtain ⟨n, o, h1, h2, h3, h4, L, hL⟩ := hM p e ha hc hk s m args below hf happ hPc trivial
  exact ⟨n, o, h1, h2, h3, hQ _ _ h4, L, hL⟩
theorem CT_mono {γ : GG} {y : MethodName} {cc : ByteArray} {nL : Nat} {ret : Option FieldType} {D : Nat} {P P' : PP} (h : CT γ y cc nL ret D P) (hp : ∀ avs w Q, P' avs w Q → P avs w Q) : CT γ y cc nL ret D P' := fun l hl κ0 w avs Q sz ss q => h l hl κ0 w avs Q sz ss (hp _ _ _ q)
/-- the lists' bounds -/
def bdM (M : AM) : Prop := ∀ (j : Nat) (t : List Value × Nat × Int32), M j = some (alO t) → t.1.length ≤ t.2.1 ∧ t.2.1 ≤ 65536 ∧ (t.2.1 = 0 ∨ 10 ≤ t.2.1)
theorem hp_bdM {γ : GG} {κ : KK} {w : AW} {H : Heap} (hH : hp γ κ w H) : bdM w.1 := by
  intro j t hj
  obtain ⟨g, a1, a2, a3, a4, a5, a6, a7, a8⟩ := hH.1 j _ hj
  exact ⟨a2, a3, a8⟩
/-- what is known of a heap beforehand -/
def prM (w : AW) (b : Nat) : Prop := (∀ n, b ≤ n → w.1 n = none) ∧ clM w.1 ∧ bdM w.1
theorem CT_cl {γ : GG} {y : MethodName} {cc : ByteArray} {nL : Nat} {ret : Option FieldType} {D : Nat} {P P' : PP} (h : CT γ y cc nL ret D P) (hst : ∀ avs w Q b, P' avs w Q → prM w b → (∀ v ∈ avs, clV w.1 v) → ∃ (n : Nat) (t : List Value × Nat × Int32) (m : Nat) (Q' : AOut → AW → Prop), w.1 n = some (alO t) ∧ w.1 m = none ∧ P avs (opM w.1 n m t, w.2) Q' ∧ ∀ (rv : Option Value) w1, Q' (.inl rv) w1 → ∃ (MF : AM) (m' : Nat) (t' : List Value × Nat × Int32), clOK MF n m' t' w1 ∧ (∀ j, w.1 j ≠ none → MF j ≠ none) ∧ (∀ v, rv = some v → clV MF v) ∧ Q (.inl rv) (MF, w1.2)) : CT γ y cc nL ret D P' := by
  intro l hl κ0 w avs Q sz ss hP'
  refine met_cs fun a U hPc => ?_
  obtain ⟨⟨hsz, hss⟩, hW, hH, cs, hcs, rfl⟩ := hPc
  obtain ⟨b, hb, -⟩ := hH.2.2.2.2.1
  obtain ⟨n, t, m, Q', hM, hm, hP, hQ⟩ := hst avs w Q b hP' ⟨hb, hp_clM hH, hp_bdM hH⟩ (rl_clV hcs)
  obtain ⟨hH', hxt⟩ := hp_open hH hM hm
  refine ⟨_, _, h l hl _ _ avs Q' sz ss hP, ⟨⟨hsz, hss⟩, hW, hH', cs, rl_mono (fun _ _ q => cv_xt hxt q) hcs, rfl⟩, fun o t1 hq => ?_⟩
  obtain ⟨⟨κ1, w1, rv, rc, ho, horl, hH1, hx1, hQ1⟩, hF⟩ := hq
  obtain ⟨MF, m', t', hcl, hdom, hrv, hQ2⟩ := hQ rv w1 hQ1
  refine ⟨⟨_, (MF, w1.2), rv, rc, ho, ?_, hp_close hH1 hcl, ?_, hQ2⟩, hF⟩
  · cases rv with
    | none =>
      cases rc with
      | none => trivial
      | some x => exact horl.elim
    | some v =>
      cases rc with
      | none => exact horl.elim
      | some x => exact cv_to horl (hrv v rfl) (fun _ _ => rfl) rfl
  · have hx := xt_tr hxt hx1
    exact ⟨fun j hj => ⟨hdom j hj, (hx.1 j hj).2⟩, hx.2⟩
theorem CT_cl0 {γ : GG} {y : MethodName} {cc : ByteArray} {nL : Nat} {ret : Option FieldType} {D : Nat} {P P' : PP} (h : CT γ y cc nL ret D P) (hst : ∀ avs w Q b, P' avs w Q → prM w b → (∀ v ∈ avs, clV w.1 v) → ∃ (Q' : AOut → AW → Prop), P avs w Q' ∧ ∀ (rv : Option Value) w1, Q' (.inl rv) w1 → ∃ (MF : AM) (n m' : Nat) (t' : List Value × Nat × Int32), clOK MF n m' t' w1 ∧ (∀ j, w.1 j ≠ none → MF j ≠ none) ∧ (∀ v, rv = some v → clV MF v) ∧ Q (.inl rv) (MF, w1.2)) : CT γ y cc nL ret D P' := by
  intro l hl κ0 w avs Q sz ss hP'
  refine met_cs fun a U hPc => ?_
  obtain ⟨⟨hsz, hss⟩, hW, hH, cs, hcs, rfl⟩ := hPc
  obtain ⟨b, hb, -⟩ := hH.2.2.2.2.1
  obtain ⟨Q', hP, hQ⟩ := hst avs w Q b hP' ⟨hb, hp_clM hH, hp_bdM hH⟩ (rl_clV hcs)
  refine ⟨_, _, h l hl _ _ avs Q' sz ss hP, ⟨⟨hsz, hss⟩, hW, hH, cs, hcs, rfl⟩, fun o t1 hq => ?_⟩
  obtain ⟨⟨κ1, w1, rv, rc, ho, horl, hH1, hx1, hQ1⟩, hF⟩ := hq
  obtain ⟨MF, n, m', t', hcl, hdom, hrv, hQ2⟩ := hQ rv w1 hQ1
  refine ⟨⟨_, (MF, w1.2), rv, rc, ho, ?_, hp_close hH1 hcl, ?_, hQ2⟩, hF⟩
  · cases rv with
    | none =>
      cases rc with
      | none => trivial
      | some x => exact horl.elim
    | some v =>
      cases rc with
      | none => exact horl.elim
      | some x => exact cv_to horl (hrv v rfl) (fun _ _ => rfl) rfl
  · exact ⟨fun j hj => ⟨hdom j hj, (hx1.1 j hj).2⟩, hx1.2⟩
/-! closing again -/
section CLO
variable {w : AW} {b n m : Nat} {t t' : List Value × Nat × Int32}
theorem clE_mono {M M' : AM} {e : AO} (hm : ∀ v, clV M v → clV M' v) (h : clE M e) : clE M' e := by
  match e, h with
  | .inl o, h2 => exact fun v q => hm v (h2 v q)
  | .inr (.inl _), _ => trivial
  | .inr (.inr (.inl t)), h2 => exact fun v q => ⟨hm v (h2 v q).1, (h2 v q).2⟩
  | .inr (.inr (.inr t)), h2 => exact fun i hi => hm _ (h2 i hi)
theorem clM_up {M : AM} {e : AO} (h : clM M) (he : clE (upm M n e) e) : clM (upm M n e) := by
  have hm : ∀ v, clV M v → clV (upm M n e) v := fun v hv => by
    cases v <;> first | trivial | exact upm_none M _ hv
  intro j e' hj
  by_cases h1 : j = n
  · subst h1
    rw [upm_s] at hj
    cases hj
    exact he
  · rw [upm_n _ _ h1] at hj
    exact clE_mono hm (h j e' hj)
theorem clM_upm {M : AM} (h : clM M) (hn : M n ≠ none) (hv : ∀ v ∈ t'.1, clV M v ∧ nsp v) : clM (upm M n (alO t')) := by
  have hm : ∀ v, clV M v → clV (upm M n (alO t')) v := fun v hv => by
    cases v <;> first | trivial | exact upm_none M _ hv
  intro j e hj
  by_cases h1 : j = n
  · subst h1
    rw [upm_s] at hj
    cases hj
    exact fun v q => ⟨hm v (hv v q).1, (hv v q).2⟩
  · rw [upm_n _ _ h1] at hj
    have h2 := h j e hj
    match e, h2 with
    | .inl o, h2 => exact fun v q => hm v (h2 v q)
    | .inr (.inl _), _ => trivial
    | .inr (.inr (.inl t)), h2 => exact fun v q => ⟨hm v (h2 v q).1, (h2 v q).2⟩
    | .inr (.inr (.inr t)), h2 => exact fun i hi => hm _ (h2 i hi)
/-- nothing changed -/
theorem clOK_same (hp0 : prM w b) (hM : w.1 n = some (alO t)) (hm : w.1 m = none) {u : Nat} : clOK w.1 n m t (opM w.1 n m t, u) := by
  have hmn : m ≠ n := fun h => by rw [h, hM] at hm; cases hm
  refine ⟨opM_n, fun hc => ⟨hm, fxs t.1, opM_m hmn hc, fun _ _ => rfl⟩, hp0.2.2 n t hM, hM, fun j hj hjn => ?_, hp0.2.1⟩
  exact opM_o hj fun h => hjn (by rw [h]; exact hm)
end CLO
