/-! The JDK's contracts over closed lists: those that change a list -/
set_option maxRecDepth 100000
/-- an opened list at a world -/
def liW (W : AW) (n m cap : Nat) (mc : Int32) (len : Nat) (f : Nat → Value) : Prop := W.1 n = some (liO cap m mc len) ∧ (cap ≠ 0 → m ≠ n ∧ W.1 m = some (raO cap f))
theorem sub_nI {a b : Nat} (h : b ≤ a) : nI a - nI b = nI (a - b) := by
  obtain ⟨d, rfl⟩ := Nat.exists_eq_add_of_le h
  rw [show b + d - b = d by omega, Nat.add_comm b d, ← nI_add]
  exact Int32.add_sub_cancel _ _
theorem grow_r {W : AW} {n m cap len : Nat} {mc : Int32} {f : Nat → Value} {Q : AOut → AW → Prop} {b : Nat} (h : liW W n m cap mc len f) (hlen : len = cap) (hcap : cap = 0 ∨ 10 ≤ cap) (hb : ncap cap ≤ 65536) (hu : W.2 + (ncap cap + 4) ≤ LU) (hbW : ∀ i, b ≤ i → W.1 i = none)
    (hQ : ∀ (f' : Nat → Value) (W' : AW), liW W' n b (ncap cap) mc len f' → (∀ i, i < cap → f' i = f i) → (∀ i, cap ≤ i → f' i = .null) → (∀ j, j ≠ n → j ≠ b → W'.1 j = W.1 j) → W'.2 = W.2 + (ncap cap + 4) → Q (.inl (some (.ref b))) W') : B_J2_growr (.ref n) W Q := by
  subst hlen
  obtain ⟨h1, h2⟩ := h
  have hbn : b ≠ n := fun h => by have h9 := hbW b (Nat.le_refl b); rw [h, h1] at h9; cases h9
  refine ⟨n, _, _, rfl, h1, rfl, Or.inl ⟨n, _, rfl, h1, rfl⟩, ?_⟩
  refine ⟨n, _, _, rfl, h1, rfl, lref_isr _ _, ?_⟩
  by_cases hc : len = 0
  · subst hc
    have hl : lref 0 m = .retAddr 4294967298 := if_pos rfl
    refine Or.inr ⟨hl, fun c => absurd c (by decide), fun _ => ⟨n, _, _, rfl, h1, rfl, lref_isr _ _, ⟨lref_isr _ _, trivial⟩, Or.inr (Nat.le_of_ble_eq_true rfl), fun _ => ?_, fun c => absurd hl c⟩⟩
    refine ⟨10, by decide +kernel, by decide +kernel, by omega, hu, fun bb _ => ⟨b, hbW b (Nat.le_refl b), n, [.int mc, lref 0 m, .int (nI 0)], rfl, ?_, by simp, ⟨trivial, ?_⟩⟩⟩
    · show upm W.1 b _ n = _
      rw [upm_n _ _ (Ne.symm hbn)]; exact h1
    · refine hQ (fun _ => .null) _ ⟨?_, fun _ => ⟨hbn, ?_⟩⟩ (fun i hi => absurd hi (by omega)) (fun _ _ => rfl) (fun j hj hj2 => ?_) rfl
      · show upm _ n _ n = _
        rw [upm_s]
        rfl
      · show upm (upm W.1 b _) n _ b = _
        rw [upm_n _ _ hbn, upm_s]; rfl
      · show upm (upm W.1 b _) n _ j = _
        rw [upm_n _ _ hj, upm_n _ _ hj2]
  · obtain ⟨hmn, h3⟩ := h2 hc
    have hl : lref len m = .ref m := if_neg hc
    have hc10 : 10 ≤ len := by omega
    have hnc : ncap len = len + len / 2 := if_neg hc
    rw [hnc] at hb hu hQ
    have hmb : m ≠ b := fun h => by have h9 := hbW b (Nat.le_refl b); rw [← h, h3] at h9; cases h9
    have hnl : nI len + (if nI len + 1 - nI len < nI len >>> ((1 : Int32) &&& 31) then nI len >>> ((1 : Int32) &&& 31) else nI len + 1 - nI len) = nI (len + len / 2) := by
      have e1 : nI len >>> ((1 : Int32) &&& 31) = nI (len / 2) := pk_shrN (by omega) _ 1 (by decide)
      have e2 : nI len + 1 - nI len = nI 1 := by
        rw [← nI_succ, sub_nI (by omega), show len + 1 - len = 1 by omega]
      rw [e1, e2, if_pos (nI_lt (by omega) (by omega)), nI_add]
    have hrest : B_J2_grow_2r_j20 (.ref n) (nI len + 1) (nI len) W (rr (fun v3 w2 => Q (.inl (some v3)) w2) nx) := by
      have key : ∀ K : Int32 → AW → Prop, K (nI (len + len / 2)) W → B_J10_newLengthr (nI len) (nI len + 1 - nI len) (nI len >>> ((1 : Int32) &&& 31)) W (ri K nx) := by
        intro K hK
        unfold B_J10_newLengthr
        rw [hnl]
        exact ⟨fun c => absurd c (nI_nle (by omega) (by omega)), fun _ => ⟨fun c => absurd c (nI_nlt (a := 2147483639) (by omega) (by omega)), fun _ => hK⟩⟩
      refine key _ ⟨n, _, _, rfl, h1, rfl, lref_isr _ _, ⟨m, len, f, hl, h3⟩, ⟨trivial, trivial⟩, Or.inr (Nat.le_of_ble_eq_true rfl), fun _ => ?_, fun c => absurd rfl c⟩
      refine ⟨len + len / 2, nI_pos (by omega), nI_clamp (by omega), hb, hu, fun bb _ => ⟨b, hbW b (Nat.le_refl b), Or.inl ⟨m, len, f, hl, ?_, ?_⟩⟩⟩
      · show upm W.1 b _ m = _
        rw [upm_n _ _ hmb]; exact h3
      · have e4 : (if nI (len + len / 2) < nI len then nI (len + len / 2) else nI len) = nI len := if_neg (nI_nlt (by omega) (by omega))
        have e4 : (if nI (len + len / 2) < Int32.ofNat len then nI (len + len / 2) else Int32.ofNat len) = nI len := e4
        show rcp _ _ _ _ _ (if nI (len + len / 2) < Int32.ofNat len then nI (len + len / 2) else Int32.ofNat len) _
        rw [e4]
        refine ⟨m, b, len, len + len / 2, f, fun _ => .null, hl, rfl, ?_, upm_s _ _ _, by decide, by decide, nI_pos (by omega), ?_, ?_, ?_⟩
        · show upm W.1 b _ m = _
          rw [upm_n _ _ hmb]; exact h3
        · rw [nI_clamp (by omega)]; show 0 + len ≤ len; omega
        · rw [nI_clamp (by omega)]; show 0 + len ≤ len + len / 2; omega
        · rw [nI_clamp (by omega)]
          refine ⟨trivial, trivial, n, [.int mc, lref len m, .int (nI len)], rfl, ?_, by simp, trivial, ?_⟩
          · show upm (upm W.1 b _) b _ n = _
            rw [upm_upm, upm_n _ _ (Ne.symm hbn)]; exact h1
          · refine hQ (va_cpy f (fun _ => .null) 0 0 len) _ ⟨?_, fun _ => ⟨hbn, ?_⟩⟩ (fun i hi => ?_) (fun i hi => ?_) (fun j hj hj2 => ?_) rfl
            · show upm _ n _ n = _
              rw [upm_s]
              have e9 : lref (len + len / 2) b = .ref b := if_neg (by omega)
              unfold liO
              rw [e9]
              rfl
            · show upm (upm (upm W.1 b _) b _) n _ b = _
              rw [upm_n _ _ hbn, upm_s]
              rfl
            · unfold va_cpy
              rw [if_pos (by omega)]
              congr 1
              omega
            · unfold va_cpy
              rw [if_neg (by omega)]
            · show upm (upm (upm W.1 b _) b _) n _ j = _
              rw [upm_n _ _ hj, upm_n _ _ hj2, upm_n _ _ hj2]
    exact Or.inl ⟨m, len, f, hl, h3, fun _ => hrest, fun c => absurd (nI_lt (a := 0) (b := len) (by omega) (by omega)) c⟩
/-- what an add's writes leave behind -/
def addW (W W' : AW) (n m' cap' : Nat) (mc : Int32) (xs' : List Value) : Prop := (∃ f', liW W' n m' cap' mc xs'.length f' ∧ ∀ i, i < cap' → f' i = fxs xs' i) ∧ (∀ j, j ≠ n → j ≠ m' → W'.1 j = W.1 j)
theorem fxs_app {xs : List Value} {x : Value} {i : Nat} : fxs (xs ++ [x]) i = if i = xs.length then x else fxs xs i := by
  unfold fxs
  split
  · next h => subst h; simp
  · next h =>
    by_cases h2 : i < xs.length
    · rw [List.getElem?_append_left h2]
    · rw [List.getElem?_eq_none (by simp; omega), List.getElem?_eq_none (by omega)]
theorem adc_b {n cap : Nat} (h : n ≤ cap) (h2 : cap = 0 ∨ 10 ≤ cap) : n < adc n cap ∧ (adc n cap = 0 ∨ 10 ≤ adc n cap) ∧ adc n cap ≠ 0 := by
  unfold adc ncap
  split <;> (try split) <;> omega
theorem add2_r {W : AW} {n m cap : Nat} {mc : Int32} {xs : List Value} {x : Value} {f : Nat → Value} {Q : AOut → AW → Prop} {b : Nat} (h : liW W n m cap mc xs.length f) (hf : ∀ i, i < cap → f i = fxs xs i) (hlen : xs.length ≤ cap) (hcap : cap = 0 ∨ 10 ≤ cap) (hx : nsp x) (hb : adc xs.length cap ≤ 65536) (hu : W.2 + adu xs.length cap ≤ LU) (hbW : ∀ i, b ≤ i → W.1 i = none)
    (hQ : ∀ (m' : Nat) (W' : AW), (m' = m ∧ cap ≠ 0 ∨ W.1 m' = none) → addW W W' n m' (adc xs.length cap) mc (xs ++ [x]) → W'.2 = W.2 + adu xs.length cap → Q (.inl none) W') : B_J2_add_2r (.ref n) x (lref cap m) (nI xs.length) W Q := by
  obtain ⟨h1, h2⟩ := h
  have hcap2 : cap ≤ 65536 := by
    unfold adc at hb
    split at hb
    · unfold ncap at hb
      split at hb <;> omega
    · exact hb
  by_cases hg : xs.length = cap
  · have ha : adc xs.length cap = ncap cap := if_pos hg
    have hua : adu xs.length cap = ncap cap + 4 := if_pos hg
    have hab := adc_b hlen hcap
    rw [ha] at hb hQ hab
    rw [hua] at hu hQ
    have key : ∀ K : Prop, K → (rln W (lref cap m) fun x3 => (nI xs.length = x3 → K) ∧ (¬ nI xs.length = x3 → B_J2_add_2r_j11 (.ref n) x (lref cap m) (nI xs.length) W Q)) := by
      intro K hK
      by_cases hc : cap = 0
      · exact Or.inr ⟨if_pos hc, fun _ => hK, fun c => absurd (by rw [hg, hc]; rfl) c⟩
      · exact Or.inl ⟨m, cap, f, if_neg hc, (h2 hc).2, fun _ => hK, fun c => absurd (by rw [hg]; rfl) c⟩
    refine key _ ⟨Or.inl ⟨n, _, rfl, h1, rfl⟩, grow_r (f := f) ⟨h1, h2⟩ hg hcap hb hu hbW fun f' W' hl e1 e2 e3 e4 => ⟨trivial, ?_⟩⟩
    obtain ⟨g1, g2⟩ := hl
    obtain ⟨hbn, g3⟩ := g2 hab.2.2
    refine ⟨b, ncap cap, f', rfl, g3, vp_in_nI (by omega) (by omega), hx, n, [.int mc, lref (ncap cap) b, .int (nI xs.length)], rfl, ?_, by simp, ?_⟩
    · show upm W'.1 b _ n = _
      rw [upm_n _ _ (Ne.symm hbn)]; exact g1
    · refine hQ b _ (Or.inr (hbW b (Nat.le_refl b))) ⟨⟨va_up f' xs.length x, ⟨?_, fun _ => ⟨hbn, ?_⟩⟩, fun i hi => ?_⟩, fun j hj hj2 => ?_⟩ e4
      · show upm _ n _ n = _
        rw [upm_s, List.length_append]
        rw [← nI_succ]
        rfl
      · show upm (upm W'.1 b _) n _ b = _
        rw [upm_n _ _ hbn, upm_s, nI_clamp (by omega)]
      · rw [fxs_app]
        unfold va_up
        split
        · rfl
        · by_cases hi2 : i < cap
          · rw [e1 i hi2, hf i hi2]
          · rw [e2 i (by omega)]
            unfold fxs
            rw [List.getElem?_eq_none (by omega)]; rfl
      · show upm (upm W'.1 b _) n _ j = _
        rw [upm_n _ _ hj, upm_n _ _ hj2]; exact e3 j hj hj2
  · have ha : adc xs.length cap = cap := if_neg hg
    have hua : adu xs.length cap = 0 := if_neg hg
    rw [ha] at hb hQ
    rw [hua] at hu hQ
    have hc : cap ≠ 0 := by omega
    obtain ⟨hmn, h3⟩ := h2 hc
    have hl : lref cap m = .ref m := if_neg hc
    refine Or.inl ⟨m, cap, f, hl, h3, fun c => absurd ((nI_eq (by omega) (by omega)).mp c) hg, fun _ => ?_⟩
    refine ⟨m, cap, f, hl, h3, vp_in_nI (by omega) (by omega), hx, n, [.int mc, lref cap m, .int (nI xs.length)], rfl, ?_, by simp, ?_⟩
    · show upm W.1 m _ n = _
      rw [upm_n _ _ (Ne.symm hmn)]; exact h1
    · refine hQ m _ (Or.inl ⟨rfl, hc⟩) ⟨⟨va_up f xs.length x, ⟨?_, fun _ => ⟨hmn, ?_⟩⟩, fun i hi => ?_⟩, fun j hj hj2 => ?_⟩ rfl
      · show upm _ n _ n = _
        rw [upm_s, List.length_append]
        rw [← nI_succ]
        rfl
      · show upm (upm W.1 m _) n _ m = _
        rw [upm_n _ _ hmn, upm_s, nI_clamp (by omega)]
      · rw [fxs_app]
        unfold va_up
        split
        · rfl
        · exact hf i hi
      · show upm (upm W.1 m _) n _ j = _
        rw [upm_n _ _ hj, upm_n _ _ hj2]
/-- closed again behind a change -/
theorem cl_add {w W' : AW} {b n m' cap cap' : Nat} {mc mc' : Int32} {xs xs' : List Value} {W : AW} (hp : prM w b) (hM : w.1 n = some (alO (xs, cap, mc))) (hW : ∀ j, j ≠ n → W.1 j = opM w.1 n b (xs, cap, mc) j) (hm : m' = b ∨ W.1 m' = none) (ha : addW W W' n m' cap' mc' xs') (hc : xs'.length ≤ cap' ∧ cap' ≤ 65536 ∧ (cap' = 0 ∨ 10 ≤ cap')) (hm0 : cap' ≠ 0) (hv : ∀ v ∈ xs', clV w.1 v ∧ nsp v) : clOK (upm w.1 n (alO (xs', cap', mc'))) n m' (xs', cap', mc') W' := by
  obtain ⟨⟨f', ⟨l1, l2⟩, l3⟩, l4⟩ := ha
  obtain ⟨hmn, l5⟩ := l2 hm0
  have hn : w.1 n ≠ none := by rw [hM]; exact fun h => by cases h
  have hbn : b ≠ n := fun h => hn (by rw [← h]; exact pr_b hp)
  have hm1 : w.1 m' = none := by
    rcases hm with rfl | hm
    · exact pr_b hp
    · by_cases h : m' = b
      · rw [h]; exact pr_b hp
      · rw [hW _ hmn, opM_o hmn h] at hm; exact hm
  refine ⟨l1, fun _ => ⟨by rw [upm_n _ _ hmn]; exact hm1, f', l5, l3⟩, hc, upm_s _ _ _, fun j hj hj0 => ?_, clM_upm hp.2.1 hn hv⟩
  rw [upm_n _ _ hj] at hj0 ⊢
  have h1 : j ≠ m' := fun h => hj0 (by rw [h]; exact hm1)
  have h2 : j ≠ b := fun h => hj0 (by rw [h]; exact pr_b hp)
  rw [l4 j hj h1, hW j hj, opM_o hj h2]
theorem ct_J2_add {γ : GG} (hG : Gm γ) : CT γ yJ2_add cJ2_add 2 (some .boolean) 7 P_J2_add := by
  refine CT_cl (ct_J2_addr hG) fun avs w Q b hP hp hv => ?_
  obtain ⟨a0, x, rfl, h0, hx0, n, xs, cap, mc, ⟨rfl, hM⟩, hx, hb, hu, hQ⟩ := hP
  have hbd := hp.2.2 n (xs, cap, mc) hM
  have hbd : xs.length ≤ cap ∧ cap ≤ 65536 ∧ (cap = 0 ∨ 10 ≤ cap) := hbd
  have hn : w.1 n ≠ none := by rw [hM]; exact fun h => by cases h
  have hbn : b ≠ n := fun h => hn (by rw [← h]; exact pr_b hp)
  have hab := adc_b hbd.1 hbd.2.2
  let W : AW := (upm (opM w.1 n b (xs, cap, mc)) n (liO cap b (mc + 1) xs.length), w.2)
  have hW : ∀ j, j ≠ n → W.1 j = opM w.1 n b (xs, cap, mc) j := fun j hj => upm_n _ _ hj
  refine ⟨n, (xs, cap, mc), b, fun o w1 => o = .inl (some (.int 1)) ∧ w1.2 = w.2 + adu xs.length cap ∧ ∃ m', (m' = b ∨ W.1 m' = none) ∧ addW W w1 n m' (adc xs.length cap) (mc + 1) (xs ++ [x]), hM, pr_b hp, ⟨_, _, rfl, trivial, hx0, ?_⟩, fun rv w1 h => ?_⟩
  · refine ⟨_, _, _, rfl, opM_n, rfl, n, [.int mc, lref cap b, .int (nI xs.length)], rfl, opM_n, by simp, ?_⟩
    show gfr W _ _ _ _
    refine ⟨n, [.int (mc + 1), lref cap b, .int (nI xs.length)], _, rfl, upm_s _ _ _, rfl, lref_isr _ _, n, [.int (mc + 1), lref cap b, .int (nI xs.length)], _, rfl, upm_s _ _ _, rfl, Or.inl ⟨n, _, rfl, upm_s _ _ _, rfl⟩, ?_⟩
    refine add2_r (f := fxs xs) (b := b + 1) ⟨upm_s _ _ _, fun hc => ⟨hbn, ?_⟩⟩ (fun _ _ => rfl) hbd.1 hbd.2.2 hx hb hu (fun i hi => ?_) fun m' W' hm ha hu' => ⟨rfl, rfl, hu', m', ?_, ha⟩
    · show upm _ n _ b = _
      rw [upm_n _ _ hbn]; exact opM_m hbn hc
    · have h9 : w.1 i = none := hp.1 i (by omega)
      have h8 : i ≠ n := fun h => hn (by rw [← h]; exact h9)
      show upm _ n _ i = none
      rw [upm_n _ _ h8]
      show opM _ _ _ _ i = none
      rw [opM_o h8 (by omega)]; exact h9
    · rcases hm with ⟨h, -⟩ | h
      · exact Or.inl h
      · exact Or.inr h
  · obtain ⟨e1, e2, m', hm, ha⟩ := h
    cases e1
    refine ⟨_, m', (xs ++ [x], adc xs.length cap, mc + 1), cl_add hp hM hW hm ha ⟨by rw [List.length_append]; show xs.length + 1 ≤ _; omega, hb, hab.2.1⟩ hab.2.2 (fun v h => ?_), fun i hi => upm_none _ _ hi, fun v h => by cases h; trivial, by rw [e2]; exact hQ⟩
    rcases List.mem_append.mp h with h | h
    · exact hp.2.1 n _ hM v h
    · obtain rfl := List.mem_singleton.mp h
      exact ⟨hv v (by simp), hx⟩
/-! adding in the middle -/
theorem fxs_ins {xs : List Value} {x : Value} {k i : Nat} (hk : k ≤ xs.length) : fxs (xs.take k ++ x :: xs.drop k) i = if i = k then x else if i < k then fxs xs i else fxs xs (i - 1) := by
  have h1 : (xs.take k).length = k := by simp; omega
  unfold fxs
  by_cases h : i = k
  · subst h
    rw [if_pos rfl, List.getElem?_append_right (by omega), h1]
    simp
  · rw [if_neg h]
    by_cases h2 : i < k
    · rw [if_pos h2, List.getElem?_append_left (by omega), List.getElem?_take, if_pos h2]
    · rw [if_neg h2, List.getElem?_append_right (by omega), h1]
      obtain ⟨d, hd⟩ : ∃ d, i - k = d + 1 := ⟨i - k - 1, by omega⟩
      rw [hd, List.getElem?_cons_succ, List.getElem?_drop]
      congr 2
      omega
theorem ins_r {W : AW} {n m cap : Nat} {mc : Int32} {xs : List Value} {x : Value} {k : Nat} {f : Nat → Value} {Q : AOut → AW → Prop} (h1 : W.1 n = some (liO cap m mc xs.length)) (hmn : m ≠ n) (h3 : W.1 m = some (raO cap f)) (hc : cap ≠ 0) (hf : ∀ i, i < xs.length → f i = fxs xs i) (hf2 : ∀ i, xs.length ≤ i → i < cap → f i = .null) (hk : k ≤ xs.length) (hlen : xs.length < cap) (hb : cap ≤ 65536) (hx : nsp x)
    (hQ : ∀ W' : AW, addW W W' n m cap mc (xs.take k ++ x :: xs.drop k) → W'.2 = W.2 → Q (.inl none) W') : B_J2_add_3r_j38 (.ref n) (nI k) x (nI xs.length) (.ref m) W Q := by
  have e1 : nI k + 1 = nI (k + 1) := (nI_succ k).symm
  have e2 : nI xs.length - nI k = nI (xs.length - k) := sub_nI hk
  have hll : (xs.take k ++ x :: xs.drop k).length = xs.length + 1 := by simp; omega
  unfold B_J2_add_3r_j38
  rw [e1, e2]
  refine ⟨m, m, cap, cap, f, f, rfl, rfl, h3, h3, nI_pos (by omega), nI_pos (by omega), nI_pos (by omega), ?_, ?_, ?_⟩
  · rw [nI_clamp (by omega), nI_clamp (by omega)]; omega
  · rw [nI_clamp (by omega), nI_clamp (by omega)]; omega
  · rw [nI_clamp (by omega), nI_clamp (by omega), nI_clamp (by omega)]
    refine ⟨m, cap, _, rfl, upm_s _ _ _, vp_in_nI (by omega) (by omega), hx, n, [.int mc, lref cap m, .int (nI xs.length)], rfl, ?_, by simp, ?_⟩
    · show upm (upm W.1 m _) m _ n = _
      rw [upm_upm, upm_n _ _ (Ne.symm hmn)]; exact h1
    · refine hQ _ ⟨⟨_, ⟨?_, fun _ => ⟨hmn, ?_⟩⟩, fun i hi => ?_⟩, fun j hj hj2 => ?_⟩ rfl
      · exact va_up (va_cpy f f k (k + 1) (xs.length - k)) k x
      · show upm _ n _ n = _
        rw [upm_s, hll, ← nI_succ]
        rfl
      · show upm (upm (upm W.1 m _) m _) n _ m = _
        rw [upm_n _ _ hmn, upm_s, nI_clamp (by omega)]
      · rw [fxs_ins hk]
        unfold va_up
        by_cases h : i = k
        · rw [if_pos h, if_pos h]
        · rw [if_neg h, if_neg h]
          unfold va_cpy
          by_cases h5 : k + 1 ≤ i ∧ i < k + 1 + (xs.length - k)
          · rw [if_pos h5, if_neg (by omega), show k + (i - (k + 1)) = i - 1 by omega]
            exact hf _ (by omega)
          · rw [if_neg h5]
            by_cases h6 : i < k
            · rw [if_pos h6]; exact hf i (by omega)
            · rw [if_neg h6, hf2 i (by omega) hi]
              unfold fxs
              rw [List.getElem?_eq_none (by omega)]; rfl
      · show upm (upm (upm W.1 m _) m _) n _ j = _
        rw [upm_n _ _ hj, upm_n _ _ hj2, upm_n _ _ hj2]
theorem ct_J2_add_3 {γ : GG} (hG : Gm γ) : CT γ yJ2_add_3 cJ2_add_3 5 none 6 P_J2_add_3 := by
  refine CT_cl (ct_J2_add_3r hG) fun avs w Q b hP hp hv => ?_
  obtain ⟨a0, x1, x, rfl, h0, hx0, n, xs, cap, mc, k, ⟨rfl, hM⟩, rfl, hk, hx, hb, hu, hQ⟩ := hP
  have hbd := hp.2.2 n (xs, cap, mc) hM
  have hbd : xs.length ≤ cap ∧ cap ≤ 65536 ∧ (cap = 0 ∨ 10 ≤ cap) := hbd
  have hn : w.1 n ≠ none := by rw [hM]; exact fun h => by cases h
  have hbn : b ≠ n := fun h => hn (by rw [← h]; exact pr_b hp)
  have hab := adc_b hbd.1 hbd.2.2
  let W : AW := (upm (opM w.1 n b (xs, cap, mc)) n (liO cap b (mc + 1) xs.length), w.2)
  have hW : ∀ j, j ≠ n → W.1 j = opM w.1 n b (xs, cap, mc) j := fun j hj => upm_n _ _ hj
  have hWn : W.1 n = some (liO cap b (mc + 1) xs.length) := upm_s _ _ _
  have hll : (xs.take k ++ x :: xs.drop k).length = xs.length + 1 := by simp; omega
  refine ⟨n, (xs, cap, mc), b, fun o w1 => o = .inl none ∧ w1.2 = w.2 + adu xs.length cap ∧ ∃ m', (m' = b ∨ W.1 m' = none) ∧ addW W w1 n m' (adc xs.length cap) (mc + 1) (xs.take k ++ x :: xs.drop k), hM, pr_b hp, ⟨_, _, _, rfl, trivial, hx0, ?_⟩, fun rv w1 h => ?_⟩
  · refine ⟨Or.inl ⟨n, _, rfl, opM_n, rfl⟩, _, _, _, rfl, opM_n, rfl, fun c => absurd c (nI_nlt hk (by omega)), fun _ => ⟨fun _ => ?_, fun c => absurd (nI_pos' (by omega)) c⟩⟩
    refine ⟨_, _, _, rfl, opM_n, rfl, n, [.int mc, lref cap b, .int (nI xs.length)], rfl, opM_n, by simp, ?_⟩
    show gfi W _ _ _ _
    refine ⟨n, _, _, rfl, hWn, rfl, n, _, _, rfl, hWn, rfl, lref_isr _ _, ?_⟩
    have grow : xs.length = cap → rcc W (.ref n) 20 (B_J2_growr (.ref n) W (rr (Kx := nx) fun v11 w10 => B_J2_add_3r_j38 (.ref n) (nI k) x (nI xs.length) v11 w10 fun o w1 => o = .inl none ∧ w1.2 = w.2 + adu xs.length cap ∧ ∃ m', (m' = b ∨ W.1 m' = none) ∧ addW W w1 n m' (adc xs.length cap) (mc + 1) (xs.take k ++ x :: xs.drop k))) := fun hg => by
      have ha : adc xs.length cap = ncap cap := if_pos hg
      have hua : adu xs.length cap = ncap cap + 4 := if_pos hg
      rw [ha] at hb hab ⊢
      rw [hua] at hu ⊢
      have hW1 : W.1 (b + 1) = none := by
        have h8 : b + 1 ≠ n := fun h => hn (by rw [← h]; exact hp.1 _ (by omega))
        rw [hW _ h8, opM_o h8 (by omega)]; exact hp.1 _ (by omega)
      refine ⟨Or.inl ⟨n, _, rfl, hWn, rfl⟩, grow_r (f := fxs xs) (b := b + 1) ⟨hWn, fun hc => ⟨hbn, ?_⟩⟩ hg hbd.2.2 hb hu (fun i hi => ?_) fun f' W' hl e1 e2 e3 e4 => ⟨trivial, ?_⟩⟩
      · rw [hW _ hbn]; exact opM_m hbn hc
      · have h9 : w.1 i = none := hp.1 i (by omega)
        have h8 : i ≠ n := fun h => hn (by rw [← h]; exact h9)
        rw [hW _ h8, opM_o h8 (by omega)]; exact h9
      · obtain ⟨g1, g2⟩ := hl
        obtain ⟨hbn', g3⟩ := g2 hab.2.2
        refine ins_r g1 hbn' g3 hab.2.2 (fun i hi => e1 i (by omega)) (fun i hi _ => e2 i (by omega)) hk (by omega) hb hx fun W'' ha' hu' => ⟨rfl, by rw [hu', e4], b + 1, Or.inr hW1, ha'.1, fun j hj hj2 => by rw [ha'.2 j hj hj2]; exact e3 j hj hj2⟩
    by_cases hc : cap = 0
    · refine Or.inr ⟨if_pos hc, fun _ => grow (by omega), fun c => absurd (by rw [show xs.length = 0 by omega]; rfl) c⟩
    · have hl : lref cap b = .ref b := if_neg hc
      have hra : W.1 b = some (raO cap (fxs xs)) := by rw [hW _ hbn]; exact opM_m hbn hc
      refine Or.inl ⟨b, cap, fxs xs, hl, hra, fun c => grow ((nI_eq (by omega) (by omega)).mp c), fun c => ?_⟩
      have hne : xs.length ≠ cap := fun h => c (by rw [h]; rfl)
      have ha : adc xs.length cap = cap := if_neg hne
      have hua : adu xs.length cap = 0 := if_neg hne
      rw [ha, hua, hl]
      exact ins_r hWn hbn hra hc (fun _ _ => rfl) (fun i hi _ => by unfold fxs; rw [List.getElem?_eq_none hi]; rfl) hk (by omega) hbd.2.1 hx fun W'' ha' hu' => ⟨rfl, hu', b, Or.inl rfl, ha'⟩
  · obtain ⟨e1, e2, m', hm, ha⟩ := h
    cases e1
    refine ⟨_, m', (xs.take k ++ x :: xs.drop k, adc xs.length cap, mc + 1), cl_add hp hM hW hm ha ⟨by rw [hll]; omega, hb, hab.2.1⟩ hab.2.2 (fun v h => ?_), fun i hi => upm_none _ _ hi, (fun v h => by cases h), by rw [e2]; exact hQ⟩
    rcases List.mem_append.mp h with h | h
    · exact hp.2.1 n _ hM v (List.mem_of_mem_take h)
    · rcases List.mem_cons.mp h with rfl | h
      · exact ⟨hv _ (by simp), hx⟩
      · exact hp.2.1 n _ hM v (List.mem_of_mem_drop h)
