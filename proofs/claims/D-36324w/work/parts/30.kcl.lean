/-! The JDK's contracts over closed lists -/
set_option maxRecDepth 100000
theorem pr_b {w : AW} {b : Nat} (h : prM w b) : w.1 b = none := h.1 b (Nat.le_refl b)
theorem ct_J2_size {γ : GG} (hG : Gm γ) : CT γ yJ2_size cJ2_size 1 (some .int) 1 P_J2_size := by
  refine CT_cl (ct_J2_sizer hG) fun avs w Q b hP hp hv => ?_
  obtain ⟨a0, rfl, h0, n, xs, cap, mc, ⟨rfl, hM⟩, hQ⟩ := hP
  refine ⟨n, (xs, cap, mc), b, fun o w1 => o = .inl (some (.int (nI xs.length))) ∧ w1 = (opM w.1 n b (xs, cap, mc), w.2), hM, pr_b hp, ⟨_, rfl, trivial, ?_⟩, fun rv w1 h => ?_⟩
  · exact ⟨_, _, _, rfl, opM_n, rfl, rfl, rfl⟩
  · obtain ⟨e1, rfl⟩ := h
    cases e1
    exact ⟨w.1, b, (xs, cap, mc), clOK_same hp hM (pr_b hp), fun _ h => h, fun v h => by cases h; trivial, hQ⟩
theorem ct_J2_isEmpty {γ : GG} (hG : Gm γ) : CT γ yJ2_isEmpty cJ2_isEmpty 1 (some .boolean) 1 P_J2_isEmpty := by
  refine CT_cl (ct_J2_isEmptyr hG) fun avs w Q b hP hp hv => ?_
  obtain ⟨a0, rfl, h0, n, xs, cap, mc, ⟨rfl, hM⟩, hQ⟩ := hP
  have hb := hp.2.2 n (xs, cap, mc) hM
  have hb : xs.length ≤ cap ∧ cap ≤ 65536 ∧ _ := hb
  refine ⟨n, (xs, cap, mc), b, fun o w1 => o = .inl (some (.int (if xs.length = 0 then 1 else 0))) ∧ w1 = (opM w.1 n b (xs, cap, mc), w.2), hM, pr_b hp, ⟨_, rfl, trivial, ?_⟩, fun rv w1 h => ?_⟩
  · refine ⟨_, _, _, rfl, opM_n, rfl, fun c => ⟨rfl, ?_, rfl⟩, fun c => ⟨rfl, ?_, rfl⟩⟩
    · rw [if_pos ((nI_eq (a := xs.length) (b := 0) (by omega) (by omega)).mp c)]
    · rw [if_neg fun h => c (by rw [h]; rfl)]
  · obtain ⟨e1, rfl⟩ := h
    cases e1
    exact ⟨w.1, b, (xs, cap, mc), clOK_same hp hM (pr_b hp), fun _ h => h, fun v h => by cases h; trivial, hQ⟩
/-- the array of an opened list that isn't empty -/
theorem opM_ra {w : AW} {b n : Nat} {xs : List Value} {cap : Nat} {mc : Int32} (hp : prM w b) (hM : w.1 n = some (alO (xs, cap, mc))) {k : Nat} (hk : k < xs.length) : cap ≠ 0 ∧ b ≠ n ∧ lref cap b = .ref b ∧ opM w.1 n b (xs, cap, mc) b = some (raO cap (fxs xs)) := by
  have hb := hp.2.2 n (xs, cap, mc) hM
  have hb : xs.length ≤ cap ∧ cap ≤ 65536 ∧ _ := hb
  have hc : cap ≠ 0 := by omega
  have hbn : b ≠ n := fun h => by have h9 := pr_b hp; rw [h, hM] at h9; cases h9
  exact ⟨hc, hbn, if_neg hc, opM_m hbn hc⟩
theorem lref_isr (cap m : Nat) : isr (lref cap m) := by unfold lref; split <;> trivial
theorem clV_get {w : AW} {b n : Nat} {xs : List Value} {cap : Nat} {mc : Int32} (hp : prM w b) (hM : w.1 n = some (alO (xs, cap, mc))) {k : Nat} {x : Value} (hx : xs[k]? = some x) : clV w.1 x ∧ nsp x := hp.2.1 n _ hM x (List.mem_of_getElem? hx)
theorem fxs_k {xs : List Value} {k : Nat} {x : Value} (hx : xs[k]? = some x) : fxs xs k = x := by unfold fxs; rw [hx]; rfl
theorem chk_r {w : AW} {k N : Nat} {Q : AOut → AW → Prop} (hk : k < N) (hN : N < 2 ^ 31) (hQ : Q (.inl (some (.int (nI k)))) w) : B_J15_checkIndexr (nI k) (nI N) w Q := by
  refine ⟨fun c => absurd c (nI_pos (by omega)), fun _ => ⟨fun _ => hQ, fun c => absurd (nI_lt hk hN) c⟩⟩
theorem ct_J2_get {γ : GG} (hG : Gm γ) : CT γ yJ2_get cJ2_get 2 (some (.object "java/lang/Object")) 3 P_J2_get := by
  refine CT_cl (ct_J2_getr hG) fun avs w Q b hP hp hv => ?_
  obtain ⟨a0, x1, rfl, h0, n, xs, cap, mc, k, x, ⟨rfl, hM⟩, rfl, hk, hx, hr, hQ⟩ := hP
  have hb := hp.2.2 n (xs, cap, mc) hM
  have hb : xs.length ≤ cap ∧ cap ≤ 65536 ∧ _ := hb
  obtain ⟨hc, hbn, hl, hra⟩ := opM_ra hp hM hk
  refine ⟨n, (xs, cap, mc), b, fun o w1 => o = .inl (some x) ∧ w1 = (opM w.1 n b (xs, cap, mc), w.2), hM, pr_b hp, ⟨_, _, rfl, trivial, ?_⟩, fun rv w1 h => ?_⟩
  · refine ⟨_, _, _, rfl, opM_n, rfl, chk_r hk (by omega) ⟨Or.inl ⟨_, _, rfl, opM_n, rfl⟩, ?_⟩⟩
    refine ⟨_, _, _, rfl, opM_n, rfl, lref_isr _ _, ?_⟩
    refine ⟨b, cap, fxs xs, hl, hra, vp_in_nI (by omega) (by omega), ?_, ?_⟩
    · rw [nI_clamp (by omega), fxs_k hx]; exact hr
    · rw [nI_clamp (by omega), fxs_k hx]; exact ⟨hr, rfl, rfl⟩
  · obtain ⟨e1, rfl⟩ := h
    cases e1
    exact ⟨w.1, b, (xs, cap, mc), clOK_same hp hM (pr_b hp), fun _ h => h, fun v h => by cases h; exact (clV_get hp hM hx).1, hQ⟩
theorem op_j {w : AW} {b n j : Nat} {t : List Value × Nat × Int32} {e : AO} (hp : prM w b) {m : Nat} (hm : w.1 m = none) (hM : w.1 n = some (alO t)) (hj : w.1 j = some e) (he : ∀ t, e ≠ alO t) : j ≠ n ∧ j ≠ m ∧ opM w.1 n m t j = some e := by
  have h1 : j ≠ n := fun h => by rw [h, hM] at hj; cases hj; exact he t rfl
  have h2 : j ≠ m := fun h => by rw [h, hm] at hj; cases hj
  exact ⟨h1, h2, by rw [opM_o h1 h2]; exact hj⟩
theorem ct_J17_hasNext {γ : GG} (hG : Gm γ) : CT γ yJ17_hasNext cJ17_hasNext 1 (some .boolean) 1 P_J17_hasNext := by
  refine CT_cl (ct_J17_hasNextr hG) fun avs w Q b hP hp hv => ?_
  obtain ⟨a0, rfl, h0, j, k, r, mc, n, xs, cap, ⟨rfl, hj, hM⟩, hk, hQ⟩ := hP
  have hb := hp.2.2 n (xs, cap, mc) hM
  have hb : xs.length ≤ cap ∧ cap ≤ 65536 ∧ _ := hb
  obtain ⟨hjn, hjb, hjo⟩ := op_j hp (pr_b hp) hM hj (fun t h => by cases h)
  refine ⟨n, (xs, cap, mc), b, fun o w1 => o = .inl (some (.int (if k = xs.length then 0 else 1))) ∧ w1 = (opM w.1 n b (xs, cap, mc), w.2), hM, pr_b hp, ⟨_, rfl, trivial, ?_⟩, fun rv w1 h => ?_⟩
  · refine ⟨_, _, _, rfl, hjo, rfl, _, _, _, rfl, hjo, rfl, trivial, _, _, _, rfl, opM_n, rfl, fun c => ⟨rfl, ?_, rfl⟩, fun c => ⟨rfl, ?_, rfl⟩⟩
    · rw [if_pos ((nI_eq (by omega) (by show xs.length < _; omega)).mp c)]
    · rw [if_neg fun h => c (by rw [h])]
  · obtain ⟨e1, rfl⟩ := h
    cases e1
    exact ⟨w.1, b, (xs, cap, mc), clOK_same hp hM (pr_b hp), fun _ h => h, fun v h => by cases h; trivial, hQ⟩
theorem upm_upm (M : AM) (j : Nat) (e e' : AO) : upm (upm M j e) j e' = upm M j e' := by
  funext i
  unfold upm
  split <;> rfl
theorem upm_opM {M : AM} {n m j : Nat} {t : List Value × Nat × Int32} {e : AO} (h1 : j ≠ n) (h2 : j ≠ m) : upm (opM M n m t) j e = opM (upm M j e) n m t := by
  funext i
  unfold upm opM
  by_cases hi : i = j
  · subst hi; simp [h1, h2]
  · simp [hi]
theorem prM_up {w : AW} {b j : Nat} {e : AO} {u : Nat} (hp : prM w b) (hj : w.1 j ≠ none) (he : clE w.1 e) (hb : ∀ t, e ≠ alO t) : prM (upm w.1 j e, u) b := by
  refine ⟨fun i hi => ?_, clM_up hp.2.1 (clE_mono (fun v hv => by cases v <;> first | trivial | exact upm_none _ _ hv) he), fun i t hi => ?_⟩
  · have hij : i ≠ j := fun h => hj (by rw [← h]; exact hp.1 i hi)
    show upm w.1 j e i = none
    rw [upm_n _ _ hij]
    exact hp.1 i hi
  · have hi : upm w.1 j e i = some (alO t) := hi
    by_cases hij : i = j
    · rw [hij, upm_s] at hi; exact absurd (Option.some.inj hi) (hb t)
    · rw [upm_n _ _ hij] at hi; exact hp.2.2 i t hi
theorem nsp_isr {v : Value} (h : nsp v) : isr v := by cases v <;> first | trivial | exact h.elim
theorem ct_J17_next {γ : GG} (hG : Gm γ) : CT γ yJ17_next cJ17_next 3 (some (.object "java/lang/Object")) 2 P_J17_next := by
  refine CT_cl (ct_J17_nextr hG) fun avs w Q b hP hp hv => ?_
  obtain ⟨a0, rfl, h0, j, k, r, mc, n, xs, cap, x, ⟨rfl, hj, hM⟩, hx, hr, hQ⟩ := hP
  have hb := hp.2.2 n (xs, cap, mc) hM
  have hb : xs.length ≤ cap ∧ cap ≤ 65536 ∧ _ := hb
  have hk : k < xs.length := (List.getElem?_eq_some_iff.mp hx).1
  obtain ⟨hjn, hjb, hjo⟩ := op_j hp (pr_b hp) hM hj (fun t h => by cases h)
  obtain ⟨hc, hbn, hl, hra⟩ := opM_ra hp hM hk
  have hj0 : w.1 j ≠ none := by rw [hj]; exact fun h => by cases h
  refine ⟨n, (xs, cap, mc), b, fun o w1 => o = .inl (some x) ∧ w1 = (opM (upm w.1 j (.inl (21, [.int (nI (k + 1)), .int (nI k), .int mc, .ref n]))) n b (xs, cap, mc), w.2), hM, pr_b hp, ⟨_, rfl, trivial, ?_⟩, fun rv w1 h => ?_⟩
  · refine ⟨Or.inl ⟨_, _, rfl, hjo, rfl⟩, _, _, _, rfl, hjo, rfl, trivial, _, _, _, rfl, opM_n, rfl, _, _, _, rfl, hjo, rfl, fun _ => ?_, fun c => absurd rfl c⟩
    refine ⟨_, _, _, rfl, hjo, rfl, _, _, _, rfl, hjo, rfl, trivial, _, _, _, rfl, opM_n, rfl, fun _ => ?_, fun c => absurd (nI_lt hk (by omega)) c⟩
    refine ⟨_, _, _, rfl, hjo, rfl, trivial, _, _, _, rfl, opM_n, rfl, lref_isr _ _, Or.inl ⟨b, cap, fxs xs, hl, hra, fun _ => ?_, fun c => absurd (nI_lt (a := k) (b := cap) (by omega) (by omega)) c⟩⟩
    refine ⟨j, _, rfl, hjo, by simp, j, _, rfl, upm_s _ _ _, by simp, b, cap, fxs xs, hl, ?_, vp_in_nI (by omega) (by omega), ?_⟩
    · show upm (upm _ j _) j _ b = _
      rw [upm_n _ _ (Ne.symm hjb), upm_n _ _ (Ne.symm hjb)]; exact hra
    · rw [nI_clamp (by omega), fxs_k hx]
      refine ⟨hr, rfl, ?_⟩
      rw [← upm_opM hjn hjb, ← nI_succ]
      show (upm (upm (opM w.1 n b (xs, cap, mc)) j _) j _, w.2) = _
      rw [upm_upm]
      rfl
  · obtain ⟨e1, rfl⟩ := h
    cases e1
    have hcl : clE w.1 (.inl (21, [.int (nI (k + 1)), .int (nI k), .int mc, .ref n])) := by
      intro v hv
      simp at hv
      rcases hv with rfl | rfl | rfl | rfl
      · trivial
      · trivial
      · trivial
      · show w.1 n ≠ none; rw [hM]; exact fun h => by cases h
    have hp' := prM_up (u := w.2) hp hj0 hcl (fun t h => by cases h)
    exact ⟨_, b, (xs, cap, mc), clOK_same hp' (by show upm w.1 j _ n = _; rw [upm_n _ _ (Ne.symm hjn)]; exact hM) (pr_b hp'), fun i hi => upm_none _ _ hi, fun v h => by
      cases h
      have h9 := (clV_get hp hM hx).1
      cases x <;> first | trivial | exact upm_none _ _ h9, hQ⟩
theorem ct_J2_iterator {γ : GG} (hG : Gm γ) : CT γ yJ2_iterator cJ2_iterator 1 (some (.object "java/util/Iterator")) 3 P_J2_iterator := by
  refine CT_cl (ct_J2_iteratorr hG) fun avs w Q b hP hp hv => ?_
  obtain ⟨a0, rfl, h0, n, xs, cap, mc, ⟨rfl, hM⟩, hu, hj⟩ := hP
  obtain ⟨j, hj, hQ⟩ := hj b hp.1
  have hm : w.1 (Nat.max b (j + 1)) = none := hp.1 _ (Nat.le_max_left _ _)
  have hjm : j ≠ Nat.max b (j + 1) := fun h => by have h9 : j + 1 ≤ Nat.max b (j + 1) := Nat.le_max_right b (j + 1); rw [← h] at h9; omega
  have hjn : j ≠ n := fun h => by rw [h, hM] at hj; cases hj
  generalize Nat.max b (j + 1) = m at hm hjm
  have hcl : clE (upm w.1 j (.inl (21, [.int 0, .int (-1), .int mc, .ref n]))) (.inl (21, [.int 0, .int (-1), .int mc, .ref n])) := by
    intro v hv
    simp at hv
    rcases hv with rfl | rfl | rfl | rfl
    · trivial
    · trivial
    · trivial
    · show upm w.1 j _ n ≠ none; rw [upm_n _ _ (Ne.symm hjn), hM]; exact fun h => by cases h
  refine ⟨n, (xs, cap, mc), m, fun o w1 => o = .inl (some (.ref j)) ∧ w1 = (opM (upm w.1 j (.inl (21, [.int 0, .int (-1), .int mc, .ref n]))) n m (xs, cap, mc), w.2 + 4), hM, hm, ⟨_, rfl, trivial, ?_⟩, fun rv w1 h => ?_⟩
  · refine ⟨hu, fun bb hbb => ⟨j, by show opM w.1 n m (xs, cap, mc) j = none; rw [opM_o hjn hjm]; exact hj, ?_⟩⟩
    refine ⟨j, _, rfl, upm_s _ _ _, by simp, ⟨j, rfl⟩, j, _, rfl, upm_s _ _ _, by simp, j, _, _, rfl, upm_s _ _ _, rfl, trivial, n, [.int mc, lref cap m, .int (nI xs.length)], mc, rfl, ?_, rfl, j, _, rfl, upm_s _ _ _, by simp, ⟨rfl, ?_⟩⟩
    · show upm (upm (upm _ j _) j _) j _ n = _
      rw [upm_n _ _ (Ne.symm hjn), upm_n _ _ (Ne.symm hjn), upm_n _ _ (Ne.symm hjn)]
      exact opM_n
    · show (upm (upm (upm (upm _ j _) j _) j _) j _, _) = _
      rw [upm_upm, upm_upm, upm_upm, ← upm_opM hjn hjm]
      rfl
  · obtain ⟨e1, rfl⟩ := h
    cases e1
    refine ⟨upm w.1 j (.inl (21, [.int 0, .int (-1), .int mc, .ref n])), m, (xs, cap, mc), ⟨opM_n, fun hc => ⟨?_, fxs xs, opM_m (fun h => ?_) hc, fun _ _ => rfl⟩, hp.2.2 n _ hM, ?_, fun i hi hin => ?_, clM_up hp.2.1 hcl⟩, fun i hi => upm_none _ _ hi, fun v h => by cases h; show upm _ j _ j ≠ none; rw [upm_s]; exact (fun h => by cases h), hQ⟩
    · rw [upm_n _ _ (Ne.symm hjm)]; exact hm
    · rw [h, hM] at hm; cases hm
    · rw [upm_n _ _ (Ne.symm hjn)]; exact hM
    · exact opM_o hi fun h => hin (by rw [h, upm_n _ _ (Ne.symm hjm)]; exact hm)
theorem ct_J2_init {γ : GG} (hG : Gm γ) : CT γ yJ2_init cJ2_init 1 none 4 P_J2_init := by
  refine CT_cl0 (ct_J2_initr hG) fun avs w Q b hP hp hv => ?_
  obtain ⟨a0, rfl, h0, n, rfl, hM, hQ⟩ := hP
  have hn : w.1 n ≠ none := by rw [hM]; exact fun h => by cases h
  refine ⟨fun o w1 => o = .inl none ∧ w1 = (upm w.1 n (.inl (20, [.int 0, .retAddr 4294967298, .int 0])), w.2), ⟨_, rfl, trivial, ?_⟩, fun rv w1 h => ?_⟩
  · refine ⟨⟨n, rfl⟩, ⟨n, rfl⟩, ⟨n, rfl⟩, n, _, rfl, hM, by simp, n, _, rfl, upm_s _ _ _, by simp, rfl, ?_⟩
    show (upm (upm _ n _) n _, _) = _
    rw [upm_upm]
    rfl
  · obtain ⟨e1, rfl⟩ := h
    cases e1
    refine ⟨upm w.1 n (alO ([], 0, 0)), n, b, ([], 0, 0), ⟨by show upm w.1 n _ n = _; rw [upm_s]; rfl, fun h => absurd rfl h, ⟨Nat.le_refl _, by show (0 : Nat) ≤ _; omega, Or.inl rfl⟩, upm_s _ _ _, fun j hj hjn => ?_, clM_upm hp.2.1 hn (fun v hv => by cases hv)⟩, fun i hi => upm_none _ _ hi, (fun v h => by cases h), hQ⟩
    show upm _ n _ j = upm _ n _ j
    rw [upm_n _ _ hj, upm_n _ _ hj]
