/-! walks of the JDK's methods over raw lists, printed by a program -/
set_option maxRecDepth 100000
def gcc (w : AW) (v : Value) (K : Prop) : Prop := (∃ n N f, v = .ref n ∧ w.1 n = some (raO N f)) ∧ K
theorem hd_J0_initr : yJ0_init.cls = RJ0 ∧ yJ0_init.cls ≠ "java/lang/invoke/MethodHandle" ∧ yJ0_init.cls ≠ "java/lang/invoke/VarHandle" ∧ (parseMethodDescriptor yJ0_init.desc).map (fun d => d.parameters.length) = some 0 := by decide +kernel
def B_J0_initr (aA0 : Value) (w0 : AW) (Q : AOut → AW → Prop) : Prop :=
  rfn aA0 <|
  Q (.inl none) w0
def P_J0_initr : PP := fun avs w0 Q => ∃ (aA0 : Value), avs = [aA0] ∧ isr aA0 ∧ B_J0_initr aA0 w0 Q
theorem ct_J0_initr {γ : GG} (hG : Gm γ) : CT γ yJ0_init cJ0_init 1 none 2 P_J0_initr := by
  refine CT_of (own := RJ0) hG (by decide +kernel) rfl ?_ ?_
  · rintro avs w Q ⟨aA0, rfl, r_aA0, hP⟩
    simp [lv_args, cat_int, cat_long, cat_float, cat_double, isr_cat r_aA0]
  intro p l e R s m args below meth c κ0 w0 avs Q X hin hP
  obtain ⟨aA0, rfl, r_aA0, hP⟩ := hP
  have hls : lv_args 0 [aA0] = [(0, aA0)] := by simp [lv_args, cat_int, cat_long, cat_float, cat_double, isr_cat r_aA0]
  rw [hls]
  unfold B_J0_initr at hP
  refine J_aload_n (i := 0) X dJ0_init_0 rfl 0 rfl r_aA0 ?_
  obtain ⟨hv0, hP⟩ := hP
  refine J_objInit X hv0 q170 q157 q158 (by decide) (by simp [cat_int, cat_long]) dJ0_init_1 ?_
  exact J_vret X rfl dJ0_init_4 hP
theorem hd_J1_initr : yJ1_init.cls = RJ1 ∧ yJ1_init.cls ≠ "java/lang/invoke/MethodHandle" ∧ yJ1_init.cls ≠ "java/lang/invoke/VarHandle" ∧ (parseMethodDescriptor yJ1_init.desc).map (fun d => d.parameters.length) = some 0 := by decide +kernel
def B_J1_initr (aA0 : Value) (w0 : AW) (Q : AOut → AW → Prop) : Prop :=
  rfn aA0 <|
  B_J0_initr aA0 w0 <| rvo (Kx := nx) fun w1 =>
  pfi w1 aA0 20 0 (0 : Int32) fun w2 =>
  Q (.inl none) w2
def P_J1_initr : PP := fun avs w0 Q => ∃ (aA0 : Value), avs = [aA0] ∧ isr aA0 ∧ B_J1_initr aA0 w0 Q
theorem ct_J1_initr {γ : GG} (hG : Gm γ) : CT γ yJ1_init cJ1_init 1 none 3 P_J1_initr := by
  refine CT_of (own := RJ1) hG (by decide +kernel) rfl ?_ ?_
  · rintro avs w Q ⟨aA0, rfl, r_aA0, hP⟩
    simp [lv_args, cat_int, cat_long, cat_float, cat_double, isr_cat r_aA0]
  intro p l e R s m args below meth c κ0 w0 avs Q X hin hP
  obtain ⟨aA0, rfl, r_aA0, hP⟩ := hP
  have hls : lv_args 0 [aA0] = [(0, aA0)] := by simp [lv_args, cat_int, cat_long, cat_float, cat_double, isr_cat r_aA0]
  rw [hls]
  unfold B_J1_initr at hP
  refine J_aload_n (i := 0) X dJ1_init_0 rfl 0 rfl r_aA0 ?_
  obtain ⟨hv0, hP⟩ := hP
  refine J_cI X (ct_J0_initr hG) rfl q167 q168 q92 q169 rfl hd_J0_initr.2 ⟨Nat.le_of_ble_eq_true rfl, Nat.le_of_ble_eq_true rfl⟩ dJ1_init_1 (avs := []) rfl rfl hv0 (by decide) ⟨_, rfl, r_aA0, hP⟩ (krv fun w1 hP => ?_)
  refine J_aload_n (i := 0) X dJ1_init_4 rfl 0 rfl r_aA0 ?_
  refine J_iconst (v := 0) X dJ1_init_5 (by decide) ?_
  refine J_pfi X hP rfl in_J2 tyJ2_ok nmJ2 (by decide) (Or.inl ⟨q177, rfl⟩) ⟨rfl, rfl⟩ dJ1_init_6 (fun w2 hP => ?_)
  exact J_vret X rfl dJ1_init_9 hP
theorem hd_J2_initr : yJ2_init.cls = RJ2 ∧ yJ2_init.cls ≠ "java/lang/invoke/MethodHandle" ∧ yJ2_init.cls ≠ "java/lang/invoke/VarHandle" ∧ (parseMethodDescriptor yJ2_init.desc).map (fun d => d.parameters.length) = some 0 := by decide +kernel
def B_J2_initr (aA0 : Value) (w0 : AW) (Q : AOut → AW → Prop) : Prop :=
  rfn aA0 <|
  B_J1_initr aA0 w0 <| rvo (Kx := nx) fun w1 =>
  pfr w1 aA0 20 1 (.retAddr 4294967298) fun w2 =>
  Q (.inl none) w2
def P_J2_initr : PP := fun avs w0 Q => ∃ (aA0 : Value), avs = [aA0] ∧ isr aA0 ∧ B_J2_initr aA0 w0 Q
theorem ct_J2_initr {γ : GG} (hG : Gm γ) : CT γ yJ2_init cJ2_init 1 none 4 P_J2_initr := by
  refine CT_of (own := RJ2) hG (by decide +kernel) rfl ?_ ?_
  · rintro avs w Q ⟨aA0, rfl, r_aA0, hP⟩
    simp [lv_args, cat_int, cat_long, cat_float, cat_double, isr_cat r_aA0]
  intro p l e R s m args below meth c κ0 w0 avs Q X hin hP
  obtain ⟨aA0, rfl, r_aA0, hP⟩ := hP
  have hls : lv_args 0 [aA0] = [(0, aA0)] := by simp [lv_args, cat_int, cat_long, cat_float, cat_double, isr_cat r_aA0]
  rw [hls]
  unfold B_J2_initr at hP
  refine J_aload_n (i := 0) X dJ2_init_0 rfl 0 rfl r_aA0 ?_
  obtain ⟨hv0, hP⟩ := hP
  refine J_cI X (ct_J1_initr hG) rfl q164 q165 q93 q166 rfl hd_J1_initr.2 ⟨Nat.le_of_ble_eq_true rfl, Nat.le_of_ble_eq_true rfl⟩ dJ2_init_1 (avs := []) rfl rfl hv0 (by decide) ⟨_, rfl, r_aA0, hP⟩ (krv fun w1 hP => ?_)
  refine J_aload_n (i := 0) X dJ2_init_4 rfl 0 rfl r_aA0 ?_
  refine J_gets (k := 2) X (by omega) X.g.2.2.2.2.2.2.1.1 (.inl q171) dJ2_init_5 ?_
  refine J_pfr X hP trivial rfl in_J2 tyJ2_ok nmJ2 (by decide) (Or.inl ⟨q173, rfl⟩) (by first | exact Or.inl ⟨_, rfl⟩ | exact Or.inr ⟨_, rfl⟩) dJ2_init_8 (fun w2 hP => ?_)
  exact J_vret X rfl dJ2_init_11 hP
theorem hd_J2_sizer : yJ2_size.cls = RJ2 ∧ yJ2_size.cls ≠ "java/lang/invoke/MethodHandle" ∧ yJ2_size.cls ≠ "java/lang/invoke/VarHandle" ∧ (parseMethodDescriptor yJ2_size.desc).map (fun d => d.parameters.length) = some 0 := by decide +kernel
def B_J2_sizer (aA0 : Value) (w0 : AW) (Q : AOut → AW → Prop) : Prop :=
  gfi w0 aA0 20 2 fun x1 =>
  Q (.inl (some (.int x1))) w0
def P_J2_sizer : PP := fun avs w0 Q => ∃ (aA0 : Value), avs = [aA0] ∧ isr aA0 ∧ B_J2_sizer aA0 w0 Q
theorem ct_J2_sizer {γ : GG} (hG : Gm γ) : CT γ yJ2_size cJ2_size 1 (some .int) 1 P_J2_sizer := by
  refine CT_of (own := RJ2) hG (by decide +kernel) rfl ?_ ?_
  · rintro avs w Q ⟨aA0, rfl, r_aA0, hP⟩
    simp [lv_args, cat_int, cat_long, cat_float, cat_double, isr_cat r_aA0]
  intro p l e R s m args below meth c κ0 w0 avs Q X hin hP
  obtain ⟨aA0, rfl, r_aA0, hP⟩ := hP
  have hls : lv_args 0 [aA0] = [(0, aA0)] := by simp [lv_args, cat_int, cat_long, cat_float, cat_double, isr_cat r_aA0]
  rw [hls]
  unfold B_J2_sizer at hP
  refine J_aload_n (i := 0) X dJ2_size_0 rfl 0 rfl r_aA0 ?_
  refine J_gfi X hP rfl in_J2 (by decide) q176 dJ2_size_1 (fun x1 hP => ?_)
  exact J_iret X rfl rfl dJ2_size_4 hP
theorem hd_J2_isEmptyr : yJ2_isEmpty.cls = RJ2 ∧ yJ2_isEmpty.cls ≠ "java/lang/invoke/MethodHandle" ∧ yJ2_isEmpty.cls ≠ "java/lang/invoke/VarHandle" ∧ (parseMethodDescriptor yJ2_isEmpty.desc).map (fun d => d.parameters.length) = some 0 := by decide +kernel
def B_J2_isEmptyr (aA0 : Value) (w0 : AW) (Q : AOut → AW → Prop) : Prop :=
  gfi w0 aA0 20 2 fun x1 =>
  br (x1 = 0) (rtz .boolean (1 : Int32) <| Q (.inl (some (.int (1 : Int32)))) w0) (rtz .boolean (0 : Int32) <| Q (.inl (some (.int (0 : Int32)))) w0)
def P_J2_isEmptyr : PP := fun avs w0 Q => ∃ (aA0 : Value), avs = [aA0] ∧ isr aA0 ∧ B_J2_isEmptyr aA0 w0 Q
theorem ct_J2_isEmptyr {γ : GG} (hG : Gm γ) : CT γ yJ2_isEmpty cJ2_isEmpty 1 (some .boolean) 1 P_J2_isEmptyr := by
  refine CT_of (own := RJ2) hG (by decide +kernel) rfl ?_ ?_
  · rintro avs w Q ⟨aA0, rfl, r_aA0, hP⟩
    simp [lv_args, cat_int, cat_long, cat_float, cat_double, isr_cat r_aA0]
  intro p l e R s m args below meth c κ0 w0 avs Q X hin hP
  obtain ⟨aA0, rfl, r_aA0, hP⟩ := hP
  have hls : lv_args 0 [aA0] = [(0, aA0)] := by simp [lv_args, cat_int, cat_long, cat_float, cat_double, isr_cat r_aA0]
  rw [hls]
  unfold B_J2_isEmptyr at hP
  refine J_aload_n (i := 0) X dJ2_isEmpty_0 rfl 0 rfl r_aA0 ?_
  refine J_gfi X hP rfl in_J2 (by decide) q176 dJ2_isEmpty_1 (fun x1 hP => ?_)
  refine J_if_ne (tgt := 11) X dJ2_isEmpty_4 (by decide) (fun c9 => ?_) (fun c9 => ?_)
  · have hP := hP.2 c9
    refine J_iconst (v := 0) X dJ2_isEmpty_11 (by decide) ?_
    obtain ⟨hn, hP⟩ := hP
    exact J_iret X rfl hn dJ2_isEmpty_12 hP
  · have hP := hP.1 c9
    refine J_iconst (v := 1) X dJ2_isEmpty_7 (by decide) ?_
    refine J_goto (tgt := 12) X dJ2_isEmpty_8 (by decide) ?_
    obtain ⟨hn, hP⟩ := hP
    exact J_iret X rfl hn dJ2_isEmpty_12 hP
theorem hd_J16_checkIndexr : yJ16_checkIndex.cls = RJ16 ∧ yJ16_checkIndex.cls ≠ "java/lang/invoke/MethodHandle" ∧ yJ16_checkIndex.cls ≠ "java/lang/invoke/VarHandle" ∧ (parseMethodDescriptor yJ16_checkIndex.desc).map (fun d => d.parameters.length) = some 3 := by decide +kernel
def B_J16_checkIndexr_j9 (vL2 : Value) (w : AW) (Q : AOut → AW → Prop) : Prop :=
  False
def B_J16_checkIndexr (xA0 : Int32) (xA1 : Int32) (aA2 : Value) (w0 : AW) (Q : AOut → AW → Prop) : Prop :=
  br (xA0 < 0) (B_J16_checkIndexr_j9 aA2 w0 Q ) (br (xA0 < xA1) (Q (.inl (some (.int xA0))) w0) (B_J16_checkIndexr_j9 aA2 w0 Q ))
def P_J16_checkIndexr : PP := fun avs w0 Q => ∃ (xA0 : Int32) (xA1 : Int32) (aA2 : Value), avs = [.int xA0, .int xA1, aA2] ∧ isr aA2 ∧ B_J16_checkIndexr xA0 xA1 aA2 w0 Q
theorem ct_J16_checkIndexr {γ : GG} (hG : Gm γ) : CT γ yJ16_checkIndex cJ16_checkIndex 3 (some .int) 1 P_J16_checkIndexr := by
  refine CT_of (own := RJ16) hG (by decide +kernel) rfl ?_ ?_
  · rintro avs w Q ⟨xA0, xA1, aA2, rfl, r_aA2, hP⟩
    simp [lv_args, cat_int, cat_long, cat_float, cat_double, isr_cat r_aA2]
  intro p l e R s m args below meth c κ0 w0 avs Q X hin hP
  obtain ⟨xA0, xA1, aA2, rfl, r_aA2, hP⟩ := hP
  have hls : lv_args 0 [.int xA0, .int xA1, aA2] = [(0, .int xA0), (1, .int xA1), (2, aA2)] := by simp [lv_args, cat_int, cat_long, cat_float, cat_double, isr_cat r_aA2]
  rw [hls]
  have j9 : ∀ (vL2 : Value) (r_vL2 : isr vL2) (w : AW), B_J16_checkIndexr_j9 vL2 w Q  → J γ p l e R s m args below meth c 3 false κ0 w0.1 Q w 9 [(2, vL2)] [] := by
    intro vL2 r_vL2 w hP
    unfold B_J16_checkIndexr_j9 at hP
    exact hP.elim
  unfold B_J16_checkIndexr at hP
  refine J_iload_n (i := 0) X dJ16_checkIndex_0 rfl 0 rfl ?_
  refine J_if_lt (tgt := 9) X dJ16_checkIndex_1 (by decide) (fun c9 => ?_) (fun c9 => ?_)
  · have hP := hP.1 c9
    refine J_sub [2] rfl ?_
    exact j9 _ r_aA2 _ hP
  · have hP := hP.2 c9
    refine J_iload_n (i := 0) X dJ16_checkIndex_4 rfl 0 rfl ?_
    refine J_iload_n (i := 1) X dJ16_checkIndex_5 rfl 1 rfl ?_
    refine J_icmp_lt (tgt := 16) X dJ16_checkIndex_6 (by decide) (fun c9 => ?_) (fun c9 => ?_)
    · have hP := hP.1 c9
      refine J_iload_n (i := 0) X dJ16_checkIndex_16 rfl 0 rfl ?_
      exact J_iret X rfl rfl dJ16_checkIndex_17 hP
    · have hP := hP.2 c9
      refine J_sub [2] rfl ?_
      exact j9 _ r_aA2 _ hP
theorem hd_J15_checkIndexr : yJ15_checkIndex.cls = RJ15 ∧ yJ15_checkIndex.cls ≠ "java/lang/invoke/MethodHandle" ∧ yJ15_checkIndex.cls ≠ "java/lang/invoke/VarHandle" ∧ (parseMethodDescriptor yJ15_checkIndex.desc).map (fun d => d.parameters.length) = some 2 := by decide +kernel
def B_J15_checkIndexr (xA0 : Int32) (xA1 : Int32) (w0 : AW) (Q : AOut → AW → Prop) : Prop :=
  B_J16_checkIndexr xA0 xA1 .null w0 <| ri (Kx := nx) fun x2 w1 =>
  Q (.inl (some (.int x2))) w1
def P_J15_checkIndexr : PP := fun avs w0 Q => ∃ (xA0 : Int32) (xA1 : Int32), avs = [.int xA0, .int xA1] ∧ B_J15_checkIndexr xA0 xA1 w0 Q
theorem ct_J15_checkIndexr {γ : GG} (hG : Gm γ) : CT γ yJ15_checkIndex cJ15_checkIndex 2 (some .int) 2 P_J15_checkIndexr := by
  refine CT_of (own := RJ15) hG (by decide +kernel) rfl ?_ ?_
  · rintro avs w Q ⟨xA0, xA1, rfl, hP⟩
    simp [lv_args, cat_int, cat_long, cat_float, cat_double]
  intro p l e R s m args below meth c κ0 w0 avs Q X hin hP
  obtain ⟨xA0, xA1, rfl, hP⟩ := hP
  have hls : lv_args 0 [.int xA0, .int xA1] = [(0, .int xA0), (1, .int xA1)] := by simp [lv_args, cat_int, cat_long, cat_float, cat_double]
  rw [hls]
  unfold B_J15_checkIndexr at hP
  refine J_iload_n (i := 0) X dJ15_checkIndex_0 rfl 0 rfl ?_
  refine J_iload_n (i := 1) X dJ15_checkIndex_1 rfl 1 rfl ?_
  refine J_null X dJ15_checkIndex_2 ?_
  refine J_cS X (ct_J16_checkIndexr hG) (lw_S q323 q324 q114 q325) hd_J16_checkIndexr.2 ⟨Nat.le_of_ble_eq_true rfl, Nat.le_of_ble_eq_true rfl⟩ dJ15_checkIndex_3 (avs := [.int xA0, .int xA1, .null]) rfl rfl (by decide) ⟨_, _, _, rfl, trivial, hP⟩ (kri fun x2 w1 hP => ?_)
  exact J_iret X rfl rfl dJ15_checkIndex_6 hP
theorem hd_J2_elementDatar : yJ2_elementData.cls = RJ2 ∧ yJ2_elementData.cls ≠ "java/lang/invoke/MethodHandle" ∧ yJ2_elementData.cls ≠ "java/lang/invoke/VarHandle" ∧ (parseMethodDescriptor yJ2_elementData.desc).map (fun d => d.parameters.length) = some 1 := by decide +kernel
def B_J2_elementDatar (aA0 : Value) (xA1 : Int32) (w0 : AW) (Q : AOut → AW → Prop) : Prop :=
  gfr w0 aA0 20 1 fun v1 =>
  rld w0 v1 xA1 fun v2 =>
  Q (.inl (some v2)) w0
def P_J2_elementDatar : PP := fun avs w0 Q => ∃ (aA0 : Value) (xA1 : Int32), avs = [aA0, .int xA1] ∧ isr aA0 ∧ B_J2_elementDatar aA0 xA1 w0 Q
theorem ct_J2_elementDatar {γ : GG} (hG : Gm γ) : CT γ yJ2_elementData cJ2_elementData 2 (some (.object "java/lang/Object")) 1 P_J2_elementDatar := by
  refine CT_of (own := RJ2) hG (by decide +kernel) rfl ?_ ?_
  · rintro avs w Q ⟨aA0, xA1, rfl, r_aA0, hP⟩
    simp [lv_args, cat_int, cat_long, cat_float, cat_double, isr_cat r_aA0]
  intro p l e R s m args below meth c κ0 w0 avs Q X hin hP
  obtain ⟨aA0, xA1, rfl, r_aA0, hP⟩ := hP
  have hls : lv_args 0 [aA0, .int xA1] = [(0, aA0), (1, .int xA1)] := by simp [lv_args, cat_int, cat_long, cat_float, cat_double, isr_cat r_aA0]
  rw [hls]
  unfold B_J2_elementDatar at hP
  refine J_aload_n (i := 0) X dJ2_elementData_0 rfl 0 rfl r_aA0 ?_
  refine J_gfr X hP rfl in_J2 (by decide) q173 dJ2_elementData_1 (fun v1 r_v1 hP => ?_)
  refine J_iload_n (i := 1) X dJ2_elementData_4 rfl 1 rfl ?_
  refine J_rld X hP dJ2_elementData_5 (fun v2 r_v2 hP => ?_)
  exact J_aret X rfl (by first | exact Or.inl ⟨_, rfl⟩ | exact Or.inr ⟨_, rfl⟩) r_v2 dJ2_elementData_6 hP
theorem hd_J2_getr : yJ2_get.cls = RJ2 ∧ yJ2_get.cls ≠ "java/lang/invoke/MethodHandle" ∧ yJ2_get.cls ≠ "java/lang/invoke/VarHandle" ∧ (parseMethodDescriptor yJ2_get.desc).map (fun d => d.parameters.length) = some 1 := by decide +kernel
def B_J2_getr (aA0 : Value) (xA1 : Int32) (w0 : AW) (Q : AOut → AW → Prop) : Prop :=
  gfi w0 aA0 20 2 fun x1 =>
  B_J15_checkIndexr xA1 x1 w0 <| ri (Kx := nx) fun x3 w2 =>
  rcc w2 aA0 20 <|
  B_J2_elementDatar aA0 xA1 w2 <| rr (Kx := nx) fun v5 w4 =>
  Q (.inl (some v5)) w4
def P_J2_getr : PP := fun avs w0 Q => ∃ (aA0 : Value) (xA1 : Int32), avs = [aA0, .int xA1] ∧ isr aA0 ∧ B_J2_getr aA0 xA1 w0 Q
theorem ct_J2_getr {γ : GG} (hG : Gm γ) : CT γ yJ2_get cJ2_get 2 (some (.object "java/lang/Object")) 3 P_J2_getr := by
  refine CT_of (own := RJ2) hG (by decide +kernel) rfl ?_ ?_
  · rintro avs w Q ⟨aA0, xA1, rfl, r_aA0, hP⟩
    simp [lv_args, cat_int, cat_long, cat_float, cat_double, isr_cat r_aA0]
  intro p l e R s m args below meth c κ0 w0 avs Q X hin hP
  obtain ⟨aA0, xA1, rfl, r_aA0, hP⟩ := hP
  have hls : lv_args 0 [aA0, .int xA1] = [(0, aA0), (1, .int xA1)] := by simp [lv_args, cat_int, cat_long, cat_float, cat_double, isr_cat r_aA0]
  rw [hls]
  unfold B_J2_getr at hP
  refine J_iload_n (i := 1) X dJ2_get_0 rfl 1 rfl ?_
  refine J_aload_n (i := 0) X dJ2_get_1 rfl 0 rfl r_aA0 ?_
  refine J_gfi X hP rfl in_J2 (by decide) q176 dJ2_get_2 (fun x1 hP => ?_)
  refine J_cS X (ct_J15_checkIndexr hG) (lw_S q320 q321 q113 q322) hd_J15_checkIndexr.2 ⟨Nat.le_of_ble_eq_true rfl, Nat.le_of_ble_eq_true rfl⟩ dJ2_get_5 (avs := [.int xA1, .int x1]) rfl rfl (by decide) ⟨_, _, rfl, hP⟩ (kri fun x3 w2 hP => ?_)
  refine J_pop X dJ2_get_8 (rfl) ?_
  refine J_aload_n (i := 0) X dJ2_get_9 rfl 0 rfl r_aA0 ?_
  refine J_iload_n (i := 1) X dJ2_get_10 rfl 1 rfl ?_
  obtain ⟨hrc, hP⟩ := hP
  refine J_cV X (ci := 20) rfl (ct_J2_elementDatar hG) (lw_V q326 q327 q328 q94 q329) hd_J2_elementDatar ⟨Nat.le_of_ble_eq_true rfl, Nat.le_of_ble_eq_true rfl⟩ dJ2_get_11 (avs := [.int xA1]) rfl rfl hrc (by decide) ⟨_, _, rfl, r_aA0, hP⟩ (krr fun v5 w4 r_v5 hP => ?_)
  exact J_aret X rfl (by first | exact Or.inl ⟨_, rfl⟩ | exact Or.inr ⟨_, rfl⟩) r_v5 dJ2_get_14 hP
theorem hd_J10_newLengthr : yJ10_newLength.cls = RJ10 ∧ yJ10_newLength.cls ≠ "java/lang/invoke/MethodHandle" ∧ yJ10_newLength.cls ≠ "java/lang/invoke/VarHandle" ∧ (parseMethodDescriptor yJ10_newLength.desc).map (fun d => d.parameters.length) = some 3 := by decide +kernel
def B_J10_newLengthr_j21 (xL0 : Int32) (w : AW) (Q : AOut → AW → Prop) : Prop :=
  False
def B_J10_newLengthr (xA0 : Int32) (xA1 : Int32) (xA2 : Int32) (w0 : AW) (Q : AOut → AW → Prop) : Prop :=
  br ((xA0 + (if xA1 < xA2 then xA2 else xA1)) ≤ (0 : Int32)) (B_J10_newLengthr_j21 xA0 w0 Q ) (br ((2147483639 : Int32) < (xA0 + (if xA1 < xA2 then xA2 else xA1))) (B_J10_newLengthr_j21 xA0 w0 Q ) (Q (.inl (some (.int (xA0 + (if xA1 < xA2 then xA2 else xA1))))) w0))
def P_J10_newLengthr : PP := fun avs w0 Q => ∃ (xA0 : Int32) (xA1 : Int32) (xA2 : Int32), avs = [.int xA0, .int xA1, .int xA2] ∧ B_J10_newLengthr xA0 xA1 xA2 w0 Q
theorem ct_J10_newLengthr {γ : GG} (hG : Gm γ) : CT γ yJ10_newLength cJ10_newLength 4 (some .int) 2 P_J10_newLengthr := by
  refine CT_of (own := RJ10) hG (by decide +kernel) rfl ?_ ?_
  · rintro avs w Q ⟨xA0, xA1, xA2, rfl, hP⟩
    simp [lv_args, cat_int, cat_long, cat_float, cat_double]
  intro p l e R s m args below meth c κ0 w0 avs Q X hin hP
  obtain ⟨xA0, xA1, xA2, rfl, hP⟩ := hP
  have hls : lv_args 0 [.int xA0, .int xA1, .int xA2] = [(0, .int xA0), (1, .int xA1), (2, .int xA2)] := by simp [lv_args, cat_int, cat_long, cat_float, cat_double]
  rw [hls]
  have j21 : ∀ (xL0 : Int32) (w : AW), B_J10_newLengthr_j21 xL0 w Q  → J γ p l e R s m args below meth c 4 false κ0 w0.1 Q w 21 [(0, .int xL0)] [] := by
    intro xL0  w hP
    unfold B_J10_newLengthr_j21 at hP
    exact hP.elim
  unfold B_J10_newLengthr at hP
  refine J_iload_n (i := 0) X dJ10_newLength_0 rfl 0 rfl ?_
  refine J_iload_n (i := 1) X dJ10_newLength_1 rfl 1 rfl ?_
  refine J_iload_n (i := 2) X dJ10_newLength_2 rfl 2 rfl ?_
  refine J_mmax X q441 q442 q105 q443 (by decide) (by simp [cat_int, cat_long, cat_float, cat_double]) dJ10_newLength_3 ?_
  refine J_iadd X dJ10_newLength_6 ?_
  refine J_istore_n (i := 3) X dJ10_newLength_7 rfl (by decide) ⟨.inl (Nat.ne_of_beq_eq_false rfl), .inl (Nat.ne_of_beq_eq_false rfl), .inr rfl, trivial⟩ rfl ?_
  refine J_iconst (v := 0) X dJ10_newLength_8 (by decide) ?_
  refine J_iload_n (i := 3) X dJ10_newLength_9 rfl 0 rfl ?_
  refine J_icmp_ge (tgt := 21) X dJ10_newLength_10 (by decide) (fun c9 => ?_) (fun c9 => ?_)
  · have hP := hP.1 c9
    refine J_sub [1] rfl ?_
    exact j21 _  _ hP
  · have hP := hP.2 c9
    refine J_iload_n (i := 3) X dJ10_newLength_13 rfl 0 rfl ?_
    refine J_ldc (v := 2147483639) X q444 dJ10_newLength_14 ?_
    refine J_icmp_gt (tgt := 21) X dJ10_newLength_16 (by decide) (fun c9 => ?_) (fun c9 => ?_)
    · have hP := hP.1 c9
      refine J_sub [1] rfl ?_
      exact j21 _  _ hP
    · have hP := hP.2 c9
      refine J_iload_n (i := 3) X dJ10_newLength_19 rfl 0 rfl ?_
      exact J_iret X rfl rfl dJ10_newLength_20 hP
theorem hd_J3_copyOf_3r : yJ3_copyOf_3.cls = RJ3 ∧ yJ3_copyOf_3.cls ≠ "java/lang/invoke/MethodHandle" ∧ yJ3_copyOf_3.cls ≠ "java/lang/invoke/VarHandle" ∧ (parseMethodDescriptor yJ3_copyOf_3.desc).map (fun d => d.parameters.length) = some 3 := by decide +kernel
def B_J3_copyOf_3r (aA0 : Value) (xA1 : Int32) (aA2 : Value) (w0 : AW) (Q : AOut → AW → Prop) : Prop :=
  aqx aA2 (.retAddr 4294967300) <|
  br (aA2 = (.retAddr 4294967300)) (nar w0 xA1 fun v1 w2 =>
  rln w2 aA0 fun x3 =>
  rcp w2 aA0 (0 : Int32) v1 (0 : Int32) (if xA1 < x3 then xA1 else x3) fun w4 =>
  Q (.inl (some v1)) w4) (False)
def P_J3_copyOf_3r : PP := fun avs w0 Q => ∃ (aA0 : Value) (xA1 : Int32) (aA2 : Value), avs = [aA0, .int xA1, aA2] ∧ isr aA0 ∧ isr aA2 ∧ B_J3_copyOf_3r aA0 xA1 aA2 w0 Q
theorem ct_J3_copyOf_3r {γ : GG} (hG : Gm γ) : CT γ yJ3_copyOf_3 cJ3_copyOf_3 4 (some (.array (.object "java/lang/Object"))) 2 P_J3_copyOf_3r := by
  refine CT_of (own := RJ3) hG (by decide +kernel) rfl ?_ ?_
  · rintro avs w Q ⟨aA0, xA1, aA2, rfl, r_aA0, r_aA2, hP⟩
    simp [lv_args, cat_int, cat_long, cat_float, cat_double, isr_cat r_aA0, isr_cat r_aA2]
  intro p l e R s m args below meth c κ0 w0 avs Q X hin hP
  obtain ⟨aA0, xA1, aA2, rfl, r_aA0, r_aA2, hP⟩ := hP
  have hls : lv_args 0 [aA0, .int xA1, aA2] = [(0, aA0), (1, .int xA1), (2, aA2)] := by simp [lv_args, cat_int, cat_long, cat_float, cat_double, isr_cat r_aA0, isr_cat r_aA2]
  rw [hls]
  unfold B_J3_copyOf_3r at hP
  refine J_aload_n (i := 2) X dJ3_copyOf_3_0 rfl 2 rfl r_aA2 ?_
  refine J_ldcM X q901 dJ3_copyOf_3_1 ?_
  obtain ⟨hu, hv, hP⟩ := hP
  refine J_acmx_ne (tgt := 13) X dJ3_copyOf_3_3 (by decide) hv hu (fun c9 => ?_) (fun c9 => ?_)
  · have hP := hP.2 c9
    exact hP.elim
  · have hP := hP.1 c9
    refine J_iload_n (i := 1) X dJ3_copyOf_3_6 rfl 1 rfl ?_
    refine J_nar X hP q903 dJ3_copyOf_3_7 (fun v1 w2 n_v1 hP => ?_)
    have r_v1 : isr v1 := by obtain ⟨_, rfl⟩ := n_v1; trivial
    refine J_goto (tgt := 24) X dJ3_copyOf_3_10 (by decide) ?_
    refine J_astore_n (i := 3) X dJ3_copyOf_3_24 rfl (by decide) r_v1 ⟨.inl (Nat.ne_of_beq_eq_false rfl), .inl (Nat.ne_of_beq_eq_false rfl), .inr (isr_cat r_aA2), trivial⟩ rfl ?_
    refine J_aload_n (i := 0) X dJ3_copyOf_3_25 rfl 1 rfl r_aA0 ?_
    refine J_iconst (v := 0) X dJ3_copyOf_3_26 (by decide) ?_
    refine J_aload_n (i := 3) X dJ3_copyOf_3_27 rfl 0 rfl r_v1 ?_
    refine J_iconst (v := 0) X dJ3_copyOf_3_28 (by decide) ?_
    refine J_aload_n (i := 0) X dJ3_copyOf_3_29 rfl 1 rfl r_aA0 ?_
    refine J_rln X hP dJ3_copyOf_3_30 (fun x3 hP => ?_)
    refine J_iload_n (i := 1) X dJ3_copyOf_3_31 rfl 2 rfl ?_
    refine J_mmin X q459 q460 q105 q461 (by decide) (by simp [cat_int, cat_long, cat_float, cat_double, isr_cat r_aA0, isr_cat r_v1]) dJ3_copyOf_3_32 ?_
    refine J_rcp X hP q462 q464 q463 q106 (by decide) (by simp [cat_int, cat_long] <;> decide) dJ3_copyOf_3_35 (fun w4 hP => ?_)
    refine J_aload_n (i := 3) X dJ3_copyOf_3_38 rfl 0 rfl r_v1 ?_
    exact J_aret X rfl (by first | exact Or.inl ⟨_, rfl⟩ | exact Or.inr ⟨_, rfl⟩) r_v1 dJ3_copyOf_3_39 hP
theorem hd_J3_copyOf_2r : yJ3_copyOf_2.cls = RJ3 ∧ yJ3_copyOf_2.cls ≠ "java/lang/invoke/MethodHandle" ∧ yJ3_copyOf_2.cls ≠ "java/lang/invoke/VarHandle" ∧ (parseMethodDescriptor yJ3_copyOf_2.desc).map (fun d => d.parameters.length) = some 2 := by decide +kernel
def B_J3_copyOf_2r (aA0 : Value) (xA1 : Int32) (w0 : AW) (Q : AOut → AW → Prop) : Prop :=
  gcc w0 aA0 <|
  B_J3_copyOf_3r aA0 xA1 (.retAddr 4294967300) w0 <| rr (Kx := nx) fun v2 w1 =>
  Q (.inl (some v2)) w1
def P_J3_copyOf_2r : PP := fun avs w0 Q => ∃ (aA0 : Value) (xA1 : Int32), avs = [aA0, .int xA1] ∧ isr aA0 ∧ B_J3_copyOf_2r aA0 xA1 w0 Q
theorem ct_J3_copyOf_2r {γ : GG} (hG : Gm γ) : CT γ yJ3_copyOf_2 cJ3_copyOf_2 2 (some (.array (.object "java/lang/Object"))) 3 P_J3_copyOf_2r := by
  refine CT_of (own := RJ3) hG (by decide +kernel) rfl ?_ ?_
  · rintro avs w Q ⟨aA0, xA1, rfl, r_aA0, hP⟩
    simp [lv_args, cat_int, cat_long, cat_float, cat_double, isr_cat r_aA0]
  intro p l e R s m args below meth c κ0 w0 avs Q X hin hP
  obtain ⟨aA0, xA1, rfl, r_aA0, hP⟩ := hP
  have hls : lv_args 0 [aA0, .int xA1] = [(0, aA0), (1, .int xA1)] := by simp [lv_args, cat_int, cat_long, cat_float, cat_double, isr_cat r_aA0]
  rw [hls]
  unfold B_J3_copyOf_2r at hP
  refine J_aload_n (i := 0) X dJ3_copyOf_2_0 rfl 0 rfl r_aA0 ?_
  refine J_iload_n (i := 1) X dJ3_copyOf_2_1 rfl 1 rfl ?_
  refine J_aload_n (i := 0) X dJ3_copyOf_2_2 rfl 0 rfl r_aA0 ?_
  obtain ⟨hv, hP⟩ := hP
  refine J_getC4 X hv q859 q3075 q3074 q860 q897 (by decide) (by simp [cat_int, cat_long, isr_cat r_aA0]) dJ3_copyOf_2_3 ?_
  refine J_cS X (ct_J3_copyOf_3r hG) (lw_S q898 q899 q95 q900) hd_J3_copyOf_3r.2 ⟨Nat.le_of_ble_eq_true rfl, Nat.le_of_ble_eq_true rfl⟩ dJ3_copyOf_2_6 (avs := [aA0, .int xA1, (.retAddr 4294967300)]) rfl rfl (by decide) ⟨_, _, _, rfl, r_aA0, trivial, hP⟩ (krr fun v2 w1 r_v2 hP => ?_)
  exact J_aret X rfl (by first | exact Or.inl ⟨_, rfl⟩ | exact Or.inr ⟨_, rfl⟩) r_v2 dJ3_copyOf_2_9 hP
theorem hd_J2_grow_2r : yJ2_grow_2.cls = RJ2 ∧ yJ2_grow_2.cls ≠ "java/lang/invoke/MethodHandle" ∧ yJ2_grow_2.cls ≠ "java/lang/invoke/VarHandle" ∧ (parseMethodDescriptor yJ2_grow_2.desc).map (fun d => d.parameters.length) = some 1 := by decide +kernel
def B_J2_grow_2r_j20 (vL0 : Value) (xL1 : Int32) (xL2 : Int32) (w : AW) (Q : AOut → AW → Prop) : Prop :=
  B_J10_newLengthr xL2 (xL1 - xL2) (xL2 >>> ((1 : Int32) &&& 31)) w <| ri (Kx := nx) fun x2 w1 =>
  gfr w1 vL0 20 1 fun v3 =>
  B_J3_copyOf_2r v3 x2 w1 <| rr (Kx := nx) fun v5 w4 =>
  pfr w4 vL0 20 1 v5 fun w6 =>
  Q (.inl (some v5)) w6
def B_J2_grow_2r (aA0 : Value) (xA1 : Int32) (w0 : AW) (Q : AOut → AW → Prop) : Prop :=
  gfr w0 aA0 20 1 fun v7 =>
  rln w0 v7 fun x8 =>
  br (0 < x8) (B_J2_grow_2r_j20 aA0 xA1 x8 w0 Q ) (gfr w0 aA0 20 1 fun v9 =>
  aqx v9 (.retAddr 4294967298) <|
  br (v9 = (.retAddr 4294967298)) (nar w0 (if (10 : Int32) < xA1 then xA1 else (10 : Int32)) fun v10 w11 =>
  pfr w11 aA0 20 1 v10 fun w12 =>
  Q (.inl (some v10)) w12) (B_J2_grow_2r_j20 aA0 xA1 x8 w0 Q ))
def P_J2_grow_2r : PP := fun avs w0 Q => ∃ (aA0 : Value) (xA1 : Int32), avs = [aA0, .int xA1] ∧ isr aA0 ∧ B_J2_grow_2r aA0 xA1 w0 Q
theorem ct_J2_grow_2r {γ : GG} (hG : Gm γ) : CT γ yJ2_grow_2 cJ2_grow_2 4 (some (.array (.object "java/lang/Object"))) 4 P_J2_grow_2r := by
  refine CT_of (own := RJ2) hG (by decide +kernel) rfl ?_ ?_
  · rintro avs w Q ⟨aA0, xA1, rfl, r_aA0, hP⟩
    simp [lv_args, cat_int, cat_long, cat_float, cat_double, isr_cat r_aA0]
  intro p l e R s m args below meth c κ0 w0 avs Q X hin hP
  obtain ⟨aA0, xA1, rfl, r_aA0, hP⟩ := hP
  have hls : lv_args 0 [aA0, .int xA1] = [(0, aA0), (1, .int xA1)] := by simp [lv_args, cat_int, cat_long, cat_float, cat_double, isr_cat r_aA0]
  rw [hls]
  have j20 : ∀ (vL0 : Value) (xL1 : Int32) (xL2 : Int32) (r_vL0 : isr vL0) (w : AW), B_J2_grow_2r_j20 vL0 xL1 xL2 w Q  → J γ p l e R s m args below meth c 4 false κ0 w0.1 Q w 20 [(0, vL0), (1, .int xL1), (2, .int xL2)] [] := by
    intro vL0 xL1 xL2 r_vL0 w hP
    unfold B_J2_grow_2r_j20 at hP
    refine J_iload_n (i := 2) X dJ2_grow_2_20 rfl 2 rfl ?_
    refine J_iload_n (i := 1) X dJ2_grow_2_21 rfl 1 rfl ?_
    refine J_iload_n (i := 2) X dJ2_grow_2_22 rfl 2 rfl ?_
    refine J_isub X dJ2_grow_2_23 ?_
    refine J_iload_n (i := 2) X dJ2_grow_2_24 rfl 2 rfl ?_
    refine J_iconst (v := 1) X dJ2_grow_2_25 (by decide) ?_
    refine J_ishr X dJ2_grow_2_26 ?_
    refine J_cS X (ct_J10_newLengthr hG) (lw_S q855 q439 q104 q440) hd_J10_newLengthr.2 ⟨Nat.le_of_ble_eq_true rfl, Nat.le_of_ble_eq_true rfl⟩ dJ2_grow_2_27 (avs := [.int xL2, .int (xL1 - xL2), .int (xL2 >>> ((1 : Int32) &&& 31))]) rfl rfl (by decide) ⟨_, _, _, rfl, hP⟩ (kri fun x2 w1 hP => ?_)
    refine J_istore_n (i := 3) X dJ2_grow_2_30 rfl (by decide) ⟨.inl (Nat.ne_of_beq_eq_false rfl), .inl (Nat.ne_of_beq_eq_false rfl), .inr rfl, trivial⟩ rfl ?_
    refine J_aload_n (i := 0) X dJ2_grow_2_31 rfl 1 rfl r_vL0 ?_
    refine J_aload_n (i := 0) X dJ2_grow_2_32 rfl 1 rfl r_vL0 ?_
    refine J_gfr X hP rfl in_J2 (by decide) q173 dJ2_grow_2_33 (fun v3 r_v3 hP => ?_)
    refine J_iload_n (i := 3) X dJ2_grow_2_36 rfl 0 rfl ?_
    refine J_cS X (ct_J3_copyOf_2r hG) (lw_S q856 q857 q95 q858) hd_J3_copyOf_2r.2 ⟨Nat.le_of_ble_eq_true rfl, Nat.le_of_ble_eq_true rfl⟩ dJ2_grow_2_37 (avs := [v3, .int x2]) rfl rfl (by simp [cat_int, cat_long, cat_float, cat_double, isr_cat r_vL0]) ⟨_, _, rfl, r_v3, hP⟩ (krr fun v5 w4 r_v5 hP => ?_)
    refine J_dupx1 X dJ2_grow_2_40 (isr_cat r_v5) (isr_cat r_vL0) ?_
    refine J_pfr X hP r_v5 rfl in_J2 tyJ2_ok nmJ2 (by decide) (Or.inl ⟨q173, rfl⟩) (by first | exact Or.inl ⟨_, rfl⟩ | exact Or.inr ⟨_, rfl⟩) dJ2_grow_2_41 (fun w6 hP => ?_)
    exact J_aret X rfl (by first | exact Or.inl ⟨_, rfl⟩ | exact Or.inr ⟨_, rfl⟩) r_v5 dJ2_grow_2_44 hP
  unfold B_J2_grow_2r at hP
  refine J_aload_n (i := 0) X dJ2_grow_2_0 rfl 0 rfl r_aA0 ?_
  refine J_gfr X hP rfl in_J2 (by decide) q173 dJ2_grow_2_1 (fun v7 r_v7 hP => ?_)
  refine J_rln X hP dJ2_grow_2_4 (fun x8 hP => ?_)
  refine J_istore_n (i := 2) X dJ2_grow_2_5 rfl (by decide) ⟨.inl (Nat.ne_of_beq_eq_false rfl), .inr rfl, trivial⟩ rfl ?_
  refine J_iload_n (i := 2) X dJ2_grow_2_6 rfl 0 rfl ?_
  refine J_if_gt (tgt := 20) X dJ2_grow_2_7 (by decide) (fun c9 => ?_) (fun c9 => ?_)
  · have hP := hP.1 c9
    refine J_sub [1, 2, 0] rfl ?_
    exact j20 _ _ _ r_aA0 _ hP
  · have hP := hP.2 c9
    refine J_aload_n (i := 0) X dJ2_grow_2_10 rfl 1 rfl r_aA0 ?_
    refine J_gfr X hP rfl in_J2 (by decide) q173 dJ2_grow_2_11 (fun v9 r_v9 hP => ?_)
    refine J_gets (k := 2) X (by omega) X.g.2.2.2.2.2.2.1.1 (.inl q171) dJ2_grow_2_14 ?_
    obtain ⟨hu, hv, hP⟩ := hP
    refine J_acmx_eq (tgt := 45) X dJ2_grow_2_17 (by decide) hv hu (fun c9 => ?_) (fun c9 => ?_)
    · have hP := hP.1 c9
      refine J_aload_n (i := 0) X dJ2_grow_2_45 rfl 1 rfl r_aA0 ?_
      refine J_bipush (v := 10) X dJ2_grow_2_46 (by decide) ?_
      refine J_iload_n (i := 1) X dJ2_grow_2_48 rfl 2 rfl ?_
      refine J_mmax X q904 q442 q105 q443 (by decide) (by simp [cat_int, cat_long, cat_float, cat_double, isr_cat r_aA0]) dJ2_grow_2_49 ?_
      refine J_nar X hP q905 dJ2_grow_2_52 (fun v10 w11 n_v10 hP => ?_)
      have r_v10 : isr v10 := by obtain ⟨_, rfl⟩ := n_v10; trivial
      refine J_dupx1 X dJ2_grow_2_55 (isr_cat r_v10) (isr_cat r_aA0) ?_
      refine J_pfr X hP r_v10 rfl in_J2 tyJ2_ok nmJ2 (by decide) (Or.inl ⟨q173, rfl⟩) (by first | exact Or.inl ⟨_, rfl⟩ | exact Or.inr ⟨_, rfl⟩) dJ2_grow_2_56 (fun w12 hP => ?_)
      exact J_aret X rfl (by first | exact Or.inl ⟨_, rfl⟩ | exact Or.inr ⟨_, rfl⟩) r_v10 dJ2_grow_2_59 hP
    · have hP := hP.2 c9
      refine J_sub [1, 2, 0] rfl ?_
      exact j20 _ _ _ r_aA0 _ hP
theorem hd_J2_growr : yJ2_grow.cls = RJ2 ∧ yJ2_grow.cls ≠ "java/lang/invoke/MethodHandle" ∧ yJ2_grow.cls ≠ "java/lang/invoke/VarHandle" ∧ (parseMethodDescriptor yJ2_grow.desc).map (fun d => d.parameters.length) = some 0 := by decide +kernel
def B_J2_growr (aA0 : Value) (w0 : AW) (Q : AOut → AW → Prop) : Prop :=
  gfi w0 aA0 20 2 fun x1 =>
  rcc w0 aA0 20 <|
  B_J2_grow_2r aA0 (x1 + (1 : Int32)) w0 <| rr (Kx := nx) fun v3 w2 =>
  Q (.inl (some v3)) w2
def P_J2_growr : PP := fun avs w0 Q => ∃ (aA0 : Value), avs = [aA0] ∧ isr aA0 ∧ B_J2_growr aA0 w0 Q
theorem ct_J2_growr {γ : GG} (hG : Gm γ) : CT γ yJ2_grow cJ2_grow 1 (some (.array (.object "java/lang/Object"))) 5 P_J2_growr := by
  refine CT_of (own := RJ2) hG (by decide +kernel) rfl ?_ ?_
  · rintro avs w Q ⟨aA0, rfl, r_aA0, hP⟩
    simp [lv_args, cat_int, cat_long, cat_float, cat_double, isr_cat r_aA0]
  intro p l e R s m args below meth c κ0 w0 avs Q X hin hP
  obtain ⟨aA0, rfl, r_aA0, hP⟩ := hP
  have hls : lv_args 0 [aA0] = [(0, aA0)] := by simp [lv_args, cat_int, cat_long, cat_float, cat_double, isr_cat r_aA0]
  rw [hls]
  unfold B_J2_growr at hP
  refine J_aload_n (i := 0) X dJ2_grow_0 rfl 0 rfl r_aA0 ?_
  refine J_aload_n (i := 0) X dJ2_grow_1 rfl 0 rfl r_aA0 ?_
  refine J_gfi X hP rfl in_J2 (by decide) q176 dJ2_grow_2 (fun x1 hP => ?_)
  refine J_iconst (v := 1) X dJ2_grow_5 (by decide) ?_
  refine J_iadd X dJ2_grow_6 ?_
  obtain ⟨hrc, hP⟩ := hP
  refine J_cV X (ci := 20) rfl (ct_J2_grow_2r hG) (lw_V q851 q853 qs11 q94 q854) hd_J2_grow_2r ⟨Nat.le_of_ble_eq_true rfl, Nat.le_of_ble_eq_true rfl⟩ dJ2_grow_7 (avs := [.int (x1 + (1 : Int32))]) rfl rfl hrc (by decide) ⟨_, _, rfl, r_aA0, hP⟩ (krr fun v3 w2 r_v3 hP => ?_)
  exact J_aret X rfl (by first | exact Or.inl ⟨_, rfl⟩ | exact Or.inr ⟨_, rfl⟩) r_v3 dJ2_grow_10 hP
theorem hd_J2_add_2r : yJ2_add_2.cls = RJ2 ∧ yJ2_add_2.cls ≠ "java/lang/invoke/MethodHandle" ∧ yJ2_add_2.cls ≠ "java/lang/invoke/VarHandle" ∧ (parseMethodDescriptor yJ2_add_2.desc).map (fun d => d.parameters.length) = some 3 := by decide +kernel
def B_J2_add_2r_j11 (vL0 : Value) (vL1 : Value) (vL2 : Value) (xL3 : Int32) (w : AW) (Q : AOut → AW → Prop) : Prop :=
  rst w vL2 xL3 vL1 fun w1 =>
  pfi w1 vL0 20 2 (xL3 + (1 : Int32)) fun w2 =>
  Q (.inl none) w2
def B_J2_add_2r (aA0 : Value) (aA1 : Value) (aA2 : Value) (xA3 : Int32) (w0 : AW) (Q : AOut → AW → Prop) : Prop :=
  rln w0 aA2 fun x3 =>
  br (xA3 = x3) (rcc w0 aA0 20 <|
  B_J2_growr aA0 w0 <| rr (Kx := nx) fun v5 w4 =>
  B_J2_add_2r_j11 aA0 aA1 v5 xA3 w4 Q ) (B_J2_add_2r_j11 aA0 aA1 aA2 xA3 w0 Q )
def P_J2_add_2r : PP := fun avs w0 Q => ∃ (aA0 : Value) (aA1 : Value) (aA2 : Value) (xA3 : Int32), avs = [aA0, aA1, aA2, .int xA3] ∧ isr aA0 ∧ isr aA1 ∧ isr aA2 ∧ B_J2_add_2r aA0 aA1 aA2 xA3 w0 Q
theorem ct_J2_add_2r {γ : GG} (hG : Gm γ) : CT γ yJ2_add_2 cJ2_add_2 4 none 6 P_J2_add_2r := by
  refine CT_of (own := RJ2) hG (by decide +kernel) rfl ?_ ?_
  · rintro avs w Q ⟨aA0, aA1, aA2, xA3, rfl, r_aA0, r_aA1, r_aA2, hP⟩
    simp [lv_args, cat_int, cat_long, cat_float, cat_double, isr_cat r_aA0, isr_cat r_aA1, isr_cat r_aA2]
  intro p l e R s m args below meth c κ0 w0 avs Q X hin hP
  obtain ⟨aA0, aA1, aA2, xA3, rfl, r_aA0, r_aA1, r_aA2, hP⟩ := hP
  have hls : lv_args 0 [aA0, aA1, aA2, .int xA3] = [(0, aA0), (1, aA1), (2, aA2), (3, .int xA3)] := by simp [lv_args, cat_int, cat_long, cat_float, cat_double, isr_cat r_aA0, isr_cat r_aA1, isr_cat r_aA2]
  rw [hls]
  have j11 : ∀ (vL0 : Value) (vL1 : Value) (vL2 : Value) (xL3 : Int32) (r_vL0 : isr vL0) (r_vL1 : isr vL1) (r_vL2 : isr vL2) (w : AW), B_J2_add_2r_j11 vL0 vL1 vL2 xL3 w Q  → J γ p l e R s m args below meth c 4 false κ0 w0.1 Q w 11 [(0, vL0), (1, vL1), (2, vL2), (3, .int xL3)] [] := by
    intro vL0 vL1 vL2 xL3 r_vL0 r_vL1 r_vL2 w hP
    unfold B_J2_add_2r_j11 at hP
    refine J_aload_n (i := 2) X dJ2_add_2_11 rfl 2 rfl r_vL2 ?_
    refine J_iload_n (i := 3) X dJ2_add_2_12 rfl 3 rfl ?_
    refine J_aload_n (i := 1) X dJ2_add_2_13 rfl 1 rfl r_vL1 ?_
    refine J_rst X hP dJ2_add_2_14 (fun w1 hP => ?_)
    refine J_aload_n (i := 0) X dJ2_add_2_15 rfl 0 rfl r_vL0 ?_
    refine J_iload_n (i := 3) X dJ2_add_2_16 rfl 3 rfl ?_
    refine J_iconst (v := 1) X dJ2_add_2_17 (by decide) ?_
    refine J_iadd X dJ2_add_2_18 ?_
    refine J_pfi X hP rfl in_J2 tyJ2_ok nmJ2 (by decide) (Or.inl ⟨q176, rfl⟩) ⟨rfl, rfl⟩ dJ2_add_2_19 (fun w2 hP => ?_)
    exact J_vret X rfl dJ2_add_2_22 hP
  unfold B_J2_add_2r at hP
  refine J_iload_n (i := 3) X dJ2_add_2_0 rfl 3 rfl ?_
  refine J_aload_n (i := 2) X dJ2_add_2_1 rfl 2 rfl r_aA2 ?_
  refine J_rln X hP dJ2_add_2_2 (fun x3 hP => ?_)
  refine J_icmp_ne (tgt := 11) X dJ2_add_2_3 (by decide) (fun c9 => ?_) (fun c9 => ?_)
  · have hP := hP.2 c9
    refine J_sub [0, 1, 2, 3] rfl ?_
    exact j11 _ _ _ _ r_aA0 r_aA1 r_aA2 _ hP
  · have hP := hP.1 c9
    refine J_aload_n (i := 0) X dJ2_add_2_6 rfl 0 rfl r_aA0 ?_
    obtain ⟨hrc, hP⟩ := hP
    refine J_cV X (ci := 20) rfl (ct_J2_growr hG) (lw_V q847 q849 qs10 q94 q850) hd_J2_growr ⟨Nat.le_of_ble_eq_true rfl, Nat.le_of_ble_eq_true rfl⟩ dJ2_add_2_7 (avs := []) rfl rfl hrc (by decide) ⟨_, rfl, r_aA0, hP⟩ (krr fun v5 w4 r_v5 hP => ?_)
    refine J_astore_n (i := 2) X dJ2_add_2_10 rfl (by decide) r_v5 ⟨.inl (Nat.ne_of_beq_eq_false rfl), .inr (isr_cat r_aA1), .inl (Nat.ne_of_beq_eq_false rfl), .inl (Nat.ne_of_beq_eq_false rfl), trivial⟩ rfl ?_
    refine J_sub [1, 2, 0, 3] rfl ?_
    exact j11 _ _ _ _ r_aA0 r_aA1 r_v5 _ hP
theorem hd_J2_addr : yJ2_add.cls = RJ2 ∧ yJ2_add.cls ≠ "java/lang/invoke/MethodHandle" ∧ yJ2_add.cls ≠ "java/lang/invoke/VarHandle" ∧ (parseMethodDescriptor yJ2_add.desc).map (fun d => d.parameters.length) = some 1 := by decide +kernel
def B_J2_addr (aA0 : Value) (aA1 : Value) (w0 : AW) (Q : AOut → AW → Prop) : Prop :=
  gfi w0 aA0 20 0 fun x1 =>
  pfi w0 aA0 20 0 (x1 + (1 : Int32)) fun w2 =>
  gfr w2 aA0 20 1 fun v3 =>
  gfi w2 aA0 20 2 fun x4 =>
  rcc w2 aA0 20 <|
  B_J2_add_2r aA0 aA1 v3 x4 w2 <| rvo (Kx := nx) fun w5 =>
  rtz .boolean (1 : Int32) <| Q (.inl (some (.int (1 : Int32)))) w5
def P_J2_addr : PP := fun avs w0 Q => ∃ (aA0 : Value) (aA1 : Value), avs = [aA0, aA1] ∧ isr aA0 ∧ isr aA1 ∧ B_J2_addr aA0 aA1 w0 Q
theorem ct_J2_addr {γ : GG} (hG : Gm γ) : CT γ yJ2_add cJ2_add 2 (some .boolean) 7 P_J2_addr := by
  refine CT_of (own := RJ2) hG (by decide +kernel) rfl ?_ ?_
  · rintro avs w Q ⟨aA0, aA1, rfl, r_aA0, r_aA1, hP⟩
    simp [lv_args, cat_int, cat_long, cat_float, cat_double, isr_cat r_aA0, isr_cat r_aA1]
  intro p l e R s m args below meth c κ0 w0 avs Q X hin hP
  obtain ⟨aA0, aA1, rfl, r_aA0, r_aA1, hP⟩ := hP
  have hls : lv_args 0 [aA0, aA1] = [(0, aA0), (1, aA1)] := by simp [lv_args, cat_int, cat_long, cat_float, cat_double, isr_cat r_aA0, isr_cat r_aA1]
  rw [hls]
  unfold B_J2_addr at hP
  refine J_aload_n (i := 0) X dJ2_add_0 rfl 0 rfl r_aA0 ?_
  refine J_dup X dJ2_add_1 (isr_cat r_aA0) ?_
  refine J_gfiS (T := TJ2) (i := 0) X hP rfl in_J2 (by decide) q180 q179 dJ2_add_2 (fun x1 hP => ?_)
  refine J_iconst (v := 1) X dJ2_add_5 (by decide) ?_
  refine J_iadd X dJ2_add_6 ?_
  refine J_pfiS (T := TJ2) (i := 0) X hP rfl in_J2 tyJ2_ok nmJ2 (by decide) q180 q179 rfl ⟨rfl, rfl⟩ dJ2_add_7 (fun w2 hP => ?_)
  refine J_aload_n (i := 0) X dJ2_add_10 rfl 0 rfl r_aA0 ?_
  refine J_aload_n (i := 1) X dJ2_add_11 rfl 1 rfl r_aA1 ?_
  refine J_aload_n (i := 0) X dJ2_add_12 rfl 0 rfl r_aA0 ?_
  refine J_gfr X hP rfl in_J2 (by decide) q173 dJ2_add_13 (fun v3 r_v3 hP => ?_)
  refine J_aload_n (i := 0) X dJ2_add_16 rfl 0 rfl r_aA0 ?_
  refine J_gfi X hP rfl in_J2 (by decide) q176 dJ2_add_17 (fun x4 hP => ?_)
  obtain ⟨hrc, hP⟩ := hP
  refine J_cV X (ci := 20) rfl (ct_J2_add_2r hG) (lw_V q843 q845 qs9 q94 q846) hd_J2_add_2r ⟨Nat.le_of_ble_eq_true rfl, Nat.le_of_ble_eq_true rfl⟩ dJ2_add_20 (avs := [aA1, v3, .int x4]) rfl rfl hrc (by decide) ⟨_, _, _, _, rfl, r_aA0, r_aA1, r_v3, hP⟩ (krv fun w5 hP => ?_)
  refine J_iconst (v := 1) X dJ2_add_23 (by decide) ?_
  obtain ⟨hn, hP⟩ := hP
  exact J_iret X rfl hn dJ2_add_24 hP
theorem hd_J2_rangeCheckForAddr : yJ2_rangeCheckForAdd.cls = RJ2 ∧ yJ2_rangeCheckForAdd.cls ≠ "java/lang/invoke/MethodHandle" ∧ yJ2_rangeCheckForAdd.cls ≠ "java/lang/invoke/VarHandle" ∧ (parseMethodDescriptor yJ2_rangeCheckForAdd.desc).map (fun d => d.parameters.length) = some 1 := by decide +kernel
def B_J2_rangeCheckForAddr_j12  (w : AW) (Q : AOut → AW → Prop) : Prop :=
  False
def B_J2_rangeCheckForAddr (aA0 : Value) (xA1 : Int32) (w0 : AW) (Q : AOut → AW → Prop) : Prop :=
  gfi w0 aA0 20 2 fun x1 =>
  br (x1 < xA1) (B_J2_rangeCheckForAddr_j12  w0 Q ) (br (0 ≤ xA1) (Q (.inl none) w0) (B_J2_rangeCheckForAddr_j12  w0 Q ))
def P_J2_rangeCheckForAddr : PP := fun avs w0 Q => ∃ (aA0 : Value) (xA1 : Int32), avs = [aA0, .int xA1] ∧ isr aA0 ∧ B_J2_rangeCheckForAddr aA0 xA1 w0 Q
theorem ct_J2_rangeCheckForAddr {γ : GG} (hG : Gm γ) : CT γ yJ2_rangeCheckForAdd cJ2_rangeCheckForAdd 2 none 1 P_J2_rangeCheckForAddr := by
  refine CT_of (own := RJ2) hG (by decide +kernel) rfl ?_ ?_
  · rintro avs w Q ⟨aA0, xA1, rfl, r_aA0, hP⟩
    simp [lv_args, cat_int, cat_long, cat_float, cat_double, isr_cat r_aA0]
  intro p l e R s m args below meth c κ0 w0 avs Q X hin hP
  obtain ⟨aA0, xA1, rfl, r_aA0, hP⟩ := hP
  have hls : lv_args 0 [aA0, .int xA1] = [(0, aA0), (1, .int xA1)] := by simp [lv_args, cat_int, cat_long, cat_float, cat_double, isr_cat r_aA0]
  rw [hls]
  have j12 : ∀ (w : AW), B_J2_rangeCheckForAddr_j12  w Q  → J γ p l e R s m args below meth c 2 false κ0 w0.1 Q w 12 [] [] := by
    intro   w hP
    unfold B_J2_rangeCheckForAddr_j12 at hP
    exact hP.elim
  unfold B_J2_rangeCheckForAddr at hP
  refine J_iload_n (i := 1) X dJ2_rangeCheckForAdd_0 rfl 1 rfl ?_
  refine J_aload_n (i := 0) X dJ2_rangeCheckForAdd_1 rfl 0 rfl r_aA0 ?_
  refine J_gfi X hP rfl in_J2 (by decide) q176 dJ2_rangeCheckForAdd_2 (fun x1 hP => ?_)
  refine J_icmp_gt (tgt := 12) X dJ2_rangeCheckForAdd_5 (by decide) (fun c9 => ?_) (fun c9 => ?_)
  · have hP := hP.1 c9
    refine J_sub [] rfl ?_
    exact j12   _ hP
  · have hP := hP.2 c9
    refine J_iload_n (i := 1) X dJ2_rangeCheckForAdd_8 rfl 1 rfl ?_
    refine J_if_ge (tgt := 25) X dJ2_rangeCheckForAdd_9 (by decide) (fun c9 => ?_) (fun c9 => ?_)
    · have hP := hP.1 c9
      exact J_vret X rfl dJ2_rangeCheckForAdd_25 hP
    · have hP := hP.2 c9
      refine J_sub [] rfl ?_
      exact j12   _ hP
theorem hd_J2_add_3r : yJ2_add_3.cls = RJ2 ∧ yJ2_add_3.cls ≠ "java/lang/invoke/MethodHandle" ∧ yJ2_add_3.cls ≠ "java/lang/invoke/VarHandle" ∧ (parseMethodDescriptor yJ2_add_3.desc).map (fun d => d.parameters.length) = some 2 := by decide +kernel
def B_J2_add_3r_j38 (vL0 : Value) (xL1 : Int32) (vL2 : Value) (xL3 : Int32) (vL4 : Value) (w : AW) (Q : AOut → AW → Prop) : Prop :=
  rcp w vL4 xL1 vL4 (xL1 + (1 : Int32)) (xL3 - xL1) fun w1 =>
  rst w1 vL4 xL1 vL2 fun w2 =>
  pfi w2 vL0 20 2 (xL3 + (1 : Int32)) fun w3 =>
  Q (.inl none) w3
def B_J2_add_3r (aA0 : Value) (xA1 : Int32) (aA2 : Value) (w0 : AW) (Q : AOut → AW → Prop) : Prop :=
  rcc w0 aA0 20 <|
  B_J2_rangeCheckForAddr aA0 xA1 w0 <| rvo (Kx := nx) fun w4 =>
  gfi w4 aA0 20 0 fun x5 =>
  pfi w4 aA0 20 0 (x5 + (1 : Int32)) fun w6 =>
  gfi w6 aA0 20 2 fun x7 =>
  gfr w6 aA0 20 1 fun v8 =>
  rln w6 v8 fun x9 =>
  br (x7 = x9) (rcc w6 aA0 20 <|
  B_J2_growr aA0 w6 <| rr (Kx := nx) fun v11 w10 =>
  B_J2_add_3r_j38 aA0 xA1 aA2 x7 v11 w10 Q ) (B_J2_add_3r_j38 aA0 xA1 aA2 x7 v8 w6 Q )
def P_J2_add_3r : PP := fun avs w0 Q => ∃ (aA0 : Value) (xA1 : Int32) (aA2 : Value), avs = [aA0, .int xA1, aA2] ∧ isr aA0 ∧ isr aA2 ∧ B_J2_add_3r aA0 xA1 aA2 w0 Q
theorem ct_J2_add_3r {γ : GG} (hG : Gm γ) : CT γ yJ2_add_3 cJ2_add_3 5 none 6 P_J2_add_3r := by
  refine CT_of (own := RJ2) hG (by decide +kernel) rfl ?_ ?_
  · rintro avs w Q ⟨aA0, xA1, aA2, rfl, r_aA0, r_aA2, hP⟩
    simp [lv_args, cat_int, cat_long, cat_float, cat_double, isr_cat r_aA0, isr_cat r_aA2]
  intro p l e R s m args below meth c κ0 w0 avs Q X hin hP
  obtain ⟨aA0, xA1, aA2, rfl, r_aA0, r_aA2, hP⟩ := hP
  have hls : lv_args 0 [aA0, .int xA1, aA2] = [(0, aA0), (1, .int xA1), (2, aA2)] := by simp [lv_args, cat_int, cat_long, cat_float, cat_double, isr_cat r_aA0, isr_cat r_aA2]
  rw [hls]
  have j38 : ∀ (vL0 : Value) (xL1 : Int32) (vL2 : Value) (xL3 : Int32) (vL4 : Value) (r_vL0 : isr vL0) (r_vL2 : isr vL2) (r_vL4 : isr vL4) (w : AW), B_J2_add_3r_j38 vL0 xL1 vL2 xL3 vL4 w Q  → J γ p l e R s m args below meth c 5 false κ0 w0.1 Q w 38 [(0, vL0), (1, .int xL1), (2, vL2), (3, .int xL3), (4, vL4)] [] := by
    intro vL0 xL1 vL2 xL3 vL4 r_vL0 r_vL2 r_vL4 w hP
    unfold B_J2_add_3r_j38 at hP
    refine J_aload (i := 4) X dJ2_add_3_38 4 rfl r_vL4 ?_
    refine J_iload_n (i := 1) X dJ2_add_3_40 rfl 1 rfl ?_
    refine J_aload (i := 4) X dJ2_add_3_41 4 rfl r_vL4 ?_
    refine J_iload_n (i := 1) X dJ2_add_3_43 rfl 1 rfl ?_
    refine J_iconst (v := 1) X dJ2_add_3_44 (by decide) ?_
    refine J_iadd X dJ2_add_3_45 ?_
    refine J_iload_n (i := 3) X dJ2_add_3_46 rfl 3 rfl ?_
    refine J_iload_n (i := 1) X dJ2_add_3_47 rfl 1 rfl ?_
    refine J_isub X dJ2_add_3_48 ?_
    refine J_rcp X hP q2036 q464 q463 q106 (by decide) (by simp [cat_int, cat_long] <;> decide) dJ2_add_3_49 (fun w1 hP => ?_)
    refine J_aload (i := 4) X dJ2_add_3_52 4 rfl r_vL4 ?_
    refine J_iload_n (i := 1) X dJ2_add_3_54 rfl 1 rfl ?_
    refine J_aload_n (i := 2) X dJ2_add_3_55 rfl 2 rfl r_vL2 ?_
    refine J_rst X hP dJ2_add_3_56 (fun w2 hP => ?_)
    refine J_aload_n (i := 0) X dJ2_add_3_57 rfl 0 rfl r_vL0 ?_
    refine J_iload_n (i := 3) X dJ2_add_3_58 rfl 3 rfl ?_
    refine J_iconst (v := 1) X dJ2_add_3_59 (by decide) ?_
    refine J_iadd X dJ2_add_3_60 ?_
    refine J_pfi X hP rfl in_J2 tyJ2_ok nmJ2 (by decide) (Or.inl ⟨q176, rfl⟩) ⟨rfl, rfl⟩ dJ2_add_3_61 (fun w3 hP => ?_)
    exact J_vret X rfl dJ2_add_3_64 hP
  unfold B_J2_add_3r at hP
  refine J_aload_n (i := 0) X dJ2_add_3_0 rfl 0 rfl r_aA0 ?_
  refine J_iload_n (i := 1) X dJ2_add_3_1 rfl 1 rfl ?_
  obtain ⟨hrc, hP⟩ := hP
  refine J_cV X (ci := 20) rfl (ct_J2_rangeCheckForAddr hG) (lw_V q2973 q2975 qs87 q94 q2976) hd_J2_rangeCheckForAddr ⟨Nat.le_of_ble_eq_true rfl, Nat.le_of_ble_eq_true rfl⟩ dJ2_add_3_2 (avs := [.int xA1]) rfl rfl hrc (by decide) ⟨_, _, rfl, r_aA0, hP⟩ (krv fun w4 hP => ?_)
  refine J_aload_n (i := 0) X dJ2_add_3_5 rfl 0 rfl r_aA0 ?_
  refine J_dup X dJ2_add_3_6 (isr_cat r_aA0) ?_
  refine J_gfiS (T := TJ2) (i := 0) X hP rfl in_J2 (by decide) q180 q179 dJ2_add_3_7 (fun x5 hP => ?_)
  refine J_iconst (v := 1) X dJ2_add_3_10 (by decide) ?_
  refine J_iadd X dJ2_add_3_11 ?_
  refine J_pfiS (T := TJ2) (i := 0) X hP rfl in_J2 tyJ2_ok nmJ2 (by decide) q180 q179 rfl ⟨rfl, rfl⟩ dJ2_add_3_12 (fun w6 hP => ?_)
  refine J_aload_n (i := 0) X dJ2_add_3_15 rfl 0 rfl r_aA0 ?_
  refine J_gfi X hP rfl in_J2 (by decide) q176 dJ2_add_3_16 (fun x7 hP => ?_)
  refine J_dup X dJ2_add_3_19 (rfl) ?_
  refine J_istore_n (i := 3) X dJ2_add_3_20 rfl (by decide) ⟨.inl (Nat.ne_of_beq_eq_false rfl), .inl (Nat.ne_of_beq_eq_false rfl), .inr (isr_cat r_aA2), trivial⟩ rfl ?_
  refine J_aload_n (i := 0) X dJ2_add_3_21 rfl 1 rfl r_aA0 ?_
  refine J_gfr X hP rfl in_J2 (by decide) q173 dJ2_add_3_22 (fun v8 r_v8 hP => ?_)
  refine J_dup X dJ2_add_3_25 (isr_cat r_v8) ?_
  refine J_astore (i := 4) X dJ2_add_3_26 (by decide) r_v8 ⟨.inr rfl, .inl (Nat.ne_of_beq_eq_false rfl), .inl (Nat.ne_of_beq_eq_false rfl), .inl (Nat.ne_of_beq_eq_false rfl), trivial⟩ rfl ?_
  refine J_rln X hP dJ2_add_3_28 (fun x9 hP => ?_)
  refine J_icmp_ne (tgt := 38) X dJ2_add_3_29 (by decide) (fun c9 => ?_) (fun c9 => ?_)
  · have hP := hP.2 c9
    refine J_sub [2, 3, 4, 1, 0] rfl ?_
    exact j38 _ _ _ _ _ r_aA0 r_aA2 r_v8 _ hP
  · have hP := hP.1 c9
    refine J_aload_n (i := 0) X dJ2_add_3_32 rfl 2 rfl r_aA0 ?_
    obtain ⟨hrc, hP⟩ := hP
    refine J_cV X (ci := 20) rfl (ct_J2_growr hG) (lw_V q847 q849 qs10 q94 q850) hd_J2_growr ⟨Nat.le_of_ble_eq_true rfl, Nat.le_of_ble_eq_true rfl⟩ dJ2_add_3_33 (avs := []) rfl rfl hrc (by decide) ⟨_, rfl, r_aA0, hP⟩ (krr fun v11 w10 r_v11 hP => ?_)
    refine J_astore (i := 4) X dJ2_add_3_36 (by decide) r_v11 ⟨.inl (Nat.ne_of_beq_eq_false rfl), .inr rfl, .inl (Nat.ne_of_beq_eq_false rfl), .inl (Nat.ne_of_beq_eq_false rfl), .inl (Nat.ne_of_beq_eq_false rfl), trivial⟩ rfl ?_
    refine J_sub [2, 3, 4, 1, 0] rfl ?_
    exact j38 _ _ _ _ _ r_aA0 r_aA2 r_v11 _ hP
theorem hd_J2_fastRemover : yJ2_fastRemove.cls = RJ2 ∧ yJ2_fastRemove.cls ≠ "java/lang/invoke/MethodHandle" ∧ yJ2_fastRemove.cls ≠ "java/lang/invoke/VarHandle" ∧ (parseMethodDescriptor yJ2_fastRemove.desc).map (fun d => d.parameters.length) = some 2 := by decide +kernel
def B_J2_fastRemover_j34 (vL0 : Value) (vL1 : Value) (xL3 : Int32) (w : AW) (Q : AOut → AW → Prop) : Prop :=
  pfi w vL0 20 2 xL3 fun w1 =>
  rst w1 vL1 xL3 .null fun w2 =>
  Q (.inl none) w2
def B_J2_fastRemover (aA0 : Value) (aA1 : Value) (xA2 : Int32) (w0 : AW) (Q : AOut → AW → Prop) : Prop :=
  gfi w0 aA0 20 0 fun x3 =>
  pfi w0 aA0 20 0 (x3 + (1 : Int32)) fun w4 =>
  gfi w4 aA0 20 2 fun x5 =>
  br ((x5 - (1 : Int32)) ≤ xA2) (B_J2_fastRemover_j34 aA0 aA1 (x5 - (1 : Int32)) w4 Q ) (rcp w4 aA1 (xA2 + (1 : Int32)) aA1 xA2 ((x5 - (1 : Int32)) - xA2) fun w6 =>
  B_J2_fastRemover_j34 aA0 aA1 (x5 - (1 : Int32)) w6 Q )
def P_J2_fastRemover : PP := fun avs w0 Q => ∃ (aA0 : Value) (aA1 : Value) (xA2 : Int32), avs = [aA0, aA1, .int xA2] ∧ isr aA0 ∧ isr aA1 ∧ B_J2_fastRemover aA0 aA1 xA2 w0 Q
theorem ct_J2_fastRemover {γ : GG} (hG : Gm γ) : CT γ yJ2_fastRemove cJ2_fastRemove 4 none 2 P_J2_fastRemover := by
  refine CT_of (own := RJ2) hG (by decide +kernel) rfl ?_ ?_
  · rintro avs w Q ⟨aA0, aA1, xA2, rfl, r_aA0, r_aA1, hP⟩
    simp [lv_args, cat_int, cat_long, cat_float, cat_double, isr_cat r_aA0, isr_cat r_aA1]
  intro p l e R s m args below meth c κ0 w0 avs Q X hin hP
  obtain ⟨aA0, aA1, xA2, rfl, r_aA0, r_aA1, hP⟩ := hP
  have hls : lv_args 0 [aA0, aA1, .int xA2] = [(0, aA0), (1, aA1), (2, .int xA2)] := by simp [lv_args, cat_int, cat_long, cat_float, cat_double, isr_cat r_aA0, isr_cat r_aA1]
  rw [hls]
  have j34 : ∀ (vL0 : Value) (vL1 : Value) (xL3 : Int32) (r_vL0 : isr vL0) (r_vL1 : isr vL1) (w : AW), B_J2_fastRemover_j34 vL0 vL1 xL3 w Q  → J γ p l e R s m args below meth c 4 false κ0 w0.1 Q w 34 [(0, vL0), (1, vL1), (3, .int xL3)] [] := by
    intro vL0 vL1 xL3 r_vL0 r_vL1 w hP
    unfold B_J2_fastRemover_j34 at hP
    refine J_aload_n (i := 1) X dJ2_fastRemove_34 rfl 1 rfl r_vL1 ?_
    refine J_aload_n (i := 0) X dJ2_fastRemove_35 rfl 0 rfl r_vL0 ?_
    refine J_iload_n (i := 3) X dJ2_fastRemove_36 rfl 2 rfl ?_
    refine J_dupx1 X dJ2_fastRemove_37 (rfl) (isr_cat r_vL0) ?_
    refine J_pfi X hP rfl in_J2 tyJ2_ok nmJ2 (by decide) (Or.inl ⟨q176, rfl⟩) ⟨rfl, rfl⟩ dJ2_fastRemove_38 (fun w1 hP => ?_)
    refine J_null X dJ2_fastRemove_41 ?_
    refine J_rst X hP dJ2_fastRemove_42 (fun w2 hP => ?_)
    exact J_vret X rfl dJ2_fastRemove_43 hP
  unfold B_J2_fastRemover at hP
  refine J_aload_n (i := 0) X dJ2_fastRemove_0 rfl 0 rfl r_aA0 ?_
  refine J_dup X dJ2_fastRemove_1 (isr_cat r_aA0) ?_
  refine J_gfiS (T := TJ2) (i := 0) X hP rfl in_J2 (by decide) q180 q179 dJ2_fastRemove_2 (fun x3 hP => ?_)
  refine J_iconst (v := 1) X dJ2_fastRemove_5 (by decide) ?_
  refine J_iadd X dJ2_fastRemove_6 ?_
  refine J_pfiS (T := TJ2) (i := 0) X hP rfl in_J2 tyJ2_ok nmJ2 (by decide) q180 q179 rfl ⟨rfl, rfl⟩ dJ2_fastRemove_7 (fun w4 hP => ?_)
  refine J_aload_n (i := 0) X dJ2_fastRemove_10 rfl 0 rfl r_aA0 ?_
  refine J_gfi X hP rfl in_J2 (by decide) q176 dJ2_fastRemove_11 (fun x5 hP => ?_)
  refine J_iconst (v := 1) X dJ2_fastRemove_14 (by decide) ?_
  refine J_isub X dJ2_fastRemove_15 ?_
  refine J_dup X dJ2_fastRemove_16 (rfl) ?_
  refine J_istore_n (i := 3) X dJ2_fastRemove_17 rfl (by decide) ⟨.inl (Nat.ne_of_beq_eq_false rfl), .inl (Nat.ne_of_beq_eq_false rfl), .inr rfl, trivial⟩ rfl ?_
  refine J_iload_n (i := 2) X dJ2_fastRemove_18 rfl 3 rfl ?_
  refine J_icmp_le (tgt := 34) X dJ2_fastRemove_19 (by decide) (fun c9 => ?_) (fun c9 => ?_)
  · have hP := hP.1 c9
    refine J_sub [1, 2, 0] rfl ?_
    exact j34 _ _ _ r_aA0 r_aA1 _ hP
  · have hP := hP.2 c9
    refine J_aload_n (i := 1) X dJ2_fastRemove_22 rfl 2 rfl r_aA1 ?_
    refine J_iload_n (i := 2) X dJ2_fastRemove_23 rfl 3 rfl ?_
    refine J_iconst (v := 1) X dJ2_fastRemove_24 (by decide) ?_
    refine J_iadd X dJ2_fastRemove_25 ?_
    refine J_aload_n (i := 1) X dJ2_fastRemove_26 rfl 2 rfl r_aA1 ?_
    refine J_iload_n (i := 2) X dJ2_fastRemove_27 rfl 3 rfl ?_
    refine J_iload_n (i := 3) X dJ2_fastRemove_28 rfl 0 rfl ?_
    refine J_iload_n (i := 2) X dJ2_fastRemove_29 rfl 3 rfl ?_
    refine J_isub X dJ2_fastRemove_30 ?_
    refine J_rcp X hP q2036 q464 q463 q106 (by decide) (by simp [cat_int, cat_long] <;> decide) dJ2_fastRemove_31 (fun w6 hP => ?_)
    refine J_sub [1, 2, 0] rfl ?_
    exact j34 _ _ _ r_aA0 r_aA1 _ hP
theorem hd_J2_remove_2r : yJ2_remove_2.cls = RJ2 ∧ yJ2_remove_2.cls ≠ "java/lang/invoke/MethodHandle" ∧ yJ2_remove_2.cls ≠ "java/lang/invoke/VarHandle" ∧ (parseMethodDescriptor yJ2_remove_2.desc).map (fun d => d.parameters.length) = some 1 := by decide +kernel
def B_J2_remove_2r (aA0 : Value) (xA1 : Int32) (w0 : AW) (Q : AOut → AW → Prop) : Prop :=
  gfi w0 aA0 20 2 fun x1 =>
  B_J15_checkIndexr xA1 x1 w0 <| ri (Kx := nx) fun x3 w2 =>
  gfr w2 aA0 20 1 fun v4 =>
  rld w2 v4 xA1 fun v5 =>
  rcc w2 aA0 20 <|
  B_J2_fastRemover aA0 v4 xA1 w2 <| rvo (Kx := nx) fun w6 =>
  Q (.inl (some v5)) w6
def P_J2_remove_2r : PP := fun avs w0 Q => ∃ (aA0 : Value) (xA1 : Int32), avs = [aA0, .int xA1] ∧ isr aA0 ∧ B_J2_remove_2r aA0 xA1 w0 Q
theorem ct_J2_remove_2r {γ : GG} (hG : Gm γ) : CT γ yJ2_remove_2 cJ2_remove_2 4 (some (.object "java/lang/Object")) 3 P_J2_remove_2r := by
  refine CT_of (own := RJ2) hG (by decide +kernel) rfl ?_ ?_
  · rintro avs w Q ⟨aA0, xA1, rfl, r_aA0, hP⟩
    simp [lv_args, cat_int, cat_long, cat_float, cat_double, isr_cat r_aA0]
  intro p l e R s m args below meth c κ0 w0 avs Q X hin hP
  obtain ⟨aA0, xA1, rfl, r_aA0, hP⟩ := hP
  have hls : lv_args 0 [aA0, .int xA1] = [(0, aA0), (1, .int xA1)] := by simp [lv_args, cat_int, cat_long, cat_float, cat_double, isr_cat r_aA0]
  rw [hls]
  unfold B_J2_remove_2r at hP
  refine J_iload_n (i := 1) X dJ2_remove_2_0 rfl 1 rfl ?_
  refine J_aload_n (i := 0) X dJ2_remove_2_1 rfl 0 rfl r_aA0 ?_
  refine J_gfi X hP rfl in_J2 (by decide) q176 dJ2_remove_2_2 (fun x1 hP => ?_)
  refine J_cS X (ct_J15_checkIndexr hG) (lw_S q320 q321 q113 q322) hd_J15_checkIndexr.2 ⟨Nat.le_of_ble_eq_true rfl, Nat.le_of_ble_eq_true rfl⟩ dJ2_remove_2_5 (avs := [.int xA1, .int x1]) rfl rfl (by decide) ⟨_, _, rfl, hP⟩ (kri fun x3 w2 hP => ?_)
  refine J_pop X dJ2_remove_2_8 (rfl) ?_
  refine J_aload_n (i := 0) X dJ2_remove_2_9 rfl 0 rfl r_aA0 ?_
  refine J_gfr X hP rfl in_J2 (by decide) q173 dJ2_remove_2_10 (fun v4 r_v4 hP => ?_)
  refine J_astore_n (i := 2) X dJ2_remove_2_13 rfl (by decide) r_v4 ⟨.inl (Nat.ne_of_beq_eq_false rfl), .inr rfl, trivial⟩ rfl ?_
  refine J_aload_n (i := 2) X dJ2_remove_2_14 rfl 0 rfl r_v4 ?_
  refine J_iload_n (i := 1) X dJ2_remove_2_15 rfl 2 rfl ?_
  refine J_rld X hP dJ2_remove_2_16 (fun v5 r_v5 hP => ?_)
  refine J_astore_n (i := 3) X dJ2_remove_2_17 rfl (by decide) r_v5 ⟨.inr (isr_cat r_v4), .inl (Nat.ne_of_beq_eq_false rfl), .inl (Nat.ne_of_beq_eq_false rfl), trivial⟩ rfl ?_
  refine J_aload_n (i := 0) X dJ2_remove_2_18 rfl 2 rfl r_aA0 ?_
  refine J_aload_n (i := 2) X dJ2_remove_2_19 rfl 1 rfl r_v4 ?_
  refine J_iload_n (i := 1) X dJ2_remove_2_20 rfl 3 rfl ?_
  obtain ⟨hrc, hP⟩ := hP
  refine J_cV X (ci := 20) rfl (ct_J2_fastRemover hG) (lw_V q2032 q2034 qs40 q94 q2035) hd_J2_fastRemover ⟨Nat.le_of_ble_eq_true rfl, Nat.le_of_ble_eq_true rfl⟩ dJ2_remove_2_21 (avs := [v4, .int xA1]) rfl rfl hrc (by decide) ⟨_, _, _, rfl, r_aA0, r_v4, hP⟩ (krv fun w6 hP => ?_)
  refine J_aload_n (i := 3) X dJ2_remove_2_24 rfl 0 rfl r_v5 ?_
  exact J_aret X rfl (by first | exact Or.inl ⟨_, rfl⟩ | exact Or.inr ⟨_, rfl⟩) r_v5 dJ2_remove_2_25 hP
theorem hd_J35_equalsr : yJ35_equals.cls = RJ35 ∧ yJ35_equals.cls ≠ "java/lang/invoke/MethodHandle" ∧ yJ35_equals.cls ≠ "java/lang/invoke/VarHandle" ∧ (parseMethodDescriptor yJ35_equals.desc).map (fun d => d.parameters.length) = some 1 := by decide +kernel
def B_J35_equalsr (aA0 : Value) (aA1 : Value) (w0 : AW) (Q : AOut → AW → Prop) : Prop :=
  aqx aA0 aA1 <|
  br (aA0 = aA1) (rtz .boolean (1 : Int32) <| Q (.inl (some (.int (1 : Int32)))) w0) (rtz .boolean (0 : Int32) <| Q (.inl (some (.int (0 : Int32)))) w0)
def P_J35_equalsr : PP := fun avs w0 Q => ∃ (aA0 : Value) (aA1 : Value), avs = [aA0, aA1] ∧ isr aA0 ∧ isr aA1 ∧ B_J35_equalsr aA0 aA1 w0 Q
theorem ct_J35_equalsr {γ : GG} (hG : Gm γ) : CT γ yJ35_equals cJ35_equals 2 (some .boolean) 1 P_J35_equalsr := by
  refine CT_ofF (own := RJ35) hG (by decide +kernel) rfl ?_ ?_
  · rintro avs w Q ⟨aA0, aA1, rfl, r_aA0, r_aA1, hP⟩
    simp [lv_args, cat_int, cat_long, cat_float, cat_double, isr_cat r_aA0, isr_cat r_aA1]
  intro p l e R s m args below meth c κ0 w0 avs Q X hin hP
  obtain ⟨aA0, aA1, rfl, r_aA0, r_aA1, hP⟩ := hP
  have hls : lv_args 0 [aA0, aA1] = [(0, aA0), (1, aA1)] := by simp [lv_args, cat_int, cat_long, cat_float, cat_double, isr_cat r_aA0, isr_cat r_aA1]
  rw [hls]
  unfold B_J35_equalsr at hP
  refine J_aload_n (i := 0) X dJ35_equals_0 rfl 0 rfl r_aA0 ?_
  refine J_aload_n (i := 1) X dJ35_equals_1 rfl 1 rfl r_aA1 ?_
  obtain ⟨hu, hv, hP⟩ := hP
  refine J_acmx_ne (tgt := 9) X dJ35_equals_2 (by decide) hv hu (fun c9 => ?_) (fun c9 => ?_)
  · have hP := hP.2 c9
    refine J_iconst (v := 0) X dJ35_equals_9 (by decide) ?_
    obtain ⟨hn, hP⟩ := hP
    exact J_iret X rfl hn dJ35_equals_10 hP
  · have hP := hP.1 c9
    refine J_iconst (v := 1) X dJ35_equals_5 (by decide) ?_
    refine J_goto (tgt := 10) X dJ35_equals_6 (by decide) ?_
    obtain ⟨hn, hP⟩ := hP
    exact J_iret X rfl hn dJ35_equals_10 hP
theorem hd_J23_intValuer : yJ23_intValue.cls = RJ23 ∧ yJ23_intValue.cls ≠ "java/lang/invoke/MethodHandle" ∧ yJ23_intValue.cls ≠ "java/lang/invoke/VarHandle" ∧ (parseMethodDescriptor yJ23_intValue.desc).map (fun d => d.parameters.length) = some 0 := by decide +kernel
def B_J23_intValuer (aA0 : Value) (w0 : AW) (Q : AOut → AW → Prop) : Prop :=
  gbx aA0 fun x1 =>
  Q (.inl (some (.int x1))) w0
def P_J23_intValuer : PP := fun avs w0 Q => ∃ (aA0 : Value), avs = [aA0] ∧ isr aA0 ∧ B_J23_intValuer aA0 w0 Q
theorem ct_J23_intValuer {γ : GG} (hG : Gm γ) : CT γ yJ23_intValue cJ23_intValue 1 (some .int) 1 P_J23_intValuer := by
  refine CT_of (own := RJ23) hG (by decide +kernel) rfl ?_ ?_
  · rintro avs w Q ⟨aA0, rfl, r_aA0, hP⟩
    simp [lv_args, cat_int, cat_long, cat_float, cat_double, isr_cat r_aA0]
  intro p l e R s m args below meth c κ0 w0 avs Q X hin hP
  obtain ⟨aA0, rfl, r_aA0, hP⟩ := hP
  have hls : lv_args 0 [aA0] = [(0, aA0)] := by simp [lv_args, cat_int, cat_long, cat_float, cat_double, isr_cat r_aA0]
  rw [hls]
  unfold B_J23_intValuer at hP
  refine J_aload_n (i := 0) X dJ23_intValue_0 rfl 0 rfl r_aA0 ?_
  refine J_gbx X hP in_J23 q1454 dJ23_intValue_1 (fun x1 hP => ?_)
  exact J_iret X rfl rfl dJ23_intValue_4 hP
theorem hd_J23_equalsr : yJ23_equals.cls = RJ23 ∧ yJ23_equals.cls ≠ "java/lang/invoke/MethodHandle" ∧ yJ23_equals.cls ≠ "java/lang/invoke/VarHandle" ∧ (parseMethodDescriptor yJ23_equals.desc).map (fun d => d.parameters.length) = some 1 := by decide +kernel
def B_J23_equalsr (aA0 : Value) (aA1 : Value) (w0 : AW) (Q : AOut → AW → Prop) : Prop :=
  ckb aA1 <|
  br ((1 : Int32) = 0) (rtz .boolean (0 : Int32) <| Q (.inl (some (.int (0 : Int32)))) w0) (gbx aA0 fun x1 =>
  ckb aA1 <|
  rcc w0 aA1 23 <|
  B_J23_intValuer aA1 w0 <| ri (Kx := nx) fun x3 w2 =>
  br (x1 = x3) (rtz .boolean (1 : Int32) <| Q (.inl (some (.int (1 : Int32)))) w2) (rtz .boolean (0 : Int32) <| Q (.inl (some (.int (0 : Int32)))) w2))
def P_J23_equalsr : PP := fun avs w0 Q => ∃ (aA0 : Value) (aA1 : Value), avs = [aA0, aA1] ∧ isr aA0 ∧ isr aA1 ∧ B_J23_equalsr aA0 aA1 w0 Q
theorem ct_J23_equalsr {γ : GG} (hG : Gm γ) : CT γ yJ23_equals cJ23_equals 2 (some .boolean) 2 P_J23_equalsr := by
  refine CT_of (own := RJ23) hG (by decide +kernel) rfl ?_ ?_
  · rintro avs w Q ⟨aA0, aA1, rfl, r_aA0, r_aA1, hP⟩
    simp [lv_args, cat_int, cat_long, cat_float, cat_double, isr_cat r_aA0, isr_cat r_aA1]
  intro p l e R s m args below meth c κ0 w0 avs Q X hin hP
  obtain ⟨aA0, aA1, rfl, r_aA0, r_aA1, hP⟩ := hP
  have hls : lv_args 0 [aA0, aA1] = [(0, aA0), (1, aA1)] := by simp [lv_args, cat_int, cat_long, cat_float, cat_double, isr_cat r_aA0, isr_cat r_aA1]
  rw [hls]
  unfold B_J23_equalsr at hP
  refine J_aload_n (i := 1) X dJ23_equals_0 rfl 1 rfl r_aA1 ?_
  refine J_insb X hP q1445 dJ23_equals_1 (fun hP => ?_)
  refine J_if_eq (tgt := 27) X dJ23_equals_4 (by decide) (fun c9 => ?_) (fun c9 => ?_)
  · have hP := hP.1 c9
    refine J_iconst (v := 0) X dJ23_equals_27 (by decide) ?_
    obtain ⟨hn, hP⟩ := hP
    exact J_iret X rfl hn dJ23_equals_28 hP
  · have hP := hP.2 c9
    refine J_aload_n (i := 0) X dJ23_equals_7 rfl 0 rfl r_aA0 ?_
    refine J_gbx X hP in_J23 q1454 dJ23_equals_8 (fun x1 hP => ?_)
    refine J_aload_n (i := 1) X dJ23_equals_11 rfl 1 rfl r_aA1 ?_
    refine J_ckb X hP q1445 (Or.inl rfl) dJ23_equals_12 (fun hP => ?_)
    obtain ⟨hrc, hP⟩ := hP
    refine J_cV X (ci := 23) rfl (ct_J23_intValuer hG) (lw_V q2002 q2003 q2004 q122 q2005) hd_J23_intValuer ⟨Nat.le_of_ble_eq_true rfl, Nat.le_of_ble_eq_true rfl⟩ dJ23_equals_15 (avs := []) rfl rfl hrc (by simp [cat_int, cat_long, cat_float, cat_double]) ⟨_, rfl, r_aA1, hP⟩ (kri fun x3 w2 hP => ?_)
    refine J_icmp_ne (tgt := 25) X dJ23_equals_18 (by decide) (fun c9 => ?_) (fun c9 => ?_)
    · have hP := hP.2 c9
      refine J_iconst (v := 0) X dJ23_equals_25 (by decide) ?_
      obtain ⟨hn, hP⟩ := hP
      exact J_iret X rfl hn dJ23_equals_26 hP
    · have hP := hP.1 c9
      refine J_iconst (v := 1) X dJ23_equals_21 (by decide) ?_
      refine J_goto (tgt := 26) X dJ23_equals_22 (by decide) ?_
      obtain ⟨hn, hP⟩ := hP
      exact J_iret X rfl hn dJ23_equals_26 hP
/-- equals of things, of Integers -/
def eqv (w : AW) (v u : Value) (K : Int32 → Prop) : Prop := ((rcv w v 6 ∧ isr u) ∨ ((∃ x, v = bx x) ∧ ∃ y, u = bx y)) ∧ K (if v = u then 1 else 0)
theorem bx_inj {x y : Int32} (h : bx x = bx y) : x = y := by
  have h1 : x.toBitVec.toNat = y.toBitVec.toNat := by simpa [bx] using h
  exact Int32.toBitVec_inj.mp (BitVec.eq_of_toNat_eq h1)
theorem rcv6 {w : AW} {v : Value} (h : rcv w v 6) : isx v := by
  rcases h with ⟨n, e, rfl, -, -⟩ | ⟨h, -⟩
  · trivial
  · exact absurd h (by decide)
theorem J_eqv {γ : GG} {p : Program} {l : Launch} {e : Env} {R : Room} {s : State} {m : MethodId} {args : Array Value} {below : List Frame} {meth : Method} {c : Code} {nL : Nat} {b : Bool} {κ0 : KK} {M0 : AM} {Q : AOut → AW → Prop} {w : AW} {pc : Nat} {ls : List (Nat × Value)} {rest : List Value} {cc : ByteArray} {own : String} {ret : Option FieldType} {D : Nat}
    (X : Cx γ p l R s m args meth c cc own nL ret D) (hG : Gm γ) {v u : Value} {index : Nat} {K : Int32 → Prop} (ho : own = RJ2 ∧ index = 93) (hP : eqv w v u K) (hv : isr v) (hu : isr u) (hrest : (rest.map fun v => v.category).sum ≤ 8) (hD : 3 ≤ D) (d : decode cc pc = .ok (.invokevirtual index, 3)) (k : ∀ x, K x → J γ p l e R s m args below meth c nL b κ0 M0 Q w (pc + 3) ls (.int x :: rest)) : J γ p l e R s m args below meth c nL b κ0 M0 Q w pc ls (u :: v :: rest) := by
  obtain ⟨rfl, rfl⟩ := ho
  obtain ⟨h, hK⟩ := hP
  have hd : ("java/lang/Object" : String) ≠ "java/lang/invoke/MethodHandle" ∧ ("java/lang/Object" : String) ≠ "java/lang/invoke/VarHandle" ∧ (parseMethodDescriptor "(Ljava/lang/Object;)Z").map (fun d => d.parameters.length) = some 1 := by decide +kernel
  rcases h with ⟨h1, h2⟩ | ⟨⟨x, rfl⟩, y, rfl⟩
  · refine J_cA X (ci := 6) (x := ⟨"java/lang/Object", "equals", "(Ljava/lang/Object;)Z"⟩) (owner := "java/lang/Object") rfl (ct_J35_equalsr hG) (lw_A q1974 q1976 q2014 q1975 q3035 q2031) q1973 (n := 1) hd ⟨by omega, by omega⟩ d (avs := [u]) rfl rfl h1 hrest (Q1 := fun o w9 => o = .inl (some (.int (if v = u then 1 else 0))) ∧ w9 = w) ⟨v, u, rfl, hv, hu, ?_⟩ (fun rv w9 h9 => ?_)
    · unfold B_J35_equalsr
      refine ⟨⟨hv, h2⟩, Or.inl (rcv6 h1), fun c9 => ?_, fun c9 => ?_⟩
      · exact ⟨rfl, by rw [if_pos c9], rfl⟩
      · exact ⟨rfl, by rw [if_neg c9], rfl⟩
    · obtain ⟨e1, rfl⟩ := h9
      cases e1
      exact k _ hK
  · refine J_cA X (ci := 23) (x := ⟨"java/lang/Object", "equals", "(Ljava/lang/Object;)Z"⟩) (owner := "java/lang/Object") rfl (ct_J23_equalsr hG) (lw_A q1974 q1976 q2026 q2000 q122 q2001) q1973 (n := 1) hd ⟨by omega, by omega⟩ d (avs := [bx y]) rfl rfl (Or.inr ⟨rfl, x, rfl⟩) hrest (Q1 := fun o w9 => o = .inl (some (.int (if bx x = bx y then 1 else 0))) ∧ w9 = w) ⟨bx x, bx y, rfl, hv, hu, ?_⟩ (fun rv w9 h9 => ?_)
    · unfold B_J23_equalsr
      refine ⟨⟨y, rfl⟩, fun c9 => absurd c9 (by decide), fun _ => ⟨x, rfl, ⟨y, rfl⟩, Or.inr ⟨rfl, y, rfl⟩, ?_⟩⟩
      unfold B_J23_intValuer
      refine ⟨y, rfl, fun c9 => ⟨rfl, ?_, rfl⟩, fun c9 => ⟨rfl, ?_, rfl⟩⟩
      · rw [if_pos (congrArg bx c9)]
      · rw [if_neg fun h => c9 (bx_inj h)]
    · obtain ⟨e1, rfl⟩ := h9
      cases e1
      exact k _ hK
theorem hd_J2_remover : yJ2_remove.cls = RJ2 ∧ yJ2_remove.cls ≠ "java/lang/invoke/MethodHandle" ∧ yJ2_remove.cls ≠ "java/lang/invoke/VarHandle" ∧ (parseMethodDescriptor yJ2_remove.desc).map (fun d => d.parameters.length) = some 1 := by decide +kernel
def B_J2_remover_j67 (vL0 : Value) (vL2 : Value) (xL4 : Int32) (w : AW) (Q : AOut → AW → Prop) : Prop :=
  rcc w vL0 20 <|
  B_J2_fastRemover vL0 vL2 xL4 w <| rvo (Kx := nx) fun w1 =>
  rtz .boolean (1 : Int32) <| Q (.inl (some (.int (1 : Int32)))) w1
def B_J2_remover_L39 (vL0 : Value) (vL1 : Value) (vL2 : Value) (xL3 : Int32) (xL4 : Int32) (w : AW) (Q : AOut → AW → Prop)  (k39 : Int32 × AW → Prop) : Prop :=
  br (xL3 ≤ xL4) (rtz .boolean (0 : Int32) <| Q (.inl (some (.int (0 : Int32)))) w) (rld w vL2 xL4 fun v2 =>
  eqv w vL1 v2 fun x3 =>
  br (x3 = 0) (k39 ((xL4 + 1), w)) (B_J2_remover_j67 vL0 vL2 xL4 w Q ))
def B_J2_remover_F39 (vL0 : Value) (vL1 : Value) (vL2 : Value) (xL3 : Int32) (Q : AOut → AW → Prop)  : (Int32 × AW) → ((Int32 × AW) → Prop) → Prop := fun z k => B_J2_remover_L39 vL0 vL1 vL2 xL3 z.1 z.2 Q  k
def B_J2_remover_L17 (vL0 : Value) (vL2 : Value) (xL3 : Int32) (xL4 : Int32) (w : AW) (Q : AOut → AW → Prop)  (k17 : Int32 × AW → Prop) : Prop :=
  br (xL3 ≤ xL4) (rtz .boolean (0 : Int32) <| Q (.inl (some (.int (0 : Int32)))) w) (rld w vL2 xL4 fun v4 =>
  br (v4 = .null) (B_J2_remover_j67 vL0 vL2 xL4 w Q ) (k17 ((xL4 + 1), w)))
def B_J2_remover_F17 (vL0 : Value) (vL2 : Value) (xL3 : Int32) (Q : AOut → AW → Prop)  : (Int32 × AW) → ((Int32 × AW) → Prop) → Prop := fun z k => B_J2_remover_L17 vL0 vL2 xL3 z.1 z.2 Q  k
def B_J2_remover (aA0 : Value) (aA1 : Value) (w0 : AW) (Q : AOut → AW → Prop) : Prop :=
  gfr w0 aA0 20 1 fun v5 =>
  gfi w0 aA0 20 2 fun x6 =>
  br (aA1 = .null) (Lp (B_J2_remover_F17 aA0 v5 x6 Q ) ((0 : Int32), w0)) (Lp (B_J2_remover_F39 aA0 aA1 v5 x6 Q ) ((0 : Int32), w0))
def P_J2_remover : PP := fun avs w0 Q => ∃ (aA0 : Value) (aA1 : Value), avs = [aA0, aA1] ∧ isr aA0 ∧ isr aA1 ∧ B_J2_remover aA0 aA1 w0 Q
theorem ct_J2_remover {γ : GG} (hG : Gm γ) : CT γ yJ2_remove cJ2_remove 5 (some .boolean) 3 P_J2_remover := by
  refine CT_of (own := RJ2) hG (by decide +kernel) rfl ?_ ?_
  · rintro avs w Q ⟨aA0, aA1, rfl, r_aA0, r_aA1, hP⟩
    simp [lv_args, cat_int, cat_long, cat_float, cat_double, isr_cat r_aA0, isr_cat r_aA1]
  intro p l e R s m args below meth c κ0 w0 avs Q X hin hP
  obtain ⟨aA0, aA1, rfl, r_aA0, r_aA1, hP⟩ := hP
  have hls : lv_args 0 [aA0, aA1] = [(0, aA0), (1, aA1)] := by simp [lv_args, cat_int, cat_long, cat_float, cat_double, isr_cat r_aA0, isr_cat r_aA1]
  rw [hls]
  have j67 : ∀ (vL0 : Value) (vL2 : Value) (xL4 : Int32) (r_vL0 : isr vL0) (r_vL2 : isr vL2) (w : AW), B_J2_remover_j67 vL0 vL2 xL4 w Q  → J γ p l e R s m args below meth c 5 false κ0 w0.1 Q w 67 [(0, vL0), (2, vL2), (4, .int xL4)] [] := by
    intro vL0 vL2 xL4 r_vL0 r_vL2 w hP
    unfold B_J2_remover_j67 at hP
    refine J_aload_n (i := 0) X dJ2_remove_67 rfl 0 rfl r_vL0 ?_
    refine J_aload_n (i := 2) X dJ2_remove_68 rfl 1 rfl r_vL2 ?_
    refine J_iload (i := 4) X dJ2_remove_69 2 rfl ?_
    obtain ⟨hrc, hP⟩ := hP
    refine J_cV X (ci := 20) rfl (ct_J2_fastRemover hG) (lw_V q2032 q2034 qs40 q94 q2035) hd_J2_fastRemover ⟨Nat.le_of_ble_eq_true rfl, Nat.le_of_ble_eq_true rfl⟩ dJ2_remove_71 (avs := [vL2, .int xL4]) rfl rfl hrc (by decide) ⟨_, _, _, rfl, r_vL0, r_vL2, hP⟩ (krv fun w1 hP => ?_)
    refine J_iconst (v := 1) X dJ2_remove_74 (by decide) ?_
    obtain ⟨hn, hP⟩ := hP
    exact J_iret X rfl hn dJ2_remove_75 hP
  have L39 : ∀ (vL0 : Value) (vL1 : Value) (vL2 : Value) (xL3 : Int32) (r_vL0 : isr vL0) (r_vL1 : isr vL1) (r_vL2 : isr vL2) (n : Nat) (xL4 : Int32)  (w : AW), it_ (B_J2_remover_F39 vL0 vL1 vL2 xL3 Q ) n (xL4, w) → J γ p l e R s m args below meth c 5 false κ0 w0.1 Q w 39 [(0, vL0), (1, vL1), (2, vL2), (3, .int xL3), (4, .int xL4)] [] := by
    intro vL0 vL1 vL2 xL3 r_vL0 r_vL1 r_vL2 n
    induction n with
    | zero =>
      intro xL4 w hP
      exact hP.elim
    | succ n ih39 =>
      generalize hk39 : it_ (B_J2_remover_F39 vL0 vL1 vL2 xL3 Q ) n = k39 at ih39
      intro xL4 w hP
      have hP : B_J2_remover_L39 vL0 vL1 vL2 xL3 xL4 w Q  (it_ (B_J2_remover_F39 vL0 vL1 vL2 xL3 Q ) n) := hP
      rw [hk39] at hP
      unfold B_J2_remover_L39 at hP
      refine J_iload (i := 4) X dJ2_remove_39 4 rfl ?_
      refine J_iload_n (i := 3) X dJ2_remove_41 rfl 3 rfl ?_
      refine J_icmp_ge (tgt := 65) X dJ2_remove_42 (by decide) (fun c9 => ?_) (fun c9 => ?_)
      · have hP := hP.1 c9
        refine J_iconst (v := 0) X dJ2_remove_65 (by decide) ?_
        obtain ⟨hn, hP⟩ := hP
        exact J_iret X rfl hn dJ2_remove_66 hP
      · have hP := hP.2 c9
        refine J_aload_n (i := 1) X dJ2_remove_45 rfl 1 rfl r_vL1 ?_
        refine J_aload_n (i := 2) X dJ2_remove_46 rfl 2 rfl r_vL2 ?_
        refine J_iload (i := 4) X dJ2_remove_47 4 rfl ?_
        refine J_rld X hP dJ2_remove_49 (fun v2 r_v2 hP => ?_)
        refine J_eqv X hG ⟨rfl, rfl⟩ hP r_vL1 r_v2 (by decide) (by decide) dJ2_remove_50 (fun x3 hP => ?_)
        refine J_if_eq (tgt := 59) X dJ2_remove_53 (by decide) (fun c9 => ?_) (fun c9 => ?_)
        · have hP := hP.1 c9
          refine J_iinc (v := (xL4 + 1)) X dJ2_remove_59 4 rfl rfl (by decide) ⟨.inl (Nat.ne_of_beq_eq_false rfl), .inl (Nat.ne_of_beq_eq_false rfl), .inl (Nat.ne_of_beq_eq_false rfl), .inr rfl, .inl (Nat.ne_of_beq_eq_false rfl), trivial⟩ rfl ?_
          refine J_goto (tgt := 39) X dJ2_remove_62 (by decide) ?_
          refine J_sub [1, 2, 3, 4, 0] rfl ?_
          exact ih39 _  _ hP
        · have hP := hP.2 c9
          refine J_goto (tgt := 67) X dJ2_remove_56 (by decide) ?_
          refine J_sub [0, 2, 4] rfl ?_
          exact j67 _ _ _ r_vL0 r_vL2 _ hP
  have L17 : ∀ (vL0 : Value) (vL2 : Value) (xL3 : Int32) (r_vL0 : isr vL0) (r_vL2 : isr vL2) (n : Nat) (xL4 : Int32)  (w : AW), it_ (B_J2_remover_F17 vL0 vL2 xL3 Q ) n (xL4, w) → J γ p l e R s m args below meth c 5 false κ0 w0.1 Q w 17 [(0, vL0), (2, vL2), (3, .int xL3), (4, .int xL4)] [] := by
    intro vL0 vL2 xL3 r_vL0 r_vL2 n
    induction n with
    | zero =>
      intro xL4 w hP
      exact hP.elim
    | succ n ih17 =>
      generalize hk17 : it_ (B_J2_remover_F17 vL0 vL2 xL3 Q ) n = k17 at ih17
      intro xL4 w hP
      have hP : B_J2_remover_L17 vL0 vL2 xL3 xL4 w Q  (it_ (B_J2_remover_F17 vL0 vL2 xL3 Q ) n) := hP
      rw [hk17] at hP
      unfold B_J2_remover_L17 at hP
      refine J_iload (i := 4) X dJ2_remove_17 3 rfl ?_
      refine J_iload_n (i := 3) X dJ2_remove_19 rfl 2 rfl ?_
      refine J_icmp_ge (tgt := 65) X dJ2_remove_20 (by decide) (fun c9 => ?_) (fun c9 => ?_)
      · have hP := hP.1 c9
        refine J_iconst (v := 0) X dJ2_remove_65 (by decide) ?_
        obtain ⟨hn, hP⟩ := hP
        exact J_iret X rfl hn dJ2_remove_66 hP
      · have hP := hP.2 c9
        refine J_aload_n (i := 2) X dJ2_remove_23 rfl 1 rfl r_vL2 ?_
        refine J_iload (i := 4) X dJ2_remove_24 3 rfl ?_
        refine J_rld X hP dJ2_remove_26 (fun v4 r_v4 hP => ?_)
        refine J_ifnonnull (tgt := 33) X dJ2_remove_27 (by decide) r_v4 (fun c9 => ?_) (fun c9 => ?_)
        · have hP := hP.2 c9
          refine J_iinc (v := (xL4 + 1)) X dJ2_remove_33 3 rfl rfl (by decide) ⟨.inl (Nat.ne_of_beq_eq_false rfl), .inl (Nat.ne_of_beq_eq_false rfl), .inr rfl, .inl (Nat.ne_of_beq_eq_false rfl), trivial⟩ rfl ?_
          refine J_goto (tgt := 17) X dJ2_remove_36 (by decide) ?_
          refine J_sub [1, 2, 3, 0] rfl ?_
          exact ih17 _  _ hP
        · have hP := hP.1 c9
          refine J_goto (tgt := 67) X dJ2_remove_30 (by decide) ?_
          refine J_sub [0, 1, 3] rfl ?_
          exact j67 _ _ _ r_vL0 r_vL2 _ hP
  unfold B_J2_remover at hP
  refine J_aload_n (i := 0) X dJ2_remove_0 rfl 0 rfl r_aA0 ?_
  refine J_gfr X hP rfl in_J2 (by decide) q173 dJ2_remove_1 (fun v5 r_v5 hP => ?_)
  refine J_astore_n (i := 2) X dJ2_remove_4 rfl (by decide) r_v5 ⟨.inl (Nat.ne_of_beq_eq_false rfl), .inr (isr_cat r_aA1), trivial⟩ rfl ?_
  refine J_aload_n (i := 0) X dJ2_remove_5 rfl 1 rfl r_aA0 ?_
  refine J_gfi X hP rfl in_J2 (by decide) q176 dJ2_remove_6 (fun x6 hP => ?_)
  refine J_istore_n (i := 3) X dJ2_remove_9 rfl (by decide) ⟨.inr (isr_cat r_v5), .inl (Nat.ne_of_beq_eq_false rfl), .inl (Nat.ne_of_beq_eq_false rfl), trivial⟩ rfl ?_
  refine J_iconst (v := 0) X dJ2_remove_10 (by decide) ?_
  refine J_istore (i := 4) X dJ2_remove_11 (by decide) ⟨.inr rfl, .inl (Nat.ne_of_beq_eq_false rfl), .inl (Nat.ne_of_beq_eq_false rfl), .inl (Nat.ne_of_beq_eq_false rfl), trivial⟩ rfl ?_
  refine J_aload_n (i := 1) X dJ2_remove_13 rfl 4 rfl r_aA1 ?_
  refine J_ifnonnull (tgt := 39) X dJ2_remove_14 (by decide) r_aA1 (fun c9 => ?_) (fun c9 => ?_)
  · have hP := hP.2 c9
    refine J_sub [3, 4, 2, 1, 0] rfl ?_
    obtain ⟨n9, hP⟩ := hP
    exact L39 _ _ _ _ r_aA0 r_aA1 r_v5 n9 _  _ hP
  · have hP := hP.1 c9
    refine J_sub [3, 2, 1, 0] rfl ?_
    obtain ⟨n9, hP⟩ := hP
    exact L17 _ _ _ r_aA0 r_v5 n9 _  _ hP
theorem hd_J2_indexOfRanger : yJ2_indexOfRange.cls = RJ2 ∧ yJ2_indexOfRange.cls ≠ "java/lang/invoke/MethodHandle" ∧ yJ2_indexOfRange.cls ≠ "java/lang/invoke/VarHandle" ∧ (parseMethodDescriptor yJ2_indexOfRange.desc).map (fun d => d.parameters.length) = some 3 := by decide +kernel
def B_J2_indexOfRanger_L42 (vL1 : Value) (xL3 : Int32) (vL4 : Value) (xL5 : Int32) (w : AW) (Q : AOut → AW → Prop)  (k42 : Int32 × AW → Prop) : Prop :=
  br (xL3 ≤ xL5) (Q (.inl (some (.int (-1 : Int32)))) w) (rld w vL4 xL5 fun v1 =>
  eqv w vL1 v1 fun x2 =>
  br (x2 = 0) (k42 ((xL5 + 1), w)) (Q (.inl (some (.int xL5))) w))
def B_J2_indexOfRanger_F42 (vL1 : Value) (xL3 : Int32) (vL4 : Value) (Q : AOut → AW → Prop)  : (Int32 × AW) → ((Int32 × AW) → Prop) → Prop := fun z k => B_J2_indexOfRanger_L42 vL1 xL3 vL4 z.1 z.2 Q  k
def B_J2_indexOfRanger_L13 (xL3 : Int32) (vL4 : Value) (xL5 : Int32) (w : AW) (Q : AOut → AW → Prop)  (k13 : Int32 × AW → Prop) : Prop :=
  br (xL3 ≤ xL5) (Q (.inl (some (.int (-1 : Int32)))) w) (rld w vL4 xL5 fun v3 =>
  br (v3 = .null) (Q (.inl (some (.int xL5))) w) (k13 ((xL5 + 1), w)))
def B_J2_indexOfRanger_F13 (xL3 : Int32) (vL4 : Value) (Q : AOut → AW → Prop)  : (Int32 × AW) → ((Int32 × AW) → Prop) → Prop := fun z k => B_J2_indexOfRanger_L13 xL3 vL4 z.1 z.2 Q  k
def B_J2_indexOfRanger (aA0 : Value) (aA1 : Value) (xA2 : Int32) (xA3 : Int32) (w0 : AW) (Q : AOut → AW → Prop) : Prop :=
  gfr w0 aA0 20 1 fun v4 =>
  br (aA1 = .null) (Lp (B_J2_indexOfRanger_F13 xA3 v4 Q ) (xA2, w0)) (Lp (B_J2_indexOfRanger_F42 aA1 xA3 v4 Q ) (xA2, w0))
def P_J2_indexOfRanger : PP := fun avs w0 Q => ∃ (aA0 : Value) (aA1 : Value) (xA2 : Int32) (xA3 : Int32), avs = [aA0, aA1, .int xA2, .int xA3] ∧ isr aA0 ∧ isr aA1 ∧ B_J2_indexOfRanger aA0 aA1 xA2 xA3 w0 Q
theorem ct_J2_indexOfRanger {γ : GG} (hG : Gm γ) : CT γ yJ2_indexOfRange cJ2_indexOfRange 6 (some .int) 3 P_J2_indexOfRanger := by
  refine CT_of (own := RJ2) hG (by decide +kernel) rfl ?_ ?_
  · rintro avs w Q ⟨aA0, aA1, xA2, xA3, rfl, r_aA0, r_aA1, hP⟩
    simp [lv_args, cat_int, cat_long, cat_float, cat_double, isr_cat r_aA0, isr_cat r_aA1]
  intro p l e R s m args below meth c κ0 w0 avs Q X hin hP
  obtain ⟨aA0, aA1, xA2, xA3, rfl, r_aA0, r_aA1, hP⟩ := hP
  have hls : lv_args 0 [aA0, aA1, .int xA2, .int xA3] = [(0, aA0), (1, aA1), (2, .int xA2), (3, .int xA3)] := by simp [lv_args, cat_int, cat_long, cat_float, cat_double, isr_cat r_aA0, isr_cat r_aA1]
  rw [hls]
  have L42 : ∀ (vL1 : Value) (xL3 : Int32) (vL4 : Value) (r_vL1 : isr vL1) (r_vL4 : isr vL4) (n : Nat) (xL5 : Int32)  (w : AW), it_ (B_J2_indexOfRanger_F42 vL1 xL3 vL4 Q ) n (xL5, w) → J γ p l e R s m args below meth c 6 false κ0 w0.1 Q w 42 [(1, vL1), (3, .int xL3), (4, vL4), (5, .int xL5)] [] := by
    intro vL1 xL3 vL4 r_vL1 r_vL4 n
    induction n with
    | zero =>
      intro xL5 w hP
      exact hP.elim
    | succ n ih42 =>
      generalize hk42 : it_ (B_J2_indexOfRanger_F42 vL1 xL3 vL4 Q ) n = k42 at ih42
      intro xL5 w hP
      have hP : B_J2_indexOfRanger_L42 vL1 xL3 vL4 xL5 w Q  (it_ (B_J2_indexOfRanger_F42 vL1 xL3 vL4 Q ) n) := hP
      rw [hk42] at hP
      unfold B_J2_indexOfRanger_L42 at hP
      refine J_iload (i := 5) X dJ2_indexOfRange_42 3 rfl ?_
      refine J_iload_n (i := 3) X dJ2_indexOfRange_44 rfl 1 rfl ?_
      refine J_icmp_ge (tgt := 69) X dJ2_indexOfRange_45 (by decide) (fun c9 => ?_) (fun c9 => ?_)
      · have hP := hP.1 c9
        refine J_iconst (v := -1) X dJ2_indexOfRange_69 (by decide) ?_
        exact J_iret X rfl rfl dJ2_indexOfRange_70 hP
      · have hP := hP.2 c9
        refine J_aload_n (i := 1) X dJ2_indexOfRange_48 rfl 0 rfl r_vL1 ?_
        refine J_aload (i := 4) X dJ2_indexOfRange_49 2 rfl r_vL4 ?_
        refine J_iload (i := 5) X dJ2_indexOfRange_51 3 rfl ?_
        refine J_rld X hP dJ2_indexOfRange_53 (fun v1 r_v1 hP => ?_)
        refine J_eqv X hG ⟨rfl, rfl⟩ hP r_vL1 r_v1 (by decide) (by decide) dJ2_indexOfRange_54 (fun x2 hP => ?_)
        refine J_if_eq (tgt := 63) X dJ2_indexOfRange_57 (by decide) (fun c9 => ?_) (fun c9 => ?_)
        · have hP := hP.1 c9
          refine J_iinc (v := (xL5 + 1)) X dJ2_indexOfRange_63 3 rfl rfl (by decide) ⟨.inl (Nat.ne_of_beq_eq_false rfl), .inl (Nat.ne_of_beq_eq_false rfl), .inr (isr_cat r_vL4), .inl (Nat.ne_of_beq_eq_false rfl), trivial⟩ rfl ?_
          refine J_goto (tgt := 42) X dJ2_indexOfRange_66 (by decide) ?_
          refine J_sub [1, 2, 3, 0] rfl ?_
          exact ih42 _  _ hP
        · have hP := hP.2 c9
          refine J_iload (i := 5) X dJ2_indexOfRange_60 3 rfl ?_
          exact J_iret X rfl rfl dJ2_indexOfRange_62 hP
  have L13 : ∀ (xL3 : Int32) (vL4 : Value) (r_vL4 : isr vL4) (n : Nat) (xL5 : Int32)  (w : AW), it_ (B_J2_indexOfRanger_F13 xL3 vL4 Q ) n (xL5, w) → J γ p l e R s m args below meth c 6 false κ0 w0.1 Q w 13 [(3, .int xL3), (4, vL4), (5, .int xL5)] [] := by
    intro xL3 vL4 r_vL4 n
    induction n with
    | zero =>
      intro xL5 w hP
      exact hP.elim
    | succ n ih13 =>
      generalize hk13 : it_ (B_J2_indexOfRanger_F13 xL3 vL4 Q ) n = k13 at ih13
      intro xL5 w hP
      have hP : B_J2_indexOfRanger_L13 xL3 vL4 xL5 w Q  (it_ (B_J2_indexOfRanger_F13 xL3 vL4 Q ) n) := hP
      rw [hk13] at hP
      unfold B_J2_indexOfRanger_L13 at hP
      refine J_iload (i := 5) X dJ2_indexOfRange_13 2 rfl ?_
      refine J_iload_n (i := 3) X dJ2_indexOfRange_15 rfl 0 rfl ?_
      refine J_icmp_ge (tgt := 36) X dJ2_indexOfRange_16 (by decide) (fun c9 => ?_) (fun c9 => ?_)
      · have hP := hP.1 c9
        refine J_goto (tgt := 69) X dJ2_indexOfRange_36 (by decide) ?_
        refine J_iconst (v := -1) X dJ2_indexOfRange_69 (by decide) ?_
        exact J_iret X rfl rfl dJ2_indexOfRange_70 hP
      · have hP := hP.2 c9
        refine J_aload (i := 4) X dJ2_indexOfRange_19 1 rfl r_vL4 ?_
        refine J_iload (i := 5) X dJ2_indexOfRange_21 2 rfl ?_
        refine J_rld X hP dJ2_indexOfRange_23 (fun v3 r_v3 hP => ?_)
        refine J_ifnonnull (tgt := 30) X dJ2_indexOfRange_24 (by decide) r_v3 (fun c9 => ?_) (fun c9 => ?_)
        · have hP := hP.2 c9
          refine J_iinc (v := (xL5 + 1)) X dJ2_indexOfRange_30 2 rfl rfl (by decide) ⟨.inl (Nat.ne_of_beq_eq_false rfl), .inr (isr_cat r_vL4), .inl (Nat.ne_of_beq_eq_false rfl), trivial⟩ rfl ?_
          refine J_goto (tgt := 13) X dJ2_indexOfRange_33 (by decide) ?_
          refine J_sub [1, 2, 0] rfl ?_
          exact ih13 _  _ hP
        · have hP := hP.1 c9
          refine J_iload (i := 5) X dJ2_indexOfRange_27 2 rfl ?_
          exact J_iret X rfl rfl dJ2_indexOfRange_29 hP
  unfold B_J2_indexOfRanger at hP
  refine J_aload_n (i := 0) X dJ2_indexOfRange_0 rfl 0 rfl r_aA0 ?_
  refine J_gfr X hP rfl in_J2 (by decide) q173 dJ2_indexOfRange_1 (fun v4 r_v4 hP => ?_)
  refine J_astore (i := 4) X dJ2_indexOfRange_4 (by decide) r_v4 ⟨.inl (Nat.ne_of_beq_eq_false rfl), .inl (Nat.ne_of_beq_eq_false rfl), .inl (Nat.ne_of_beq_eq_false rfl), .inr rfl, trivial⟩ rfl ?_
  refine J_aload_n (i := 1) X dJ2_indexOfRange_6 rfl 2 rfl r_aA1 ?_
  refine J_ifnonnull (tgt := 39) X dJ2_indexOfRange_7 (by decide) r_aA1 (fun c9 => ?_) (fun c9 => ?_)
  · have hP := hP.2 c9
    refine J_iload_n (i := 2) X dJ2_indexOfRange_39 rfl 3 rfl ?_
    refine J_istore (i := 5) X dJ2_indexOfRange_40 (by decide) ⟨.inr (isr_cat r_v4), .inl (Nat.ne_of_beq_eq_false rfl), .inl (Nat.ne_of_beq_eq_false rfl), .inl (Nat.ne_of_beq_eq_false rfl), .inl (Nat.ne_of_beq_eq_false rfl), trivial⟩ rfl ?_
    refine J_sub [3, 5, 1, 0] rfl ?_
    obtain ⟨n9, hP⟩ := hP
    exact L42 _ _ _ r_aA1 r_v4 n9 _  _ hP
  · have hP := hP.1 c9
    refine J_iload_n (i := 2) X dJ2_indexOfRange_10 rfl 3 rfl ?_
    refine J_istore (i := 5) X dJ2_indexOfRange_11 (by decide) ⟨.inr (isr_cat r_v4), .inl (Nat.ne_of_beq_eq_false rfl), .inl (Nat.ne_of_beq_eq_false rfl), .inl (Nat.ne_of_beq_eq_false rfl), .inl (Nat.ne_of_beq_eq_false rfl), trivial⟩ rfl ?_
    refine J_sub [5, 1, 0] rfl ?_
    obtain ⟨n9, hP⟩ := hP
    exact L13 _ _ r_v4 n9 _  _ hP
theorem hd_J2_indexOfr : yJ2_indexOf.cls = RJ2 ∧ yJ2_indexOf.cls ≠ "java/lang/invoke/MethodHandle" ∧ yJ2_indexOf.cls ≠ "java/lang/invoke/VarHandle" ∧ (parseMethodDescriptor yJ2_indexOf.desc).map (fun d => d.parameters.length) = some 1 := by decide +kernel
def B_J2_indexOfr (aA0 : Value) (aA1 : Value) (w0 : AW) (Q : AOut → AW → Prop) : Prop :=
  gfi w0 aA0 20 2 fun x1 =>
  rcc w0 aA0 20 <|
  B_J2_indexOfRanger aA0 aA1 (0 : Int32) x1 w0 <| ri (Kx := nx) fun x3 w2 =>
  Q (.inl (some (.int x3))) w2
def P_J2_indexOfr : PP := fun avs w0 Q => ∃ (aA0 : Value) (aA1 : Value), avs = [aA0, aA1] ∧ isr aA0 ∧ isr aA1 ∧ B_J2_indexOfr aA0 aA1 w0 Q
theorem ct_J2_indexOfr {γ : GG} (hG : Gm γ) : CT γ yJ2_indexOf cJ2_indexOf 2 (some .int) 4 P_J2_indexOfr := by
  refine CT_of (own := RJ2) hG (by decide +kernel) rfl ?_ ?_
  · rintro avs w Q ⟨aA0, aA1, rfl, r_aA0, r_aA1, hP⟩
    simp [lv_args, cat_int, cat_long, cat_float, cat_double, isr_cat r_aA0, isr_cat r_aA1]
  intro p l e R s m args below meth c κ0 w0 avs Q X hin hP
  obtain ⟨aA0, aA1, rfl, r_aA0, r_aA1, hP⟩ := hP
  have hls : lv_args 0 [aA0, aA1] = [(0, aA0), (1, aA1)] := by simp [lv_args, cat_int, cat_long, cat_float, cat_double, isr_cat r_aA0, isr_cat r_aA1]
  rw [hls]
  unfold B_J2_indexOfr at hP
  refine J_aload_n (i := 0) X dJ2_indexOf_0 rfl 0 rfl r_aA0 ?_
  refine J_aload_n (i := 1) X dJ2_indexOf_1 rfl 1 rfl r_aA1 ?_
  refine J_iconst (v := 0) X dJ2_indexOf_2 (by decide) ?_
  refine J_aload_n (i := 0) X dJ2_indexOf_3 rfl 0 rfl r_aA0 ?_
  refine J_gfi X hP rfl in_J2 (by decide) q176 dJ2_indexOf_4 (fun x1 hP => ?_)
  obtain ⟨hrc, hP⟩ := hP
  refine J_cV X (ci := 20) rfl (ct_J2_indexOfRanger hG) (lw_V q2237 q2238 q2239 q94 q2240) hd_J2_indexOfRanger ⟨Nat.le_of_ble_eq_true rfl, Nat.le_of_ble_eq_true rfl⟩ dJ2_indexOf_7 (avs := [aA1, .int (0 : Int32), .int x1]) rfl rfl hrc (by decide) ⟨_, _, _, _, rfl, r_aA0, r_aA1, hP⟩ (kri fun x3 w2 hP => ?_)
  exact J_iret X rfl rfl dJ2_indexOf_10 hP
theorem hd_J2_containsr : yJ2_contains.cls = RJ2 ∧ yJ2_contains.cls ≠ "java/lang/invoke/MethodHandle" ∧ yJ2_contains.cls ≠ "java/lang/invoke/VarHandle" ∧ (parseMethodDescriptor yJ2_contains.desc).map (fun d => d.parameters.length) = some 1 := by decide +kernel
def B_J2_containsr (aA0 : Value) (aA1 : Value) (w0 : AW) (Q : AOut → AW → Prop) : Prop :=
  rcc w0 aA0 20 <|
  B_J2_indexOfr aA0 aA1 w0 <| ri (Kx := nx) fun x2 w1 =>
  br (x2 < 0) (rtz .boolean (0 : Int32) <| Q (.inl (some (.int (0 : Int32)))) w1) (rtz .boolean (1 : Int32) <| Q (.inl (some (.int (1 : Int32)))) w1)
def P_J2_containsr : PP := fun avs w0 Q => ∃ (aA0 : Value) (aA1 : Value), avs = [aA0, aA1] ∧ isr aA0 ∧ isr aA1 ∧ B_J2_containsr aA0 aA1 w0 Q
theorem ct_J2_containsr {γ : GG} (hG : Gm γ) : CT γ yJ2_contains cJ2_contains 2 (some .boolean) 5 P_J2_containsr := by
  refine CT_of (own := RJ2) hG (by decide +kernel) rfl ?_ ?_
  · rintro avs w Q ⟨aA0, aA1, rfl, r_aA0, r_aA1, hP⟩
    simp [lv_args, cat_int, cat_long, cat_float, cat_double, isr_cat r_aA0, isr_cat r_aA1]
  intro p l e R s m args below meth c κ0 w0 avs Q X hin hP
  obtain ⟨aA0, aA1, rfl, r_aA0, r_aA1, hP⟩ := hP
  have hls : lv_args 0 [aA0, aA1] = [(0, aA0), (1, aA1)] := by simp [lv_args, cat_int, cat_long, cat_float, cat_double, isr_cat r_aA0, isr_cat r_aA1]
  rw [hls]
  unfold B_J2_containsr at hP
  refine J_aload_n (i := 0) X dJ2_contains_0 rfl 0 rfl r_aA0 ?_
  refine J_aload_n (i := 1) X dJ2_contains_1 rfl 1 rfl r_aA1 ?_
  obtain ⟨hrc, hP⟩ := hP
  refine J_cV X (ci := 20) rfl (ct_J2_indexOfr hG) (lw_V q2233 q2234 q2235 q94 q2236) hd_J2_indexOfr ⟨Nat.le_of_ble_eq_true rfl, Nat.le_of_ble_eq_true rfl⟩ dJ2_contains_2 (avs := [aA1]) rfl rfl hrc (by decide) ⟨_, _, rfl, r_aA0, r_aA1, hP⟩ (kri fun x2 w1 hP => ?_)
  refine J_if_lt (tgt := 12) X dJ2_contains_5 (by decide) (fun c9 => ?_) (fun c9 => ?_)
  · have hP := hP.1 c9
    refine J_iconst (v := 0) X dJ2_contains_12 (by decide) ?_
    obtain ⟨hn, hP⟩ := hP
    exact J_iret X rfl hn dJ2_contains_13 hP
  · have hP := hP.2 c9
    refine J_iconst (v := 1) X dJ2_contains_8 (by decide) ?_
    refine J_goto (tgt := 13) X dJ2_contains_9 (by decide) ?_
    obtain ⟨hn, hP⟩ := hP
    exact J_iret X rfl hn dJ2_contains_13 hP
theorem hd_J17_initr : yJ17_init.cls = RJ17 ∧ yJ17_init.cls ≠ "java/lang/invoke/MethodHandle" ∧ yJ17_init.cls ≠ "java/lang/invoke/VarHandle" ∧ (parseMethodDescriptor yJ17_init.desc).map (fun d => d.parameters.length) = some 1 := by decide +kernel
def B_J17_initr (aA0 : Value) (aA1 : Value) (w0 : AW) (Q : AOut → AW → Prop) : Prop :=
  pfr w0 aA0 21 3 aA1 fun w1 =>
  rfn aA0 <|
  pfi w1 aA0 21 1 (-1 : Int32) fun w2 =>
  gfr w2 aA0 21 3 fun v3 =>
  gfi w2 v3 20 0 fun x4 =>
  pfi w2 aA0 21 2 x4 fun w5 =>
  Q (.inl none) w5
def P_J17_initr : PP := fun avs w0 Q => ∃ (aA0 : Value) (aA1 : Value), avs = [aA0, aA1] ∧ isr aA0 ∧ isr aA1 ∧ B_J17_initr aA0 aA1 w0 Q
theorem ct_J17_initr {γ : GG} (hG : Gm γ) : CT γ yJ17_init cJ17_init 2 none 2 P_J17_initr := by
  refine CT_of (own := RJ17) hG (by decide +kernel) rfl ?_ ?_
  · rintro avs w Q ⟨aA0, aA1, rfl, r_aA0, r_aA1, hP⟩
    simp [lv_args, cat_int, cat_long, cat_float, cat_double, isr_cat r_aA0, isr_cat r_aA1]
  intro p l e R s m args below meth c κ0 w0 avs Q X hin hP
  obtain ⟨aA0, aA1, rfl, r_aA0, r_aA1, hP⟩ := hP
  have hls : lv_args 0 [aA0, aA1] = [(0, aA0), (1, aA1)] := by simp [lv_args, cat_int, cat_long, cat_float, cat_double, isr_cat r_aA0, isr_cat r_aA1]
  rw [hls]
  unfold B_J17_initr at hP
  refine J_aload_n (i := 0) X dJ17_init_0 rfl 0 rfl r_aA0 ?_
  refine J_aload_n (i := 1) X dJ17_init_1 rfl 1 rfl r_aA1 ?_
  refine J_pfr X hP r_aA1 rfl in_J17 tyJ17_ok nmJ17 (by decide) (Or.inr (Or.inr ⟨q252, rfl, hin, rfl⟩)) (by first | exact Or.inl ⟨_, rfl⟩ | exact Or.inr ⟨_, rfl⟩) dJ17_init_2 (fun w1 hP => ?_)
  refine J_aload_n (i := 0) X dJ17_init_5 rfl 0 rfl r_aA0 ?_
  obtain ⟨hv0, hP⟩ := hP
  refine J_objInit X hv0 q248 q157 q158 (by decide) (by simp [cat_int, cat_long]) dJ17_init_6 ?_
  refine J_aload_n (i := 0) X dJ17_init_9 rfl 0 rfl r_aA0 ?_
  refine J_iconst (v := -1) X dJ17_init_10 (by decide) ?_
  refine J_pfi X hP rfl in_J17 tyJ17_ok nmJ17 (by decide) (Or.inl ⟨q250, rfl⟩) ⟨rfl, rfl⟩ dJ17_init_11 (fun w2 hP => ?_)
  refine J_aload_n (i := 0) X dJ17_init_14 rfl 0 rfl r_aA0 ?_
  refine J_aload_n (i := 0) X dJ17_init_15 rfl 0 rfl r_aA0 ?_
  refine J_gfr X hP rfl in_J17 (by decide) q252 dJ17_init_16 (fun v3 r_v3 hP => ?_)
  refine J_gfiS (T := TJ2) (i := 0) X hP rfl in_J2 (by decide) q178 q179 dJ17_init_19 (fun x4 hP => ?_)
  refine J_pfi X hP rfl in_J17 tyJ17_ok nmJ17 (by decide) (Or.inl ⟨q251, rfl⟩) ⟨rfl, rfl⟩ dJ17_init_22 (fun w5 hP => ?_)
  exact J_vret X rfl dJ17_init_25 hP
theorem hd_J2_iteratorr : yJ2_iterator.cls = RJ2 ∧ yJ2_iterator.cls ≠ "java/lang/invoke/MethodHandle" ∧ yJ2_iterator.cls ≠ "java/lang/invoke/VarHandle" ∧ (parseMethodDescriptor yJ2_iterator.desc).map (fun d => d.parameters.length) = some 0 := by decide +kernel
def B_J2_iteratorr (aA0 : Value) (w0 : AW) (Q : AOut → AW → Prop) : Prop :=
  nw w0 21 4 [.int 0, .int 0, .int 0, .null] fun v1 w2 =>
  B_J17_initr v1 aA0 w2 <| rvo (Kx := nx) fun w3 =>
  Q (.inl (some v1)) w3
def P_J2_iteratorr : PP := fun avs w0 Q => ∃ (aA0 : Value), avs = [aA0] ∧ isr aA0 ∧ B_J2_iteratorr aA0 w0 Q
theorem ct_J2_iteratorr {γ : GG} (hG : Gm γ) : CT γ yJ2_iterator cJ2_iterator 1 (some (.object "java/util/Iterator")) 3 P_J2_iteratorr := by
  refine CT_of (own := RJ2) hG (by decide +kernel) rfl ?_ ?_
  · rintro avs w Q ⟨aA0, rfl, r_aA0, hP⟩
    simp [lv_args, cat_int, cat_long, cat_float, cat_double, isr_cat r_aA0]
  intro p l e R s m args below meth c κ0 w0 avs Q X hin hP
  obtain ⟨aA0, rfl, r_aA0, hP⟩ := hP
  have hls : lv_args 0 [aA0] = [(0, aA0)] := by simp [lv_args, cat_int, cat_long, cat_float, cat_double, isr_cat r_aA0]
  rw [hls]
  unfold B_J2_iteratorr at hP
  refine J_new X hP rfl in_J17 tyJ17_ok q243 q244 q115 (by decide +kernel) rfl (by decide) (by decide) dJ2_iterator_0 (fun v1 w2 n_v1 hP => ?_)
  have r_v1 : isr v1 := by obtain ⟨_, rfl⟩ := n_v1; trivial
  refine J_dup X dJ2_iterator_3 (isr_cat r_v1) ?_
  refine J_aload_n (i := 0) X dJ2_iterator_4 rfl 0 rfl r_aA0 ?_
  refine J_cI X (ct_J17_initr hG) rfl q245 q246 q115 q247 rfl hd_J17_initr.2 ⟨Nat.le_of_ble_eq_true rfl, Nat.le_of_ble_eq_true rfl⟩ dJ2_iterator_5 (avs := [aA0]) rfl rfl n_v1 (by simp [cat_int, cat_long, cat_float, cat_double, isr_cat r_v1]) ⟨_, _, rfl, r_v1, r_aA0, hP⟩ (krv fun w3 hP => ?_)
  exact J_aret X rfl (by first | exact Or.inl ⟨_, rfl⟩ | exact Or.inr ⟨_, rfl⟩) r_v1 dJ2_iterator_8 hP
theorem hd_J17_hasNextr : yJ17_hasNext.cls = RJ17 ∧ yJ17_hasNext.cls ≠ "java/lang/invoke/MethodHandle" ∧ yJ17_hasNext.cls ≠ "java/lang/invoke/VarHandle" ∧ (parseMethodDescriptor yJ17_hasNext.desc).map (fun d => d.parameters.length) = some 0 := by decide +kernel
def B_J17_hasNextr (aA0 : Value) (w0 : AW) (Q : AOut → AW → Prop) : Prop :=
  gfi w0 aA0 21 0 fun x1 =>
  gfr w0 aA0 21 3 fun v2 =>
  gfi w0 v2 20 2 fun x3 =>
  br (x1 = x3) (rtz .boolean (0 : Int32) <| Q (.inl (some (.int (0 : Int32)))) w0) (rtz .boolean (1 : Int32) <| Q (.inl (some (.int (1 : Int32)))) w0)
def P_J17_hasNextr : PP := fun avs w0 Q => ∃ (aA0 : Value), avs = [aA0] ∧ isr aA0 ∧ B_J17_hasNextr aA0 w0 Q
theorem ct_J17_hasNextr {γ : GG} (hG : Gm γ) : CT γ yJ17_hasNext cJ17_hasNext 1 (some .boolean) 1 P_J17_hasNextr := by
  refine CT_of (own := RJ17) hG (by decide +kernel) rfl ?_ ?_
  · rintro avs w Q ⟨aA0, rfl, r_aA0, hP⟩
    simp [lv_args, cat_int, cat_long, cat_float, cat_double, isr_cat r_aA0]
  intro p l e R s m args below meth c κ0 w0 avs Q X hin hP
  obtain ⟨aA0, rfl, r_aA0, hP⟩ := hP
  have hls : lv_args 0 [aA0] = [(0, aA0)] := by simp [lv_args, cat_int, cat_long, cat_float, cat_double, isr_cat r_aA0]
  rw [hls]
  unfold B_J17_hasNextr at hP
  refine J_aload_n (i := 0) X dJ17_hasNext_0 rfl 0 rfl r_aA0 ?_
  refine J_gfi X hP rfl in_J17 (by decide) q249 dJ17_hasNext_1 (fun x1 hP => ?_)
  refine J_aload_n (i := 0) X dJ17_hasNext_4 rfl 0 rfl r_aA0 ?_
  refine J_gfr X hP rfl in_J17 (by decide) q252 dJ17_hasNext_5 (fun v2 r_v2 hP => ?_)
  refine J_gfiN X hP rfl in_J2 (by decide) q175 dJ17_hasNext_8 (fun x3 hP => ?_)
  refine J_icmp_eq (tgt := 18) X dJ17_hasNext_11 (by decide) (fun c9 => ?_) (fun c9 => ?_)
  · have hP := hP.1 c9
    refine J_iconst (v := 0) X dJ17_hasNext_18 (by decide) ?_
    obtain ⟨hn, hP⟩ := hP
    exact J_iret X rfl hn dJ17_hasNext_19 hP
  · have hP := hP.2 c9
    refine J_iconst (v := 1) X dJ17_hasNext_14 (by decide) ?_
    refine J_goto (tgt := 19) X dJ17_hasNext_15 (by decide) ?_
    obtain ⟨hn, hP⟩ := hP
    exact J_iret X rfl hn dJ17_hasNext_19 hP
theorem hd_J17_checkForComodificationr : yJ17_checkForComodification.cls = RJ17 ∧ yJ17_checkForComodification.cls ≠ "java/lang/invoke/MethodHandle" ∧ yJ17_checkForComodification.cls ≠ "java/lang/invoke/VarHandle" ∧ (parseMethodDescriptor yJ17_checkForComodification.desc).map (fun d => d.parameters.length) = some 0 := by decide +kernel
def B_J17_checkForComodificationr (aA0 : Value) (w0 : AW) (Q : AOut → AW → Prop) : Prop :=
  gfr w0 aA0 21 3 fun v1 =>
  gfi w0 v1 20 0 fun x2 =>
  gfi w0 aA0 21 2 fun x3 =>
  br (x2 = x3) (Q (.inl none) w0) (False)
def P_J17_checkForComodificationr : PP := fun avs w0 Q => ∃ (aA0 : Value), avs = [aA0] ∧ isr aA0 ∧ B_J17_checkForComodificationr aA0 w0 Q
theorem ct_J17_checkForComodificationr {γ : GG} (hG : Gm γ) : CT γ yJ17_checkForComodification cJ17_checkForComodification 1 none 1 P_J17_checkForComodificationr := by
  refine CT_of (own := RJ17) hG (by decide +kernel) rfl ?_ ?_
  · rintro avs w Q ⟨aA0, rfl, r_aA0, hP⟩
    simp [lv_args, cat_int, cat_long, cat_float, cat_double, isr_cat r_aA0]
  intro p l e R s m args below meth c κ0 w0 avs Q X hin hP
  obtain ⟨aA0, rfl, r_aA0, hP⟩ := hP
  have hls : lv_args 0 [aA0] = [(0, aA0)] := by simp [lv_args, cat_int, cat_long, cat_float, cat_double, isr_cat r_aA0]
  rw [hls]
  unfold B_J17_checkForComodificationr at hP
  refine J_aload_n (i := 0) X dJ17_checkForComodification_0 rfl 0 rfl r_aA0 ?_
  refine J_gfr X hP rfl in_J17 (by decide) q252 dJ17_checkForComodification_1 (fun v1 r_v1 hP => ?_)
  refine J_gfiS (T := TJ2) (i := 0) X hP rfl in_J2 (by decide) q178 q179 dJ17_checkForComodification_4 (fun x2 hP => ?_)
  refine J_aload_n (i := 0) X dJ17_checkForComodification_7 rfl 0 rfl r_aA0 ?_
  refine J_gfi X hP rfl in_J17 (by decide) q251 dJ17_checkForComodification_8 (fun x3 hP => ?_)
  refine J_icmp_eq (tgt := 22) X dJ17_checkForComodification_11 (by decide) (fun c9 => ?_) (fun c9 => ?_)
  · have hP := hP.1 c9
    exact J_vret X rfl dJ17_checkForComodification_22 hP
  · have hP := hP.2 c9
    exact hP.elim
theorem hd_J17_nextr : yJ17_next.cls = RJ17 ∧ yJ17_next.cls ≠ "java/lang/invoke/MethodHandle" ∧ yJ17_next.cls ≠ "java/lang/invoke/VarHandle" ∧ (parseMethodDescriptor yJ17_next.desc).map (fun d => d.parameters.length) = some 0 := by decide +kernel
def B_J17_nextr (aA0 : Value) (w0 : AW) (Q : AOut → AW → Prop) : Prop :=
  rcc w0 aA0 21 <|
  B_J17_checkForComodificationr aA0 w0 <| rvo (Kx := nx) fun w1 =>
  gfi w1 aA0 21 0 fun x2 =>
  gfr w1 aA0 21 3 fun v3 =>
  gfi w1 v3 20 2 fun x4 =>
  br (x2 < x4) (gfr w1 aA0 21 3 fun v5 =>
  gfr w1 v5 20 1 fun v6 =>
  rln w1 v6 fun x7 =>
  br (x2 < x7) (pfi w1 aA0 21 0 (x2 + (1 : Int32)) fun w8 =>
  pfi w8 aA0 21 1 x2 fun w9 =>
  rld w9 v6 x2 fun v10 =>
  Q (.inl (some v10)) w9) (False)) (False)
def P_J17_nextr : PP := fun avs w0 Q => ∃ (aA0 : Value), avs = [aA0] ∧ isr aA0 ∧ B_J17_nextr aA0 w0 Q
theorem ct_J17_nextr {γ : GG} (hG : Gm γ) : CT γ yJ17_next cJ17_next 3 (some (.object "java/lang/Object")) 2 P_J17_nextr := by
  refine CT_of (own := RJ17) hG (by decide +kernel) rfl ?_ ?_
  · rintro avs w Q ⟨aA0, rfl, r_aA0, hP⟩
    simp [lv_args, cat_int, cat_long, cat_float, cat_double, isr_cat r_aA0]
  intro p l e R s m args below meth c κ0 w0 avs Q X hin hP
  obtain ⟨aA0, rfl, r_aA0, hP⟩ := hP
  have hls : lv_args 0 [aA0] = [(0, aA0)] := by simp [lv_args, cat_int, cat_long, cat_float, cat_double, isr_cat r_aA0]
  rw [hls]
  unfold B_J17_nextr at hP
  refine J_aload_n (i := 0) X dJ17_next_0 rfl 0 rfl r_aA0 ?_
  obtain ⟨hrc, hP⟩ := hP
  refine J_cV X (ci := 21) rfl (ct_J17_checkForComodificationr hG) (lw_V q709 q710 q711 q115 q712) hd_J17_checkForComodificationr ⟨Nat.le_of_ble_eq_true rfl, Nat.le_of_ble_eq_true rfl⟩ dJ17_next_1 (avs := []) rfl rfl hrc (by decide) ⟨_, rfl, r_aA0, hP⟩ (krv fun w1 hP => ?_)
  refine J_aload_n (i := 0) X dJ17_next_4 rfl 0 rfl r_aA0 ?_
  refine J_gfi X hP rfl in_J17 (by decide) q249 dJ17_next_5 (fun x2 hP => ?_)
  refine J_istore_n (i := 1) X dJ17_next_8 rfl (by decide) ⟨.inr (isr_cat r_aA0), trivial⟩ rfl ?_
  refine J_iload_n (i := 1) X dJ17_next_9 rfl 0 rfl ?_
  refine J_aload_n (i := 0) X dJ17_next_10 rfl 1 rfl r_aA0 ?_
  refine J_gfr X hP rfl in_J17 (by decide) q252 dJ17_next_11 (fun v3 r_v3 hP => ?_)
  refine J_gfiN X hP rfl in_J2 (by decide) q175 dJ17_next_14 (fun x4 hP => ?_)
  refine J_icmp_lt (tgt := 28) X dJ17_next_17 (by decide) (fun c9 => ?_) (fun c9 => ?_)
  · have hP := hP.1 c9
    refine J_aload_n (i := 0) X dJ17_next_28 rfl 1 rfl r_aA0 ?_
    refine J_gfr X hP rfl in_J17 (by decide) q252 dJ17_next_29 (fun v5 r_v5 hP => ?_)
    refine J_gfr X hP rfl in_J2 (by decide) q174 dJ17_next_32 (fun v6 r_v6 hP => ?_)
    refine J_astore_n (i := 2) X dJ17_next_35 rfl (by decide) r_v6 ⟨.inr rfl, .inl (Nat.ne_of_beq_eq_false rfl), trivial⟩ rfl ?_
    refine J_iload_n (i := 1) X dJ17_next_36 rfl 1 rfl ?_
    refine J_aload_n (i := 2) X dJ17_next_37 rfl 0 rfl r_v6 ?_
    refine J_rln X hP dJ17_next_38 (fun x7 hP => ?_)
    refine J_icmp_lt (tgt := 50) X dJ17_next_39 (by decide) (fun c9 => ?_) (fun c9 => ?_)
    · have hP := hP.1 c9
      refine J_aload_n (i := 0) X dJ17_next_50 rfl 2 rfl r_aA0 ?_
      refine J_iload_n (i := 1) X dJ17_next_51 rfl 1 rfl ?_
      refine J_iconst (v := 1) X dJ17_next_52 (by decide) ?_
      refine J_iadd X dJ17_next_53 ?_
      refine J_pfi X hP rfl in_J17 tyJ17_ok nmJ17 (by decide) (Or.inl ⟨q249, rfl⟩) ⟨rfl, rfl⟩ dJ17_next_54 (fun w8 hP => ?_)
      refine J_aload_n (i := 2) X dJ17_next_57 rfl 0 rfl r_v6 ?_
      refine J_aload_n (i := 0) X dJ17_next_58 rfl 2 rfl r_aA0 ?_
      refine J_iload_n (i := 1) X dJ17_next_59 rfl 1 rfl ?_
      refine J_dupx1 X dJ17_next_60 (rfl) (isr_cat r_aA0) ?_
      refine J_pfi X hP rfl in_J17 tyJ17_ok nmJ17 (by decide) (Or.inl ⟨q250, rfl⟩) ⟨rfl, rfl⟩ dJ17_next_61 (fun w9 hP => ?_)
      refine J_rld X hP dJ17_next_64 (fun v10 r_v10 hP => ?_)
      exact J_aret X rfl (by first | exact Or.inl ⟨_, rfl⟩ | exact Or.inr ⟨_, rfl⟩) r_v10 dJ17_next_65 hP
    · have hP := hP.2 c9
      exact hP.elim
  · have hP := hP.2 c9
    exact hP.elim
theorem hd_J23_comparer : yJ23_compare.cls = RJ23 ∧ yJ23_compare.cls ≠ "java/lang/invoke/MethodHandle" ∧ yJ23_compare.cls ≠ "java/lang/invoke/VarHandle" ∧ (parseMethodDescriptor yJ23_compare.desc).map (fun d => d.parameters.length) = some 2 := by decide +kernel
def B_J23_comparer (xA0 : Int32) (xA1 : Int32) (w0 : AW) (Q : AOut → AW → Prop) : Prop :=
  br (xA1 ≤ xA0) (br (xA0 = xA1) (Q (.inl (some (.int (0 : Int32)))) w0) (Q (.inl (some (.int (1 : Int32)))) w0)) (Q (.inl (some (.int (-1 : Int32)))) w0)
def P_J23_comparer : PP := fun avs w0 Q => ∃ (xA0 : Int32) (xA1 : Int32), avs = [.int xA0, .int xA1] ∧ B_J23_comparer xA0 xA1 w0 Q
theorem ct_J23_comparer {γ : GG} (hG : Gm γ) : CT γ yJ23_compare cJ23_compare 2 (some .int) 1 P_J23_comparer := by
  refine CT_of (own := RJ23) hG (by decide +kernel) rfl ?_ ?_
  · rintro avs w Q ⟨xA0, xA1, rfl, hP⟩
    simp [lv_args, cat_int, cat_long, cat_float, cat_double]
  intro p l e R s m args below meth c κ0 w0 avs Q X hin hP
  obtain ⟨xA0, xA1, rfl, hP⟩ := hP
  have hls : lv_args 0 [.int xA0, .int xA1] = [(0, .int xA0), (1, .int xA1)] := by simp [lv_args, cat_int, cat_long, cat_float, cat_double]
  rw [hls]
  unfold B_J23_comparer at hP
  refine J_iload_n (i := 0) X dJ23_compare_0 rfl 0 rfl ?_
  refine J_iload_n (i := 1) X dJ23_compare_1 rfl 1 rfl ?_
  refine J_icmp_ge (tgt := 9) X dJ23_compare_2 (by decide) (fun c9 => ?_) (fun c9 => ?_)
  · have hP := hP.1 c9
    refine J_iload_n (i := 0) X dJ23_compare_9 rfl 0 rfl ?_
    refine J_iload_n (i := 1) X dJ23_compare_10 rfl 1 rfl ?_
    refine J_icmp_ne (tgt := 18) X dJ23_compare_11 (by decide) (fun c9 => ?_) (fun c9 => ?_)
    · have hP := hP.2 c9
      refine J_iconst (v := 1) X dJ23_compare_18 (by decide) ?_
      exact J_iret X rfl rfl dJ23_compare_19 hP
    · have hP := hP.1 c9
      refine J_iconst (v := 0) X dJ23_compare_14 (by decide) ?_
      refine J_goto (tgt := 19) X dJ23_compare_15 (by decide) ?_
      exact J_iret X rfl rfl dJ23_compare_19 hP
  · have hP := hP.2 c9
    refine J_iconst (v := -1) X dJ23_compare_5 (by decide) ?_
    refine J_goto (tgt := 19) X dJ23_compare_6 (by decide) ?_
    exact J_iret X rfl rfl dJ23_compare_19 hP
theorem hd_J23_compareTo_2r : yJ23_compareTo_2.cls = RJ23 ∧ yJ23_compareTo_2.cls ≠ "java/lang/invoke/MethodHandle" ∧ yJ23_compareTo_2.cls ≠ "java/lang/invoke/VarHandle" ∧ (parseMethodDescriptor yJ23_compareTo_2.desc).map (fun d => d.parameters.length) = some 1 := by decide +kernel
def B_J23_compareTo_2r (aA0 : Value) (aA1 : Value) (w0 : AW) (Q : AOut → AW → Prop) : Prop :=
  gbx aA0 fun x1 =>
  gbx aA1 fun x2 =>
  B_J23_comparer x1 x2 w0 <| ri (Kx := nx) fun x4 w3 =>
  Q (.inl (some (.int x4))) w3
def P_J23_compareTo_2r : PP := fun avs w0 Q => ∃ (aA0 : Value) (aA1 : Value), avs = [aA0, aA1] ∧ isr aA0 ∧ isr aA1 ∧ B_J23_compareTo_2r aA0 aA1 w0 Q
theorem ct_J23_compareTo_2r {γ : GG} (hG : Gm γ) : CT γ yJ23_compareTo_2 cJ23_compareTo_2 2 (some .int) 2 P_J23_compareTo_2r := by
  refine CT_of (own := RJ23) hG (by decide +kernel) rfl ?_ ?_
  · rintro avs w Q ⟨aA0, aA1, rfl, r_aA0, r_aA1, hP⟩
    simp [lv_args, cat_int, cat_long, cat_float, cat_double, isr_cat r_aA0, isr_cat r_aA1]
  intro p l e R s m args below meth c κ0 w0 avs Q X hin hP
  obtain ⟨aA0, aA1, rfl, r_aA0, r_aA1, hP⟩ := hP
  have hls : lv_args 0 [aA0, aA1] = [(0, aA0), (1, aA1)] := by simp [lv_args, cat_int, cat_long, cat_float, cat_double, isr_cat r_aA0, isr_cat r_aA1]
  rw [hls]
  unfold B_J23_compareTo_2r at hP
  refine J_aload_n (i := 0) X dJ23_compareTo_2_0 rfl 0 rfl r_aA0 ?_
  refine J_gbx X hP in_J23 q1454 dJ23_compareTo_2_1 (fun x1 hP => ?_)
  refine J_aload_n (i := 1) X dJ23_compareTo_2_4 rfl 1 rfl r_aA1 ?_
  refine J_gbx X hP in_J23 q1454 dJ23_compareTo_2_5 (fun x2 hP => ?_)
  refine J_cS X (ct_J23_comparer hG) (lw_S q1506 q1507 q122 q1508) hd_J23_comparer.2 ⟨Nat.le_of_ble_eq_true rfl, Nat.le_of_ble_eq_true rfl⟩ dJ23_compareTo_2_8 (avs := [.int x1, .int x2]) rfl rfl (by decide) ⟨_, _, rfl, hP⟩ (kri fun x4 w3 hP => ?_)
  exact J_iret X rfl rfl dJ23_compareTo_2_11 hP
theorem hd_J23_compareTor : yJ23_compareTo.cls = RJ23 ∧ yJ23_compareTo.cls ≠ "java/lang/invoke/MethodHandle" ∧ yJ23_compareTo.cls ≠ "java/lang/invoke/VarHandle" ∧ (parseMethodDescriptor yJ23_compareTo.desc).map (fun d => d.parameters.length) = some 1 := by decide +kernel
def B_J23_compareTor (aA0 : Value) (aA1 : Value) (w0 : AW) (Q : AOut → AW → Prop) : Prop :=
  ckb aA1 <|
  rcc w0 aA0 23 <|
  B_J23_compareTo_2r aA0 aA1 w0 <| ri (Kx := nx) fun x2 w1 =>
  Q (.inl (some (.int x2))) w1
def P_J23_compareTor : PP := fun avs w0 Q => ∃ (aA0 : Value) (aA1 : Value), avs = [aA0, aA1] ∧ isr aA0 ∧ isr aA1 ∧ B_J23_compareTor aA0 aA1 w0 Q
theorem ct_J23_compareTor {γ : GG} (hG : Gm γ) : CT γ yJ23_compareTo cJ23_compareTo 2 (some .int) 3 P_J23_compareTor := by
  refine CT_of (own := RJ23) hG (by decide +kernel) rfl ?_ ?_
  · rintro avs w Q ⟨aA0, aA1, rfl, r_aA0, r_aA1, hP⟩
    simp [lv_args, cat_int, cat_long, cat_float, cat_double, isr_cat r_aA0, isr_cat r_aA1]
  intro p l e R s m args below meth c κ0 w0 avs Q X hin hP
  obtain ⟨aA0, aA1, rfl, r_aA0, r_aA1, hP⟩ := hP
  have hls : lv_args 0 [aA0, aA1] = [(0, aA0), (1, aA1)] := by simp [lv_args, cat_int, cat_long, cat_float, cat_double, isr_cat r_aA0, isr_cat r_aA1]
  rw [hls]
  unfold B_J23_compareTor at hP
  refine J_aload_n (i := 0) X dJ23_compareTo_0 rfl 0 rfl r_aA0 ?_
  refine J_aload_n (i := 1) X dJ23_compareTo_1 rfl 1 rfl r_aA1 ?_
  refine J_ckb X hP q1445 (Or.inl rfl) dJ23_compareTo_2 (fun hP => ?_)
  obtain ⟨hrc, hP⟩ := hP
  refine J_cV X (ci := 23) rfl (ct_J23_compareTo_2r hG) (lw_V q1502 q1503 q1504 q122 q1505) hd_J23_compareTo_2r ⟨Nat.le_of_ble_eq_true rfl, Nat.le_of_ble_eq_true rfl⟩ dJ23_compareTo_5 (avs := [aA1]) rfl rfl hrc (by decide) ⟨_, _, rfl, r_aA0, r_aA1, hP⟩ (kri fun x2 w1 hP => ?_)
  exact J_iret X rfl rfl dJ23_compareTo_8 hP
theorem hd_J22_initr : yJ22_init.cls = RJ22 ∧ yJ22_init.cls ≠ "java/lang/invoke/MethodHandle" ∧ yJ22_init.cls ≠ "java/lang/invoke/VarHandle" ∧ (parseMethodDescriptor yJ22_init.desc).map (fun d => d.parameters.length) = some 0 := by decide +kernel
def B_J22_initr (aA0 : Value) (w0 : AW) (Q : AOut → AW → Prop) : Prop :=
  rfn aA0 <|
  Q (.inl none) w0
def P_J22_initr : PP := fun avs w0 Q => ∃ (aA0 : Value), avs = [aA0] ∧ isr aA0 ∧ B_J22_initr aA0 w0 Q
theorem ct_J22_initr {γ : GG} (hG : Gm γ) : CT γ yJ22_init cJ22_init 1 none 2 P_J22_initr := by
  refine CT_of (own := RJ22) hG (by decide +kernel) rfl ?_ ?_
  · rintro avs w Q ⟨aA0, rfl, r_aA0, hP⟩
    simp [lv_args, cat_int, cat_long, cat_float, cat_double, isr_cat r_aA0]
  intro p l e R s m args below meth c κ0 w0 avs Q X hin hP
  obtain ⟨aA0, rfl, r_aA0, hP⟩ := hP
  have hls : lv_args 0 [aA0] = [(0, aA0)] := by simp [lv_args, cat_int, cat_long, cat_float, cat_double, isr_cat r_aA0]
  rw [hls]
  unfold B_J22_initr at hP
  refine J_aload_n (i := 0) X dJ22_init_0 rfl 0 rfl r_aA0 ?_
  obtain ⟨hv0, hP⟩ := hP
  refine J_objInit X hv0 q1453 q157 q158 (by decide) (by simp [cat_int, cat_long]) dJ22_init_1 ?_
  exact J_vret X rfl dJ22_init_4 hP
theorem hd_J23_initr : yJ23_init.cls = RJ23 ∧ yJ23_init.cls ≠ "java/lang/invoke/MethodHandle" ∧ yJ23_init.cls ≠ "java/lang/invoke/VarHandle" ∧ (parseMethodDescriptor yJ23_init.desc).map (fun d => d.parameters.length) = some 1 := by decide +kernel
def B_J23_initr (aA0 : Value) (xA1 : Int32) (w0 : AW) (Q : AOut → AW → Prop) : Prop :=
  rfn aA0 <|
  B_J22_initr aA0 w0 <| rvo (Kx := nx) fun w1 =>
  pfi w1 aA0 23 0 xA1 fun w2 =>
  Q (.inl none) w2
def P_J23_initr : PP := fun avs w0 Q => ∃ (aA0 : Value) (xA1 : Int32), avs = [aA0, .int xA1] ∧ isr aA0 ∧ B_J23_initr aA0 xA1 w0 Q
theorem ct_J23_initr {γ : GG} (hG : Gm γ) : CT γ yJ23_init cJ23_init 2 none 3 P_J23_initr := by
  refine CT_of (own := RJ23) hG (by decide +kernel) rfl ?_ ?_
  · rintro avs w Q ⟨aA0, xA1, rfl, r_aA0, hP⟩
    simp [lv_args, cat_int, cat_long, cat_float, cat_double, isr_cat r_aA0]
  intro p l e R s m args below meth c κ0 w0 avs Q X hin hP
  obtain ⟨aA0, xA1, rfl, r_aA0, hP⟩ := hP
  have hls : lv_args 0 [aA0, .int xA1] = [(0, aA0), (1, .int xA1)] := by simp [lv_args, cat_int, cat_long, cat_float, cat_double, isr_cat r_aA0]
  rw [hls]
  unfold B_J23_initr at hP
  refine J_aload_n (i := 0) X dJ23_init_0 rfl 0 rfl r_aA0 ?_
  obtain ⟨hv0, hP⟩ := hP
  refine J_cI X (ct_J22_initr hG) rfl q1450 q1451 q121 q1452 rfl hd_J22_initr.2 ⟨Nat.le_of_ble_eq_true rfl, Nat.le_of_ble_eq_true rfl⟩ dJ23_init_1 (avs := []) rfl rfl hv0 (by decide) ⟨_, rfl, r_aA0, hP⟩ (krv fun w1 hP => ?_)
  refine J_aload_n (i := 0) X dJ23_init_4 rfl 0 rfl r_aA0 ?_
  refine J_iload_n (i := 1) X dJ23_init_5 rfl 1 rfl ?_
  refine J_pfi X hP rfl in_J23 tyJ23_ok nmJ23 (by decide) (Or.inr (Or.inr ⟨q1454, rfl, hin, rfl⟩)) ⟨rfl, rfl⟩ dJ23_init_6 (fun w2 hP => ?_)
  exact J_vret X rfl dJ23_init_9 hP
theorem hd_J29_initr : yJ29_init.cls = RJ29 ∧ yJ29_init.cls ≠ "java/lang/invoke/MethodHandle" ∧ yJ29_init.cls ≠ "java/lang/invoke/VarHandle" ∧ (parseMethodDescriptor yJ29_init.desc).map (fun d => d.parameters.length) = some 0 := by decide +kernel
def B_J29_initr (aA0 : Value) (w0 : AW) (Q : AOut → AW → Prop) : Prop :=
  rfn aA0 <|
  B_J0_initr aA0 w0 <| rvo (Kx := nx) fun w1 =>
  Q (.inl none) w1
def P_J29_initr : PP := fun avs w0 Q => ∃ (aA0 : Value), avs = [aA0] ∧ isr aA0 ∧ B_J29_initr aA0 w0 Q
theorem ct_J29_initr {γ : GG} (hG : Gm γ) : CT γ yJ29_init cJ29_init 1 none 3 P_J29_initr := by
  refine CT_of (own := RJ29) hG (by decide +kernel) rfl ?_ ?_
  · rintro avs w Q ⟨aA0, rfl, r_aA0, hP⟩
    simp [lv_args, cat_int, cat_long, cat_float, cat_double, isr_cat r_aA0]
  intro p l e R s m args below meth c κ0 w0 avs Q X hin hP
  obtain ⟨aA0, rfl, r_aA0, hP⟩ := hP
  have hls : lv_args 0 [aA0] = [(0, aA0)] := by simp [lv_args, cat_int, cat_long, cat_float, cat_double, isr_cat r_aA0]
  rw [hls]
  unfold B_J29_initr at hP
  refine J_aload_n (i := 0) X dJ29_init_0 rfl 0 rfl r_aA0 ?_
  obtain ⟨hv0, hP⟩ := hP
  refine J_cI X (ct_J0_initr hG) rfl q1472 q168 q92 q169 rfl hd_J0_initr.2 ⟨Nat.le_of_ble_eq_true rfl, Nat.le_of_ble_eq_true rfl⟩ dJ29_init_1 (avs := []) rfl rfl hv0 (by decide) ⟨_, rfl, r_aA0, hP⟩ (krv fun w1 hP => ?_)
  exact J_vret X rfl dJ29_init_4 hP
theorem hd_J30_initr : yJ30_init.cls = RJ30 ∧ yJ30_init.cls ≠ "java/lang/invoke/MethodHandle" ∧ yJ30_init.cls ≠ "java/lang/invoke/VarHandle" ∧ (parseMethodDescriptor yJ30_init.desc).map (fun d => d.parameters.length) = some 0 := by decide +kernel
def B_J30_initr (aA0 : Value) (w0 : AW) (Q : AOut → AW → Prop) : Prop :=
  rfn aA0 <|
  B_J29_initr aA0 w0 <| rvo (Kx := nx) fun w1 =>
  Q (.inl none) w1
def P_J30_initr : PP := fun avs w0 Q => ∃ (aA0 : Value), avs = [aA0] ∧ isr aA0 ∧ B_J30_initr aA0 w0 Q
theorem ct_J30_initr {γ : GG} (hG : Gm γ) : CT γ yJ30_init cJ30_init 1 none 4 P_J30_initr := by
  refine CT_of (own := RJ30) hG (by decide +kernel) rfl ?_ ?_
  · rintro avs w Q ⟨aA0, rfl, r_aA0, hP⟩
    simp [lv_args, cat_int, cat_long, cat_float, cat_double, isr_cat r_aA0]
  intro p l e R s m args below meth c κ0 w0 avs Q X hin hP
  obtain ⟨aA0, rfl, r_aA0, hP⟩ := hP
  have hls : lv_args 0 [aA0] = [(0, aA0)] := by simp [lv_args, cat_int, cat_long, cat_float, cat_double, isr_cat r_aA0]
  rw [hls]
  unfold B_J30_initr at hP
  refine J_aload_n (i := 0) X dJ30_init_0 rfl 0 rfl r_aA0 ?_
  obtain ⟨hv0, hP⟩ := hP
  refine J_cI X (ct_J29_initr hG) rfl q1469 q1470 q136 q1471 rfl hd_J29_initr.2 ⟨Nat.le_of_ble_eq_true rfl, Nat.le_of_ble_eq_true rfl⟩ dJ30_init_1 (avs := []) rfl rfl hv0 (by decide) ⟨_, rfl, r_aA0, hP⟩ (krv fun w1 hP => ?_)
  exact J_vret X rfl dJ30_init_4 hP
theorem hd_J15_requireNonNullr : yJ15_requireNonNull.cls = RJ15 ∧ yJ15_requireNonNull.cls ≠ "java/lang/invoke/MethodHandle" ∧ yJ15_requireNonNull.cls ≠ "java/lang/invoke/VarHandle" ∧ (parseMethodDescriptor yJ15_requireNonNull.desc).map (fun d => d.parameters.length) = some 1 := by decide +kernel
def B_J15_requireNonNullr (aA0 : Value) (w0 : AW) (Q : AOut → AW → Prop) : Prop :=
  br (aA0 = .null) (False) (Q (.inl (some aA0)) w0)
def P_J15_requireNonNullr : PP := fun avs w0 Q => ∃ (aA0 : Value), avs = [aA0] ∧ isr aA0 ∧ B_J15_requireNonNullr aA0 w0 Q
theorem ct_J15_requireNonNullr {γ : GG} (hG : Gm γ) : CT γ yJ15_requireNonNull cJ15_requireNonNull 1 (some (.object "java/lang/Object")) 1 P_J15_requireNonNullr := by
  refine CT_of (own := RJ15) hG (by decide +kernel) rfl ?_ ?_
  · rintro avs w Q ⟨aA0, rfl, r_aA0, hP⟩
    simp [lv_args, cat_int, cat_long, cat_float, cat_double, isr_cat r_aA0]
  intro p l e R s m args below meth c κ0 w0 avs Q X hin hP
  obtain ⟨aA0, rfl, r_aA0, hP⟩ := hP
  have hls : lv_args 0 [aA0] = [(0, aA0)] := by simp [lv_args, cat_int, cat_long, cat_float, cat_double, isr_cat r_aA0]
  rw [hls]
  unfold B_J15_requireNonNullr at hP
  refine J_aload_n (i := 0) X dJ15_requireNonNull_0 rfl 0 rfl r_aA0 ?_
  refine J_ifnonnull (tgt := 12) X dJ15_requireNonNull_1 (by decide) r_aA0 (fun c9 => ?_) (fun c9 => ?_)
  · have hP := hP.2 c9
    refine J_aload_n (i := 0) X dJ15_requireNonNull_12 rfl 0 rfl r_aA0 ?_
    exact J_aret X rfl (by first | exact Or.inl ⟨_, rfl⟩ | exact Or.inr ⟨_, rfl⟩) r_aA0 dJ15_requireNonNull_13 hP
  · have hP := hP.1 c9
    exact hP.elim
theorem hd_J31_initr : yJ31_init.cls = RJ31 ∧ yJ31_init.cls ≠ "java/lang/invoke/MethodHandle" ∧ yJ31_init.cls ≠ "java/lang/invoke/VarHandle" ∧ (parseMethodDescriptor yJ31_init.desc).map (fun d => d.parameters.length) = some 2 := by decide +kernel
def B_J31_initr (aA0 : Value) (aA1 : Value) (aA2 : Value) (w0 : AW) (Q : AOut → AW → Prop) : Prop :=
  rfn aA0 <|
  B_J30_initr aA0 w0 <| rvo (Kx := nx) fun w1 =>
  B_J15_requireNonNullr aA1 w1 <| rr (Kx := nx) fun v3 w2 =>
  pfr w2 aA0 22 0 v3 fun w4 =>
  B_J15_requireNonNullr aA2 w4 <| rr (Kx := nx) fun v6 w5 =>
  pfr w5 aA0 22 1 v6 fun w7 =>
  Q (.inl none) w7
def P_J31_initr : PP := fun avs w0 Q => ∃ (aA0 : Value) (aA1 : Value) (aA2 : Value), avs = [aA0, aA1, aA2] ∧ isr aA0 ∧ isr aA1 ∧ isr aA2 ∧ B_J31_initr aA0 aA1 aA2 w0 Q
theorem ct_J31_initr {γ : GG} (hG : Gm γ) : CT γ yJ31_init cJ31_init 3 none 5 P_J31_initr := by
  refine CT_of (own := RJ31) hG (by decide +kernel) rfl ?_ ?_
  · rintro avs w Q ⟨aA0, aA1, aA2, rfl, r_aA0, r_aA1, r_aA2, hP⟩
    simp [lv_args, cat_int, cat_long, cat_float, cat_double, isr_cat r_aA0, isr_cat r_aA1, isr_cat r_aA2]
  intro p l e R s m args below meth c κ0 w0 avs Q X hin hP
  obtain ⟨aA0, aA1, aA2, rfl, r_aA0, r_aA1, r_aA2, hP⟩ := hP
  have hls : lv_args 0 [aA0, aA1, aA2] = [(0, aA0), (1, aA1), (2, aA2)] := by simp [lv_args, cat_int, cat_long, cat_float, cat_double, isr_cat r_aA0, isr_cat r_aA1, isr_cat r_aA2]
  rw [hls]
  unfold B_J31_initr at hP
  refine J_aload_n (i := 0) X dJ31_init_0 rfl 0 rfl r_aA0 ?_
  obtain ⟨hv0, hP⟩ := hP
  refine J_cI X (ct_J30_initr hG) rfl q1466 q1467 q137 q1468 rfl hd_J30_initr.2 ⟨Nat.le_of_ble_eq_true rfl, Nat.le_of_ble_eq_true rfl⟩ dJ31_init_1 (avs := []) rfl rfl hv0 (by decide) ⟨_, rfl, r_aA0, hP⟩ (krv fun w1 hP => ?_)
  refine J_aload_n (i := 0) X dJ31_init_4 rfl 0 rfl r_aA0 ?_
  refine J_aload_n (i := 1) X dJ31_init_5 rfl 1 rfl r_aA1 ?_
  refine J_cS X (ct_J15_requireNonNullr hG) (lw_S q1473 q1474 q113 q1475) hd_J15_requireNonNullr.2 ⟨Nat.le_of_ble_eq_true rfl, Nat.le_of_ble_eq_true rfl⟩ dJ31_init_6 (avs := [aA1]) rfl rfl (by simp [cat_int, cat_long, cat_float, cat_double, isr_cat r_aA0]) ⟨_, rfl, r_aA1, hP⟩ (krr fun v3 w2 r_v3 hP => ?_)
  refine J_pfr X hP r_v3 rfl in_J31 tyJ31_ok nmJ31 (by decide) (Or.inr (Or.inr ⟨q1476, rfl, hin, rfl⟩)) (by first | exact Or.inl ⟨_, rfl⟩ | exact Or.inr ⟨_, rfl⟩) dJ31_init_9 (fun w4 hP => ?_)
  refine J_aload_n (i := 0) X dJ31_init_12 rfl 0 rfl r_aA0 ?_
  refine J_aload_n (i := 2) X dJ31_init_13 rfl 2 rfl r_aA2 ?_
  refine J_cS X (ct_J15_requireNonNullr hG) (lw_S q1473 q1474 q113 q1475) hd_J15_requireNonNullr.2 ⟨Nat.le_of_ble_eq_true rfl, Nat.le_of_ble_eq_true rfl⟩ dJ31_init_14 (avs := [aA2]) rfl rfl (by simp [cat_int, cat_long, cat_float, cat_double, isr_cat r_aA0]) ⟨_, rfl, r_aA2, hP⟩ (krr fun v6 w5 r_v6 hP => ?_)
  refine J_pfr X hP r_v6 rfl in_J31 tyJ31_ok nmJ31 (by decide) (Or.inr (Or.inr ⟨q1477, rfl, hin, rfl⟩)) (by first | exact Or.inl ⟨_, rfl⟩ | exact Or.inr ⟨_, rfl⟩) dJ31_init_17 (fun w7 hP => ?_)
  exact J_vret X rfl dJ31_init_20 hP
theorem hd_J31_init_2r : yJ31_init_2.cls = RJ31 ∧ yJ31_init_2.cls ≠ "java/lang/invoke/MethodHandle" ∧ yJ31_init_2.cls ≠ "java/lang/invoke/VarHandle" ∧ (parseMethodDescriptor yJ31_init_2.desc).map (fun d => d.parameters.length) = some 1 := by decide +kernel
def B_J31_init_2r (aA0 : Value) (aA1 : Value) (w0 : AW) (Q : AOut → AW → Prop) : Prop :=
  rfn aA0 <|
  B_J30_initr aA0 w0 <| rvo (Kx := nx) fun w1 =>
  B_J15_requireNonNullr aA1 w1 <| rr (Kx := nx) fun v3 w2 =>
  pfr w2 aA0 22 0 v3 fun w4 =>
  pfr w4 aA0 22 1 (.retAddr 4294967299) fun w5 =>
  Q (.inl none) w5
def P_J31_init_2r : PP := fun avs w0 Q => ∃ (aA0 : Value) (aA1 : Value), avs = [aA0, aA1] ∧ isr aA0 ∧ isr aA1 ∧ B_J31_init_2r aA0 aA1 w0 Q
theorem ct_J31_init_2r {γ : GG} (hG : Gm γ) : CT γ yJ31_init_2 cJ31_init_2 2 none 5 P_J31_init_2r := by
  refine CT_of (own := RJ31) hG (by decide +kernel) rfl ?_ ?_
  · rintro avs w Q ⟨aA0, aA1, rfl, r_aA0, r_aA1, hP⟩
    simp [lv_args, cat_int, cat_long, cat_float, cat_double, isr_cat r_aA0, isr_cat r_aA1]
  intro p l e R s m args below meth c κ0 w0 avs Q X hin hP
  obtain ⟨aA0, aA1, rfl, r_aA0, r_aA1, hP⟩ := hP
  have hls : lv_args 0 [aA0, aA1] = [(0, aA0), (1, aA1)] := by simp [lv_args, cat_int, cat_long, cat_float, cat_double, isr_cat r_aA0, isr_cat r_aA1]
  rw [hls]
  unfold B_J31_init_2r at hP
  refine J_aload_n (i := 0) X dJ31_init_2_0 rfl 0 rfl r_aA0 ?_
  obtain ⟨hv0, hP⟩ := hP
  refine J_cI X (ct_J30_initr hG) rfl q1466 q1467 q137 q1468 rfl hd_J30_initr.2 ⟨Nat.le_of_ble_eq_true rfl, Nat.le_of_ble_eq_true rfl⟩ dJ31_init_2_1 (avs := []) rfl rfl hv0 (by decide) ⟨_, rfl, r_aA0, hP⟩ (krv fun w1 hP => ?_)
  refine J_aload_n (i := 0) X dJ31_init_2_4 rfl 0 rfl r_aA0 ?_
  refine J_aload_n (i := 1) X dJ31_init_2_5 rfl 1 rfl r_aA1 ?_
  refine J_cS X (ct_J15_requireNonNullr hG) (lw_S q1473 q1474 q113 q1475) hd_J15_requireNonNullr.2 ⟨Nat.le_of_ble_eq_true rfl, Nat.le_of_ble_eq_true rfl⟩ dJ31_init_2_6 (avs := [aA1]) rfl rfl (by simp [cat_int, cat_long, cat_float, cat_double, isr_cat r_aA0]) ⟨_, rfl, r_aA1, hP⟩ (krr fun v3 w2 r_v3 hP => ?_)
  refine J_pfr X hP r_v3 rfl in_J31 tyJ31_ok nmJ31 (by decide) (Or.inr (Or.inr ⟨q1476, rfl, hin, rfl⟩)) (by first | exact Or.inl ⟨_, rfl⟩ | exact Or.inr ⟨_, rfl⟩) dJ31_init_2_9 (fun w4 hP => ?_)
  refine J_aload_n (i := 0) X dJ31_init_2_12 rfl 0 rfl r_aA0 ?_
  refine J_gets (k := 3) X (by omega) X.g.2.2.2.2.2.2.1.2.1 (.inr ⟨_, q288⟩) dJ31_init_2_13 ?_
  refine J_pfr X hP trivial rfl in_J31 tyJ31_ok nmJ31 (by decide) (Or.inr (Or.inr ⟨q1477, rfl, hin, rfl⟩)) (by first | exact Or.inl ⟨_, rfl⟩ | exact Or.inr ⟨_, rfl⟩) dJ31_init_2_16 (fun w5 hP => ?_)
  exact J_vret X rfl dJ31_init_2_19 hP
theorem hd_J28_ofr : yJ28_of.cls = RJ28 ∧ yJ28_of.cls ≠ "java/lang/invoke/MethodHandle" ∧ yJ28_of.cls ≠ "java/lang/invoke/VarHandle" ∧ (parseMethodDescriptor yJ28_of.desc).map (fun d => d.parameters.length) = some 2 := by decide +kernel
def B_J28_ofr (aA0 : Value) (aA1 : Value) (w0 : AW) (Q : AOut → AW → Prop) : Prop :=
  nw w0 22 4 [.null, .null] fun v1 w2 =>
  B_J31_initr v1 aA0 aA1 w2 <| rvo (Kx := nx) fun w3 =>
  Q (.inl (some v1)) w3
def P_J28_ofr : PP := fun avs w0 Q => ∃ (aA0 : Value) (aA1 : Value), avs = [aA0, aA1] ∧ isr aA0 ∧ isr aA1 ∧ B_J28_ofr aA0 aA1 w0 Q
theorem ct_J28_ofr {γ : GG} (hG : Gm γ) : CT γ yJ28_of cJ28_of 2 (some (.object "java/util/List")) 6 P_J28_ofr := by
  refine CT_of (own := RJ28) hG (by decide +kernel) rfl ?_ ?_
  · rintro avs w Q ⟨aA0, aA1, rfl, r_aA0, r_aA1, hP⟩
    simp [lv_args, cat_int, cat_long, cat_float, cat_double, isr_cat r_aA0, isr_cat r_aA1]
  intro p l e R s m args below meth c κ0 w0 avs Q X hin hP
  obtain ⟨aA0, aA1, rfl, r_aA0, r_aA1, hP⟩ := hP
  have hls : lv_args 0 [aA0, aA1] = [(0, aA0), (1, aA1)] := by simp [lv_args, cat_int, cat_long, cat_float, cat_double, isr_cat r_aA0, isr_cat r_aA1]
  rw [hls]
  unfold B_J28_ofr at hP
  refine J_new X hP rfl in_J31 tyJ31_ok q1461 q1462 q138 (by decide +kernel) rfl (by decide) (by decide) dJ28_of_0 (fun v1 w2 n_v1 hP => ?_)
  have r_v1 : isr v1 := by obtain ⟨_, rfl⟩ := n_v1; trivial
  refine J_dup X dJ28_of_3 (isr_cat r_v1) ?_
  refine J_aload_n (i := 0) X dJ28_of_4 rfl 0 rfl r_aA0 ?_
  refine J_aload_n (i := 1) X dJ28_of_5 rfl 1 rfl r_aA1 ?_
  refine J_cI X (ct_J31_initr hG) rfl q1463 q1464 q138 q1465 rfl hd_J31_initr.2 ⟨Nat.le_of_ble_eq_true rfl, Nat.le_of_ble_eq_true rfl⟩ dJ28_of_6 (avs := [aA0, aA1]) rfl rfl n_v1 (by simp [cat_int, cat_long, cat_float, cat_double, isr_cat r_v1]) ⟨_, _, _, rfl, r_v1, r_aA0, r_aA1, hP⟩ (krv fun w3 hP => ?_)
  exact J_aret X rfl (by first | exact Or.inl ⟨_, rfl⟩ | exact Or.inr ⟨_, rfl⟩) r_v1 dJ28_of_9 hP
theorem hd_J28_of_2r : yJ28_of_2.cls = RJ28 ∧ yJ28_of_2.cls ≠ "java/lang/invoke/MethodHandle" ∧ yJ28_of_2.cls ≠ "java/lang/invoke/VarHandle" ∧ (parseMethodDescriptor yJ28_of_2.desc).map (fun d => d.parameters.length) = some 1 := by decide +kernel
def B_J28_of_2r (aA0 : Value) (w0 : AW) (Q : AOut → AW → Prop) : Prop :=
  nw w0 22 4 [.null, .null] fun v1 w2 =>
  B_J31_init_2r v1 aA0 w2 <| rvo (Kx := nx) fun w3 =>
  Q (.inl (some v1)) w3
def P_J28_of_2r : PP := fun avs w0 Q => ∃ (aA0 : Value), avs = [aA0] ∧ isr aA0 ∧ B_J28_of_2r aA0 w0 Q
theorem ct_J28_of_2r {γ : GG} (hG : Gm γ) : CT γ yJ28_of_2 cJ28_of_2 1 (some (.object "java/util/List")) 6 P_J28_of_2r := by
  refine CT_of (own := RJ28) hG (by decide +kernel) rfl ?_ ?_
  · rintro avs w Q ⟨aA0, rfl, r_aA0, hP⟩
    simp [lv_args, cat_int, cat_long, cat_float, cat_double, isr_cat r_aA0]
  intro p l e R s m args below meth c κ0 w0 avs Q X hin hP
  obtain ⟨aA0, rfl, r_aA0, hP⟩ := hP
  have hls : lv_args 0 [aA0] = [(0, aA0)] := by simp [lv_args, cat_int, cat_long, cat_float, cat_double, isr_cat r_aA0]
  rw [hls]
  unfold B_J28_of_2r at hP
  refine J_new X hP rfl in_J31 tyJ31_ok q1461 q1462 q138 (by decide +kernel) rfl (by decide) (by decide) dJ28_of_2_0 (fun v1 w2 n_v1 hP => ?_)
  have r_v1 : isr v1 := by obtain ⟨_, rfl⟩ := n_v1; trivial
  refine J_dup X dJ28_of_2_3 (isr_cat r_v1) ?_
  refine J_aload_n (i := 0) X dJ28_of_2_4 rfl 0 rfl r_aA0 ?_
  refine J_cI X (ct_J31_init_2r hG) rfl q1966 q1967 q138 q1968 rfl hd_J31_init_2r.2 ⟨Nat.le_of_ble_eq_true rfl, Nat.le_of_ble_eq_true rfl⟩ dJ28_of_2_5 (avs := [aA0]) rfl rfl n_v1 (by simp [cat_int, cat_long, cat_float, cat_double, isr_cat r_v1]) ⟨_, _, rfl, r_v1, r_aA0, hP⟩ (krv fun w3 hP => ?_)
  exact J_aret X rfl (by first | exact Or.inl ⟨_, rfl⟩ | exact Or.inr ⟨_, rfl⟩) r_v1 dJ28_of_2_8 hP
theorem hd_J31_sizer : yJ31_size.cls = RJ31 ∧ yJ31_size.cls ≠ "java/lang/invoke/MethodHandle" ∧ yJ31_size.cls ≠ "java/lang/invoke/VarHandle" ∧ (parseMethodDescriptor yJ31_size.desc).map (fun d => d.parameters.length) = some 0 := by decide +kernel
def B_J31_sizer (aA0 : Value) (w0 : AW) (Q : AOut → AW → Prop) : Prop :=
  gfr w0 aA0 22 1 fun v1 =>
  aqx v1 (.retAddr 4294967299) <|
  br (v1 = (.retAddr 4294967299)) (Q (.inl (some (.int (1 : Int32)))) w0) (Q (.inl (some (.int (2 : Int32)))) w0)
def P_J31_sizer : PP := fun avs w0 Q => ∃ (aA0 : Value), avs = [aA0] ∧ isr aA0 ∧ B_J31_sizer aA0 w0 Q
theorem ct_J31_sizer {γ : GG} (hG : Gm γ) : CT γ yJ31_size cJ31_size 1 (some .int) 1 P_J31_sizer := by
  refine CT_of (own := RJ31) hG (by decide +kernel) rfl ?_ ?_
  · rintro avs w Q ⟨aA0, rfl, r_aA0, hP⟩
    simp [lv_args, cat_int, cat_long, cat_float, cat_double, isr_cat r_aA0]
  intro p l e R s m args below meth c κ0 w0 avs Q X hin hP
  obtain ⟨aA0, rfl, r_aA0, hP⟩ := hP
  have hls : lv_args 0 [aA0] = [(0, aA0)] := by simp [lv_args, cat_int, cat_long, cat_float, cat_double, isr_cat r_aA0]
  rw [hls]
  unfold B_J31_sizer at hP
  refine J_aload_n (i := 0) X dJ31_size_0 rfl 0 rfl r_aA0 ?_
  refine J_gfr X hP rfl in_J31 (by decide) q1477 dJ31_size_1 (fun v1 r_v1 hP => ?_)
  refine J_gets (k := 3) X (by omega) X.g.2.2.2.2.2.2.1.2.1 (.inr ⟨_, q288⟩) dJ31_size_4 ?_
  obtain ⟨hu, hv, hP⟩ := hP
  refine J_acmx_eq (tgt := 14) X dJ31_size_7 (by decide) hv hu (fun c9 => ?_) (fun c9 => ?_)
  · have hP := hP.1 c9
    refine J_iconst (v := 1) X dJ31_size_14 (by decide) ?_
    exact J_iret X rfl rfl dJ31_size_15 hP
  · have hP := hP.2 c9
    refine J_iconst (v := 2) X dJ31_size_10 (by decide) ?_
    refine J_goto (tgt := 15) X dJ31_size_11 (by decide) ?_
    exact J_iret X rfl rfl dJ31_size_15 hP
theorem hd_J31_getr : yJ31_get.cls = RJ31 ∧ yJ31_get.cls ≠ "java/lang/invoke/MethodHandle" ∧ yJ31_get.cls ≠ "java/lang/invoke/VarHandle" ∧ (parseMethodDescriptor yJ31_get.desc).map (fun d => d.parameters.length) = some 1 := by decide +kernel
def B_J31_getr_j29 (vL0 : Value) (w : AW) (Q : AOut → AW → Prop) : Prop :=
  False
def B_J31_getr (aA0 : Value) (xA1 : Int32) (w0 : AW) (Q : AOut → AW → Prop) : Prop :=
  br (xA1 = 0) (gfr w0 aA0 22 0 fun v3 =>
  Q (.inl (some v3)) w0) (br (xA1 = (1 : Int32)) (gfr w0 aA0 22 1 fun v1 =>
  aqx v1 (.retAddr 4294967299) <|
  br (v1 = (.retAddr 4294967299)) (B_J31_getr_j29 aA0 w0 Q ) (gfr w0 aA0 22 1 fun v2 =>
  Q (.inl (some v2)) w0)) (B_J31_getr_j29 aA0 w0 Q ))
def P_J31_getr : PP := fun avs w0 Q => ∃ (aA0 : Value) (xA1 : Int32), avs = [aA0, .int xA1] ∧ isr aA0 ∧ B_J31_getr aA0 xA1 w0 Q
theorem ct_J31_getr {γ : GG} (hG : Gm γ) : CT γ yJ31_get cJ31_get 2 (some (.object "java/lang/Object")) 1 P_J31_getr := by
  refine CT_of (own := RJ31) hG (by decide +kernel) rfl ?_ ?_
  · rintro avs w Q ⟨aA0, xA1, rfl, r_aA0, hP⟩
    simp [lv_args, cat_int, cat_long, cat_float, cat_double, isr_cat r_aA0]
  intro p l e R s m args below meth c κ0 w0 avs Q X hin hP
  obtain ⟨aA0, xA1, rfl, r_aA0, hP⟩ := hP
  have hls : lv_args 0 [aA0, .int xA1] = [(0, aA0), (1, .int xA1)] := by simp [lv_args, cat_int, cat_long, cat_float, cat_double, isr_cat r_aA0]
  rw [hls]
  have j29 : ∀ (vL0 : Value) (r_vL0 : isr vL0) (w : AW), B_J31_getr_j29 vL0 w Q  → J γ p l e R s m args below meth c 2 false κ0 w0.1 Q w 29 [(0, vL0)] [] := by
    intro vL0 r_vL0 w hP
    unfold B_J31_getr_j29 at hP
    exact hP.elim
  unfold B_J31_getr at hP
  refine J_iload_n (i := 1) X dJ31_get_0 rfl 1 rfl ?_
  refine J_if_ne (tgt := 9) X dJ31_get_1 (by decide) (fun c9 => ?_) (fun c9 => ?_)
  · have hP := hP.2 c9
    refine J_iload_n (i := 1) X dJ31_get_9 rfl 1 rfl ?_
    refine J_iconst (v := 1) X dJ31_get_10 (by decide) ?_
    refine J_icmp_ne (tgt := 29) X dJ31_get_11 (by decide) (fun c9 => ?_) (fun c9 => ?_)
    · have hP := hP.2 c9
      refine J_sub [0] rfl ?_
      exact j29 _ r_aA0 _ hP
    · have hP := hP.1 c9
      refine J_aload_n (i := 0) X dJ31_get_14 rfl 0 rfl r_aA0 ?_
      refine J_gfr X hP rfl in_J31 (by decide) q1477 dJ31_get_15 (fun v1 r_v1 hP => ?_)
      refine J_gets (k := 3) X (by omega) X.g.2.2.2.2.2.2.1.2.1 (.inr ⟨_, q288⟩) dJ31_get_18 ?_
      obtain ⟨hu, hv, hP⟩ := hP
      refine J_acmx_eq (tgt := 29) X dJ31_get_21 (by decide) hv hu (fun c9 => ?_) (fun c9 => ?_)
      · have hP := hP.1 c9
        refine J_sub [0] rfl ?_
        exact j29 _ r_aA0 _ hP
      · have hP := hP.2 c9
        refine J_aload_n (i := 0) X dJ31_get_24 rfl 0 rfl r_aA0 ?_
        refine J_gfr X hP rfl in_J31 (by decide) q1477 dJ31_get_25 (fun v2 r_v2 hP => ?_)
        exact J_aret X rfl (by first | exact Or.inl ⟨_, rfl⟩ | exact Or.inr ⟨_, rfl⟩) r_v2 dJ31_get_28 hP
  · have hP := hP.1 c9
    refine J_aload_n (i := 0) X dJ31_get_4 rfl 0 rfl r_aA0 ?_
    refine J_gfr X hP rfl in_J31 (by decide) q1476 dJ31_get_5 (fun v3 r_v3 hP => ?_)
    exact J_aret X rfl (by first | exact Or.inl ⟨_, rfl⟩ | exact Or.inr ⟨_, rfl⟩) r_v3 dJ31_get_8 hP
theorem hd_J3_fillr : yJ3_fill.cls = RJ3 ∧ yJ3_fill.cls ≠ "java/lang/invoke/MethodHandle" ∧ yJ3_fill.cls ≠ "java/lang/invoke/VarHandle" ∧ (parseMethodDescriptor yJ3_fill.desc).map (fun d => d.parameters.length) = some 2 := by decide +kernel
def B_J3_fillr_L5 (vL0 : Value) (xL1 : Int32) (xL3 : Int32) (xL2 : Int32) (w : AW) (Q : AOut → AW → Prop)  (k5 : Int32 × AW → Prop) : Prop :=
  br (xL3 ≤ xL2) (Q (.inl none) w) (ast w vL0 xL2 xL1 fun w1 =>
  k5 ((xL2 + 1), w1))
def B_J3_fillr_F5 (vL0 : Value) (xL1 : Int32) (xL3 : Int32) (Q : AOut → AW → Prop)  : (Int32 × AW) → ((Int32 × AW) → Prop) → Prop := fun z k => B_J3_fillr_L5 vL0 xL1 xL3 z.1 z.2 Q  k
def B_J3_fillr (aA0 : Value) (xA1 : Int32) (w0 : AW) (Q : AOut → AW → Prop) : Prop :=
  aln w0 aA0 fun x2 =>
  Lp (B_J3_fillr_F5 aA0 xA1 x2 Q ) ((0 : Int32), w0)
def P_J3_fillr : PP := fun avs w0 Q => ∃ (aA0 : Value) (xA1 : Int32), avs = [aA0, .int xA1] ∧ isr aA0 ∧ B_J3_fillr aA0 xA1 w0 Q
theorem ct_J3_fillr {γ : GG} (hG : Gm γ) : CT γ yJ3_fill cJ3_fill 4 none 1 P_J3_fillr := by
  refine CT_of (own := RJ3) hG (by decide +kernel) rfl ?_ ?_
  · rintro avs w Q ⟨aA0, xA1, rfl, r_aA0, hP⟩
    simp [lv_args, cat_int, cat_long, cat_float, cat_double, isr_cat r_aA0]
  intro p l e R s m args below meth c κ0 w0 avs Q X hin hP
  obtain ⟨aA0, xA1, rfl, r_aA0, hP⟩ := hP
  have hls : lv_args 0 [aA0, .int xA1] = [(0, aA0), (1, .int xA1)] := by simp [lv_args, cat_int, cat_long, cat_float, cat_double, isr_cat r_aA0]
  rw [hls]
  have L5 : ∀ (vL0 : Value) (xL1 : Int32) (xL3 : Int32) (r_vL0 : isr vL0) (n : Nat) (xL2 : Int32)  (w : AW), it_ (B_J3_fillr_F5 vL0 xL1 xL3 Q ) n (xL2, w) → J γ p l e R s m args below meth c 4 false κ0 w0.1 Q w 5 [(0, vL0), (1, .int xL1), (2, .int xL2), (3, .int xL3)] [] := by
    intro vL0 xL1 xL3 r_vL0 n
    induction n with
    | zero =>
      intro xL2 w hP
      exact hP.elim
    | succ n ih5 =>
      generalize hk5 : it_ (B_J3_fillr_F5 vL0 xL1 xL3 Q ) n = k5 at ih5
      intro xL2 w hP
      have hP : B_J3_fillr_L5 vL0 xL1 xL3 xL2 w Q  (it_ (B_J3_fillr_F5 vL0 xL1 xL3 Q ) n) := hP
      rw [hk5] at hP
      unfold B_J3_fillr_L5 at hP
      refine J_iload_n (i := 2) X dJ3_fill_5 rfl 2 rfl ?_
      refine J_iload_n (i := 3) X dJ3_fill_6 rfl 3 rfl ?_
      refine J_icmp_ge (tgt := 20) X dJ3_fill_7 (by decide) (fun c9 => ?_) (fun c9 => ?_)
      · have hP := hP.1 c9
        exact J_vret X rfl dJ3_fill_20 hP
      · have hP := hP.2 c9
        refine J_aload_n (i := 0) X dJ3_fill_10 rfl 0 rfl r_vL0 ?_
        refine J_iload_n (i := 2) X dJ3_fill_11 rfl 2 rfl ?_
        refine J_iload_n (i := 1) X dJ3_fill_12 rfl 1 rfl ?_
        refine J_ast X hP dJ3_fill_13 (fun w1 hP => ?_)
        refine J_iinc (v := (xL2 + 1)) X dJ3_fill_14 2 rfl rfl (by decide) ⟨.inl (Nat.ne_of_beq_eq_false rfl), .inr rfl, .inl (Nat.ne_of_beq_eq_false rfl), .inl (Nat.ne_of_beq_eq_false rfl), trivial⟩ rfl ?_
        refine J_goto (tgt := 5) X dJ3_fill_17 (by decide) ?_
        refine J_sub [1, 2, 0, 3] rfl ?_
        exact ih5 _  _ hP
  unfold B_J3_fillr at hP
  refine J_iconst (v := 0) X dJ3_fill_0 (by decide) ?_
  refine J_istore_n (i := 2) X dJ3_fill_1 rfl (by decide) ⟨.inl (Nat.ne_of_beq_eq_false rfl), .inr rfl, trivial⟩ rfl ?_
  refine J_aload_n (i := 0) X dJ3_fill_2 rfl 1 rfl r_aA0 ?_
  refine J_aln X hP dJ3_fill_3 (fun x2 hP => ?_)
  refine J_istore_n (i := 3) X dJ3_fill_4 rfl (by decide) ⟨.inr rfl, .inl (Nat.ne_of_beq_eq_false rfl), .inl (Nat.ne_of_beq_eq_false rfl), trivial⟩ rfl ?_
  refine J_sub [2, 3, 1, 0] rfl ?_
  obtain ⟨n9, hP⟩ := hP
  exact L5 _ _ _ r_aA0 n9 _  _ hP
