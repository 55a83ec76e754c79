/-! THE COMPONENT and what it calls: weakest preconditions and walks (printed by tools/comp.py) -/
set_option maxRecDepth 100000
/-! J0_init: java/util/AbstractCollection <init> ()V; flags (False, False, False), depth 1 -/
def wc_J0_init (ad : Nat → Nat) (μ : HM) (b : Nat) (P : Prop) : Prop :=
  P
set_option maxHeartbeats 4000000 in
theorem tm_J0_init {G : g_G} {l : Launch} {μ : HM} {b : Nat} {P : Prop} (h : wc_J0_init (g_ad G) μ b P) : CM G l yJ0_init cJ0_init 1 (Option.none : Option Jvm.ClassFile.FieldType) 1 0 0 [.ref b] μ (hN0 μ P) := by
  unfold wc_J0_init at h
  refine wm_of (lvs := [(0, va_rf (some b))]) (by decide) (Nat.le_of_ble_eq_true rfl) rfl (fun fr ws hM1 => ?_)
  show WW G l cJ0_init RJ0 1 (Option.none : Option Jvm.ClassFile.FieldType) "<init>" 1 0 0 (hMR G (hN0 μ P)) (fun u => [u.1, fr]) 0 0 [ws, fr] 0 [(0, va_rf (some b))] []
  refine ww_aloadQ_n dJ0_init_0 0 rfl ?_
  refine wm_objInit rfl q195 q170 q171 (Nat.le_of_ble_eq_true rfl) (Nat.le_of_ble_eq_true rfl) dJ0_init_1 ?_
  exact ww_vret (ws, μ) rfl ⟨hM1, ⟨rfl, rfl, h⟩⟩ rfl (Nat.le_refl _) (Nat.le_refl _) dJ0_init_4
/-! J1_init: java/util/AbstractList <init> ()V; flags (True, False, False), depth 2 -/
def wc_J1_init (ad : Nat → Nat) (μ : HM) (b : Nat) (P : HM → Prop) : Prop :=
  wc_J0_init ad μ b (
    ∃ (fi_1 : Nat → Int) (fq_2 : Nat → Option Nat), μ b = some (hO 18 fi_1 fq_2) ∧ 
    P (hs μ b (hO 18 (upF fi_1 0 0) fq_2)))
set_option maxHeartbeats 4000000 in
theorem tm_J1_init {G : g_G} {l : Launch} {μ : HM} {b : Nat} {P : HM → Prop} (h : wc_J1_init (g_ad G) μ b P) : CM G l yJ1_init cJ1_init 1 (Option.none : Option Jvm.ClassFile.FieldType) 2 0 0 [.ref b] μ (hR0 P) := by
  unfold wc_J1_init at h
  refine wm_of (lvs := [(0, va_rf (some b))]) (by decide) (Nat.le_of_ble_eq_true rfl) rfl (fun fr ws hM1 => ?_)
  show WW G l cJ1_init RJ1 1 (Option.none : Option Jvm.ClassFile.FieldType) "<init>" 2 0 0 (hMR G (hR0 P)) (fun u => [u.1, fr]) 0 0 [ws, fr] 0 [(0, va_rf (some b))] []
  refine ww_aloadQ_n dJ1_init_0 0 rfl ?_
  refine wm_callI (n := 0) hM1 (tm_J0_init h) rfl q194 q111 q192 q193 rfl ⟨by decide, by decide, by decide +kernel⟩ rfl ⟨Nat.le_of_ble_eq_true rfl, Nat.le_of_ble_eq_true rfl⟩ rfl (Nat.le_of_ble_eq_true rfl) dJ1_init_1 ⟨Nat.le_refl _, Nat.le_refl _⟩ ?_
  clear h
  rintro _ _ ws ⟨rfl, rfl, h⟩ hM2
  refine ww_st0 ?_
  refine ww_aloadQ_n dJ1_init_4 0 rfl ?_
  refine ww_iconst dJ1_init_5 ?_
  obtain ⟨fi_1, fq_2, hc, h⟩ := h
  refine wm_putI hM2 rfl in_J2 tyJ2_ok nmJ2 (ci := 18) rfl 0 (Nat.le_of_ble_eq_true rfl) hc (fun _ _ => rfl) (fun _ _ => Nat.le_of_ble_eq_true rfl) q202 (fun _ _ h => h) rfl rfl rfl dJ1_init_6 (fun ws hM3 => ?_)
  exact ww_vret (ws, (hs μ b (hO 18 (upF fi_1 0 0) fq_2))) rfl ⟨hM3, ⟨rfl, h⟩⟩ rfl (Nat.le_refl _) (Nat.le_refl _) dJ1_init_9
/-! J2_init: java/util/ArrayList <init> ()V; flags (True, False, False), depth 3 -/
def wc_J2_init (ad : Nat → Nat) (μ : HM) (b : Nat) (P : HM → Prop) : Prop :=
  wc_J1_init ad μ b (fun μ_1 =>
    ∃ (fi_2 : Nat → Int) (fq_3 : Nat → Option Nat), μ_1 b = some (hO 18 fi_2 fq_3) ∧ 
    P (hs μ_1 b (hO 18 fi_2 (upF fq_3 1 (some (ad 0))))))
set_option maxHeartbeats 4000000 in
theorem tm_J2_init {G : g_G} {l : Launch} {μ : HM} {b : Nat} {P : HM → Prop} (h : wc_J2_init (g_ad G) μ b P) : CM G l yJ2_init cJ2_init 1 (Option.none : Option Jvm.ClassFile.FieldType) 3 0 0 [.ref b] μ (hR0 P) := by
  unfold wc_J2_init at h
  refine wm_of (lvs := [(0, va_rf (some b))]) (by decide) (Nat.le_of_ble_eq_true rfl) rfl (fun fr ws hM1 => ?_)
  show WW G l cJ2_init RJ2 1 (Option.none : Option Jvm.ClassFile.FieldType) "<init>" 3 0 0 (hMR G (hR0 P)) (fun u => [u.1, fr]) 0 0 [ws, fr] 0 [(0, va_rf (some b))] []
  refine ww_aloadQ_n dJ2_init_0 0 rfl ?_
  refine wm_callI (n := 0) hM1 (tm_J1_init h) rfl q191 q112 q189 q190 rfl ⟨by decide, by decide, by decide +kernel⟩ rfl ⟨Nat.le_of_ble_eq_true rfl, Nat.le_of_ble_eq_true rfl⟩ rfl (Nat.le_of_ble_eq_true rfl) dJ2_init_1 ⟨Nat.le_refl _, Nat.le_refl _⟩ ?_
  clear h
  rintro _ μ_1 ws ⟨rfl, h⟩ hM2
  refine ww_st0 ?_
  refine ww_aloadQ_n dJ2_init_4 0 rfl ?_
  refine wm_getsC 0 hZ_0 (by decide) hM2 q196 (fun _ _ h => h) dJ2_init_5 ?_
  obtain ⟨fi_2, fq_3, hc, h⟩ := h
  refine wm_putQ hM2 rfl in_J2 tyJ2_ok nmJ2 (ci := 18) rfl 1 (Nat.le_of_ble_eq_true rfl) hc (fun _ _ => rfl) (fun _ _ => Nat.le_of_ble_eq_true rfl) q198 (fun _ _ h => h) rfl (narrow_rf rfl _) (fits_rf rfl _) dJ2_init_8 (fun ws hM3 => ?_)
  exact ww_vret (ws, (hs μ_1 b (hO 18 fi_2 (upF fq_3 1 (some (g_ad G 0)))))) rfl ⟨hM3, ⟨rfl, h⟩⟩ rfl (Nat.le_refl _) (Nat.le_refl _) dJ2_init_11
/-! J3_init: java/util/AbstractMap <init> ()V; flags (False, False, False), depth 1 -/
def wc_J3_init (ad : Nat → Nat) (μ : HM) (b : Nat) (P : Prop) : Prop :=
  P
set_option maxHeartbeats 4000000 in
theorem tm_J3_init {G : g_G} {l : Launch} {μ : HM} {b : Nat} {P : Prop} (h : wc_J3_init (g_ad G) μ b P) : CM G l yJ3_init cJ3_init 1 (Option.none : Option Jvm.ClassFile.FieldType) 1 0 0 [.ref b] μ (hN0 μ P) := by
  unfold wc_J3_init at h
  refine wm_of (lvs := [(0, va_rf (some b))]) (by decide) (Nat.le_of_ble_eq_true rfl) rfl (fun fr ws hM1 => ?_)
  show WW G l cJ3_init RJ3 1 (Option.none : Option Jvm.ClassFile.FieldType) "<init>" 1 0 0 (hMR G (hN0 μ P)) (fun u => [u.1, fr]) 0 0 [ws, fr] 0 [(0, va_rf (some b))] []
  refine ww_aloadQ_n dJ3_init_0 0 rfl ?_
  refine wm_objInit rfl q222 q170 q171 (Nat.le_of_ble_eq_true rfl) (Nat.le_of_ble_eq_true rfl) dJ3_init_1 ?_
  exact ww_vret (ws, μ) rfl ⟨hM1, ⟨rfl, rfl, h⟩⟩ rfl (Nat.le_refl _) (Nat.le_refl _) dJ3_init_4
/-! J4_init: java/util/TreeMap <init> ()V; flags (True, False, False), depth 2 -/
def wc_J4_init (ad : Nat → Nat) (μ : HM) (b : Nat) (P : HM → Prop) : Prop :=
  wc_J3_init ad μ b (
    ∃ (fi_1 : Nat → Int) (fq_2 : Nat → Option Nat), μ b = some (hO 19 fi_1 fq_2) ∧ 
    ∃ (fi_3 : Nat → Int) (fq_4 : Nat → Option Nat), (hs μ b (hO 19 (upF fi_1 4 0) fq_2)) b = some (hO 19 fi_3 fq_4) ∧ 
    ∃ (fi_5 : Nat → Int) (fq_6 : Nat → Option Nat), (hs (hs μ b (hO 19 (upF fi_1 4 0) fq_2)) b (hO 19 (upF fi_3 5 0) fq_4)) b = some (hO 19 fi_5 fq_6) ∧ 
    P (hs (hs (hs μ b (hO 19 (upF fi_1 4 0) fq_2)) b (hO 19 (upF fi_3 5 0) fq_4)) b (hO 19 fi_5 (upF fq_6 2 none))))
set_option maxHeartbeats 4000000 in
theorem tm_J4_init {G : g_G} {l : Launch} {μ : HM} {b : Nat} {P : HM → Prop} (h : wc_J4_init (g_ad G) μ b P) : CM G l yJ4_init cJ4_init 1 (Option.none : Option Jvm.ClassFile.FieldType) 2 0 0 [.ref b] μ (hR0 P) := by
  unfold wc_J4_init at h
  refine wm_of (lvs := [(0, va_rf (some b))]) (by decide) (Nat.le_of_ble_eq_true rfl) rfl (fun fr ws hM1 => ?_)
  show WW G l cJ4_init RJ4 1 (Option.none : Option Jvm.ClassFile.FieldType) "<init>" 2 0 0 (hMR G (hR0 P)) (fun u => [u.1, fr]) 0 0 [ws, fr] 0 [(0, va_rf (some b))] []
  refine ww_aloadQ_n dJ4_init_0 0 rfl ?_
  refine wm_callI (n := 0) hM1 (tm_J3_init h) rfl q221 q114 q219 q220 rfl ⟨by decide, by decide, by decide +kernel⟩ rfl ⟨Nat.le_of_ble_eq_true rfl, Nat.le_of_ble_eq_true rfl⟩ rfl (Nat.le_of_ble_eq_true rfl) dJ4_init_1 ⟨Nat.le_refl _, Nat.le_refl _⟩ ?_
  clear h
  rintro _ _ ws ⟨rfl, rfl, h⟩ hM2
  refine ww_st0 ?_
  refine ww_aloadQ_n dJ4_init_4 0 rfl ?_
  refine ww_iconst dJ4_init_5 ?_
  obtain ⟨fi_1, fq_2, hc, h⟩ := h
  refine wm_putI hM2 rfl in_J4 tyJ4_ok nmJ4 (ci := 19) rfl 4 (Nat.le_of_ble_eq_true rfl) hc (fun _ _ => rfl) (fun _ _ => Nat.le_of_ble_eq_true rfl) q225 (fun _ _ h => h) rfl rfl rfl dJ4_init_6 (fun ws hM3 => ?_)
  refine ww_aloadQ_n dJ4_init_9 0 rfl ?_
  refine ww_iconst dJ4_init_10 ?_
  obtain ⟨fi_3, fq_4, hc, h⟩ := h
  refine wm_putI hM3 rfl in_J4 tyJ4_ok nmJ4 (ci := 19) rfl 5 (Nat.le_of_ble_eq_true rfl) hc (fun _ _ => rfl) (fun _ _ => Nat.le_of_ble_eq_true rfl) q226 (fun _ _ h => h) rfl rfl rfl dJ4_init_11 (fun ws hM4 => ?_)
  refine ww_aloadQ_n dJ4_init_14 0 rfl ?_
  refine ww_nullQ dJ4_init_15 ?_
  obtain ⟨fi_5, fq_6, hc, h⟩ := h
  refine wm_putQF hM4 rfl in_J4 tyJ4_ok nmJ4 (ci := 19) rfl 2 (Nat.le_of_ble_eq_true rfl) hc (fun _ _ => rfl) (fun _ _ => Nat.le_of_ble_eq_true rfl) q223 (fun _ _ h => h) rfl rfl rfl (narrow_rf rfl _) (fits_rf rfl _) dJ4_init_16 (fun ws hM5 => ?_)
  exact ww_vret (ws, (hs (hs (hs μ b (hO 19 (upF fi_1 4 0) fq_2)) b (hO 19 (upF fi_3 5 0) fq_4)) b (hO 19 fi_5 (upF fq_6 2 none)))) rfl ⟨hM5, ⟨rfl, h⟩⟩ rfl (Nat.le_refl _) (Nat.le_refl _) dJ4_init_19
/-! X3_init: HoloNet$Shelf <init> (I)V; flags (True, True, False), depth 4 -/
def wc_X3_init (ad : Nat → Nat) (mc ms : Nat) (μ : HM) (b : Nat) (a1 : Int) (P : HM → Prop) : Prop :=
  (0 + 1 ≤ mc ∧ 0 + 3 ≤ ms) ∧ ∀ q_1 : Nat, μ q_1 = none →
  wc_J2_init ad (hs μ q_1 (hO 18 (fun _ => 0) (fun _ => none))) q_1 (fun μ_3 =>
    ∃ (fi_4 : Nat → Int) (fq_5 : Nat → Option Nat), μ_3 b = some (hO 3 fi_4 fq_5) ∧ 
    (0 + 1 + 1 ≤ mc ∧ 0 + 3 + 9 ≤ ms) ∧ ∀ q_6 : Nat, (hs μ_3 b (hO 3 fi_4 (upF fq_5 0 (some q_1)))) q_6 = none →
    wc_J4_init ad (hs (hs μ_3 b (hO 3 fi_4 (upF fq_5 0 (some q_1)))) q_6 (hO 19 (fun _ => 0) (fun _ => none))) q_6 (fun μ_8 =>
      ∃ (fi_9 : Nat → Int) (fq_10 : Nat → Option Nat), μ_8 b = some (hO 3 fi_9 fq_10) ∧ 
      ∃ (fi_11 : Nat → Int) (fq_12 : Nat → Option Nat), (hs μ_8 b (hO 3 fi_9 (upF fq_10 1 (some q_6)))) b = some (hO 3 fi_11 fq_12) ∧ 
      P (hs (hs μ_8 b (hO 3 fi_9 (upF fq_10 1 (some q_6)))) b (hO 3 (upF fi_11 2 a1) fq_12))))
set_option maxHeartbeats 4000000 in
theorem tm_X3_init {G : g_G} {l : Launch} {mc ms : Nat} {μ : HM} {b : Nat} {a1 : Int} {P : HM → Prop} (h : wc_X3_init (g_ad G) mc ms μ b a1 P) : CM G l yX3_init cX3_init 2 (Option.none : Option Jvm.ClassFile.FieldType) 4 mc ms [.ref b, vI a1] μ (hR0 P) := by
  unfold wc_X3_init at h
  refine wm_of (lvs := [(0, va_rf (some b)), (1, vI a1)]) (by decide) (Nat.le_of_ble_eq_true rfl) rfl (fun fr ws hM1 => ?_)
  show WW G l cX3_init RX3 2 (Option.none : Option Jvm.ClassFile.FieldType) "<init>" 4 mc ms (hMR G (hR0 P)) (fun u => [u.1, fr]) 0 0 [ws, fr] 0 [(0, va_rf (some b)), (1, vI a1)] []
  have hB : 0 ≤ mc ∧ 0 ≤ ms := ⟨Nat.zero_le _, Nat.zero_le _⟩
  refine ww_aloadQ_n dX3_init_0 0 rfl ?_
  refine wm_objInit rfl q183 q170 q171 (Nat.le_of_ble_eq_true rfl) (Nat.le_of_ble_eq_true rfl) dX3_init_1 ?_
  refine ww_aloadQ_n dX3_init_4 0 rfl ?_
  obtain ⟨b_2, h⟩ := h
  refine wm_new hM1 in_J2 tyJ2_ok q184 q185 q113 (ci := 18) rfl dfl_18 b_2.1 b_2.2 dX3_init_5 (fun q_1 ws hq hM2 => ?_)
  replace h := h q_1 hq
  have hB := b_2
  refine ww_dup dX3_init_8 (rf_cat _) ?_
  refine wm_callI (n := 0) hM2 (tm_J2_init h) rfl q188 q113 q186 q187 rfl ⟨by decide, by decide, by decide +kernel⟩ rfl ⟨Nat.le_of_ble_eq_true rfl, Nat.le_of_ble_eq_true rfl⟩ rfl (by simp only [List.map_cons, List.map_nil, rf_cat, vI_cat, vL_cat, List.sum_cons, List.sum_nil]; decide) dX3_init_9 hB ?_
  clear h
  rintro _ μ_3 ws ⟨rfl, h⟩ hM3
  refine ww_st0 ?_
  obtain ⟨fi_4, fq_5, hc, h⟩ := h
  refine wm_putQF hM3 rfl in_X3 tyX3_ok nmX3 (ci := 3) rfl 0 (Nat.le_of_ble_eq_true rfl) hc (fun _ _ => rfl) (fun _ _ => Nat.le_of_ble_eq_true rfl) q246 (fun _ _ h => h) rfl rfl rfl (narrow_rf rfl _) (fits_rf rfl _) dX3_init_12 (fun ws hM4 => ?_)
  refine ww_aloadQ_n dX3_init_15 0 rfl ?_
  obtain ⟨b_7, h⟩ := h
  refine wm_new hM4 in_J4 tyJ4_ok q214 q215 q115 (ci := 19) rfl dfl_19 b_7.1 b_7.2 dX3_init_16 (fun q_6 ws hq hM5 => ?_)
  replace h := h q_6 hq
  have hB := b_7
  refine ww_dup dX3_init_19 (rf_cat _) ?_
  refine wm_callI (n := 0) hM5 (tm_J4_init h) rfl q218 q115 q216 q217 rfl ⟨by decide, by decide, by decide +kernel⟩ rfl ⟨Nat.le_of_ble_eq_true rfl, Nat.le_of_ble_eq_true rfl⟩ rfl (by simp only [List.map_cons, List.map_nil, rf_cat, vI_cat, vL_cat, List.sum_cons, List.sum_nil]; decide) dX3_init_20 hB ?_
  clear h
  rintro _ μ_8 ws ⟨rfl, h⟩ hM6
  refine ww_st0 ?_
  obtain ⟨fi_9, fq_10, hc, h⟩ := h
  refine wm_putQF hM6 rfl in_X3 tyX3_ok nmX3 (ci := 3) rfl 1 (Nat.le_of_ble_eq_true rfl) hc (fun _ _ => rfl) (fun _ _ => Nat.le_of_ble_eq_true rfl) q247 (fun _ _ h => h) rfl rfl rfl (narrow_rf rfl _) (fits_rf rfl _) dX3_init_23 (fun ws hM7 => ?_)
  refine ww_aloadQ_n dX3_init_26 0 rfl ?_
  refine ww_iload_n dX3_init_27 1 rfl ?_
  obtain ⟨fi_11, fq_12, hc, h⟩ := h
  refine wm_putIF hM7 rfl in_X3 tyX3_ok nmX3 (ci := 3) rfl 2 (Nat.le_of_ble_eq_true rfl) hc (fun _ _ => rfl) (fun _ _ => Nat.le_of_ble_eq_true rfl) q248 (fun _ _ h => h) rfl rfl rfl rfl rfl dX3_init_28 (fun ws hM8 => ?_)
  exact ww_vret (ws, (hs (hs μ_8 b (hO 3 fi_9 (upF fq_10 1 (some q_6)))) b (hO 3 (upF fi_11 2 a1) fq_12))) rfl ⟨hM8, ⟨rfl, h⟩⟩ rfl hB.1 hB.2 dX3_init_31
/-! X2_init: HoloNet$Net <init> ()V; flags (True, True, False), depth 5 -/
def wc_X2_init (ad : Nat → Nat) (mc ms : Nat) (μ : HM) (b : Nat) (P : HM → Prop) : Prop :=
  ∃ (fi_1 : Nat → Int) (fq_2 : Nat → Option Nat), μ b = some (hO 2 fi_1 fq_2) ∧ 
  (0 + 1 ≤ mc ∧ 0 + 3 ≤ ms) ∧ ∀ q_3 : Nat, (hs μ b (hO 2 (upF fi_1 0 7) fq_2)) q_3 = none →
  ∃ c_5 s_6 : Nat, (0 + 1 + c_5 ≤ mc ∧ 0 + 3 + s_6 ≤ ms) ∧
  wc_X3_init ad c_5 s_6 (hs (hs μ b (hO 2 (upF fi_1 0 7) fq_2)) q_3 (hO 3 (fun _ => 0) (fun _ => none))) q_3 8 (fun μ_8 =>
    ∃ (fi_9 : Nat → Int) (fq_10 : Nat → Option Nat), μ_8 b = some (hO 2 fi_9 fq_10) ∧ 
    (0 + 1 + c_5 + 1 ≤ mc ∧ 0 + 3 + s_6 + 3 ≤ ms) ∧ ∀ q_11 : Nat, (hs μ_8 b (hO 2 fi_9 (upF fq_10 1 (some q_3)))) q_11 = none →
    ∃ c_13 s_14 : Nat, (0 + 1 + c_5 + 1 + c_13 ≤ mc ∧ 0 + 3 + s_6 + 3 + s_14 ≤ ms) ∧
    wc_X3_init ad c_13 s_14 (hs (hs μ_8 b (hO 2 fi_9 (upF fq_10 1 (some q_3)))) q_11 (hO 3 (fun _ => 0) (fun _ => none))) q_11 5 (fun μ_16 =>
      ∃ (fi_17 : Nat → Int) (fq_18 : Nat → Option Nat), μ_16 b = some (hO 2 fi_17 fq_18) ∧ 
      (0 + 1 + c_5 + 1 + c_13 + 1 ≤ mc ∧ 0 + 3 + s_6 + 3 + s_14 + 3 ≤ ms) ∧ ∀ q_19 : Nat, (hs μ_16 b (hO 2 fi_17 (upF fq_18 2 (some q_11)))) q_19 = none →
      ∃ c_21 s_22 : Nat, (0 + 1 + c_5 + 1 + c_13 + 1 + c_21 ≤ mc ∧ 0 + 3 + s_6 + 3 + s_14 + 3 + s_22 ≤ ms) ∧
      wc_X3_init ad c_21 s_22 (hs (hs μ_16 b (hO 2 fi_17 (upF fq_18 2 (some q_11)))) q_19 (hO 3 (fun _ => 0) (fun _ => none))) q_19 6 (fun μ_24 =>
        ∃ (fi_25 : Nat → Int) (fq_26 : Nat → Option Nat), μ_24 b = some (hO 2 fi_25 fq_26) ∧ 
        P (hs μ_24 b (hO 2 fi_25 (upF fq_26 3 (some q_19)))))))
set_option maxHeartbeats 4000000 in
theorem tm_X2_init {G : g_G} {l : Launch} {mc ms : Nat} {μ : HM} {b : Nat} {P : HM → Prop} (h : wc_X2_init (g_ad G) mc ms μ b P) : CM G l yX2_init cX2_init 1 (Option.none : Option Jvm.ClassFile.FieldType) 5 mc ms [.ref b] μ (hR0 P) := by
  unfold wc_X2_init at h
  refine wm_of (lvs := [(0, va_rf (some b))]) (by decide) (Nat.le_of_ble_eq_true rfl) rfl (fun fr ws hM1 => ?_)
  show WW G l cX2_init RX2 1 (Option.none : Option Jvm.ClassFile.FieldType) "<init>" 5 mc ms (hMR G (hR0 P)) (fun u => [u.1, fr]) 0 0 [ws, fr] 0 [(0, va_rf (some b))] []
  have hB : 0 ≤ mc ∧ 0 ≤ ms := ⟨Nat.zero_le _, Nat.zero_le _⟩
  refine ww_aloadQ_n dX2_init_0 0 rfl ?_
  refine wm_objInit rfl q177 q170 q171 (Nat.le_of_ble_eq_true rfl) (Nat.le_of_ble_eq_true rfl) dX2_init_1 ?_
  refine ww_aloadQ_n dX2_init_4 0 rfl ?_
  refine ww_bipush (v := 7) dX2_init_5 rfl ?_
  obtain ⟨fi_1, fq_2, hc, h⟩ := h
  refine wm_putI hM1 rfl in_X2 tyX2_ok nmX2 (ci := 2) rfl 0 (Nat.le_of_ble_eq_true rfl) hc (fun _ _ => rfl) (fun _ _ => Nat.le_of_ble_eq_true rfl) q256 (fun _ _ h => h) rfl rfl rfl dX2_init_7 (fun ws hM2 => ?_)
  refine ww_aloadQ_n dX2_init_10 0 rfl ?_
  obtain ⟨b_4, h⟩ := h
  refine wm_new hM2 in_X3 tyX3_ok q178 q179 q110 (ci := 3) rfl dfl_3 b_4.1 b_4.2 dX2_init_11 (fun q_3 ws hq hM3 => ?_)
  replace h := h q_3 hq
  have hB := b_4
  refine ww_dup dX2_init_14 (rf_cat _) ?_
  refine ww_bipush (v := 8) dX2_init_15 rfl ?_
  obtain ⟨c_5, s_6, b_7, h⟩ := h
  refine wm_callI (n := 1) hM3 (tm_X3_init h) rfl q182 q110 q180 q181 rfl ⟨by decide, by decide, by decide +kernel⟩ rfl ⟨Nat.le_of_ble_eq_true rfl, Nat.le_of_ble_eq_true rfl⟩ rfl (by simp only [List.map_cons, List.map_nil, rf_cat, vI_cat, vL_cat, List.sum_cons, List.sum_nil]; decide) dX2_init_17 b_7 ?_
  clear h
  rintro _ μ_8 ws ⟨rfl, h⟩ hM4
  have hB := b_7
  refine ww_st0 ?_
  obtain ⟨fi_9, fq_10, hc, h⟩ := h
  refine wm_putQF hM4 rfl in_X2 tyX2_ok nmX2 (ci := 2) rfl 1 (Nat.le_of_ble_eq_true rfl) hc (fun _ _ => rfl) (fun _ _ => Nat.le_of_ble_eq_true rfl) q260 (fun _ _ h => h) rfl rfl rfl (narrow_rf rfl _) (fits_rf rfl _) dX2_init_20 (fun ws hM5 => ?_)
  refine ww_aloadQ_n dX2_init_23 0 rfl ?_
  obtain ⟨b_12, h⟩ := h
  refine wm_new hM5 in_X3 tyX3_ok q178 q179 q110 (ci := 3) rfl dfl_3 b_12.1 b_12.2 dX2_init_24 (fun q_11 ws hq hM6 => ?_)
  replace h := h q_11 hq
  have hB := b_12
  refine ww_dup dX2_init_27 (rf_cat _) ?_
  refine ww_iconst dX2_init_28 ?_
  obtain ⟨c_13, s_14, b_15, h⟩ := h
  refine wm_callI (n := 1) hM6 (tm_X3_init h) rfl q182 q110 q180 q181 rfl ⟨by decide, by decide, by decide +kernel⟩ rfl ⟨Nat.le_of_ble_eq_true rfl, Nat.le_of_ble_eq_true rfl⟩ rfl (by simp only [List.map_cons, List.map_nil, rf_cat, vI_cat, vL_cat, List.sum_cons, List.sum_nil]; decide) dX2_init_29 b_15 ?_
  clear h
  rintro _ μ_16 ws ⟨rfl, h⟩ hM7
  have hB := b_15
  refine ww_st0 ?_
  obtain ⟨fi_17, fq_18, hc, h⟩ := h
  refine wm_putQF hM7 rfl in_X2 tyX2_ok nmX2 (ci := 2) rfl 2 (Nat.le_of_ble_eq_true rfl) hc (fun _ _ => rfl) (fun _ _ => Nat.le_of_ble_eq_true rfl) q263 (fun _ _ h => h) rfl rfl rfl (narrow_rf rfl _) (fits_rf rfl _) dX2_init_32 (fun ws hM8 => ?_)
  refine ww_aloadQ_n dX2_init_35 0 rfl ?_
  obtain ⟨b_20, h⟩ := h
  refine wm_new hM8 in_X3 tyX3_ok q178 q179 q110 (ci := 3) rfl dfl_3 b_20.1 b_20.2 dX2_init_36 (fun q_19 ws hq hM9 => ?_)
  replace h := h q_19 hq
  have hB := b_20
  refine ww_dup dX2_init_39 (rf_cat _) ?_
  refine ww_bipush (v := 6) dX2_init_40 rfl ?_
  obtain ⟨c_21, s_22, b_23, h⟩ := h
  refine wm_callI (n := 1) hM9 (tm_X3_init h) rfl q182 q110 q180 q181 rfl ⟨by decide, by decide, by decide +kernel⟩ rfl ⟨Nat.le_of_ble_eq_true rfl, Nat.le_of_ble_eq_true rfl⟩ rfl (by simp only [List.map_cons, List.map_nil, rf_cat, vI_cat, vL_cat, List.sum_cons, List.sum_nil]; decide) dX2_init_42 b_23 ?_
  clear h
  rintro _ μ_24 ws ⟨rfl, h⟩ hM10
  have hB := b_23
  refine ww_st0 ?_
  obtain ⟨fi_25, fq_26, hc, h⟩ := h
  refine wm_putQF hM10 rfl in_X2 tyX2_ok nmX2 (ci := 2) rfl 3 (Nat.le_of_ble_eq_true rfl) hc (fun _ _ => rfl) (fun _ _ => Nat.le_of_ble_eq_true rfl) q266 (fun _ _ h => h) rfl rfl rfl (narrow_rf rfl _) (fits_rf rfl _) dX2_init_45 (fun ws hM11 => ?_)
  exact ww_vret (ws, (hs μ_24 b (hO 2 fi_25 (upF fq_26 3 (some q_19))))) rfl ⟨hM11, ⟨rfl, h⟩⟩ rfl hB.1 hB.2 dX2_init_48
/-! X4_init: HoloNet$State <init> ()V; flags (True, True, False), depth 4 -/
def wc_X4_init (ad : Nat → Nat) (mc ms : Nat) (μ : HM) (b : Nat) (P : HM → Prop) : Prop :=
  (0 ≤ (6 : Int) ∧ (6 : Int) < 50000000 ∧ 0 + 1 ≤ mc ∧ 0 + (6 : Int).toNat ≤ ms) ∧ ∀ q_1 : Nat, μ q_1 = none →
  ∃ (fi_3 : Nat → Int) (fq_4 : Nat → Option Nat), (hs μ q_1 (hQ 6 (6 : Int).toNat (fun _ => none))) b = some (hO 4 fi_3 fq_4) ∧ 
  (0 + 1 + 1 ≤ mc ∧ 0 + (6 : Int).toNat + 3 ≤ ms) ∧ ∀ q_5 : Nat, (hs (hs μ q_1 (hQ 6 (6 : Int).toNat (fun _ => none))) b (hO 4 fi_3 (upF fq_4 0 (some q_1)))) q_5 = none →
  wc_J2_init ad (hs (hs (hs μ q_1 (hQ 6 (6 : Int).toNat (fun _ => none))) b (hO 4 fi_3 (upF fq_4 0 (some q_1)))) q_5 (hO 18 (fun _ => 0) (fun _ => none))) q_5 (fun μ_7 =>
    ∃ (fi_8 : Nat → Int) (fq_9 : Nat → Option Nat), μ_7 b = some (hO 4 fi_8 fq_9) ∧ 
    (0 ≤ (6 : Int) ∧ (6 : Int) < 50000000 ∧ 0 + 1 + 1 + 1 ≤ mc ∧ 0 + (6 : Int).toNat + 3 + (6 : Int).toNat ≤ ms) ∧ ∀ q_10 : Nat, (hs μ_7 b (hO 4 fi_8 (upF fq_9 1 (some q_5)))) q_10 = none →
    ∃ (fi_12 : Nat → Int) (fq_13 : Nat → Option Nat), (hs (hs μ_7 b (hO 4 fi_8 (upF fq_9 1 (some q_5)))) q_10 (hA 0 (6 : Int).toNat (fun _ => 0))) b = some (hO 4 fi_12 fq_13) ∧ 
    P (hs (hs (hs μ_7 b (hO 4 fi_8 (upF fq_9 1 (some q_5)))) q_10 (hA 0 (6 : Int).toNat (fun _ => 0))) b (hO 4 fi_12 (upF fq_13 2 (some q_10)))))
set_option maxHeartbeats 4000000 in
theorem tm_X4_init {G : g_G} {l : Launch} {mc ms : Nat} {μ : HM} {b : Nat} {P : HM → Prop} (h : wc_X4_init (g_ad G) mc ms μ b P) : CM G l yX4_init cX4_init 1 (Option.none : Option Jvm.ClassFile.FieldType) 4 mc ms [.ref b] μ (hR0 P) := by
  unfold wc_X4_init at h
  refine wm_of (lvs := [(0, va_rf (some b))]) (by decide) (Nat.le_of_ble_eq_true rfl) rfl (fun fr ws hM1 => ?_)
  show WW G l cX4_init RX4 1 (Option.none : Option Jvm.ClassFile.FieldType) "<init>" 4 mc ms (hMR G (hR0 P)) (fun u => [u.1, fr]) 0 0 [ws, fr] 0 [(0, va_rf (some b))] []
  have hB : 0 ≤ mc ∧ 0 ≤ ms := ⟨Nat.zero_le _, Nat.zero_le _⟩
  refine ww_aloadQ_n dX4_init_0 0 rfl ?_
  refine wm_objInit rfl q288 q170 q171 (Nat.le_of_ble_eq_true rfl) (Nat.le_of_ble_eq_true rfl) dX4_init_1 ?_
  refine ww_aloadQ_n dX4_init_4 0 rfl ?_
  refine ww_bipush (v := 6) dX4_init_5 rfl ?_
  obtain ⟨b_2, h⟩ := h
  refine wm_anew6 hM1 q289 b_2.1 (by omega) b_2.2.2.1 b_2.2.2.2 dX4_init_7 (fun q_1 ws hq hM2 => ?_)
  replace h := h q_1 hq
  have hB := b_2.2.2
  obtain ⟨fi_3, fq_4, hc, h⟩ := h
  refine wm_putQF hM2 rfl in_X4 tyX4_ok nmX4 (ci := 4) rfl 0 (Nat.le_of_ble_eq_true rfl) hc (fun _ _ => rfl) (fun _ _ => Nat.le_of_ble_eq_true rfl) q293 (fun _ _ h => h) rfl rfl rfl (narrow_rf rfl _) (fits_rf rfl _) dX4_init_10 (fun ws hM3 => ?_)
  refine ww_aloadQ_n dX4_init_13 0 rfl ?_
  obtain ⟨b_6, h⟩ := h
  refine wm_new hM3 in_J2 tyJ2_ok q291 q185 q113 (ci := 18) rfl dfl_18 b_6.1 b_6.2 dX4_init_14 (fun q_5 ws hq hM4 => ?_)
  replace h := h q_5 hq
  have hB := b_6
  refine ww_dup dX4_init_17 (rf_cat _) ?_
  refine wm_callI (n := 0) hM4 (tm_J2_init h) rfl q188 q113 q292 q187 rfl ⟨by decide, by decide, by decide +kernel⟩ rfl ⟨Nat.le_of_ble_eq_true rfl, Nat.le_of_ble_eq_true rfl⟩ rfl (by simp only [List.map_cons, List.map_nil, rf_cat, vI_cat, vL_cat, List.sum_cons, List.sum_nil]; decide) dX4_init_18 hB ?_
  clear h
  rintro _ μ_7 ws ⟨rfl, h⟩ hM5
  refine ww_st0 ?_
  obtain ⟨fi_8, fq_9, hc, h⟩ := h
  refine wm_putQF hM5 rfl in_X4 tyX4_ok nmX4 (ci := 4) rfl 1 (Nat.le_of_ble_eq_true rfl) hc (fun _ _ => rfl) (fun _ _ => Nat.le_of_ble_eq_true rfl) q298 (fun _ _ h => h) rfl rfl rfl (narrow_rf rfl _) (fits_rf rfl _) dX4_init_21 (fun ws hM6 => ?_)
  refine ww_aloadQ_n dX4_init_24 0 rfl ?_
  refine ww_bipush (v := 6) dX4_init_25 rfl ?_
  obtain ⟨b_11, h⟩ := h
  refine wm_new0 hM6 q163 b_11.1 (by omega) b_11.2.2.1 b_11.2.2.2 dX4_init_27 (fun q_10 ws hq hM7 => ?_)
  replace h := h q_10 hq
  have hB := b_11.2.2
  obtain ⟨fi_12, fq_13, hc, h⟩ := h
  refine wm_putQF hM7 rfl in_X4 tyX4_ok nmX4 (ci := 4) rfl 2 (Nat.le_of_ble_eq_true rfl) hc (fun _ _ => rfl) (fun _ _ => Nat.le_of_ble_eq_true rfl) q302 (fun _ _ h => h) rfl rfl rfl (narrow_rf rfl _) (fits_rf rfl _) dX4_init_29 (fun ws hM8 => ?_)
  exact ww_vret (ws, (hs (hs (hs μ_7 b (hO 4 fi_8 (upF fq_9 1 (some q_5)))) q_10 (hA 0 (6 : Int).toNat (fun _ => 0))) b (hO 4 fi_12 (upF fq_13 2 (some q_10))))) rfl ⟨hM8, ⟨rfl, h⟩⟩ rfl hB.1 hB.2 dX4_init_32
/-! X1_init: HoloNet <init> ()V; flags (True, True, False), depth 6 -/
def wc_X1_init (ad : Nat → Nat) (mc ms : Nat) (μ : HM) (b : Nat) (P : HM → Prop) : Prop :=
  (0 ≤ (700 : Int) ∧ (700 : Int) < 50000000 ∧ 0 + 1 ≤ mc ∧ 0 + (700 : Int).toNat ≤ ms) ∧ ∀ q_1 : Nat, μ q_1 = none →
  ∃ (fi_3 : Nat → Int) (fq_4 : Nat → Option Nat), (hs μ q_1 (hA 2 (700 : Int).toNat (fun _ => 0))) b = some (hO 1 fi_3 fq_4) ∧ 
  (0 + 1 + 1 ≤ mc ∧ 0 + (700 : Int).toNat + 5 ≤ ms) ∧ ∀ q_5 : Nat, (hs (hs μ q_1 (hA 2 (700 : Int).toNat (fun _ => 0))) b (hO 1 fi_3 (upF fq_4 0 (some q_1)))) q_5 = none →
  ∃ c_7 s_8 : Nat, (0 + 1 + 1 + c_7 ≤ mc ∧ 0 + (700 : Int).toNat + 5 + s_8 ≤ ms) ∧
  wc_X2_init ad c_7 s_8 (hs (hs (hs μ q_1 (hA 2 (700 : Int).toNat (fun _ => 0))) b (hO 1 fi_3 (upF fq_4 0 (some q_1)))) q_5 (hO 2 (fun _ => 0) (fun _ => none))) q_5 (fun μ_10 =>
    ∃ (fi_11 : Nat → Int) (fq_12 : Nat → Option Nat), μ_10 b = some (hO 1 fi_11 fq_12) ∧ 
    (0 + 1 + 1 + c_7 + 1 ≤ mc ∧ 0 + (700 : Int).toNat + 5 + s_8 + 3 ≤ ms) ∧ ∀ q_13 : Nat, (hs μ_10 b (hO 1 fi_11 (upF fq_12 2 (some q_5)))) q_13 = none →
    ∃ c_15 s_16 : Nat, (0 + 1 + 1 + c_7 + 1 + c_15 ≤ mc ∧ 0 + (700 : Int).toNat + 5 + s_8 + 3 + s_16 ≤ ms) ∧
    wc_X4_init ad c_15 s_16 (hs (hs μ_10 b (hO 1 fi_11 (upF fq_12 2 (some q_5)))) q_13 (hO 4 (fun _ => 0) (fun _ => none))) q_13 (fun μ_18 =>
      ∃ (fi_19 : Nat → Int) (fq_20 : Nat → Option Nat), μ_18 b = some (hO 1 fi_19 fq_20) ∧ 
      (0 + 1 + 1 + c_7 + 1 + c_15 + 1 ≤ mc ∧ 0 + (700 : Int).toNat + 5 + s_8 + 3 + s_16 + 3 ≤ ms) ∧ ∀ q_21 : Nat, (hs μ_18 b (hO 1 fi_19 (upF fq_20 3 (some q_13)))) q_21 = none →
      wc_J2_init ad (hs (hs μ_18 b (hO 1 fi_19 (upF fq_20 3 (some q_13)))) q_21 (hO 18 (fun _ => 0) (fun _ => none))) q_21 (fun μ_23 =>
        ∃ (fi_24 : Nat → Int) (fq_25 : Nat → Option Nat), μ_23 b = some (hO 1 fi_24 fq_25) ∧ 
        (0 ≤ (2 : Int) ∧ (2 : Int) < 50000000 ∧ 0 + 1 + 1 + c_7 + 1 + c_15 + 1 + 1 ≤ mc ∧ 0 + (700 : Int).toNat + 5 + s_8 + 3 + s_16 + 3 + (2 : Int).toNat ≤ ms) ∧ ∀ q_26 : Nat, (hs μ_23 b (hO 1 fi_24 (upF fq_25 4 (some q_21)))) q_26 = none →
        ∃ (fi_28 : Nat → Int) (fq_29 : Nat → Option Nat), (hs (hs μ_23 b (hO 1 fi_24 (upF fq_25 4 (some q_21)))) q_26 (hQ 5 (2 : Int).toNat (fun _ => none))) b = some (hO 1 fi_28 fq_29) ∧ 
        (0 ≤ (16 : Int) ∧ (16 : Int) < 50000000 ∧ 0 + 1 + 1 + c_7 + 1 + c_15 + 1 + 1 + 1 ≤ mc ∧ 0 + (700 : Int).toNat + 5 + s_8 + 3 + s_16 + 3 + (2 : Int).toNat + (16 : Int).toNat ≤ ms) ∧ ∀ q_30 : Nat, (hs (hs (hs μ_23 b (hO 1 fi_24 (upF fq_25 4 (some q_21)))) q_26 (hQ 5 (2 : Int).toNat (fun _ => none))) b (hO 1 fi_28 (upF fq_29 5 (some q_26)))) q_30 = none →
        ∃ (fi_32 : Nat → Int) (fq_33 : Nat → Option Nat), (hs (hs (hs (hs μ_23 b (hO 1 fi_24 (upF fq_25 4 (some q_21)))) q_26 (hQ 5 (2 : Int).toNat (fun _ => none))) b (hO 1 fi_28 (upF fq_29 5 (some q_26)))) q_30 (hA 0 (16 : Int).toNat (fun _ => 0))) b = some (hO 1 fi_32 fq_33) ∧ 
        P (hs (hs (hs (hs (hs μ_23 b (hO 1 fi_24 (upF fq_25 4 (some q_21)))) q_26 (hQ 5 (2 : Int).toNat (fun _ => none))) b (hO 1 fi_28 (upF fq_29 5 (some q_26)))) q_30 (hA 0 (16 : Int).toNat (fun _ => 0))) b (hO 1 fi_32 (upF fq_33 6 (some q_30)))))))
set_option maxHeartbeats 4000000 in
theorem tm_X1_init {G : g_G} {l : Launch} {mc ms : Nat} {μ : HM} {b : Nat} {P : HM → Prop} (h : wc_X1_init (g_ad G) mc ms μ b P) : CM G l yX1_init cX1_init 1 (Option.none : Option Jvm.ClassFile.FieldType) 6 mc ms [.ref b] μ (hR0 P) := by
  unfold wc_X1_init at h
  refine wm_of (lvs := [(0, va_rf (some b))]) (by decide) (Nat.le_of_ble_eq_true rfl) rfl (fun fr ws hM1 => ?_)
  show WW G l cX1_init RX1 1 (Option.none : Option Jvm.ClassFile.FieldType) "<init>" 6 mc ms (hMR G (hR0 P)) (fun u => [u.1, fr]) 0 0 [ws, fr] 0 [(0, va_rf (some b))] []
  have hB : 0 ≤ mc ∧ 0 ≤ ms := ⟨Nat.zero_le _, Nat.zero_le _⟩
  refine ww_aloadQ_n dX1_init_0 0 rfl ?_
  refine wm_objInit rfl q169 q170 q171 (Nat.le_of_ble_eq_true rfl) (Nat.le_of_ble_eq_true rfl) dX1_init_1 ?_
  refine ww_aloadQ_n dX1_init_4 0 rfl ?_
  refine ww_sipush (v := 700) dX1_init_5 rfl ?_
  obtain ⟨b_2, h⟩ := h
  refine wm_new2 hM1 q213 b_2.1 (by omega) b_2.2.2.1 b_2.2.2.2 dX1_init_8 (fun q_1 ws hq hM2 => ?_)
  replace h := h q_1 hq
  have hB := b_2.2.2
  obtain ⟨fi_3, fq_4, hc, h⟩ := h
  refine wm_putQF hM2 rfl in_X1 tyX1_ok nmX1 (ci := 1) rfl 0 (Nat.le_of_ble_eq_true rfl) hc (fun _ _ => rfl) (fun _ _ => Nat.le_of_ble_eq_true rfl) q315 (fun _ _ h => h) rfl rfl rfl (narrow_rf rfl _) (fits_rf rfl _) dX1_init_10 (fun ws hM3 => ?_)
  refine ww_aloadQ_n dX1_init_13 0 rfl ?_
  obtain ⟨b_6, h⟩ := h
  refine wm_new hM3 in_X2 tyX2_ok q172 q173 q109 (ci := 2) rfl dfl_2 b_6.1 b_6.2 dX1_init_14 (fun q_5 ws hq hM4 => ?_)
  replace h := h q_5 hq
  have hB := b_6
  refine ww_dup dX1_init_17 (rf_cat _) ?_
  obtain ⟨c_7, s_8, b_9, h⟩ := h
  refine wm_callIN (n := 0) hM4 (tm_X2_init h) rfl q174 q176 q109 q175 rfl ⟨by decide, by decide, by decide +kernel⟩ rfl ⟨Nat.le_of_ble_eq_true rfl, Nat.le_of_ble_eq_true rfl⟩ rfl (by simp only [List.map_cons, List.map_nil, rf_cat, vI_cat, vL_cat, List.sum_cons, List.sum_nil]; decide) dX1_init_18 b_9 ?_
  clear h
  rintro _ μ_10 ws ⟨rfl, h⟩ hM5
  have hB := b_9
  refine ww_st0 ?_
  obtain ⟨fi_11, fq_12, hc, h⟩ := h
  refine wm_putQ hM5 rfl in_X1 tyX1_ok nmX1 (ci := 1) rfl 2 (Nat.le_of_ble_eq_true rfl) hc (fun _ _ => rfl) (fun _ _ => Nat.le_of_ble_eq_true rfl) q319 (fun _ _ h => h) rfl (narrow_rf rfl _) (fits_rf rfl _) dX1_init_21 (fun ws hM6 => ?_)
  refine ww_aloadQ_n dX1_init_24 0 rfl ?_
  obtain ⟨b_14, h⟩ := h
  refine wm_new hM6 in_X4 tyX4_ok q283 q284 q116 (ci := 4) rfl dfl_4 b_14.1 b_14.2 dX1_init_25 (fun q_13 ws hq hM7 => ?_)
  replace h := h q_13 hq
  have hB := b_14
  refine ww_dup dX1_init_28 (rf_cat _) ?_
  obtain ⟨c_15, s_16, b_17, h⟩ := h
  refine wm_callI (n := 0) hM7 (tm_X4_init h) rfl q287 q116 q285 q286 rfl ⟨by decide, by decide, by decide +kernel⟩ rfl ⟨Nat.le_of_ble_eq_true rfl, Nat.le_of_ble_eq_true rfl⟩ rfl (by simp only [List.map_cons, List.map_nil, rf_cat, vI_cat, vL_cat, List.sum_cons, List.sum_nil]; decide) dX1_init_29 b_17 ?_
  clear h
  rintro _ μ_18 ws ⟨rfl, h⟩ hM8
  have hB := b_17
  refine ww_st0 ?_
  obtain ⟨fi_19, fq_20, hc, h⟩ := h
  refine wm_putQ hM8 rfl in_X1 tyX1_ok nmX1 (ci := 1) rfl 3 (Nat.le_of_ble_eq_true rfl) hc (fun _ _ => rfl) (fun _ _ => Nat.le_of_ble_eq_true rfl) q322 (fun _ _ h => h) rfl (narrow_rf rfl _) (fits_rf rfl _) dX1_init_32 (fun ws hM9 => ?_)
  refine ww_aloadQ_n dX1_init_35 0 rfl ?_
  obtain ⟨b_22, h⟩ := h
  refine wm_new hM9 in_J2 tyJ2_ok q311 q185 q113 (ci := 18) rfl dfl_18 b_22.1 b_22.2 dX1_init_36 (fun q_21 ws hq hM10 => ?_)
  replace h := h q_21 hq
  have hB := b_22
  refine ww_dup dX1_init_39 (rf_cat _) ?_
  refine wm_callI (n := 0) hM10 (tm_J2_init h) rfl q188 q113 q312 q187 rfl ⟨by decide, by decide, by decide +kernel⟩ rfl ⟨Nat.le_of_ble_eq_true rfl, Nat.le_of_ble_eq_true rfl⟩ rfl (by simp only [List.map_cons, List.map_nil, rf_cat, vI_cat, vL_cat, List.sum_cons, List.sum_nil]; decide) dX1_init_40 hB ?_
  clear h
  rintro _ μ_23 ws ⟨rfl, h⟩ hM11
  refine ww_st0 ?_
  obtain ⟨fi_24, fq_25, hc, h⟩ := h
  refine wm_putQF hM11 rfl in_X1 tyX1_ok nmX1 (ci := 1) rfl 4 (Nat.le_of_ble_eq_true rfl) hc (fun _ _ => rfl) (fun _ _ => Nat.le_of_ble_eq_true rfl) q323 (fun _ _ h => h) rfl rfl rfl (narrow_rf rfl _) (fits_rf rfl _) dX1_init_43 (fun ws hM12 => ?_)
  refine ww_aloadQ_n dX1_init_46 0 rfl ?_
  refine ww_iconst dX1_init_47 ?_
  obtain ⟨b_27, h⟩ := h
  refine wm_anew 5 hM12 (fun _ h => h.1) rfl q283 b_27.1 (by omega) b_27.2.2.1 b_27.2.2.2 dX1_init_48 (fun q_26 ws hq hM13 => ?_)
  replace h := h q_26 hq
  have hB := b_27.2.2
  obtain ⟨fi_28, fq_29, hc, h⟩ := h
  refine wm_putQF hM13 rfl in_X1 tyX1_ok nmX1 (ci := 1) rfl 5 (Nat.le_of_ble_eq_true rfl) hc (fun _ _ => rfl) (fun _ _ => Nat.le_of_ble_eq_true rfl) q324 (fun _ _ h => h) rfl rfl rfl (narrow_rf rfl _) (fits_rf rfl _) dX1_init_51 (fun ws hM14 => ?_)
  refine ww_aloadQ_n dX1_init_54 0 rfl ?_
  refine ww_bipush (v := 16) dX1_init_55 rfl ?_
  obtain ⟨b_31, h⟩ := h
  refine wm_new0 hM14 q163 b_31.1 (by omega) b_31.2.2.1 b_31.2.2.2 dX1_init_57 (fun q_30 ws hq hM15 => ?_)
  replace h := h q_30 hq
  have hB := b_31.2.2
  obtain ⟨fi_32, fq_33, hc, h⟩ := h
  refine wm_putQF hM15 rfl in_X1 tyX1_ok nmX1 (ci := 1) rfl 6 (Nat.le_of_ble_eq_true rfl) hc (fun _ _ => rfl) (fun _ _ => Nat.le_of_ble_eq_true rfl) q325 (fun _ _ h => h) rfl rfl rfl (narrow_rf rfl _) (fits_rf rfl _) dX1_init_59 (fun ws hM16 => ?_)
  exact ww_vret (ws, (hs (hs (hs (hs (hs μ_23 b (hO 1 fi_24 (upF fq_25 4 (some q_21)))) q_26 (hQ 5 (2 : Int).toNat (fun _ => none))) b (hO 1 fi_28 (upF fq_29 5 (some q_26)))) q_30 (hA 0 (16 : Int).toNat (fun _ => 0))) b (hO 1 fi_32 (upF fq_33 6 (some q_30))))) rfl ⟨hM16, ⟨rfl, h⟩⟩ rfl hB.1 hB.2 dX1_init_62
/-! X1_feed: HoloNet feed (IIIII)I; flags (True, True, False), depth 0 -/
def wc_X1_feed (ad : Nat → Nat) (mc ms : Nat) (μ : HM) (b : Nat) (a1 : Int) (a2 : Int) (a3 : Int) (a4 : Int) (a5 : Int) (P : Int → HM → Prop) : Prop :=
  ∃ x_1 : Int, gI μ b 1 1 = some x_1 ∧
  rI (x_1 + 20) ∧
  (((x_1 + 20) ≤ 700 →
    (0 ≤ (5 : Int) ∧ (5 : Int) < 50000000 ∧ 0 + 1 ≤ mc ∧ 0 + (5 : Int).toNat ≤ ms) ∧ ∀ q_3 : Nat, μ q_3 = none →
    ∃ (n_5 : Nat) (f_6 : Int → Int), (hs μ q_3 (hA 0 (5 : Int).toNat (fun _ => 0))) q_3 = some (hA 0 n_5 f_6) ∧ ((0 : Int) ≤ 0 ∧ 0 < (n_5 : Int) ∧ (n_5 : Int) < 2147483648) ∧ 
    ∃ (n_7 : Nat) (f_8 : Int → Int), (hs (hs μ q_3 (hA 0 (5 : Int).toNat (fun _ => 0))) q_3 (hA 0 n_5 (updI f_6 0 a1))) q_3 = some (hA 0 n_7 f_8) ∧ ((0 : Int) ≤ 1 ∧ 1 < (n_7 : Int) ∧ (n_7 : Int) < 2147483648) ∧ 
    ∃ (n_9 : Nat) (f_10 : Int → Int), (hs (hs (hs μ q_3 (hA 0 (5 : Int).toNat (fun _ => 0))) q_3 (hA 0 n_5 (updI f_6 0 a1))) q_3 (hA 0 n_7 (updI f_8 1 a2))) q_3 = some (hA 0 n_9 f_10) ∧ ((0 : Int) ≤ 2 ∧ 2 < (n_9 : Int) ∧ (n_9 : Int) < 2147483648) ∧ 
    ∃ (n_11 : Nat) (f_12 : Int → Int), (hs (hs (hs (hs μ q_3 (hA 0 (5 : Int).toNat (fun _ => 0))) q_3 (hA 0 n_5 (updI f_6 0 a1))) q_3 (hA 0 n_7 (updI f_8 1 a2))) q_3 (hA 0 n_9 (updI f_10 2 a3))) q_3 = some (hA 0 n_11 f_12) ∧ ((0 : Int) ≤ 3 ∧ 3 < (n_11 : Int) ∧ (n_11 : Int) < 2147483648) ∧ 
    ∃ (n_13 : Nat) (f_14 : Int → Int), (hs (hs (hs (hs (hs μ q_3 (hA 0 (5 : Int).toNat (fun _ => 0))) q_3 (hA 0 n_5 (updI f_6 0 a1))) q_3 (hA 0 n_7 (updI f_8 1 a2))) q_3 (hA 0 n_9 (updI f_10 2 a3))) q_3 (hA 0 n_11 (updI f_12 3 a4))) q_3 = some (hA 0 n_13 f_14) ∧ ((0 : Int) ≤ 4 ∧ 4 < (n_13 : Int) ∧ (n_13 : Int) < 2147483648) ∧ 
    ∃ n_15 : Nat, gL (hs (hs (hs (hs (hs (hs μ q_3 (hA 0 (5 : Int).toNat (fun _ => 0))) q_3 (hA 0 n_5 (updI f_6 0 a1))) q_3 (hA 0 n_7 (updI f_8 1 a2))) q_3 (hA 0 n_9 (updI f_10 2 a3))) q_3 (hA 0 n_11 (updI f_12 3 a4))) q_3 (hA 0 n_13 (updI f_14 4 a5))) q_3 = some n_15 ∧
    ∃ I50 : Nat → Int → HM → Prop, (∀ (n50 : Nat) (v8_50 : Int) (μ50 : HM), I50 n50 v8_50 μ50 →
      rI v8_50 ∧
      rI (n_15 : Int) ∧
      (((n_15 : Int) ≤ v8_50 →
        ∃ x_18 : Int, gI μ50 b 1 1 = some x_18 ∧
        P x_18 μ50) ∧
      (v8_50 < (n_15 : Int) →
        ∃ x_19 : Int, gA μ50 q_3 0 v8_50 = some x_19 ∧
        ∃ I68 : Nat → Int → HM → Prop, (∀ (n68 : Nat) (v10_68 : Int) (μ68 : HM), I68 n68 v10_68 μ68 →
          rI v10_68 ∧
          ((v10_68 < 0 →
            ∃ m : Nat, m < n50 ∧ I50 m (v8_50 + 1) μ68) ∧
          (0 ≤ v10_68 →
            ∃ x_21 : Option Nat, gQ μ68 b 1 0 = some x_21 ∧
            ∃ x_22 : Int, gI μ68 b 1 1 = some x_22 ∧
            ∃ a_23 : Nat, x_21 = some a_23 ∧
            ∃ (n_24 : Nat) (f_25 : Int → Int), μ68 a_23 = some (hA 2 n_24 f_25) ∧ ((0 : Int) ≤ x_22 ∧ x_22 < (n_24 : Int) ∧ (n_24 : Int) < 2147483648) ∧ (-128 ≤ (bR x_19 v10_68).bmod 256 ∧ (bR x_19 v10_68).bmod 256 < 128) ∧ 
            ∃ x_26 : Int, gI (hs μ68 a_23 (hA 2 n_24 (updI f_25 x_22 ((bR x_19 v10_68).bmod 256)))) b 1 1 = some x_26 ∧
            ∃ (fi_27 : Nat → Int) (fq_28 : Nat → Option Nat), (hs μ68 a_23 (hA 2 n_24 (updI f_25 x_22 ((bR x_19 v10_68).bmod 256)))) b = some (hO 1 fi_27 fq_28) ∧ 
            ∃ m : Nat, m < n68 ∧ I68 m (v10_68 + (-8)) (hs (hs μ68 a_23 (hA 2 n_24 (updI f_25 x_22 ((bR x_19 v10_68).bmod 256)))) b (hO 1 (upF fi_27 1 (x_26 + 1)) fq_28))))) ∧
        ∃ m : Nat, I68 m 24 μ50))) ∧
    ∃ m : Nat, I50 m 0 (hs (hs (hs (hs (hs (hs μ q_3 (hA 0 (5 : Int).toNat (fun _ => 0))) q_3 (hA 0 n_5 (updI f_6 0 a1))) q_3 (hA 0 n_7 (updI f_8 1 a2))) q_3 (hA 0 n_9 (updI f_10 2 a3))) q_3 (hA 0 n_11 (updI f_12 3 a4))) q_3 (hA 0 n_13 (updI f_14 4 a5)))) ∧
  (700 < (x_1 + 20) →
    P (-1) μ))
set_option maxHeartbeats 4000000 in
theorem tm_X1_feed {G : g_G} {l : Launch} {mc ms : Nat} {μ : HM} {b : Nat} {a1 : Int} {a2 : Int} {a3 : Int} {a4 : Int} {a5 : Int} {P : Int → HM → Prop} (h : wc_X1_feed (g_ad G) mc ms μ b a1 a2 a3 a4 a5 P) : CM G l yX1_feed cX1_feed 11 (Option.some Jvm.ClassFile.FieldType.int) 0 mc ms [.ref b, vI a1, vI a2, vI a3, vI a4, vI a5] μ (hR1 P) := by
  unfold wc_X1_feed at h
  refine wm_of (lvs := [(0, va_rf (some b)), (1, vI a1), (2, vI a2), (3, vI a3), (4, vI a4), (5, vI a5)]) (by decide) (Nat.le_of_ble_eq_true rfl) rfl (fun fr ws hM1 => ?_)
  show WW G l cX1_feed RX1 11 (Option.some Jvm.ClassFile.FieldType.int) "feed" 0 mc ms (hMR G (hR1 P)) (fun u => [u.1, fr]) 0 0 [ws, fr] 0 [(0, va_rf (some b)), (1, vI a1), (2, vI a2), (3, vI a3), (4, vI a4), (5, vI a5)] []
  have hB : 0 ≤ mc ∧ 0 ≤ ms := ⟨Nat.zero_le _, Nat.zero_le _⟩
  refine ww_aloadQ_n dX1_feed_0 0 rfl ?_
  obtain ⟨x_1, hx, h⟩ := h
  refine wm_getI hM1 rfl in_X1 (ci := 1) rfl (by decide) 1 (Nat.le_of_ble_eq_true rfl) hx (fun _ _ => rfl) q316 (fun _ _ h => h) dX1_feed_1 ?_
  refine ww_bipush (v := 20) dX1_feed_4 rfl ?_
  refine ww_iadd dX1_feed_6 ?_
  refine ww_sipush (v := 700) dX1_feed_7 rfl ?_
  obtain ⟨r_2, h⟩ := h
  refine ww_icmp_le (tgt := 15) dX1_feed_10 (by decide) r_2 (by decide) (fun c => ?_) (fun c => ?_)
  · replace h := h.1 c
    refine ww_iconst dX1_feed_15 ?_
    obtain ⟨b_4, h⟩ := h
    refine wm_new0 hM1 q163 b_4.1 (by omega) b_4.2.2.1 b_4.2.2.2 dX1_feed_16 (fun q_3 ws hq hM2 => ?_)
    replace h := h q_3 hq
    have hB := b_4.2.2
    refine ww_dup dX1_feed_18 (rf_cat _) ?_
    refine ww_iconst dX1_feed_19 ?_
    refine ww_iload_n dX1_feed_20 1 rfl ?_
    obtain ⟨n_5, f_6, hc, hi, h⟩ := h
    refine wm_iast hM2 rfl hc hi.1 hi.2.1 hi.2.2 dX1_feed_21 (fun ws hM3 => ?_)
    refine ww_dup dX1_feed_22 (rf_cat _) ?_
    refine ww_iconst dX1_feed_23 ?_
    refine ww_iload_n dX1_feed_24 2 rfl ?_
    obtain ⟨n_7, f_8, hc, hi, h⟩ := h
    refine wm_iast hM3 rfl hc hi.1 hi.2.1 hi.2.2 dX1_feed_25 (fun ws hM4 => ?_)
    refine ww_dup dX1_feed_26 (rf_cat _) ?_
    refine ww_iconst dX1_feed_27 ?_
    refine ww_iload_n dX1_feed_28 3 rfl ?_
    obtain ⟨n_9, f_10, hc, hi, h⟩ := h
    refine wm_iast hM4 rfl hc hi.1 hi.2.1 hi.2.2 dX1_feed_29 (fun ws hM5 => ?_)
    refine ww_dup dX1_feed_30 (rf_cat _) ?_
    refine ww_iconst dX1_feed_31 ?_
    refine ww_iload dX1_feed_32 4 rfl ?_
    obtain ⟨n_11, f_12, hc, hi, h⟩ := h
    refine wm_iast hM5 rfl hc hi.1 hi.2.1 hi.2.2 dX1_feed_34 (fun ws hM6 => ?_)
    refine ww_dup dX1_feed_35 (rf_cat _) ?_
    refine ww_iconst dX1_feed_36 ?_
    refine ww_iload dX1_feed_37 5 rfl ?_
    obtain ⟨n_13, f_14, hc, hi, h⟩ := h
    refine wm_iast hM6 rfl hc hi.1 hi.2.1 hi.2.2 dX1_feed_39 (fun ws hM7 => ?_)
    refine ww_astoreQ (i := 6) (lv2 := [(6, va_rf (some q_3)), (0, va_rf (some b)), (1, vI a1), (2, vI a2), (3, vI a3), (4, vI a4), (5, vI a5)]) dX1_feed_40 (Nat.le_of_ble_eq_true rfl) rfl ?_
    refine ww_aloadQ dX1_feed_42 0 rfl ?_
    obtain ⟨n_15, hn, h⟩ := h
    refine wm_alen hM7 rfl hn dX1_feed_44 ?_
    refine ww_istore (i := 7) (lv2 := [(7, vI (n_15 : Int)), (6, va_rf (some q_3)), (0, va_rf (some b)), (1, vI a1), (2, vI a2), (3, vI a3), (4, vI a4), (5, vI a5)]) dX1_feed_45 (Nat.le_of_ble_eq_true rfl) rfl ?_
    refine ww_iconst dX1_feed_47 ?_
    refine ww_istore (i := 8) (lv2 := [(8, vI 0), (7, vI (n_15 : Int)), (6, va_rf (some q_3)), (0, va_rf (some b)), (1, vI a1), (2, vI a2), (3, vI a3), (4, vI a4), (5, vI a5)]) dX1_feed_48 (Nat.le_of_ble_eq_true rfl) rfl ?_
    obtain ⟨I50, hI50, h⟩ := h
    have kI50 : ∀ (n50 : Nat), ∀ (v8_50 : Int), ∀ (μ50 : HM), I50 n50 v8_50 μ50 → ∀ ws : va_W, Mrep G ws μ50 → (0 + 1 ≤ mc ∧ 0 + (5 : Int).toNat ≤ ms) → WW G l cX1_feed RX1 11 (Option.some Jvm.ClassFile.FieldType.int) "feed" 0 mc ms (hMR G (hR1 P)) (fun u => [u.1, fr]) (0 + 1) (0 + (5 : Int).toNat) [ws, fr] 50 [(0, va_rf (some b)), (6, va_rf (some q_3)), (7, vI (n_15 : Int)), (8, vI v8_50)] [] := by
      clear h
      intro n50
      induction n50 using Nat.strongRecOn with
      | ind n50 ih50 =>
        intro v8_50 μ50 hj ws hM8 hB
        have h := hI50 n50 v8_50 μ50 hj
        refine ww_iload dX1_feed_50 3 rfl ?_
        refine ww_iload dX1_feed_52 2 rfl ?_
        obtain ⟨r_16, r_17, h⟩ := h
        refine ww_icmp_ge (tgt := 110) dX1_feed_54 (by decide) r_16 r_17 (fun c => ?_) (fun c => ?_)
        · replace h := h.1 c
          refine ww_aloadQ_n dX1_feed_110 0 rfl ?_
          obtain ⟨x_18, hx, h⟩ := h
          refine wm_getI hM8 rfl in_X1 (ci := 1) rfl (by decide) 1 (Nat.le_of_ble_eq_true rfl) hx (fun _ _ => rfl) q316 (fun _ _ h => h) dX1_feed_111 ?_
          exact ww_iret (ws, μ50) rfl ⟨hM8, ⟨_, rfl, h⟩⟩ rfl hB.1 hB.2 dX1_feed_114
        · replace h := h.2 (Int.not_le.mp c)
          refine ww_aloadQ dX1_feed_57 1 rfl ?_
          refine ww_iload dX1_feed_59 3 rfl ?_
          obtain ⟨x_19, hx, h⟩ := h
          refine wm_iald hM8 rfl hx dX1_feed_61 ?_
          refine ww_istore (i := 9) (lv2 := [(9, vI x_19), (0, va_rf (some b)), (6, va_rf (some q_3)), (7, vI (n_15 : Int)), (8, vI v8_50)]) dX1_feed_62 (Nat.le_of_ble_eq_true rfl) rfl ?_
          refine ww_bipush (v := 24) dX1_feed_64 rfl ?_
          refine ww_istore (i := 10) (lv2 := [(10, vI 24), (9, vI x_19), (0, va_rf (some b)), (6, va_rf (some q_3)), (7, vI (n_15 : Int)), (8, vI v8_50)]) dX1_feed_66 (Nat.le_of_ble_eq_true rfl) rfl ?_
          obtain ⟨I68, hI68, h⟩ := h
          have kI68 : ∀ (n68 : Nat), ∀ (v10_68 : Int), ∀ (μ68 : HM), I68 n68 v10_68 μ68 → ∀ ws : va_W, Mrep G ws μ68 → (0 + 1 ≤ mc ∧ 0 + (5 : Int).toNat ≤ ms) → WW G l cX1_feed RX1 11 (Option.some Jvm.ClassFile.FieldType.int) "feed" 0 mc ms (hMR G (hR1 P)) (fun u => [u.1, fr]) (0 + 1) (0 + (5 : Int).toNat) [ws, fr] 68 [(0, va_rf (some b)), (6, va_rf (some q_3)), (7, vI (n_15 : Int)), (8, vI v8_50), (9, vI x_19), (10, vI v10_68)] [] := by
            clear h
            intro n68
            induction n68 using Nat.strongRecOn with
            | ind n68 ih68 =>
              intro v10_68 μ68 hj ws hM9 hB
              have h := hI68 n68 v10_68 μ68 hj
              refine ww_iload dX1_feed_68 5 rfl ?_
              obtain ⟨r_20, h⟩ := h
              refine ww_if_lt (tgt := 104) dX1_feed_70 (by decide) r_20 (fun c => ?_) (fun c => ?_)
              · replace h := h.1 c
                refine ww_iinc (lv2 := [(8, vI (v8_50 + 1)), (0, va_rf (some b)), (6, va_rf (some q_3)), (7, vI (n_15 : Int)), (9, vI x_19), (10, vI v10_68)]) dX1_feed_104 3 rfl (Nat.le_of_ble_eq_true rfl) rfl ?_
                refine ww_goto (tgt := 50) dX1_feed_107 (by decide) ?_
                refine ww_lv [1, 2, 3, 0] rfl ?_
                obtain ⟨m, hm, h⟩ := h
                exact ih50 m hm _ _ h _ hM9 hB
              · replace h := h.2 (Int.not_lt.mp c)
                refine ww_aloadQ_n dX1_feed_73 0 rfl ?_
                obtain ⟨x_21, hx, h⟩ := h
                refine wm_getQ hM9 rfl in_X1 (ci := 1) rfl (by decide) 0 (Nat.le_of_ble_eq_true rfl) hx (fun _ _ => rfl) q315 (fun _ _ h => h) dX1_feed_74 ?_
                refine ww_aloadQ_n dX1_feed_77 0 rfl ?_
                obtain ⟨x_22, hx, h⟩ := h
                refine wm_getI hM9 rfl in_X1 (ci := 1) rfl (by decide) 1 (Nat.le_of_ble_eq_true rfl) hx (fun _ _ => rfl) q316 (fun _ _ h => h) dX1_feed_78 ?_
                refine ww_iload dX1_feed_81 4 rfl ?_
                refine ww_iload dX1_feed_83 5 rfl ?_
                refine ww_ishr dX1_feed_85 ?_
                refine ww_i2b dX1_feed_86 ?_
                obtain ⟨a_23, ea_23, h⟩ := h
                subst ea_23
                obtain ⟨n_24, f_25, hc, hi, hx, h⟩ := h
                refine wm_bast hM9 rfl hc hi.1 hi.2.1 hi.2.2 hx dX1_feed_87 (fun ws hM10 => ?_)
                refine ww_aloadQ_n dX1_feed_88 0 rfl ?_
                refine ww_dup dX1_feed_89 (rf_cat _) ?_
                obtain ⟨x_26, hx, h⟩ := h
                refine wm_getI hM10 rfl in_X1 (ci := 1) rfl (by decide) 1 (Nat.le_of_ble_eq_true rfl) hx (fun _ _ => rfl) q316 (fun _ _ h => h) dX1_feed_90 ?_
                refine ww_iconst dX1_feed_93 ?_
                refine ww_iadd dX1_feed_94 ?_
                obtain ⟨fi_27, fq_28, hc, h⟩ := h
                refine wm_putI hM10 rfl in_X1 tyX1_ok nmX1 (ci := 1) rfl 1 (Nat.le_of_ble_eq_true rfl) hc (fun _ _ => rfl) (fun _ _ => Nat.le_of_ble_eq_true rfl) q316 (fun _ _ h => h) rfl rfl rfl dX1_feed_95 (fun ws hM11 => ?_)
                refine ww_iinc (lv2 := [(10, vI (v10_68 + (-8))), (0, va_rf (some b)), (6, va_rf (some q_3)), (7, vI (n_15 : Int)), (8, vI v8_50), (9, vI x_19)]) dX1_feed_98 5 rfl (Nat.le_of_ble_eq_true rfl) rfl ?_
                refine ww_goto (tgt := 68) dX1_feed_101 (by decide) ?_
                refine ww_lv [1, 2, 3, 4, 5, 0] rfl ?_
                obtain ⟨m, hm, h⟩ := h
                exact ih68 m hm _ _ h _ hM11 hB
          refine ww_lv [2, 3, 4, 5, 1, 0] rfl ?_
          obtain ⟨m, h⟩ := h
          exact kI68 m _ _ h _ hM8 hB
    refine ww_lv [3, 2, 1, 0] rfl ?_
    obtain ⟨m, h⟩ := h
    exact kI50 m _ _ h _ hM7 hB
  · replace h := h.2 (Int.not_le.mp c)
    refine ww_iconst dX1_feed_13 ?_
    exact ww_iret (ws, μ) rfl ⟨hM1, ⟨_, rfl, h⟩⟩ rfl hB.1 hB.2 dX1_feed_14
/-! J2_clear: java/util/ArrayList clear ()V; flags (True, False, False), depth 0 -/
def wc_J2_clear (ad : Nat → Nat) (μ : HM) (b : Nat) (P : HM → Prop) : Prop :=
  ∃ x_1 : Int, gI μ b 18 0 = some x_1 ∧
  ∃ (fi_2 : Nat → Int) (fq_3 : Nat → Option Nat), μ b = some (hO 18 fi_2 fq_3) ∧ 
  ∃ x_4 : Option Nat, gQ (hs μ b (hO 18 (upF fi_2 0 (x_1 + 1)) fq_3)) b 18 1 = some x_4 ∧
  ∃ x_5 : Int, gI (hs μ b (hO 18 (upF fi_2 0 (x_1 + 1)) fq_3)) b 18 2 = some x_5 ∧
  ∃ (fi_6 : Nat → Int) (fq_7 : Nat → Option Nat), (hs μ b (hO 18 (upF fi_2 0 (x_1 + 1)) fq_3)) b = some (hO 18 fi_6 fq_7) ∧ 
  ∃ I27 : Nat → Int → HM → Prop, (∀ (n27 : Nat) (v3_27 : Int) (μ27 : HM), I27 n27 v3_27 μ27 →
    rI v3_27 ∧
    rI x_5 ∧
    ((x_5 ≤ v3_27 →
      P μ27) ∧
    (v3_27 < x_5 →
      ∃ a_10 : Nat, x_4 = some a_10 ∧
      ∃ (n_11 : Nat) (f_12 : Int → Option Nat), μ27 a_10 = some (hQ 4 n_11 f_12) ∧ ((0 : Int) ≤ v3_27 ∧ v3_27 < (n_11 : Int) ∧ (n_11 : Int) < 2147483648) ∧
      ∃ m : Nat, m < n27 ∧ I27 m (v3_27 + 1) (hs μ27 a_10 (hQ 4 n_11 (updI f_12 v3_27 none)))))) ∧
  ∃ m : Nat, I27 m 0 (hs (hs μ b (hO 18 (upF fi_2 0 (x_1 + 1)) fq_3)) b (hO 18 (upF fi_6 2 0) fq_7))
set_option maxHeartbeats 4000000 in
theorem tm_J2_clear {G : g_G} {l : Launch} {μ : HM} {b : Nat} {P : HM → Prop} (h : wc_J2_clear (g_ad G) μ b P) : CM G l yJ2_clear cJ2_clear 4 (Option.none : Option Jvm.ClassFile.FieldType) 0 0 0 [.ref b] μ (hR0 P) := by
  unfold wc_J2_clear at h
  refine wm_of (lvs := [(0, va_rf (some b))]) (by decide) (Nat.le_of_ble_eq_true rfl) rfl (fun fr ws hM1 => ?_)
  show WW G l cJ2_clear RJ2 4 (Option.none : Option Jvm.ClassFile.FieldType) "clear" 0 0 0 (hMR G (hR0 P)) (fun u => [u.1, fr]) 0 0 [ws, fr] 0 [(0, va_rf (some b))] []
  refine ww_aloadQ_n dJ2_clear_0 0 rfl ?_
  refine ww_dup dJ2_clear_1 (rf_cat _) ?_
  obtain ⟨x_1, hx, h⟩ := h
  refine wm_getIS hM1 rfl in_J2 (ci := 18) rfl (by decide) 0 (Nat.le_of_ble_eq_true rfl) hx (fun _ _ => rfl) q205 (g_sameF q204) dJ2_clear_2 ?_
  refine ww_iconst dJ2_clear_5 ?_
  refine ww_iadd dJ2_clear_6 ?_
  obtain ⟨fi_2, fq_3, hc, h⟩ := h
  refine wm_putIS hM1 rfl in_J2 tyJ2_ok nmJ2 (ci := 18) rfl 0 (Nat.le_of_ble_eq_true rfl) hc (fun _ _ => rfl) (fun _ _ => Nat.le_of_ble_eq_true rfl) q205 (g_sameF q204) rfl rfl rfl dJ2_clear_7 (fun ws hM2 => ?_)
  refine ww_aloadQ_n dJ2_clear_10 0 rfl ?_
  obtain ⟨x_4, hx, h⟩ := h
  refine wm_getQ hM2 rfl in_J2 (ci := 18) rfl (by decide) 1 (Nat.le_of_ble_eq_true rfl) hx (fun _ _ => rfl) q198 (fun _ _ h => h) dJ2_clear_11 ?_
  refine ww_astoreQ_n (i := 1) (lv2 := [(1, va_rf x_4), (0, va_rf (some b))]) dJ2_clear_14 rfl (Nat.le_of_ble_eq_true rfl) rfl ?_
  refine ww_aloadQ_n dJ2_clear_15 1 rfl ?_
  obtain ⟨x_5, hx, h⟩ := h
  refine wm_getI hM2 rfl in_J2 (ci := 18) rfl (by decide) 2 (Nat.le_of_ble_eq_true rfl) hx (fun _ _ => rfl) q201 (fun _ _ h => h) dJ2_clear_16 ?_
  refine ww_istore_n (i := 2) (lv2 := [(2, vI x_5), (1, va_rf x_4), (0, va_rf (some b))]) dJ2_clear_19 rfl (Nat.le_of_ble_eq_true rfl) (by simp [rf_cat, vI_cat, vL_cat, ref_cat]) ?_
  refine ww_aloadQ_n dJ2_clear_20 2 rfl ?_
  refine ww_iconst dJ2_clear_21 ?_
  refine ww_dup_x1 dJ2_clear_22 rfl (rf_cat _) ?_
  obtain ⟨fi_6, fq_7, hc, h⟩ := h
  refine wm_putI hM2 rfl in_J2 tyJ2_ok nmJ2 (ci := 18) rfl 2 (Nat.le_of_ble_eq_true rfl) hc (fun _ _ => rfl) (fun _ _ => Nat.le_of_ble_eq_true rfl) q201 (fun _ _ h => h) rfl rfl rfl dJ2_clear_23 (fun ws hM3 => ?_)
  refine ww_istore_n (i := 3) (lv2 := [(3, vI 0), (2, vI x_5), (1, va_rf x_4), (0, va_rf (some b))]) dJ2_clear_26 rfl (Nat.le_of_ble_eq_true rfl) rfl ?_
  obtain ⟨I27, hI27, h⟩ := h
  have kI27 : ∀ (n27 : Nat), ∀ (v3_27 : Int), ∀ (μ27 : HM), I27 n27 v3_27 μ27 → ∀ ws : va_W, Mrep G ws μ27 → WW G l cJ2_clear RJ2 4 (Option.none : Option Jvm.ClassFile.FieldType) "clear" 0 0 0 (hMR G (hR0 P)) (fun u => [u.1, fr]) 0 0 [ws, fr] 27 [(1, va_rf x_4), (2, vI x_5), (3, vI v3_27)] [] := by
    clear h
    intro n27
    induction n27 using Nat.strongRecOn with
    | ind n27 ih27 =>
      intro v3_27 μ27 hj ws hM4
      have h := hI27 n27 v3_27 μ27 hj
      refine ww_iload_n dJ2_clear_27 2 rfl ?_
      refine ww_iload_n dJ2_clear_28 1 rfl ?_
      obtain ⟨r_8, r_9, h⟩ := h
      refine ww_icmp_ge (tgt := 42) dJ2_clear_29 (by decide) r_8 r_9 (fun c => ?_) (fun c => ?_)
      · replace h := h.1 c
        exact ww_vret (ws, μ27) rfl ⟨hM4, ⟨rfl, h⟩⟩ rfl (Nat.le_refl _) (Nat.le_refl _) dJ2_clear_42
      · replace h := h.2 (Int.not_le.mp c)
        refine ww_aloadQ_n dJ2_clear_32 0 rfl ?_
        refine ww_iload_n dJ2_clear_33 2 rfl ?_
        refine ww_nullQ dJ2_clear_34 ?_
        obtain ⟨a_10, ea_10, h⟩ := h
        subst ea_10
        obtain ⟨n_11, f_12, hc, hi, h⟩ := h
        refine wm_aastN 4 rfl hM4 rfl hc hi.1 hi.2.1 hi.2.2 dJ2_clear_35 (fun ws hM5 => ?_)
        refine ww_iinc (lv2 := [(3, vI (v3_27 + 1)), (1, va_rf (some a_10)), (2, vI x_5)]) dJ2_clear_36 2 rfl (Nat.le_of_ble_eq_true rfl) rfl ?_
        refine ww_goto (tgt := 27) dJ2_clear_39 (by decide) ?_
        refine ww_lv [1, 2, 0] rfl ?_
        obtain ⟨m, hm, h⟩ := h
        exact ih27 m hm _ _ h _ hM5
  refine ww_lv [2, 1, 0] rfl ?_
  obtain ⟨m, h⟩ := h
  exact kI27 m _ _ h _ hM3
/-! X1_within: HoloNet within (JJJ)Z; flags (False, False, False), depth 0 -/
def wc_X1_within (ad : Nat → Nat) (μ : HM) (a1 : Int) (a2 : Int) (a3 : Int) (P : Int → Prop) : Prop :=
  rL a1 ∧
  rL a2 ∧
  ((a1 < a2 →
    P 0) ∧
  (a2 ≤ a1 →
    rL a1 ∧
    rL a3 ∧
    ((a3 < a1 →
      P 0) ∧
    (a1 ≤ a3 →
      P 1))))
set_option maxHeartbeats 4000000 in
theorem tm_X1_within {G : g_G} {l : Launch} {μ : HM} {a1 : Int} {a2 : Int} {a3 : Int} {P : Int → Prop} (h : wc_X1_within (g_ad G) μ a1 a2 a3 P) : CM G l yX1_within cX1_within 6 (Option.some Jvm.ClassFile.FieldType.boolean) 0 0 0 [vL a1, vL a2, vL a3] μ (hN2 μ P) := by
  unfold wc_X1_within at h
  refine wm_of (lvs := [(0, vL a1), (2, vL a2), (4, vL a3)]) (by decide) (Nat.le_of_ble_eq_true rfl) rfl (fun fr ws hM1 => ?_)
  show WW G l cX1_within RX1 6 (Option.some Jvm.ClassFile.FieldType.boolean) "within" 0 0 0 (hMR G (hN2 μ P)) (fun u => [u.1, fr]) 0 0 [ws, fr] 0 [(0, vL a1), (2, vL a2), (4, vL a3)] []
  refine ww_lload_n dX1_within_0 0 rfl ?_
  refine ww_lload_n dX1_within_1 1 rfl ?_
  obtain ⟨r_1, r_2, h⟩ := h
  refine ww_lcmp dX1_within_2 r_1 r_2 ?_
  refine ww_if_lt (tgt := 17) dX1_within_3 (by decide) r_cmp (fun c => ?_) (fun c => ?_)
  · replace h := h.1 (cmp_lt.mp c)
    refine ww_iconst dX1_within_17 ?_
    exact ww_zret (ws, μ) rfl (Or.inl rfl) ⟨hM1, ⟨rfl, _, rfl, Or.inl rfl, h⟩⟩ rfl (Nat.le_refl _) (Nat.le_refl _) dX1_within_18
  · replace h := h.2 (cmp_ltn.mp c)
    refine ww_lload_n dX1_within_6 0 rfl ?_
    refine ww_lload dX1_within_7 2 rfl ?_
    obtain ⟨r_3, r_4, h⟩ := h
    refine ww_lcmp dX1_within_9 r_3 r_4 ?_
    refine ww_if_gt (tgt := 17) dX1_within_10 (by decide) r_cmp (fun c => ?_) (fun c => ?_)
    · replace h := h.1 (cmp_gt.mp c)
      refine ww_iconst dX1_within_17 ?_
      exact ww_zret (ws, μ) rfl (Or.inl rfl) ⟨hM1, ⟨rfl, _, rfl, Or.inl rfl, h⟩⟩ rfl (Nat.le_refl _) (Nat.le_refl _) dX1_within_18
    · replace h := h.2 (cmp_gtn.mp c)
      refine ww_iconst dX1_within_13 ?_
      refine ww_goto (tgt := 18) dX1_within_14 (by decide) ?_
      exact ww_zret (ws, μ) rfl (Or.inr rfl) ⟨hM1, ⟨rfl, _, rfl, Or.inr rfl, h⟩⟩ rfl (Nat.le_refl _) (Nat.le_refl _) dX1_within_18
/-! J5_init: java/lang/AbstractStringBuilder <init> (I)V; flags (True, True, False), depth 1 -/
def wc_J5_init (ad : Nat → Nat) (mc ms : Nat) (μ : HM) (b : Nat) (a1 : Int) (P : HM → Prop) : Prop :=
  (((1 : Int) = 0 →
    False) ∧
  (¬ (1 : Int) = 0 →
    (0 ≤ a1 ∧ a1 < 50000000 ∧ 0 + 1 ≤ mc ∧ 0 + a1.toNat ≤ ms) ∧ ∀ q_1 : Nat, μ q_1 = none →
    ∃ (fi_3 : Nat → Int) (fq_4 : Nat → Option Nat), (hs μ q_1 (hA 2 a1.toNat (fun _ => 0))) b = some (hO 21 fi_3 fq_4) ∧ 
    ∃ (fi_5 : Nat → Int) (fq_6 : Nat → Option Nat), (hs (hs μ q_1 (hA 2 a1.toNat (fun _ => 0))) b (hO 21 fi_3 (upF fq_4 0 (some q_1)))) b = some (hO 21 fi_5 fq_6) ∧ 
    P (hs (hs (hs μ q_1 (hA 2 a1.toNat (fun _ => 0))) b (hO 21 fi_3 (upF fq_4 0 (some q_1)))) b (hO 21 (upF fi_5 1 0) fq_6))))
set_option maxHeartbeats 4000000 in
theorem tm_J5_init {G : g_G} {l : Launch} {mc ms : Nat} {μ : HM} {b : Nat} {a1 : Int} {P : HM → Prop} (h : wc_J5_init (g_ad G) mc ms μ b a1 P) : CM G l yJ5_init cJ5_init 2 (Option.none : Option Jvm.ClassFile.FieldType) 1 mc ms [.ref b, vI a1] μ (hR0 P) := by
  unfold wc_J5_init at h
  refine wm_of (lvs := [(0, va_rf (some b)), (1, vI a1)]) (by decide) (Nat.le_of_ble_eq_true rfl) rfl (fun fr ws hM1 => ?_)
  show WW G l cJ5_init RJ5 2 (Option.none : Option Jvm.ClassFile.FieldType) "<init>" 1 mc ms (hMR G (hR0 P)) (fun u => [u.1, fr]) 0 0 [ws, fr] 0 [(0, va_rf (some b)), (1, vI a1)] []
  have hB : 0 ≤ mc ∧ 0 ≤ ms := ⟨Nat.zero_le _, Nat.zero_le _⟩
  refine ww_aloadQ_n dJ5_init_0 0 rfl ?_
  refine wm_objInit rfl q374 q170 q171 (Nat.le_of_ble_eq_true rfl) (Nat.le_of_ble_eq_true rfl) dJ5_init_1 ?_
  refine wm_getsI (C := "java/lang/String") (x := 1) (by decide) q375 (fun _ _ h => h) dJ5_init_4 ?_
  refine ww_eq rfl rfl (show _ = vI 1 :: _ from rfl) ?_
  refine ww_if_eq (tgt := 25) dJ5_init_7 (by decide) (by decide) (fun c => ?_) (fun c => ?_)
  · replace h := h.1 c
    refine ww_aloadQ_n dJ5_init_25 0 rfl ?_
    refine ww_iload_n dJ5_init_26 1 rfl ?_
    exact h.elim
  · replace h := h.2 c
    refine ww_aloadQ_n dJ5_init_10 0 rfl ?_
    refine ww_iload_n dJ5_init_11 1 rfl ?_
    obtain ⟨b_2, h⟩ := h
    refine wm_new2 hM1 q213 b_2.1 (by omega) b_2.2.2.1 b_2.2.2.2 dJ5_init_12 (fun q_1 ws hq hM2 => ?_)
    replace h := h q_1 hq
    have hB := b_2.2.2
    obtain ⟨fi_3, fq_4, hc, h⟩ := h
    refine wm_putQ hM2 rfl in_J6 tyJ6_ok nmJ6 (ci := 21) rfl 0 (Nat.le_of_ble_eq_true rfl) hc (fun _ _ => rfl) (fun _ _ => Nat.le_of_ble_eq_true rfl) q384 (fun _ _ h => h) rfl (narrow_rf rfl _) (fits_rf rfl _) dJ5_init_14 (fun ws hM3 => ?_)
    refine ww_aloadQ_n dJ5_init_17 0 rfl ?_
    refine ww_iconst dJ5_init_18 ?_
    obtain ⟨fi_5, fq_6, hc, h⟩ := h
    refine wm_putI hM3 rfl in_J6 tyJ6_ok nmJ6 (ci := 21) rfl 1 (Nat.le_of_ble_eq_true rfl) hc (fun _ _ => rfl) (fun _ _ => Nat.le_of_ble_eq_true rfl) q385 (fun _ _ h => h) rfl rfl rfl dJ5_init_19 (fun ws hM4 => ?_)
    refine ww_goto (tgt := 38) dJ5_init_22 (by decide) ?_
    exact ww_vret (ws, (hs (hs (hs μ q_1 (hA 2 a1.toNat (fun _ => 0))) b (hO 21 fi_3 (upF fq_4 0 (some q_1)))) b (hO 21 (upF fi_5 1 0) fq_6))) rfl ⟨hM4, ⟨rfl, h⟩⟩ rfl hB.1 hB.2 dJ5_init_38
/-! J6_init: java/lang/StringBuilder <init> ()V; flags (True, True, False), depth 2 -/
def wc_J6_init (ad : Nat → Nat) (mc ms : Nat) (μ : HM) (b : Nat) (P : HM → Prop) : Prop :=
  ∃ c_1 s_2 : Nat, (0 + c_1 ≤ mc ∧ 0 + s_2 ≤ ms) ∧
  wc_J5_init ad c_1 s_2 μ b 16 (fun μ_4 =>
    P μ_4)
set_option maxHeartbeats 4000000 in
theorem tm_J6_init {G : g_G} {l : Launch} {mc ms : Nat} {μ : HM} {b : Nat} {P : HM → Prop} (h : wc_J6_init (g_ad G) mc ms μ b P) : CM G l yJ6_init cJ6_init 1 (Option.none : Option Jvm.ClassFile.FieldType) 2 mc ms [.ref b] μ (hR0 P) := by
  unfold wc_J6_init at h
  refine wm_of (lvs := [(0, va_rf (some b))]) (by decide) (Nat.le_of_ble_eq_true rfl) rfl (fun fr ws hM1 => ?_)
  show WW G l cJ6_init RJ6 1 (Option.none : Option Jvm.ClassFile.FieldType) "<init>" 2 mc ms (hMR G (hR0 P)) (fun u => [u.1, fr]) 0 0 [ws, fr] 0 [(0, va_rf (some b))] []
  have hB : 0 ≤ mc ∧ 0 ≤ ms := ⟨Nat.zero_le _, Nat.zero_le _⟩
  refine ww_aloadQ_n dJ6_init_0 0 rfl ?_
  refine ww_bipush (v := 16) dJ6_init_1 rfl ?_
  obtain ⟨c_1, s_2, b_3, h⟩ := h
  refine wm_callI (n := 1) hM1 (tm_J5_init h) rfl q373 q119 q371 q372 rfl ⟨by decide, by decide, by decide +kernel⟩ rfl ⟨Nat.le_of_ble_eq_true rfl, Nat.le_of_ble_eq_true rfl⟩ rfl (Nat.le_of_ble_eq_true rfl) dJ6_init_3 b_3 ?_
  clear h
  rintro _ μ_4 ws ⟨rfl, h⟩ hM2
  have hB := b_3
  refine ww_st0 ?_
  exact ww_vret (ws, μ_4) rfl ⟨hM2, ⟨rfl, h⟩⟩ rfl hB.1 hB.2 dJ6_init_6
/-! X6_init: HoloNet$Reader <init> (LHoloNet;I)V; flags (True, True, False), depth 6 -/
def wc_X6_init (ad : Nat → Nat) (mc ms : Nat) (μ : HM) (b : Nat) (o1 : Option Nat) (a2 : Int) (P : HM → Prop) : Prop :=
  ∃ (fi_1 : Nat → Int) (fq_2 : Nat → Option Nat), μ b = some (hO 5 fi_1 fq_2) ∧ 
  (0 + 1 ≤ mc ∧ 0 + 5 ≤ ms) ∧ ∀ q_3 : Nat, (hs μ b (hO 5 fi_1 (upF fq_2 10 o1))) q_3 = none →
  ∃ c_5 s_6 : Nat, (0 + 1 + c_5 ≤ mc ∧ 0 + 5 + s_6 ≤ ms) ∧
  wc_X2_init ad c_5 s_6 (hs (hs μ b (hO 5 fi_1 (upF fq_2 10 o1))) q_3 (hO 2 (fun _ => 0) (fun _ => none))) q_3 (fun μ_8 =>
    ∃ (fi_9 : Nat → Int) (fq_10 : Nat → Option Nat), μ_8 b = some (hO 5 fi_9 fq_10) ∧ 
    (0 + 1 + c_5 + 1 ≤ mc ∧ 0 + 5 + s_6 + 3 ≤ ms) ∧ ∀ q_11 : Nat, (hs μ_8 b (hO 5 fi_9 (upF fq_10 1 (some q_3)))) q_11 = none →
    ∃ c_13 s_14 : Nat, (0 + 1 + c_5 + 1 + c_13 ≤ mc ∧ 0 + 5 + s_6 + 3 + s_14 ≤ ms) ∧
    wc_X4_init ad c_13 s_14 (hs (hs μ_8 b (hO 5 fi_9 (upF fq_10 1 (some q_3)))) q_11 (hO 4 (fun _ => 0) (fun _ => none))) q_11 (fun μ_16 =>
      ∃ (fi_17 : Nat → Int) (fq_18 : Nat → Option Nat), μ_16 b = some (hO 5 fi_17 fq_18) ∧ 
      (0 + 1 + c_5 + 1 + c_13 + 1 ≤ mc ∧ 0 + 5 + s_6 + 3 + s_14 + 4 ≤ ms) ∧ ∀ q_19 : Nat, (hs μ_16 b (hO 5 fi_17 (upF fq_18 2 (some q_11)))) q_19 = none →
      ∃ c_21 s_22 : Nat, (0 + 1 + c_5 + 1 + c_13 + 1 + c_21 ≤ mc ∧ 0 + 5 + s_6 + 3 + s_14 + 4 + s_22 ≤ ms) ∧
      wc_J6_init ad c_21 s_22 (hs (hs μ_16 b (hO 5 fi_17 (upF fq_18 2 (some q_11)))) q_19 (hO 21 (fun _ => 0) (fun _ => none))) q_19 (fun μ_24 =>
        ∃ (fi_25 : Nat → Int) (fq_26 : Nat → Option Nat), μ_24 b = some (hO 5 fi_25 fq_26) ∧ 
        ∃ (fi_27 : Nat → Int) (fq_28 : Nat → Option Nat), (hs μ_24 b (hO 5 fi_25 (upF fq_26 3 (some q_19)))) b = some (hO 5 fi_27 fq_28) ∧ 
        ∃ (fi_29 : Nat → Int) (fq_30 : Nat → Option Nat), (hs (hs μ_24 b (hO 5 fi_25 (upF fq_26 3 (some q_19)))) b (hO 5 fi_27 (upF fq_28 6 (some (ad 10))))) b = some (hO 5 fi_29 fq_30) ∧ 
        ∃ (fi_31 : Nat → Int) (fq_32 : Nat → Option Nat), (hs (hs (hs μ_24 b (hO 5 fi_25 (upF fq_26 3 (some q_19)))) b (hO 5 fi_27 (upF fq_28 6 (some (ad 10))))) b (hO 5 (upF fi_29 7 (-1)) fq_30)) b = some (hO 5 fi_31 fq_32) ∧ 
        P (hs (hs (hs (hs μ_24 b (hO 5 fi_25 (upF fq_26 3 (some q_19)))) b (hO 5 fi_27 (upF fq_28 6 (some (ad 10))))) b (hO 5 (upF fi_29 7 (-1)) fq_30)) b (hO 5 (upF fi_31 0 a2) fq_32)))))
set_option maxHeartbeats 4000000 in
theorem tm_X6_init {G : g_G} {l : Launch} {mc ms : Nat} {μ : HM} {b : Nat} {o1 : Option Nat} {a2 : Int} {P : HM → Prop} (h : wc_X6_init (g_ad G) mc ms μ b o1 a2 P) : CM G l yX6_init cX6_init 3 (Option.none : Option Jvm.ClassFile.FieldType) 6 mc ms [.ref b, va_rf o1, vI a2] μ (hR0 P) := by
  unfold wc_X6_init at h
  refine wm_of (lvs := [(0, va_rf (some b)), (1, va_rf o1), (2, vI a2)]) (by decide) (by simp [lg_sl, rf_cat, vI_cat, vL_cat, ref_cat]) (by simp [lv_args, rf_cat, vI_cat, vL_cat, ref_cat, rf_some]) (fun fr ws hM1 => ?_)
  show WW G l cX6_init RX6 3 (Option.none : Option Jvm.ClassFile.FieldType) "<init>" 6 mc ms (hMR G (hR0 P)) (fun u => [u.1, fr]) 0 0 [ws, fr] 0 [(0, va_rf (some b)), (1, va_rf o1), (2, vI a2)] []
  have hB : 0 ≤ mc ∧ 0 ≤ ms := ⟨Nat.zero_le _, Nat.zero_le _⟩
  refine ww_aloadQ_n dX6_init_0 0 rfl ?_
  refine ww_aloadQ_n dX6_init_1 1 rfl ?_
  obtain ⟨fi_1, fq_2, hc, h⟩ := h
  refine wm_putQF hM1 rfl in_X6 tyX6_ok nmX6 (ci := 5) rfl 10 (Nat.le_of_ble_eq_true rfl) hc (fun _ _ => rfl) (fun _ _ => Nat.le_of_ble_eq_true rfl) q411 (fun _ _ h => h) rfl rfl rfl (narrow_rf rfl _) (fits_rf rfl _) dX6_init_2 (fun ws hM2 => ?_)
  refine ww_aloadQ_n dX6_init_5 0 rfl ?_
  refine wm_objInit rfl q361 q170 q171 (Nat.le_of_ble_eq_true rfl) (Nat.le_of_ble_eq_true rfl) dX6_init_6 ?_
  refine ww_aloadQ_n dX6_init_9 0 rfl ?_
  obtain ⟨b_4, h⟩ := h
  refine wm_new hM2 in_X2 tyX2_ok q362 q173 q109 (ci := 2) rfl dfl_2 b_4.1 b_4.2 dX6_init_10 (fun q_3 ws hq hM3 => ?_)
  replace h := h q_3 hq
  have hB := b_4
  refine ww_dup dX6_init_13 (rf_cat _) ?_
  obtain ⟨c_5, s_6, b_7, h⟩ := h
  refine wm_callIN (n := 0) hM3 (tm_X2_init h) rfl q363 q176 q109 q175 rfl ⟨by decide, by decide, by decide +kernel⟩ rfl ⟨Nat.le_of_ble_eq_true rfl, Nat.le_of_ble_eq_true rfl⟩ rfl (by simp only [List.map_cons, List.map_nil, rf_cat, vI_cat, vL_cat, List.sum_cons, List.sum_nil]; decide) dX6_init_14 b_7 ?_
  clear h
  rintro _ μ_8 ws ⟨rfl, h⟩ hM4
  have hB := b_7
  refine ww_st0 ?_
  obtain ⟨fi_9, fq_10, hc, h⟩ := h
  refine wm_putQF hM4 rfl in_X6 tyX6_ok nmX6 (ci := 5) rfl 1 (Nat.le_of_ble_eq_true rfl) hc (fun _ _ => rfl) (fun _ _ => Nat.le_of_ble_eq_true rfl) q400 (fun _ _ h => h) rfl rfl rfl (narrow_rf rfl _) (fits_rf rfl _) dX6_init_17 (fun ws hM5 => ?_)
  refine ww_aloadQ_n dX6_init_20 0 rfl ?_
  obtain ⟨b_12, h⟩ := h
  refine wm_new hM5 in_X4 tyX4_ok q364 q284 q116 (ci := 4) rfl dfl_4 b_12.1 b_12.2 dX6_init_21 (fun q_11 ws hq hM6 => ?_)
  replace h := h q_11 hq
  have hB := b_12
  refine ww_dup dX6_init_24 (rf_cat _) ?_
  obtain ⟨c_13, s_14, b_15, h⟩ := h
  refine wm_callI (n := 0) hM6 (tm_X4_init h) rfl q287 q116 q365 q286 rfl ⟨by decide, by decide, by decide +kernel⟩ rfl ⟨Nat.le_of_ble_eq_true rfl, Nat.le_of_ble_eq_true rfl⟩ rfl (by simp only [List.map_cons, List.map_nil, rf_cat, vI_cat, vL_cat, List.sum_cons, List.sum_nil]; decide) dX6_init_25 b_15 ?_
  clear h
  rintro _ μ_16 ws ⟨rfl, h⟩ hM7
  have hB := b_15
  refine ww_st0 ?_
  obtain ⟨fi_17, fq_18, hc, h⟩ := h
  refine wm_putQF hM7 rfl in_X6 tyX6_ok nmX6 (ci := 5) rfl 2 (Nat.le_of_ble_eq_true rfl) hc (fun _ _ => rfl) (fun _ _ => Nat.le_of_ble_eq_true rfl) q402 (fun _ _ h => h) rfl rfl rfl (narrow_rf rfl _) (fits_rf rfl _) dX6_init_28 (fun ws hM8 => ?_)
  refine ww_aloadQ_n dX6_init_31 0 rfl ?_
  obtain ⟨b_20, h⟩ := h
  refine wm_new hM8 in_J6 tyJ6_ok q366 q367 q120 (ci := 21) rfl dfl_21 b_20.1 b_20.2 dX6_init_32 (fun q_19 ws hq hM9 => ?_)
  replace h := h q_19 hq
  have hB := b_20
  refine ww_dup dX6_init_35 (rf_cat _) ?_
  obtain ⟨c_21, s_22, b_23, h⟩ := h
  refine wm_callI (n := 0) hM9 (tm_J6_init h) rfl q370 q120 q368 q369 rfl ⟨by decide, by decide, by decide +kernel⟩ rfl ⟨Nat.le_of_ble_eq_true rfl, Nat.le_of_ble_eq_true rfl⟩ rfl (by simp only [List.map_cons, List.map_nil, rf_cat, vI_cat, vL_cat, List.sum_cons, List.sum_nil]; decide) dX6_init_36 b_23 ?_
  clear h
  rintro _ μ_24 ws ⟨rfl, h⟩ hM10
  have hB := b_23
  refine ww_st0 ?_
  obtain ⟨fi_25, fq_26, hc, h⟩ := h
  refine wm_putQF hM10 rfl in_X6 tyX6_ok nmX6 (ci := 5) rfl 3 (Nat.le_of_ble_eq_true rfl) hc (fun _ _ => rfl) (fun _ _ => Nat.le_of_ble_eq_true rfl) q404 (fun _ _ h => h) rfl rfl rfl (narrow_rf rfl _) (fits_rf rfl _) dX6_init_39 (fun ws hM11 => ?_)
  refine ww_aloadQ_n dX6_init_42 0 rfl ?_
  refine wm_ldcS 0 rfl dX6_init_43 ?_
  obtain ⟨fi_27, fq_28, hc, h⟩ := h
  refine wm_putQ hM11 rfl in_X6 tyX6_ok nmX6 (ci := 5) rfl 6 (Nat.le_of_ble_eq_true rfl) hc (fun _ _ => rfl) (fun _ _ => Nat.le_of_ble_eq_true rfl) q407 (fun _ _ h => h) rfl (narrow_rf rfl _) (fits_rf rfl _) dX6_init_45 (fun ws hM12 => ?_)
  refine ww_aloadQ_n dX6_init_48 0 rfl ?_
  refine ww_iconst dX6_init_49 ?_
  obtain ⟨fi_29, fq_30, hc, h⟩ := h
  refine wm_putI hM12 rfl in_X6 tyX6_ok nmX6 (ci := 5) rfl 7 (Nat.le_of_ble_eq_true rfl) hc (fun _ _ => rfl) (fun _ _ => Nat.le_of_ble_eq_true rfl) q408 (fun _ _ h => h) rfl rfl rfl dX6_init_50 (fun ws hM13 => ?_)
  refine ww_aloadQ_n dX6_init_53 0 rfl ?_
  refine ww_iload_n dX6_init_54 2 rfl ?_
  obtain ⟨fi_31, fq_32, hc, h⟩ := h
  refine wm_putIF hM13 rfl in_X6 tyX6_ok nmX6 (ci := 5) rfl 0 (Nat.le_of_ble_eq_true rfl) hc (fun _ _ => rfl) (fun _ _ => Nat.le_of_ble_eq_true rfl) q399 (fun _ _ h => h) rfl rfl rfl rfl rfl dX6_init_55 (fun ws hM14 => ?_)
  exact ww_vret (ws, (hs (hs (hs (hs μ_24 b (hO 5 fi_25 (upF fq_26 3 (some q_19)))) b (hO 5 fi_27 (upF fq_28 6 (some (g_ad G 10))))) b (hO 5 (upF fi_29 7 (-1)) fq_30)) b (hO 5 (upF fi_31 0 a2) fq_32))) rfl ⟨hM14, ⟨rfl, h⟩⟩ rfl hB.1 hB.2 dX6_init_58
