/-! THE COMPONENT and what it calls: weakest preconditions and walks (printed by tools/comp.py) -/
set_option maxRecDepth 100000
/-! X8_init_9: HoloNet$Labelled <init> (Ljava/lang/String;I)V; flags (True, False, False), depth 1 -/
def wc_X8_init_9 (ad : Nat → Nat) (μ : HM) (b : Nat) (o1 : Option Nat) (a2 : Int) (P : HM → Prop) : Prop :=
  ∃ (fi_1 : Nat → Int) (fq_2 : Nat → Option Nat), μ b = some (hO 9 fi_1 fq_2) ∧ 
  ∃ (fi_3 : Nat → Int) (fq_4 : Nat → Option Nat), (hs μ b (hO 9 fi_1 (upF fq_2 0 o1))) b = some (hO 9 fi_3 fq_4) ∧ 
  P (hs (hs μ b (hO 9 fi_1 (upF fq_2 0 o1))) b (hO 9 (upF fi_3 1 a2) fq_4))
set_option maxHeartbeats 4000000 in
theorem tm_X8_init_9 {G : g_G} {l : Launch} {μ : HM} {b : Nat} {o1 : Option Nat} {a2 : Int} {P : HM → Prop} (h : wc_X8_init_9 (g_ad G) μ b o1 a2 P) : CM G l yX8_init cX8_init 3 (Option.none : Option Jvm.ClassFile.FieldType) 1 0 0 [.ref b, va_rf o1, vI a2] μ (hR0 P) := by
  unfold wc_X8_init_9 at h
  refine wm_of (lvs := [(0, va_rf (some b)), (1, va_rf o1), (2, vI a2)]) (by decide) (by simp [lg_sl, rf_cat, vI_cat, vL_cat, ref_cat]) (by simp [lv_args, rf_cat, vI_cat, vL_cat, ref_cat, rf_some]) (fun fr ws hM1 => ?_)
  show WW G l cX8_init RX8 3 (Option.none : Option Jvm.ClassFile.FieldType) "<init>" 1 0 0 (hMR G (hR0 P)) (fun u => [u.1, fr]) 0 0 [ws, fr] 0 [(0, va_rf (some b)), (1, va_rf o1), (2, vI a2)] []
  refine ww_aloadQ_n dX8_init_0 0 rfl ?_
  refine wm_objInit rfl q1149 q170 q171 (Nat.le_of_ble_eq_true rfl) (Nat.le_of_ble_eq_true rfl) dX8_init_1 ?_
  refine ww_aloadQ_n dX8_init_4 0 rfl ?_
  refine ww_aloadQ_n dX8_init_5 1 rfl ?_
  obtain ⟨fi_1, fq_2, hc, h⟩ := h
  refine wm_putQF hM1 rfl in_X12 tyX12_ok nmX12 (ci := 9) rfl 0 (Nat.le_of_ble_eq_true rfl) hc (fun _ _ => rfl) (fun _ _ => Nat.le_of_ble_eq_true rfl) q1158 (fun _ _ h => h) rfl rfl rfl (narrow_rf rfl _) (fits_rf rfl _) dX8_init_6 (fun ws hM2 => ?_)
  refine ww_aloadQ_n dX8_init_9 0 rfl ?_
  refine ww_iload_n dX8_init_10 2 rfl ?_
  obtain ⟨fi_3, fq_4, hc, h⟩ := h
  refine wm_putIF hM2 rfl in_X12 tyX12_ok nmX12 (ci := 9) rfl 1 (Nat.le_of_ble_eq_true rfl) hc (fun _ _ => rfl) (fun _ _ => Nat.le_of_ble_eq_true rfl) q1160 (fun _ _ h => h) rfl rfl rfl rfl rfl dX8_init_11 (fun ws hM3 => ?_)
  exact ww_vret (ws, (hs (hs μ b (hO 9 fi_1 (upF fq_2 0 o1))) b (hO 9 (upF fi_3 1 a2) fq_4))) rfl ⟨hM3, ⟨rfl, h⟩⟩ rfl (Nat.le_refl _) (Nat.le_refl _) dX8_init_14
/-! X12_init: HoloNet$Node <init> (Ljava/lang/String;ILHoloNet$Table;)V; flags (True, False, False), depth 2 -/
def wc_X12_init (ad : Nat → Nat) (μ : HM) (b : Nat) (o1 : Option Nat) (a2 : Int) (o3 : Option Nat) (P : HM → Prop) : Prop :=
  wc_X8_init_9 ad μ b o1 a2 (fun μ_1 =>
    ∃ (fi_2 : Nat → Int) (fq_3 : Nat → Option Nat), μ_1 b = some (hO 9 fi_2 fq_3) ∧ 
    P (hs μ_1 b (hO 9 fi_2 (upF fq_3 2 o3))))
set_option maxHeartbeats 4000000 in
theorem tm_X12_init {G : g_G} {l : Launch} {μ : HM} {b : Nat} {o1 : Option Nat} {a2 : Int} {o3 : Option Nat} {P : HM → Prop} (h : wc_X12_init (g_ad G) μ b o1 a2 o3 P) : CM G l yX12_init cX12_init 4 (Option.none : Option Jvm.ClassFile.FieldType) 2 0 0 [.ref b, va_rf o1, vI a2, va_rf o3] μ (hR0 P) := by
  unfold wc_X12_init at h
  refine wm_of (lvs := [(0, va_rf (some b)), (1, va_rf o1), (2, vI a2), (3, va_rf o3)]) (by decide) (by simp [lg_sl, rf_cat, vI_cat, vL_cat, ref_cat]) (by simp [lv_args, rf_cat, vI_cat, vL_cat, ref_cat, rf_some]) (fun fr ws hM1 => ?_)
  show WW G l cX12_init RX12 4 (Option.none : Option Jvm.ClassFile.FieldType) "<init>" 2 0 0 (hMR G (hR0 P)) (fun u => [u.1, fr]) 0 0 [ws, fr] 0 [(0, va_rf (some b)), (1, va_rf o1), (2, vI a2), (3, va_rf o3)] []
  refine ww_aloadQ_n dX12_init_0 0 rfl ?_
  refine ww_aloadQ_n dX12_init_1 1 rfl ?_
  refine ww_iload_n dX12_init_2 2 rfl ?_
  refine wm_callI (n := 2) hM1 (tm_X8_init_9 h) rfl q1148 q140 q1425 q1147 rfl ⟨by decide, by decide, by decide +kernel⟩ rfl ⟨Nat.le_of_ble_eq_true rfl, Nat.le_of_ble_eq_true rfl⟩ rfl (Nat.le_of_ble_eq_true rfl) dX12_init_3 ⟨Nat.le_refl _, Nat.le_refl _⟩ ?_
  clear h
  rintro _ μ_1 ws ⟨rfl, h⟩ hM2
  refine ww_st0 ?_
  refine ww_aloadQ_n dX12_init_6 0 rfl ?_
  refine ww_aloadQ_n dX12_init_7 3 rfl ?_
  obtain ⟨fi_2, fq_3, hc, h⟩ := h
  refine wm_putQF hM2 rfl in_X12 tyX12_ok nmX12 (ci := 9) rfl 2 (Nat.le_of_ble_eq_true rfl) hc (fun _ _ => rfl) (fun _ _ => Nat.le_of_ble_eq_true rfl) q1426 (fun _ _ h => h) rfl rfl rfl (narrow_rf rfl _) (fits_rf rfl _) dX12_init_8 (fun ws hM3 => ?_)
  exact ww_vret (ws, (hs μ_1 b (hO 9 fi_2 (upF fq_3 2 o3)))) rfl ⟨hM3, ⟨rfl, h⟩⟩ rfl (Nat.le_refl _) (Nat.le_refl _) dX12_init_11
/-! J16_checkIndex: java/util/Objects checkIndex (II)I; flags (False, False, False), depth 1 -/
def wc_J16_checkIndex (ad : Nat → Nat) (μ : HM) (a1 : Int) (a2 : Int) (P : Int → Prop) : Prop :=
  wc_J13_checkIndex ad μ a1 a2 none (fun y_1 =>
    P y_1)
set_option maxHeartbeats 4000000 in
theorem tm_J16_checkIndex {G : g_G} {l : Launch} {μ : HM} {a1 : Int} {a2 : Int} {P : Int → Prop} (h : wc_J16_checkIndex (g_ad G) μ a1 a2 P) : CM G l yJ16_checkIndex cJ16_checkIndex 2 (Option.some Jvm.ClassFile.FieldType.int) 1 0 0 [vI a1, vI a2] μ (hN1 μ P) := by
  unfold wc_J16_checkIndex at h
  refine wm_of (lvs := [(0, vI a1), (1, vI a2)]) (by decide) (Nat.le_of_ble_eq_true rfl) rfl (fun fr ws hM1 => ?_)
  show WW G l cJ16_checkIndex RJ16 2 (Option.some Jvm.ClassFile.FieldType.int) "checkIndex" 1 0 0 (hMR G (hN1 μ P)) (fun u => [u.1, fr]) 0 0 [ws, fr] 0 [(0, vI a1), (1, vI a2)] []
  refine ww_iload_n dJ16_checkIndex_0 0 rfl ?_
  refine ww_iload_n dJ16_checkIndex_1 1 rfl ?_
  refine ww_nullQ dJ16_checkIndex_2 ?_
  refine wm_callS (n := 3) hM1 (tm_J13_checkIndex h) (lw_S q1415 q563 q128 q564) ⟨by decide, by decide, by decide +kernel⟩ rfl ⟨Nat.le_of_ble_eq_true rfl, Nat.le_of_ble_eq_true rfl⟩ rfl (Nat.le_of_ble_eq_true rfl) dJ16_checkIndex_3 ⟨Nat.le_refl _, Nat.le_refl _⟩ ?_
  clear h
  rintro _ _ ws ⟨rfl, y_1, rfl, h⟩ hM2
  refine ww_st1 ?_
  exact ww_iret (ws, μ) rfl ⟨hM2, ⟨rfl, _, rfl, h⟩⟩ rfl (Nat.le_refl _) (Nat.le_refl _) dJ16_checkIndex_6
/-! J2_elementData: java/util/ArrayList elementData (I)Ljava/lang/Object;; flags (False, False, False), depth 0 -/
def wc_J2_elementData (ad : Nat → Nat) (μ : HM) (b : Nat) (a1 : Int) (P : Option Nat → Prop) : Prop :=
  ∃ x_1 : Option Nat, gQ μ b 18 1 = some x_1 ∧
  ∃ a_2 : Nat, x_1 = some a_2 ∧
  ∃ x_3 : Option Nat, gR μ a_2 4 a1 = some x_3 ∧
  P x_3
set_option maxHeartbeats 4000000 in
theorem tm_J2_elementData {G : g_G} {l : Launch} {μ : HM} {b : Nat} {a1 : Int} {P : Option Nat → Prop} (h : wc_J2_elementData (g_ad G) μ b a1 P) : CM G l yJ2_elementData cJ2_elementData 2 (Option.some (Jvm.ClassFile.FieldType.object "java/lang/Object")) 0 0 0 [.ref b, vI a1] μ (hN4 μ P) := by
  unfold wc_J2_elementData at h
  refine wm_of (lvs := [(0, va_rf (some b)), (1, vI a1)]) (by decide) (Nat.le_of_ble_eq_true rfl) rfl (fun fr ws hM1 => ?_)
  show WW G l cJ2_elementData RJ2 2 (Option.some (Jvm.ClassFile.FieldType.object "java/lang/Object")) "elementData" 0 0 0 (hMR G (hN4 μ P)) (fun u => [u.1, fr]) 0 0 [ws, fr] 0 [(0, va_rf (some b)), (1, vI a1)] []
  refine ww_aloadQ_n dJ2_elementData_0 0 rfl ?_
  obtain ⟨x_1, hx, h⟩ := h
  refine wm_getQ hM1 rfl in_J2 (ci := 18) rfl (by decide) 1 (Nat.le_of_ble_eq_true rfl) hx (fun _ _ => rfl) q198 (fun _ _ h => h) dJ2_elementData_1 ?_
  refine ww_iload_n dJ2_elementData_4 1 rfl ?_
  obtain ⟨a_2, ea_2, h⟩ := h
  subst ea_2
  obtain ⟨x_3, hx, h⟩ := h
  refine wm_aald hM1 rfl (by decide) hx dJ2_elementData_5 ?_
  exact ww_aret (ws, μ) rfl (by first | exact Or.inl ⟨_, rfl⟩ | exact Or.inr ⟨_, rfl⟩) (rf_or _) ⟨hM1, ⟨rfl, _, rfl, h⟩⟩ rfl (Nat.le_refl _) (Nat.le_refl _) dJ2_elementData_6
/-! J2_get: java/util/ArrayList get (I)Ljava/lang/Object;; flags (False, False, False), depth 2 -/
def wc_J2_get (ad : Nat → Nat) (μ : HM) (b : Nat) (a1 : Int) (P : Option Nat → Prop) : Prop :=
  ∃ x_1 : Int, gI μ b 18 2 = some x_1 ∧
  wc_J16_checkIndex ad μ a1 x_1 (fun y_2 =>
    gC μ b = some 18 ∧
    wc_J2_elementData ad μ b a1 (fun y_4 =>
      P y_4))
set_option maxHeartbeats 4000000 in
theorem tm_J2_get {G : g_G} {l : Launch} {μ : HM} {b : Nat} {a1 : Int} {P : Option Nat → Prop} (h : wc_J2_get (g_ad G) μ b a1 P) : CM G l yJ2_get cJ2_get 2 (Option.some (Jvm.ClassFile.FieldType.object "java/lang/Object")) 2 0 0 [.ref b, vI a1] μ (hN4 μ P) := by
  unfold wc_J2_get at h
  refine wm_of (lvs := [(0, va_rf (some b)), (1, vI a1)]) (by decide) (Nat.le_of_ble_eq_true rfl) rfl (fun fr ws hM1 => ?_)
  show WW G l cJ2_get RJ2 2 (Option.some (Jvm.ClassFile.FieldType.object "java/lang/Object")) "get" 2 0 0 (hMR G (hN4 μ P)) (fun u => [u.1, fr]) 0 0 [ws, fr] 0 [(0, va_rf (some b)), (1, vI a1)] []
  refine ww_iload_n dJ2_get_0 1 rfl ?_
  refine ww_aloadQ_n dJ2_get_1 0 rfl ?_
  obtain ⟨x_1, hx, h⟩ := h
  refine wm_getI hM1 rfl in_J2 (ci := 18) rfl (by decide) 2 (Nat.le_of_ble_eq_true rfl) hx (fun _ _ => rfl) q201 (fun _ _ h => h) dJ2_get_2 ?_
  refine wm_callS (n := 2) hM1 (tm_J16_checkIndex h) (lw_S q1412 q1413 q132 q1414) ⟨by decide, by decide, by decide +kernel⟩ rfl ⟨Nat.le_of_ble_eq_true rfl, Nat.le_of_ble_eq_true rfl⟩ rfl (Nat.le_of_ble_eq_true rfl) dJ2_get_5 ⟨Nat.le_refl _, Nat.le_refl _⟩ ?_
  clear h
  rintro _ _ ws ⟨rfl, y_2, rfl, h⟩ hM2
  refine ww_st1 ?_
  refine ww_pop dJ2_get_8 rfl ?_
  refine ww_aloadQ_n dJ2_get_9 0 rfl ?_
  refine ww_iload_n dJ2_get_10 1 rfl ?_
  obtain ⟨hg, h⟩ := h
  refine wm_callV (n := 1) hM2 (tm_J2_elementData h) rfl hg rfl (lw_V q1416 q1417 q1418 q113 q1419) ⟨by decide, by decide, by decide +kernel⟩ rfl ⟨Nat.le_of_ble_eq_true rfl, Nat.le_of_ble_eq_true rfl⟩ rfl (Nat.le_of_ble_eq_true rfl) dJ2_get_11 ⟨Nat.le_refl _, Nat.le_refl _⟩ ?_
  clear h
  rintro _ _ ws ⟨rfl, y_4, rfl, h⟩ hM3
  refine ww_st1 ?_
  exact ww_aret (ws, μ) rfl (by first | exact Or.inl ⟨_, rfl⟩ | exact Or.inr ⟨_, rfl⟩) (rf_or _) ⟨hM3, ⟨rfl, _, rfl, h⟩⟩ rfl (Nat.le_refl _) (Nat.le_refl _) dJ2_get_14
/-! X3_get: HoloNet$Shelf get (I)LHoloNet$Labelled;; flags (False, False, False), depth 3 -/
def wc_X3_get (ad : Nat → Nat) (μ : HM) (b : Nat) (a1 : Int) (P : Option Nat → Prop) : Prop :=
  ∃ x_1 : Option Nat, gQ μ b 3 0 = some x_1 ∧
  ∃ a_2 : Nat, x_1 = some a_2 ∧
  gC μ a_2 = some 18 ∧
  wc_J2_get ad μ a_2 a1 (fun y_3 =>
    (∀ z : Nat, y_3 = some z → ∃ ci, gC μ z = some ci ∧ (ci = 7 ∨ ci = 8 ∨ ci = 9)) ∧
    P y_3)
set_option maxHeartbeats 4000000 in
theorem tm_X3_get {G : g_G} {l : Launch} {μ : HM} {b : Nat} {a1 : Int} {P : Option Nat → Prop} (h : wc_X3_get (g_ad G) μ b a1 P) : CM G l yX3_get cX3_get 2 (Option.some (Jvm.ClassFile.FieldType.object "HoloNet$Labelled")) 3 0 0 [.ref b, vI a1] μ (hN4 μ P) := by
  unfold wc_X3_get at h
  refine wm_of (lvs := [(0, va_rf (some b)), (1, vI a1)]) (by decide) (Nat.le_of_ble_eq_true rfl) rfl (fun fr ws hM1 => ?_)
  show WW G l cX3_get RX3 2 (Option.some (Jvm.ClassFile.FieldType.object "HoloNet$Labelled")) "get" 3 0 0 (hMR G (hN4 μ P)) (fun u => [u.1, fr]) 0 0 [ws, fr] 0 [(0, va_rf (some b)), (1, vI a1)] []
  refine ww_aloadQ_n dX3_get_0 0 rfl ?_
  obtain ⟨x_1, hx, h⟩ := h
  refine wm_getQ hM1 rfl in_X3 (ci := 3) rfl (by decide) 0 (Nat.le_of_ble_eq_true rfl) hx (fun _ _ => rfl) q246 (fun _ _ h => h) dX3_get_1 ?_
  refine ww_iload_n dX3_get_4 1 rfl ?_
  obtain ⟨a_2, ea_2, h⟩ := h
  subst ea_2
  obtain ⟨hg, h⟩ := h
  refine wm_callV (n := 1) hM1 (tm_J2_get h) rfl hg rfl (lw_V q1408 q1409 q1410 q113 q1411) ⟨by decide, by decide, by decide +kernel⟩ rfl ⟨Nat.le_of_ble_eq_true rfl, Nat.le_of_ble_eq_true rfl⟩ rfl (Nat.le_of_ble_eq_true rfl) dX3_get_5 ⟨Nat.le_refl _, Nat.le_refl _⟩ ?_
  clear h
  rintro _ _ ws ⟨rfl, y_3, rfl, h⟩ hM2
  refine ww_st1 ?_
  obtain ⟨hc, h⟩ := h
  refine wm_cast hM2 hc cast_3 q1403 dX3_get_8 ?_
  exact ww_aret (ws, μ) rfl (by first | exact Or.inl ⟨_, rfl⟩ | exact Or.inr ⟨_, rfl⟩) (rf_or _) ⟨hM2, ⟨rfl, _, rfl, h⟩⟩ rfl (Nat.le_refl _) (Nat.le_refl _) dX3_get_11
/-! J4_get: java/util/TreeMap get (Ljava/lang/Object;)Ljava/lang/Object;; flags (False, False, False), depth 6 -/
def wc_J4_get (ad : Nat → Nat) (μ : HM) (b : Nat) (o1 : Option Nat) (P : Option Nat → Prop) : Prop :=
  gC μ b = some 19 ∧
  wc_J4_getEntry ad μ b o1 (fun y_1 =>
    ∃ J18 : Option Nat → Prop, (∀ (s0_18 : Option Nat), J18 s0_18 →
      P s0_18) ∧
    ((y_1 = none →
      J18 none) ∧
    (∀ a_3 : Nat, y_1 = some a_3 →
      ∃ x_4 : Option Nat, gQ μ a_3 20 1 = some x_4 ∧
      J18 x_4)))
set_option maxHeartbeats 4000000 in
theorem tm_J4_get {G : g_G} {l : Launch} {μ : HM} {b : Nat} {o1 : Option Nat} {P : Option Nat → Prop} (h : wc_J4_get (g_ad G) μ b o1 P) : CM G l yJ4_get cJ4_get 3 (Option.some (Jvm.ClassFile.FieldType.object "java/lang/Object")) 6 0 0 [.ref b, va_rf o1] μ (hN4 μ P) := by
  unfold wc_J4_get at h
  refine wm_of (lvs := [(0, va_rf (some b)), (1, va_rf o1)]) (by decide) (by simp [lg_sl, rf_cat, vI_cat, vL_cat, ref_cat]) (by simp [lv_args, rf_cat, vI_cat, vL_cat, ref_cat, rf_some]) (fun fr ws hM1 => ?_)
  show WW G l cJ4_get RJ4 3 (Option.some (Jvm.ClassFile.FieldType.object "java/lang/Object")) "get" 6 0 0 (hMR G (hN4 μ P)) (fun u => [u.1, fr]) 0 0 [ws, fr] 0 [(0, va_rf (some b)), (1, va_rf o1)] []
  refine ww_aloadQ_n dJ4_get_0 0 rfl ?_
  refine ww_aloadQ_n dJ4_get_1 1 rfl ?_
  obtain ⟨hg, h⟩ := h
  refine wm_callV (n := 1) hM1 (tm_J4_getEntry h) rfl hg rfl (lw_V q874 q875 q876 q115 q877) ⟨by decide, by decide, by decide +kernel⟩ rfl ⟨Nat.le_of_ble_eq_true rfl, Nat.le_of_ble_eq_true rfl⟩ rfl (Nat.le_of_ble_eq_true rfl) dJ4_get_2 ⟨Nat.le_refl _, Nat.le_refl _⟩ ?_
  clear h
  rintro _ _ ws ⟨rfl, y_1, rfl, h⟩ hM2
  refine ww_st1 ?_
  refine ww_astoreQ_n (i := 2) (lv2 := [(2, va_rf y_1), (0, va_rf (some b)), (1, va_rf o1)]) dJ4_get_5 rfl (Nat.le_of_ble_eq_true rfl) (by simp [rf_cat, vI_cat, vL_cat, ref_cat]) ?_
  refine ww_aloadQ_n dJ4_get_6 0 rfl ?_
  obtain ⟨J18, hJ18, h⟩ := h
  have kJ18 : ∀ (s0_18 : Option Nat), J18 s0_18 → ∀ ws : va_W, Mrep G ws μ → WW G l cJ4_get RJ4 3 (Option.some (Jvm.ClassFile.FieldType.object "java/lang/Object")) "get" 6 0 0 (hMR G (hN4 μ P)) (fun u => [u.1, fr]) 0 0 [ws, fr] 18 [] [va_rf s0_18] := by
    clear h
    intro s0_18 hj ws hM3
    have h := hJ18 s0_18 hj
    exact ww_aret (ws, μ) rfl (by first | exact Or.inl ⟨_, rfl⟩ | exact Or.inr ⟨_, rfl⟩) (rf_or _) ⟨hM3, ⟨rfl, _, rfl, h⟩⟩ rfl (Nat.le_refl _) (Nat.le_refl _) dJ4_get_18
  refine ww_ifnonnullQ (tgt := 14) dJ4_get_7 (by decide) (fun a_3 c => ?_) (fun c => ?_)
  · replace h := h.2 a_3 c
    subst c
    refine ww_aloadQ_n dJ4_get_14 0 rfl ?_
    obtain ⟨x_4, hx, h⟩ := h
    refine wm_getQ hM2 rfl in_J22 (ci := 20) rfl (by decide) 1 (Nat.le_of_ble_eq_true rfl) hx (fun _ _ => rfl) q1261 (fun _ _ h => h) dJ4_get_15 ?_
    refine ww_lv [] rfl ?_
    exact kJ18 _ h _ hM2
  · replace h := h.1 c
    subst c
    refine ww_nullQ dJ4_get_10 ?_
    refine ww_goto (tgt := 18) dJ4_get_11 (by decide) ?_
    refine ww_lv [] rfl ?_
    exact kJ18 _ h _ hM2
/-! J7_toString: java/lang/String toString ()Ljava/lang/String;; flags (False, False, False), depth 0 -/
def wc_J7_toString (ad : Nat → Nat) (μ : HM) (b : Nat) (P : Option Nat → Prop) : Prop :=
  P (some b)
set_option maxHeartbeats 4000000 in
theorem tm_J7_toString {G : g_G} {l : Launch} {μ : HM} {b : Nat} {P : Option Nat → Prop} (h : wc_J7_toString (g_ad G) μ b P) : CM G l yJ7_toString cJ7_toString 1 (Option.some (Jvm.ClassFile.FieldType.object "java/lang/String")) 0 0 0 [.ref b] μ (hN4 μ P) := by
  unfold wc_J7_toString at h
  refine wm_of (lvs := [(0, va_rf (some b))]) (by decide) (Nat.le_of_ble_eq_true rfl) rfl (fun fr ws hM1 => ?_)
  show WW G l cJ7_toString RJ7 1 (Option.some (Jvm.ClassFile.FieldType.object "java/lang/String")) "toString" 0 0 0 (hMR G (hN4 μ P)) (fun u => [u.1, fr]) 0 0 [ws, fr] 0 [(0, va_rf (some b))] []
  refine ww_aloadQ_n dJ7_toString_0 0 rfl ?_
  exact ww_aret (ws, μ) rfl (by first | exact Or.inl ⟨_, rfl⟩ | exact Or.inr ⟨_, rfl⟩) (rf_or _) ⟨hM1, ⟨rfl, _, rfl, h⟩⟩ rfl (Nat.le_refl _) (Nat.le_refl _) dJ7_toString_1
/-! X3_number: HoloNet$Shelf number (Ljava/lang/CharSequence;)I; flags (True, True, True), depth 103 -/
def wc_X3_number (ad : Nat → Nat) (mc ms : Nat) (μ : HM) (b : Nat) (o1 : Option Nat) (P : Int → HM → Prop) (X : Nat → String → HM → Prop) : Prop :=
  ∃ x_1 : Option Nat, gQ μ b 3 1 = some x_1 ∧
  ∃ a_2 : Nat, o1 = some a_2 ∧
  gC μ a_2 = some 22 ∧
  wc_J7_toString ad μ a_2 (fun y_3 =>
    ∃ a_5 : Nat, x_1 = some a_5 ∧
    gC μ a_5 = some 19 ∧
    wc_J4_get ad μ a_5 y_3 (fun y_6 =>
      (∀ z : Nat, y_6 = some z → ∃ ci, gC μ z = some ci ∧ (ci = 7 ∨ ci = 8 ∨ ci = 9)) ∧
      ((y_6 = none →
        (0 + 1 ≤ mc ∧ 0 + 8 ≤ ms) ∧ ∀ (e_10 : Nat), X e_10 "java/lang/NullPointerException" μ) ∧
      (∀ a_9 : Nat, y_6 = some a_9 →
        ∃ (ci : Nat) (x_8 : Int), (ci = 7 ∨ ci = 8 ∨ ci = 9) ∧ gI μ a_9 ci 1 = some x_8 ∧
        P x_8 μ))))
set_option maxHeartbeats 4000000 in
theorem tm_X3_number {G : g_G} {l : Launch} {mc ms : Nat} {μ : HM} {b : Nat} {o1 : Option Nat} {P : Int → HM → Prop} {X : Nat → String → HM → Prop} (h : wc_X3_number (g_ad G) mc ms μ b o1 P X) : CMX G l yX3_number cX3_number 2 (Option.some Jvm.ClassFile.FieldType.int) 103 mc ms [.ref b, va_rf o1] μ (hR1 P) X := by
  unfold wc_X3_number at h
  refine wm_ofX (lvs := [(0, va_rf (some b)), (1, va_rf o1)]) (by decide) (by simp [lg_sl, rf_cat, vI_cat, vL_cat, ref_cat]) (by simp [lv_args, rf_cat, vI_cat, vL_cat, ref_cat, rf_some]) (fun fr ws hM1 => ?_)
  show WF G l cX3_number RX3 2 (Option.some Jvm.ClassFile.FieldType.int) "number" 103 mc ms (gFX G (hMR G (hR1 P)) (fun u => [u.1, fr]) (hMX G X) (fun u => [u.1, fr]) mc ms []) 0 0 [ws, fr] 0 [(0, va_rf (some b)), (1, va_rf o1)] []
  have hB : 0 ≤ mc ∧ 0 ≤ ms := ⟨Nat.zero_le _, Nat.zero_le _⟩
  refine ww_aloadQ_n dX3_number_0 0 rfl ?_
  obtain ⟨x_1, hx, h⟩ := h
  refine wm_getQ hM1 rfl in_X3 (ci := 3) rfl (by decide) 1 (Nat.le_of_ble_eq_true rfl) hx (fun _ _ => rfl) q247 (fun _ _ h => h) dX3_number_1 ?_
  refine ww_aloadQ_n dX3_number_4 1 rfl ?_
  obtain ⟨a_2, ea_2, h⟩ := h
  subst ea_2
  obtain ⟨hg, h⟩ := h
  refine wm_callF (n := 0) hM1 (tm_J7_toString h) rfl hg rfl (lw_F q1388 q1391 q1393 q121 q1395) (by decide) ⟨by decide, by decide, by decide +kernel⟩ rfl ⟨Nat.le_of_ble_eq_true rfl, Nat.le_of_ble_eq_true rfl⟩ rfl (by simp only [List.map_cons, List.map_nil, rf_cat, vI_cat, vL_cat, List.sum_cons, List.sum_nil]; decide) dX3_number_5 hB ?_
  clear h
  rintro _ _ ws ⟨rfl, y_3, rfl, h⟩ hM2
  refine ww_st1 ?_
  obtain ⟨a_5, ea_5, h⟩ := h
  subst ea_5
  obtain ⟨hg, h⟩ := h
  refine wm_callV (n := 1) hM2 (tm_J4_get h) rfl hg rfl (lw_V q1399 q1400 q1401 q115 q1402) ⟨by decide, by decide, by decide +kernel⟩ rfl ⟨Nat.le_of_ble_eq_true rfl, Nat.le_of_ble_eq_true rfl⟩ rfl (Nat.le_of_ble_eq_true rfl) dX3_number_10 hB ?_
  clear h
  rintro _ _ ws ⟨rfl, y_6, rfl, h⟩ hM3
  refine ww_st1 ?_
  obtain ⟨hc, h⟩ := h
  refine wm_cast hM3 hc cast_3 q1403 dX3_number_13 ?_
  cases y_6 with
  | none =>
    obtain ⟨hb, h⟩ := h.1 rfl
    exact wx_getN (C := RX9) (T := TX9) (Nf := 4) rfl in_X9 (ci := 7) rfl 1 (Nat.le_of_ble_eq_true rfl) q1161 (fun _ _ h => h) (Nat.le_of_ble_eq_true rfl) (Nat.le_of_ble_eq_true rfl) (Nat.le_of_ble_eq_true rfl) hb.1 hb.2 dX3_number_16 (fun e_10 => wx_out (fun _ hz => nomatch hz) (ws, μ) ⟨hM3, h e_10⟩ rfl hb.1 hb.2)
  | some a_9 =>
    replace h := h.2 a_9 rfl
    obtain ⟨ci, x_8, hci, hx, h⟩ := h
    refine wm_labI hci hM3 rfl hx q1161 (fun _ _ h => h) dX3_number_16 ?_
    refine wx_lift ?_
    exact ww_iret (ws, μ) rfl ⟨hM3, ⟨_, rfl, h⟩⟩ rfl hB.1 hB.2 dX3_number_19
/-! X6_known: HoloNet$Reader known (LHoloNet$Shelf;)I; flags (True, True, True), depth 104 -/
def wc_X6_known (ad : Nat → Nat) (mc ms : Nat) (μ : HM) (b : Nat) (o1 : Option Nat) (P : Int → HM → Prop) (X : Nat → String → HM → Prop) : Prop :=
  gC μ b = some 5 ∧
  wc_X6_isName ad μ b (fun y_1 μ_3 =>
    gC μ_3 b = some 5 ∧
    ∃ c_4 s_5 : Nat, (0 + c_4 ≤ mc ∧ 0 + s_5 ≤ ms) ∧
    wc_X6_must ad c_4 s_5 μ_3 b y_1 1 (fun μ_7 =>
      ∃ x_11 : Option Nat, gQ μ_7 b 5 6 = some x_11 ∧
      ∃ a_12 : Nat, o1 = some a_12 ∧
      gC μ_7 a_12 = some 3 ∧
      ∃ c_13 s_14 : Nat, (0 + c_4 + c_13 ≤ mc ∧ 0 + s_5 + s_14 ≤ ms) ∧
      wc_X3_number ad c_13 s_14 μ_7 a_12 x_11 (fun y_16 μ_18 =>
        gC μ_18 b = some 5 ∧
        ∃ c_28 s_29 : Nat, (0 + c_4 + c_13 + c_28 ≤ mc ∧ 0 + s_5 + s_14 + s_29 ≤ ms) ∧
        wc_X6_go ad c_28 s_29 μ_18 b (fun μ_31 =>
          P y_16 μ_31)) (fun q_19 E_20 μ_21 =>
        E_20 = "java/lang/NullPointerException" ∧
        (0 + c_4 + c_13 + 1 ≤ mc ∧ 0 + s_5 + s_14 + 7 ≤ ms) ∧ ∀ q_22 : Nat, μ_21 q_22 = none →
        ∃ x_24 : Int, gI (hs μ_21 q_22 (hO 6 (fun _ => 0) (fun _ => none))) b 5 5 = some x_24 ∧
        wc_X7_init ad (hs μ_21 q_22 (hO 6 (fun _ => 0) (fun _ => none))) q_22 x_24 3 (fun μ_25 =>
          ∃ (fi_26 : Nat → Int) (fq_27 : Nat → Option Nat), μ_25 q_22 = some (hO 6 fi_26 fq_27) ∧ X q_22 "HoloNet$Fault" μ_25))) (fun q_8 E_9 μ_10 =>
      X q_8 E_9 μ_10))
set_option maxHeartbeats 4000000 in
theorem tm_X6_known {G : g_G} {l : Launch} {mc ms : Nat} {μ : HM} {b : Nat} {o1 : Option Nat} {P : Int → HM → Prop} {X : Nat → String → HM → Prop} (h : wc_X6_known (g_ad G) mc ms μ b o1 P X) : CMH G l yX6_known cX6_known 3 (Option.some Jvm.ClassFile.FieldType.int) [(9, 23, 24, 159)] 104 mc ms [.ref b, va_rf o1] μ (hR1 P) X := by
  unfold wc_X6_known at h
  refine wm_ofH (lvs := [(0, va_rf (some b)), (1, va_rf o1)]) (by decide) (by simp [lg_sl, rf_cat, vI_cat, vL_cat, ref_cat]) (by simp [lv_args, rf_cat, vI_cat, vL_cat, ref_cat, rf_some]) (fun fr ws hM1 => ?_)
  show WF G l cX6_known RX6 3 (Option.some Jvm.ClassFile.FieldType.int) "known" 104 mc ms (gFX G (hMR G (hR1 P)) (fun u => [u.1, fr]) (hMX G X) (fun u => [u.1, fr]) mc ms (tableOf [(9, 23, 24, 159)])) 0 0 [ws, fr] 0 [(0, va_rf (some b)), (1, va_rf o1)] []
  have hB : 0 ≤ mc ∧ 0 ≤ ms := ⟨Nat.zero_le _, Nat.zero_le _⟩
  refine ww_aloadQ_n dX6_known_0 0 rfl ?_
  refine ww_aloadQ_n dX6_known_1 0 rfl ?_
  obtain ⟨hg, h⟩ := h
  refine wm_callV (n := 0) hM1 (tm_X6_isName h) rfl hg rfl (lw_V q859 q861 qs11 q118 q862) ⟨by decide, by decide, by decide +kernel⟩ rfl ⟨Nat.le_of_ble_eq_true rfl, Nat.le_of_ble_eq_true rfl⟩ rfl (by simp only [List.map_cons, List.map_nil, rf_cat, vI_cat, vL_cat, List.sum_cons, List.sum_nil]; decide) dX6_known_2 hB ?_
  clear h
  rintro _ μ_3 ws ⟨y_1, rfl, z_2, h⟩ hM2
  refine ww_st1 ?_
  refine ww_iconst dX6_known_5 ?_
  obtain ⟨hg, h⟩ := h
  obtain ⟨c_4, s_5, b_6, h⟩ := h
  refine wm_callX (n := 2) hM2 (tm_X6_must h) rfl hg rfl (lw_V q696 q698 qs4 q118 q699) ⟨by decide, by decide, by decide +kernel⟩ rfl ⟨Nat.le_of_ble_eq_true rfl, Nat.le_of_ble_eq_true rfl⟩ rfl (Nat.le_of_ble_eq_true rfl) dX6_known_6 b_6 ?_ ?_
  · clear h
    intro q_8 E_9 μ_10 ws h hM3
    have hB := b_6
    exact wx_out (by intro z hz; simp [tableOf] at hz; subst hz; rfl) (ws, μ_10) ⟨hM3, h⟩ rfl hB.1 hB.2
  · clear h
    rintro _ μ_7 ws ⟨rfl, h⟩ hM4
    have hB := b_6
    refine ww_st0 ?_
    refine ww_aloadQ_n dX6_known_9 1 rfl ?_
    refine ww_aloadQ_n dX6_known_10 0 rfl ?_
    obtain ⟨x_11, hx, h⟩ := h
    refine wm_getQ hM4 rfl in_X6 (ci := 5) rfl (by decide) 6 (Nat.le_of_ble_eq_true rfl) hx (fun _ _ => rfl) q407 (fun _ _ h => h) dX6_known_11 ?_
    obtain ⟨a_12, ea_12, h⟩ := h
    subst ea_12
    obtain ⟨hg, h⟩ := h
    obtain ⟨c_13, s_14, b_15, h⟩ := h
    refine wm_callX (n := 1) hM4 (tm_X3_number h) rfl hg rfl (lw_V q1383 q1384 q1385 q110 q1386) ⟨by decide, by decide, by decide +kernel⟩ rfl ⟨Nat.le_of_ble_eq_true rfl, Nat.le_of_ble_eq_true rfl⟩ rfl (Nat.le_of_ble_eq_true rfl) dX6_known_14 b_15 ?_ ?_
    · clear h
      intro q_19 E_20 μ_21 ws h hM5
      have hB := b_15
      obtain ⟨rfl, h⟩ := h
      refine wx_catch (x := ⟨9, 23, 24, 159⟩) rfl (by decide) q1381 q890 ?_
      refine ww_astoreQ_n (i := 2) (lv2 := [(2, va_rf (some q_19)), (0, va_rf (some b)), (1, va_rf (some a_12))]) dX6_known_24 rfl (Nat.le_of_ble_eq_true rfl) rfl ?_
      obtain ⟨b_23, h⟩ := h
      refine wm_new hM5 in_X7 tyX7_ok q700 q701 q131 (ci := 6) rfl dfl_6 b_23.1 b_23.2 dX6_known_25 (fun q_22 ws hq hM6 => ?_)
      replace h := h q_22 hq
      have hB := b_23
      refine ww_dup dX6_known_28 (rf_cat _) ?_
      refine ww_aloadQ_n dX6_known_29 1 rfl ?_
      obtain ⟨x_24, hx, h⟩ := h
      refine wm_getI hM6 rfl in_X6 (ci := 5) rfl (by decide) 5 (Nat.le_of_ble_eq_true rfl) hx (fun _ _ => rfl) q406 (fun _ _ h => h) dX6_known_30 ?_
      refine ww_iconst dX6_known_33 ?_
      refine wm_callI (n := 2) hM6 (tm_X7_init h) rfl q754 q131 q752 q753 rfl ⟨by decide, by decide, by decide +kernel⟩ rfl ⟨Nat.le_of_ble_eq_true rfl, Nat.le_of_ble_eq_true rfl⟩ rfl (by simp only [List.map_cons, List.map_nil, rf_cat, vI_cat, vL_cat, List.sum_cons, List.sum_nil]; decide) dX6_known_34 hB ?_
      clear h
      rintro _ μ_25 ws ⟨rfl, h⟩ hM7
      refine ww_st0 ?_
      obtain ⟨fi_26, fq_27, hc, h⟩ := h
      exact wx_athrow hM7 rfl hc rfl dX6_known_37 (wx_out (by intro z hz; simp [tableOf] at hz; subst hz; rfl) (ws, μ_25) ⟨hM7, h⟩ rfl hB.1 hB.2)
    · clear h
      rintro _ μ_18 ws ⟨y_16, rfl, h⟩ hM8
      have hB := b_15
      refine ww_st1 ?_
      refine ww_istore_n (i := 2) (lv2 := [(2, vI y_16), (0, va_rf (some b)), (1, va_rf (some a_12))]) dX6_known_17 rfl (Nat.le_of_ble_eq_true rfl) rfl ?_
      refine ww_aloadQ_n dX6_known_18 1 rfl ?_
      obtain ⟨hg, h⟩ := h
      obtain ⟨c_28, s_29, b_30, h⟩ := h
      refine wm_callV (n := 0) hM8 (tm_X6_go h) rfl hg rfl (lw_V q439 q441 qs0 q118 q442) ⟨by decide, by decide, by decide +kernel⟩ rfl ⟨Nat.le_of_ble_eq_true rfl, Nat.le_of_ble_eq_true rfl⟩ rfl (Nat.le_of_ble_eq_true rfl) dX6_known_19 b_30 ?_
      clear h
      rintro _ μ_31 ws ⟨rfl, h⟩ hM9
      have hB := b_30
      refine ww_st0 ?_
      refine ww_iload_n dX6_known_22 0 rfl ?_
      refine wx_lift ?_
      exact ww_iret (ws, μ_31) rfl ⟨hM9, ⟨_, rfl, h⟩⟩ rfl hB.1 hB.2 dX6_known_23
/-! X6_node: HoloNet$Reader node ()V; flags (True, True, True), depth 105 -/
def wc_X6_node (ad : Nat → Nat) (mc ms : Nat) (μ : HM) (b : Nat) (P : HM → Prop) (X : Nat → String → HM → Prop) : Prop :=
  ∃ x_1 : Option Nat, gQ μ b 5 1 = some x_1 ∧
  ∃ a_3 : Nat, x_1 = some a_3 ∧
  ∃ x_2 : Option Nat, gQ μ a_3 2 3 = some x_2 ∧
  gC μ b = some 5 ∧
  ∃ c_4 s_5 : Nat, (0 + c_4 ≤ mc ∧ 0 + s_5 ≤ ms) ∧
  wc_X6_begins ad c_4 s_5 μ b x_2 (fun y_7 μ_9 =>
    ∃ x_13 : Option Nat, gQ μ_9 b 5 1 = some x_13 ∧
    ∃ a_15 : Nat, x_13 = some a_15 ∧
    ∃ x_14 : Option Nat, gQ μ_9 a_15 2 1 = some x_14 ∧
    ∃ x_16 : Option Nat, gQ μ_9 b 5 1 = some x_16 ∧
    ∃ a_18 : Nat, x_16 = some a_18 ∧
    ∃ x_17 : Option Nat, gQ μ_9 a_18 2 1 = some x_17 ∧
    gC μ_9 b = some 5 ∧
    ∃ c_19 s_20 : Nat, (0 + c_4 + c_19 ≤ mc ∧ 0 + s_5 + s_20 ≤ ms) ∧
    wc_X6_known ad c_19 s_20 μ_9 b x_17 (fun y_22 μ_24 =>
      ∃ a_28 : Nat, x_14 = some a_28 ∧
      gC μ_24 a_28 = some 3 ∧
      wc_X3_get ad μ_24 a_28 y_22 (fun y_29 =>
        (∀ z : Nat, y_29 = some z → ∃ ci, gC μ_24 z = some ci ∧ (ci = 7)) ∧
        ∃ x_31 : Option Nat, gQ μ_24 b 5 2 = some x_31 ∧
        ∃ a_33 : Nat, x_31 = some a_33 ∧
        ∃ x_32 : Option Nat, gQ μ_24 a_33 4 0 = some x_32 ∧
        ∃ x_34 : Option Nat, gQ μ_24 b 5 1 = some x_34 ∧
        ∃ a_36 : Nat, x_34 = some a_36 ∧
        ∃ x_35 : Option Nat, gQ μ_24 a_36 2 3 = some x_35 ∧
        ∃ a_37 : Nat, x_35 = some a_37 ∧
        gC μ_24 a_37 = some 3 ∧
        wc_X3_size ad μ_24 a_37 (fun y_38 =>
          ∃ a_41 : Nat, y_29 = some a_41 ∧
          ∃ x_40 : Option Nat, gQ μ_24 a_41 7 3 = some x_40 ∧
          ∃ a_42 : Nat, x_32 = some a_42 ∧
          ∃ a_45 : Nat, x_40 = some a_45 ∧
          ∃ (n_43 : Nat) (f_44 : Int → Option Nat), μ_24 a_42 = some (hQ 6 n_43 f_44) ∧ hst μ_24 6 a_45 ∧ ((0 : Int) ≤ y_38 ∧ y_38 < (n_43 : Int) ∧ (n_43 : Int) < 2147483648) ∧
          ∃ x_46 : Option Nat, gQ (hs μ_24 a_42 (hQ 6 n_43 (updI f_44 y_38 (some a_45)))) b 5 1 = some x_46 ∧
          ∃ a_48 : Nat, x_46 = some a_48 ∧
          ∃ x_47 : Option Nat, gQ (hs μ_24 a_42 (hQ 6 n_43 (updI f_44 y_38 (some a_45)))) a_48 2 3 = some x_47 ∧
          (0 + c_4 + c_19 + 1 ≤ mc ∧ 0 + s_5 + s_20 + 3 ≤ ms) ∧ ∀ q_49 : Nat, (hs μ_24 a_42 (hQ 6 n_43 (updI f_44 y_38 (some a_45)))) q_49 = none →
          ∃ x_51 : Option Nat, gQ (hs (hs μ_24 a_42 (hQ 6 n_43 (updI f_44 y_38 (some a_45)))) q_49 (hO 9 (fun _ => 0) (fun _ => none))) b 5 1 = some x_51 ∧
          ∃ a_53 : Nat, x_51 = some a_53 ∧
          ∃ x_52 : Option Nat, gQ (hs (hs μ_24 a_42 (hQ 6 n_43 (updI f_44 y_38 (some a_45)))) q_49 (hO 9 (fun _ => 0) (fun _ => none))) a_53 2 3 = some x_52 ∧
          ∃ a_54 : Nat, x_52 = some a_54 ∧
          gC (hs (hs μ_24 a_42 (hQ 6 n_43 (updI f_44 y_38 (some a_45)))) q_49 (hO 9 (fun _ => 0) (fun _ => none))) a_54 = some 3 ∧
          wc_X3_size ad (hs (hs μ_24 a_42 (hQ 6 n_43 (updI f_44 y_38 (some a_45)))) q_49 (hO 9 (fun _ => 0) (fun _ => none))) a_54 (fun y_55 =>
            wc_X12_init ad (hs (hs μ_24 a_42 (hQ 6 n_43 (updI f_44 y_38 (some a_45)))) q_49 (hO 9 (fun _ => 0) (fun _ => none))) q_49 y_7 y_55 (some a_41) (fun μ_57 =>
              ∃ a_58 : Nat, x_47 = some a_58 ∧
              gC μ_57 a_58 = some 3 ∧
              ∃ c_59 s_60 : Nat, (0 + c_4 + c_19 + 1 + c_59 ≤ mc ∧ 0 + s_5 + s_20 + 3 + s_60 ≤ ms) ∧
              wc_X3_add ad c_59 s_60 μ_57 a_58 (some q_49) (fun μ_62 =>
                P μ_62)))))) (fun q_25 E_26 μ_27 =>
      X q_25 E_26 μ_27)) (fun q_10 E_11 μ_12 =>
    X q_10 E_11 μ_12)
set_option maxHeartbeats 4000000 in
theorem tm_X6_node {G : g_G} {l : Launch} {mc ms : Nat} {μ : HM} {b : Nat} {P : HM → Prop} {X : Nat → String → HM → Prop} (h : wc_X6_node (g_ad G) mc ms μ b P X) : CMX G l yX6_node cX6_node 3 (Option.none : Option Jvm.ClassFile.FieldType) 105 mc ms [.ref b] μ (hR0 P) X := by
  unfold wc_X6_node at h
  refine wm_ofX (lvs := [(0, va_rf (some b))]) (by decide) (Nat.le_of_ble_eq_true rfl) rfl (fun fr ws hM1 => ?_)
  show WF G l cX6_node RX6 3 (Option.none : Option Jvm.ClassFile.FieldType) "node" 105 mc ms (gFX G (hMR G (hR0 P)) (fun u => [u.1, fr]) (hMX G X) (fun u => [u.1, fr]) mc ms []) 0 0 [ws, fr] 0 [(0, va_rf (some b))] []
  have hB : 0 ≤ mc ∧ 0 ≤ ms := ⟨Nat.zero_le _, Nat.zero_le _⟩
  refine ww_aloadQ_n dX6_node_0 0 rfl ?_
  refine ww_aloadQ_n dX6_node_1 0 rfl ?_
  obtain ⟨x_1, hx, h⟩ := h
  refine wm_getQ hM1 rfl in_X6 (ci := 5) rfl (by decide) 1 (Nat.le_of_ble_eq_true rfl) hx (fun _ _ => rfl) q400 (fun _ _ h => h) dX6_node_2 ?_
  obtain ⟨a_3, ea_3, h⟩ := h
  subst ea_3
  obtain ⟨x_2, hx, h⟩ := h
  refine wm_getQN hM1 rfl in_X2 (ci := 2) rfl (by decide) 3 (Nat.le_of_ble_eq_true rfl) hx (fun _ _ => rfl) q269 (fun _ _ h => h) dX6_node_5 ?_
  obtain ⟨hg, h⟩ := h
  obtain ⟨c_4, s_5, b_6, h⟩ := h
  refine wm_callX (n := 1) hM1 (tm_X6_begins h) rfl hg rfl (lw_V q847 q849 qs10 q118 q850) ⟨by decide, by decide, by decide +kernel⟩ rfl ⟨Nat.le_of_ble_eq_true rfl, Nat.le_of_ble_eq_true rfl⟩ rfl (Nat.le_of_ble_eq_true rfl) dX6_node_8 b_6 ?_ ?_
  · clear h
    intro q_10 E_11 μ_12 ws h hM2
    have hB := b_6
    exact wx_out (fun _ hz => nomatch hz) (ws, μ_12) ⟨hM2, h⟩ rfl hB.1 hB.2
  · clear h
    rintro _ μ_9 ws ⟨y_7, rfl, h⟩ hM3
    have hB := b_6
    refine ww_st1 ?_
    refine ww_astoreQ_n (i := 1) (lv2 := [(1, va_rf y_7), (0, va_rf (some b))]) dX6_node_11 rfl (Nat.le_of_ble_eq_true rfl) rfl ?_
    refine ww_aloadQ_n dX6_node_12 1 rfl ?_
    obtain ⟨x_13, hx, h⟩ := h
    refine wm_getQ hM3 rfl in_X6 (ci := 5) rfl (by decide) 1 (Nat.le_of_ble_eq_true rfl) hx (fun _ _ => rfl) q400 (fun _ _ h => h) dX6_node_13 ?_
    obtain ⟨a_15, ea_15, h⟩ := h
    subst ea_15
    obtain ⟨x_14, hx, h⟩ := h
    refine wm_getQN hM3 rfl in_X2 (ci := 2) rfl (by decide) 1 (Nat.le_of_ble_eq_true rfl) hx (fun _ _ => rfl) q262 (fun _ _ h => h) dX6_node_16 ?_
    refine ww_aloadQ_n dX6_node_19 1 rfl ?_
    refine ww_aloadQ_n dX6_node_20 1 rfl ?_
    obtain ⟨x_16, hx, h⟩ := h
    refine wm_getQ hM3 rfl in_X6 (ci := 5) rfl (by decide) 1 (Nat.le_of_ble_eq_true rfl) hx (fun _ _ => rfl) q400 (fun _ _ h => h) dX6_node_21 ?_
    obtain ⟨a_18, ea_18, h⟩ := h
    subst ea_18
    obtain ⟨x_17, hx, h⟩ := h
    refine wm_getQN hM3 rfl in_X2 (ci := 2) rfl (by decide) 1 (Nat.le_of_ble_eq_true rfl) hx (fun _ _ => rfl) q262 (fun _ _ h => h) dX6_node_24 ?_
    obtain ⟨hg, h⟩ := h
    obtain ⟨c_19, s_20, b_21, h⟩ := h
    refine wm_callXH (n := 1) hM3 (tm_X6_known h) rfl hg rfl (lw_VW q1377 q1379 qs25 q118 q1380) ⟨by decide, by decide, by decide +kernel⟩ rfl ⟨Nat.le_of_ble_eq_true rfl, Nat.le_of_ble_eq_true rfl⟩ rfl (by simp only [List.map_cons, List.map_nil, rf_cat, vI_cat, vL_cat, List.sum_cons, List.sum_nil]; decide) dX6_node_27 b_21 ?_ ?_
    · clear h
      intro q_25 E_26 μ_27 ws h hM4
      have hB := b_21
      exact wx_out (fun _ hz => nomatch hz) (ws, μ_27) ⟨hM4, h⟩ rfl hB.1 hB.2
    · clear h
      rintro _ μ_24 ws ⟨y_22, rfl, h⟩ hM5
      have hB := b_21
      refine ww_st1 ?_
      obtain ⟨a_28, ea_28, h⟩ := h
      subst ea_28
      obtain ⟨hg, h⟩ := h
      refine wm_callV (n := 1) hM5 (tm_X3_get h) rfl hg rfl (lw_V q1404 q1405 q1406 q110 q1407) ⟨by decide, by decide, by decide +kernel⟩ rfl ⟨Nat.le_of_ble_eq_true rfl, Nat.le_of_ble_eq_true rfl⟩ rfl (Nat.le_of_ble_eq_true rfl) dX6_node_30 hB ?_
      clear h
      rintro _ _ ws ⟨rfl, y_29, rfl, h⟩ hM6
      refine ww_st1 ?_
      obtain ⟨hc, h⟩ := h
      refine wm_cast hM6 hc cast_4 q1137 dX6_node_33 ?_
      refine ww_astoreQ_n (i := 2) (lv2 := [(2, va_rf y_29), (1, va_rf y_7), (0, va_rf (some b))]) dX6_node_36 rfl (Nat.le_of_ble_eq_true rfl) (by simp [rf_cat, vI_cat, vL_cat, ref_cat]) ?_
      refine ww_aloadQ_n dX6_node_37 2 rfl ?_
      obtain ⟨x_31, hx, h⟩ := h
      refine wm_getQ hM6 rfl in_X6 (ci := 5) rfl (by decide) 2 (Nat.le_of_ble_eq_true rfl) hx (fun _ _ => rfl) q402 (fun _ _ h => h) dX6_node_38 ?_
      obtain ⟨a_33, ea_33, h⟩ := h
      subst ea_33
      obtain ⟨x_32, hx, h⟩ := h
      refine wm_getQN hM6 rfl in_X4 (ci := 4) rfl (by decide) 0 (Nat.le_of_ble_eq_true rfl) hx (fun _ _ => rfl) q296 (fun _ _ h => h) dX6_node_41 ?_
      refine ww_aloadQ_n dX6_node_44 2 rfl ?_
      obtain ⟨x_34, hx, h⟩ := h
      refine wm_getQ hM6 rfl in_X6 (ci := 5) rfl (by decide) 1 (Nat.le_of_ble_eq_true rfl) hx (fun _ _ => rfl) q400 (fun _ _ h => h) dX6_node_45 ?_
      obtain ⟨a_36, ea_36, h⟩ := h
      subst ea_36
      obtain ⟨x_35, hx, h⟩ := h
      refine wm_getQN hM6 rfl in_X2 (ci := 2) rfl (by decide) 3 (Nat.le_of_ble_eq_true rfl) hx (fun _ _ => rfl) q269 (fun _ _ h => h) dX6_node_48 ?_
      obtain ⟨a_37, ea_37, h⟩ := h
      subst ea_37
      obtain ⟨hg, h⟩ := h
      refine wm_callV (n := 0) hM6 (tm_X3_size h) rfl hg rfl (lw_V q1139 q1140 q1141 q110 q1142) ⟨by decide, by decide, by decide +kernel⟩ rfl ⟨Nat.le_of_ble_eq_true rfl, Nat.le_of_ble_eq_true rfl⟩ rfl (by simp only [List.map_cons, List.map_nil, rf_cat, vI_cat, vL_cat, List.sum_cons, List.sum_nil]; decide) dX6_node_51 hB ?_
      clear h
      rintro _ _ ws ⟨rfl, y_38, rfl, h⟩ hM7
      refine ww_st1 ?_
      refine ww_aloadQ_n dX6_node_54 0 rfl ?_
      obtain ⟨a_41, ea_41, h⟩ := h
      subst ea_41
      obtain ⟨x_40, hx, h⟩ := h
      refine wm_getQN hM7 rfl in_X9 (ci := 7) rfl (by decide) 3 (Nat.le_of_ble_eq_true rfl) hx (fun _ _ => rfl) q1157 (fun _ _ h => h) dX6_node_55 ?_
      obtain ⟨a_42, ea_42, h⟩ := h
      subst ea_42
      obtain ⟨a_45, ea_45, h⟩ := h
      subst ea_45
      obtain ⟨n_43, f_44, hc, hx, hi, h⟩ := h
      refine wm_aast hM7 rfl rfl hc hx hi.1 hi.2.1 hi.2.2 dX6_node_58 (fun ws hM8 => ?_)
      refine ww_aloadQ_n dX6_node_59 2 rfl ?_
      obtain ⟨x_46, hx, h⟩ := h
      refine wm_getQ hM8 rfl in_X6 (ci := 5) rfl (by decide) 1 (Nat.le_of_ble_eq_true rfl) hx (fun _ _ => rfl) q400 (fun _ _ h => h) dX6_node_60 ?_
      obtain ⟨a_48, ea_48, h⟩ := h
      subst ea_48
      obtain ⟨x_47, hx, h⟩ := h
      refine wm_getQN hM8 rfl in_X2 (ci := 2) rfl (by decide) 3 (Nat.le_of_ble_eq_true rfl) hx (fun _ _ => rfl) q269 (fun _ _ h => h) dX6_node_63 ?_
      obtain ⟨b_50, h⟩ := h
      refine wm_new hM8 in_X12 tyX12_ok q1420 q1421 q145 (ci := 9) rfl dfl_9 b_50.1 b_50.2 dX6_node_66 (fun q_49 ws hq hM9 => ?_)
      replace h := h q_49 hq
      have hB := b_50
      refine ww_dup dX6_node_69 (rf_cat _) ?_
      refine ww_aloadQ_n dX6_node_70 1 rfl ?_
      refine ww_aloadQ_n dX6_node_71 2 rfl ?_
      obtain ⟨x_51, hx, h⟩ := h
      refine wm_getQ hM9 rfl in_X6 (ci := 5) rfl (by decide) 1 (Nat.le_of_ble_eq_true rfl) hx (fun _ _ => rfl) q400 (fun _ _ h => h) dX6_node_72 ?_
      obtain ⟨a_53, ea_53, h⟩ := h
      subst ea_53
      obtain ⟨x_52, hx, h⟩ := h
      refine wm_getQN hM9 rfl in_X2 (ci := 2) rfl (by decide) 3 (Nat.le_of_ble_eq_true rfl) hx (fun _ _ => rfl) q269 (fun _ _ h => h) dX6_node_75 ?_
      obtain ⟨a_54, ea_54, h⟩ := h
      subst ea_54
      obtain ⟨hg, h⟩ := h
      refine wm_callV (n := 0) hM9 (tm_X3_size h) rfl hg rfl (lw_V q1139 q1140 q1141 q110 q1142) ⟨by decide, by decide, by decide +kernel⟩ rfl ⟨Nat.le_of_ble_eq_true rfl, Nat.le_of_ble_eq_true rfl⟩ rfl (by simp only [List.map_cons, List.map_nil, rf_cat, vI_cat, vL_cat, List.sum_cons, List.sum_nil]; decide) dX6_node_78 hB ?_
      clear h
      rintro _ _ ws ⟨rfl, y_55, rfl, h⟩ hM10
      refine ww_st1 ?_
      refine ww_aloadQ_n dX6_node_81 0 rfl ?_
      refine wm_callI (n := 3) hM10 (tm_X12_init h) rfl q1424 q145 q1422 q1423 rfl ⟨by decide, by decide, by decide +kernel⟩ rfl ⟨Nat.le_of_ble_eq_true rfl, Nat.le_of_ble_eq_true rfl⟩ rfl (by simp only [List.map_cons, List.map_nil, rf_cat, vI_cat, vL_cat, List.sum_cons, List.sum_nil]; decide) dX6_node_82 hB ?_
      clear h
      rintro _ μ_57 ws ⟨rfl, h⟩ hM11
      refine ww_st0 ?_
      obtain ⟨a_58, ea_58, h⟩ := h
      subst ea_58
      obtain ⟨hg, h⟩ := h
      obtain ⟨c_59, s_60, b_61, h⟩ := h
      refine wm_callV (n := 1) hM11 (tm_X3_add h) rfl hg rfl (lw_V q1171 q1172 q1173 q110 q1174) ⟨by decide, by decide, by decide +kernel⟩ rfl ⟨Nat.le_of_ble_eq_true rfl, Nat.le_of_ble_eq_true rfl⟩ rfl (Nat.le_of_ble_eq_true rfl) dX6_node_85 b_61 ?_
      clear h
      rintro _ μ_62 ws ⟨rfl, h⟩ hM12
      have hB := b_61
      refine ww_st0 ?_
      refine wx_lift ?_
      exact ww_vret (ws, μ_62) rfl ⟨hM12, ⟨rfl, h⟩⟩ rfl hB.1 hB.2 dX6_node_88
/-! X6_table: HoloNet$Reader table ()V; flags (True, True, True), depth 10 -/
def wc_X6_table (ad : Nat → Nat) (mc ms : Nat) (μ : HM) (b : Nat) (P : HM → Prop) (X : Nat → String → HM → Prop) : Prop :=
  ∃ x_1 : Option Nat, gQ μ b 5 1 = some x_1 ∧
  ∃ a_3 : Nat, x_1 = some a_3 ∧
  ∃ x_2 : Option Nat, gQ μ a_3 2 1 = some x_2 ∧
  gC μ b = some 5 ∧
  ∃ c_4 s_5 : Nat, (0 + c_4 ≤ mc ∧ 0 + s_5 ≤ ms) ∧
  wc_X6_begins ad c_4 s_5 μ b x_2 (fun y_7 μ_9 =>
    gC μ_9 b = some 5 ∧
    ∃ c_13 s_14 : Nat, (0 + c_4 + c_13 ≤ mc ∧ 0 + s_5 + s_14 ≤ ms) ∧
    wc_X6_number ad c_13 s_14 μ_9 b 1 4 (fun y_16 μ_18 =>
      (0 ≤ bL 1 y_16 ∧ bL 1 y_16 < 50000000 ∧ 0 + c_4 + c_13 + 1 ≤ mc ∧ 0 + s_5 + s_14 + (bL 1 y_16).toNat ≤ ms) ∧ ∀ q_22 : Nat, μ_18 q_22 = none →
      ∃ I28 : Nat → Int → HM → Nat → Nat → Prop, (∀ (n28 : Nat) (v4_28 : Int) (μ28 : HM) (uc28 : Nat) (us28 : Nat), I28 n28 v4_28 μ28 uc28 us28 →
        ∃ n_24 : Nat, gL μ28 q_22 = some n_24 ∧
        rI v4_28 ∧
        rI (n_24 : Int) ∧
        (((n_24 : Int) ≤ v4_28 →
          ∃ x_27 : Option Nat, gQ μ28 b 5 1 = some x_27 ∧
          ∃ a_29 : Nat, x_27 = some a_29 ∧
          ∃ x_28 : Option Nat, gQ μ28 a_29 2 1 = some x_28 ∧
          (uc28 + 1 ≤ mc ∧ us28 + 4 ≤ ms) ∧ ∀ q_30 : Nat, μ28 q_30 = none →
          ∃ x_32 : Option Nat, gQ (hs μ28 q_30 (hO 7 (fun _ => 0) (fun _ => none))) b 5 1 = some x_32 ∧
          ∃ a_34 : Nat, x_32 = some a_34 ∧
          ∃ x_33 : Option Nat, gQ (hs μ28 q_30 (hO 7 (fun _ => 0) (fun _ => none))) a_34 2 1 = some x_33 ∧
          ∃ a_35 : Nat, x_33 = some a_35 ∧
          gC (hs μ28 q_30 (hO 7 (fun _ => 0) (fun _ => none))) a_35 = some 3 ∧
          wc_X3_size ad (hs μ28 q_30 (hO 7 (fun _ => 0) (fun _ => none))) a_35 (fun y_36 =>
            wc_X9_init ad (hs μ28 q_30 (hO 7 (fun _ => 0) (fun _ => none))) q_30 y_7 y_36 y_16 (some q_22) (fun μ_38 =>
              ∃ a_39 : Nat, x_28 = some a_39 ∧
              gC μ_38 a_39 = some 3 ∧
              ∃ c_40 s_41 : Nat, (uc28 + 1 + c_40 ≤ mc ∧ us28 + 4 + s_41 ≤ ms) ∧
              wc_X3_add ad c_40 s_41 μ_38 a_39 (some q_30) (fun μ_43 =>
                P μ_43)))) ∧
        (v4_28 < (n_24 : Int) →
          ∃ x_44 : Option Nat, gQ μ28 b 5 1 = some x_44 ∧
          ∃ a_46 : Nat, x_44 = some a_46 ∧
          ∃ x_45 : Int, gI μ28 a_46 2 0 = some x_45 ∧
          gC μ28 b = some 5 ∧
          ∃ c_47 s_48 : Nat, (uc28 + c_47 ≤ mc ∧ us28 + s_48 ≤ ms) ∧
          wc_X6_number ad c_47 s_48 μ28 b 0 (x_45 - 1) (fun y_50 μ_52 =>
            ∃ (n_56 : Nat) (f_57 : Int → Int), μ_52 q_22 = some (hA 0 n_56 f_57) ∧ ((0 : Int) ≤ v4_28 ∧ v4_28 < (n_56 : Int) ∧ (n_56 : Int) < 2147483648) ∧ 
            ∃ m : Nat, m < n28 ∧ I28 m (v4_28 + 1) (hs μ_52 q_22 (hA 0 n_56 (updI f_57 v4_28 y_50))) (uc28 + c_47) (us28 + s_48)) (fun q_53 E_54 μ_55 =>
            X q_53 E_54 μ_55)))) ∧
      ∃ m : Nat, I28 m 0 (hs μ_18 q_22 (hA 0 (bL 1 y_16).toNat (fun _ => 0))) (0 + c_4 + c_13 + 1) (0 + s_5 + s_14 + (bL 1 y_16).toNat)) (fun q_19 E_20 μ_21 =>
      X q_19 E_20 μ_21)) (fun q_10 E_11 μ_12 =>
    X q_10 E_11 μ_12)
set_option maxHeartbeats 4000000 in
theorem tm_X6_table {G : g_G} {l : Launch} {mc ms : Nat} {μ : HM} {b : Nat} {P : HM → Prop} {X : Nat → String → HM → Prop} (h : wc_X6_table (g_ad G) mc ms μ b P X) : CMX G l yX6_table cX6_table 5 (Option.none : Option Jvm.ClassFile.FieldType) 10 mc ms [.ref b] μ (hR0 P) X := by
  unfold wc_X6_table at h
  refine wm_ofX (lvs := [(0, va_rf (some b))]) (by decide) (Nat.le_of_ble_eq_true rfl) rfl (fun fr ws hM1 => ?_)
  show WF G l cX6_table RX6 5 (Option.none : Option Jvm.ClassFile.FieldType) "table" 10 mc ms (gFX G (hMR G (hR0 P)) (fun u => [u.1, fr]) (hMX G X) (fun u => [u.1, fr]) mc ms []) 0 0 [ws, fr] 0 [(0, va_rf (some b))] []
  have hB : 0 ≤ mc ∧ 0 ≤ ms := ⟨Nat.zero_le _, Nat.zero_le _⟩
  refine ww_aloadQ_n dX6_table_0 0 rfl ?_
  refine ww_aloadQ_n dX6_table_1 0 rfl ?_
  obtain ⟨x_1, hx, h⟩ := h
  refine wm_getQ hM1 rfl in_X6 (ci := 5) rfl (by decide) 1 (Nat.le_of_ble_eq_true rfl) hx (fun _ _ => rfl) q400 (fun _ _ h => h) dX6_table_2 ?_
  obtain ⟨a_3, ea_3, h⟩ := h
  subst ea_3
  obtain ⟨x_2, hx, h⟩ := h
  refine wm_getQN hM1 rfl in_X2 (ci := 2) rfl (by decide) 1 (Nat.le_of_ble_eq_true rfl) hx (fun _ _ => rfl) q262 (fun _ _ h => h) dX6_table_5 ?_
  obtain ⟨hg, h⟩ := h
  obtain ⟨c_4, s_5, b_6, h⟩ := h
  refine wm_callX (n := 1) hM1 (tm_X6_begins h) rfl hg rfl (lw_V q847 q849 qs10 q118 q850) ⟨by decide, by decide, by decide +kernel⟩ rfl ⟨Nat.le_of_ble_eq_true rfl, Nat.le_of_ble_eq_true rfl⟩ rfl (Nat.le_of_ble_eq_true rfl) dX6_table_8 b_6 ?_ ?_
  · clear h
    intro q_10 E_11 μ_12 ws h hM2
    have hB := b_6
    exact wx_out (fun _ hz => nomatch hz) (ws, μ_12) ⟨hM2, h⟩ rfl hB.1 hB.2
  · clear h
    rintro _ μ_9 ws ⟨y_7, rfl, h⟩ hM3
    have hB := b_6
    refine ww_st1 ?_
    refine ww_astoreQ_n (i := 1) (lv2 := [(1, va_rf y_7), (0, va_rf (some b))]) dX6_table_11 rfl (Nat.le_of_ble_eq_true rfl) rfl ?_
    refine ww_aloadQ_n dX6_table_12 1 rfl ?_
    refine ww_iconst dX6_table_13 ?_
    refine ww_iconst dX6_table_14 ?_
    obtain ⟨hg, h⟩ := h
    obtain ⟨c_13, s_14, b_15, h⟩ := h
    refine wm_callX (n := 2) hM3 (tm_X6_number h) rfl hg rfl (lw_V q781 q783 qs7 q118 q784) ⟨by decide, by decide, by decide +kernel⟩ rfl ⟨Nat.le_of_ble_eq_true rfl, Nat.le_of_ble_eq_true rfl⟩ rfl (Nat.le_of_ble_eq_true rfl) dX6_table_15 b_15 ?_ ?_
    · clear h
      intro q_19 E_20 μ_21 ws h hM4
      have hB := b_15
      exact wx_out (fun _ hz => nomatch hz) (ws, μ_21) ⟨hM4, h⟩ rfl hB.1 hB.2
    · clear h
      rintro _ μ_18 ws ⟨y_16, rfl, h⟩ hM5
      have hB := b_15
      refine ww_st1 ?_
      refine ww_istore_n (i := 2) (lv2 := [(2, vI y_16), (1, va_rf y_7), (0, va_rf (some b))]) dX6_table_18 rfl (Nat.le_of_ble_eq_true rfl) (by simp [rf_cat, vI_cat, vL_cat, ref_cat]) ?_
      refine ww_iconst dX6_table_19 ?_
      refine ww_iload_n dX6_table_20 0 rfl ?_
      refine ww_ishl dX6_table_21 ?_
      obtain ⟨b_23, h⟩ := h
      refine wm_new0 hM5 q163 b_23.1 (by omega) b_23.2.2.1 b_23.2.2.2 dX6_table_22 (fun q_22 ws hq hM6 => ?_)
      replace h := h q_22 hq
      have hB := b_23.2.2
      refine ww_astoreQ_n (i := 3) (lv2 := [(3, va_rf (some q_22)), (2, vI y_16), (1, va_rf y_7), (0, va_rf (some b))]) dX6_table_24 rfl (Nat.le_of_ble_eq_true rfl) rfl ?_
      refine ww_iconst dX6_table_25 ?_
      refine ww_istore (i := 4) (lv2 := [(4, vI 0), (3, va_rf (some q_22)), (2, vI y_16), (1, va_rf y_7), (0, va_rf (some b))]) dX6_table_26 (Nat.le_of_ble_eq_true rfl) rfl ?_
      obtain ⟨I28, hI28, h⟩ := h
      have kI28 : ∀ (n28 : Nat), ∀ (v4_28 : Int), ∀ (μ28 : HM), ∀ (uc28 : Nat), ∀ (us28 : Nat), I28 n28 v4_28 μ28 uc28 us28 → ∀ ws : va_W, Mrep G ws μ28 → (uc28 ≤ mc ∧ us28 ≤ ms) → WF G l cX6_table RX6 5 (Option.none : Option Jvm.ClassFile.FieldType) "table" 10 mc ms (gFX G (hMR G (hR0 P)) (fun u => [u.1, fr]) (hMX G X) (fun u => [u.1, fr]) mc ms []) uc28 us28 [ws, fr] 28 [(0, va_rf (some b)), (1, va_rf y_7), (2, vI y_16), (3, va_rf (some q_22)), (4, vI v4_28)] [] := by
        clear h
        intro n28
        induction n28 using Nat.strongRecOn with
        | ind n28 ih28 =>
          intro v4_28 μ28 uc28 us28 hj ws hM7 hB
          have h := hI28 n28 v4_28 μ28 uc28 us28 hj
          refine ww_iload dX6_table_28 4 rfl ?_
          refine ww_aloadQ_n dX6_table_30 3 rfl ?_
          obtain ⟨n_24, hn, h⟩ := h
          refine wm_alen hM7 rfl hn dX6_table_31 ?_
          obtain ⟨r_25, r_26, h⟩ := h
          refine ww_icmp_ge (tgt := 59) dX6_table_32 (by decide) r_25 r_26 (fun c => ?_) (fun c => ?_)
          · replace h := h.1 c
            refine ww_aloadQ_n dX6_table_59 0 rfl ?_
            obtain ⟨x_27, hx, h⟩ := h
            refine wm_getQ hM7 rfl in_X6 (ci := 5) rfl (by decide) 1 (Nat.le_of_ble_eq_true rfl) hx (fun _ _ => rfl) q400 (fun _ _ h => h) dX6_table_60 ?_
            obtain ⟨a_29, ea_29, h⟩ := h
            subst ea_29
            obtain ⟨x_28, hx, h⟩ := h
            refine wm_getQN hM7 rfl in_X2 (ci := 2) rfl (by decide) 1 (Nat.le_of_ble_eq_true rfl) hx (fun _ _ => rfl) q262 (fun _ _ h => h) dX6_table_63 ?_
            obtain ⟨b_31, h⟩ := h
            refine wm_new hM7 in_X9 tyX9_ok q1137 q1138 q141 (ci := 7) rfl dfl_7 b_31.1 b_31.2 dX6_table_66 (fun q_30 ws hq hM8 => ?_)
            replace h := h q_30 hq
            have hB := b_31
            refine ww_dup dX6_table_69 (rf_cat _) ?_
            refine ww_aloadQ_n dX6_table_70 1 rfl ?_
            refine ww_aloadQ_n dX6_table_71 0 rfl ?_
            obtain ⟨x_32, hx, h⟩ := h
            refine wm_getQ hM8 rfl in_X6 (ci := 5) rfl (by decide) 1 (Nat.le_of_ble_eq_true rfl) hx (fun _ _ => rfl) q400 (fun _ _ h => h) dX6_table_72 ?_
            obtain ⟨a_34, ea_34, h⟩ := h
            subst ea_34
            obtain ⟨x_33, hx, h⟩ := h
            refine wm_getQN hM8 rfl in_X2 (ci := 2) rfl (by decide) 1 (Nat.le_of_ble_eq_true rfl) hx (fun _ _ => rfl) q262 (fun _ _ h => h) dX6_table_75 ?_
            obtain ⟨a_35, ea_35, h⟩ := h
            subst ea_35
            obtain ⟨hg, h⟩ := h
            refine wm_callV (n := 0) hM8 (tm_X3_size h) rfl hg rfl (lw_V q1139 q1140 q1141 q110 q1142) ⟨by decide, by decide, by decide +kernel⟩ rfl ⟨Nat.le_of_ble_eq_true rfl, Nat.le_of_ble_eq_true rfl⟩ rfl (by simp only [List.map_cons, List.map_nil, rf_cat, vI_cat, vL_cat, List.sum_cons, List.sum_nil]; decide) dX6_table_78 hB ?_
            clear h
            rintro _ _ ws ⟨rfl, y_36, rfl, h⟩ hM9
            refine ww_st1 ?_
            refine ww_iload_n dX6_table_81 2 rfl ?_
            refine ww_aloadQ_n dX6_table_82 3 rfl ?_
            refine wm_callI (n := 4) hM9 (tm_X9_init h) rfl q1145 q141 q1143 q1144 rfl ⟨by decide, by decide, by decide +kernel⟩ rfl ⟨Nat.le_of_ble_eq_true rfl, Nat.le_of_ble_eq_true rfl⟩ rfl (by simp only [List.map_cons, List.map_nil, rf_cat, vI_cat, vL_cat, List.sum_cons, List.sum_nil]; decide) dX6_table_83 hB ?_
            clear h
            rintro _ μ_38 ws ⟨rfl, h⟩ hM10
            refine ww_st0 ?_
            obtain ⟨a_39, ea_39, h⟩ := h
            subst ea_39
            obtain ⟨hg, h⟩ := h
            obtain ⟨c_40, s_41, b_42, h⟩ := h
            refine wm_callV (n := 1) hM10 (tm_X3_add h) rfl hg rfl (lw_V q1171 q1172 q1173 q110 q1174) ⟨by decide, by decide, by decide +kernel⟩ rfl ⟨Nat.le_of_ble_eq_true rfl, Nat.le_of_ble_eq_true rfl⟩ rfl (Nat.le_of_ble_eq_true rfl) dX6_table_86 b_42 ?_
            clear h
            rintro _ μ_43 ws ⟨rfl, h⟩ hM11
            have hB := b_42
            refine ww_st0 ?_
            refine wx_lift ?_
            exact ww_vret (ws, μ_43) rfl ⟨hM11, ⟨rfl, h⟩⟩ rfl hB.1 hB.2 dX6_table_89
          · replace h := h.2 (Int.not_le.mp c)
            refine ww_aloadQ_n dX6_table_35 3 rfl ?_
            refine ww_iload dX6_table_36 4 rfl ?_
            refine ww_aloadQ_n dX6_table_38 0 rfl ?_
            refine ww_iconst dX6_table_39 ?_
            refine ww_aloadQ_n dX6_table_40 0 rfl ?_
            obtain ⟨x_44, hx, h⟩ := h
            refine wm_getQ hM7 rfl in_X6 (ci := 5) rfl (by decide) 1 (Nat.le_of_ble_eq_true rfl) hx (fun _ _ => rfl) q400 (fun _ _ h => h) dX6_table_41 ?_
            obtain ⟨a_46, ea_46, h⟩ := h
            subst ea_46
            obtain ⟨x_45, hx, h⟩ := h
            refine wm_getIN hM7 rfl in_X2 (ci := 2) rfl (by decide) 0 (Nat.le_of_ble_eq_true rfl) hx (fun _ _ => rfl) q258 (fun _ _ h => h) dX6_table_44 ?_
            refine ww_iconst dX6_table_47 ?_
            refine ww_isub dX6_table_48 ?_
            obtain ⟨hg, h⟩ := h
            obtain ⟨c_47, s_48, b_49, h⟩ := h
            refine wm_callX (n := 2) hM7 (tm_X6_number h) rfl hg rfl (lw_V q781 q783 qs7 q118 q784) ⟨by decide, by decide, by decide +kernel⟩ rfl ⟨Nat.le_of_ble_eq_true rfl, Nat.le_of_ble_eq_true rfl⟩ rfl (by simp only [List.map_cons, List.map_nil, rf_cat, vI_cat, vL_cat, List.sum_cons, List.sum_nil]; decide) dX6_table_49 b_49 ?_ ?_
            · clear h
              intro q_53 E_54 μ_55 ws h hM12
              have hB := b_49
              exact wx_out (fun _ hz => nomatch hz) (ws, μ_55) ⟨hM12, h⟩ rfl hB.1 hB.2
            · clear h
              rintro _ μ_52 ws ⟨y_50, rfl, h⟩ hM13
              have hB := b_49
              refine ww_st1 ?_
              obtain ⟨n_56, f_57, hc, hi, h⟩ := h
              refine wm_iast hM13 rfl hc hi.1 hi.2.1 hi.2.2 dX6_table_52 (fun ws hM14 => ?_)
              refine ww_iinc (lv2 := [(4, vI (v4_28 + 1)), (0, va_rf (some b)), (1, va_rf y_7), (2, vI y_16), (3, va_rf (some q_22))]) dX6_table_53 4 rfl (Nat.le_of_ble_eq_true rfl) rfl ?_
              refine ww_goto (tgt := 28) dX6_table_56 (by decide) ?_
              refine ww_lv [1, 2, 3, 4, 0] rfl ?_
              obtain ⟨m, hm, h⟩ := h
              exact ih28 m hm _ _ _ _ h _ hM14 hB
      refine ww_lv [4, 3, 2, 1, 0] rfl ?_
      obtain ⟨m, h⟩ := h
      exact kI28 m _ _ _ _ h _ hM6 hB
/-! J23_init: java/lang/Record <init> ()V; flags (False, False, False), depth 1 -/
def wc_J23_init (ad : Nat → Nat) (μ : HM) (b : Nat) (P : Prop) : Prop :=
  P
set_option maxHeartbeats 4000000 in
theorem tm_J23_init {G : g_G} {l : Launch} {μ : HM} {b : Nat} {P : Prop} (h : wc_J23_init (g_ad G) μ b P) : CM G l yJ23_init cJ23_init 1 (Option.none : Option Jvm.ClassFile.FieldType) 1 0 0 [.ref b] μ (hN0 μ P) := by
  unfold wc_J23_init at h
  refine wm_of (lvs := [(0, va_rf (some b))]) (by decide) (Nat.le_of_ble_eq_true rfl) rfl (fun fr ws hM1 => ?_)
  show WW G l cJ23_init RJ23 1 (Option.none : Option Jvm.ClassFile.FieldType) "<init>" 1 0 0 (hMR G (hN0 μ P)) (fun u => [u.1, fr]) 0 0 [ws, fr] 0 [(0, va_rf (some b))] []
  refine ww_aloadQ_n dJ23_init_0 0 rfl ?_
  refine wm_objInit rfl q1456 q170 q171 (Nat.le_of_ble_eq_true rfl) (Nat.le_of_ble_eq_true rfl) dJ23_init_1 ?_
  exact ww_vret (ws, μ) rfl ⟨hM1, ⟨rfl, rfl, h⟩⟩ rfl (Nat.le_refl _) (Nat.le_refl _) dJ23_init_4
/-! X13_init: HoloNet$Wire <init> (IIII)V; flags (True, False, False), depth 2 -/
def wc_X13_init (ad : Nat → Nat) (μ : HM) (b : Nat) (a1 : Int) (a2 : Int) (a3 : Int) (a4 : Int) (P : HM → Prop) : Prop :=
  wc_J23_init ad μ b (
    ∃ (fi_1 : Nat → Int) (fq_2 : Nat → Option Nat), μ b = some (hO 10 fi_1 fq_2) ∧ 
    ∃ (fi_3 : Nat → Int) (fq_4 : Nat → Option Nat), (hs μ b (hO 10 (upF fi_1 0 a1) fq_2)) b = some (hO 10 fi_3 fq_4) ∧ 
    ∃ (fi_5 : Nat → Int) (fq_6 : Nat → Option Nat), (hs (hs μ b (hO 10 (upF fi_1 0 a1) fq_2)) b (hO 10 (upF fi_3 1 a2) fq_4)) b = some (hO 10 fi_5 fq_6) ∧ 
    ∃ (fi_7 : Nat → Int) (fq_8 : Nat → Option Nat), (hs (hs (hs μ b (hO 10 (upF fi_1 0 a1) fq_2)) b (hO 10 (upF fi_3 1 a2) fq_4)) b (hO 10 (upF fi_5 2 a3) fq_6)) b = some (hO 10 fi_7 fq_8) ∧ 
    P (hs (hs (hs (hs μ b (hO 10 (upF fi_1 0 a1) fq_2)) b (hO 10 (upF fi_3 1 a2) fq_4)) b (hO 10 (upF fi_5 2 a3) fq_6)) b (hO 10 (upF fi_7 3 a4) fq_8)))
set_option maxHeartbeats 4000000 in
theorem tm_X13_init {G : g_G} {l : Launch} {μ : HM} {b : Nat} {a1 : Int} {a2 : Int} {a3 : Int} {a4 : Int} {P : HM → Prop} (h : wc_X13_init (g_ad G) μ b a1 a2 a3 a4 P) : CM G l yX13_init cX13_init 5 (Option.none : Option Jvm.ClassFile.FieldType) 2 0 0 [.ref b, vI a1, vI a2, vI a3, vI a4] μ (hR0 P) := by
  unfold wc_X13_init at h
  refine wm_of (lvs := [(0, va_rf (some b)), (1, vI a1), (2, vI a2), (3, vI a3), (4, vI a4)]) (by decide) (Nat.le_of_ble_eq_true rfl) rfl (fun fr ws hM1 => ?_)
  show WW G l cX13_init RX13 5 (Option.none : Option Jvm.ClassFile.FieldType) "<init>" 2 0 0 (hMR G (hR0 P)) (fun u => [u.1, fr]) 0 0 [ws, fr] 0 [(0, va_rf (some b)), (1, vI a1), (2, vI a2), (3, vI a3), (4, vI a4)] []
  refine ww_aloadQ_n dX13_init_0 0 rfl ?_
  refine wm_callI (n := 0) hM1 (tm_J23_init h) rfl q1455 q146 q1453 q1454 rfl ⟨by decide, by decide, by decide +kernel⟩ rfl ⟨Nat.le_of_ble_eq_true rfl, Nat.le_of_ble_eq_true rfl⟩ rfl (Nat.le_of_ble_eq_true rfl) dX13_init_1 ⟨Nat.le_refl _, Nat.le_refl _⟩ ?_
  clear h
  rintro _ _ ws ⟨rfl, rfl, h⟩ hM2
  refine ww_st0 ?_
  refine ww_aloadQ_n dX13_init_4 0 rfl ?_
  refine ww_iload_n dX13_init_5 1 rfl ?_
  obtain ⟨fi_1, fq_2, hc, h⟩ := h
  refine wm_putIF hM2 rfl in_X13 tyX13_ok nmX13 (ci := 10) rfl 0 (Nat.le_of_ble_eq_true rfl) hc (fun _ _ => rfl) (fun _ _ => Nat.le_of_ble_eq_true rfl) q1457 (fun _ _ h => h) rfl rfl rfl rfl rfl dX13_init_6 (fun ws hM3 => ?_)
  refine ww_aloadQ_n dX13_init_9 0 rfl ?_
  refine ww_iload_n dX13_init_10 2 rfl ?_
  obtain ⟨fi_3, fq_4, hc, h⟩ := h
  refine wm_putIF hM3 rfl in_X13 tyX13_ok nmX13 (ci := 10) rfl 1 (Nat.le_of_ble_eq_true rfl) hc (fun _ _ => rfl) (fun _ _ => Nat.le_of_ble_eq_true rfl) q1458 (fun _ _ h => h) rfl rfl rfl rfl rfl dX13_init_11 (fun ws hM4 => ?_)
  refine ww_aloadQ_n dX13_init_14 0 rfl ?_
  refine ww_iload_n dX13_init_15 3 rfl ?_
  obtain ⟨fi_5, fq_6, hc, h⟩ := h
  refine wm_putIF hM4 rfl in_X13 tyX13_ok nmX13 (ci := 10) rfl 2 (Nat.le_of_ble_eq_true rfl) hc (fun _ _ => rfl) (fun _ _ => Nat.le_of_ble_eq_true rfl) q1459 (fun _ _ h => h) rfl rfl rfl rfl rfl dX13_init_16 (fun ws hM5 => ?_)
  refine ww_aloadQ_n dX13_init_19 0 rfl ?_
  refine ww_iload dX13_init_20 4 rfl ?_
  obtain ⟨fi_7, fq_8, hc, h⟩ := h
  refine wm_putIF hM5 rfl in_X13 tyX13_ok nmX13 (ci := 10) rfl 3 (Nat.le_of_ble_eq_true rfl) hc (fun _ _ => rfl) (fun _ _ => Nat.le_of_ble_eq_true rfl) q1460 (fun _ _ h => h) rfl rfl rfl rfl rfl dX13_init_22 (fun ws hM6 => ?_)
  exact ww_vret (ws, (hs (hs (hs (hs μ b (hO 10 (upF fi_1 0 a1) fq_2)) b (hO 10 (upF fi_3 1 a2) fq_4)) b (hO 10 (upF fi_5 2 a3) fq_6)) b (hO 10 (upF fi_7 3 a4) fq_8))) rfl ⟨hM6, ⟨rfl, h⟩⟩ rfl (Nat.le_refl _) (Nat.le_refl _) dX13_init_25
/-! X13_leg: HoloNet$Wire leg ()I; flags (False, False, False), depth 0 -/
def wc_X13_leg (ad : Nat → Nat) (μ : HM) (b : Nat) (P : Int → Prop) : Prop :=
  ∃ x_1 : Int, gI μ b 10 1 = some x_1 ∧
  P x_1
set_option maxHeartbeats 4000000 in
theorem tm_X13_leg {G : g_G} {l : Launch} {μ : HM} {b : Nat} {P : Int → Prop} (h : wc_X13_leg (g_ad G) μ b P) : CM G l yX13_leg cX13_leg 1 (Option.some Jvm.ClassFile.FieldType.int) 0 0 0 [.ref b] μ (hN1 μ P) := by
  unfold wc_X13_leg at h
  refine wm_of (lvs := [(0, va_rf (some b))]) (by decide) (Nat.le_of_ble_eq_true rfl) rfl (fun fr ws hM1 => ?_)
  show WW G l cX13_leg RX13 1 (Option.some Jvm.ClassFile.FieldType.int) "leg" 0 0 0 (hMR G (hN1 μ P)) (fun u => [u.1, fr]) 0 0 [ws, fr] 0 [(0, va_rf (some b))] []
  refine ww_aloadQ_n dX13_leg_0 0 rfl ?_
  obtain ⟨x_1, hx, h⟩ := h
  refine wm_getI hM1 rfl in_X13 (ci := 10) rfl (by decide) 1 (Nat.le_of_ble_eq_true rfl) hx (fun _ _ => rfl) q1458 (fun _ _ h => h) dX13_leg_1 ?_
  exact ww_iret (ws, μ) rfl ⟨hM1, ⟨rfl, _, rfl, h⟩⟩ rfl (Nat.le_refl _) (Nat.le_refl _) dX13_leg_4
/-! X13_node: HoloNet$Wire node ()I; flags (False, False, False), depth 0 -/
def wc_X13_node (ad : Nat → Nat) (μ : HM) (b : Nat) (P : Int → Prop) : Prop :=
  ∃ x_1 : Int, gI μ b 10 0 = some x_1 ∧
  P x_1
set_option maxHeartbeats 4000000 in
theorem tm_X13_node {G : g_G} {l : Launch} {μ : HM} {b : Nat} {P : Int → Prop} (h : wc_X13_node (g_ad G) μ b P) : CM G l yX13_node cX13_node 1 (Option.some Jvm.ClassFile.FieldType.int) 0 0 0 [.ref b] μ (hN1 μ P) := by
  unfold wc_X13_node at h
  refine wm_of (lvs := [(0, va_rf (some b))]) (by decide) (Nat.le_of_ble_eq_true rfl) rfl (fun fr ws hM1 => ?_)
  show WW G l cX13_node RX13 1 (Option.some Jvm.ClassFile.FieldType.int) "node" 0 0 0 (hMR G (hN1 μ P)) (fun u => [u.1, fr]) 0 0 [ws, fr] 0 [(0, va_rf (some b))] []
  refine ww_aloadQ_n dX13_node_0 0 rfl ?_
  obtain ⟨x_1, hx, h⟩ := h
  refine wm_getI hM1 rfl in_X13 (ci := 10) rfl (by decide) 0 (Nat.le_of_ble_eq_true rfl) hx (fun _ _ => rfl) q1457 (fun _ _ h => h) dX13_node_1 ?_
  exact ww_iret (ws, μ) rfl ⟨hM1, ⟨rfl, _, rfl, h⟩⟩ rfl (Nat.le_refl _) (Nat.le_refl _) dX13_node_4
/-! X13_other: HoloNet$Wire other ()I; flags (False, False, False), depth 0 -/
def wc_X13_other (ad : Nat → Nat) (μ : HM) (b : Nat) (P : Int → Prop) : Prop :=
  ∃ x_1 : Int, gI μ b 10 2 = some x_1 ∧
  P x_1
set_option maxHeartbeats 4000000 in
theorem tm_X13_other {G : g_G} {l : Launch} {μ : HM} {b : Nat} {P : Int → Prop} (h : wc_X13_other (g_ad G) μ b P) : CM G l yX13_other cX13_other 1 (Option.some Jvm.ClassFile.FieldType.int) 0 0 0 [.ref b] μ (hN1 μ P) := by
  unfold wc_X13_other at h
  refine wm_of (lvs := [(0, va_rf (some b))]) (by decide) (Nat.le_of_ble_eq_true rfl) rfl (fun fr ws hM1 => ?_)
  show WW G l cX13_other RX13 1 (Option.some Jvm.ClassFile.FieldType.int) "other" 0 0 0 (hMR G (hN1 μ P)) (fun u => [u.1, fr]) 0 0 [ws, fr] 0 [(0, va_rf (some b))] []
  refine ww_aloadQ_n dX13_other_0 0 rfl ?_
  obtain ⟨x_1, hx, h⟩ := h
  refine wm_getI hM1 rfl in_X13 (ci := 10) rfl (by decide) 2 (Nat.le_of_ble_eq_true rfl) hx (fun _ _ => rfl) q1459 (fun _ _ h => h) dX13_other_1 ?_
  exact ww_iret (ws, μ) rfl ⟨hM1, ⟨rfl, _, rfl, h⟩⟩ rfl (Nat.le_refl _) (Nat.le_refl _) dX13_other_4
/-! X13_otherLeg: HoloNet$Wire otherLeg ()I; flags (False, False, False), depth 0 -/
def wc_X13_otherLeg (ad : Nat → Nat) (μ : HM) (b : Nat) (P : Int → Prop) : Prop :=
  ∃ x_1 : Int, gI μ b 10 3 = some x_1 ∧
  P x_1
set_option maxHeartbeats 4000000 in
theorem tm_X13_otherLeg {G : g_G} {l : Launch} {μ : HM} {b : Nat} {P : Int → Prop} (h : wc_X13_otherLeg (g_ad G) μ b P) : CM G l yX13_otherLeg cX13_otherLeg 1 (Option.some Jvm.ClassFile.FieldType.int) 0 0 0 [.ref b] μ (hN1 μ P) := by
  unfold wc_X13_otherLeg at h
  refine wm_of (lvs := [(0, va_rf (some b))]) (by decide) (Nat.le_of_ble_eq_true rfl) rfl (fun fr ws hM1 => ?_)
  show WW G l cX13_otherLeg RX13 1 (Option.some Jvm.ClassFile.FieldType.int) "otherLeg" 0 0 0 (hMR G (hN1 μ P)) (fun u => [u.1, fr]) 0 0 [ws, fr] 0 [(0, va_rf (some b))] []
  refine ww_aloadQ_n dX13_otherLeg_0 0 rfl ?_
  obtain ⟨x_1, hx, h⟩ := h
  refine wm_getI hM1 rfl in_X13 (ci := 10) rfl (by decide) 3 (Nat.le_of_ble_eq_true rfl) hx (fun _ _ => rfl) q1460 (fun _ _ h => h) dX13_otherLeg_1 ?_
  exact ww_iret (ws, μ) rfl ⟨hM1, ⟨rfl, _, rfl, h⟩⟩ rfl (Nat.le_refl _) (Nat.le_refl _) dX13_otherLeg_4
/-! X4_changes: HoloNet$State changes (LHoloNet$Wire;)V; flags (True, False, False), depth 1 -/
def wc_X4_changes (ad : Nat → Nat) (μ : HM) (b : Nat) (o1 : Option Nat) (P : HM → Prop) : Prop :=
  ∃ x_1 : Option Nat, gQ μ b 4 2 = some x_1 ∧
  ∃ a_2 : Nat, o1 = some a_2 ∧
  gC μ a_2 = some 10 ∧
  wc_X13_node ad μ a_2 (fun y_3 =>
    ∃ a_5 : Nat, x_1 = some a_5 ∧
    ∃ x_6 : Int, gA μ a_5 0 y_3 = some x_6 ∧
    gC μ a_2 = some 10 ∧
    wc_X13_leg ad μ a_2 (fun y_7 =>
      ∃ (n_9 : Nat) (f_10 : Int → Int), μ a_5 = some (hA 0 n_9 f_10) ∧ ((0 : Int) ≤ y_3 ∧ y_3 < (n_9 : Int) ∧ (n_9 : Int) < 2147483648) ∧ 
      ∃ x_11 : Option Nat, gQ (hs μ a_5 (hA 0 n_9 (updI f_10 y_3 (bX x_6 (bL 1 y_7))))) b 4 2 = some x_11 ∧
      gC (hs μ a_5 (hA 0 n_9 (updI f_10 y_3 (bX x_6 (bL 1 y_7))))) a_2 = some 10 ∧
      wc_X13_other ad (hs μ a_5 (hA 0 n_9 (updI f_10 y_3 (bX x_6 (bL 1 y_7))))) a_2 (fun y_12 =>
        ∃ a_14 : Nat, x_11 = some a_14 ∧
        ∃ x_15 : Int, gA (hs μ a_5 (hA 0 n_9 (updI f_10 y_3 (bX x_6 (bL 1 y_7))))) a_14 0 y_12 = some x_15 ∧
        gC (hs μ a_5 (hA 0 n_9 (updI f_10 y_3 (bX x_6 (bL 1 y_7))))) a_2 = some 10 ∧
        wc_X13_otherLeg ad (hs μ a_5 (hA 0 n_9 (updI f_10 y_3 (bX x_6 (bL 1 y_7))))) a_2 (fun y_16 =>
          ∃ (n_18 : Nat) (f_19 : Int → Int), (hs μ a_5 (hA 0 n_9 (updI f_10 y_3 (bX x_6 (bL 1 y_7))))) a_14 = some (hA 0 n_18 f_19) ∧ ((0 : Int) ≤ y_12 ∧ y_12 < (n_18 : Int) ∧ (n_18 : Int) < 2147483648) ∧ 
          P (hs (hs μ a_5 (hA 0 n_9 (updI f_10 y_3 (bX x_6 (bL 1 y_7))))) a_14 (hA 0 n_18 (updI f_19 y_12 (bX x_15 (bL 1 y_16)))))))))
set_option maxHeartbeats 4000000 in
theorem tm_X4_changes {G : g_G} {l : Launch} {μ : HM} {b : Nat} {o1 : Option Nat} {P : HM → Prop} (h : wc_X4_changes (g_ad G) μ b o1 P) : CM G l yX4_changes cX4_changes 2 (Option.none : Option Jvm.ClassFile.FieldType) 1 0 0 [.ref b, va_rf o1] μ (hR0 P) := by
  unfold wc_X4_changes at h
  refine wm_of (lvs := [(0, va_rf (some b)), (1, va_rf o1)]) (by decide) (by simp [lg_sl, rf_cat, vI_cat, vL_cat, ref_cat]) (by simp [lv_args, rf_cat, vI_cat, vL_cat, ref_cat, rf_some]) (fun fr ws hM1 => ?_)
  show WW G l cX4_changes RX4 2 (Option.none : Option Jvm.ClassFile.FieldType) "changes" 1 0 0 (hMR G (hR0 P)) (fun u => [u.1, fr]) 0 0 [ws, fr] 0 [(0, va_rf (some b)), (1, va_rf o1)] []
  refine ww_aloadQ_n dX4_changes_0 0 rfl ?_
  obtain ⟨x_1, hx, h⟩ := h
  refine wm_getQ hM1 rfl in_X4 (ci := 4) rfl (by decide) 2 (Nat.le_of_ble_eq_true rfl) hx (fun _ _ => rfl) q302 (fun _ _ h => h) dX4_changes_1 ?_
  refine ww_aloadQ_n dX4_changes_4 1 rfl ?_
  obtain ⟨a_2, ea_2, h⟩ := h
  subst ea_2
  obtain ⟨hg, h⟩ := h
  refine wm_callV (n := 0) hM1 (tm_X13_node h) rfl hg rfl (lw_V q1479 q1480 q1481 q147 q1482) ⟨by decide, by decide, by decide +kernel⟩ rfl ⟨Nat.le_of_ble_eq_true rfl, Nat.le_of_ble_eq_true rfl⟩ rfl (by simp only [List.map_cons, List.map_nil, rf_cat, vI_cat, vL_cat, List.sum_cons, List.sum_nil]; decide) dX4_changes_5 ⟨Nat.le_refl _, Nat.le_refl _⟩ ?_
  clear h
  rintro _ _ ws ⟨rfl, y_3, rfl, h⟩ hM2
  refine ww_st1 ?_
  refine ww_dup2 dX4_changes_8 rfl (rf_cat _) ?_
  obtain ⟨a_5, ea_5, h⟩ := h
  subst ea_5
  obtain ⟨x_6, hx, h⟩ := h
  refine wm_iald hM2 rfl hx dX4_changes_9 ?_
  refine ww_iconst dX4_changes_10 ?_
  refine ww_aloadQ_n dX4_changes_11 1 rfl ?_
  obtain ⟨hg, h⟩ := h
  refine wm_callV (n := 0) hM2 (tm_X13_leg h) rfl hg rfl (lw_V q1483 q1484 q1485 q147 q1486) ⟨by decide, by decide, by decide +kernel⟩ rfl ⟨Nat.le_of_ble_eq_true rfl, Nat.le_of_ble_eq_true rfl⟩ rfl (by simp only [List.map_cons, List.map_nil, rf_cat, vI_cat, vL_cat, List.sum_cons, List.sum_nil]; decide) dX4_changes_12 ⟨Nat.le_refl _, Nat.le_refl _⟩ ?_
  clear h
  rintro _ _ ws ⟨rfl, y_7, rfl, h⟩ hM3
  refine ww_st1 ?_
  refine ww_ishl dX4_changes_15 ?_
  refine ww_ixor dX4_changes_16 ?_
  obtain ⟨n_9, f_10, hc, hi, h⟩ := h
  refine wm_iast hM3 rfl hc hi.1 hi.2.1 hi.2.2 dX4_changes_17 (fun ws hM4 => ?_)
  refine ww_aloadQ_n dX4_changes_18 0 rfl ?_
  obtain ⟨x_11, hx, h⟩ := h
  refine wm_getQ hM4 rfl in_X4 (ci := 4) rfl (by decide) 2 (Nat.le_of_ble_eq_true rfl) hx (fun _ _ => rfl) q302 (fun _ _ h => h) dX4_changes_19 ?_
  refine ww_aloadQ_n dX4_changes_22 1 rfl ?_
  obtain ⟨hg, h⟩ := h
  refine wm_callV (n := 0) hM4 (tm_X13_other h) rfl hg rfl (lw_V q1487 q1488 q1489 q147 q1490) ⟨by decide, by decide, by decide +kernel⟩ rfl ⟨Nat.le_of_ble_eq_true rfl, Nat.le_of_ble_eq_true rfl⟩ rfl (by simp only [List.map_cons, List.map_nil, rf_cat, vI_cat, vL_cat, List.sum_cons, List.sum_nil]; decide) dX4_changes_23 ⟨Nat.le_refl _, Nat.le_refl _⟩ ?_
  clear h
  rintro _ _ ws ⟨rfl, y_12, rfl, h⟩ hM5
  refine ww_st1 ?_
  refine ww_dup2 dX4_changes_26 rfl (rf_cat _) ?_
  obtain ⟨a_14, ea_14, h⟩ := h
  subst ea_14
  obtain ⟨x_15, hx, h⟩ := h
  refine wm_iald hM5 rfl hx dX4_changes_27 ?_
  refine ww_iconst dX4_changes_28 ?_
  refine ww_aloadQ_n dX4_changes_29 1 rfl ?_
  obtain ⟨hg, h⟩ := h
  refine wm_callV (n := 0) hM5 (tm_X13_otherLeg h) rfl hg rfl (lw_V q1491 q1492 q1493 q147 q1494) ⟨by decide, by decide, by decide +kernel⟩ rfl ⟨Nat.le_of_ble_eq_true rfl, Nat.le_of_ble_eq_true rfl⟩ rfl (by simp only [List.map_cons, List.map_nil, rf_cat, vI_cat, vL_cat, List.sum_cons, List.sum_nil]; decide) dX4_changes_30 ⟨Nat.le_refl _, Nat.le_refl _⟩ ?_
  clear h
  rintro _ _ ws ⟨rfl, y_16, rfl, h⟩ hM6
  refine ww_st1 ?_
  refine ww_ishl dX4_changes_33 ?_
  refine ww_ixor dX4_changes_34 ?_
  obtain ⟨n_18, f_19, hc, hi, h⟩ := h
  refine wm_iast hM6 rfl hc hi.1 hi.2.1 hi.2.2 dX4_changes_35 (fun ws hM7 => ?_)
  exact ww_vret (ws, (hs (hs μ a_5 (hA 0 n_9 (updI f_10 y_3 (bX x_6 (bL 1 y_7))))) a_14 (hA 0 n_18 (updI f_19 y_12 (bX x_15 (bL 1 y_16)))))) rfl ⟨hM7, ⟨rfl, h⟩⟩ rfl (Nat.le_refl _) (Nat.le_refl _) dX4_changes_36
