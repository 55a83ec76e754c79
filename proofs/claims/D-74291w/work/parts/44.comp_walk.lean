/-! THE COMPONENT and what it calls: weakest preconditions and walks (printed by tools/comp.py) -/
set_option maxRecDepth 100000
/-! X1_at: HoloNet at (I)LHoloNet$Table;; flags (False, False, False), depth 4 -/
def wc_X1_at (ad : Nat → Nat) (μ : HM) (b : Nat) (a1 : Int) (P : Option Nat → Prop) : Prop :=
  ∃ x_1 : Option Nat, gQ μ b 1 2 = some x_1 ∧
  ∃ a_3 : Nat, x_1 = some a_3 ∧
  ∃ x_2 : Option Nat, gQ μ a_3 2 1 = some x_2 ∧
  ∃ a_4 : Nat, x_2 = some a_4 ∧
  gC μ a_4 = some 3 ∧
  wc_X3_get ad μ a_4 a1 (fun y_5 =>
    (∀ z : Nat, y_5 = some z → ∃ ci, gC μ z = some ci ∧ (ci = 7)) ∧
    P y_5)
set_option maxHeartbeats 4000000 in
theorem tm_X1_at {G : g_G} {l : Launch} {μ : HM} {b : Nat} {a1 : Int} {P : Option Nat → Prop} (h : wc_X1_at (g_ad G) μ b a1 P) : CM G l yX1_at cX1_at 2 (Option.some (Jvm.ClassFile.FieldType.object "HoloNet$Table")) 4 0 0 [.ref b, vI a1] μ (hN4 μ P) := by
  unfold wc_X1_at at h
  refine wm_of (lvs := [(0, va_rf (some b)), (1, vI a1)]) (by decide) (Nat.le_of_ble_eq_true rfl) rfl (fun fr ws hM1 => ?_)
  show WW G l cX1_at RX1 2 (Option.some (Jvm.ClassFile.FieldType.object "HoloNet$Table")) "at" 4 0 0 (hMR G (hN4 μ P)) (fun u => [u.1, fr]) 0 0 [ws, fr] 0 [(0, va_rf (some b)), (1, vI a1)] []
  refine ww_aloadQ_n dX1_at_0 0 rfl ?_
  obtain ⟨x_1, hx, h⟩ := h
  refine wm_getQ hM1 rfl in_X1 (ci := 1) rfl (by decide) 2 (Nat.le_of_ble_eq_true rfl) hx (fun _ _ => rfl) q319 (fun _ _ h => h) dX1_at_1 ?_
  obtain ⟨a_3, ea_3, h⟩ := h
  subst ea_3
  obtain ⟨x_2, hx, h⟩ := h
  refine wm_getQN hM1 rfl in_X2 (ci := 2) rfl (by decide) 1 (Nat.le_of_ble_eq_true rfl) hx (fun _ _ => rfl) q261 (fun _ _ h => h) dX1_at_4 ?_
  refine ww_iload_n dX1_at_7 1 rfl ?_
  obtain ⟨a_4, ea_4, h⟩ := h
  subst ea_4
  obtain ⟨hg, h⟩ := h
  refine wm_callV (n := 1) hM1 (tm_X3_get h) rfl hg rfl (lw_V q1516 q1405 q1406 q110 q1407) ⟨by decide, by decide, by decide +kernel⟩ rfl ⟨Nat.le_of_ble_eq_true rfl, Nat.le_of_ble_eq_true rfl⟩ rfl (Nat.le_of_ble_eq_true rfl) dX1_at_8 ⟨Nat.le_refl _, Nat.le_refl _⟩ ?_
  clear h
  rintro _ _ ws ⟨rfl, y_5, rfl, h⟩ hM2
  refine ww_st1 ?_
  obtain ⟨hc, h⟩ := h
  refine wm_cast hM2 hc cast_4 q1517 dX1_at_11 ?_
  exact ww_aret (ws, μ) rfl (by first | exact Or.inl ⟨_, rfl⟩ | exact Or.inr ⟨_, rfl⟩) (rf_or _) ⟨hM2, ⟨rfl, _, rfl, h⟩⟩ rfl (Nat.le_refl _) (Nat.le_refl _) dX1_at_14
/-! X3_isPlace: HoloNet$Shelf isPlace (LHoloNet$Shelf;I)Z; flags (False, False, False), depth 2 -/
def wc_X3_isPlace (ad : Nat → Nat) (μ : HM) (o1 : Option Nat) (a2 : Int) (P : Int → Prop) : Prop :=
  rI a2 ∧
  ∃ a_2 : Nat, o1 = some a_2 ∧
  gC μ a_2 = some 3 ∧
  wc_X3_size ad μ a_2 (fun y_3 =>
    rI (y_3 - 1) ∧
    wc_X1_within ad μ a2 0 (y_3 - 1) (fun y_6 =>
      (y_6 = 0 ∨ y_6 = 1) ∧ P y_6))
set_option maxHeartbeats 4000000 in
theorem tm_X3_isPlace {G : g_G} {l : Launch} {μ : HM} {o1 : Option Nat} {a2 : Int} {P : Int → Prop} (h : wc_X3_isPlace (g_ad G) μ o1 a2 P) : CM G l yX3_isPlace cX3_isPlace 2 (Option.some Jvm.ClassFile.FieldType.boolean) 2 0 0 [va_rf o1, vI a2] μ (hN2 μ P) := by
  unfold wc_X3_isPlace at h
  refine wm_of (lvs := [(0, va_rf o1), (1, vI a2)]) (by decide) (by simp [lg_sl, rf_cat, vI_cat, vL_cat, ref_cat]) (by simp [lv_args, rf_cat, vI_cat, vL_cat, ref_cat, rf_some]) (fun fr ws hM1 => ?_)
  show WW G l cX3_isPlace RX3 2 (Option.some Jvm.ClassFile.FieldType.boolean) "isPlace" 2 0 0 (hMR G (hN2 μ P)) (fun u => [u.1, fr]) 0 0 [ws, fr] 0 [(0, va_rf o1), (1, vI a2)] []
  refine ww_iload_n dX3_isPlace_0 1 rfl ?_
  obtain ⟨r_1, h⟩ := h
  refine ww_i2l dX3_isPlace_1 r_1 ?_
  refine ww_lconst (v := 0) dX3_isPlace_2 rfl ?_
  refine ww_aloadQ_n dX3_isPlace_3 0 rfl ?_
  obtain ⟨a_2, ea_2, h⟩ := h
  subst ea_2
  obtain ⟨hg, h⟩ := h
  refine wm_callV (n := 0) hM1 (tm_X3_size h) rfl hg rfl (lw_V q1510 q1140 q1141 q110 q1142) ⟨by decide, by decide, by decide +kernel⟩ rfl ⟨Nat.le_of_ble_eq_true rfl, Nat.le_of_ble_eq_true rfl⟩ rfl (Nat.le_of_ble_eq_true rfl) dX3_isPlace_4 ⟨Nat.le_refl _, Nat.le_refl _⟩ ?_
  clear h
  rintro _ _ ws ⟨rfl, y_3, rfl, h⟩ hM2
  refine ww_st1 ?_
  refine ww_iconst dX3_isPlace_7 ?_
  refine ww_isub dX3_isPlace_8 ?_
  obtain ⟨r_5, h⟩ := h
  refine ww_i2l dX3_isPlace_9 r_5 ?_
  refine wm_callSN (n := 3) hM2 (tm_X1_within h) q1511 q355 q108 q354 ⟨by decide, by decide, by decide +kernel⟩ rfl ⟨Nat.le_of_ble_eq_true rfl, Nat.le_of_ble_eq_true rfl⟩ rfl (Nat.le_of_ble_eq_true rfl) dX3_isPlace_10 ⟨Nat.le_refl _, Nat.le_refl _⟩ ?_
  clear h
  rintro _ _ ws ⟨rfl, y_6, rfl, z_7, h⟩ hM3
  refine ww_st1 ?_
  obtain ⟨hz, h⟩ := h
  exact ww_zret (ws, μ) rfl hz ⟨hM3, ⟨rfl, _, rfl, hz, h⟩⟩ rfl (Nat.le_refl _) (Nat.le_refl _) dX3_isPlace_13
/-! X1_isTable: HoloNet isTable (I)Z; flags (False, False, False), depth 3 -/
def wc_X1_isTable (ad : Nat → Nat) (μ : HM) (b : Nat) (a1 : Int) (P : Int → Prop) : Prop :=
  ∃ x_1 : Option Nat, gQ μ b 1 2 = some x_1 ∧
  ∃ a_3 : Nat, x_1 = some a_3 ∧
  ∃ x_2 : Option Nat, gQ μ a_3 2 1 = some x_2 ∧
  wc_X3_isPlace ad μ x_2 a1 (fun y_4 =>
    (y_4 = 0 ∨ y_4 = 1) ∧ P y_4)
set_option maxHeartbeats 4000000 in
theorem tm_X1_isTable {G : g_G} {l : Launch} {μ : HM} {b : Nat} {a1 : Int} {P : Int → Prop} (h : wc_X1_isTable (g_ad G) μ b a1 P) : CM G l yX1_isTable cX1_isTable 2 (Option.some Jvm.ClassFile.FieldType.boolean) 3 0 0 [.ref b, vI a1] μ (hN2 μ P) := by
  unfold wc_X1_isTable at h
  refine wm_of (lvs := [(0, va_rf (some b)), (1, vI a1)]) (by decide) (Nat.le_of_ble_eq_true rfl) rfl (fun fr ws hM1 => ?_)
  show WW G l cX1_isTable RX1 2 (Option.some Jvm.ClassFile.FieldType.boolean) "isTable" 3 0 0 (hMR G (hN2 μ P)) (fun u => [u.1, fr]) 0 0 [ws, fr] 0 [(0, va_rf (some b)), (1, vI a1)] []
  refine ww_aloadQ_n dX1_isTable_0 0 rfl ?_
  obtain ⟨x_1, hx, h⟩ := h
  refine wm_getQ hM1 rfl in_X1 (ci := 1) rfl (by decide) 2 (Nat.le_of_ble_eq_true rfl) hx (fun _ _ => rfl) q319 (fun _ _ h => h) dX1_isTable_1 ?_
  obtain ⟨a_3, ea_3, h⟩ := h
  subst ea_3
  obtain ⟨x_2, hx, h⟩ := h
  refine wm_getQN hM1 rfl in_X2 (ci := 2) rfl (by decide) 1 (Nat.le_of_ble_eq_true rfl) hx (fun _ _ => rfl) q261 (fun _ _ h => h) dX1_isTable_4 ?_
  refine ww_iload_n dX1_isTable_7 1 rfl ?_
  refine wm_callS (n := 2) hM1 (tm_X3_isPlace h) (lw_S q1507 q1508 q110 q1509) ⟨by decide, by decide, by decide +kernel⟩ rfl ⟨Nat.le_of_ble_eq_true rfl, Nat.le_of_ble_eq_true rfl⟩ rfl (Nat.le_of_ble_eq_true rfl) dX1_isTable_8 ⟨Nat.le_refl _, Nat.le_refl _⟩ ?_
  clear h
  rintro _ _ ws ⟨rfl, y_4, rfl, z_5, h⟩ hM2
  refine ww_st1 ?_
  obtain ⟨hz, h⟩ := h
  exact ww_zret (ws, μ) rfl hz ⟨hM2, ⟨rfl, _, rfl, hz, h⟩⟩ rfl (Nat.le_refl _) (Nat.le_refl _) dX1_isTable_11
/-! X1_table: HoloNet table (II)I; flags (False, False, False), depth 5 -/
def wc_X1_table (ad : Nat → Nat) (μ : HM) (b : Nat) (a1 : Int) (a2 : Int) (P : Int → Prop) : Prop :=
  gC μ b = some 1 ∧
  wc_X1_isTable ad μ b a1 (fun y_1 =>
    ((¬ y_1 = 0 →
      gC μ b = some 1 ∧
      wc_X1_at ad μ b a1 (fun y_3 =>
        rI a2 ∧
        ((¬ a2 = (-1) →
          rI a2 ∧
          ∃ a_8 : Nat, y_3 = some a_8 ∧
          ∃ x_7 : Option Nat, gQ μ a_8 7 3 = some x_7 ∧
          ∃ a_9 : Nat, x_7 = some a_9 ∧
          ∃ n_10 : Nat, gL μ a_9 = some n_10 ∧
          rI ((n_10 : Int) - 1) ∧
          wc_X1_within ad μ a2 0 ((n_10 : Int) - 1) (fun y_12 =>
            ((y_12 = 0 →
              P (-2)) ∧
            (¬ y_12 = 0 →
              ∃ x_14 : Option Nat, gQ μ a_8 7 3 = some x_14 ∧
              ∃ a_15 : Nat, x_14 = some a_15 ∧
              ∃ x_16 : Int, gA μ a_15 0 a2 = some x_16 ∧
              P x_16)))) ∧
        (a2 = (-1) →
          ∃ a_18 : Nat, y_3 = some a_18 ∧
          ∃ x_17 : Int, gI μ a_18 7 2 = some x_17 ∧
          P x_17)))) ∧
    (y_1 = 0 →
      P (-2))))
set_option maxHeartbeats 4000000 in
theorem tm_X1_table {G : g_G} {l : Launch} {μ : HM} {b : Nat} {a1 : Int} {a2 : Int} {P : Int → Prop} (h : wc_X1_table (g_ad G) μ b a1 a2 P) : CM G l yX1_table cX1_table 4 (Option.some Jvm.ClassFile.FieldType.int) 5 0 0 [.ref b, vI a1, vI a2] μ (hN1 μ P) := by
  unfold wc_X1_table at h
  refine wm_of (lvs := [(0, va_rf (some b)), (1, vI a1), (2, vI a2)]) (by decide) (Nat.le_of_ble_eq_true rfl) rfl (fun fr ws hM1 => ?_)
  show WW G l cX1_table RX1 4 (Option.some Jvm.ClassFile.FieldType.int) "table" 5 0 0 (hMR G (hN1 μ P)) (fun u => [u.1, fr]) 0 0 [ws, fr] 0 [(0, va_rf (some b)), (1, vI a1), (2, vI a2)] []
  refine ww_aloadQ_n dX1_table_0 0 rfl ?_
  refine ww_iload_n dX1_table_1 1 rfl ?_
  obtain ⟨hg, h⟩ := h
  refine wm_callV (n := 1) hM1 (tm_X1_isTable h) rfl hg rfl (lw_V q1503 q1505 qs29 q108 q1506) ⟨by decide, by decide, by decide +kernel⟩ rfl ⟨Nat.le_of_ble_eq_true rfl, Nat.le_of_ble_eq_true rfl⟩ rfl (Nat.le_of_ble_eq_true rfl) dX1_table_2 ⟨Nat.le_refl _, Nat.le_refl _⟩ ?_
  clear h
  rintro _ _ ws ⟨rfl, y_1, rfl, z_2, h⟩ hM2
  refine ww_st1 ?_
  refine ww_if_ne (tgt := 11) dX1_table_5 (by decide) (r_z z_2) (fun c => ?_) (fun c => ?_)
  · replace h := h.1 c
    refine ww_aloadQ_n dX1_table_11 0 rfl ?_
    refine ww_iload_n dX1_table_12 1 rfl ?_
    obtain ⟨hg, h⟩ := h
    refine wm_callV (n := 1) hM2 (tm_X1_at h) rfl hg rfl (lw_V q1512 q1514 qs30 q108 q1515) ⟨by decide, by decide, by decide +kernel⟩ rfl ⟨Nat.le_of_ble_eq_true rfl, Nat.le_of_ble_eq_true rfl⟩ rfl (Nat.le_of_ble_eq_true rfl) dX1_table_13 ⟨Nat.le_refl _, Nat.le_refl _⟩ ?_
    clear h
    rintro _ _ ws ⟨rfl, y_3, rfl, h⟩ hM3
    refine ww_st1 ?_
    refine ww_astoreQ_n (i := 3) (lv2 := [(3, va_rf y_3), (0, va_rf (some b)), (1, vI a1), (2, vI a2)]) dX1_table_16 rfl (Nat.le_of_ble_eq_true rfl) rfl ?_
    refine ww_iload_n dX1_table_17 3 rfl ?_
    refine ww_iconst dX1_table_18 ?_
    obtain ⟨r_5, h⟩ := h
    refine ww_icmp_ne (tgt := 29) dX1_table_19 (by decide) r_5 (by decide) (fun c => ?_) (fun c => ?_)
    · replace h := h.1 c
      refine ww_iload_n dX1_table_29 3 rfl ?_
      obtain ⟨r_6, h⟩ := h
      refine ww_i2l dX1_table_30 r_6 ?_
      refine ww_lconst (v := 0) dX1_table_31 rfl ?_
      refine ww_aloadQ_n dX1_table_32 0 rfl ?_
      obtain ⟨a_8, ea_8, h⟩ := h
      subst ea_8
      obtain ⟨x_7, hx, h⟩ := h
      refine wm_getQN hM3 rfl in_X9 (ci := 7) rfl (by decide) 3 (Nat.le_of_ble_eq_true rfl) hx (fun _ _ => rfl) q1156 (fun _ _ h => h) dX1_table_33 ?_
      obtain ⟨a_9, ea_9, h⟩ := h
      subst ea_9
      obtain ⟨n_10, hn, h⟩ := h
      refine wm_alen hM3 rfl hn dX1_table_36 ?_
      refine ww_iconst dX1_table_37 ?_
      refine ww_isub dX1_table_38 ?_
      obtain ⟨r_11, h⟩ := h
      refine ww_i2l dX1_table_39 r_11 ?_
      refine wm_callS (n := 3) hM3 (tm_X1_within h) (lw_S q353 q354 q108 q355) ⟨by decide, by decide, by decide +kernel⟩ rfl ⟨Nat.le_of_ble_eq_true rfl, Nat.le_of_ble_eq_true rfl⟩ rfl (Nat.le_of_ble_eq_true rfl) dX1_table_40 ⟨Nat.le_refl _, Nat.le_refl _⟩ ?_
      clear h
      rintro _ _ ws ⟨rfl, y_12, rfl, z_13, h⟩ hM4
      refine ww_st1 ?_
      refine ww_if_eq (tgt := 55) dX1_table_43 (by decide) (r_z z_13) (fun c => ?_) (fun c => ?_)
      · replace h := h.1 c
        refine ww_bipush (v := (-2)) dX1_table_55 rfl ?_
        exact ww_iret (ws, μ) rfl ⟨hM4, ⟨rfl, _, rfl, h⟩⟩ rfl (Nat.le_refl _) (Nat.le_refl _) dX1_table_57
      · replace h := h.2 c
        refine ww_aloadQ_n dX1_table_46 0 rfl ?_
        obtain ⟨x_14, hx, h⟩ := h
        refine wm_getQN hM4 rfl in_X9 (ci := 7) rfl (by decide) 3 (Nat.le_of_ble_eq_true rfl) hx (fun _ _ => rfl) q1156 (fun _ _ h => h) dX1_table_47 ?_
        refine ww_iload_n dX1_table_50 3 rfl ?_
        obtain ⟨a_15, ea_15, h⟩ := h
        subst ea_15
        obtain ⟨x_16, hx, h⟩ := h
        refine wm_iald hM4 rfl hx dX1_table_51 ?_
        refine ww_goto (tgt := 57) dX1_table_52 (by decide) ?_
        exact ww_iret (ws, μ) rfl ⟨hM4, ⟨rfl, _, rfl, h⟩⟩ rfl (Nat.le_refl _) (Nat.le_refl _) dX1_table_57
    · replace h := h.2 c
      refine ww_aloadQ_n dX1_table_22 0 rfl ?_
      obtain ⟨a_18, ea_18, h⟩ := h
      subst ea_18
      obtain ⟨x_17, hx, h⟩ := h
      refine wm_getIN hM3 rfl in_X9 (ci := 7) rfl (by decide) 2 (Nat.le_of_ble_eq_true rfl) hx (fun _ _ => rfl) q1152 (fun _ _ h => h) dX1_table_23 ?_
      refine ww_goto (tgt := 57) dX1_table_26 (by decide) ?_
      exact ww_iret (ws, μ) rfl ⟨hM3, ⟨rfl, _, rfl, h⟩⟩ rfl (Nat.le_refl _) (Nat.le_refl _) dX1_table_57
  · replace h := h.2 c
    refine ww_bipush (v := (-2)) dX1_table_8 rfl ?_
    exact ww_iret (ws, μ) rfl ⟨hM2, ⟨rfl, _, rfl, h⟩⟩ rfl (Nat.le_refl _) (Nat.le_refl _) dX1_table_10
/-! X1_parityOf: HoloNet parityOf ([II)I; flags (True, True, False), depth 0 -/
def wc_X1_parityOf (ad : Nat → Nat) (mc ms : Nat) (μ : HM) (o1 : Option Nat) (a2 : Int) (P : Int → HM → Prop) : Prop :=
  (0 ≤ (2 : Int) ∧ (2 : Int) < 50000000 ∧ 0 + 1 ≤ mc ∧ 0 + (2 : Int).toNat ≤ ms) ∧ ∀ q_1 : Nat, μ q_1 = none →
  ∃ I6 : Nat → Int → HM → Prop, (∀ (n6 : Nat) (v3_6 : Int) (μ6 : HM), I6 n6 v3_6 μ6 →
    rI v3_6 ∧
    rI a2 ∧
    ((a2 ≤ v3_6 →
      ∃ x_5 : Int, gA μ6 q_1 3 0 = some x_5 ∧
      rI x_5 ∧
      ((x_5 = 0 →
        ∃ x_7 : Int, gA μ6 q_1 3 1 = some x_7 ∧
        rI x_7 ∧
        ((x_7 = 0 →
          P 2 μ6) ∧
        (¬ x_7 = 0 →
          P 1 μ6))) ∧
      (¬ x_5 = 0 →
        ∃ x_9 : Int, gA μ6 q_1 3 1 = some x_9 ∧
        rI x_9 ∧
        ((x_9 = 0 →
          P 0 μ6) ∧
        (¬ x_9 = 0 →
          P 3 μ6))))) ∧
    (v3_6 < a2 →
      ∃ x_11 : Int, gA μ6 (ad 1) 0 v3_6 = some x_11 ∧
      (0 ≤ x_11 ∧ x_11 < 2147483648 ∧ (0 : Int) < 2 ∧ (2 : Int) < 2147483648) ∧
      ∃ x_13 : Int, gA μ6 q_1 3 (x_11 % 2) = some x_13 ∧
      ∃ a_14 : Nat, o1 = some a_14 ∧
      ∃ x_15 : Int, gA μ6 a_14 0 v3_6 = some x_15 ∧
      rI x_15 ∧
      ∃ J32 : Int → Prop, (∀ (s3_32 : Int), J32 s3_32 →
        ∃ (n_17 : Nat) (f_18 : Int → Int), μ6 q_1 = some (hA 3 n_17 f_18) ∧ ((0 : Int) ≤ x_11 % 2 ∧ x_11 % 2 < (n_17 : Int) ∧ (n_17 : Int) < 2147483648) ∧ (bO x_13 s3_32 = 0 ∨ bO x_13 s3_32 = 1) ∧ 
        ∃ m : Nat, m < n6 ∧ I6 m (v3_6 + 1) (hs μ6 q_1 (hA 3 n_17 (updI f_18 (x_11 % 2) (bO x_13 s3_32))))) ∧
      ((x_15 = 0 →
        J32 0) ∧
      (¬ x_15 = 0 →
        J32 1))))) ∧
  ∃ m : Nat, I6 m 0 (hs μ q_1 (hA 3 (2 : Int).toNat (fun _ => 0)))
set_option maxHeartbeats 4000000 in
theorem tm_X1_parityOf {G : g_G} {l : Launch} {mc ms : Nat} {μ : HM} {o1 : Option Nat} {a2 : Int} {P : Int → HM → Prop} (h : wc_X1_parityOf (g_ad G) mc ms μ o1 a2 P) : CM G l yX1_parityOf cX1_parityOf 4 (Option.some Jvm.ClassFile.FieldType.int) 0 mc ms [va_rf o1, vI a2] μ (hR1 P) := by
  unfold wc_X1_parityOf at h
  refine wm_of (lvs := [(0, va_rf o1), (1, vI a2)]) (by decide) (by simp [lg_sl, rf_cat, vI_cat, vL_cat, ref_cat]) (by simp [lv_args, rf_cat, vI_cat, vL_cat, ref_cat, rf_some]) (fun fr ws hM1 => ?_)
  show WW G l cX1_parityOf RX1 4 (Option.some Jvm.ClassFile.FieldType.int) "parityOf" 0 mc ms (hMR G (hR1 P)) (fun u => [u.1, fr]) 0 0 [ws, fr] 0 [(0, va_rf o1), (1, vI a2)] []
  have hB : 0 ≤ mc ∧ 0 ≤ ms := ⟨Nat.zero_le _, Nat.zero_le _⟩
  refine ww_iconst dX1_parityOf_0 ?_
  obtain ⟨b_2, h⟩ := h
  refine wm_new3 hM1 q1527 b_2.1 (by omega) b_2.2.2.1 b_2.2.2.2 dX1_parityOf_1 (fun q_1 ws hq hM2 => ?_)
  replace h := h q_1 hq
  have hB := b_2.2.2
  refine ww_astoreQ_n (i := 2) (lv2 := [(2, va_rf (some q_1)), (0, va_rf o1), (1, vI a2)]) dX1_parityOf_3 rfl (Nat.le_of_ble_eq_true rfl) rfl ?_
  refine ww_iconst dX1_parityOf_4 ?_
  refine ww_istore_n (i := 3) (lv2 := [(3, vI 0), (2, va_rf (some q_1)), (0, va_rf o1), (1, vI a2)]) dX1_parityOf_5 rfl (Nat.le_of_ble_eq_true rfl) rfl ?_
  obtain ⟨I6, hI6, h⟩ := h
  have kI6 : ∀ (n6 : Nat), ∀ (v3_6 : Int), ∀ (μ6 : HM), I6 n6 v3_6 μ6 → ∀ ws : va_W, Mrep G ws μ6 → (0 + 1 ≤ mc ∧ 0 + (2 : Int).toNat ≤ ms) → WW G l cX1_parityOf RX1 4 (Option.some Jvm.ClassFile.FieldType.int) "parityOf" 0 mc ms (hMR G (hR1 P)) (fun u => [u.1, fr]) (0 + 1) (0 + (2 : Int).toNat) [ws, fr] 6 [(0, va_rf o1), (1, vI a2), (2, va_rf (some q_1)), (3, vI v3_6)] [] := by
    clear h
    intro n6
    induction n6 using Nat.strongRecOn with
    | ind n6 ih6 =>
      intro v3_6 μ6 hj ws hM3 hB
      have h := hI6 n6 v3_6 μ6 hj
      refine ww_iload_n dX1_parityOf_6 3 rfl ?_
      refine ww_iload_n dX1_parityOf_7 1 rfl ?_
      obtain ⟨r_3, r_4, h⟩ := h
      refine ww_icmp_ge (tgt := 40) dX1_parityOf_8 (by decide) r_3 r_4 (fun c => ?_) (fun c => ?_)
      · replace h := h.1 c
        refine ww_aloadQ_n dX1_parityOf_40 2 rfl ?_
        refine ww_iconst dX1_parityOf_41 ?_
        obtain ⟨x_5, hx, h⟩ := h
        refine wm_zald hM3 rfl hx dX1_parityOf_42 ?_
        obtain ⟨r_6, h⟩ := h
        refine ww_if_eq (tgt := 60) dX1_parityOf_43 (by decide) r_6 (fun c => ?_) (fun c => ?_)
        · replace h := h.1 c
          refine ww_aloadQ_n dX1_parityOf_60 2 rfl ?_
          refine ww_iconst dX1_parityOf_61 ?_
          obtain ⟨x_7, hx, h⟩ := h
          refine wm_zald hM3 rfl hx dX1_parityOf_62 ?_
          obtain ⟨r_8, h⟩ := h
          refine ww_if_eq (tgt := 70) dX1_parityOf_63 (by decide) r_8 (fun c => ?_) (fun c => ?_)
          · replace h := h.1 c
            refine ww_iconst dX1_parityOf_70 ?_
            exact ww_iret (ws, μ6) rfl ⟨hM3, ⟨_, rfl, h⟩⟩ rfl hB.1 hB.2 dX1_parityOf_71
          · replace h := h.2 c
            refine ww_iconst dX1_parityOf_66 ?_
            refine ww_goto (tgt := 71) dX1_parityOf_67 (by decide) ?_
            exact ww_iret (ws, μ6) rfl ⟨hM3, ⟨_, rfl, h⟩⟩ rfl hB.1 hB.2 dX1_parityOf_71
        · replace h := h.2 c
          refine ww_aloadQ_n dX1_parityOf_46 2 rfl ?_
          refine ww_iconst dX1_parityOf_47 ?_
          obtain ⟨x_9, hx, h⟩ := h
          refine wm_zald hM3 rfl hx dX1_parityOf_48 ?_
          obtain ⟨r_10, h⟩ := h
          refine ww_if_eq (tgt := 56) dX1_parityOf_49 (by decide) r_10 (fun c => ?_) (fun c => ?_)
          · replace h := h.1 c
            refine ww_iconst dX1_parityOf_56 ?_
            refine ww_goto (tgt := 71) dX1_parityOf_57 (by decide) ?_
            exact ww_iret (ws, μ6) rfl ⟨hM3, ⟨_, rfl, h⟩⟩ rfl hB.1 hB.2 dX1_parityOf_71
          · replace h := h.2 c
            refine ww_iconst dX1_parityOf_52 ?_
            refine ww_goto (tgt := 71) dX1_parityOf_53 (by decide) ?_
            exact ww_iret (ws, μ6) rfl ⟨hM3, ⟨_, rfl, h⟩⟩ rfl hB.1 hB.2 dX1_parityOf_71
      · replace h := h.2 (Int.not_le.mp c)
        refine ww_aloadQ_n dX1_parityOf_11 2 rfl ?_
        refine wm_getsC 1 hZ_1 (by decide) hM3 q1525 (fun _ _ h => h) dX1_parityOf_12 ?_
        refine ww_iload_n dX1_parityOf_15 3 rfl ?_
        obtain ⟨x_11, hx, h⟩ := h
        refine wm_iald hM3 rfl hx dX1_parityOf_16 ?_
        refine ww_iconst dX1_parityOf_17 ?_
        obtain ⟨r_12, h⟩ := h
        refine ww_irem dX1_parityOf_18 r_12 ?_
        refine ww_dup2 dX1_parityOf_19 rfl (rf_cat _) ?_
        obtain ⟨x_13, hx, h⟩ := h
        refine wm_zald hM3 rfl hx dX1_parityOf_20 ?_
        refine ww_aloadQ_n dX1_parityOf_21 0 rfl ?_
        refine ww_iload_n dX1_parityOf_22 3 rfl ?_
        obtain ⟨a_14, ea_14, h⟩ := h
        subst ea_14
        obtain ⟨x_15, hx, h⟩ := h
        refine wm_iald hM3 rfl hx dX1_parityOf_23 ?_
        obtain ⟨r_16, h⟩ := h
        obtain ⟨J32, hJ32, h⟩ := h
        have kJ32 : ∀ (s3_32 : Int), J32 s3_32 → ∀ ws : va_W, Mrep G ws μ6 → (0 + 1 ≤ mc ∧ 0 + (2 : Int).toNat ≤ ms) → WW G l cX1_parityOf RX1 4 (Option.some Jvm.ClassFile.FieldType.int) "parityOf" 0 mc ms (hMR G (hR1 P)) (fun u => [u.1, fr]) (0 + 1) (0 + (2 : Int).toNat) [ws, fr] 32 [(0, va_rf (some a_14)), (1, vI a2), (2, va_rf (some q_1)), (3, vI v3_6)] [vI s3_32, vI x_13, vI (x_11 % 2), va_rf (some q_1)] := by
          clear h
          intro s3_32 hj ws hM4 hB
          have h := hJ32 s3_32 hj
          refine ww_ior dX1_parityOf_32 ?_
          obtain ⟨n_17, f_18, hc, hi, hx, h⟩ := h
          refine wm_zast hM4 rfl hc hi.1 hi.2.1 hi.2.2 hx dX1_parityOf_33 (fun ws hM5 => ?_)
          refine ww_iinc (lv2 := [(3, vI (v3_6 + 1)), (0, va_rf (some a_14)), (1, vI a2), (2, va_rf (some q_1))]) dX1_parityOf_34 3 rfl (Nat.le_of_ble_eq_true rfl) rfl ?_
          refine ww_goto (tgt := 6) dX1_parityOf_37 (by decide) ?_
          refine ww_lv [1, 2, 3, 0] rfl ?_
          obtain ⟨m, hm, h⟩ := h
          exact ih6 m hm _ _ h _ hM5 hB
        refine ww_if_eq (tgt := 31) dX1_parityOf_24 (by decide) r_16 (fun c => ?_) (fun c => ?_)
        · replace h := h.1 c
          refine ww_iconst dX1_parityOf_31 ?_
          exact kJ32 _ h _ hM3 hB
        · replace h := h.2 c
          refine ww_iconst dX1_parityOf_27 ?_
          refine ww_goto (tgt := 32) dX1_parityOf_28 (by decide) ?_
          exact kJ32 _ h _ hM3 hB
  refine ww_lv [2, 3, 1, 0] rfl ?_
  obtain ⟨m, h⟩ := h
  exact kI6 m _ _ h _ hM2 hB
/-! X1_parity: HoloNet parity (I)I; flags (True, True, False), depth 5 -/
def wc_X1_parity (ad : Nat → Nat) (mc ms : Nat) (μ : HM) (b : Nat) (a1 : Int) (P : Int → HM → Prop) : Prop :=
  gC μ b = some 1 ∧
  wc_X1_isTable ad μ b a1 (fun y_1 =>
    ((y_1 = 0 →
      P (-1) μ) ∧
    (¬ y_1 = 0 →
      gC μ b = some 1 ∧
      wc_X1_at ad μ b a1 (fun y_3 =>
        ∃ a_6 : Nat, y_3 = some a_6 ∧
        ∃ x_5 : Option Nat, gQ μ a_6 7 3 = some x_5 ∧
        gC μ b = some 1 ∧
        wc_X1_at ad μ b a1 (fun y_7 =>
          ∃ a_10 : Nat, y_7 = some a_10 ∧
          ∃ x_9 : Option Nat, gQ μ a_10 7 3 = some x_9 ∧
          ∃ a_11 : Nat, x_9 = some a_11 ∧
          ∃ n_12 : Nat, gL μ a_11 = some n_12 ∧
          ∃ c_13 s_14 : Nat, (0 + c_13 ≤ mc ∧ 0 + s_14 ≤ ms) ∧
          wc_X1_parityOf ad c_13 s_14 μ x_5 (n_12 : Int) (fun y_16 μ_18 =>
            P y_16 μ_18))))))
set_option maxHeartbeats 4000000 in
theorem tm_X1_parity {G : g_G} {l : Launch} {mc ms : Nat} {μ : HM} {b : Nat} {a1 : Int} {P : Int → HM → Prop} (h : wc_X1_parity (g_ad G) mc ms μ b a1 P) : CM G l yX1_parity cX1_parity 2 (Option.some Jvm.ClassFile.FieldType.int) 5 mc ms [.ref b, vI a1] μ (hR1 P) := by
  unfold wc_X1_parity at h
  refine wm_of (lvs := [(0, va_rf (some b)), (1, vI a1)]) (by decide) (Nat.le_of_ble_eq_true rfl) rfl (fun fr ws hM1 => ?_)
  show WW G l cX1_parity RX1 2 (Option.some Jvm.ClassFile.FieldType.int) "parity" 5 mc ms (hMR G (hR1 P)) (fun u => [u.1, fr]) 0 0 [ws, fr] 0 [(0, va_rf (some b)), (1, vI a1)] []
  have hB : 0 ≤ mc ∧ 0 ≤ ms := ⟨Nat.zero_le _, Nat.zero_le _⟩
  refine ww_aloadQ_n dX1_parity_0 0 rfl ?_
  refine ww_iload_n dX1_parity_1 1 rfl ?_
  obtain ⟨hg, h⟩ := h
  refine wm_callV (n := 1) hM1 (tm_X1_isTable h) rfl hg rfl (lw_V q1503 q1505 qs29 q108 q1506) ⟨by decide, by decide, by decide +kernel⟩ rfl ⟨Nat.le_of_ble_eq_true rfl, Nat.le_of_ble_eq_true rfl⟩ rfl (Nat.le_of_ble_eq_true rfl) dX1_parity_2 hB ?_
  clear h
  rintro _ _ ws ⟨rfl, y_1, rfl, z_2, h⟩ hM2
  refine ww_st1 ?_
  refine ww_if_eq (tgt := 31) dX1_parity_5 (by decide) (r_z z_2) (fun c => ?_) (fun c => ?_)
  · replace h := h.1 c
    refine ww_iconst dX1_parity_31 ?_
    exact ww_iret (ws, μ) rfl ⟨hM2, ⟨_, rfl, h⟩⟩ rfl hB.1 hB.2 dX1_parity_32
  · replace h := h.2 c
    refine ww_aloadQ_n dX1_parity_8 0 rfl ?_
    refine ww_iload_n dX1_parity_9 1 rfl ?_
    obtain ⟨hg, h⟩ := h
    refine wm_callV (n := 1) hM2 (tm_X1_at h) rfl hg rfl (lw_V q1512 q1514 qs30 q108 q1515) ⟨by decide, by decide, by decide +kernel⟩ rfl ⟨Nat.le_of_ble_eq_true rfl, Nat.le_of_ble_eq_true rfl⟩ rfl (Nat.le_of_ble_eq_true rfl) dX1_parity_10 hB ?_
    clear h
    rintro _ _ ws ⟨rfl, y_3, rfl, h⟩ hM3
    refine ww_st1 ?_
    obtain ⟨a_6, ea_6, h⟩ := h
    subst ea_6
    obtain ⟨x_5, hx, h⟩ := h
    refine wm_getQN hM3 rfl in_X9 (ci := 7) rfl (by decide) 3 (Nat.le_of_ble_eq_true rfl) hx (fun _ _ => rfl) q1156 (fun _ _ h => h) dX1_parity_13 ?_
    refine ww_aloadQ_n dX1_parity_16 0 rfl ?_
    refine ww_iload_n dX1_parity_17 1 rfl ?_
    obtain ⟨hg, h⟩ := h
    refine wm_callV (n := 1) hM3 (tm_X1_at h) rfl hg rfl (lw_V q1512 q1514 qs30 q108 q1515) ⟨by decide, by decide, by decide +kernel⟩ rfl ⟨Nat.le_of_ble_eq_true rfl, Nat.le_of_ble_eq_true rfl⟩ rfl (by simp only [List.map_cons, List.map_nil, rf_cat, vI_cat, vL_cat, List.sum_cons, List.sum_nil]; decide) dX1_parity_18 hB ?_
    clear h
    rintro _ _ ws ⟨rfl, y_7, rfl, h⟩ hM4
    refine ww_st1 ?_
    obtain ⟨a_10, ea_10, h⟩ := h
    subst ea_10
    obtain ⟨x_9, hx, h⟩ := h
    refine wm_getQN hM4 rfl in_X9 (ci := 7) rfl (by decide) 3 (Nat.le_of_ble_eq_true rfl) hx (fun _ _ => rfl) q1156 (fun _ _ h => h) dX1_parity_21 ?_
    obtain ⟨a_11, ea_11, h⟩ := h
    subst ea_11
    obtain ⟨n_12, hn, h⟩ := h
    refine wm_alen hM4 rfl hn dX1_parity_24 ?_
    obtain ⟨c_13, s_14, b_15, h⟩ := h
    refine wm_callS (n := 2) hM4 (tm_X1_parityOf h) (lw_S q1522 q1523 q108 q1524) ⟨by decide, by decide, by decide +kernel⟩ rfl ⟨Nat.le_of_ble_eq_true rfl, Nat.le_of_ble_eq_true rfl⟩ rfl (Nat.le_of_ble_eq_true rfl) dX1_parity_25 b_15 ?_
    clear h
    rintro _ μ_18 ws ⟨y_16, rfl, h⟩ hM5
    have hB := b_15
    refine ww_st1 ?_
    refine ww_goto (tgt := 32) dX1_parity_28 (by decide) ?_
    exact ww_iret (ws, μ_18) rfl ⟨hM5, ⟨_, rfl, h⟩⟩ rfl hB.1 hB.2 dX1_parity_32
/-! X1_rule: HoloNet rule ([IZ)I; flags (False, False, False), depth 2 -/
def wc_X1_rule (ad : Nat → Nat) (μ : HM) (b : Nat) (o1 : Option Nat) (a2 : Int) (P : Int → Prop) : Prop :=
  rI a2 ∧
  ((a2 = 0 →
    ∃ x_2 : Option Nat, gQ μ b 1 2 = some x_2 ∧
    ∃ a_3 : Nat, o1 = some a_3 ∧
    ∃ x_4 : Int, gA μ a_3 0 0 = some x_4 ∧
    ∃ x_5 : Int, gA μ a_3 0 15 = some x_5 ∧
    ∃ x_6 : Int, gA μ a_3 0 3 = some x_6 ∧
    ∃ x_7 : Int, gA μ a_3 0 12 = some x_7 ∧
    ∃ x_8 : Int, gA μ a_3 0 5 = some x_8 ∧
    ∃ x_9 : Int, gA μ a_3 0 10 = some x_9 ∧
    ∃ x_10 : Int, gA μ a_3 0 6 = some x_10 ∧
    ∃ x_11 : Int, gA μ a_3 0 9 = some x_11 ∧
    rI ((((x_4 * x_5) - (x_6 * x_7)) + (x_8 * x_9)) - (x_10 * x_11)) ∧
    ∃ a_13 : Nat, x_2 = some a_13 ∧
    gC μ a_13 = some 2 ∧
    wc_X2_mod ad μ a_13 ((((x_4 * x_5) - (x_6 * x_7)) + (x_8 * x_9)) - (x_10 * x_11)) (fun y_14 =>
      P y_14)) ∧
  (¬ a2 = 0 →
    ∃ x_16 : Option Nat, gQ μ b 1 2 = some x_16 ∧
    ∃ a_17 : Nat, o1 = some a_17 ∧
    ∃ x_18 : Int, gA μ a_17 0 1 = some x_18 ∧
    ∃ x_19 : Int, gA μ a_17 0 14 = some x_19 ∧
    ∃ x_20 : Int, gA μ a_17 0 2 = some x_20 ∧
    ∃ x_21 : Int, gA μ a_17 0 13 = some x_21 ∧
    ∃ x_22 : Int, gA μ a_17 0 4 = some x_22 ∧
    ∃ x_23 : Int, gA μ a_17 0 11 = some x_23 ∧
    ∃ x_24 : Int, gA μ a_17 0 8 = some x_24 ∧
    ∃ x_25 : Int, gA μ a_17 0 7 = some x_25 ∧
    rI ((((x_18 * x_19) - (x_20 * x_21)) + (x_22 * x_23)) - (x_24 * x_25)) ∧
    ∃ a_27 : Nat, x_16 = some a_27 ∧
    gC μ a_27 = some 2 ∧
    wc_X2_mod ad μ a_27 ((((x_18 * x_19) - (x_20 * x_21)) + (x_22 * x_23)) - (x_24 * x_25)) (fun y_28 =>
      P y_28)))
set_option maxHeartbeats 4000000 in
theorem tm_X1_rule {G : g_G} {l : Launch} {μ : HM} {b : Nat} {o1 : Option Nat} {a2 : Int} {P : Int → Prop} (h : wc_X1_rule (g_ad G) μ b o1 a2 P) : CM G l yX1_rule cX1_rule 3 (Option.some Jvm.ClassFile.FieldType.int) 2 0 0 [.ref b, va_rf o1, vI a2] μ (hN1 μ P) := by
  unfold wc_X1_rule at h
  refine wm_of (lvs := [(0, va_rf (some b)), (1, va_rf o1), (2, vI a2)]) (by decide) (by simp [lg_sl, rf_cat, vI_cat, vL_cat, ref_cat]) (by simp [lv_args, rf_cat, vI_cat, vL_cat, ref_cat, rf_some]) (fun fr ws hM1 => ?_)
  show WW G l cX1_rule RX1 3 (Option.some Jvm.ClassFile.FieldType.int) "rule" 2 0 0 (hMR G (hN1 μ P)) (fun u => [u.1, fr]) 0 0 [ws, fr] 0 [(0, va_rf (some b)), (1, va_rf o1), (2, vI a2)] []
  refine ww_iload_n dX1_rule_0 2 rfl ?_
  obtain ⟨r_1, h⟩ := h
  refine ww_if_eq (tgt := 51) dX1_rule_1 (by decide) r_1 (fun c => ?_) (fun c => ?_)
  · replace h := h.1 c
    refine ww_aloadQ_n dX1_rule_51 0 rfl ?_
    obtain ⟨x_2, hx, h⟩ := h
    refine wm_getQ hM1 rfl in_X1 (ci := 1) rfl (by decide) 2 (Nat.le_of_ble_eq_true rfl) hx (fun _ _ => rfl) q319 (fun _ _ h => h) dX1_rule_52 ?_
    refine ww_aloadQ_n dX1_rule_55 1 rfl ?_
    refine ww_iconst dX1_rule_56 ?_
    obtain ⟨a_3, ea_3, h⟩ := h
    subst ea_3
    obtain ⟨x_4, hx, h⟩ := h
    refine wm_iald hM1 rfl hx dX1_rule_57 ?_
    refine ww_aloadQ_n dX1_rule_58 1 rfl ?_
    refine ww_bipush (v := 15) dX1_rule_59 rfl ?_
    obtain ⟨x_5, hx, h⟩ := h
    refine wm_iald hM1 rfl hx dX1_rule_61 ?_
    refine ww_imul dX1_rule_62 ?_
    refine ww_aloadQ_n dX1_rule_63 1 rfl ?_
    refine ww_iconst dX1_rule_64 ?_
    obtain ⟨x_6, hx, h⟩ := h
    refine wm_iald hM1 rfl hx dX1_rule_65 ?_
    refine ww_aloadQ_n dX1_rule_66 1 rfl ?_
    refine ww_bipush (v := 12) dX1_rule_67 rfl ?_
    obtain ⟨x_7, hx, h⟩ := h
    refine wm_iald hM1 rfl hx dX1_rule_69 ?_
    refine ww_imul dX1_rule_70 ?_
    refine ww_isub dX1_rule_71 ?_
    refine ww_aloadQ_n dX1_rule_72 1 rfl ?_
    refine ww_iconst dX1_rule_73 ?_
    obtain ⟨x_8, hx, h⟩ := h
    refine wm_iald hM1 rfl hx dX1_rule_74 ?_
    refine ww_aloadQ_n dX1_rule_75 1 rfl ?_
    refine ww_bipush (v := 10) dX1_rule_76 rfl ?_
    obtain ⟨x_9, hx, h⟩ := h
    refine wm_iald hM1 rfl hx dX1_rule_78 ?_
    refine ww_imul dX1_rule_79 ?_
    refine ww_iadd dX1_rule_80 ?_
    refine ww_aloadQ_n dX1_rule_81 1 rfl ?_
    refine ww_bipush (v := 6) dX1_rule_82 rfl ?_
    obtain ⟨x_10, hx, h⟩ := h
    refine wm_iald hM1 rfl hx dX1_rule_84 ?_
    refine ww_aloadQ_n dX1_rule_85 1 rfl ?_
    refine ww_bipush (v := 9) dX1_rule_86 rfl ?_
    obtain ⟨x_11, hx, h⟩ := h
    refine wm_iald hM1 rfl hx dX1_rule_88 ?_
    refine ww_imul dX1_rule_89 ?_
    refine ww_isub dX1_rule_90 ?_
    obtain ⟨r_12, h⟩ := h
    refine ww_i2l dX1_rule_91 r_12 ?_
    obtain ⟨a_13, ea_13, h⟩ := h
    subst ea_13
    obtain ⟨hg, h⟩ := h
    refine wm_callV (n := 1) hM1 (tm_X2_mod h) rfl hg rfl (lw_V q1536 q1349 q1350 q109 q1351) ⟨by decide, by decide, by decide +kernel⟩ rfl ⟨Nat.le_of_ble_eq_true rfl, Nat.le_of_ble_eq_true rfl⟩ rfl (Nat.le_of_ble_eq_true rfl) dX1_rule_92 ⟨Nat.le_refl _, Nat.le_refl _⟩ ?_
    clear h
    rintro _ _ ws ⟨rfl, y_14, rfl, h⟩ hM2
    refine ww_st1 ?_
    exact ww_iret (ws, μ) rfl ⟨hM2, ⟨rfl, _, rfl, h⟩⟩ rfl (Nat.le_refl _) (Nat.le_refl _) dX1_rule_95
  · replace h := h.2 c
    refine ww_aloadQ_n dX1_rule_4 0 rfl ?_
    obtain ⟨x_16, hx, h⟩ := h
    refine wm_getQ hM1 rfl in_X1 (ci := 1) rfl (by decide) 2 (Nat.le_of_ble_eq_true rfl) hx (fun _ _ => rfl) q319 (fun _ _ h => h) dX1_rule_5 ?_
    refine ww_aloadQ_n dX1_rule_8 1 rfl ?_
    refine ww_iconst dX1_rule_9 ?_
    obtain ⟨a_17, ea_17, h⟩ := h
    subst ea_17
    obtain ⟨x_18, hx, h⟩ := h
    refine wm_iald hM1 rfl hx dX1_rule_10 ?_
    refine ww_aloadQ_n dX1_rule_11 1 rfl ?_
    refine ww_bipush (v := 14) dX1_rule_12 rfl ?_
    obtain ⟨x_19, hx, h⟩ := h
    refine wm_iald hM1 rfl hx dX1_rule_14 ?_
    refine ww_imul dX1_rule_15 ?_
    refine ww_aloadQ_n dX1_rule_16 1 rfl ?_
    refine ww_iconst dX1_rule_17 ?_
    obtain ⟨x_20, hx, h⟩ := h
    refine wm_iald hM1 rfl hx dX1_rule_18 ?_
    refine ww_aloadQ_n dX1_rule_19 1 rfl ?_
    refine ww_bipush (v := 13) dX1_rule_20 rfl ?_
    obtain ⟨x_21, hx, h⟩ := h
    refine wm_iald hM1 rfl hx dX1_rule_22 ?_
    refine ww_imul dX1_rule_23 ?_
    refine ww_isub dX1_rule_24 ?_
    refine ww_aloadQ_n dX1_rule_25 1 rfl ?_
    refine ww_iconst dX1_rule_26 ?_
    obtain ⟨x_22, hx, h⟩ := h
    refine wm_iald hM1 rfl hx dX1_rule_27 ?_
    refine ww_aloadQ_n dX1_rule_28 1 rfl ?_
    refine ww_bipush (v := 11) dX1_rule_29 rfl ?_
    obtain ⟨x_23, hx, h⟩ := h
    refine wm_iald hM1 rfl hx dX1_rule_31 ?_
    refine ww_imul dX1_rule_32 ?_
    refine ww_iadd dX1_rule_33 ?_
    refine ww_aloadQ_n dX1_rule_34 1 rfl ?_
    refine ww_bipush (v := 8) dX1_rule_35 rfl ?_
    obtain ⟨x_24, hx, h⟩ := h
    refine wm_iald hM1 rfl hx dX1_rule_37 ?_
    refine ww_aloadQ_n dX1_rule_38 1 rfl ?_
    refine ww_bipush (v := 7) dX1_rule_39 rfl ?_
    obtain ⟨x_25, hx, h⟩ := h
    refine wm_iald hM1 rfl hx dX1_rule_41 ?_
    refine ww_imul dX1_rule_42 ?_
    refine ww_isub dX1_rule_43 ?_
    obtain ⟨r_26, h⟩ := h
    refine ww_i2l dX1_rule_44 r_26 ?_
    obtain ⟨a_27, ea_27, h⟩ := h
    subst ea_27
    obtain ⟨hg, h⟩ := h
    refine wm_callV (n := 1) hM1 (tm_X2_mod h) rfl hg rfl (lw_V q1536 q1349 q1350 q109 q1351) ⟨by decide, by decide, by decide +kernel⟩ rfl ⟨Nat.le_of_ble_eq_true rfl, Nat.le_of_ble_eq_true rfl⟩ rfl (Nat.le_of_ble_eq_true rfl) dX1_rule_45 ⟨Nat.le_refl _, Nat.le_refl _⟩ ?_
    clear h
    rintro _ _ ws ⟨rfl, y_28, rfl, h⟩ hM3
    refine ww_st1 ?_
    refine ww_goto (tgt := 95) dX1_rule_48 (by decide) ?_
    exact ww_iret (ws, μ) rfl ⟨hM3, ⟨rfl, _, rfl, h⟩⟩ rfl (Nat.le_refl _) (Nat.le_refl _) dX1_rule_95
/-! X1_identity: HoloNet identity (IZ)I; flags (False, False, False), depth 5 -/
def wc_X1_identity (ad : Nat → Nat) (μ : HM) (b : Nat) (a1 : Int) (a2 : Int) (P : Int → Prop) : Prop :=
  gC μ b = some 1 ∧
  wc_X1_isTable ad μ b a1 (fun y_1 =>
    ((¬ y_1 = 0 →
      gC μ b = some 1 ∧
      wc_X1_at ad μ b a1 (fun y_3 =>
        ∃ a_6 : Nat, y_3 = some a_6 ∧
        ∃ x_5 : Int, gI μ a_6 7 2 = some x_5 ∧
        rI x_5 ∧
        ((4 ≤ x_5 →
          gC μ b = some 1 ∧
          wc_X1_at ad μ b a1 (fun y_8 =>
            ∃ a_11 : Nat, y_8 = some a_11 ∧
            ∃ x_10 : Option Nat, gQ μ a_11 7 3 = some x_10 ∧
            gC μ b = some 1 ∧
            wc_X1_rule ad μ b x_10 a2 (fun y_12 =>
              P y_12))) ∧
        (x_5 < 4 →
          P (-2))))) ∧
    (y_1 = 0 →
      P (-1))))
set_option maxHeartbeats 4000000 in
theorem tm_X1_identity {G : g_G} {l : Launch} {μ : HM} {b : Nat} {a1 : Int} {a2 : Int} {P : Int → Prop} (h : wc_X1_identity (g_ad G) μ b a1 a2 P) : CM G l yX1_identity cX1_identity 3 (Option.some Jvm.ClassFile.FieldType.int) 5 0 0 [.ref b, vI a1, vI a2] μ (hN1 μ P) := by
  unfold wc_X1_identity at h
  refine wm_of (lvs := [(0, va_rf (some b)), (1, vI a1), (2, vI a2)]) (by decide) (Nat.le_of_ble_eq_true rfl) rfl (fun fr ws hM1 => ?_)
  show WW G l cX1_identity RX1 3 (Option.some Jvm.ClassFile.FieldType.int) "identity" 5 0 0 (hMR G (hN1 μ P)) (fun u => [u.1, fr]) 0 0 [ws, fr] 0 [(0, va_rf (some b)), (1, vI a1), (2, vI a2)] []
  refine ww_aloadQ_n dX1_identity_0 0 rfl ?_
  refine ww_iload_n dX1_identity_1 1 rfl ?_
  obtain ⟨hg, h⟩ := h
  refine wm_callV (n := 1) hM1 (tm_X1_isTable h) rfl hg rfl (lw_V q1503 q1505 qs29 q108 q1506) ⟨by decide, by decide, by decide +kernel⟩ rfl ⟨Nat.le_of_ble_eq_true rfl, Nat.le_of_ble_eq_true rfl⟩ rfl (Nat.le_of_ble_eq_true rfl) dX1_identity_2 ⟨Nat.le_refl _, Nat.le_refl _⟩ ?_
  clear h
  rintro _ _ ws ⟨rfl, y_1, rfl, z_2, h⟩ hM2
  refine ww_st1 ?_
  refine ww_if_ne (tgt := 12) dX1_identity_5 (by decide) (r_z z_2) (fun c => ?_) (fun c => ?_)
  · replace h := h.1 c
    refine ww_aloadQ_n dX1_identity_12 0 rfl ?_
    refine ww_iload_n dX1_identity_13 1 rfl ?_
    obtain ⟨hg, h⟩ := h
    refine wm_callV (n := 1) hM2 (tm_X1_at h) rfl hg rfl (lw_V q1512 q1514 qs30 q108 q1515) ⟨by decide, by decide, by decide +kernel⟩ rfl ⟨Nat.le_of_ble_eq_true rfl, Nat.le_of_ble_eq_true rfl⟩ rfl (Nat.le_of_ble_eq_true rfl) dX1_identity_14 ⟨Nat.le_refl _, Nat.le_refl _⟩ ?_
    clear h
    rintro _ _ ws ⟨rfl, y_3, rfl, h⟩ hM3
    refine ww_st1 ?_
    obtain ⟨a_6, ea_6, h⟩ := h
    subst ea_6
    obtain ⟨x_5, hx, h⟩ := h
    refine wm_getIN hM3 rfl in_X9 (ci := 7) rfl (by decide) 2 (Nat.le_of_ble_eq_true rfl) hx (fun _ _ => rfl) q1152 (fun _ _ h => h) dX1_identity_17 ?_
    refine ww_iconst dX1_identity_20 ?_
    obtain ⟨r_7, h⟩ := h
    refine ww_icmp_ge (tgt := 29) dX1_identity_21 (by decide) r_7 (by decide) (fun c => ?_) (fun c => ?_)
    · replace h := h.1 c
      refine ww_aloadQ_n dX1_identity_29 0 rfl ?_
      refine ww_aloadQ_n dX1_identity_30 0 rfl ?_
      refine ww_iload_n dX1_identity_31 1 rfl ?_
      obtain ⟨hg, h⟩ := h
      refine wm_callV (n := 1) hM3 (tm_X1_at h) rfl hg rfl (lw_V q1512 q1514 qs30 q108 q1515) ⟨by decide, by decide, by decide +kernel⟩ rfl ⟨Nat.le_of_ble_eq_true rfl, Nat.le_of_ble_eq_true rfl⟩ rfl (by simp only [List.map_cons, List.map_nil, rf_cat, vI_cat, vL_cat, List.sum_cons, List.sum_nil]; decide) dX1_identity_32 ⟨Nat.le_refl _, Nat.le_refl _⟩ ?_
      clear h
      rintro _ _ ws ⟨rfl, y_8, rfl, h⟩ hM4
      refine ww_st1 ?_
      obtain ⟨a_11, ea_11, h⟩ := h
      subst ea_11
      obtain ⟨x_10, hx, h⟩ := h
      refine wm_getQN hM4 rfl in_X9 (ci := 7) rfl (by decide) 3 (Nat.le_of_ble_eq_true rfl) hx (fun _ _ => rfl) q1156 (fun _ _ h => h) dX1_identity_35 ?_
      refine ww_iload_n dX1_identity_38 2 rfl ?_
      obtain ⟨hg, h⟩ := h
      refine wm_callV (n := 2) hM4 (tm_X1_rule h) rfl hg rfl (lw_V q1532 q1534 qs31 q108 q1535) ⟨by decide, by decide, by decide +kernel⟩ rfl ⟨Nat.le_of_ble_eq_true rfl, Nat.le_of_ble_eq_true rfl⟩ rfl (Nat.le_of_ble_eq_true rfl) dX1_identity_39 ⟨Nat.le_refl _, Nat.le_refl _⟩ ?_
      clear h
      rintro _ _ ws ⟨rfl, y_12, rfl, h⟩ hM5
      refine ww_st1 ?_
      exact ww_iret (ws, μ) rfl ⟨hM5, ⟨rfl, _, rfl, h⟩⟩ rfl (Nat.le_refl _) (Nat.le_refl _) dX1_identity_42
    · replace h := h.2 (Int.not_le.mp c)
      refine ww_bipush (v := (-2)) dX1_identity_24 rfl ?_
      refine ww_goto (tgt := 42) dX1_identity_26 (by decide) ?_
      exact ww_iret (ws, μ) rfl ⟨hM3, ⟨rfl, _, rfl, h⟩⟩ rfl (Nat.le_refl _) (Nat.le_refl _) dX1_identity_42
  · replace h := h.2 c
    refine ww_iconst dX1_identity_8 ?_
    refine ww_goto (tgt := 42) dX1_identity_9 (by decide) ?_
    exact ww_iret (ws, μ) rfl ⟨hM2, ⟨rfl, _, rfl, h⟩⟩ rfl (Nat.le_refl _) (Nat.le_refl _) dX1_identity_42
/-! X1_isMade: HoloNet isMade ([II)Z; flags (True, True, False), depth 3 -/
def wc_X1_isMade (ad : Nat → Nat) (mc ms : Nat) (μ : HM) (b : Nat) (o1 : Option Nat) (a2 : Int) (P : Int → HM → Prop) : Prop :=
  ∃ c_1 s_2 : Nat, (0 + c_1 ≤ mc ∧ 0 + s_2 ≤ ms) ∧
  wc_X1_parityOf ad c_1 s_2 μ o1 a2 (fun y_4 μ_6 =>
    rI y_4 ∧
    ((y_4 = 3 →
      P 0 μ_6) ∧
    (¬ y_4 = 3 →
      rI a2 ∧
      ((a2 < 16 →
        P 1 μ_6) ∧
      (16 ≤ a2 →
        gC μ_6 b = some 1 ∧
        wc_X1_rule ad μ_6 b o1 0 (fun y_9 =>
          rI y_9 ∧
          ((¬ y_9 = 0 →
            P 0 μ_6) ∧
          (y_9 = 0 →
            gC μ_6 b = some 1 ∧
            wc_X1_rule ad μ_6 b o1 1 (fun y_12 =>
              rI y_12 ∧
              ((¬ y_12 = 0 →
                P 0 μ_6) ∧
              (y_12 = 0 →
                P 1 μ_6)))))))))))
set_option maxHeartbeats 4000000 in
theorem tm_X1_isMade {G : g_G} {l : Launch} {mc ms : Nat} {μ : HM} {b : Nat} {o1 : Option Nat} {a2 : Int} {P : Int → HM → Prop} (h : wc_X1_isMade (g_ad G) mc ms μ b o1 a2 P) : CM G l yX1_isMade cX1_isMade 3 (Option.some Jvm.ClassFile.FieldType.boolean) 3 mc ms [.ref b, va_rf o1, vI a2] μ (hR2 P) := by
  unfold wc_X1_isMade at h
  refine wm_of (lvs := [(0, va_rf (some b)), (1, va_rf o1), (2, vI a2)]) (by decide) (by simp [lg_sl, rf_cat, vI_cat, vL_cat, ref_cat]) (by simp [lv_args, rf_cat, vI_cat, vL_cat, ref_cat, rf_some]) (fun fr ws hM1 => ?_)
  show WW G l cX1_isMade RX1 3 (Option.some Jvm.ClassFile.FieldType.boolean) "isMade" 3 mc ms (hMR G (hR2 P)) (fun u => [u.1, fr]) 0 0 [ws, fr] 0 [(0, va_rf (some b)), (1, va_rf o1), (2, vI a2)] []
  have hB : 0 ≤ mc ∧ 0 ≤ ms := ⟨Nat.zero_le _, Nat.zero_le _⟩
  refine ww_aloadQ_n dX1_isMade_0 1 rfl ?_
  refine ww_iload_n dX1_isMade_1 2 rfl ?_
  obtain ⟨c_1, s_2, b_3, h⟩ := h
  refine wm_callS (n := 2) hM1 (tm_X1_parityOf h) (lw_S q1522 q1523 q108 q1524) ⟨by decide, by decide, by decide +kernel⟩ rfl ⟨Nat.le_of_ble_eq_true rfl, Nat.le_of_ble_eq_true rfl⟩ rfl (Nat.le_of_ble_eq_true rfl) dX1_isMade_2 b_3 ?_
  clear h
  rintro _ μ_6 ws ⟨y_4, rfl, h⟩ hM2
  have hB := b_3
  refine ww_st1 ?_
  refine ww_iconst dX1_isMade_5 ?_
  obtain ⟨r_7, h⟩ := h
  refine ww_icmp_eq (tgt := 37) dX1_isMade_6 (by decide) r_7 (by decide) (fun c => ?_) (fun c => ?_)
  · replace h := h.1 c
    refine ww_iconst dX1_isMade_37 ?_
    exact ww_zret (ws, μ_6) rfl (Or.inl rfl) ⟨hM2, ⟨_, rfl, Or.inl rfl, h⟩⟩ rfl hB.1 hB.2 dX1_isMade_38
  · replace h := h.2 c
    refine ww_iload_n dX1_isMade_9 2 rfl ?_
    refine ww_bipush (v := 16) dX1_isMade_10 rfl ?_
    obtain ⟨r_8, h⟩ := h
    refine ww_icmp_lt (tgt := 33) dX1_isMade_12 (by decide) r_8 (by decide) (fun c => ?_) (fun c => ?_)
    · replace h := h.1 c
      refine ww_iconst dX1_isMade_33 ?_
      refine ww_goto (tgt := 38) dX1_isMade_34 (by decide) ?_
      exact ww_zret (ws, μ_6) rfl (Or.inr rfl) ⟨hM2, ⟨_, rfl, Or.inr rfl, h⟩⟩ rfl hB.1 hB.2 dX1_isMade_38
    · replace h := h.2 (Int.not_lt.mp c)
      refine ww_aloadQ_n dX1_isMade_15 0 rfl ?_
      refine ww_aloadQ_n dX1_isMade_16 1 rfl ?_
      refine ww_iconst dX1_isMade_17 ?_
      obtain ⟨hg, h⟩ := h
      refine wm_callV (n := 2) hM2 (tm_X1_rule h) rfl hg rfl (lw_V q1532 q1534 qs31 q108 q1535) ⟨by decide, by decide, by decide +kernel⟩ rfl ⟨Nat.le_of_ble_eq_true rfl, Nat.le_of_ble_eq_true rfl⟩ rfl (Nat.le_of_ble_eq_true rfl) dX1_isMade_18 hB ?_
      clear h
      rintro _ _ ws ⟨rfl, y_9, rfl, h⟩ hM3
      refine ww_st1 ?_
      obtain ⟨r_11, h⟩ := h
      refine ww_if_ne (tgt := 37) dX1_isMade_21 (by decide) r_11 (fun c => ?_) (fun c => ?_)
      · replace h := h.1 c
        refine ww_iconst dX1_isMade_37 ?_
        exact ww_zret (ws, μ_6) rfl (Or.inl rfl) ⟨hM3, ⟨_, rfl, Or.inl rfl, h⟩⟩ rfl hB.1 hB.2 dX1_isMade_38
      · replace h := h.2 c
        refine ww_aloadQ_n dX1_isMade_24 0 rfl ?_
        refine ww_aloadQ_n dX1_isMade_25 1 rfl ?_
        refine ww_iconst dX1_isMade_26 ?_
        obtain ⟨hg, h⟩ := h
        refine wm_callV (n := 2) hM3 (tm_X1_rule h) rfl hg rfl (lw_V q1532 q1534 qs31 q108 q1535) ⟨by decide, by decide, by decide +kernel⟩ rfl ⟨Nat.le_of_ble_eq_true rfl, Nat.le_of_ble_eq_true rfl⟩ rfl (Nat.le_of_ble_eq_true rfl) dX1_isMade_27 hB ?_
        clear h
        rintro _ _ ws ⟨rfl, y_12, rfl, h⟩ hM4
        refine ww_st1 ?_
        obtain ⟨r_14, h⟩ := h
        refine ww_if_ne (tgt := 37) dX1_isMade_30 (by decide) r_14 (fun c => ?_) (fun c => ?_)
        · replace h := h.1 c
          refine ww_iconst dX1_isMade_37 ?_
          exact ww_zret (ws, μ_6) rfl (Or.inl rfl) ⟨hM4, ⟨_, rfl, Or.inl rfl, h⟩⟩ rfl hB.1 hB.2 dX1_isMade_38
        · replace h := h.2 c
          refine ww_iconst dX1_isMade_33 ?_
          refine ww_goto (tgt := 38) dX1_isMade_34 (by decide) ?_
          exact ww_zret (ws, μ_6) rfl (Or.inr rfl) ⟨hM4, ⟨_, rfl, Or.inr rfl, h⟩⟩ rfl hB.1 hB.2 dX1_isMade_38
/-! X1_made: HoloNet made (I)I; flags (True, True, False), depth 5 -/
def wc_X1_made (ad : Nat → Nat) (mc ms : Nat) (μ : HM) (b : Nat) (a1 : Int) (P : Int → HM → Prop) : Prop :=
  gC μ b = some 1 ∧
  wc_X1_isTable ad μ b a1 (fun y_1 =>
    ((y_1 = 0 →
      P (-1) μ) ∧
    (¬ y_1 = 0 →
      gC μ b = some 1 ∧
      wc_X1_at ad μ b a1 (fun y_3 =>
        ∃ a_6 : Nat, y_3 = some a_6 ∧
        ∃ x_5 : Option Nat, gQ μ a_6 7 3 = some x_5 ∧
        gC μ b = some 1 ∧
        wc_X1_at ad μ b a1 (fun y_7 =>
          ∃ a_10 : Nat, y_7 = some a_10 ∧
          ∃ x_9 : Option Nat, gQ μ a_10 7 3 = some x_9 ∧
          ∃ a_11 : Nat, x_9 = some a_11 ∧
          ∃ n_12 : Nat, gL μ a_11 = some n_12 ∧
          gC μ b = some 1 ∧
          ∃ c_13 s_14 : Nat, (0 + c_13 ≤ mc ∧ 0 + s_14 ≤ ms) ∧
          wc_X1_isMade ad c_13 s_14 μ b x_5 (n_12 : Int) (fun y_16 μ_18 =>
            ((y_16 = 0 →
              P 0 μ_18) ∧
            (¬ y_16 = 0 →
              P 1 μ_18))))))))
set_option maxHeartbeats 4000000 in
theorem tm_X1_made {G : g_G} {l : Launch} {mc ms : Nat} {μ : HM} {b : Nat} {a1 : Int} {P : Int → HM → Prop} (h : wc_X1_made (g_ad G) mc ms μ b a1 P) : CM G l yX1_made cX1_made 2 (Option.some Jvm.ClassFile.FieldType.int) 5 mc ms [.ref b, vI a1] μ (hR1 P) := by
  unfold wc_X1_made at h
  refine wm_of (lvs := [(0, va_rf (some b)), (1, vI a1)]) (by decide) (Nat.le_of_ble_eq_true rfl) rfl (fun fr ws hM1 => ?_)
  show WW G l cX1_made RX1 2 (Option.some Jvm.ClassFile.FieldType.int) "made" 5 mc ms (hMR G (hR1 P)) (fun u => [u.1, fr]) 0 0 [ws, fr] 0 [(0, va_rf (some b)), (1, vI a1)] []
  have hB : 0 ≤ mc ∧ 0 ≤ ms := ⟨Nat.zero_le _, Nat.zero_le _⟩
  refine ww_aloadQ_n dX1_made_0 0 rfl ?_
  refine ww_iload_n dX1_made_1 1 rfl ?_
  obtain ⟨hg, h⟩ := h
  refine wm_callV (n := 1) hM1 (tm_X1_isTable h) rfl hg rfl (lw_V q1503 q1505 qs29 q108 q1506) ⟨by decide, by decide, by decide +kernel⟩ rfl ⟨Nat.le_of_ble_eq_true rfl, Nat.le_of_ble_eq_true rfl⟩ rfl (Nat.le_of_ble_eq_true rfl) dX1_made_2 hB ?_
  clear h
  rintro _ _ ws ⟨rfl, y_1, rfl, z_2, h⟩ hM2
  refine ww_st1 ?_
  refine ww_if_eq (tgt := 40) dX1_made_5 (by decide) (r_z z_2) (fun c => ?_) (fun c => ?_)
  · replace h := h.1 c
    refine ww_iconst dX1_made_40 ?_
    exact ww_iret (ws, μ) rfl ⟨hM2, ⟨_, rfl, h⟩⟩ rfl hB.1 hB.2 dX1_made_41
  · replace h := h.2 c
    refine ww_aloadQ_n dX1_made_8 0 rfl ?_
    refine ww_aloadQ_n dX1_made_9 0 rfl ?_
    refine ww_iload_n dX1_made_10 1 rfl ?_
    obtain ⟨hg, h⟩ := h
    refine wm_callV (n := 1) hM2 (tm_X1_at h) rfl hg rfl (lw_V q1512 q1514 qs30 q108 q1515) ⟨by decide, by decide, by decide +kernel⟩ rfl ⟨Nat.le_of_ble_eq_true rfl, Nat.le_of_ble_eq_true rfl⟩ rfl (by simp only [List.map_cons, List.map_nil, rf_cat, vI_cat, vL_cat, List.sum_cons, List.sum_nil]; decide) dX1_made_11 hB ?_
    clear h
    rintro _ _ ws ⟨rfl, y_3, rfl, h⟩ hM3
    refine ww_st1 ?_
    obtain ⟨a_6, ea_6, h⟩ := h
    subst ea_6
    obtain ⟨x_5, hx, h⟩ := h
    refine wm_getQN hM3 rfl in_X9 (ci := 7) rfl (by decide) 3 (Nat.le_of_ble_eq_true rfl) hx (fun _ _ => rfl) q1156 (fun _ _ h => h) dX1_made_14 ?_
    refine ww_aloadQ_n dX1_made_17 0 rfl ?_
    refine ww_iload_n dX1_made_18 1 rfl ?_
    obtain ⟨hg, h⟩ := h
    refine wm_callV (n := 1) hM3 (tm_X1_at h) rfl hg rfl (lw_V q1512 q1514 qs30 q108 q1515) ⟨by decide, by decide, by decide +kernel⟩ rfl ⟨Nat.le_of_ble_eq_true rfl, Nat.le_of_ble_eq_true rfl⟩ rfl (by simp only [List.map_cons, List.map_nil, rf_cat, vI_cat, vL_cat, List.sum_cons, List.sum_nil]; decide) dX1_made_19 hB ?_
    clear h
    rintro _ _ ws ⟨rfl, y_7, rfl, h⟩ hM4
    refine ww_st1 ?_
    obtain ⟨a_10, ea_10, h⟩ := h
    subst ea_10
    obtain ⟨x_9, hx, h⟩ := h
    refine wm_getQN hM4 rfl in_X9 (ci := 7) rfl (by decide) 3 (Nat.le_of_ble_eq_true rfl) hx (fun _ _ => rfl) q1156 (fun _ _ h => h) dX1_made_22 ?_
    obtain ⟨a_11, ea_11, h⟩ := h
    subst ea_11
    obtain ⟨n_12, hn, h⟩ := h
    refine wm_alen hM4 rfl hn dX1_made_25 ?_
    obtain ⟨hg, h⟩ := h
    obtain ⟨c_13, s_14, b_15, h⟩ := h
    refine wm_callV (n := 2) hM4 (tm_X1_isMade h) rfl hg rfl (lw_V q1541 q1543 qs32 q108 q1544) ⟨by decide, by decide, by decide +kernel⟩ rfl ⟨Nat.le_of_ble_eq_true rfl, Nat.le_of_ble_eq_true rfl⟩ rfl (Nat.le_of_ble_eq_true rfl) dX1_made_26 b_15 ?_
    clear h
    rintro _ μ_18 ws ⟨y_16, rfl, z_17, h⟩ hM5
    have hB := b_15
    refine ww_st1 ?_
    refine ww_if_eq (tgt := 36) dX1_made_29 (by decide) (r_z z_17) (fun c => ?_) (fun c => ?_)
    · replace h := h.1 c
      refine ww_iconst dX1_made_36 ?_
      refine ww_goto (tgt := 41) dX1_made_37 (by decide) ?_
      exact ww_iret (ws, μ_18) rfl ⟨hM5, ⟨_, rfl, h⟩⟩ rfl hB.1 hB.2 dX1_made_41
    · replace h := h.2 c
      refine ww_iconst dX1_made_32 ?_
      refine ww_goto (tgt := 41) dX1_made_33 (by decide) ?_
      exact ww_iret (ws, μ_18) rfl ⟨hM5, ⟨_, rfl, h⟩⟩ rfl hB.1 hB.2 dX1_made_41
/-! X1_plain: HoloNet plain (I)I; flags (False, False, False), depth 5 -/
def wc_X1_plain (ad : Nat → Nat) (μ : HM) (b : Nat) (a1 : Int) (P : Int → Prop) : Prop :=
  gC μ b = some 1 ∧
  wc_X1_isTable ad μ b a1 (fun y_1 =>
    ((¬ y_1 = 0 →
      gC μ b = some 1 ∧
      wc_X1_at ad μ b a1 (fun y_3 =>
        ∃ a_6 : Nat, y_3 = some a_6 ∧
        ∃ x_5 : Option Nat, gQ μ a_6 7 3 = some x_5 ∧
        ∃ I21 : Nat → Int → Prop, (∀ (n21 : Nat) (v3_21 : Int), I21 n21 v3_21 →
          ∃ a_7 : Nat, x_5 = some a_7 ∧
          ∃ n_8 : Nat, gL μ a_7 = some n_8 ∧
          rI v3_21 ∧
          rI (n_8 : Int) ∧
          (((n_8 : Int) ≤ v3_21 →
            P 1) ∧
          (v3_21 < (n_8 : Int) →
            ∃ x_11 : Int, gA μ a_7 0 v3_21 = some x_11 ∧
            ∃ x_12 : Int, gA μ (ad 1) 0 v3_21 = some x_12 ∧
            ∃ x_13 : Int, gA μ a_7 0 ((bL 1 x_12) - 1) = some x_13 ∧
            rI x_11 ∧
            rI x_13 ∧
            ((x_11 = x_13 →
              ∃ m : Nat, m < n21 ∧ I21 m (v3_21 + 1)) ∧
            (¬ x_11 = x_13 →
              P 0))))) ∧
        ∃ m : Nat, I21 m 0)) ∧
    (y_1 = 0 →
      P (-1))))
set_option maxHeartbeats 4000000 in
theorem tm_X1_plain {G : g_G} {l : Launch} {μ : HM} {b : Nat} {a1 : Int} {P : Int → Prop} (h : wc_X1_plain (g_ad G) μ b a1 P) : CM G l yX1_plain cX1_plain 4 (Option.some Jvm.ClassFile.FieldType.int) 5 0 0 [.ref b, vI a1] μ (hN1 μ P) := by
  unfold wc_X1_plain at h
  refine wm_of (lvs := [(0, va_rf (some b)), (1, vI a1)]) (by decide) (Nat.le_of_ble_eq_true rfl) rfl (fun fr ws hM1 => ?_)
  show WW G l cX1_plain RX1 4 (Option.some Jvm.ClassFile.FieldType.int) "plain" 5 0 0 (hMR G (hN1 μ P)) (fun u => [u.1, fr]) 0 0 [ws, fr] 0 [(0, va_rf (some b)), (1, vI a1)] []
  refine ww_aloadQ_n dX1_plain_0 0 rfl ?_
  refine ww_iload_n dX1_plain_1 1 rfl ?_
  obtain ⟨hg, h⟩ := h
  refine wm_callV (n := 1) hM1 (tm_X1_isTable h) rfl hg rfl (lw_V q1503 q1505 qs29 q108 q1506) ⟨by decide, by decide, by decide +kernel⟩ rfl ⟨Nat.le_of_ble_eq_true rfl, Nat.le_of_ble_eq_true rfl⟩ rfl (Nat.le_of_ble_eq_true rfl) dX1_plain_2 ⟨Nat.le_refl _, Nat.le_refl _⟩ ?_
  clear h
  rintro _ _ ws ⟨rfl, y_1, rfl, z_2, h⟩ hM2
  refine ww_st1 ?_
  refine ww_if_ne (tgt := 10) dX1_plain_5 (by decide) (r_z z_2) (fun c => ?_) (fun c => ?_)
  · replace h := h.1 c
    refine ww_aloadQ_n dX1_plain_10 0 rfl ?_
    refine ww_iload_n dX1_plain_11 1 rfl ?_
    obtain ⟨hg, h⟩ := h
    refine wm_callV (n := 1) hM2 (tm_X1_at h) rfl hg rfl (lw_V q1512 q1514 qs30 q108 q1515) ⟨by decide, by decide, by decide +kernel⟩ rfl ⟨Nat.le_of_ble_eq_true rfl, Nat.le_of_ble_eq_true rfl⟩ rfl (Nat.le_of_ble_eq_true rfl) dX1_plain_12 ⟨Nat.le_refl _, Nat.le_refl _⟩ ?_
    clear h
    rintro _ _ ws ⟨rfl, y_3, rfl, h⟩ hM3
    refine ww_st1 ?_
    obtain ⟨a_6, ea_6, h⟩ := h
    subst ea_6
    obtain ⟨x_5, hx, h⟩ := h
    refine wm_getQN hM3 rfl in_X9 (ci := 7) rfl (by decide) 3 (Nat.le_of_ble_eq_true rfl) hx (fun _ _ => rfl) q1156 (fun _ _ h => h) dX1_plain_15 ?_
    refine ww_astoreQ_n (i := 2) (lv2 := [(2, va_rf x_5), (0, va_rf (some b)), (1, vI a1)]) dX1_plain_18 rfl (Nat.le_of_ble_eq_true rfl) rfl ?_
    refine ww_iconst dX1_plain_19 ?_
    refine ww_istore_n (i := 3) (lv2 := [(3, vI 0), (2, va_rf x_5), (0, va_rf (some b)), (1, vI a1)]) dX1_plain_20 rfl (Nat.le_of_ble_eq_true rfl) (by simp [rf_cat, vI_cat, vL_cat, ref_cat]) ?_
    obtain ⟨I21, hI21, h⟩ := h
    have kI21 : ∀ (n21 : Nat), ∀ (v3_21 : Int), I21 n21 v3_21 → ∀ ws : va_W, Mrep G ws μ → WW G l cX1_plain RX1 4 (Option.some Jvm.ClassFile.FieldType.int) "plain" 5 0 0 (hMR G (hN1 μ P)) (fun u => [u.1, fr]) 0 0 [ws, fr] 21 [(2, va_rf x_5), (3, vI v3_21)] [] := by
      clear h
      intro n21
      induction n21 using Nat.strongRecOn with
      | ind n21 ih21 =>
        intro v3_21 hj ws hM4
        have h := hI21 n21 v3_21 hj
        refine ww_iload_n dX1_plain_21 1 rfl ?_
        refine ww_aloadQ_n dX1_plain_22 0 rfl ?_
        obtain ⟨a_7, ea_7, h⟩ := h
        subst ea_7
        obtain ⟨n_8, hn, h⟩ := h
        refine wm_alen hM4 rfl hn dX1_plain_23 ?_
        obtain ⟨r_9, r_10, h⟩ := h
        refine ww_icmp_ge (tgt := 52) dX1_plain_24 (by decide) r_9 r_10 (fun c => ?_) (fun c => ?_)
        · replace h := h.1 c
          refine ww_iconst dX1_plain_52 ?_
          exact ww_iret (ws, μ) rfl ⟨hM4, ⟨rfl, _, rfl, h⟩⟩ rfl (Nat.le_refl _) (Nat.le_refl _) dX1_plain_53
        · replace h := h.2 (Int.not_le.mp c)
          refine ww_aloadQ_n dX1_plain_27 0 rfl ?_
          refine ww_iload_n dX1_plain_28 1 rfl ?_
          obtain ⟨x_11, hx, h⟩ := h
          refine wm_iald hM4 rfl hx dX1_plain_29 ?_
          refine ww_aloadQ_n dX1_plain_30 0 rfl ?_
          refine ww_iconst dX1_plain_31 ?_
          refine wm_getsC 1 hZ_1 (by decide) hM4 q1525 (fun _ _ h => h) dX1_plain_32 ?_
          refine ww_iload_n dX1_plain_35 1 rfl ?_
          obtain ⟨x_12, hx, h⟩ := h
          refine wm_iald hM4 rfl hx dX1_plain_36 ?_
          refine ww_ishl dX1_plain_37 ?_
          refine ww_iconst dX1_plain_38 ?_
          refine ww_isub dX1_plain_39 ?_
          obtain ⟨x_13, hx, h⟩ := h
          refine wm_iald hM4 rfl hx dX1_plain_40 ?_
          obtain ⟨r_14, r_15, h⟩ := h
          refine ww_icmp_eq (tgt := 46) dX1_plain_41 (by decide) r_14 r_15 (fun c => ?_) (fun c => ?_)
          · replace h := h.1 c
            refine ww_iinc (lv2 := [(3, vI (v3_21 + 1)), (2, va_rf (some a_7))]) dX1_plain_46 1 rfl (Nat.le_of_ble_eq_true rfl) rfl ?_
            refine ww_goto (tgt := 21) dX1_plain_49 (by decide) ?_
            refine ww_lv [1, 0] rfl ?_
            obtain ⟨m, hm, h⟩ := h
            exact ih21 m hm _ h _ hM4
          · replace h := h.2 c
            refine ww_iconst dX1_plain_44 ?_
            exact ww_iret (ws, μ) rfl ⟨hM4, ⟨rfl, _, rfl, h⟩⟩ rfl (Nat.le_refl _) (Nat.le_refl _) dX1_plain_45
    refine ww_lv [1, 0] rfl ?_
    obtain ⟨m, h⟩ := h
    exact kI21 m _ h _ hM3
  · replace h := h.2 c
    refine ww_iconst dX1_plain_8 ?_
    exact ww_iret (ws, μ) rfl ⟨hM2, ⟨rfl, _, rfl, h⟩⟩ rfl (Nat.le_refl _) (Nat.le_refl _) dX1_plain_9
/-! X1_isLike: HoloNet isLike ([I[II)Z; flags (False, False, False), depth 2 -/
def wc_X1_isLike (ad : Nat → Nat) (μ : HM) (b : Nat) (o1 : Option Nat) (o2 : Option Nat) (a3 : Int) (P : Int → Prop) : Prop :=
  ∃ I3 : Nat → Int → Prop, (∀ (n3 : Nat) (v4_3 : Int), I3 n3 v4_3 →
    ∃ a_1 : Nat, o1 = some a_1 ∧
    ∃ n_2 : Nat, gL μ a_1 = some n_2 ∧
    rI v4_3 ∧
    rI (n_2 : Int) ∧
    (((n_2 : Int) ≤ v4_3 →
      P 1) ∧
    (v4_3 < (n_2 : Int) →
      ∃ x_5 : Int, gA μ a_1 0 v4_3 = some x_5 ∧
      ∃ x_6 : Option Nat, gQ μ b 1 2 = some x_6 ∧
      rI a3 ∧
      ∃ a_8 : Nat, o2 = some a_8 ∧
      ∃ x_9 : Int, gA μ a_8 0 v4_3 = some x_9 ∧
      rI x_9 ∧
      ∃ a_11 : Nat, x_6 = some a_11 ∧
      gC μ a_11 = some 2 ∧
      wc_X2_mod ad μ a_11 (a3 * x_9) (fun y_12 =>
        rI x_5 ∧
        rI y_12 ∧
        ((x_5 = y_12 →
          ∃ m : Nat, m < n3 ∧ I3 m (v4_3 + 1)) ∧
        (¬ x_5 = y_12 →
          P 0)))))) ∧
  ∃ m : Nat, I3 m 0
set_option maxHeartbeats 4000000 in
theorem tm_X1_isLike {G : g_G} {l : Launch} {μ : HM} {b : Nat} {o1 : Option Nat} {o2 : Option Nat} {a3 : Int} {P : Int → Prop} (h : wc_X1_isLike (g_ad G) μ b o1 o2 a3 P) : CM G l yX1_isLike cX1_isLike 5 (Option.some Jvm.ClassFile.FieldType.boolean) 2 0 0 [.ref b, va_rf o1, va_rf o2, vI a3] μ (hN2 μ P) := by
  unfold wc_X1_isLike at h
  refine wm_of (lvs := [(0, va_rf (some b)), (1, va_rf o1), (2, va_rf o2), (3, vI a3)]) (by decide) (by simp [lg_sl, rf_cat, vI_cat, vL_cat, ref_cat]) (by simp [lv_args, rf_cat, vI_cat, vL_cat, ref_cat, rf_some]) (fun fr ws hM1 => ?_)
  show WW G l cX1_isLike RX1 5 (Option.some Jvm.ClassFile.FieldType.boolean) "isLike" 2 0 0 (hMR G (hN2 μ P)) (fun u => [u.1, fr]) 0 0 [ws, fr] 0 [(0, va_rf (some b)), (1, va_rf o1), (2, va_rf o2), (3, vI a3)] []
  refine ww_iconst dX1_isLike_0 ?_
  refine ww_istore (i := 4) (lv2 := [(4, vI 0), (0, va_rf (some b)), (1, va_rf o1), (2, va_rf o2), (3, vI a3)]) dX1_isLike_1 (Nat.le_of_ble_eq_true rfl) rfl ?_
  obtain ⟨I3, hI3, h⟩ := h
  have kI3 : ∀ (n3 : Nat), ∀ (v4_3 : Int), I3 n3 v4_3 → ∀ ws : va_W, Mrep G ws μ → WW G l cX1_isLike RX1 5 (Option.some Jvm.ClassFile.FieldType.boolean) "isLike" 2 0 0 (hMR G (hN2 μ P)) (fun u => [u.1, fr]) 0 0 [ws, fr] 3 [(0, va_rf (some b)), (1, va_rf o1), (2, va_rf o2), (3, vI a3), (4, vI v4_3)] [] := by
    clear h
    intro n3
    induction n3 using Nat.strongRecOn with
    | ind n3 ih3 =>
      intro v4_3 hj ws hM2
      have h := hI3 n3 v4_3 hj
      refine ww_iload dX1_isLike_3 4 rfl ?_
      refine ww_aloadQ_n dX1_isLike_5 1 rfl ?_
      obtain ⟨a_1, ea_1, h⟩ := h
      subst ea_1
      obtain ⟨n_2, hn, h⟩ := h
      refine wm_alen hM2 rfl hn dX1_isLike_6 ?_
      obtain ⟨r_3, r_4, h⟩ := h
      refine ww_icmp_ge (tgt := 40) dX1_isLike_7 (by decide) r_3 r_4 (fun c => ?_) (fun c => ?_)
      · replace h := h.1 c
        refine ww_iconst dX1_isLike_40 ?_
        exact ww_zret (ws, μ) rfl (Or.inr rfl) ⟨hM2, ⟨rfl, _, rfl, Or.inr rfl, h⟩⟩ rfl (Nat.le_refl _) (Nat.le_refl _) dX1_isLike_41
      · replace h := h.2 (Int.not_le.mp c)
        refine ww_aloadQ_n dX1_isLike_10 1 rfl ?_
        refine ww_iload dX1_isLike_11 4 rfl ?_
        obtain ⟨x_5, hx, h⟩ := h
        refine wm_iald hM2 rfl hx dX1_isLike_13 ?_
        refine ww_aloadQ_n dX1_isLike_14 0 rfl ?_
        obtain ⟨x_6, hx, h⟩ := h
        refine wm_getQ hM2 rfl in_X1 (ci := 1) rfl (by decide) 2 (Nat.le_of_ble_eq_true rfl) hx (fun _ _ => rfl) q319 (fun _ _ h => h) dX1_isLike_15 ?_
        refine ww_iload_n dX1_isLike_18 3 rfl ?_
        obtain ⟨r_7, h⟩ := h
        refine ww_i2l dX1_isLike_19 r_7 ?_
        refine ww_aloadQ_n dX1_isLike_20 2 rfl ?_
        refine ww_iload dX1_isLike_21 4 rfl ?_
        obtain ⟨a_8, ea_8, h⟩ := h
        subst ea_8
        obtain ⟨x_9, hx, h⟩ := h
        refine wm_iald hM2 rfl hx dX1_isLike_23 ?_
        obtain ⟨r_10, h⟩ := h
        refine ww_i2l dX1_isLike_24 r_10 ?_
        refine ww_lmul dX1_isLike_25 ?_
        obtain ⟨a_11, ea_11, h⟩ := h
        subst ea_11
        obtain ⟨hg, h⟩ := h
        refine wm_callV (n := 1) hM2 (tm_X2_mod h) rfl hg rfl (lw_V q1536 q1349 q1350 q109 q1351) ⟨by decide, by decide, by decide +kernel⟩ rfl ⟨Nat.le_of_ble_eq_true rfl, Nat.le_of_ble_eq_true rfl⟩ rfl (Nat.le_of_ble_eq_true rfl) dX1_isLike_26 ⟨Nat.le_refl _, Nat.le_refl _⟩ ?_
        clear h
        rintro _ _ ws ⟨rfl, y_12, rfl, h⟩ hM3
        refine ww_st1 ?_
        obtain ⟨r_14, r_15, h⟩ := h
        refine ww_icmp_eq (tgt := 34) dX1_isLike_29 (by decide) r_14 r_15 (fun c => ?_) (fun c => ?_)
        · replace h := h.1 c
          refine ww_iinc (lv2 := [(4, vI (v4_3 + 1)), (0, va_rf (some b)), (1, va_rf (some a_1)), (2, va_rf (some a_8)), (3, vI a3)]) dX1_isLike_34 4 rfl (Nat.le_of_ble_eq_true rfl) rfl ?_
          refine ww_goto (tgt := 3) dX1_isLike_37 (by decide) ?_
          refine ww_lv [1, 2, 3, 4, 0] rfl ?_
          obtain ⟨m, hm, h⟩ := h
          exact ih3 m hm _ h _ hM3
        · replace h := h.2 c
          refine ww_iconst dX1_isLike_32 ?_
          exact ww_zret (ws, μ) rfl (Or.inl rfl) ⟨hM3, ⟨rfl, _, rfl, Or.inl rfl, h⟩⟩ rfl (Nat.le_refl _) (Nat.le_refl _) dX1_isLike_33
  refine ww_lv [1, 2, 3, 4, 0] rfl ?_
  obtain ⟨m, h⟩ := h
  exact kI3 m _ h _ hM1
/-! X1_like: HoloNet like (II)I; flags (False, False, False), depth 5 -/
def wc_X1_like (ad : Nat → Nat) (μ : HM) (b : Nat) (a1 : Int) (a2 : Int) (P : Int → Prop) : Prop :=
  gC μ b = some 1 ∧
  wc_X1_isTable ad μ b a1 (fun y_1 =>
    ((y_1 = 0 →
      P (-1)) ∧
    (¬ y_1 = 0 →
      gC μ b = some 1 ∧
      wc_X1_isTable ad μ b a2 (fun y_3 =>
        ((¬ y_3 = 0 →
          gC μ b = some 1 ∧
          wc_X1_at ad μ b a1 (fun y_5 =>
            ∃ a_8 : Nat, y_5 = some a_8 ∧
            ∃ x_7 : Int, gI μ a_8 7 2 = some x_7 ∧
            gC μ b = some 1 ∧
            wc_X1_at ad μ b a2 (fun y_9 =>
              ∃ a_12 : Nat, y_9 = some a_12 ∧
              ∃ x_11 : Int, gI μ a_12 7 2 = some x_11 ∧
              rI x_7 ∧
              rI x_11 ∧
              ((x_7 = x_11 →
                ∃ I41 : Nat → Int → Prop, (∀ (n41 : Nat) (v3_41 : Int), I41 n41 v3_41 →
                  ∃ x_15 : Option Nat, gQ μ b 1 2 = some x_15 ∧
                  ∃ a_17 : Nat, x_15 = some a_17 ∧
                  ∃ x_16 : Int, gI μ a_17 2 0 = some x_16 ∧
                  rI v3_41 ∧
                  rI x_16 ∧
                  ((x_16 ≤ v3_41 →
                    P 0) ∧
                  (v3_41 < x_16 →
                    gC μ b = some 1 ∧
                    wc_X1_at ad μ b a1 (fun y_20 =>
                      ∃ a_23 : Nat, y_20 = some a_23 ∧
                      ∃ x_22 : Option Nat, gQ μ a_23 7 3 = some x_22 ∧
                      gC μ b = some 1 ∧
                      wc_X1_at ad μ b a2 (fun y_24 =>
                        ∃ a_27 : Nat, y_24 = some a_27 ∧
                        ∃ x_26 : Option Nat, gQ μ a_27 7 3 = some x_26 ∧
                        gC μ b = some 1 ∧
                        wc_X1_isLike ad μ b x_22 x_26 v3_41 (fun y_28 =>
                          ((y_28 = 0 →
                            ∃ m : Nat, m < n41 ∧ I41 m (v3_41 + 1)) ∧
                          (¬ y_28 = 0 →
                            P v3_41)))))))) ∧
                ∃ m : Nat, I41 m 1) ∧
              (¬ x_7 = x_11 →
                P 0))))) ∧
        (y_3 = 0 →
          P (-1)))))))
set_option maxHeartbeats 4000000 in
theorem tm_X1_like {G : g_G} {l : Launch} {μ : HM} {b : Nat} {a1 : Int} {a2 : Int} {P : Int → Prop} (h : wc_X1_like (g_ad G) μ b a1 a2 P) : CM G l yX1_like cX1_like 4 (Option.some Jvm.ClassFile.FieldType.int) 5 0 0 [.ref b, vI a1, vI a2] μ (hN1 μ P) := by
  unfold wc_X1_like at h
  refine wm_of (lvs := [(0, va_rf (some b)), (1, vI a1), (2, vI a2)]) (by decide) (Nat.le_of_ble_eq_true rfl) rfl (fun fr ws hM1 => ?_)
  show WW G l cX1_like RX1 4 (Option.some Jvm.ClassFile.FieldType.int) "like" 5 0 0 (hMR G (hN1 μ P)) (fun u => [u.1, fr]) 0 0 [ws, fr] 0 [(0, va_rf (some b)), (1, vI a1), (2, vI a2)] []
  refine ww_aloadQ_n dX1_like_0 0 rfl ?_
  refine ww_iload_n dX1_like_1 1 rfl ?_
  obtain ⟨hg, h⟩ := h
  refine wm_callV (n := 1) hM1 (tm_X1_isTable h) rfl hg rfl (lw_V q1503 q1505 qs29 q108 q1506) ⟨by decide, by decide, by decide +kernel⟩ rfl ⟨Nat.le_of_ble_eq_true rfl, Nat.le_of_ble_eq_true rfl⟩ rfl (Nat.le_of_ble_eq_true rfl) dX1_like_2 ⟨Nat.le_refl _, Nat.le_refl _⟩ ?_
  clear h
  rintro _ _ ws ⟨rfl, y_1, rfl, z_2, h⟩ hM2
  refine ww_st1 ?_
  refine ww_if_eq (tgt := 16) dX1_like_5 (by decide) (r_z z_2) (fun c => ?_) (fun c => ?_)
  · replace h := h.1 c
    refine ww_iconst dX1_like_16 ?_
    exact ww_iret (ws, μ) rfl ⟨hM2, ⟨rfl, _, rfl, h⟩⟩ rfl (Nat.le_refl _) (Nat.le_refl _) dX1_like_17
  · replace h := h.2 c
    refine ww_aloadQ_n dX1_like_8 0 rfl ?_
    refine ww_iload_n dX1_like_9 2 rfl ?_
    obtain ⟨hg, h⟩ := h
    refine wm_callV (n := 1) hM2 (tm_X1_isTable h) rfl hg rfl (lw_V q1503 q1505 qs29 q108 q1506) ⟨by decide, by decide, by decide +kernel⟩ rfl ⟨Nat.le_of_ble_eq_true rfl, Nat.le_of_ble_eq_true rfl⟩ rfl (Nat.le_of_ble_eq_true rfl) dX1_like_10 ⟨Nat.le_refl _, Nat.le_refl _⟩ ?_
    clear h
    rintro _ _ ws ⟨rfl, y_3, rfl, z_4, h⟩ hM3
    refine ww_st1 ?_
    refine ww_if_ne (tgt := 18) dX1_like_13 (by decide) (r_z z_4) (fun c => ?_) (fun c => ?_)
    · replace h := h.1 c
      refine ww_aloadQ_n dX1_like_18 0 rfl ?_
      refine ww_iload_n dX1_like_19 1 rfl ?_
      obtain ⟨hg, h⟩ := h
      refine wm_callV (n := 1) hM3 (tm_X1_at h) rfl hg rfl (lw_V q1512 q1514 qs30 q108 q1515) ⟨by decide, by decide, by decide +kernel⟩ rfl ⟨Nat.le_of_ble_eq_true rfl, Nat.le_of_ble_eq_true rfl⟩ rfl (Nat.le_of_ble_eq_true rfl) dX1_like_20 ⟨Nat.le_refl _, Nat.le_refl _⟩ ?_
      clear h
      rintro _ _ ws ⟨rfl, y_5, rfl, h⟩ hM4
      refine ww_st1 ?_
      obtain ⟨a_8, ea_8, h⟩ := h
      subst ea_8
      obtain ⟨x_7, hx, h⟩ := h
      refine wm_getIN hM4 rfl in_X9 (ci := 7) rfl (by decide) 2 (Nat.le_of_ble_eq_true rfl) hx (fun _ _ => rfl) q1152 (fun _ _ h => h) dX1_like_23 ?_
      refine ww_aloadQ_n dX1_like_26 0 rfl ?_
      refine ww_iload_n dX1_like_27 2 rfl ?_
      obtain ⟨hg, h⟩ := h
      refine wm_callV (n := 1) hM4 (tm_X1_at h) rfl hg rfl (lw_V q1512 q1514 qs30 q108 q1515) ⟨by decide, by decide, by decide +kernel⟩ rfl ⟨Nat.le_of_ble_eq_true rfl, Nat.le_of_ble_eq_true rfl⟩ rfl (Nat.le_of_ble_eq_true rfl) dX1_like_28 ⟨Nat.le_refl _, Nat.le_refl _⟩ ?_
      clear h
      rintro _ _ ws ⟨rfl, y_9, rfl, h⟩ hM5
      refine ww_st1 ?_
      obtain ⟨a_12, ea_12, h⟩ := h
      subst ea_12
      obtain ⟨x_11, hx, h⟩ := h
      refine wm_getIN hM5 rfl in_X9 (ci := 7) rfl (by decide) 2 (Nat.le_of_ble_eq_true rfl) hx (fun _ _ => rfl) q1152 (fun _ _ h => h) dX1_like_31 ?_
      obtain ⟨r_13, r_14, h⟩ := h
      refine ww_icmp_eq (tgt := 39) dX1_like_34 (by decide) r_13 r_14 (fun c => ?_) (fun c => ?_)
      · replace h := h.1 c
        refine ww_iconst dX1_like_39 ?_
        refine ww_istore_n (i := 3) (lv2 := [(3, vI 1), (0, va_rf (some b)), (1, vI a1), (2, vI a2)]) dX1_like_40 rfl (Nat.le_of_ble_eq_true rfl) rfl ?_
        obtain ⟨I41, hI41, h⟩ := h
        have kI41 : ∀ (n41 : Nat), ∀ (v3_41 : Int), I41 n41 v3_41 → ∀ ws : va_W, Mrep G ws μ → WW G l cX1_like RX1 4 (Option.some Jvm.ClassFile.FieldType.int) "like" 5 0 0 (hMR G (hN1 μ P)) (fun u => [u.1, fr]) 0 0 [ws, fr] 41 [(0, va_rf (some b)), (1, vI a1), (2, vI a2), (3, vI v3_41)] [] := by
          clear h
          intro n41
          induction n41 using Nat.strongRecOn with
          | ind n41 ih41 =>
            intro v3_41 hj ws hM6
            have h := hI41 n41 v3_41 hj
            refine ww_iload_n dX1_like_41 3 rfl ?_
            refine ww_aloadQ_n dX1_like_42 0 rfl ?_
            obtain ⟨x_15, hx, h⟩ := h
            refine wm_getQ hM6 rfl in_X1 (ci := 1) rfl (by decide) 2 (Nat.le_of_ble_eq_true rfl) hx (fun _ _ => rfl) q319 (fun _ _ h => h) dX1_like_43 ?_
            obtain ⟨a_17, ea_17, h⟩ := h
            subst ea_17
            obtain ⟨x_16, hx, h⟩ := h
            refine wm_getIN hM6 rfl in_X2 (ci := 2) rfl (by decide) 0 (Nat.le_of_ble_eq_true rfl) hx (fun _ _ => rfl) q259 (fun _ _ h => h) dX1_like_46 ?_
            obtain ⟨r_18, r_19, h⟩ := h
            refine ww_icmp_ge (tgt := 84) dX1_like_49 (by decide) r_18 r_19 (fun c => ?_) (fun c => ?_)
            · replace h := h.1 c
              refine ww_iconst dX1_like_84 ?_
              exact ww_iret (ws, μ) rfl ⟨hM6, ⟨rfl, _, rfl, h⟩⟩ rfl (Nat.le_refl _) (Nat.le_refl _) dX1_like_85
            · replace h := h.2 (Int.not_le.mp c)
              refine ww_aloadQ_n dX1_like_52 0 rfl ?_
              refine ww_aloadQ_n dX1_like_53 0 rfl ?_
              refine ww_iload_n dX1_like_54 1 rfl ?_
              obtain ⟨hg, h⟩ := h
              refine wm_callV (n := 1) hM6 (tm_X1_at h) rfl hg rfl (lw_V q1512 q1514 qs30 q108 q1515) ⟨by decide, by decide, by decide +kernel⟩ rfl ⟨Nat.le_of_ble_eq_true rfl, Nat.le_of_ble_eq_true rfl⟩ rfl (by simp only [List.map_cons, List.map_nil, rf_cat, vI_cat, vL_cat, List.sum_cons, List.sum_nil]; decide) dX1_like_55 ⟨Nat.le_refl _, Nat.le_refl _⟩ ?_
              clear h
              rintro _ _ ws ⟨rfl, y_20, rfl, h⟩ hM7
              refine ww_st1 ?_
              obtain ⟨a_23, ea_23, h⟩ := h
              subst ea_23
              obtain ⟨x_22, hx, h⟩ := h
              refine wm_getQN hM7 rfl in_X9 (ci := 7) rfl (by decide) 3 (Nat.le_of_ble_eq_true rfl) hx (fun _ _ => rfl) q1156 (fun _ _ h => h) dX1_like_58 ?_
              refine ww_aloadQ_n dX1_like_61 0 rfl ?_
              refine ww_iload_n dX1_like_62 2 rfl ?_
              obtain ⟨hg, h⟩ := h
              refine wm_callV (n := 1) hM7 (tm_X1_at h) rfl hg rfl (lw_V q1512 q1514 qs30 q108 q1515) ⟨by decide, by decide, by decide +kernel⟩ rfl ⟨Nat.le_of_ble_eq_true rfl, Nat.le_of_ble_eq_true rfl⟩ rfl (by simp only [List.map_cons, List.map_nil, rf_cat, vI_cat, vL_cat, List.sum_cons, List.sum_nil]; decide) dX1_like_63 ⟨Nat.le_refl _, Nat.le_refl _⟩ ?_
              clear h
              rintro _ _ ws ⟨rfl, y_24, rfl, h⟩ hM8
              refine ww_st1 ?_
              obtain ⟨a_27, ea_27, h⟩ := h
              subst ea_27
              obtain ⟨x_26, hx, h⟩ := h
              refine wm_getQN hM8 rfl in_X9 (ci := 7) rfl (by decide) 3 (Nat.le_of_ble_eq_true rfl) hx (fun _ _ => rfl) q1156 (fun _ _ h => h) dX1_like_66 ?_
              refine ww_iload_n dX1_like_69 3 rfl ?_
              obtain ⟨hg, h⟩ := h
              refine wm_callV (n := 3) hM8 (tm_X1_isLike h) rfl hg rfl (lw_V q1553 q1555 qs33 q108 q1556) ⟨by decide, by decide, by decide +kernel⟩ rfl ⟨Nat.le_of_ble_eq_true rfl, Nat.le_of_ble_eq_true rfl⟩ rfl (Nat.le_of_ble_eq_true rfl) dX1_like_70 ⟨Nat.le_refl _, Nat.le_refl _⟩ ?_
              clear h
              rintro _ _ ws ⟨rfl, y_28, rfl, z_29, h⟩ hM9
              refine ww_st1 ?_
              refine ww_if_eq (tgt := 78) dX1_like_73 (by decide) (r_z z_29) (fun c => ?_) (fun c => ?_)
              · replace h := h.1 c
                refine ww_iinc (lv2 := [(3, vI (v3_41 + 1)), (0, va_rf (some b)), (1, vI a1), (2, vI a2)]) dX1_like_78 3 rfl (Nat.le_of_ble_eq_true rfl) rfl ?_
                refine ww_goto (tgt := 41) dX1_like_81 (by decide) ?_
                refine ww_lv [1, 2, 3, 0] rfl ?_
                obtain ⟨m, hm, h⟩ := h
                exact ih41 m hm _ h _ hM9
              · replace h := h.2 c
                refine ww_iload_n dX1_like_76 3 rfl ?_
                exact ww_iret (ws, μ) rfl ⟨hM9, ⟨rfl, _, rfl, h⟩⟩ rfl (Nat.le_refl _) (Nat.le_refl _) dX1_like_77
        refine ww_lv [1, 2, 3, 0] rfl ?_
        obtain ⟨m, h⟩ := h
        exact kI41 m _ h _ hM5
      · replace h := h.2 c
        refine ww_iconst dX1_like_37 ?_
        exact ww_iret (ws, μ) rfl ⟨hM5, ⟨rfl, _, rfl, h⟩⟩ rfl (Nat.le_refl _) (Nat.le_refl _) dX1_like_38
    · replace h := h.2 c
      refine ww_iconst dX1_like_16 ?_
      exact ww_iret (ws, μ) rfl ⟨hM3, ⟨rfl, _, rfl, h⟩⟩ rfl (Nat.le_refl _) (Nat.le_refl _) dX1_like_17
