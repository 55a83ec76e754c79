/-! THE COMPONENT and what it calls: weakest preconditions and walks (printed by tools/comp.py) -/
set_option maxRecDepth 100000
/-! X1_within_2: HoloNet within (I)I; flags (True, True, False), depth 8 -/
def wc_X1_within_2 (ad : Nat → Nat) (mc ms : Nat) (μ : HM) (b : Nat) (a1 : Int) (P : Int → HM → Prop) : Prop :=
  rI a1 ∧
  ∃ x_2 : Option Nat, gQ μ b 1 2 = some x_2 ∧
  ∃ a_4 : Nat, x_2 = some a_4 ∧
  ∃ x_3 : Option Nat, gQ μ a_4 2 3 = some x_3 ∧
  ∃ a_5 : Nat, x_3 = some a_5 ∧
  gC μ a_5 = some 3 ∧
  wc_X3_size ad μ a_5 (fun y_6 =>
    rI ((bL 1 y_6) - 1) ∧
    wc_X1_within ad μ a1 0 ((bL 1 y_6) - 1) (fun y_9 =>
      ((¬ y_9 = 0 →
        ∃ (fi_11 : Nat → Int) (fq_12 : Nat → Option Nat), μ b = some (hO 1 fi_11 fq_12) ∧ 
        (0 + 1 ≤ mc ∧ 0 + 5 ≤ ms) ∧ ∀ q_13 : Nat, (hs μ b (hO 1 (upF fi_11 7 0) fq_12)) q_13 = none →
        ∃ c_15 s_16 : Nat, (0 + 1 + c_15 ≤ mc ∧ 0 + 5 + s_16 ≤ ms) ∧
        wc_X19_init ad c_15 s_16 (hs (hs μ b (hO 1 (upF fi_11 7 0) fq_12)) q_13 (hO 16 (fun _ => 0) (fun _ => none))) q_13 (some b) a1 (fun μ_18 =>
          gC μ_18 q_13 = some 16 ∧
          ∃ c_19 s_20 : Nat, (0 + 1 + c_15 + c_19 ≤ mc ∧ 0 + 5 + s_16 + s_20 ≤ ms) ∧
          wc_X15_goes_16 ad c_19 s_20 μ_18 q_13 (fun μ_22 =>
            ∃ x_23 : Option Nat, gQ μ_22 b 1 2 = some x_23 ∧
            ∃ x_24 : Int, gI μ_22 b 1 7 = some x_24 ∧
            ∃ a_25 : Nat, x_23 = some a_25 ∧
            gC μ_22 a_25 = some 2 ∧
            wc_X2_mod ad μ_22 a_25 x_24 (fun y_26 =>
              P y_26 μ_22)))) ∧
      (y_9 = 0 →
        P (-1) μ))))
set_option maxHeartbeats 4000000 in
theorem tm_X1_within_2 {G : g_G} {l : Launch} {mc ms : Nat} {μ : HM} {b : Nat} {a1 : Int} {P : Int → HM → Prop} (h : wc_X1_within_2 (g_ad G) mc ms μ b a1 P) : CM G l yX1_within_2 cX1_within_2 2 (Option.some Jvm.ClassFile.FieldType.int) 8 mc ms [.ref b, vI a1] μ (hR1 P) := by
  unfold wc_X1_within_2 at h
  refine wm_of (lvs := [(0, va_rf (some b)), (1, vI a1)]) (by decide) (Nat.le_of_ble_eq_true rfl) rfl (fun fr ws hM1 => ?_)
  show WW G l cX1_within_2 RX1 2 (Option.some Jvm.ClassFile.FieldType.int) "within" 8 mc ms (hMR G (hR1 P)) (fun u => [u.1, fr]) 0 0 [ws, fr] 0 [(0, va_rf (some b)), (1, vI a1)] []
  have hB : 0 ≤ mc ∧ 0 ≤ ms := ⟨Nat.zero_le _, Nat.zero_le _⟩
  refine ww_iload_n dX1_within_2_0 1 rfl ?_
  obtain ⟨r_1, h⟩ := h
  refine ww_i2l dX1_within_2_1 r_1 ?_
  refine ww_lconst (v := 0) dX1_within_2_2 rfl ?_
  refine ww_iconst dX1_within_2_3 ?_
  refine ww_aloadQ_n dX1_within_2_4 0 rfl ?_
  obtain ⟨x_2, hx, h⟩ := h
  refine wm_getQ hM1 rfl in_X1 (ci := 1) rfl (by decide) 2 (Nat.le_of_ble_eq_true rfl) hx (fun _ _ => rfl) q319 (fun _ _ h => h) dX1_within_2_5 ?_
  obtain ⟨a_4, ea_4, h⟩ := h
  subst ea_4
  obtain ⟨x_3, hx, h⟩ := h
  refine wm_getQN hM1 rfl in_X2 (ci := 2) rfl (by decide) 3 (Nat.le_of_ble_eq_true rfl) hx (fun _ _ => rfl) q268 (fun _ _ h => h) dX1_within_2_8 ?_
  obtain ⟨a_5, ea_5, h⟩ := h
  subst ea_5
  obtain ⟨hg, h⟩ := h
  refine wm_callV (n := 0) hM1 (tm_X3_size h) rfl hg rfl (lw_V q1631 q1140 q1141 q110 q1142) ⟨by decide, by decide, by decide +kernel⟩ rfl ⟨Nat.le_of_ble_eq_true rfl, Nat.le_of_ble_eq_true rfl⟩ rfl (Nat.le_of_ble_eq_true rfl) dX1_within_2_11 hB ?_
  clear h
  rintro _ _ ws ⟨rfl, y_6, rfl, h⟩ hM2
  refine ww_st1 ?_
  refine ww_ishl dX1_within_2_14 ?_
  refine ww_iconst dX1_within_2_15 ?_
  refine ww_isub dX1_within_2_16 ?_
  obtain ⟨r_8, h⟩ := h
  refine ww_i2l dX1_within_2_17 r_8 ?_
  refine wm_callS (n := 3) hM2 (tm_X1_within h) (lw_S q353 q354 q108 q355) ⟨by decide, by decide, by decide +kernel⟩ rfl ⟨Nat.le_of_ble_eq_true rfl, Nat.le_of_ble_eq_true rfl⟩ rfl (Nat.le_of_ble_eq_true rfl) dX1_within_2_18 hB ?_
  clear h
  rintro _ _ ws ⟨rfl, y_9, rfl, z_10, h⟩ hM3
  refine ww_st1 ?_
  refine ww_if_ne (tgt := 26) dX1_within_2_21 (by decide) (r_z z_10) (fun c => ?_) (fun c => ?_)
  · replace h := h.1 c
    refine ww_aloadQ_n dX1_within_2_26 0 rfl ?_
    refine ww_lconst (v := 0) dX1_within_2_27 rfl ?_
    obtain ⟨fi_11, fq_12, hc, h⟩ := h
    refine wm_putL hM3 rfl in_X1 tyX1_ok nmX1 (ci := 1) rfl 7 (Nat.le_of_ble_eq_true rfl) hc (fun _ _ => rfl) (fun _ _ => Nat.le_of_ble_eq_true rfl) q330 (fun _ _ h => h) rfl rfl rfl dX1_within_2_28 (fun ws hM4 => ?_)
    obtain ⟨b_14, h⟩ := h
    refine wm_new hM4 in_X19 tyX19_ok q1872 q1873 q155 (ci := 16) rfl dfl_16 b_14.1 b_14.2 dX1_within_2_31 (fun q_13 ws hq hM5 => ?_)
    replace h := h q_13 hq
    have hB := b_14
    refine ww_dup dX1_within_2_34 (rf_cat _) ?_
    refine ww_aloadQ_n dX1_within_2_35 0 rfl ?_
    refine ww_iload_n dX1_within_2_36 1 rfl ?_
    obtain ⟨c_15, s_16, b_17, h⟩ := h
    refine wm_callI (n := 2) hM5 (tm_X19_init h) rfl q1876 q155 q1874 q1875 rfl ⟨by decide, by decide, by decide +kernel⟩ rfl ⟨Nat.le_of_ble_eq_true rfl, Nat.le_of_ble_eq_true rfl⟩ rfl (by simp only [List.map_cons, List.map_nil, rf_cat, vI_cat, vL_cat, List.sum_cons, List.sum_nil]; decide) dX1_within_2_37 b_17 ?_
    clear h
    rintro _ μ_18 ws ⟨rfl, h⟩ hM6
    have hB := b_17
    refine ww_st0 ?_
    obtain ⟨hg, h⟩ := h
    obtain ⟨c_19, s_20, b_21, h⟩ := h
    refine wm_callU (n := 0) hM6 (tm_X15_goes_16 h) rfl hg rfl (lw_U q1888 q1889 q1890 q1704 q150 q1710) rfl ⟨by decide, by decide, by decide +kernel⟩ rfl ⟨Nat.le_of_ble_eq_true rfl, Nat.le_of_ble_eq_true rfl⟩ rfl (Nat.le_of_ble_eq_true rfl) dX1_within_2_40 b_21 ?_
    clear h
    rintro _ μ_22 ws ⟨rfl, h⟩ hM7
    have hB := b_21
    refine ww_st0 ?_
    refine ww_aloadQ_n dX1_within_2_43 0 rfl ?_
    obtain ⟨x_23, hx, h⟩ := h
    refine wm_getQ hM7 rfl in_X1 (ci := 1) rfl (by decide) 2 (Nat.le_of_ble_eq_true rfl) hx (fun _ _ => rfl) q319 (fun _ _ h => h) dX1_within_2_44 ?_
    refine ww_aloadQ_n dX1_within_2_47 0 rfl ?_
    obtain ⟨x_24, hx, h⟩ := h
    refine wm_getL hM7 rfl in_X1 (ci := 1) rfl (by decide) 7 (Nat.le_of_ble_eq_true rfl) hx (fun _ _ => rfl) q330 (fun _ _ h => h) dX1_within_2_48 ?_
    obtain ⟨a_25, ea_25, h⟩ := h
    subst ea_25
    obtain ⟨hg, h⟩ := h
    refine wm_callV (n := 1) hM7 (tm_X2_mod h) rfl hg rfl (lw_V q1536 q1349 q1350 q109 q1351) ⟨by decide, by decide, by decide +kernel⟩ rfl ⟨Nat.le_of_ble_eq_true rfl, Nat.le_of_ble_eq_true rfl⟩ rfl (Nat.le_of_ble_eq_true rfl) dX1_within_2_51 hB ?_
    clear h
    rintro _ _ ws ⟨rfl, y_26, rfl, h⟩ hM8
    refine ww_st1 ?_
    exact ww_iret (ws, μ_22) rfl ⟨hM8, ⟨_, rfl, h⟩⟩ rfl hB.1 hB.2 dX1_within_2_54
  · replace h := h.2 c
    refine ww_iconst dX1_within_2_24 ?_
    exact ww_iret (ws, μ) rfl ⟨hM3, ⟨_, rfl, h⟩⟩ rfl hB.1 hB.2 dX1_within_2_25
/-! J21_bitCount: java/lang/Integer bitCount (I)I; flags (False, False, False), depth 0 -/
def wc_J21_bitCount (ad : Nat → Nat) (μ : HM) (a1 : Int) (P : Int → Prop) : Prop :=
  ∀ x_1 : Int, x_1 = a1 - (bA (bU a1 1) 1431655765) →
  ∀ x_2 : Int, x_2 = (bA x_1 858993459) + (bA (bU x_1 2) 858993459) →
  ∀ x_3 : Int, x_3 = bA (x_2 + (bU x_2 4)) 252645135 →
  ∀ x_4 : Int, x_4 = x_3 + (bU x_3 8) →
  ∀ x_5 : Int, x_5 = x_4 + (bU x_4 16) →
  P (bA x_5 63)
set_option maxHeartbeats 4000000 in
theorem tm_J21_bitCount {G : g_G} {l : Launch} {μ : HM} {a1 : Int} {P : Int → Prop} (h : wc_J21_bitCount (g_ad G) μ a1 P) : CM G l yJ21_bitCount cJ21_bitCount 1 (Option.some Jvm.ClassFile.FieldType.int) 0 0 0 [vI a1] μ (hN1 μ P) := by
  unfold wc_J21_bitCount at h
  refine wm_of (lvs := [(0, vI a1)]) (by decide) (Nat.le_of_ble_eq_true rfl) rfl (fun fr ws hM1 => ?_)
  show WW G l cJ21_bitCount RJ21 1 (Option.some Jvm.ClassFile.FieldType.int) "bitCount" 0 0 0 (hMR G (hN1 μ P)) (fun u => [u.1, fr]) 0 0 [ws, fr] 0 [(0, vI a1)] []
  refine ww_iload_n dJ21_bitCount_0 0 rfl ?_
  refine ww_iload_n dJ21_bitCount_1 0 rfl ?_
  refine ww_iconst dJ21_bitCount_2 ?_
  refine ww_iushr dJ21_bitCount_3 ?_
  refine wm_ldcw (x := 1431655765) dJ21_bitCount_4 q1997 rfl ?_
  refine ww_iand dJ21_bitCount_7 ?_
  refine ww_isub dJ21_bitCount_8 ?_
  refine ww_nmI (fun x_1 ex_1 => ?_)
  replace h := h x_1 ex_1
  refine ww_istore_n (i := 0) (lv2 := [(0, vI x_1)]) dJ21_bitCount_9 rfl (Nat.le_of_ble_eq_true rfl) rfl ?_
  refine ww_iload_n dJ21_bitCount_10 0 rfl ?_
  refine wm_ldcw (x := 858993459) dJ21_bitCount_11 q1998 rfl ?_
  refine ww_iand dJ21_bitCount_14 ?_
  refine ww_iload_n dJ21_bitCount_15 0 rfl ?_
  refine ww_iconst dJ21_bitCount_16 ?_
  refine ww_iushr dJ21_bitCount_17 ?_
  refine wm_ldcw (x := 858993459) dJ21_bitCount_18 q1998 rfl ?_
  refine ww_iand dJ21_bitCount_21 ?_
  refine ww_iadd dJ21_bitCount_22 ?_
  refine ww_nmI (fun x_2 ex_2 => ?_)
  replace h := h x_2 ex_2
  refine ww_istore_n (i := 0) (lv2 := [(0, vI x_2)]) dJ21_bitCount_23 rfl (Nat.le_of_ble_eq_true rfl) rfl ?_
  refine ww_iload_n dJ21_bitCount_24 0 rfl ?_
  refine ww_iload_n dJ21_bitCount_25 0 rfl ?_
  refine ww_iconst dJ21_bitCount_26 ?_
  refine ww_iushr dJ21_bitCount_27 ?_
  refine ww_iadd dJ21_bitCount_28 ?_
  refine wm_ldcw (x := 252645135) dJ21_bitCount_29 q1999 rfl ?_
  refine ww_iand dJ21_bitCount_32 ?_
  refine ww_nmI (fun x_3 ex_3 => ?_)
  replace h := h x_3 ex_3
  have rx_3 : rI x_3 := by rw [ex_3]; exact (rI_bA _ _)
  refine ww_istore_n (i := 0) (lv2 := [(0, vI x_3)]) dJ21_bitCount_33 rfl (Nat.le_of_ble_eq_true rfl) rfl ?_
  refine ww_iload_n dJ21_bitCount_34 0 rfl ?_
  refine ww_iload_n dJ21_bitCount_35 0 rfl ?_
  refine ww_bipush (v := 8) dJ21_bitCount_36 rfl ?_
  refine ww_iushr dJ21_bitCount_38 ?_
  refine ww_iadd dJ21_bitCount_39 ?_
  refine ww_nmI (fun x_4 ex_4 => ?_)
  replace h := h x_4 ex_4
  refine ww_istore_n (i := 0) (lv2 := [(0, vI x_4)]) dJ21_bitCount_40 rfl (Nat.le_of_ble_eq_true rfl) rfl ?_
  refine ww_iload_n dJ21_bitCount_41 0 rfl ?_
  refine ww_iload_n dJ21_bitCount_42 0 rfl ?_
  refine ww_bipush (v := 16) dJ21_bitCount_43 rfl ?_
  refine ww_iushr dJ21_bitCount_45 ?_
  refine ww_iadd dJ21_bitCount_46 ?_
  refine ww_nmI (fun x_5 ex_5 => ?_)
  replace h := h x_5 ex_5
  refine ww_istore_n (i := 0) (lv2 := [(0, vI x_5)]) dJ21_bitCount_47 rfl (Nat.le_of_ble_eq_true rfl) rfl ?_
  refine ww_iload_n dJ21_bitCount_48 0 rfl ?_
  refine ww_bipush (v := 63) dJ21_bitCount_49 rfl ?_
  refine ww_iand dJ21_bitCount_51 ?_
  exact ww_iret (ws, μ) rfl ⟨hM1, ⟨rfl, _, rfl, h⟩⟩ rfl (Nat.le_refl _) (Nat.le_refl _) dJ21_bitCount_52
/-! J21_compare: java/lang/Integer compare (II)I; flags (False, False, False), depth 0 -/
def wc_J21_compare (ad : Nat → Nat) (μ : HM) (a1 : Int) (a2 : Int) (P : Int → Prop) : Prop :=
  rI a1 ∧
  rI a2 ∧
  ((a2 ≤ a1 →
    rI a1 ∧
    rI a2 ∧
    ((¬ a1 = a2 →
      P 1) ∧
    (a1 = a2 →
      P 0))) ∧
  (a1 < a2 →
    P (-1)))
set_option maxHeartbeats 4000000 in
theorem tm_J21_compare {G : g_G} {l : Launch} {μ : HM} {a1 : Int} {a2 : Int} {P : Int → Prop} (h : wc_J21_compare (g_ad G) μ a1 a2 P) : CM G l yJ21_compare cJ21_compare 2 (Option.some Jvm.ClassFile.FieldType.int) 0 0 0 [vI a1, vI a2] μ (hN1 μ P) := by
  unfold wc_J21_compare at h
  refine wm_of (lvs := [(0, vI a1), (1, vI a2)]) (by decide) (Nat.le_of_ble_eq_true rfl) rfl (fun fr ws hM1 => ?_)
  show WW G l cJ21_compare RJ21 2 (Option.some Jvm.ClassFile.FieldType.int) "compare" 0 0 0 (hMR G (hN1 μ P)) (fun u => [u.1, fr]) 0 0 [ws, fr] 0 [(0, vI a1), (1, vI a2)] []
  refine ww_iload_n dJ21_compare_0 0 rfl ?_
  refine ww_iload_n dJ21_compare_1 1 rfl ?_
  obtain ⟨r_1, r_2, h⟩ := h
  refine ww_icmp_ge (tgt := 9) dJ21_compare_2 (by decide) r_1 r_2 (fun c => ?_) (fun c => ?_)
  · replace h := h.1 c
    refine ww_iload_n dJ21_compare_9 0 rfl ?_
    refine ww_iload_n dJ21_compare_10 1 rfl ?_
    obtain ⟨r_3, r_4, h⟩ := h
    refine ww_icmp_ne (tgt := 18) dJ21_compare_11 (by decide) r_3 r_4 (fun c => ?_) (fun c => ?_)
    · replace h := h.1 c
      refine ww_iconst dJ21_compare_18 ?_
      exact ww_iret (ws, μ) rfl ⟨hM1, ⟨rfl, _, rfl, h⟩⟩ rfl (Nat.le_refl _) (Nat.le_refl _) dJ21_compare_19
    · replace h := h.2 c
      refine ww_iconst dJ21_compare_14 ?_
      refine ww_goto (tgt := 19) dJ21_compare_15 (by decide) ?_
      exact ww_iret (ws, μ) rfl ⟨hM1, ⟨rfl, _, rfl, h⟩⟩ rfl (Nat.le_refl _) (Nat.le_refl _) dJ21_compare_19
  · replace h := h.2 (Int.not_le.mp c)
    refine ww_iconst dJ21_compare_5 ?_
    refine ww_goto (tgt := 19) dJ21_compare_6 (by decide) ?_
    exact ww_iret (ws, μ) rfl ⟨hM1, ⟨rfl, _, rfl, h⟩⟩ rfl (Nat.le_refl _) (Nat.le_refl _) dJ21_compare_19
/-! X20_compareTo_2: HoloNet$Step compareTo (LHoloNet$Step;)I; flags (False, False, False), depth 1 -/
def wc_X20_compareTo_2 (ad : Nat → Nat) (μ : HM) (b : Nat) (o1 : Option Nat) (P : Int → Prop) : Prop :=
  ∃ x_1 : Int, gI μ b 17 2 = some x_1 ∧
  ∃ a_3 : Nat, o1 = some a_3 ∧
  ∃ x_2 : Int, gI μ a_3 17 2 = some x_2 ∧
  rI x_1 ∧
  rI x_2 ∧
  ((x_1 = x_2 →
    ∃ x_6 : Int, gI μ b 17 0 = some x_6 ∧
    ∃ x_7 : Int, gI μ a_3 17 0 = some x_7 ∧
    wc_J21_compare ad μ x_6 x_7 (fun y_8 =>
      P y_8)) ∧
  (¬ x_1 = x_2 →
    ∃ x_10 : Int, gI μ b 17 2 = some x_10 ∧
    ∃ x_11 : Int, gI μ a_3 17 2 = some x_11 ∧
    P (x_10 - x_11)))
set_option maxHeartbeats 4000000 in
theorem tm_X20_compareTo_2 {G : g_G} {l : Launch} {μ : HM} {b : Nat} {o1 : Option Nat} {P : Int → Prop} (h : wc_X20_compareTo_2 (g_ad G) μ b o1 P) : CM G l yX20_compareTo_2 cX20_compareTo_2 2 (Option.some Jvm.ClassFile.FieldType.int) 1 0 0 [.ref b, va_rf o1] μ (hN1 μ P) := by
  unfold wc_X20_compareTo_2 at h
  refine wm_of (lvs := [(0, va_rf (some b)), (1, va_rf o1)]) (by decide) (by simp [lg_sl, rf_cat, vI_cat, vL_cat, ref_cat]) (by simp [lv_args, rf_cat, vI_cat, vL_cat, ref_cat, rf_some]) (fun fr ws hM1 => ?_)
  show WW G l cX20_compareTo_2 RX20 2 (Option.some Jvm.ClassFile.FieldType.int) "compareTo" 1 0 0 (hMR G (hN1 μ P)) (fun u => [u.1, fr]) 0 0 [ws, fr] 0 [(0, va_rf (some b)), (1, va_rf o1)] []
  refine ww_aloadQ_n dX20_compareTo_2_0 0 rfl ?_
  obtain ⟨x_1, hx, h⟩ := h
  refine wm_getI hM1 rfl in_X20 (ci := 17) rfl (by decide) 2 (Nat.le_of_ble_eq_true rfl) hx (fun _ _ => rfl) q1935 (fun _ _ h => h) dX20_compareTo_2_1 ?_
  refine ww_aloadQ_n dX20_compareTo_2_4 1 rfl ?_
  obtain ⟨a_3, ea_3, h⟩ := h
  subst ea_3
  obtain ⟨x_2, hx, h⟩ := h
  refine wm_getI hM1 rfl in_X20 (ci := 17) rfl (by decide) 2 (Nat.le_of_ble_eq_true rfl) hx (fun _ _ => rfl) q1935 (fun _ _ h => h) dX20_compareTo_2_5 ?_
  obtain ⟨r_4, r_5, h⟩ := h
  refine ww_icmp_eq (tgt := 23) dX20_compareTo_2_8 (by decide) r_4 r_5 (fun c => ?_) (fun c => ?_)
  · replace h := h.1 c
    refine ww_aloadQ_n dX20_compareTo_2_23 0 rfl ?_
    obtain ⟨x_6, hx, h⟩ := h
    refine wm_getI hM1 rfl in_X20 (ci := 17) rfl (by decide) 0 (Nat.le_of_ble_eq_true rfl) hx (fun _ _ => rfl) q1931 (fun _ _ h => h) dX20_compareTo_2_24 ?_
    refine ww_aloadQ_n dX20_compareTo_2_27 1 rfl ?_
    obtain ⟨x_7, hx, h⟩ := h
    refine wm_getI hM1 rfl in_X20 (ci := 17) rfl (by decide) 0 (Nat.le_of_ble_eq_true rfl) hx (fun _ _ => rfl) q1931 (fun _ _ h => h) dX20_compareTo_2_28 ?_
    refine wm_callS (n := 2) hM1 (tm_J21_compare h) (lw_S q1089 q1090 q139 q1091) ⟨by decide, by decide, by decide +kernel⟩ rfl ⟨Nat.le_of_ble_eq_true rfl, Nat.le_of_ble_eq_true rfl⟩ rfl (Nat.le_of_ble_eq_true rfl) dX20_compareTo_2_31 ⟨Nat.le_refl _, Nat.le_refl _⟩ ?_
    clear h
    rintro _ _ ws ⟨rfl, y_8, rfl, h⟩ hM2
    refine ww_st1 ?_
    exact ww_iret (ws, μ) rfl ⟨hM2, ⟨rfl, _, rfl, h⟩⟩ rfl (Nat.le_refl _) (Nat.le_refl _) dX20_compareTo_2_34
  · replace h := h.2 c
    refine ww_aloadQ_n dX20_compareTo_2_11 0 rfl ?_
    obtain ⟨x_10, hx, h⟩ := h
    refine wm_getI hM1 rfl in_X20 (ci := 17) rfl (by decide) 2 (Nat.le_of_ble_eq_true rfl) hx (fun _ _ => rfl) q1935 (fun _ _ h => h) dX20_compareTo_2_12 ?_
    refine ww_aloadQ_n dX20_compareTo_2_15 1 rfl ?_
    obtain ⟨x_11, hx, h⟩ := h
    refine wm_getI hM1 rfl in_X20 (ci := 17) rfl (by decide) 2 (Nat.le_of_ble_eq_true rfl) hx (fun _ _ => rfl) q1935 (fun _ _ h => h) dX20_compareTo_2_16 ?_
    refine ww_isub dX20_compareTo_2_19 ?_
    refine ww_goto (tgt := 34) dX20_compareTo_2_20 (by decide) ?_
    exact ww_iret (ws, μ) rfl ⟨hM1, ⟨rfl, _, rfl, h⟩⟩ rfl (Nat.le_refl _) (Nat.le_refl _) dX20_compareTo_2_34
/-! X20_compareTo: HoloNet$Step compareTo (Ljava/lang/Object;)I; flags (False, False, False), depth 2 -/
def wc_X20_compareTo (ad : Nat → Nat) (μ : HM) (b : Nat) (o1 : Option Nat) (P : Int → Prop) : Prop :=
  (∀ z : Nat, o1 = some z → ∃ ci, gC μ z = some ci ∧ (ci = 17)) ∧
  gC μ b = some 17 ∧
  wc_X20_compareTo_2 ad μ b o1 (fun y_1 =>
    P y_1)
set_option maxHeartbeats 4000000 in
theorem tm_X20_compareTo {G : g_G} {l : Launch} {μ : HM} {b : Nat} {o1 : Option Nat} {P : Int → Prop} (h : wc_X20_compareTo (g_ad G) μ b o1 P) : CM G l yX20_compareTo cX20_compareTo 2 (Option.some Jvm.ClassFile.FieldType.int) 2 0 0 [.ref b, va_rf o1] μ (hN1 μ P) := by
  unfold wc_X20_compareTo at h
  refine wm_of (lvs := [(0, va_rf (some b)), (1, va_rf o1)]) (by decide) (by simp [lg_sl, rf_cat, vI_cat, vL_cat, ref_cat]) (by simp [lv_args, rf_cat, vI_cat, vL_cat, ref_cat, rf_some]) (fun fr ws hM1 => ?_)
  show WW G l cX20_compareTo RX20 2 (Option.some Jvm.ClassFile.FieldType.int) "compareTo" 2 0 0 (hMR G (hN1 μ P)) (fun u => [u.1, fr]) 0 0 [ws, fr] 0 [(0, va_rf (some b)), (1, va_rf o1)] []
  refine ww_aloadQ_n dX20_compareTo_0 0 rfl ?_
  refine ww_aloadQ_n dX20_compareTo_1 1 rfl ?_
  obtain ⟨hc, h⟩ := h
  refine wm_cast hM1 hc cast_8 q1084 dX20_compareTo_2 ?_
  obtain ⟨hg, h⟩ := h
  refine wm_callV (n := 1) hM1 (tm_X20_compareTo_2 h) rfl hg rfl (lw_V q1085 q1086 q1087 q158 q1088) ⟨by decide, by decide, by decide +kernel⟩ rfl ⟨Nat.le_of_ble_eq_true rfl, Nat.le_of_ble_eq_true rfl⟩ rfl (Nat.le_of_ble_eq_true rfl) dX20_compareTo_5 ⟨Nat.le_refl _, Nat.le_refl _⟩ ?_
  clear h
  rintro _ _ ws ⟨rfl, y_1, rfl, h⟩ hM2
  refine ww_st1 ?_
  exact ww_iret (ws, μ) rfl ⟨hM2, ⟨rfl, _, rfl, h⟩⟩ rfl (Nat.le_refl _) (Nat.le_refl _) dX20_compareTo_8
/-! J27_siftDownComparable: java/util/PriorityQueue siftDownComparable (ILjava/lang/Object;[Ljava/lang/Object;I)V; flags (True, False, False), depth 3 -/
def wc_J27_siftDownComparable (ad : Nat → Nat) (μ : HM) (a1 : Int) (o2 : Option Nat) (o3 : Option Nat) (a4 : Int) (P : HM → Prop) : Prop :=
  (∀ z : Nat, o2 = some z → ∃ ci, gC μ z = some ci ∧ (ci = 7 ∨ ci = 8 ∨ ci = 9 ∨ ci = 17 ∨ ci = 21 ∨ ci = 22)) ∧
  ∃ I11 : Nat → Int → HM → Prop, (∀ (n11 : Nat) (v0_11 : Int) (μ11 : HM), I11 n11 v0_11 μ11 →
    rI v0_11 ∧
    ∃ J94 : Prop, (J94 →
      ∃ a_2 : Nat, o3 = some a_2 ∧
      ∃ a_5 : Nat, o2 = some a_5 ∧
      ∃ (n_3 : Nat) (f_4 : Int → Option Nat), μ11 a_2 = some (hQ 4 n_3 f_4) ∧ hst μ11 4 a_5 ∧ ((0 : Int) ≤ v0_11 ∧ v0_11 < (n_3 : Int) ∧ (n_3 : Int) < 2147483648) ∧
      P (hs μ11 a_2 (hQ 4 n_3 (updI f_4 v0_11 (some a_5))))) ∧
    (((bU a4 1) ≤ v0_11 →
      J94) ∧
    (v0_11 < (bU a4 1) →
      ∀ x_6 : Int, x_6 = (bL v0_11 1) + 1 →
      ∃ a_7 : Nat, o3 = some a_7 ∧
      ∃ x_8 : Option Nat, gR μ11 a_7 4 x_6 = some x_8 ∧
      rI (x_6 + 1) ∧
      rI a4 ∧
      ∃ J68 : Int → Option Nat → Prop, (∀ (v6_68 : Int) (v7_68 : Option Nat), J68 v6_68 v7_68 →
        ∃ a_11 : Nat, o2 = some a_11 ∧
        gC μ11 a_11 = some 17 ∧
        wc_X20_compareTo ad μ11 a_11 v7_68 (fun y_12 =>
          rI y_12 ∧
          ((0 < y_12 →
            ∃ a_17 : Nat, v7_68 = some a_17 ∧
            ∃ (n_15 : Nat) (f_16 : Int → Option Nat), μ11 a_7 = some (hQ 4 n_15 f_16) ∧ hst μ11 4 a_17 ∧ ((0 : Int) ≤ v0_11 ∧ v0_11 < (n_15 : Int) ∧ (n_15 : Int) < 2147483648) ∧
            ∃ m : Nat, m < n11 ∧ I11 m v6_68 (hs μ11 a_7 (hQ 4 n_15 (updI f_16 v0_11 (some a_17))))) ∧
          (y_12 ≤ 0 →
            J94)))) ∧
      ((a4 ≤ (x_6 + 1) →
        J68 x_6 x_8) ∧
      ((x_6 + 1) < a4 →
        (∀ z : Nat, x_8 = some z → ∃ ci, gC μ11 z = some ci ∧ (ci = 7 ∨ ci = 8 ∨ ci = 9 ∨ ci = 17 ∨ ci = 21 ∨ ci = 22)) ∧
        ∃ x_18 : Option Nat, gR μ11 a_7 4 (x_6 + 1) = some x_18 ∧
        ∃ a_19 : Nat, x_8 = some a_19 ∧
        gC μ11 a_19 = some 17 ∧
        wc_X20_compareTo ad μ11 a_19 x_18 (fun y_20 =>
          rI y_20 ∧
          ((y_20 ≤ 0 →
            J68 x_6 (some a_19)) ∧
          (0 < y_20 →
            ∃ x_23 : Option Nat, gR μ11 a_7 4 (x_6 + 1) = some x_23 ∧
            J68 (x_6 + 1) x_23)))))))) ∧
  ∃ m : Nat, I11 m a1 μ
set_option maxHeartbeats 4000000 in
theorem tm_J27_siftDownComparable {G : g_G} {l : Launch} {μ : HM} {a1 : Int} {o2 : Option Nat} {o3 : Option Nat} {a4 : Int} {P : HM → Prop} (h : wc_J27_siftDownComparable (g_ad G) μ a1 o2 o3 a4 P) : CM G l yJ27_siftDownComparable cJ27_siftDownComparable 9 (Option.none : Option Jvm.ClassFile.FieldType) 3 0 0 [vI a1, va_rf o2, va_rf o3, vI a4] μ (hR0 P) := by
  unfold wc_J27_siftDownComparable at h
  refine wm_of (lvs := [(0, vI a1), (1, va_rf o2), (2, va_rf o3), (3, vI a4)]) (by decide) (by simp [lg_sl, rf_cat, vI_cat, vL_cat, ref_cat]) (by simp [lv_args, rf_cat, vI_cat, vL_cat, ref_cat, rf_some]) (fun fr ws hM1 => ?_)
  show WW G l cJ27_siftDownComparable RJ27 9 (Option.none : Option Jvm.ClassFile.FieldType) "siftDownComparable" 3 0 0 (hMR G (hR0 P)) (fun u => [u.1, fr]) 0 0 [ws, fr] 0 [(0, vI a1), (1, va_rf o2), (2, va_rf o3), (3, vI a4)] []
  refine ww_aloadQ_n dJ27_siftDownComparable_0 1 rfl ?_
  obtain ⟨hc, h⟩ := h
  refine wm_cast hM1 hc cast_2 q1972 dJ27_siftDownComparable_1 ?_
  refine ww_astoreQ (i := 4) (lv2 := [(4, va_rf o2), (0, vI a1), (1, va_rf o2), (2, va_rf o3), (3, vI a4)]) dJ27_siftDownComparable_4 (Nat.le_of_ble_eq_true rfl) rfl ?_
  refine ww_iload_n dJ27_siftDownComparable_6 4 rfl ?_
  refine ww_iconst dJ27_siftDownComparable_7 ?_
  refine ww_iushr dJ27_siftDownComparable_8 ?_
  refine ww_istore (i := 5) (lv2 := [(5, vI (bU a4 1)), (4, va_rf o2), (0, vI a1), (1, va_rf o2), (2, va_rf o3), (3, vI a4)]) dJ27_siftDownComparable_9 (Nat.le_of_ble_eq_true rfl) (by simp [rf_cat, vI_cat, vL_cat, ref_cat]) ?_
  obtain ⟨I11, hI11, h⟩ := h
  have kI11 : ∀ (n11 : Nat), ∀ (v0_11 : Int), ∀ (μ11 : HM), I11 n11 v0_11 μ11 → ∀ ws : va_W, Mrep G ws μ11 → WW G l cJ27_siftDownComparable RJ27 9 (Option.none : Option Jvm.ClassFile.FieldType) "siftDownComparable" 3 0 0 (hMR G (hR0 P)) (fun u => [u.1, fr]) 0 0 [ws, fr] 11 [(0, vI v0_11), (2, va_rf o3), (3, vI a4), (4, va_rf o2), (5, vI (bU a4 1))] [] := by
    clear h
    intro n11
    induction n11 using Nat.strongRecOn with
    | ind n11 ih11 =>
      intro v0_11 μ11 hj ws hM2
      have h := hI11 n11 v0_11 μ11 hj
      refine ww_iload_n dJ27_siftDownComparable_11 0 rfl ?_
      refine ww_iload dJ27_siftDownComparable_12 4 rfl ?_
      obtain ⟨r_1, h⟩ := h
      obtain ⟨J94, hJ94, h⟩ := h
      have kJ94 : J94 → ∀ ws : va_W, Mrep G ws μ11 → WW G l cJ27_siftDownComparable RJ27 9 (Option.none : Option Jvm.ClassFile.FieldType) "siftDownComparable" 3 0 0 (hMR G (hR0 P)) (fun u => [u.1, fr]) 0 0 [ws, fr] 94 [(0, vI v0_11), (2, va_rf o3), (4, va_rf o2)] [] := by
        clear h
        intro hj ws hM3
        have h := hJ94 hj
        refine ww_aloadQ_n dJ27_siftDownComparable_94 1 rfl ?_
        refine ww_iload_n dJ27_siftDownComparable_95 0 rfl ?_
        refine ww_aloadQ dJ27_siftDownComparable_96 2 rfl ?_
        obtain ⟨a_2, ea_2, h⟩ := h
        subst ea_2
        obtain ⟨a_5, ea_5, h⟩ := h
        subst ea_5
        obtain ⟨n_3, f_4, hc, hx, hi, h⟩ := h
        refine wm_aast hM3 rfl rfl hc hx hi.1 hi.2.1 hi.2.2 dJ27_siftDownComparable_98 (fun ws hM4 => ?_)
        exact ww_vret (ws, (hs μ11 a_2 (hQ 4 n_3 (updI f_4 v0_11 (some a_5))))) rfl ⟨hM4, ⟨rfl, h⟩⟩ rfl (Nat.le_refl _) (Nat.le_refl _) dJ27_siftDownComparable_99
      refine ww_icmp_ge (tgt := 94) dJ27_siftDownComparable_14 (by decide) r_1 (rI_bU _ _) (fun c => ?_) (fun c => ?_)
      · replace h := h.1 c
        refine ww_lv [0, 1, 3] rfl ?_
        exact kJ94 h _ hM2
      · replace h := h.2 (Int.not_le.mp c)
        refine ww_iload_n dJ27_siftDownComparable_17 0 rfl ?_
        refine ww_iconst dJ27_siftDownComparable_18 ?_
        refine ww_ishl dJ27_siftDownComparable_19 ?_
        refine ww_iconst dJ27_siftDownComparable_20 ?_
        refine ww_iadd dJ27_siftDownComparable_21 ?_
        refine ww_nmI (fun x_6 ex_6 => ?_)
        replace h := h x_6 ex_6
        refine ww_istore (i := 6) (lv2 := [(6, vI x_6), (0, vI v0_11), (2, va_rf o3), (3, vI a4), (4, va_rf o2), (5, vI (bU a4 1))]) dJ27_siftDownComparable_22 (Nat.le_of_ble_eq_true rfl) rfl ?_
        refine ww_aloadQ_n dJ27_siftDownComparable_24 2 rfl ?_
        refine ww_iload dJ27_siftDownComparable_25 0 rfl ?_
        obtain ⟨a_7, ea_7, h⟩ := h
        subst ea_7
        obtain ⟨x_8, hx, h⟩ := h
        refine wm_aald hM2 rfl (by decide) hx dJ27_siftDownComparable_27 ?_
        refine ww_astoreQ (i := 7) (lv2 := [(7, va_rf x_8), (6, vI x_6), (0, vI v0_11), (2, va_rf (some a_7)), (3, vI a4), (4, va_rf o2), (5, vI (bU a4 1))]) dJ27_siftDownComparable_28 (Nat.le_of_ble_eq_true rfl) rfl ?_
        refine ww_iload dJ27_siftDownComparable_30 1 rfl ?_
        refine ww_iconst dJ27_siftDownComparable_32 ?_
        refine ww_iadd dJ27_siftDownComparable_33 ?_
        refine ww_istore (i := 8) (lv2 := [(8, vI (x_6 + 1)), (7, va_rf x_8), (6, vI x_6), (0, vI v0_11), (2, va_rf (some a_7)), (3, vI a4), (4, va_rf o2), (5, vI (bU a4 1))]) dJ27_siftDownComparable_34 (Nat.le_of_ble_eq_true rfl) (by simp [rf_cat, vI_cat, vL_cat, ref_cat]) ?_
        refine ww_iload dJ27_siftDownComparable_36 0 rfl ?_
        refine ww_iload_n dJ27_siftDownComparable_38 5 rfl ?_
        obtain ⟨r_9, r_10, h⟩ := h
        obtain ⟨J68, hJ68, h⟩ := h
        have kJ68 : ∀ (v6_68 : Int), ∀ (v7_68 : Option Nat), J68 v6_68 v7_68 → ∀ ws : va_W, Mrep G ws μ11 → WW G l cJ27_siftDownComparable RJ27 9 (Option.none : Option Jvm.ClassFile.FieldType) "siftDownComparable" 3 0 0 (hMR G (hR0 P)) (fun u => [u.1, fr]) 0 0 [ws, fr] 68 [(0, vI v0_11), (2, va_rf (some a_7)), (3, vI a4), (4, va_rf o2), (5, vI (bU a4 1)), (6, vI v6_68), (7, va_rf v7_68)] [] := by
          clear h
          intro v6_68 v7_68 hj ws hM5
          have h := hJ68 v6_68 v7_68 hj
          refine ww_aloadQ dJ27_siftDownComparable_68 3 rfl ?_
          refine ww_aloadQ dJ27_siftDownComparable_70 6 rfl ?_
          obtain ⟨a_11, ea_11, h⟩ := h
          subst ea_11
          obtain ⟨hg, h⟩ := h
          refine wm_callF (n := 1) hM5 (tm_X20_compareTo h) rfl hg rfl (lw_F q1974 q1079 q1081 q158 q1083) (by decide) ⟨by decide, by decide, by decide +kernel⟩ rfl ⟨Nat.le_of_ble_eq_true rfl, Nat.le_of_ble_eq_true rfl⟩ rfl (Nat.le_of_ble_eq_true rfl) dJ27_siftDownComparable_72 ⟨Nat.le_refl _, Nat.le_refl _⟩ ?_
          clear h
          rintro _ _ ws ⟨rfl, y_12, rfl, h⟩ hM6
          refine ww_st1 ?_
          obtain ⟨r_14, h⟩ := h
          refine ww_if_gt (tgt := 83) dJ27_siftDownComparable_77 (by decide) r_14 (fun c => ?_) (fun c => ?_)
          · replace h := h.1 c
            refine ww_aloadQ_n dJ27_siftDownComparable_83 1 rfl ?_
            refine ww_iload_n dJ27_siftDownComparable_84 0 rfl ?_
            refine ww_aloadQ dJ27_siftDownComparable_85 6 rfl ?_
            obtain ⟨a_17, ea_17, h⟩ := h
            subst ea_17
            obtain ⟨n_15, f_16, hc, hx, hi, h⟩ := h
            refine wm_aast hM6 rfl rfl hc hx hi.1 hi.2.1 hi.2.2 dJ27_siftDownComparable_87 (fun ws hM7 => ?_)
            refine ww_iload dJ27_siftDownComparable_88 5 rfl ?_
            refine ww_istore_n (i := 0) (lv2 := [(0, vI v6_68), (2, va_rf (some a_7)), (3, vI a4), (4, va_rf (some a_11)), (5, vI (bU a4 1)), (6, vI v6_68), (7, va_rf (some a_17))]) dJ27_siftDownComparable_90 rfl (Nat.le_of_ble_eq_true rfl) rfl ?_
            refine ww_goto (tgt := 11) dJ27_siftDownComparable_91 (by decide) ?_
            refine ww_lv [0, 1, 2, 3, 4] rfl ?_
            obtain ⟨m, hm, h⟩ := h
            exact ih11 m hm _ _ h _ hM7
          · replace h := h.2 (Int.not_lt.mp c)
            refine ww_goto (tgt := 94) dJ27_siftDownComparable_80 (by decide) ?_
            refine ww_lv [0, 1, 3] rfl ?_
            exact kJ94 h _ hM6
        refine ww_icmp_ge (tgt := 68) dJ27_siftDownComparable_39 (by decide) r_9 r_10 (fun c => ?_) (fun c => ?_)
        · replace h := h.1 c
          refine ww_lv [3, 4, 5, 6, 7, 2, 1] rfl ?_
          exact kJ68 _ _ h _ hM2
        · replace h := h.2 (Int.not_le.mp c)
          refine ww_aloadQ dJ27_siftDownComparable_42 1 rfl ?_
          obtain ⟨hc, h⟩ := h
          refine wm_cast hM2 hc cast_2 q1972 dJ27_siftDownComparable_44 ?_
          refine ww_aloadQ_n dJ27_siftDownComparable_47 4 rfl ?_
          refine ww_iload dJ27_siftDownComparable_48 0 rfl ?_
          obtain ⟨x_18, hx, h⟩ := h
          refine wm_aald hM2 rfl (by decide) hx dJ27_siftDownComparable_50 ?_
          obtain ⟨a_19, ea_19, h⟩ := h
          subst ea_19
          obtain ⟨hg, h⟩ := h
          refine wm_callF (n := 1) hM2 (tm_X20_compareTo h) rfl hg rfl (lw_F q1974 q1079 q1081 q158 q1083) (by decide) ⟨by decide, by decide, by decide +kernel⟩ rfl ⟨Nat.le_of_ble_eq_true rfl, Nat.le_of_ble_eq_true rfl⟩ rfl (Nat.le_of_ble_eq_true rfl) dJ27_siftDownComparable_51 ⟨Nat.le_refl _, Nat.le_refl _⟩ ?_
          clear h
          rintro _ _ ws ⟨rfl, y_20, rfl, h⟩ hM8
          refine ww_st1 ?_
          obtain ⟨r_22, h⟩ := h
          refine ww_if_le (tgt := 68) dJ27_siftDownComparable_56 (by decide) r_22 (fun c => ?_) (fun c => ?_)
          · replace h := h.1 c
            refine ww_lv [3, 4, 5, 6, 7, 2, 1] rfl ?_
            exact kJ68 _ _ h _ hM8
          · replace h := h.2 (Int.not_le.mp c)
            refine ww_aloadQ_n dJ27_siftDownComparable_59 4 rfl ?_
            refine ww_iload dJ27_siftDownComparable_60 0 rfl ?_
            refine ww_dup dJ27_siftDownComparable_62 rfl ?_
            refine ww_istore (i := 6) (lv2 := [(6, vI (x_6 + 1)), (8, vI (x_6 + 1)), (7, va_rf (some a_19)), (0, vI v0_11), (2, va_rf (some a_7)), (3, vI a4), (4, va_rf o2), (5, vI (bU a4 1))]) dJ27_siftDownComparable_63 (Nat.le_of_ble_eq_true rfl) rfl ?_
            obtain ⟨x_23, hx, h⟩ := h
            refine wm_aald hM8 rfl (by decide) hx dJ27_siftDownComparable_65 ?_
            refine ww_astoreQ (i := 7) (lv2 := [(7, va_rf x_23), (6, vI (x_6 + 1)), (8, vI (x_6 + 1)), (0, vI v0_11), (2, va_rf (some a_7)), (3, vI a4), (4, va_rf o2), (5, vI (bU a4 1))]) dJ27_siftDownComparable_66 (Nat.le_of_ble_eq_true rfl) rfl ?_
            refine ww_lv [3, 4, 5, 6, 7, 1, 0] rfl ?_
            exact kJ68 _ _ h _ hM8
  refine ww_lv [2, 4, 5, 1, 0] rfl ?_
  obtain ⟨m, h⟩ := h
  exact kI11 m _ _ h _ hM1
/-! J27_poll: java/util/PriorityQueue poll ()Ljava/lang/Object;; flags (True, False, False), depth 4 -/
def wc_J27_poll (ad : Nat → Nat) (μ : HM) (b : Nat) (P : Option Nat → HM → Prop) : Prop :=
  ∃ x_1 : Option Nat, gQ μ b 24 0 = some x_1 ∧
  ∃ a_2 : Nat, x_1 = some a_2 ∧
  ∃ x_3 : Option Nat, gR μ a_2 4 0 = some x_3 ∧
  ∃ J79 : HM → Prop, (∀ (μ79 : HM), J79 μ79 →
    P x_3 μ79) ∧
  ((x_3 = none →
    J79 μ) ∧
  (∀ a_4 : Nat, x_3 = some a_4 →
    ∃ x_5 : Int, gI μ b 24 3 = some x_5 ∧
    ∃ (fi_6 : Nat → Int) (fq_7 : Nat → Option Nat), μ b = some (hO 24 fi_6 fq_7) ∧ 
    ∃ x_8 : Int, gI (hs μ b (hO 24 (upF fi_6 3 (x_5 + 1)) fq_7)) b 24 1 = some x_8 ∧
    ∃ (fi_9 : Nat → Int) (fq_10 : Nat → Option Nat), (hs μ b (hO 24 (upF fi_6 3 (x_5 + 1)) fq_7)) b = some (hO 24 fi_9 fq_10) ∧ 
    ∃ x_11 : Option Nat, gR (hs (hs μ b (hO 24 (upF fi_6 3 (x_5 + 1)) fq_7)) b (hO 24 (upF fi_9 1 (x_8 - 1)) fq_10)) a_2 4 (x_8 - 1) = some x_11 ∧
    ∃ (n_12 : Nat) (f_13 : Int → Option Nat), (hs (hs μ b (hO 24 (upF fi_6 3 (x_5 + 1)) fq_7)) b (hO 24 (upF fi_9 1 (x_8 - 1)) fq_10)) a_2 = some (hQ 4 n_12 f_13) ∧ ((0 : Int) ≤ x_8 - 1 ∧ x_8 - 1 < (n_12 : Int) ∧ (n_12 : Int) < 2147483648) ∧
    rI (x_8 - 1) ∧
    (((x_8 - 1) ≤ 0 →
      J79 (hs (hs (hs μ b (hO 24 (upF fi_6 3 (x_5 + 1)) fq_7)) b (hO 24 (upF fi_9 1 (x_8 - 1)) fq_10)) a_2 (hQ 4 n_12 (updI f_13 (x_8 - 1) none)))) ∧
    (0 < (x_8 - 1) →
      ∃ x_15 : Option Nat, gQ (hs (hs (hs μ b (hO 24 (upF fi_6 3 (x_5 + 1)) fq_7)) b (hO 24 (upF fi_9 1 (x_8 - 1)) fq_10)) a_2 (hQ 4 n_12 (updI f_13 (x_8 - 1) none))) b 24 2 = some x_15 ∧
      ((x_15 = none →
        wc_J27_siftDownComparable ad (hs (hs (hs μ b (hO 24 (upF fi_6 3 (x_5 + 1)) fq_7)) b (hO 24 (upF fi_9 1 (x_8 - 1)) fq_10)) a_2 (hQ 4 n_12 (updI f_13 (x_8 - 1) none))) 0 x_11 (some a_2) (x_8 - 1) (fun μ_17 =>
          J79 μ_17)) ∧
      (∀ a_16 : Nat, x_15 = some a_16 →
        False))))))
set_option maxHeartbeats 4000000 in
theorem tm_J27_poll {G : g_G} {l : Launch} {μ : HM} {b : Nat} {P : Option Nat → HM → Prop} (h : wc_J27_poll (g_ad G) μ b P) : CM G l yJ27_poll cJ27_poll 6 (Option.some (Jvm.ClassFile.FieldType.object "java/lang/Object")) 4 0 0 [.ref b] μ (hR4 P) := by
  unfold wc_J27_poll at h
  refine wm_of (lvs := [(0, va_rf (some b))]) (by decide) (Nat.le_of_ble_eq_true rfl) rfl (fun fr ws hM1 => ?_)
  show WW G l cJ27_poll RJ27 6 (Option.some (Jvm.ClassFile.FieldType.object "java/lang/Object")) "poll" 4 0 0 (hMR G (hR4 P)) (fun u => [u.1, fr]) 0 0 [ws, fr] 0 [(0, va_rf (some b))] []
  refine ww_aloadQ_n dJ27_poll_0 0 rfl ?_
  obtain ⟨x_1, hx, h⟩ := h
  refine wm_getQ hM1 rfl in_J27 (ci := 24) rfl (by decide) 0 (Nat.le_of_ble_eq_true rfl) hx (fun _ _ => rfl) q1912 (fun _ _ h => h) dJ27_poll_1 ?_
  refine ww_dup dJ27_poll_4 (rf_cat _) ?_
  refine ww_astoreQ_n (i := 1) (lv2 := [(1, va_rf x_1), (0, va_rf (some b))]) dJ27_poll_5 rfl (Nat.le_of_ble_eq_true rfl) rfl ?_
  refine ww_iconst dJ27_poll_6 ?_
  obtain ⟨a_2, ea_2, h⟩ := h
  subst ea_2
  obtain ⟨x_3, hx, h⟩ := h
  refine wm_aald hM1 rfl (by decide) hx dJ27_poll_7 ?_
  refine ww_dup dJ27_poll_8 (rf_cat _) ?_
  refine ww_astoreQ_n (i := 2) (lv2 := [(2, va_rf x_3), (1, va_rf (some a_2)), (0, va_rf (some b))]) dJ27_poll_9 rfl (Nat.le_of_ble_eq_true rfl) rfl ?_
  obtain ⟨J79, hJ79, h⟩ := h
  have kJ79 : ∀ (μ79 : HM), J79 μ79 → ∀ ws : va_W, Mrep G ws μ79 → WW G l cJ27_poll RJ27 6 (Option.some (Jvm.ClassFile.FieldType.object "java/lang/Object")) "poll" 4 0 0 (hMR G (hR4 P)) (fun u => [u.1, fr]) 0 0 [ws, fr] 79 [(2, va_rf x_3)] [] := by
    clear h
    intro μ79 hj ws hM2
    have h := hJ79 μ79 hj
    refine ww_aloadQ_n dJ27_poll_79 0 rfl ?_
    exact ww_aret (ws, μ79) rfl (by first | exact Or.inl ⟨_, rfl⟩ | exact Or.inr ⟨_, rfl⟩) (rf_or _) ⟨hM2, ⟨_, rfl, h⟩⟩ rfl (Nat.le_refl _) (Nat.le_refl _) dJ27_poll_80
  refine ww_ifnullQ (tgt := 79) dJ27_poll_10 (by decide) (fun c => ?_) (fun a_4 c => ?_)
  · replace h := h.1 c
    subst c
    refine ww_lv [0] rfl ?_
    exact kJ79 _ h _ hM1
  · replace h := h.2 a_4 c
    subst c
    refine ww_aloadQ_n dJ27_poll_13 2 rfl ?_
    refine ww_dup dJ27_poll_14 (rf_cat _) ?_
    obtain ⟨x_5, hx, h⟩ := h
    refine wm_getI hM1 rfl in_J27 (ci := 24) rfl (by decide) 3 (Nat.le_of_ble_eq_true rfl) hx (fun _ _ => rfl) q1915 (fun _ _ h => h) dJ27_poll_15 ?_
    refine ww_iconst dJ27_poll_18 ?_
    refine ww_iadd dJ27_poll_19 ?_
    obtain ⟨fi_6, fq_7, hc, h⟩ := h
    refine wm_putI hM1 rfl in_J27 tyJ27_ok nmJ27 (ci := 24) rfl 3 (Nat.le_of_ble_eq_true rfl) hc (fun _ _ => rfl) (fun _ _ => Nat.le_of_ble_eq_true rfl) q1915 (fun _ _ h => h) rfl rfl rfl dJ27_poll_20 (fun ws hM3 => ?_)
    refine ww_aloadQ_n dJ27_poll_23 1 rfl ?_
    refine ww_aloadQ_n dJ27_poll_24 2 rfl ?_
    refine ww_dup dJ27_poll_25 (rf_cat _) ?_
    obtain ⟨x_8, hx, h⟩ := h
    refine wm_getI hM3 rfl in_J27 (ci := 24) rfl (by decide) 1 (Nat.le_of_ble_eq_true rfl) hx (fun _ _ => rfl) q1913 (fun _ _ h => h) dJ27_poll_26 ?_
    refine ww_iconst dJ27_poll_29 ?_
    refine ww_isub dJ27_poll_30 ?_
    refine ww_dup_x1 dJ27_poll_31 rfl (rf_cat _) ?_
    obtain ⟨fi_9, fq_10, hc, h⟩ := h
    refine wm_putI hM3 rfl in_J27 tyJ27_ok nmJ27 (ci := 24) rfl 1 (Nat.le_of_ble_eq_true rfl) hc (fun _ _ => rfl) (fun _ _ => Nat.le_of_ble_eq_true rfl) q1913 (fun _ _ h => h) rfl rfl rfl dJ27_poll_32 (fun ws hM4 => ?_)
    refine ww_dup dJ27_poll_35 rfl ?_
    refine ww_istore_n (i := 3) (lv2 := [(3, vI (x_8 - 1)), (2, va_rf (some a_4)), (1, va_rf (some a_2)), (0, va_rf (some b))]) dJ27_poll_36 rfl (Nat.le_of_ble_eq_true rfl) rfl ?_
    obtain ⟨x_11, hx, h⟩ := h
    refine wm_aald hM4 rfl (by decide) hx dJ27_poll_37 ?_
    refine ww_astoreQ (i := 4) (lv2 := [(4, va_rf x_11), (3, vI (x_8 - 1)), (2, va_rf (some a_4)), (1, va_rf (some a_2)), (0, va_rf (some b))]) dJ27_poll_38 (Nat.le_of_ble_eq_true rfl) rfl ?_
    refine ww_aloadQ_n dJ27_poll_40 3 rfl ?_
    refine ww_iload_n dJ27_poll_41 1 rfl ?_
    refine ww_nullQ dJ27_poll_42 ?_
    obtain ⟨n_12, f_13, hc, hi, h⟩ := h
    refine wm_aastN 4 rfl hM4 rfl hc hi.1 hi.2.1 hi.2.2 dJ27_poll_43 (fun ws hM5 => ?_)
    refine ww_iload_n dJ27_poll_44 1 rfl ?_
    obtain ⟨r_14, h⟩ := h
    refine ww_if_le (tgt := 79) dJ27_poll_45 (by decide) r_14 (fun c => ?_) (fun c => ?_)
    · replace h := h.1 c
      refine ww_lv [2] rfl ?_
      exact kJ79 _ h _ hM5
    · replace h := h.2 (Int.not_le.mp c)
      refine ww_aloadQ_n dJ27_poll_48 4 rfl ?_
      obtain ⟨x_15, hx, h⟩ := h
      refine wm_getQ hM5 rfl in_J27 (ci := 24) rfl (by decide) 2 (Nat.le_of_ble_eq_true rfl) hx (fun _ _ => rfl) q1914 (fun _ _ h => h) dJ27_poll_49 ?_
      refine ww_dup dJ27_poll_52 (rf_cat _) ?_
      refine ww_astoreQ (i := 5) (lv2 := [(5, va_rf x_15), (4, va_rf x_11), (3, vI (x_8 - 1)), (2, va_rf (some a_4)), (1, va_rf (some a_2)), (0, va_rf (some b))]) dJ27_poll_53 (Nat.le_of_ble_eq_true rfl) (by simp [rf_cat, vI_cat, vL_cat, ref_cat]) ?_
      refine ww_ifnonnullQ (tgt := 69) dJ27_poll_55 (by decide) (fun a_16 c => ?_) (fun c => ?_)
      · replace h := h.2 a_16 c
        subst c
        refine ww_iconst dJ27_poll_69 ?_
        refine ww_aloadQ dJ27_poll_70 1 rfl ?_
        refine ww_aloadQ_n dJ27_poll_72 4 rfl ?_
        refine ww_iload_n dJ27_poll_73 2 rfl ?_
        refine ww_aloadQ dJ27_poll_74 0 rfl ?_
        exact h.elim
      · replace h := h.1 c
        subst c
        refine ww_iconst dJ27_poll_58 ?_
        refine ww_aloadQ dJ27_poll_59 1 rfl ?_
        refine ww_aloadQ_n dJ27_poll_61 4 rfl ?_
        refine ww_iload_n dJ27_poll_62 2 rfl ?_
        refine wm_callS (n := 4) hM5 (tm_J27_siftDownComparable h) (lw_S q1986 q1987 q157 q1988) ⟨by decide, by decide, by decide +kernel⟩ rfl ⟨Nat.le_of_ble_eq_true rfl, Nat.le_of_ble_eq_true rfl⟩ rfl (Nat.le_of_ble_eq_true rfl) dJ27_poll_63 ⟨Nat.le_refl _, Nat.le_refl _⟩ ?_
        clear h
        rintro _ μ_17 ws ⟨rfl, h⟩ hM6
        refine ww_st0 ?_
        refine ww_goto (tgt := 79) dJ27_poll_66 (by decide) ?_
        refine ww_lv [3] rfl ?_
        exact kJ79 _ h _ hM6
/-! J26_remove: java/util/AbstractQueue remove ()Ljava/lang/Object;; flags (True, False, False), depth 5 -/
def wc_J26_remove (ad : Nat → Nat) (μ : HM) (b : Nat) (P : Option Nat → HM → Prop) : Prop :=
  gC μ b = some 24 ∧
  wc_J27_poll ad μ b (fun y_1 μ_3 =>
    ((y_1 = none →
      False) ∧
    (∀ a_4 : Nat, y_1 = some a_4 →
      P (some a_4) μ_3)))
set_option maxHeartbeats 4000000 in
theorem tm_J26_remove {G : g_G} {l : Launch} {μ : HM} {b : Nat} {P : Option Nat → HM → Prop} (hGY : g_YQ G) (h : wc_J26_remove (g_ad G) μ b P) : CM G l yJ26_remove cJ26_remove 2 (Option.some (Jvm.ClassFile.FieldType.object "java/lang/Object")) 5 0 0 [.ref b] μ (hR4 P) := by
  unfold wc_J26_remove at h
  refine wm_of (lvs := [(0, va_rf (some b))]) (by decide) (Nat.le_of_ble_eq_true rfl) rfl (fun fr ws hM1 => ?_)
  show WW G l cJ26_remove RJ26 2 (Option.some (Jvm.ClassFile.FieldType.object "java/lang/Object")) "remove" 5 0 0 (hMR G (hR4 P)) (fun u => [u.1, fr]) 0 0 [ws, fr] 0 [(0, va_rf (some b))] []
  refine ww_aloadQ_n dJ26_remove_0 0 rfl ?_
  obtain ⟨hg, h⟩ := h
  refine wm_callPQ hGY rfl hM1 (tm_J27_poll h) rfl hg ⟨Nat.le_of_ble_eq_true rfl, Nat.le_of_ble_eq_true rfl⟩ rfl (Nat.le_of_ble_eq_true rfl) dJ26_remove_1 ⟨Nat.le_refl _, Nat.le_refl _⟩ ?_
  clear h
  rintro _ μ_3 ws ⟨y_1, rfl, h⟩ hM2
  refine ww_st1 ?_
  refine ww_astoreQ_n (i := 1) (lv2 := [(1, va_rf y_1), (0, va_rf (some b))]) dJ26_remove_4 rfl (Nat.le_of_ble_eq_true rfl) rfl ?_
  refine ww_aloadQ_n dJ26_remove_5 0 rfl ?_
  refine ww_ifnullQ (tgt := 11) dJ26_remove_6 (by decide) (fun c => ?_) (fun a_4 c => ?_)
  · replace h := h.1 c
    subst c
    exact h.elim
  · replace h := h.2 a_4 c
    subst c
    refine ww_aloadQ_n dJ26_remove_9 0 rfl ?_
    exact ww_aret (ws, μ_3) rfl (by first | exact Or.inl ⟨_, rfl⟩ | exact Or.inr ⟨_, rfl⟩) (rf_or _) ⟨hM2, ⟨_, rfl, h⟩⟩ rfl (Nat.le_refl _) (Nat.le_refl _) dJ26_remove_10
/-! J27_grow: java/util/PriorityQueue grow (I)V; flags (True, True, False), depth 3 -/
def wc_J27_grow (ad : Nat → Nat) (mc ms : Nat) (μ : HM) (b : Nat) (a1 : Int) (P : HM → Prop) : Prop :=
  ∃ x_1 : Option Nat, gQ μ b 24 0 = some x_1 ∧
  ∃ a_2 : Nat, x_1 = some a_2 ∧
  ∃ n_3 : Nat, gL μ a_2 = some n_3 ∧
  rI (n_3 : Int) ∧
  ∃ J25 : Int → Prop, (∀ (s2_25 : Int), J25 s2_25 →
    wc_J9_newLength ad μ (n_3 : Int) (a1 - (n_3 : Int)) s2_25 (fun y_5 =>
      ∃ x_7 : Option Nat, gQ μ b 24 0 = some x_7 ∧
      ∃ c_8 s_9 : Nat, (0 + c_8 ≤ mc ∧ 0 + s_9 ≤ ms) ∧
      wc_J11_copyOf_2 ad c_8 s_9 μ x_7 y_5 (fun y_11 μ_13 =>
        ∃ (fi_14 : Nat → Int) (fq_15 : Nat → Option Nat), μ_13 b = some (hO 24 fi_14 fq_15) ∧ 
        P (hs μ_13 b (hO 24 fi_14 (upF fq_15 0 y_11)))))) ∧
  ((64 ≤ (n_3 : Int) →
    J25 (bR (n_3 : Int) 1)) ∧
  ((n_3 : Int) < 64 →
    J25 ((n_3 : Int) + 2)))
set_option maxHeartbeats 4000000 in
theorem tm_J27_grow {G : g_G} {l : Launch} {mc ms : Nat} {μ : HM} {b : Nat} {a1 : Int} {P : HM → Prop} (h : wc_J27_grow (g_ad G) mc ms μ b a1 P) : CM G l yJ27_grow cJ27_grow 4 (Option.none : Option Jvm.ClassFile.FieldType) 3 mc ms [.ref b, vI a1] μ (hR0 P) := by
  unfold wc_J27_grow at h
  refine wm_of (lvs := [(0, va_rf (some b)), (1, vI a1)]) (by decide) (Nat.le_of_ble_eq_true rfl) rfl (fun fr ws hM1 => ?_)
  show WW G l cJ27_grow RJ27 4 (Option.none : Option Jvm.ClassFile.FieldType) "grow" 3 mc ms (hMR G (hR0 P)) (fun u => [u.1, fr]) 0 0 [ws, fr] 0 [(0, va_rf (some b)), (1, vI a1)] []
  have hB : 0 ≤ mc ∧ 0 ≤ ms := ⟨Nat.zero_le _, Nat.zero_le _⟩
  refine ww_aloadQ_n dJ27_grow_0 0 rfl ?_
  obtain ⟨x_1, hx, h⟩ := h
  refine wm_getQ hM1 rfl in_J27 (ci := 24) rfl (by decide) 0 (Nat.le_of_ble_eq_true rfl) hx (fun _ _ => rfl) q1912 (fun _ _ h => h) dJ27_grow_1 ?_
  obtain ⟨a_2, ea_2, h⟩ := h
  subst ea_2
  obtain ⟨n_3, hn, h⟩ := h
  refine wm_alen hM1 rfl hn dJ27_grow_4 ?_
  refine ww_istore_n (i := 2) (lv2 := [(2, vI (n_3 : Int)), (0, va_rf (some b)), (1, vI a1)]) dJ27_grow_5 rfl (Nat.le_of_ble_eq_true rfl) rfl ?_
  refine ww_iload_n dJ27_grow_6 0 rfl ?_
  refine ww_iload_n dJ27_grow_7 2 rfl ?_
  refine ww_iload_n dJ27_grow_8 0 rfl ?_
  refine ww_isub dJ27_grow_9 ?_
  refine ww_iload_n dJ27_grow_10 0 rfl ?_
  refine ww_bipush (v := 64) dJ27_grow_11 rfl ?_
  obtain ⟨r_4, h⟩ := h
  obtain ⟨J25, hJ25, h⟩ := h
  have kJ25 : ∀ (s2_25 : Int), J25 s2_25 → ∀ ws : va_W, Mrep G ws μ → (0 ≤ mc ∧ 0 ≤ ms) → WW G l cJ27_grow RJ27 4 (Option.none : Option Jvm.ClassFile.FieldType) "grow" 3 mc ms (hMR G (hR0 P)) (fun u => [u.1, fr]) 0 0 [ws, fr] 25 [(0, va_rf (some b))] [vI s2_25, vI (a1 - (n_3 : Int)), vI (n_3 : Int)] := by
    clear h
    intro s2_25 hj ws hM2 hB
    have h := hJ25 s2_25 hj
    refine wm_callS (n := 3) hM2 (tm_J9_newLength h) (lw_S q1958 q463 q123 q464) ⟨by decide, by decide, by decide +kernel⟩ rfl ⟨Nat.le_of_ble_eq_true rfl, Nat.le_of_ble_eq_true rfl⟩ rfl (Nat.le_of_ble_eq_true rfl) dJ27_grow_25 hB ?_
    clear h
    rintro _ _ ws ⟨rfl, y_5, rfl, h⟩ hM3
    refine ww_st1 ?_
    refine ww_istore_n (i := 3) (lv2 := [(3, vI y_5), (0, va_rf (some b))]) dJ27_grow_28 rfl (Nat.le_of_ble_eq_true rfl) rfl ?_
    refine ww_aloadQ_n dJ27_grow_29 1 rfl ?_
    refine ww_aloadQ_n dJ27_grow_30 1 rfl ?_
    obtain ⟨x_7, hx, h⟩ := h
    refine wm_getQ hM3 rfl in_J27 (ci := 24) rfl (by decide) 0 (Nat.le_of_ble_eq_true rfl) hx (fun _ _ => rfl) q1912 (fun _ _ h => h) dJ27_grow_31 ?_
    refine ww_iload_n dJ27_grow_34 0 rfl ?_
    obtain ⟨c_8, s_9, b_10, h⟩ := h
    refine wm_callS (n := 2) hM3 (tm_J11_copyOf_2 h) (lw_S q1959 q1193 q125 q1194) ⟨by decide, by decide, by decide +kernel⟩ rfl ⟨Nat.le_of_ble_eq_true rfl, Nat.le_of_ble_eq_true rfl⟩ rfl (by simp only [List.map_cons, List.map_nil, rf_cat, vI_cat, vL_cat, List.sum_cons, List.sum_nil]; decide) dJ27_grow_35 b_10 ?_
    clear h
    rintro _ μ_13 ws ⟨y_11, rfl, h⟩ hM4
    have hB := b_10
    refine ww_st1 ?_
    obtain ⟨fi_14, fq_15, hc, h⟩ := h
    refine wm_putQ hM4 rfl in_J27 tyJ27_ok nmJ27 (ci := 24) rfl 0 (Nat.le_of_ble_eq_true rfl) hc (fun _ _ => rfl) (fun _ _ => Nat.le_of_ble_eq_true rfl) q1912 (fun _ _ h => h) rfl (narrow_rf rfl _) (fits_rf rfl _) dJ27_grow_38 (fun ws hM5 => ?_)
    exact ww_vret (ws, (hs μ_13 b (hO 24 fi_14 (upF fq_15 0 y_11)))) rfl ⟨hM5, ⟨rfl, h⟩⟩ rfl hB.1 hB.2 dJ27_grow_41
  refine ww_icmp_ge (tgt := 22) dJ27_grow_13 (by decide) r_4 (by decide) (fun c => ?_) (fun c => ?_)
  · replace h := h.1 c
    refine ww_iload_n dJ27_grow_22 0 rfl ?_
    refine ww_iconst dJ27_grow_23 ?_
    refine ww_ishr dJ27_grow_24 ?_
    refine ww_lv [1] rfl ?_
    exact kJ25 _ h _ hM1 hB
  · replace h := h.2 (Int.not_le.mp c)
    refine ww_iload_n dJ27_grow_16 0 rfl ?_
    refine ww_iconst dJ27_grow_17 ?_
    refine ww_iadd dJ27_grow_18 ?_
    refine ww_goto (tgt := 25) dJ27_grow_19 (by decide) ?_
    refine ww_lv [1] rfl ?_
    exact kJ25 _ h _ hM1 hB
/-! J27_siftUpComparable: java/util/PriorityQueue siftUpComparable (ILjava/lang/Object;[Ljava/lang/Object;)V; flags (True, False, False), depth 3 -/
def wc_J27_siftUpComparable (ad : Nat → Nat) (μ : HM) (a1 : Int) (o2 : Option Nat) (o3 : Option Nat) (P : HM → Prop) : Prop :=
  (∀ z : Nat, o2 = some z → ∃ ci, gC μ z = some ci ∧ (ci = 7 ∨ ci = 8 ∨ ci = 9 ∨ ci = 17 ∨ ci = 21 ∨ ci = 22)) ∧
  ∃ I5 : Nat → Int → HM → Prop, (∀ (n5 : Nat) (v0_5 : Int) (μ5 : HM), I5 n5 v0_5 μ5 →
    rI v0_5 ∧
    ∃ J47 : Prop, (J47 →
      ∃ a_2 : Nat, o3 = some a_2 ∧
      ∃ a_5 : Nat, o2 = some a_5 ∧
      ∃ (n_3 : Nat) (f_4 : Int → Option Nat), μ5 a_2 = some (hQ 4 n_3 f_4) ∧ hst μ5 4 a_5 ∧ ((0 : Int) ≤ v0_5 ∧ v0_5 < (n_3 : Int) ∧ (n_3 : Int) < 2147483648) ∧
      P (hs μ5 a_2 (hQ 4 n_3 (updI f_4 v0_5 (some a_5))))) ∧
    ((v0_5 ≤ 0 →
      J47) ∧
    (0 < v0_5 →
      ∀ x_6 : Int, x_6 = bU (v0_5 - 1) 1 →
      ∃ a_7 : Nat, o3 = some a_7 ∧
      ∃ x_8 : Option Nat, gR μ5 a_7 4 x_6 = some x_8 ∧
      ∃ a_9 : Nat, o2 = some a_9 ∧
      gC μ5 a_9 = some 17 ∧
      wc_X20_compareTo ad μ5 a_9 x_8 (fun y_10 =>
        rI y_10 ∧
        ((y_10 < 0 →
          ∃ a_15 : Nat, x_8 = some a_15 ∧
          ∃ (n_13 : Nat) (f_14 : Int → Option Nat), μ5 a_7 = some (hQ 4 n_13 f_14) ∧ hst μ5 4 a_15 ∧ ((0 : Int) ≤ v0_5 ∧ v0_5 < (n_13 : Int) ∧ (n_13 : Int) < 2147483648) ∧
          ∃ m : Nat, m < n5 ∧ I5 m x_6 (hs μ5 a_7 (hQ 4 n_13 (updI f_14 v0_5 (some a_15))))) ∧
        (0 ≤ y_10 →
          J47)))))) ∧
  ∃ m : Nat, I5 m a1 μ
set_option maxHeartbeats 4000000 in
theorem tm_J27_siftUpComparable {G : g_G} {l : Launch} {μ : HM} {a1 : Int} {o2 : Option Nat} {o3 : Option Nat} {P : HM → Prop} (h : wc_J27_siftUpComparable (g_ad G) μ a1 o2 o3 P) : CM G l yJ27_siftUpComparable cJ27_siftUpComparable 6 (Option.none : Option Jvm.ClassFile.FieldType) 3 0 0 [vI a1, va_rf o2, va_rf o3] μ (hR0 P) := by
  unfold wc_J27_siftUpComparable at h
  refine wm_of (lvs := [(0, vI a1), (1, va_rf o2), (2, va_rf o3)]) (by decide) (by simp [lg_sl, rf_cat, vI_cat, vL_cat, ref_cat]) (by simp [lv_args, rf_cat, vI_cat, vL_cat, ref_cat, rf_some]) (fun fr ws hM1 => ?_)
  show WW G l cJ27_siftUpComparable RJ27 6 (Option.none : Option Jvm.ClassFile.FieldType) "siftUpComparable" 3 0 0 (hMR G (hR0 P)) (fun u => [u.1, fr]) 0 0 [ws, fr] 0 [(0, vI a1), (1, va_rf o2), (2, va_rf o3)] []
  refine ww_aloadQ_n dJ27_siftUpComparable_0 1 rfl ?_
  obtain ⟨hc, h⟩ := h
  refine wm_cast hM1 hc cast_2 q1972 dJ27_siftUpComparable_1 ?_
  refine ww_astoreQ_n (i := 3) (lv2 := [(3, va_rf o2), (0, vI a1), (1, va_rf o2), (2, va_rf o3)]) dJ27_siftUpComparable_4 rfl (Nat.le_of_ble_eq_true rfl) (by simp [rf_cat, vI_cat, vL_cat, ref_cat]) ?_
  obtain ⟨I5, hI5, h⟩ := h
  have kI5 : ∀ (n5 : Nat), ∀ (v0_5 : Int), ∀ (μ5 : HM), I5 n5 v0_5 μ5 → ∀ ws : va_W, Mrep G ws μ5 → WW G l cJ27_siftUpComparable RJ27 6 (Option.none : Option Jvm.ClassFile.FieldType) "siftUpComparable" 3 0 0 (hMR G (hR0 P)) (fun u => [u.1, fr]) 0 0 [ws, fr] 5 [(0, vI v0_5), (2, va_rf o3), (3, va_rf o2)] [] := by
    clear h
    intro n5
    induction n5 using Nat.strongRecOn with
    | ind n5 ih5 =>
      intro v0_5 μ5 hj ws hM2
      have h := hI5 n5 v0_5 μ5 hj
      refine ww_iload_n dJ27_siftUpComparable_5 0 rfl ?_
      obtain ⟨r_1, h⟩ := h
      obtain ⟨J47, hJ47, h⟩ := h
      have kJ47 : J47 → ∀ ws : va_W, Mrep G ws μ5 → WW G l cJ27_siftUpComparable RJ27 6 (Option.none : Option Jvm.ClassFile.FieldType) "siftUpComparable" 3 0 0 (hMR G (hR0 P)) (fun u => [u.1, fr]) 0 0 [ws, fr] 47 [(0, vI v0_5), (2, va_rf o3), (3, va_rf o2)] [] := by
        clear h
        intro hj ws hM3
        have h := hJ47 hj
        refine ww_aloadQ_n dJ27_siftUpComparable_47 1 rfl ?_
        refine ww_iload_n dJ27_siftUpComparable_48 0 rfl ?_
        refine ww_aloadQ_n dJ27_siftUpComparable_49 2 rfl ?_
        obtain ⟨a_2, ea_2, h⟩ := h
        subst ea_2
        obtain ⟨a_5, ea_5, h⟩ := h
        subst ea_5
        obtain ⟨n_3, f_4, hc, hx, hi, h⟩ := h
        refine wm_aast hM3 rfl rfl hc hx hi.1 hi.2.1 hi.2.2 dJ27_siftUpComparable_50 (fun ws hM4 => ?_)
        exact ww_vret (ws, (hs μ5 a_2 (hQ 4 n_3 (updI f_4 v0_5 (some a_5))))) rfl ⟨hM4, ⟨rfl, h⟩⟩ rfl (Nat.le_refl _) (Nat.le_refl _) dJ27_siftUpComparable_51
      refine ww_if_le (tgt := 47) dJ27_siftUpComparable_6 (by decide) r_1 (fun c => ?_) (fun c => ?_)
      · replace h := h.1 c
        exact kJ47 h _ hM2
      · replace h := h.2 (Int.not_le.mp c)
        refine ww_iload_n dJ27_siftUpComparable_9 0 rfl ?_
        refine ww_iconst dJ27_siftUpComparable_10 ?_
        refine ww_isub dJ27_siftUpComparable_11 ?_
        refine ww_iconst dJ27_siftUpComparable_12 ?_
        refine ww_iushr dJ27_siftUpComparable_13 ?_
        refine ww_nmI (fun x_6 ex_6 => ?_)
        replace h := h x_6 ex_6
        have rx_6 : rI x_6 := by rw [ex_6]; exact (rI_bU _ _)
        refine ww_istore (i := 4) (lv2 := [(4, vI x_6), (0, vI v0_5), (2, va_rf o3), (3, va_rf o2)]) dJ27_siftUpComparable_14 (Nat.le_of_ble_eq_true rfl) (by simp [rf_cat, vI_cat, vL_cat, ref_cat]) ?_
        refine ww_aloadQ_n dJ27_siftUpComparable_16 2 rfl ?_
        refine ww_iload dJ27_siftUpComparable_17 0 rfl ?_
        obtain ⟨a_7, ea_7, h⟩ := h
        subst ea_7
        obtain ⟨x_8, hx, h⟩ := h
        refine wm_aald hM2 rfl (by decide) hx dJ27_siftUpComparable_19 ?_
        refine ww_astoreQ (i := 5) (lv2 := [(5, va_rf x_8), (4, vI x_6), (0, vI v0_5), (2, va_rf (some a_7)), (3, va_rf o2)]) dJ27_siftUpComparable_20 (Nat.le_of_ble_eq_true rfl) rfl ?_
        refine ww_aloadQ_n dJ27_siftUpComparable_22 4 rfl ?_
        refine ww_aloadQ dJ27_siftUpComparable_23 0 rfl ?_
        obtain ⟨a_9, ea_9, h⟩ := h
        subst ea_9
        obtain ⟨hg, h⟩ := h
        refine wm_callF (n := 1) hM2 (tm_X20_compareTo h) rfl hg rfl (lw_F q1974 q1079 q1081 q158 q1083) (by decide) ⟨by decide, by decide, by decide +kernel⟩ rfl ⟨Nat.le_of_ble_eq_true rfl, Nat.le_of_ble_eq_true rfl⟩ rfl (Nat.le_of_ble_eq_true rfl) dJ27_siftUpComparable_25 ⟨Nat.le_refl _, Nat.le_refl _⟩ ?_
        clear h
        rintro _ _ ws ⟨rfl, y_10, rfl, h⟩ hM5
        refine ww_st1 ?_
        obtain ⟨r_12, h⟩ := h
        refine ww_if_lt (tgt := 36) dJ27_siftUpComparable_30 (by decide) r_12 (fun c => ?_) (fun c => ?_)
        · replace h := h.1 c
          refine ww_aloadQ_n dJ27_siftUpComparable_36 3 rfl ?_
          refine ww_iload_n dJ27_siftUpComparable_37 2 rfl ?_
          refine ww_aloadQ dJ27_siftUpComparable_38 0 rfl ?_
          obtain ⟨a_15, ea_15, h⟩ := h
          subst ea_15
          obtain ⟨n_13, f_14, hc, hx, hi, h⟩ := h
          refine wm_aast hM5 rfl rfl hc hx hi.1 hi.2.1 hi.2.2 dJ27_siftUpComparable_40 (fun ws hM6 => ?_)
          refine ww_iload dJ27_siftUpComparable_41 1 rfl ?_
          refine ww_istore_n (i := 0) (lv2 := [(0, vI x_6), (5, va_rf (some a_15)), (4, vI x_6), (2, va_rf (some a_7)), (3, va_rf (some a_9))]) dJ27_siftUpComparable_43 rfl (Nat.le_of_ble_eq_true rfl) rfl ?_
          refine ww_goto (tgt := 5) dJ27_siftUpComparable_44 (by decide) ?_
          refine ww_lv [0, 3, 4] rfl ?_
          obtain ⟨m, hm, h⟩ := h
          exact ih5 m hm _ _ h _ hM6
        · replace h := h.2 (Int.not_lt.mp c)
          refine ww_goto (tgt := 47) dJ27_siftUpComparable_33 (by decide) ?_
          refine ww_lv [2, 3, 4] rfl ?_
          exact kJ47 h _ hM5
  refine ww_lv [1, 3, 0] rfl ?_
  obtain ⟨m, h⟩ := h
  exact kI5 m _ _ h _ hM1
/-! J27_siftUp: java/util/PriorityQueue siftUp (ILjava/lang/Object;)V; flags (True, False, False), depth 4 -/
def wc_J27_siftUp (ad : Nat → Nat) (μ : HM) (b : Nat) (a1 : Int) (o2 : Option Nat) (P : HM → Prop) : Prop :=
  ∃ x_1 : Option Nat, gQ μ b 24 2 = some x_1 ∧
  ((x_1 = none →
    ∃ x_3 : Option Nat, gQ μ b 24 0 = some x_3 ∧
    wc_J27_siftUpComparable ad μ a1 o2 x_3 (fun μ_4 =>
      P μ_4)) ∧
  (∀ a_2 : Nat, x_1 = some a_2 →
    ∃ x_5 : Option Nat, gQ μ b 24 0 = some x_5 ∧
    ∃ x_6 : Option Nat, gQ μ b 24 2 = some x_6 ∧
    False))
set_option maxHeartbeats 4000000 in
theorem tm_J27_siftUp {G : g_G} {l : Launch} {μ : HM} {b : Nat} {a1 : Int} {o2 : Option Nat} {P : HM → Prop} (h : wc_J27_siftUp (g_ad G) μ b a1 o2 P) : CM G l yJ27_siftUp cJ27_siftUp 3 (Option.none : Option Jvm.ClassFile.FieldType) 4 0 0 [.ref b, vI a1, va_rf o2] μ (hR0 P) := by
  unfold wc_J27_siftUp at h
  refine wm_of (lvs := [(0, va_rf (some b)), (1, vI a1), (2, va_rf o2)]) (by decide) (by simp [lg_sl, rf_cat, vI_cat, vL_cat, ref_cat]) (by simp [lv_args, rf_cat, vI_cat, vL_cat, ref_cat, rf_some]) (fun fr ws hM1 => ?_)
  show WW G l cJ27_siftUp RJ27 3 (Option.none : Option Jvm.ClassFile.FieldType) "siftUp" 4 0 0 (hMR G (hR0 P)) (fun u => [u.1, fr]) 0 0 [ws, fr] 0 [(0, va_rf (some b)), (1, vI a1), (2, va_rf o2)] []
  refine ww_aloadQ_n dJ27_siftUp_0 0 rfl ?_
  obtain ⟨x_1, hx, h⟩ := h
  refine wm_getQ hM1 rfl in_J27 (ci := 24) rfl (by decide) 2 (Nat.le_of_ble_eq_true rfl) hx (fun _ _ => rfl) q1914 (fun _ _ h => h) dJ27_siftUp_1 ?_
  refine ww_ifnullQ (tgt := 23) dJ27_siftUp_4 (by decide) (fun c => ?_) (fun a_2 c => ?_)
  · replace h := h.1 c
    subst c
    refine ww_iload_n dJ27_siftUp_23 1 rfl ?_
    refine ww_aloadQ_n dJ27_siftUp_24 2 rfl ?_
    refine ww_aloadQ_n dJ27_siftUp_25 0 rfl ?_
    obtain ⟨x_3, hx, h⟩ := h
    refine wm_getQ hM1 rfl in_J27 (ci := 24) rfl (by decide) 0 (Nat.le_of_ble_eq_true rfl) hx (fun _ _ => rfl) q1912 (fun _ _ h => h) dJ27_siftUp_26 ?_
    refine wm_callS (n := 3) hM1 (tm_J27_siftUpComparable h) (lw_S q1969 q1970 q157 q1971) ⟨by decide, by decide, by decide +kernel⟩ rfl ⟨Nat.le_of_ble_eq_true rfl, Nat.le_of_ble_eq_true rfl⟩ rfl (Nat.le_of_ble_eq_true rfl) dJ27_siftUp_29 ⟨Nat.le_refl _, Nat.le_refl _⟩ ?_
    clear h
    rintro _ μ_4 ws ⟨rfl, h⟩ hM2
    refine ww_st0 ?_
    exact ww_vret (ws, μ_4) rfl ⟨hM2, ⟨rfl, h⟩⟩ rfl (Nat.le_refl _) (Nat.le_refl _) dJ27_siftUp_32
  · replace h := h.2 a_2 c
    subst c
    refine ww_iload_n dJ27_siftUp_7 1 rfl ?_
    refine ww_aloadQ_n dJ27_siftUp_8 2 rfl ?_
    refine ww_aloadQ_n dJ27_siftUp_9 0 rfl ?_
    obtain ⟨x_5, hx, h⟩ := h
    refine wm_getQ hM1 rfl in_J27 (ci := 24) rfl (by decide) 0 (Nat.le_of_ble_eq_true rfl) hx (fun _ _ => rfl) q1912 (fun _ _ h => h) dJ27_siftUp_10 ?_
    refine ww_aloadQ_n dJ27_siftUp_13 0 rfl ?_
    obtain ⟨x_6, hx, h⟩ := h
    refine wm_getQ hM1 rfl in_J27 (ci := 24) rfl (by decide) 2 (Nat.le_of_ble_eq_true rfl) hx (fun _ _ => rfl) q1914 (fun _ _ h => h) dJ27_siftUp_14 ?_
    exact h.elim
/-! J27_offer: java/util/PriorityQueue offer (Ljava/lang/Object;)Z; flags (True, True, False), depth 5 -/
def wc_J27_offer (ad : Nat → Nat) (mc ms : Nat) (μ : HM) (b : Nat) (o1 : Option Nat) (P : Int → HM → Prop) : Prop :=
  ((o1 = none →
    False) ∧
  (∀ a_1 : Nat, o1 = some a_1 →
    ∃ x_2 : Int, gI μ b 24 3 = some x_2 ∧
    ∃ (fi_3 : Nat → Int) (fq_4 : Nat → Option Nat), μ b = some (hO 24 fi_3 fq_4) ∧ 
    ∃ x_5 : Int, gI (hs μ b (hO 24 (upF fi_3 3 (x_2 + 1)) fq_4)) b 24 1 = some x_5 ∧
    ∃ x_6 : Option Nat, gQ (hs μ b (hO 24 (upF fi_3 3 (x_2 + 1)) fq_4)) b 24 0 = some x_6 ∧
    ∃ a_7 : Nat, x_6 = some a_7 ∧
    ∃ n_8 : Nat, gL (hs μ b (hO 24 (upF fi_3 3 (x_2 + 1)) fq_4)) a_7 = some n_8 ∧
    rI x_5 ∧
    rI (n_8 : Int) ∧
    ∃ J43 : HM → Nat → Nat → Prop, (∀ (μ43 : HM) (uc43 : Nat) (us43 : Nat), J43 μ43 uc43 us43 →
      gC μ43 b = some 24 ∧
      wc_J27_siftUp ad μ43 b x_5 (some a_1) (fun μ_11 =>
        ∃ (fi_12 : Nat → Int) (fq_13 : Nat → Option Nat), μ_11 b = some (hO 24 fi_12 fq_13) ∧ 
        P 1 (hs μ_11 b (hO 24 (upF fi_12 1 (x_5 + 1)) fq_13)))) ∧
    ((x_5 < (n_8 : Int) →
      J43 (hs μ b (hO 24 (upF fi_3 3 (x_2 + 1)) fq_4)) 0 0) ∧
    ((n_8 : Int) ≤ x_5 →
      gC (hs μ b (hO 24 (upF fi_3 3 (x_2 + 1)) fq_4)) b = some 24 ∧
      ∃ c_14 s_15 : Nat, (0 + c_14 ≤ mc ∧ 0 + s_15 ≤ ms) ∧
      wc_J27_grow ad c_14 s_15 (hs μ b (hO 24 (upF fi_3 3 (x_2 + 1)) fq_4)) b (x_5 + 1) (fun μ_17 =>
        J43 μ_17 (0 + c_14) (0 + s_15))))))
set_option maxHeartbeats 4000000 in
theorem tm_J27_offer {G : g_G} {l : Launch} {mc ms : Nat} {μ : HM} {b : Nat} {o1 : Option Nat} {P : Int → HM → Prop} (h : wc_J27_offer (g_ad G) mc ms μ b o1 P) : CM G l yJ27_offer cJ27_offer 3 (Option.some Jvm.ClassFile.FieldType.boolean) 5 mc ms [.ref b, va_rf o1] μ (hR2 P) := by
  unfold wc_J27_offer at h
  refine wm_of (lvs := [(0, va_rf (some b)), (1, va_rf o1)]) (by decide) (by simp [lg_sl, rf_cat, vI_cat, vL_cat, ref_cat]) (by simp [lv_args, rf_cat, vI_cat, vL_cat, ref_cat, rf_some]) (fun fr ws hM1 => ?_)
  show WW G l cJ27_offer RJ27 3 (Option.some Jvm.ClassFile.FieldType.boolean) "offer" 5 mc ms (hMR G (hR2 P)) (fun u => [u.1, fr]) 0 0 [ws, fr] 0 [(0, va_rf (some b)), (1, va_rf o1)] []
  have hB : 0 ≤ mc ∧ 0 ≤ ms := ⟨Nat.zero_le _, Nat.zero_le _⟩
  refine ww_aloadQ_n dJ27_offer_0 1 rfl ?_
  refine ww_ifnonnullQ (tgt := 12) dJ27_offer_1 (by decide) (fun a_1 c => ?_) (fun c => ?_)
  · replace h := h.2 a_1 c
    subst c
    refine ww_aloadQ_n dJ27_offer_12 0 rfl ?_
    refine ww_dup dJ27_offer_13 (rf_cat _) ?_
    obtain ⟨x_2, hx, h⟩ := h
    refine wm_getI hM1 rfl in_J27 (ci := 24) rfl (by decide) 3 (Nat.le_of_ble_eq_true rfl) hx (fun _ _ => rfl) q1915 (fun _ _ h => h) dJ27_offer_14 ?_
    refine ww_iconst dJ27_offer_17 ?_
    refine ww_iadd dJ27_offer_18 ?_
    obtain ⟨fi_3, fq_4, hc, h⟩ := h
    refine wm_putI hM1 rfl in_J27 tyJ27_ok nmJ27 (ci := 24) rfl 3 (Nat.le_of_ble_eq_true rfl) hc (fun _ _ => rfl) (fun _ _ => Nat.le_of_ble_eq_true rfl) q1915 (fun _ _ h => h) rfl rfl rfl dJ27_offer_19 (fun ws hM2 => ?_)
    refine ww_aloadQ_n dJ27_offer_22 0 rfl ?_
    obtain ⟨x_5, hx, h⟩ := h
    refine wm_getI hM2 rfl in_J27 (ci := 24) rfl (by decide) 1 (Nat.le_of_ble_eq_true rfl) hx (fun _ _ => rfl) q1913 (fun _ _ h => h) dJ27_offer_23 ?_
    refine ww_istore_n (i := 2) (lv2 := [(2, vI x_5), (0, va_rf (some b)), (1, va_rf (some a_1))]) dJ27_offer_26 rfl (Nat.le_of_ble_eq_true rfl) rfl ?_
    refine ww_iload_n dJ27_offer_27 0 rfl ?_
    refine ww_aloadQ_n dJ27_offer_28 1 rfl ?_
    obtain ⟨x_6, hx, h⟩ := h
    refine wm_getQ hM2 rfl in_J27 (ci := 24) rfl (by decide) 0 (Nat.le_of_ble_eq_true rfl) hx (fun _ _ => rfl) q1912 (fun _ _ h => h) dJ27_offer_29 ?_
    obtain ⟨a_7, ea_7, h⟩ := h
    subst ea_7
    obtain ⟨n_8, hn, h⟩ := h
    refine wm_alen hM2 rfl hn dJ27_offer_32 ?_
    obtain ⟨r_9, r_10, h⟩ := h
    obtain ⟨J43, hJ43, h⟩ := h
    have kJ43 : ∀ (μ43 : HM), ∀ (uc43 : Nat), ∀ (us43 : Nat), J43 μ43 uc43 us43 → ∀ ws : va_W, Mrep G ws μ43 → (uc43 ≤ mc ∧ us43 ≤ ms) → WW G l cJ27_offer RJ27 3 (Option.some Jvm.ClassFile.FieldType.boolean) "offer" 5 mc ms (hMR G (hR2 P)) (fun u => [u.1, fr]) uc43 us43 [ws, fr] 43 [(0, va_rf (some b)), (1, va_rf (some a_1)), (2, vI x_5)] [] := by
      clear h
      intro μ43 uc43 us43 hj ws hM3 hB
      have h := hJ43 μ43 uc43 us43 hj
      refine ww_aloadQ_n dJ27_offer_43 0 rfl ?_
      refine ww_iload_n dJ27_offer_44 2 rfl ?_
      refine ww_aloadQ_n dJ27_offer_45 1 rfl ?_
      obtain ⟨hg, h⟩ := h
      refine wm_callV (n := 2) hM3 (tm_J27_siftUp h) rfl hg rfl (lw_V q1960 q1962 qs47 q157 q1963) ⟨by decide, by decide, by decide +kernel⟩ rfl ⟨Nat.le_of_ble_eq_true rfl, Nat.le_of_ble_eq_true rfl⟩ rfl (Nat.le_of_ble_eq_true rfl) dJ27_offer_46 hB ?_
      clear h
      rintro _ μ_11 ws ⟨rfl, h⟩ hM4
      refine ww_st0 ?_
      refine ww_aloadQ_n dJ27_offer_49 0 rfl ?_
      refine ww_iload_n dJ27_offer_50 2 rfl ?_
      refine ww_iconst dJ27_offer_51 ?_
      refine ww_iadd dJ27_offer_52 ?_
      obtain ⟨fi_12, fq_13, hc, h⟩ := h
      refine wm_putI hM4 rfl in_J27 tyJ27_ok nmJ27 (ci := 24) rfl 1 (Nat.le_of_ble_eq_true rfl) hc (fun _ _ => rfl) (fun _ _ => Nat.le_of_ble_eq_true rfl) q1913 (fun _ _ h => h) rfl rfl rfl dJ27_offer_53 (fun ws hM5 => ?_)
      refine ww_iconst dJ27_offer_56 ?_
      exact ww_zret (ws, (hs μ_11 b (hO 24 (upF fi_12 1 (x_5 + 1)) fq_13))) rfl (Or.inr rfl) ⟨hM5, ⟨_, rfl, Or.inr rfl, h⟩⟩ rfl hB.1 hB.2 dJ27_offer_57
    refine ww_icmp_lt (tgt := 43) dJ27_offer_33 (by decide) r_9 r_10 (fun c => ?_) (fun c => ?_)
    · replace h := h.1 c
      refine ww_lv [1, 2, 0] rfl ?_
      exact kJ43 _ _ _ h _ hM2 hB
    · replace h := h.2 (Int.not_lt.mp c)
      refine ww_aloadQ_n dJ27_offer_36 1 rfl ?_
      refine ww_iload_n dJ27_offer_37 0 rfl ?_
      refine ww_iconst dJ27_offer_38 ?_
      refine ww_iadd dJ27_offer_39 ?_
      obtain ⟨hg, h⟩ := h
      obtain ⟨c_14, s_15, b_16, h⟩ := h
      refine wm_callV (n := 1) hM2 (tm_J27_grow h) rfl hg rfl (lw_V q1954 q1956 qs46 q157 q1957) ⟨by decide, by decide, by decide +kernel⟩ rfl ⟨Nat.le_of_ble_eq_true rfl, Nat.le_of_ble_eq_true rfl⟩ rfl (Nat.le_of_ble_eq_true rfl) dJ27_offer_40 b_16 ?_
      clear h
      rintro _ μ_17 ws ⟨rfl, h⟩ hM6
      have hB := b_16
      refine ww_st0 ?_
      refine ww_lv [1, 2, 0] rfl ?_
      exact kJ43 _ _ _ h _ hM6 hB
  · replace h := h.1 c
    subst c
    exact h.elim
