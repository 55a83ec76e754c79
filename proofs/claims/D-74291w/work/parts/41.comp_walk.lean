/-! THE COMPONENT and what it calls: weakest preconditions and walks (printed by tools/comp.py) -/
set_option maxRecDepth 100000
/-! X6_ends: HoloNet$Reader ends ()V; flags (True, True, True), depth 7 -/
def wc_X6_ends (ad : Nat → Nat) (mc ms : Nat) (μ : HM) (b : Nat) (P : HM → Prop) (X : Nat → String → HM → Prop) : Prop :=
  ∃ x_1 : Int, gI μ b 5 8 = some x_1 ∧
  gC μ b = some 5 ∧
  ∃ c_2 s_3 : Nat, (0 + c_2 ≤ mc ∧ 0 + s_3 ≤ ms) ∧
  wc_X6_must ad c_2 s_3 μ b x_1 1 (fun μ_5 =>
    gC μ_5 b = some 5 ∧
    ∃ c_9 s_10 : Nat, (0 + c_2 + c_9 ≤ mc ∧ 0 + s_3 + s_10 ≤ ms) ∧
    wc_X6_go ad c_9 s_10 μ_5 b (fun μ_12 =>
      ∃ x_13 : Option Nat, gQ μ_12 b 5 1 = some x_13 ∧
      ∃ a_15 : Nat, x_13 = some a_15 ∧
      ∃ x_14 : Int, gI μ_12 a_15 2 4 = some x_14 ∧
      ∃ (fi_16 : Nat → Int) (fq_17 : Nat → Option Nat), μ_12 a_15 = some (hO 2 fi_16 fq_17) ∧ 
      P (hs μ_12 a_15 (hO 2 (upF fi_16 4 (x_14 + 1)) fq_17)))) (fun q_6 E_7 μ_8 =>
    X q_6 E_7 μ_8)
set_option maxHeartbeats 4000000 in
theorem tm_X6_ends {G : g_G} {l : Launch} {mc ms : Nat} {μ : HM} {b : Nat} {P : HM → Prop} {X : Nat → String → HM → Prop} (h : wc_X6_ends (g_ad G) mc ms μ b P X) : CMX G l yX6_ends cX6_ends 1 (Option.none : Option Jvm.ClassFile.FieldType) 7 mc ms [.ref b] μ (hR0 P) X := by
  unfold wc_X6_ends at h
  refine wm_ofX (lvs := [(0, va_rf (some b))]) (by decide) (Nat.le_of_ble_eq_true rfl) rfl (fun fr ws hM1 => ?_)
  show WF G l cX6_ends RX6 1 (Option.none : Option Jvm.ClassFile.FieldType) "ends" 7 mc ms (gFX G (hMR G (hR0 P)) (fun u => [u.1, fr]) (hMX G X) (fun u => [u.1, fr]) mc ms []) 0 0 [ws, fr] 0 [(0, va_rf (some b))] []
  have hB : 0 ≤ mc ∧ 0 ≤ ms := ⟨Nat.zero_le _, Nat.zero_le _⟩
  refine ww_aloadQ_n dX6_ends_0 0 rfl ?_
  refine ww_aloadQ_n dX6_ends_1 0 rfl ?_
  obtain ⟨x_1, hx, h⟩ := h
  refine wm_getI hM1 rfl in_X6 (ci := 5) rfl (by decide) 8 (Nat.le_of_ble_eq_true rfl) hx (fun _ _ => rfl) q409 (fun _ _ h => h) dX6_ends_2 ?_
  refine ww_iconst dX6_ends_5 ?_
  obtain ⟨hg, h⟩ := h
  obtain ⟨c_2, s_3, b_4, h⟩ := h
  refine wm_callX (n := 2) hM1 (tm_X6_must h) rfl hg rfl (lw_V q696 q698 qs4 q118 q699) ⟨by decide, by decide, by decide +kernel⟩ rfl ⟨Nat.le_of_ble_eq_true rfl, Nat.le_of_ble_eq_true rfl⟩ rfl (Nat.le_of_ble_eq_true rfl) dX6_ends_6 b_4 ?_ ?_
  · clear h
    intro q_6 E_7 μ_8 ws h hM2
    have hB := b_4
    exact wx_out (fun _ hz => nomatch hz) (ws, μ_8) ⟨hM2, h⟩ rfl hB.1 hB.2
  · clear h
    rintro _ μ_5 ws ⟨rfl, h⟩ hM3
    have hB := b_4
    refine ww_st0 ?_
    refine ww_aloadQ_n dX6_ends_9 0 rfl ?_
    obtain ⟨hg, h⟩ := h
    obtain ⟨c_9, s_10, b_11, h⟩ := h
    refine wm_callV (n := 0) hM3 (tm_X6_go h) rfl hg rfl (lw_V q439 q441 qs0 q118 q442) ⟨by decide, by decide, by decide +kernel⟩ rfl ⟨Nat.le_of_ble_eq_true rfl, Nat.le_of_ble_eq_true rfl⟩ rfl (Nat.le_of_ble_eq_true rfl) dX6_ends_10 b_11 ?_
    clear h
    rintro _ μ_12 ws ⟨rfl, h⟩ hM4
    have hB := b_11
    refine ww_st0 ?_
    refine ww_aloadQ_n dX6_ends_13 0 rfl ?_
    obtain ⟨x_13, hx, h⟩ := h
    refine wm_getQ hM4 rfl in_X6 (ci := 5) rfl (by decide) 1 (Nat.le_of_ble_eq_true rfl) hx (fun _ _ => rfl) q400 (fun _ _ h => h) dX6_ends_14 ?_
    refine ww_dup dX6_ends_17 (rf_cat _) ?_
    obtain ⟨a_15, ea_15, h⟩ := h
    subst ea_15
    obtain ⟨x_14, hx, h⟩ := h
    refine wm_getIN hM4 rfl in_X2 (ci := 2) rfl (by decide) 4 (Nat.le_of_ble_eq_true rfl) hx (fun _ _ => rfl) q271 (fun _ _ h => h) dX6_ends_18 ?_
    refine ww_iconst dX6_ends_21 ?_
    refine ww_iadd dX6_ends_22 ?_
    obtain ⟨fi_16, fq_17, hc, h⟩ := h
    refine wm_putIN hM4 rfl in_X2 tyX2_ok nmX2 (ci := 2) rfl 4 (Nat.le_of_ble_eq_true rfl) hc (fun _ _ => rfl) (fun _ _ => Nat.le_of_ble_eq_true rfl) q271 (fun _ _ h => h) rfl rfl rfl dX6_ends_23 (fun ws hM5 => ?_)
    refine wx_lift ?_
    exact ww_vret (ws, (hs μ_12 a_15 (hO 2 (upF fi_16 4 (x_14 + 1)) fq_17))) rfl ⟨hM5, ⟨rfl, h⟩⟩ rfl hB.1 hB.2 dX6_ends_26
/-! X10_init: HoloNet$Graph <init> (LHoloNet$Net;I)V; flags (True, True, False), depth 1 -/
def wc_X10_init (ad : Nat → Nat) (mc ms : Nat) (μ : HM) (b : Nat) (o1 : Option Nat) (a2 : Int) (P : HM → Prop) : Prop :=
  (0 ≤ (8 : Int) ∧ (8 : Int) < 100000 ∧ 0 ≤ (8 : Int) ∧ (8 : Int) < 100000 ∧ 0 + (1 + (8 : Int).toNat) ≤ mc ∧ 0 + ((8 : Int).toNat + (8 : Int).toNat * (8 : Int).toNat) ≤ ms) ∧ ∀ q_1 : Nat, (∀ i, i ≤ (8 : Int).toNat → μ (q_1 + i) = none) →
  ∃ (fi_3 : Nat → Int) (fq_4 : Nat → Option Nat), (hgrid μ q_1 (8 : Int).toNat (8 : Int).toNat) b = some (hO 11 fi_3 fq_4) ∧ 
  ∃ (fi_5 : Nat → Int) (fq_6 : Nat → Option Nat), (hs (hgrid μ q_1 (8 : Int).toNat (8 : Int).toNat) b (hO 11 fi_3 (upF fq_4 2 (some q_1)))) b = some (hO 11 fi_5 fq_6) ∧ 
  ∃ (fi_7 : Nat → Int) (fq_8 : Nat → Option Nat), (hs (hs (hgrid μ q_1 (8 : Int).toNat (8 : Int).toNat) b (hO 11 fi_3 (upF fq_4 2 (some q_1)))) b (hO 11 fi_5 (upF fq_6 0 o1))) b = some (hO 11 fi_7 fq_8) ∧ 
  P (hs (hs (hs (hgrid μ q_1 (8 : Int).toNat (8 : Int).toNat) b (hO 11 fi_3 (upF fq_4 2 (some q_1)))) b (hO 11 fi_5 (upF fq_6 0 o1))) b (hO 11 (upF fi_7 1 a2) fq_8))
set_option maxHeartbeats 4000000 in
theorem tm_X10_init {G : g_G} {l : Launch} {mc ms : Nat} {μ : HM} {b : Nat} {o1 : Option Nat} {a2 : Int} {P : HM → Prop} (h : wc_X10_init (g_ad G) mc ms μ b o1 a2 P) : CM G l yX10_init cX10_init 3 (Option.none : Option Jvm.ClassFile.FieldType) 1 mc ms [.ref b, va_rf o1, vI a2] μ (hR0 P) := by
  unfold wc_X10_init at h
  refine wm_of (lvs := [(0, va_rf (some b)), (1, va_rf o1), (2, vI a2)]) (by decide) (by simp [lg_sl, rf_cat, vI_cat, vL_cat, ref_cat]) (by simp [lv_args, rf_cat, vI_cat, vL_cat, ref_cat, rf_some]) (fun fr ws hM1 => ?_)
  show WW G l cX10_init RX10 3 (Option.none : Option Jvm.ClassFile.FieldType) "<init>" 1 mc ms (hMR G (hR0 P)) (fun u => [u.1, fr]) 0 0 [ws, fr] 0 [(0, va_rf (some b)), (1, va_rf o1), (2, vI a2)] []
  have hB : 0 ≤ mc ∧ 0 ≤ ms := ⟨Nat.zero_le _, Nat.zero_le _⟩
  refine ww_aloadQ_n dX10_init_0 0 rfl ?_
  refine wm_objInit rfl q1321 q170 q171 (Nat.le_of_ble_eq_true rfl) (Nat.le_of_ble_eq_true rfl) dX10_init_1 ?_
  refine ww_aloadQ_n dX10_init_4 0 rfl ?_
  refine ww_bipush (v := 8) dX10_init_5 rfl ?_
  refine ww_bipush (v := 8) dX10_init_7 rfl ?_
  obtain ⟨b_2, h⟩ := h
  refine wm_multi hM1 q1322 q163 b_2.1 b_2.2.1 b_2.2.2.1 b_2.2.2.2.1 b_2.2.2.2.2.1 b_2.2.2.2.2.2 dX10_init_9 (fun q_1 ws hq hM2 => ?_)
  replace h := h q_1 hq
  have hB : 0 + 1 + (8 : Int).toNat ≤ mc ∧ 0 + (8 : Int).toNat + (8 : Int).toNat * (8 : Int).toNat ≤ ms := ⟨by have := b_2.2.2.2.2.1; omega, by have := b_2.2.2.2.2.2; omega⟩
  obtain ⟨fi_3, fq_4, hc, h⟩ := h
  refine wm_putQF hM2 rfl in_X10 tyX10_ok nmX10 (ci := 11) rfl 2 (Nat.le_of_ble_eq_true rfl) hc (fun _ _ => rfl) (fun _ _ => Nat.le_of_ble_eq_true rfl) q1326 (fun _ _ h => h) rfl rfl rfl (narrow_rf rfl _) (fits_rf rfl _) dX10_init_13 (fun ws hM3 => ?_)
  refine ww_aloadQ_n dX10_init_16 0 rfl ?_
  refine ww_aloadQ_n dX10_init_17 1 rfl ?_
  obtain ⟨fi_5, fq_6, hc, h⟩ := h
  refine wm_putQF hM3 rfl in_X10 tyX10_ok nmX10 (ci := 11) rfl 0 (Nat.le_of_ble_eq_true rfl) hc (fun _ _ => rfl) (fun _ _ => Nat.le_of_ble_eq_true rfl) q1323 (fun _ _ h => h) rfl rfl rfl (narrow_rf rfl _) (fits_rf rfl _) dX10_init_18 (fun ws hM4 => ?_)
  refine ww_aloadQ_n dX10_init_21 0 rfl ?_
  refine ww_iload_n dX10_init_22 2 rfl ?_
  obtain ⟨fi_7, fq_8, hc, h⟩ := h
  refine wm_putIF hM4 rfl in_X10 tyX10_ok nmX10 (ci := 11) rfl 1 (Nat.le_of_ble_eq_true rfl) hc (fun _ _ => rfl) (fun _ _ => Nat.le_of_ble_eq_true rfl) q1324 (fun _ _ h => h) rfl rfl rfl rfl rfl dX10_init_23 (fun ws hM5 => ?_)
  exact ww_vret (ws, (hs (hs (hs (hgrid μ q_1 (8 : Int).toNat (8 : Int).toNat) b (hO 11 fi_3 (upF fq_4 2 (some q_1)))) b (hO 11 fi_5 (upF fq_6 0 o1))) b (hO 11 (upF fi_7 1 a2) fq_8))) rfl ⟨hM5, ⟨rfl, h⟩⟩ rfl hB.1 hB.2 dX10_init_26
/-! J21_numberOfTrailingZeros: java/lang/Integer numberOfTrailingZeros (I)I; flags (False, False, False), depth 0 -/
def wc_J21_numberOfTrailingZeros (ad : Nat → Nat) (μ : HM) (a1 : Int) (P : Int → Prop) : Prop :=
  ∀ x_1 : Int, x_1 = bA (bX a1 (-1)) (a1 - 1) →
  ((0 < x_1 →
    ∃ J34 : Int → Int → Prop, (∀ (v0_34 : Int) (v1_34 : Int), J34 v0_34 v1_34 →
      rI v0_34 ∧
      ∃ J49 : Int → Int → Prop, (∀ (v0_49 : Int) (v1_49 : Int), J49 v0_49 v1_49 →
        rI v0_49 ∧
        ∃ J62 : Int → Int → Prop, (∀ (v0_62 : Int) (v1_62 : Int), J62 v0_62 v1_62 →
          rI v0_62 ∧
          ∃ J74 : Int → Int → Prop, (∀ (v0_74 : Int) (v1_74 : Int), J74 v0_74 v1_74 →
            P (v1_74 + (bU v0_74 1))) ∧
          ((v0_62 ≤ 4 →
            J74 v0_62 v1_62) ∧
          (4 < v0_62 →
            J74 (bU v0_62 2) (v1_62 + 2)))) ∧
        ((v0_49 ≤ 16 →
          J62 v0_49 v1_49) ∧
        (16 < v0_49 →
          J62 (bU v0_49 4) (v1_49 + 4)))) ∧
      ((v0_34 ≤ 256 →
        J49 v0_34 v1_34) ∧
      (256 < v0_34 →
        J49 (bU v0_34 8) (v1_34 + 8)))) ∧
    ((x_1 ≤ 65536 →
      J34 x_1 1) ∧
    (65536 < x_1 →
      J34 (bU x_1 16) (1 + 16)))) ∧
  (x_1 ≤ 0 →
    P (bA x_1 32)))
set_option maxHeartbeats 4000000 in
theorem tm_J21_numberOfTrailingZeros {G : g_G} {l : Launch} {μ : HM} {a1 : Int} {P : Int → Prop} (h : wc_J21_numberOfTrailingZeros (g_ad G) μ a1 P) : CM G l yJ21_numberOfTrailingZeros cJ21_numberOfTrailingZeros 2 (Option.some Jvm.ClassFile.FieldType.int) 0 0 0 [vI a1] μ (hN1 μ P) := by
  unfold wc_J21_numberOfTrailingZeros at h
  refine wm_of (lvs := [(0, vI a1)]) (by decide) (Nat.le_of_ble_eq_true rfl) rfl (fun fr ws hM1 => ?_)
  show WW G l cJ21_numberOfTrailingZeros RJ21 2 (Option.some Jvm.ClassFile.FieldType.int) "numberOfTrailingZeros" 0 0 0 (hMR G (hN1 μ P)) (fun u => [u.1, fr]) 0 0 [ws, fr] 0 [(0, vI a1)] []
  refine ww_iload_n dJ21_numberOfTrailingZeros_0 0 rfl ?_
  refine ww_iconst dJ21_numberOfTrailingZeros_1 ?_
  refine ww_ixor dJ21_numberOfTrailingZeros_2 ?_
  refine ww_iload_n dJ21_numberOfTrailingZeros_3 0 rfl ?_
  refine ww_iconst dJ21_numberOfTrailingZeros_4 ?_
  refine ww_isub dJ21_numberOfTrailingZeros_5 ?_
  refine ww_iand dJ21_numberOfTrailingZeros_6 ?_
  refine ww_nmI (fun x_1 ex_1 => ?_)
  replace h := h x_1 ex_1
  have rx_1 : rI x_1 := by rw [ex_1]; exact (rI_bA _ _)
  refine ww_istore_n (i := 0) (lv2 := [(0, vI x_1)]) dJ21_numberOfTrailingZeros_7 rfl (Nat.le_of_ble_eq_true rfl) rfl ?_
  refine ww_iload_n dJ21_numberOfTrailingZeros_8 0 rfl ?_
  refine ww_if_gt (tgt := 17) dJ21_numberOfTrailingZeros_9 (by decide) rx_1 (fun c => ?_) (fun c => ?_)
  · replace h := h.1 c
    refine ww_iconst dJ21_numberOfTrailingZeros_17 ?_
    refine ww_istore_n (i := 1) (lv2 := [(1, vI 1), (0, vI x_1)]) dJ21_numberOfTrailingZeros_18 rfl (Nat.le_of_ble_eq_true rfl) rfl ?_
    refine ww_iload_n dJ21_numberOfTrailingZeros_19 1 rfl ?_
    refine wm_ldcw (x := 65536) dJ21_numberOfTrailingZeros_20 q1020 rfl ?_
    obtain ⟨J34, hJ34, h⟩ := h
    have kJ34 : ∀ (v0_34 : Int), ∀ (v1_34 : Int), J34 v0_34 v1_34 → ∀ ws : va_W, Mrep G ws μ → WW G l cJ21_numberOfTrailingZeros RJ21 2 (Option.some Jvm.ClassFile.FieldType.int) "numberOfTrailingZeros" 0 0 0 (hMR G (hN1 μ P)) (fun u => [u.1, fr]) 0 0 [ws, fr] 34 [(0, vI v0_34), (1, vI v1_34)] [] := by
      clear h
      intro v0_34 v1_34 hj ws hM2
      have h := hJ34 v0_34 v1_34 hj
      refine ww_iload_n dJ21_numberOfTrailingZeros_34 0 rfl ?_
      refine ww_sipush (v := 256) dJ21_numberOfTrailingZeros_35 rfl ?_
      obtain ⟨r_2, h⟩ := h
      obtain ⟨J49, hJ49, h⟩ := h
      have kJ49 : ∀ (v0_49 : Int), ∀ (v1_49 : Int), J49 v0_49 v1_49 → ∀ ws : va_W, Mrep G ws μ → WW G l cJ21_numberOfTrailingZeros RJ21 2 (Option.some Jvm.ClassFile.FieldType.int) "numberOfTrailingZeros" 0 0 0 (hMR G (hN1 μ P)) (fun u => [u.1, fr]) 0 0 [ws, fr] 49 [(0, vI v0_49), (1, vI v1_49)] [] := by
        clear h
        intro v0_49 v1_49 hj ws hM3
        have h := hJ49 v0_49 v1_49 hj
        refine ww_iload_n dJ21_numberOfTrailingZeros_49 0 rfl ?_
        refine ww_bipush (v := 16) dJ21_numberOfTrailingZeros_50 rfl ?_
        obtain ⟨r_3, h⟩ := h
        obtain ⟨J62, hJ62, h⟩ := h
        have kJ62 : ∀ (v0_62 : Int), ∀ (v1_62 : Int), J62 v0_62 v1_62 → ∀ ws : va_W, Mrep G ws μ → WW G l cJ21_numberOfTrailingZeros RJ21 2 (Option.some Jvm.ClassFile.FieldType.int) "numberOfTrailingZeros" 0 0 0 (hMR G (hN1 μ P)) (fun u => [u.1, fr]) 0 0 [ws, fr] 62 [(0, vI v0_62), (1, vI v1_62)] [] := by
          clear h
          intro v0_62 v1_62 hj ws hM4
          have h := hJ62 v0_62 v1_62 hj
          refine ww_iload_n dJ21_numberOfTrailingZeros_62 0 rfl ?_
          refine ww_iconst dJ21_numberOfTrailingZeros_63 ?_
          obtain ⟨r_4, h⟩ := h
          obtain ⟨J74, hJ74, h⟩ := h
          have kJ74 : ∀ (v0_74 : Int), ∀ (v1_74 : Int), J74 v0_74 v1_74 → ∀ ws : va_W, Mrep G ws μ → WW G l cJ21_numberOfTrailingZeros RJ21 2 (Option.some Jvm.ClassFile.FieldType.int) "numberOfTrailingZeros" 0 0 0 (hMR G (hN1 μ P)) (fun u => [u.1, fr]) 0 0 [ws, fr] 74 [(0, vI v0_74), (1, vI v1_74)] [] := by
            clear h
            intro v0_74 v1_74 hj ws hM5
            have h := hJ74 v0_74 v1_74 hj
            refine ww_iload_n dJ21_numberOfTrailingZeros_74 1 rfl ?_
            refine ww_iload_n dJ21_numberOfTrailingZeros_75 0 rfl ?_
            refine ww_iconst dJ21_numberOfTrailingZeros_76 ?_
            refine ww_iushr dJ21_numberOfTrailingZeros_77 ?_
            refine ww_iadd dJ21_numberOfTrailingZeros_78 ?_
            exact ww_iret (ws, μ) rfl ⟨hM5, ⟨rfl, _, rfl, h⟩⟩ rfl (Nat.le_refl _) (Nat.le_refl _) dJ21_numberOfTrailingZeros_79
          refine ww_icmp_le (tgt := 74) dJ21_numberOfTrailingZeros_64 (by decide) r_4 (by decide) (fun c => ?_) (fun c => ?_)
          · replace h := h.1 c
            exact kJ74 _ _ h _ hM4
          · replace h := h.2 (Int.not_le.mp c)
            refine ww_iinc (lv2 := [(1, vI (v1_62 + 2)), (0, vI v0_62)]) dJ21_numberOfTrailingZeros_67 1 rfl (Nat.le_of_ble_eq_true rfl) rfl ?_
            refine ww_iload_n dJ21_numberOfTrailingZeros_70 1 rfl ?_
            refine ww_iconst dJ21_numberOfTrailingZeros_71 ?_
            refine ww_iushr dJ21_numberOfTrailingZeros_72 ?_
            refine ww_istore_n (i := 0) (lv2 := [(0, vI (bU v0_62 2)), (1, vI (v1_62 + 2))]) dJ21_numberOfTrailingZeros_73 rfl (Nat.le_of_ble_eq_true rfl) rfl ?_
            exact kJ74 _ _ h _ hM4
        refine ww_icmp_le (tgt := 62) dJ21_numberOfTrailingZeros_52 (by decide) r_3 (by decide) (fun c => ?_) (fun c => ?_)
        · replace h := h.1 c
          exact kJ62 _ _ h _ hM3
        · replace h := h.2 (Int.not_le.mp c)
          refine ww_iinc (lv2 := [(1, vI (v1_49 + 4)), (0, vI v0_49)]) dJ21_numberOfTrailingZeros_55 1 rfl (Nat.le_of_ble_eq_true rfl) rfl ?_
          refine ww_iload_n dJ21_numberOfTrailingZeros_58 1 rfl ?_
          refine ww_iconst dJ21_numberOfTrailingZeros_59 ?_
          refine ww_iushr dJ21_numberOfTrailingZeros_60 ?_
          refine ww_istore_n (i := 0) (lv2 := [(0, vI (bU v0_49 4)), (1, vI (v1_49 + 4))]) dJ21_numberOfTrailingZeros_61 rfl (Nat.le_of_ble_eq_true rfl) rfl ?_
          exact kJ62 _ _ h _ hM3
      refine ww_icmp_le (tgt := 49) dJ21_numberOfTrailingZeros_38 (by decide) r_2 (by decide) (fun c => ?_) (fun c => ?_)
      · replace h := h.1 c
        exact kJ49 _ _ h _ hM2
      · replace h := h.2 (Int.not_le.mp c)
        refine ww_iinc (lv2 := [(1, vI (v1_34 + 8)), (0, vI v0_34)]) dJ21_numberOfTrailingZeros_41 1 rfl (Nat.le_of_ble_eq_true rfl) rfl ?_
        refine ww_iload_n dJ21_numberOfTrailingZeros_44 1 rfl ?_
        refine ww_bipush (v := 8) dJ21_numberOfTrailingZeros_45 rfl ?_
        refine ww_iushr dJ21_numberOfTrailingZeros_47 ?_
        refine ww_istore_n (i := 0) (lv2 := [(0, vI (bU v0_34 8)), (1, vI (v1_34 + 8))]) dJ21_numberOfTrailingZeros_48 rfl (Nat.le_of_ble_eq_true rfl) rfl ?_
        exact kJ49 _ _ h _ hM2
    refine ww_icmp_le (tgt := 34) dJ21_numberOfTrailingZeros_23 (by decide) rx_1 (by decide) (fun c => ?_) (fun c => ?_)
    · replace h := h.1 c
      refine ww_lv [1, 0] rfl ?_
      exact kJ34 _ _ h _ hM1
    · replace h := h.2 (Int.not_le.mp c)
      refine ww_iinc (lv2 := [(1, vI (1 + 16)), (0, vI x_1)]) dJ21_numberOfTrailingZeros_26 0 rfl (Nat.le_of_ble_eq_true rfl) rfl ?_
      refine ww_iload_n dJ21_numberOfTrailingZeros_29 1 rfl ?_
      refine ww_bipush (v := 16) dJ21_numberOfTrailingZeros_30 rfl ?_
      refine ww_iushr dJ21_numberOfTrailingZeros_32 ?_
      refine ww_istore_n (i := 0) (lv2 := [(0, vI (bU x_1 16)), (1, vI (1 + 16))]) dJ21_numberOfTrailingZeros_33 rfl (Nat.le_of_ble_eq_true rfl) rfl ?_
      exact kJ34 _ _ h _ hM1
  · replace h := h.2 (Int.not_lt.mp c)
    refine ww_iload_n dJ21_numberOfTrailingZeros_12 0 rfl ?_
    refine ww_bipush (v := 32) dJ21_numberOfTrailingZeros_13 rfl ?_
    refine ww_iand dJ21_numberOfTrailingZeros_15 ?_
    exact ww_iret (ws, μ) rfl ⟨hM1, ⟨rfl, _, rfl, h⟩⟩ rfl (Nat.le_refl _) (Nat.le_refl _) dJ21_numberOfTrailingZeros_16
/-! X1_has: HoloNet has (II)Z; flags (False, False, False), depth 0 -/
def wc_X1_has (ad : Nat → Nat) (μ : HM) (a1 : Int) (a2 : Int) (P : Int → Prop) : Prop :=
  ((¬ (bA (bR a1 a2) 1) = 1 →
    P 0) ∧
  ((bA (bR a1 a2) 1) = 1 →
    P 1))
set_option maxHeartbeats 4000000 in
theorem tm_X1_has {G : g_G} {l : Launch} {μ : HM} {a1 : Int} {a2 : Int} {P : Int → Prop} (h : wc_X1_has (g_ad G) μ a1 a2 P) : CM G l yX1_has cX1_has 2 (Option.some Jvm.ClassFile.FieldType.boolean) 0 0 0 [vI a1, vI a2] μ (hN2 μ P) := by
  unfold wc_X1_has at h
  refine wm_of (lvs := [(0, vI a1), (1, vI a2)]) (by decide) (Nat.le_of_ble_eq_true rfl) rfl (fun fr ws hM1 => ?_)
  show WW G l cX1_has RX1 2 (Option.some Jvm.ClassFile.FieldType.boolean) "has" 0 0 0 (hMR G (hN2 μ P)) (fun u => [u.1, fr]) 0 0 [ws, fr] 0 [(0, vI a1), (1, vI a2)] []
  refine ww_iload_n dX1_has_0 0 rfl ?_
  refine ww_iload_n dX1_has_1 1 rfl ?_
  refine ww_ishr dX1_has_2 ?_
  refine ww_iconst dX1_has_3 ?_
  refine ww_iand dX1_has_4 ?_
  refine ww_iconst dX1_has_5 ?_
  refine ww_icmp_ne (tgt := 13) dX1_has_6 (by decide) (rI_bA _ _) (by decide) (fun c => ?_) (fun c => ?_)
  · replace h := h.1 c
    refine ww_iconst dX1_has_13 ?_
    exact ww_zret (ws, μ) rfl (Or.inl rfl) ⟨hM1, ⟨rfl, _, rfl, Or.inl rfl, h⟩⟩ rfl (Nat.le_refl _) (Nat.le_refl _) dX1_has_14
  · replace h := h.2 c
    refine ww_iconst dX1_has_9 ?_
    refine ww_goto (tgt := 14) dX1_has_10 (by decide) ?_
    exact ww_zret (ws, μ) rfl (Or.inr rfl) ⟨hM1, ⟨rfl, _, rfl, Or.inr rfl, h⟩⟩ rfl (Nat.le_refl _) (Nat.le_refl _) dX1_has_14
/-! X10_matchings: HoloNet$Graph matchings (I)I; flags (False, False, False), depth 2 -/
def wc_X10_matchings_b (rec : HM → Nat → Int → (Int → Prop) → Prop) (ad : Nat → Nat) (μ : HM) (b : Nat) (a1 : Int) (P : Int → Prop) : Prop :=
  rI a1 ∧
  ((¬ a1 = 0 →
    wc_J21_numberOfTrailingZeros ad μ a1 (fun y_2 =>
      ∃ I18 : Nat → Int → Int → Prop, (∀ (n18 : Nat) (v3_18 : Int) (v5_18 : Int), I18 n18 v3_18 v5_18 →
        ∃ x_4 : Int, gI μ b 11 1 = some x_4 ∧
        rI v5_18 ∧
        rI x_4 ∧
        ((x_4 ≤ v5_18 →
          ∃ x_7 : Option Nat, gQ μ b 11 0 = some x_7 ∧
          ∃ a_8 : Nat, x_7 = some a_8 ∧
          gC μ a_8 = some 2 ∧
          wc_X2_mod ad μ a_8 v3_18 (fun y_9 =>
            P y_9)) ∧
        (v5_18 < x_4 →
          wc_X1_has ad μ a1 v5_18 (fun y_11 =>
            ∃ J79 : Int → Prop, (∀ (v3_79 : Int), J79 v3_79 →
              ∃ m : Nat, m < n18 ∧ I18 m v3_79 (v5_18 + 1)) ∧
            ((y_11 = 0 →
              J79 v3_18) ∧
            (¬ y_11 = 0 →
              ∃ x_13 : Option Nat, gQ μ b 11 2 = some x_13 ∧
              ∃ a_14 : Nat, x_13 = some a_14 ∧
              ∃ x_15 : Option Nat, gR μ a_14 6 y_2 = some x_15 ∧
              ∃ a_16 : Nat, x_15 = some a_16 ∧
              ∃ x_17 : Int, gA μ a_16 0 v5_18 = some x_17 ∧
              rI x_17 ∧
              ((x_17 ≤ 0 →
                J79 v3_18) ∧
              (0 < x_17 →
                ∃ x_19 : Option Nat, gQ μ b 11 2 = some x_19 ∧
                ∃ a_20 : Nat, x_19 = some a_20 ∧
                ∃ x_21 : Option Nat, gR μ a_20 6 y_2 = some x_21 ∧
                ∃ a_22 : Nat, x_21 = some a_22 ∧
                ∃ x_23 : Int, gA μ a_22 0 v5_18 = some x_23 ∧
                rI x_23 ∧
                gC μ b = some 11 ∧
                rec μ b (bA a1 (bX (bO (bL 1 y_2) (bL 1 v5_18)) (-1))) (fun y_25 =>
                  rI y_25 ∧
                  ∀ x_28 : Int, x_28 = v3_18 + (x_23 * y_25) →
                  J79 x_28))))))))) ∧
      ∃ m : Nat, I18 m 0 (y_2 + 1))) ∧
  (a1 = 0 →
    P 1))
def wc_X10_matchings : Nat → (Nat → Nat) → HM → Nat → Int → (Int → Prop) → Prop
  | 0, _, _, _, _, _ => False
  | dep + 1, ad, μ, b, a1, P => wc_X10_matchings_b (wc_X10_matchings dep ad) ad μ b a1 P
set_option maxHeartbeats 4000000 in
theorem tm_X10_matchings {G : g_G} {l : Launch} : ∀ (dep : Nat) {D : Nat} {μ : HM} {b : Nat} {a1 : Int} {P : Int → Prop}, dep + 2 ≤ D → wc_X10_matchings dep (g_ad G) μ b a1 P → CM G l yX10_matchings cX10_matchings 6 (Option.some Jvm.ClassFile.FieldType.int) D 0 0 [.ref b, vI a1] μ (hN1 μ P) := by
  intro dep
  induction dep with
  | zero => intro D μ b a1 P hD h; exact h.elim
  | succ dep ih =>
    intro D μ b a1 P hD h
    change wc_X10_matchings_b (wc_X10_matchings dep (g_ad G)) (g_ad G) μ b a1 P at h
    unfold wc_X10_matchings_b at h
    refine wm_of (lvs := [(0, va_rf (some b)), (1, vI a1)]) (by decide) (Nat.le_of_ble_eq_true rfl) rfl (fun fr ws hM1 => ?_)
    show WW G l cX10_matchings RX10 6 (Option.some Jvm.ClassFile.FieldType.int) "matchings" D 0 0 (hMR G (hN1 μ P)) (fun u => [u.1, fr]) 0 0 [ws, fr] 0 [(0, va_rf (some b)), (1, vI a1)] []
    refine ww_iload_n dX10_matchings_0 1 rfl ?_
    obtain ⟨r_1, h⟩ := h
    refine ww_if_ne (tgt := 6) dX10_matchings_1 (by decide) r_1 (fun c => ?_) (fun c => ?_)
    · replace h := h.1 c
      refine ww_iload_n dX10_matchings_6 1 rfl ?_
      refine wm_callS (n := 1) hM1 (tm_J21_numberOfTrailingZeros h) (lw_S q1344 q1027 q139 q1028) ⟨by decide, by decide, by decide +kernel⟩ rfl ⟨by omega, by omega⟩ rfl (Nat.le_of_ble_eq_true rfl) dX10_matchings_7 ⟨Nat.le_refl _, Nat.le_refl _⟩ ?_
      clear h
      rintro _ _ ws ⟨rfl, y_2, rfl, h⟩ hM2
      refine ww_st1 ?_
      refine ww_istore_n (i := 2) (lv2 := [(2, vI y_2), (0, va_rf (some b)), (1, vI a1)]) dX10_matchings_10 rfl (Nat.le_of_ble_eq_true rfl) rfl ?_
      refine ww_lconst (v := 0) dX10_matchings_11 rfl ?_
      refine ww_lstore_n (i := 3) (lv2 := [(3, vL 0), (2, vI y_2), (0, va_rf (some b)), (1, vI a1)]) dX10_matchings_12 rfl (Nat.le_of_ble_eq_true rfl) rfl ?_
      refine ww_iload_n dX10_matchings_13 1 rfl ?_
      refine ww_iconst dX10_matchings_14 ?_
      refine ww_iadd dX10_matchings_15 ?_
      refine ww_istore (i := 5) (lv2 := [(5, vI (y_2 + 1)), (3, vL 0), (2, vI y_2), (0, va_rf (some b)), (1, vI a1)]) dX10_matchings_16 (Nat.le_of_ble_eq_true rfl) rfl ?_
      obtain ⟨I18, hI18, h⟩ := h
      have kI18 : ∀ (n18 : Nat), ∀ (v3_18 : Int), ∀ (v5_18 : Int), I18 n18 v3_18 v5_18 → ∀ ws : va_W, Mrep G ws μ → WW G l cX10_matchings RX10 6 (Option.some Jvm.ClassFile.FieldType.int) "matchings" D 0 0 (hMR G (hN1 μ P)) (fun u => [u.1, fr]) 0 0 [ws, fr] 18 [(0, va_rf (some b)), (1, vI a1), (2, vI y_2), (3, vL v3_18), (5, vI v5_18)] [] := by
        clear h
        intro n18
        induction n18 using Nat.strongRecOn with
        | ind n18 ih18 =>
          intro v3_18 v5_18 hj ws hM3
          have h := hI18 n18 v3_18 v5_18 hj
          refine ww_iload dX10_matchings_18 4 rfl ?_
          refine ww_aloadQ_n dX10_matchings_20 0 rfl ?_
          obtain ⟨x_4, hx, h⟩ := h
          refine wm_getI hM3 rfl in_X10 (ci := 11) rfl (by decide) 1 (Nat.le_of_ble_eq_true rfl) hx (fun _ _ => rfl) q1324 (fun _ _ h => h) dX10_matchings_21 ?_
          obtain ⟨r_5, r_6, h⟩ := h
          refine ww_icmp_ge (tgt := 85) dX10_matchings_24 (by decide) r_5 r_6 (fun c => ?_) (fun c => ?_)
          · replace h := h.1 c
            refine ww_aloadQ_n dX10_matchings_85 0 rfl ?_
            obtain ⟨x_7, hx, h⟩ := h
            refine wm_getQ hM3 rfl in_X10 (ci := 11) rfl (by decide) 0 (Nat.le_of_ble_eq_true rfl) hx (fun _ _ => rfl) q1323 (fun _ _ h => h) dX10_matchings_86 ?_
            refine ww_lload_n dX10_matchings_89 3 rfl ?_
            obtain ⟨a_8, ea_8, h⟩ := h
            subst ea_8
            obtain ⟨hg, h⟩ := h
            refine wm_callV (n := 1) hM3 (tm_X2_mod h) rfl hg rfl (lw_V q1348 q1349 q1350 q109 q1351) ⟨by decide, by decide, by decide +kernel⟩ rfl ⟨by omega, by omega⟩ rfl (Nat.le_of_ble_eq_true rfl) dX10_matchings_90 ⟨Nat.le_refl _, Nat.le_refl _⟩ ?_
            clear h
            rintro _ _ ws ⟨rfl, y_9, rfl, h⟩ hM4
            refine ww_st1 ?_
            exact ww_iret (ws, μ) rfl ⟨hM4, ⟨rfl, _, rfl, h⟩⟩ rfl (Nat.le_refl _) (Nat.le_refl _) dX10_matchings_93
          · replace h := h.2 (Int.not_le.mp c)
            refine ww_iload_n dX10_matchings_27 1 rfl ?_
            refine ww_iload dX10_matchings_28 4 rfl ?_
            refine wm_callSN (n := 2) hM3 (tm_X1_has h) q1345 q1347 q108 q1346 ⟨by decide, by decide, by decide +kernel⟩ rfl ⟨by omega, by omega⟩ rfl (Nat.le_of_ble_eq_true rfl) dX10_matchings_30 ⟨Nat.le_refl _, Nat.le_refl _⟩ ?_
            clear h
            rintro _ _ ws ⟨rfl, y_11, rfl, z_12, h⟩ hM5
            refine ww_st1 ?_
            obtain ⟨J79, hJ79, h⟩ := h
            have kJ79 : ∀ (v3_79 : Int), J79 v3_79 → ∀ ws : va_W, Mrep G ws μ → WW G l cX10_matchings RX10 6 (Option.some Jvm.ClassFile.FieldType.int) "matchings" D 0 0 (hMR G (hN1 μ P)) (fun u => [u.1, fr]) 0 0 [ws, fr] 79 [(0, va_rf (some b)), (1, vI a1), (2, vI y_2), (3, vL v3_79), (5, vI v5_18)] [] := by
              clear h
              intro v3_79 hj ws hM6
              have h := hJ79 v3_79 hj
              refine ww_iinc (lv2 := [(5, vI (v5_18 + 1)), (0, va_rf (some b)), (1, vI a1), (2, vI y_2), (3, vL v3_79)]) dX10_matchings_79 4 rfl (Nat.le_of_ble_eq_true rfl) rfl ?_
              refine ww_goto (tgt := 18) dX10_matchings_82 (by decide) ?_
              refine ww_lv [1, 2, 3, 4, 0] rfl ?_
              obtain ⟨m, hm, h⟩ := h
              exact ih18 m hm _ _ h _ hM6
            refine ww_if_eq (tgt := 79) dX10_matchings_33 (by decide) (r_z z_12) (fun c => ?_) (fun c => ?_)
            · replace h := h.1 c
              exact kJ79 _ h _ hM5
            · replace h := h.2 c
              refine ww_aloadQ_n dX10_matchings_36 0 rfl ?_
              obtain ⟨x_13, hx, h⟩ := h
              refine wm_getQ hM5 rfl in_X10 (ci := 11) rfl (by decide) 2 (Nat.le_of_ble_eq_true rfl) hx (fun _ _ => rfl) q1326 (fun _ _ h => h) dX10_matchings_37 ?_
              refine ww_iload_n dX10_matchings_40 2 rfl ?_
              obtain ⟨a_14, ea_14, h⟩ := h
              subst ea_14
              obtain ⟨x_15, hx, h⟩ := h
              refine wm_aald hM5 rfl (by decide) hx dX10_matchings_41 ?_
              refine ww_iload dX10_matchings_42 4 rfl ?_
              obtain ⟨a_16, ea_16, h⟩ := h
              subst ea_16
              obtain ⟨x_17, hx, h⟩ := h
              refine wm_iald hM5 rfl hx dX10_matchings_44 ?_
              obtain ⟨r_18, h⟩ := h
              refine ww_if_le (tgt := 79) dX10_matchings_45 (by decide) r_18 (fun c => ?_) (fun c => ?_)
              · replace h := h.1 c
                exact kJ79 _ h _ hM5
              · replace h := h.2 (Int.not_le.mp c)
                refine ww_lload_n dX10_matchings_48 3 rfl ?_
                refine ww_aloadQ_n dX10_matchings_49 0 rfl ?_
                obtain ⟨x_19, hx, h⟩ := h
                refine wm_getQ hM5 rfl in_X10 (ci := 11) rfl (by decide) 2 (Nat.le_of_ble_eq_true rfl) hx (fun _ _ => rfl) q1326 (fun _ _ h => h) dX10_matchings_50 ?_
                refine ww_iload_n dX10_matchings_53 2 rfl ?_
                obtain ⟨a_20, ea_20, h⟩ := h
                subst ea_20
                obtain ⟨x_21, hx, h⟩ := h
                refine wm_aald hM5 rfl (by decide) hx dX10_matchings_54 ?_
                refine ww_iload dX10_matchings_55 4 rfl ?_
                obtain ⟨a_22, ea_22, h⟩ := h
                subst ea_22
                obtain ⟨x_23, hx, h⟩ := h
                refine wm_iald hM5 rfl hx dX10_matchings_57 ?_
                obtain ⟨r_24, h⟩ := h
                refine ww_i2l dX10_matchings_58 r_24 ?_
                refine ww_aloadQ_n dX10_matchings_59 0 rfl ?_
                refine ww_iload_n dX10_matchings_60 1 rfl ?_
                refine ww_iconst dX10_matchings_61 ?_
                refine ww_iload_n dX10_matchings_62 2 rfl ?_
                refine ww_ishl dX10_matchings_63 ?_
                refine ww_iconst dX10_matchings_64 ?_
                refine ww_iload dX10_matchings_65 4 rfl ?_
                refine ww_ishl dX10_matchings_67 ?_
                refine ww_ior dX10_matchings_68 ?_
                refine ww_iconst dX10_matchings_69 ?_
                refine ww_ixor dX10_matchings_70 ?_
                refine ww_iand dX10_matchings_71 ?_
                obtain ⟨hg, h⟩ := h
                refine wm_callV (n := 1) hM5 (ih (D := D - 1) (by omega) h) rfl hg rfl (lw_V q1340 q1342 qs22 q143 q1343) ⟨by decide, by decide, by decide +kernel⟩ rfl ⟨by omega, by omega⟩ rfl (Nat.le_of_ble_eq_true rfl) dX10_matchings_72 ⟨Nat.le_refl _, Nat.le_refl _⟩ ?_
                clear h
                rintro _ _ ws ⟨rfl, y_25, rfl, h⟩ hM7
                refine ww_st1 ?_
                obtain ⟨r_27, h⟩ := h
                refine ww_i2l dX10_matchings_75 r_27 ?_
                refine ww_lmul dX10_matchings_76 ?_
                refine ww_ladd dX10_matchings_77 ?_
                refine ww_nmL (fun x_28 ex_28 => ?_)
                replace h := h x_28 ex_28
                refine ww_lstore_n (i := 3) (lv2 := [(3, vL x_28), (0, va_rf (some b)), (1, vI a1), (2, vI y_2), (5, vI v5_18)]) dX10_matchings_78 rfl (Nat.le_of_ble_eq_true rfl) rfl ?_
                refine ww_lv [1, 2, 3, 0, 4] rfl ?_
                exact kJ79 _ h _ hM7
      refine ww_lv [3, 4, 2, 1, 0] rfl ?_
      obtain ⟨m, h⟩ := h
      exact kI18 m _ _ h _ hM2
    · replace h := h.2 c
      refine ww_iconst dX10_matchings_4 ?_
      exact ww_iret (ws, μ) rfl ⟨hM1, ⟨rfl, _, rfl, h⟩⟩ rfl (Nat.le_refl _) (Nat.le_refl _) dX10_matchings_5
/-! X10_signature: HoloNet$Graph signature (I)[I; flags (True, True, False), depth 11 -/
def wc_X10_signature (ad : Nat → Nat) (mc ms : Nat) (μ : HM) (b : Nat) (a1 : Int) (P : Option Nat → HM → Prop) : Prop :=
  (0 ≤ bL 1 a1 ∧ bL 1 a1 < 50000000 ∧ 0 + 1 ≤ mc ∧ 0 + (bL 1 a1).toNat ≤ ms) ∧ ∀ q_1 : Nat, μ q_1 = none →
  ∃ I8 : Nat → Int → HM → Prop, (∀ (n8 : Nat) (v3_8 : Int) (μ8 : HM), I8 n8 v3_8 μ8 →
    ∃ n_3 : Nat, gL μ8 q_1 = some n_3 ∧
    rI v3_8 ∧
    rI (n_3 : Int) ∧
    (((n_3 : Int) ≤ v3_8 →
      P (some q_1) μ8) ∧
    (v3_8 < (n_3 : Int) →
      ∃ x_6 : Int, gI μ8 b 11 1 = some x_6 ∧
      gC μ8 b = some 11 ∧
      wc_X10_matchings 8 ad μ8 b (bA ((bL 1 x_6) - 1) (bX v3_8 (-1))) (fun y_7 =>
        ∃ (n_9 : Nat) (f_10 : Int → Int), μ8 q_1 = some (hA 0 n_9 f_10) ∧ ((0 : Int) ≤ v3_8 ∧ v3_8 < (n_9 : Int) ∧ (n_9 : Int) < 2147483648) ∧ 
        ∃ m : Nat, m < n8 ∧ I8 m (v3_8 + 1) (hs μ8 q_1 (hA 0 n_9 (updI f_10 v3_8 y_7))))))) ∧
  ∃ m : Nat, I8 m 0 (hs μ q_1 (hA 0 (bL 1 a1).toNat (fun _ => 0)))
set_option maxHeartbeats 4000000 in
theorem tm_X10_signature {G : g_G} {l : Launch} {mc ms : Nat} {μ : HM} {b : Nat} {a1 : Int} {P : Option Nat → HM → Prop} (h : wc_X10_signature (g_ad G) mc ms μ b a1 P) : CM G l yX10_signature cX10_signature 4 (Option.some (Jvm.ClassFile.FieldType.array Jvm.ClassFile.FieldType.int)) 11 mc ms [.ref b, vI a1] μ (hR4 P) := by
  unfold wc_X10_signature at h
  refine wm_of (lvs := [(0, va_rf (some b)), (1, vI a1)]) (by decide) (Nat.le_of_ble_eq_true rfl) rfl (fun fr ws hM1 => ?_)
  show WW G l cX10_signature RX10 4 (Option.some (Jvm.ClassFile.FieldType.array Jvm.ClassFile.FieldType.int)) "signature" 11 mc ms (hMR G (hR4 P)) (fun u => [u.1, fr]) 0 0 [ws, fr] 0 [(0, va_rf (some b)), (1, vI a1)] []
  have hB : 0 ≤ mc ∧ 0 ≤ ms := ⟨Nat.zero_le _, Nat.zero_le _⟩
  refine ww_iconst dX10_signature_0 ?_
  refine ww_iload_n dX10_signature_1 1 rfl ?_
  refine ww_ishl dX10_signature_2 ?_
  obtain ⟨b_2, h⟩ := h
  refine wm_new0 hM1 q163 b_2.1 (by omega) b_2.2.2.1 b_2.2.2.2 dX10_signature_3 (fun q_1 ws hq hM2 => ?_)
  replace h := h q_1 hq
  have hB := b_2.2.2
  refine ww_astoreQ_n (i := 2) (lv2 := [(2, va_rf (some q_1)), (0, va_rf (some b)), (1, vI a1)]) dX10_signature_5 rfl (Nat.le_of_ble_eq_true rfl) rfl ?_
  refine ww_iconst dX10_signature_6 ?_
  refine ww_istore_n (i := 3) (lv2 := [(3, vI 0), (2, va_rf (some q_1)), (0, va_rf (some b)), (1, vI a1)]) dX10_signature_7 rfl (Nat.le_of_ble_eq_true rfl) rfl ?_
  obtain ⟨I8, hI8, h⟩ := h
  have kI8 : ∀ (n8 : Nat), ∀ (v3_8 : Int), ∀ (μ8 : HM), I8 n8 v3_8 μ8 → ∀ ws : va_W, Mrep G ws μ8 → (0 + 1 ≤ mc ∧ 0 + (bL 1 a1).toNat ≤ ms) → WW G l cX10_signature RX10 4 (Option.some (Jvm.ClassFile.FieldType.array Jvm.ClassFile.FieldType.int)) "signature" 11 mc ms (hMR G (hR4 P)) (fun u => [u.1, fr]) (0 + 1) (0 + (bL 1 a1).toNat) [ws, fr] 8 [(0, va_rf (some b)), (2, va_rf (some q_1)), (3, vI v3_8)] [] := by
    clear h
    intro n8
    induction n8 using Nat.strongRecOn with
    | ind n8 ih8 =>
      intro v3_8 μ8 hj ws hM3 hB
      have h := hI8 n8 v3_8 μ8 hj
      refine ww_iload_n dX10_signature_8 2 rfl ?_
      refine ww_aloadQ_n dX10_signature_9 1 rfl ?_
      obtain ⟨n_3, hn, h⟩ := h
      refine wm_alen hM3 rfl hn dX10_signature_10 ?_
      obtain ⟨r_4, r_5, h⟩ := h
      refine ww_icmp_ge (tgt := 39) dX10_signature_11 (by decide) r_4 r_5 (fun c => ?_) (fun c => ?_)
      · replace h := h.1 c
        refine ww_aloadQ_n dX10_signature_39 1 rfl ?_
        exact ww_aret (ws, μ8) rfl (by first | exact Or.inl ⟨_, rfl⟩ | exact Or.inr ⟨_, rfl⟩) (rf_or _) ⟨hM3, ⟨_, rfl, h⟩⟩ rfl hB.1 hB.2 dX10_signature_40
      · replace h := h.2 (Int.not_le.mp c)
        refine ww_aloadQ_n dX10_signature_14 1 rfl ?_
        refine ww_iload_n dX10_signature_15 2 rfl ?_
        refine ww_aloadQ_n dX10_signature_16 0 rfl ?_
        refine ww_iconst dX10_signature_17 ?_
        refine ww_aloadQ_n dX10_signature_18 0 rfl ?_
        obtain ⟨x_6, hx, h⟩ := h
        refine wm_getI hM3 rfl in_X10 (ci := 11) rfl (by decide) 1 (Nat.le_of_ble_eq_true rfl) hx (fun _ _ => rfl) q1324 (fun _ _ h => h) dX10_signature_19 ?_
        refine ww_ishl dX10_signature_22 ?_
        refine ww_iconst dX10_signature_23 ?_
        refine ww_isub dX10_signature_24 ?_
        refine ww_iload_n dX10_signature_25 2 rfl ?_
        refine ww_iconst dX10_signature_26 ?_
        refine ww_ixor dX10_signature_27 ?_
        refine ww_iand dX10_signature_28 ?_
        obtain ⟨hg, h⟩ := h
        refine wm_callV (n := 1) hM3 (tm_X10_matchings 8 (Nat.le_refl _) h) rfl hg rfl (lw_V q1340 q1342 qs22 q143 q1343) ⟨by decide, by decide, by decide +kernel⟩ rfl ⟨Nat.le_of_ble_eq_true rfl, Nat.le_of_ble_eq_true rfl⟩ rfl (by simp only [List.map_cons, List.map_nil, rf_cat, vI_cat, vL_cat, List.sum_cons, List.sum_nil]; decide) dX10_signature_29 hB ?_
        clear h
        rintro _ _ ws ⟨rfl, y_7, rfl, h⟩ hM4
        refine ww_st1 ?_
        obtain ⟨n_9, f_10, hc, hi, h⟩ := h
        refine wm_iast hM4 rfl hc hi.1 hi.2.1 hi.2.2 dX10_signature_32 (fun ws hM5 => ?_)
        refine ww_iinc (lv2 := [(3, vI (v3_8 + 1)), (0, va_rf (some b)), (2, va_rf (some q_1))]) dX10_signature_33 2 rfl (Nat.le_of_ble_eq_true rfl) rfl ?_
        refine ww_goto (tgt := 8) dX10_signature_36 (by decide) ?_
        refine ww_lv [1, 2, 0] rfl ?_
        obtain ⟨m, hm, h⟩ := h
        exact ih8 m hm _ _ h _ hM5 hB
  refine ww_lv [2, 1, 0] rfl ?_
  obtain ⟨m, h⟩ := h
  exact kI8 m _ _ h _ hM2 hB
/-! X8_init_7: HoloNet$Labelled <init> (Ljava/lang/String;I)V; flags (True, False, False), depth 1 -/
def wc_X8_init_7 (ad : Nat → Nat) (μ : HM) (b : Nat) (o1 : Option Nat) (a2 : Int) (P : HM → Prop) : Prop :=
  ∃ (fi_1 : Nat → Int) (fq_2 : Nat → Option Nat), μ b = some (hO 7 fi_1 fq_2) ∧ 
  ∃ (fi_3 : Nat → Int) (fq_4 : Nat → Option Nat), (hs μ b (hO 7 fi_1 (upF fq_2 0 o1))) b = some (hO 7 fi_3 fq_4) ∧ 
  P (hs (hs μ b (hO 7 fi_1 (upF fq_2 0 o1))) b (hO 7 (upF fi_3 1 a2) fq_4))
set_option maxHeartbeats 4000000 in
theorem tm_X8_init_7 {G : g_G} {l : Launch} {μ : HM} {b : Nat} {o1 : Option Nat} {a2 : Int} {P : HM → Prop} (h : wc_X8_init_7 (g_ad G) μ b o1 a2 P) : CM G l yX8_init cX8_init 3 (Option.none : Option Jvm.ClassFile.FieldType) 1 0 0 [.ref b, va_rf o1, vI a2] μ (hR0 P) := by
  unfold wc_X8_init_7 at h
  refine wm_of (lvs := [(0, va_rf (some b)), (1, va_rf o1), (2, vI a2)]) (by decide) (by simp [lg_sl, rf_cat, vI_cat, vL_cat, ref_cat]) (by simp [lv_args, rf_cat, vI_cat, vL_cat, ref_cat, rf_some]) (fun fr ws hM1 => ?_)
  show WW G l cX8_init RX8 3 (Option.none : Option Jvm.ClassFile.FieldType) "<init>" 1 0 0 (hMR G (hR0 P)) (fun u => [u.1, fr]) 0 0 [ws, fr] 0 [(0, va_rf (some b)), (1, va_rf o1), (2, vI a2)] []
  refine ww_aloadQ_n dX8_init_0 0 rfl ?_
  refine wm_objInit rfl q1149 q170 q171 (Nat.le_of_ble_eq_true rfl) (Nat.le_of_ble_eq_true rfl) dX8_init_1 ?_
  refine ww_aloadQ_n dX8_init_4 0 rfl ?_
  refine ww_aloadQ_n dX8_init_5 1 rfl ?_
  obtain ⟨fi_1, fq_2, hc, h⟩ := h
  refine wm_putQF hM1 rfl in_X9 tyX9_ok nmX9 (ci := 7) rfl 0 (Nat.le_of_ble_eq_true rfl) hc (fun _ _ => rfl) (fun _ _ => Nat.le_of_ble_eq_true rfl) q1158 (fun _ _ h => h) rfl rfl rfl (narrow_rf rfl _) (fits_rf rfl _) dX8_init_6 (fun ws hM2 => ?_)
  refine ww_aloadQ_n dX8_init_9 0 rfl ?_
  refine ww_iload_n dX8_init_10 2 rfl ?_
  obtain ⟨fi_3, fq_4, hc, h⟩ := h
  refine wm_putIF hM2 rfl in_X9 tyX9_ok nmX9 (ci := 7) rfl 1 (Nat.le_of_ble_eq_true rfl) hc (fun _ _ => rfl) (fun _ _ => Nat.le_of_ble_eq_true rfl) q1160 (fun _ _ h => h) rfl rfl rfl rfl rfl dX8_init_11 (fun ws hM3 => ?_)
  exact ww_vret (ws, (hs (hs μ b (hO 7 fi_1 (upF fq_2 0 o1))) b (hO 7 (upF fi_3 1 a2) fq_4))) rfl ⟨hM3, ⟨rfl, h⟩⟩ rfl (Nat.le_refl _) (Nat.le_refl _) dX8_init_14
/-! X9_init: HoloNet$Table <init> (Ljava/lang/String;II[I)V; flags (True, False, False), depth 2 -/
def wc_X9_init (ad : Nat → Nat) (μ : HM) (b : Nat) (o1 : Option Nat) (a2 : Int) (a3 : Int) (o4 : Option Nat) (P : HM → Prop) : Prop :=
  wc_X8_init_7 ad μ b o1 a2 (fun μ_1 =>
    ∃ (fi_2 : Nat → Int) (fq_3 : Nat → Option Nat), μ_1 b = some (hO 7 fi_2 fq_3) ∧ 
    ∃ (fi_4 : Nat → Int) (fq_5 : Nat → Option Nat), (hs μ_1 b (hO 7 (upF fi_2 2 a3) fq_3)) b = some (hO 7 fi_4 fq_5) ∧ 
    P (hs (hs μ_1 b (hO 7 (upF fi_2 2 a3) fq_3)) b (hO 7 fi_4 (upF fq_5 3 o4))))
set_option maxHeartbeats 4000000 in
theorem tm_X9_init {G : g_G} {l : Launch} {μ : HM} {b : Nat} {o1 : Option Nat} {a2 : Int} {a3 : Int} {o4 : Option Nat} {P : HM → Prop} (h : wc_X9_init (g_ad G) μ b o1 a2 a3 o4 P) : CM G l yX9_init cX9_init 5 (Option.none : Option Jvm.ClassFile.FieldType) 2 0 0 [.ref b, va_rf o1, vI a2, vI a3, va_rf o4] μ (hR0 P) := by
  unfold wc_X9_init at h
  refine wm_of (lvs := [(0, va_rf (some b)), (1, va_rf o1), (2, vI a2), (3, vI a3), (4, va_rf o4)]) (by decide) (by simp [lg_sl, rf_cat, vI_cat, vL_cat, ref_cat]) (by simp [lv_args, rf_cat, vI_cat, vL_cat, ref_cat, rf_some]) (fun fr ws hM1 => ?_)
  show WW G l cX9_init RX9 5 (Option.none : Option Jvm.ClassFile.FieldType) "<init>" 2 0 0 (hMR G (hR0 P)) (fun u => [u.1, fr]) 0 0 [ws, fr] 0 [(0, va_rf (some b)), (1, va_rf o1), (2, vI a2), (3, vI a3), (4, va_rf o4)] []
  refine ww_aloadQ_n dX9_init_0 0 rfl ?_
  refine ww_aloadQ_n dX9_init_1 1 rfl ?_
  refine ww_iload_n dX9_init_2 2 rfl ?_
  refine wm_callI (n := 2) hM1 (tm_X8_init_7 h) rfl q1148 q140 q1146 q1147 rfl ⟨by decide, by decide, by decide +kernel⟩ rfl ⟨Nat.le_of_ble_eq_true rfl, Nat.le_of_ble_eq_true rfl⟩ rfl (Nat.le_of_ble_eq_true rfl) dX9_init_3 ⟨Nat.le_refl _, Nat.le_refl _⟩ ?_
  clear h
  rintro _ μ_1 ws ⟨rfl, h⟩ hM2
  refine ww_st0 ?_
  refine ww_aloadQ_n dX9_init_6 0 rfl ?_
  refine ww_iload_n dX9_init_7 3 rfl ?_
  obtain ⟨fi_2, fq_3, hc, h⟩ := h
  refine wm_putIF hM2 rfl in_X9 tyX9_ok nmX9 (ci := 7) rfl 2 (Nat.le_of_ble_eq_true rfl) hc (fun _ _ => rfl) (fun _ _ => Nat.le_of_ble_eq_true rfl) q1150 (fun _ _ h => h) rfl rfl rfl rfl rfl dX9_init_8 (fun ws hM3 => ?_)
  refine ww_aloadQ_n dX9_init_11 0 rfl ?_
  refine ww_aloadQ dX9_init_12 4 rfl ?_
  obtain ⟨fi_4, fq_5, hc, h⟩ := h
  refine wm_putQF hM3 rfl in_X9 tyX9_ok nmX9 (ci := 7) rfl 3 (Nat.le_of_ble_eq_true rfl) hc (fun _ _ => rfl) (fun _ _ => Nat.le_of_ble_eq_true rfl) q1154 (fun _ _ h => h) rfl rfl rfl (narrow_rf rfl _) (fits_rf rfl _) dX9_init_14 (fun ws hM4 => ?_)
  exact ww_vret (ws, (hs (hs μ_1 b (hO 7 (upF fi_2 2 a3) fq_3)) b (hO 7 fi_4 (upF fq_5 3 o4)))) rfl ⟨hM4, ⟨rfl, h⟩⟩ rfl (Nat.le_refl _) (Nat.le_refl _) dX9_init_17
/-! X6_gate: HoloNet$Reader gate ()V; flags (True, True, True), depth 12 -/
def wc_X6_gate (ad : Nat → Nat) (mc ms : Nat) (μ : HM) (b : Nat) (P : HM → Prop) (X : Nat → String → HM → Prop) : Prop :=
  ∃ x_1 : Option Nat, gQ μ b 5 1 = some x_1 ∧
  ∃ a_3 : Nat, x_1 = some a_3 ∧
  ∃ x_2 : Option Nat, gQ μ a_3 2 1 = some x_2 ∧
  gC μ b = some 5 ∧
  ∃ c_4 s_5 : Nat, (0 + c_4 ≤ mc ∧ 0 + s_5 ≤ ms) ∧
  wc_X6_begins ad c_4 s_5 μ b x_2 (fun y_7 μ_9 =>
    (0 + c_4 + 1 ≤ mc ∧ 0 + s_5 + 3 ≤ ms) ∧ ∀ q_13 : Nat, μ_9 q_13 = none →
    ∃ x_15 : Option Nat, gQ (hs μ_9 q_13 (hO 11 (fun _ => 0) (fun _ => none))) b 5 1 = some x_15 ∧
    gC (hs μ_9 q_13 (hO 11 (fun _ => 0) (fun _ => none))) b = some 5 ∧
    ∃ c_16 s_17 : Nat, (0 + c_4 + 1 + c_16 ≤ mc ∧ 0 + s_5 + 3 + s_17 ≤ ms) ∧
    wc_X6_number ad c_16 s_17 (hs μ_9 q_13 (hO 11 (fun _ => 0) (fun _ => none))) b 1 8 (fun y_19 μ_21 =>
      ∃ c_25 s_26 : Nat, (0 + c_4 + 1 + c_16 + c_25 ≤ mc ∧ 0 + s_5 + 3 + s_17 + s_26 ≤ ms) ∧
      wc_X10_init ad c_25 s_26 μ_21 q_13 x_15 y_19 (fun μ_28 =>
        ∃ x_29 : Int, gI μ_28 q_13 11 1 = some x_29 ∧
        wc_J10_min ad μ_28 4 x_29 (fun y_30 =>
          gC μ_28 b = some 5 ∧
          ∃ c_32 s_33 : Nat, (0 + c_4 + 1 + c_16 + c_25 + c_32 ≤ mc ∧ 0 + s_5 + 3 + s_17 + s_26 + s_33 ≤ ms) ∧
          wc_X6_number ad c_32 s_33 μ_28 b 1 y_30 (fun y_35 μ_37 =>
            ∃ I48 : Nat → Int → HM → Nat → Nat → Prop, (∀ (n48 : Nat) (v4_48 : Int) (μ48 : HM) (uc48 : Nat) (us48 : Nat), I48 n48 v4_48 μ48 uc48 us48 →
              ∃ x_41 : Int, gI μ48 b 5 7 = some x_41 ∧
              rI x_41 ∧
              ((x_41 = (-1) →
                ∃ x_43 : Option Nat, gQ μ48 b 5 1 = some x_43 ∧
                ∃ a_45 : Nat, x_43 = some a_45 ∧
                ∃ x_44 : Option Nat, gQ μ48 a_45 2 1 = some x_44 ∧
                (uc48 + 1 ≤ mc ∧ us48 + 4 ≤ ms) ∧ ∀ q_46 : Nat, μ48 q_46 = none →
                ∃ x_48 : Option Nat, gQ (hs μ48 q_46 (hO 7 (fun _ => 0) (fun _ => none))) b 5 1 = some x_48 ∧
                ∃ a_50 : Nat, x_48 = some a_50 ∧
                ∃ x_49 : Option Nat, gQ (hs μ48 q_46 (hO 7 (fun _ => 0) (fun _ => none))) a_50 2 1 = some x_49 ∧
                ∃ a_51 : Nat, x_49 = some a_51 ∧
                gC (hs μ48 q_46 (hO 7 (fun _ => 0) (fun _ => none))) a_51 = some 3 ∧
                wc_X3_size ad (hs μ48 q_46 (hO 7 (fun _ => 0) (fun _ => none))) a_51 (fun y_52 =>
                  gC (hs μ48 q_46 (hO 7 (fun _ => 0) (fun _ => none))) q_13 = some 11 ∧
                  ∃ c_54 s_55 : Nat, (uc48 + 1 + c_54 ≤ mc ∧ us48 + 4 + s_55 ≤ ms) ∧
                  wc_X10_signature ad c_54 s_55 (hs μ48 q_46 (hO 7 (fun _ => 0) (fun _ => none))) q_13 y_35 (fun y_57 μ_59 =>
                    wc_X9_init ad μ_59 q_46 y_7 y_52 y_35 y_57 (fun μ_60 =>
                      ∃ a_61 : Nat, x_44 = some a_61 ∧
                      gC μ_60 a_61 = some 3 ∧
                      ∃ c_62 s_63 : Nat, (uc48 + 1 + c_54 + c_62 ≤ mc ∧ us48 + 4 + s_55 + s_63 ≤ ms) ∧
                      wc_X3_add ad c_62 s_63 μ_60 a_61 (some q_46) (fun μ_65 =>
                        P μ_65))))) ∧
              (¬ x_41 = (-1) →
                ∃ x_66 : Int, gI μ48 q_13 11 1 = some x_66 ∧
                gC μ48 b = some 5 ∧
                ∃ c_67 s_68 : Nat, (uc48 + c_67 ≤ mc ∧ us48 + s_68 ≤ ms) ∧
                wc_X6_looks ad c_67 s_68 μ48 b 0 (x_66 - 1) (fun μ_70 =>
                  rI v4_48 ∧
                  ∃ J80 : Int → Prop, (∀ (s1_80 : Int), J80 s1_80 →
                    gC μ_70 b = some 5 ∧
                    ∃ c_75 s_76 : Nat, (uc48 + c_67 + c_75 ≤ mc ∧ us48 + s_68 + s_76 ≤ ms) ∧
                    wc_X6_must ad c_75 s_76 μ_70 b s1_80 5 (fun μ_78 =>
                      ∃ x_82 : Int, gI μ_78 q_13 11 1 = some x_82 ∧
                      gC μ_78 b = some 5 ∧
                      ∃ c_83 s_84 : Nat, (uc48 + c_67 + c_75 + c_83 ≤ mc ∧ us48 + s_68 + s_76 + s_84 ≤ ms) ∧
                      wc_X6_number ad c_83 s_84 μ_78 b 0 (x_82 - 1) (fun y_86 μ_88 =>
                        ∃ x_92 : Int, gI μ_88 q_13 11 1 = some x_92 ∧
                        gC μ_88 b = some 5 ∧
                        ∃ c_93 s_94 : Nat, (uc48 + c_67 + c_75 + c_83 + c_93 ≤ mc ∧ us48 + s_68 + s_76 + s_84 + s_94 ≤ ms) ∧
                        wc_X6_looks ad c_93 s_94 μ_88 b 0 (x_92 - 1) (fun μ_96 =>
                          ∃ x_100 : Option Nat, gQ μ_96 q_13 11 2 = some x_100 ∧
                          ∃ a_101 : Nat, x_100 = some a_101 ∧
                          ∃ x_102 : Option Nat, gR μ_96 a_101 6 y_86 = some x_102 ∧
                          ∃ x_103 : Int, gI μ_96 b 5 7 = some x_103 ∧
                          ∃ a_104 : Nat, x_102 = some a_104 ∧
                          ∃ x_105 : Int, gA μ_96 a_104 0 x_103 = some x_105 ∧
                          rI x_105 ∧
                          ∃ J129 : Int → Prop, (∀ (s1_129 : Int), J129 s1_129 →
                            gC μ_96 b = some 5 ∧
                            ∃ c_107 s_108 : Nat, (uc48 + c_67 + c_75 + c_83 + c_93 + c_107 ≤ mc ∧ us48 + s_68 + s_76 + s_84 + s_94 + s_108 ≤ ms) ∧
                            wc_X6_must ad c_107 s_108 μ_96 b s1_129 2 (fun μ_110 =>
                              ∃ x_114 : Int, gI μ_110 b 5 7 = some x_114 ∧
                              rI y_86 ∧
                              rI x_114 ∧
                              ∃ J148 : Int → Prop, (∀ (s1_148 : Int), J148 s1_148 →
                                gC μ_110 b = some 5 ∧
                                ∃ c_117 s_118 : Nat, (uc48 + c_67 + c_75 + c_83 + c_93 + c_107 + c_117 ≤ mc ∧ us48 + s_68 + s_76 + s_84 + s_94 + s_108 + s_118 ≤ ms) ∧
                                wc_X6_must ad c_117 s_118 μ_110 b s1_148 4 (fun μ_120 =>
                                  ∃ x_124 : Int, gI μ_120 q_13 11 1 = some x_124 ∧
                                  gC μ_120 b = some 5 ∧
                                  ∃ c_125 s_126 : Nat, (uc48 + c_67 + c_75 + c_83 + c_93 + c_107 + c_117 + c_125 ≤ mc ∧ us48 + s_68 + s_76 + s_84 + s_94 + s_108 + s_118 + s_126 ≤ ms) ∧
                                  wc_X6_number ad c_125 s_126 μ_120 b 0 (x_124 - 1) (fun y_128 μ_130 =>
                                    ∃ x_134 : Option Nat, gQ μ_130 q_13 11 2 = some x_134 ∧
                                    ∃ a_135 : Nat, x_134 = some a_135 ∧
                                    ∃ x_136 : Option Nat, gR μ_130 a_135 6 y_86 = some x_136 ∧
                                    ∃ x_137 : Option Nat, gQ μ_130 b 5 1 = some x_137 ∧
                                    ∃ a_139 : Nat, x_137 = some a_139 ∧
                                    ∃ x_138 : Int, gI μ_130 a_139 2 0 = some x_138 ∧
                                    gC μ_130 b = some 5 ∧
                                    ∃ c_140 s_141 : Nat, (uc48 + c_67 + c_75 + c_83 + c_93 + c_107 + c_117 + c_125 + c_140 ≤ mc ∧ us48 + s_68 + s_76 + s_84 + s_94 + s_108 + s_118 + s_126 + s_141 ≤ ms) ∧
                                    wc_X6_number ad c_140 s_141 μ_130 b 1 (x_138 - 1) (fun y_143 μ_145 =>
                                      ∃ a_149 : Nat, x_136 = some a_149 ∧
                                      ∃ (n_150 : Nat) (f_151 : Int → Int), μ_145 a_149 = some (hA 0 n_150 f_151) ∧ ((0 : Int) ≤ y_128 ∧ y_128 < (n_150 : Int) ∧ (n_150 : Int) < 2147483648) ∧ 
                                      ∃ x_152 : Option Nat, gQ (hs μ_145 a_149 (hA 0 n_150 (updI f_151 y_128 y_143))) q_13 11 2 = some x_152 ∧
                                      ∃ a_153 : Nat, x_152 = some a_153 ∧
                                      ∃ x_154 : Option Nat, gR (hs μ_145 a_149 (hA 0 n_150 (updI f_151 y_128 y_143))) a_153 6 y_128 = some x_154 ∧
                                      ∃ x_155 : Option Nat, gQ (hs μ_145 a_149 (hA 0 n_150 (updI f_151 y_128 y_143))) q_13 11 2 = some x_155 ∧
                                      ∃ a_156 : Nat, x_155 = some a_156 ∧
                                      ∃ x_157 : Option Nat, gR (hs μ_145 a_149 (hA 0 n_150 (updI f_151 y_128 y_143))) a_156 6 y_86 = some x_157 ∧
                                      ∃ a_158 : Nat, x_157 = some a_158 ∧
                                      ∃ x_159 : Int, gA (hs μ_145 a_149 (hA 0 n_150 (updI f_151 y_128 y_143))) a_158 0 y_128 = some x_159 ∧
                                      ∃ a_160 : Nat, x_154 = some a_160 ∧
                                      ∃ (n_161 : Nat) (f_162 : Int → Int), (hs μ_145 a_149 (hA 0 n_150 (updI f_151 y_128 y_143))) a_160 = some (hA 0 n_161 f_162) ∧ ((0 : Int) ≤ y_86 ∧ y_86 < (n_161 : Int) ∧ (n_161 : Int) < 2147483648) ∧ 
                                      ∃ m : Nat, m < n48 ∧ I48 m (v4_48 + 1) (hs (hs μ_145 a_149 (hA 0 n_150 (updI f_151 y_128 y_143))) a_160 (hA 0 n_161 (updI f_162 y_86 x_159))) (uc48 + c_67 + c_75 + c_83 + c_93 + c_107 + c_117 + c_125 + c_140) (us48 + s_68 + s_76 + s_84 + s_94 + s_108 + s_118 + s_126 + s_141)) (fun q_146 E_147 μ_148 =>
                                      X q_146 E_147 μ_148)) (fun q_131 E_132 μ_133 =>
                                    X q_131 E_132 μ_133)) (fun q_121 E_122 μ_123 =>
                                  X q_121 E_122 μ_123)) ∧
                              ((y_86 = x_114 →
                                J148 0) ∧
                              (¬ y_86 = x_114 →
                                J148 1))) (fun q_111 E_112 μ_113 =>
                              X q_111 E_112 μ_113)) ∧
                          ((¬ x_105 = 0 →
                            J129 0) ∧
                          (x_105 = 0 →
                            J129 1))) (fun q_97 E_98 μ_99 =>
                          X q_97 E_98 μ_99)) (fun q_89 E_90 μ_91 =>
                        X q_89 E_90 μ_91)) (fun q_79 E_80 μ_81 =>
                      X q_79 E_80 μ_81)) ∧
                  ((12 ≤ v4_48 →
                    J80 0) ∧
                  (v4_48 < 12 →
                    J80 1))) (fun q_71 E_72 μ_73 =>
                  X q_71 E_72 μ_73)))) ∧
            ∃ m : Nat, I48 m 0 μ_37 (0 + c_4 + 1 + c_16 + c_25 + c_32) (0 + s_5 + 3 + s_17 + s_26 + s_33)) (fun q_38 E_39 μ_40 =>
            X q_38 E_39 μ_40)))) (fun q_22 E_23 μ_24 =>
      X q_22 E_23 μ_24)) (fun q_10 E_11 μ_12 =>
    X q_10 E_11 μ_12)
set_option maxHeartbeats 4000000 in
theorem tm_X6_gate {G : g_G} {l : Launch} {mc ms : Nat} {μ : HM} {b : Nat} {P : HM → Prop} {X : Nat → String → HM → Prop} (h : wc_X6_gate (g_ad G) mc ms μ b P X) : CMX G l yX6_gate cX6_gate 7 (Option.none : Option Jvm.ClassFile.FieldType) 12 mc ms [.ref b] μ (hR0 P) X := by
  unfold wc_X6_gate at h
  refine wm_ofX (lvs := [(0, va_rf (some b))]) (by decide) (Nat.le_of_ble_eq_true rfl) rfl (fun fr ws hM1 => ?_)
  show WF G l cX6_gate RX6 7 (Option.none : Option Jvm.ClassFile.FieldType) "gate" 12 mc ms (gFX G (hMR G (hR0 P)) (fun u => [u.1, fr]) (hMX G X) (fun u => [u.1, fr]) mc ms []) 0 0 [ws, fr] 0 [(0, va_rf (some b))] []
  have hB : 0 ≤ mc ∧ 0 ≤ ms := ⟨Nat.zero_le _, Nat.zero_le _⟩
  refine ww_aloadQ_n dX6_gate_0 0 rfl ?_
  refine ww_aloadQ_n dX6_gate_1 0 rfl ?_
  obtain ⟨x_1, hx, h⟩ := h
  refine wm_getQ hM1 rfl in_X6 (ci := 5) rfl (by decide) 1 (Nat.le_of_ble_eq_true rfl) hx (fun _ _ => rfl) q400 (fun _ _ h => h) dX6_gate_2 ?_
  obtain ⟨a_3, ea_3, h⟩ := h
  subst ea_3
  obtain ⟨x_2, hx, h⟩ := h
  refine wm_getQN hM1 rfl in_X2 (ci := 2) rfl (by decide) 1 (Nat.le_of_ble_eq_true rfl) hx (fun _ _ => rfl) q262 (fun _ _ h => h) dX6_gate_5 ?_
  obtain ⟨hg, h⟩ := h
  obtain ⟨c_4, s_5, b_6, h⟩ := h
  refine wm_callX (n := 1) hM1 (tm_X6_begins h) rfl hg rfl (lw_V q847 q849 qs10 q118 q850) ⟨by decide, by decide, by decide +kernel⟩ rfl ⟨Nat.le_of_ble_eq_true rfl, Nat.le_of_ble_eq_true rfl⟩ rfl (Nat.le_of_ble_eq_true rfl) dX6_gate_8 b_6 ?_ ?_
  · clear h
    intro q_10 E_11 μ_12 ws h hM2
    have hB := b_6
    exact wx_out (fun _ hz => nomatch hz) (ws, μ_12) ⟨hM2, h⟩ rfl hB.1 hB.2
  · clear h
    rintro _ μ_9 ws ⟨y_7, rfl, h⟩ hM3
    have hB := b_6
    refine ww_st1 ?_
    refine ww_astoreQ_n (i := 1) (lv2 := [(1, va_rf y_7), (0, va_rf (some b))]) dX6_gate_11 rfl (Nat.le_of_ble_eq_true rfl) rfl ?_
    obtain ⟨b_14, h⟩ := h
    refine wm_new hM3 in_X10 tyX10_ok q1316 q1317 q143 (ci := 11) rfl dfl_11 b_14.1 b_14.2 dX6_gate_12 (fun q_13 ws hq hM4 => ?_)
    replace h := h q_13 hq
    have hB := b_14
    refine ww_dup dX6_gate_15 (rf_cat _) ?_
    refine ww_aloadQ_n dX6_gate_16 1 rfl ?_
    obtain ⟨x_15, hx, h⟩ := h
    refine wm_getQ hM4 rfl in_X6 (ci := 5) rfl (by decide) 1 (Nat.le_of_ble_eq_true rfl) hx (fun _ _ => rfl) q400 (fun _ _ h => h) dX6_gate_17 ?_
    refine ww_aloadQ_n dX6_gate_20 1 rfl ?_
    refine ww_iconst dX6_gate_21 ?_
    refine ww_bipush (v := 8) dX6_gate_22 rfl ?_
    obtain ⟨hg, h⟩ := h
    obtain ⟨c_16, s_17, b_18, h⟩ := h
    refine wm_callX (n := 2) hM4 (tm_X6_number h) rfl hg rfl (lw_V q781 q783 qs7 q118 q784) ⟨by decide, by decide, by decide +kernel⟩ rfl ⟨Nat.le_of_ble_eq_true rfl, Nat.le_of_ble_eq_true rfl⟩ rfl (by simp only [List.map_cons, List.map_nil, rf_cat, vI_cat, vL_cat, List.sum_cons, List.sum_nil]; decide) dX6_gate_24 b_18 ?_ ?_
    · clear h
      intro q_22 E_23 μ_24 ws h hM5
      have hB := b_18
      exact wx_out (fun _ hz => nomatch hz) (ws, μ_24) ⟨hM5, h⟩ rfl hB.1 hB.2
    · clear h
      rintro _ μ_21 ws ⟨y_19, rfl, h⟩ hM6
      have hB := b_18
      refine ww_st1 ?_
      obtain ⟨c_25, s_26, b_27, h⟩ := h
      refine wm_callI (n := 2) hM6 (tm_X10_init h) rfl q1320 q143 q1318 q1319 rfl ⟨by decide, by decide, by decide +kernel⟩ rfl ⟨Nat.le_of_ble_eq_true rfl, Nat.le_of_ble_eq_true rfl⟩ rfl (by simp only [List.map_cons, List.map_nil, rf_cat, vI_cat, vL_cat, List.sum_cons, List.sum_nil]; decide) dX6_gate_27 b_27 ?_
      clear h
      rintro _ μ_28 ws ⟨rfl, h⟩ hM7
      have hB := b_27
      refine ww_st0 ?_
      refine ww_astoreQ_n (i := 2) (lv2 := [(2, va_rf (some q_13)), (1, va_rf y_7), (0, va_rf (some b))]) dX6_gate_30 rfl (Nat.le_of_ble_eq_true rfl) (by simp [rf_cat, vI_cat, vL_cat, ref_cat]) ?_
      refine ww_aloadQ_n dX6_gate_31 2 rfl ?_
      refine ww_iconst dX6_gate_32 ?_
      refine ww_iconst dX6_gate_33 ?_
      refine ww_aloadQ_n dX6_gate_34 0 rfl ?_
      obtain ⟨x_29, hx, h⟩ := h
      refine wm_getIN hM7 rfl in_X10 (ci := 11) rfl (by decide) 1 (Nat.le_of_ble_eq_true rfl) hx (fun _ _ => rfl) q1325 (fun _ _ h => h) dX6_gate_35 ?_
      refine wm_callS (n := 2) hM7 (tm_J10_min h) (lw_S q1335 q484 q124 q485) ⟨by decide, by decide, by decide +kernel⟩ rfl ⟨Nat.le_of_ble_eq_true rfl, Nat.le_of_ble_eq_true rfl⟩ rfl (by simp only [List.map_cons, List.map_nil, rf_cat, vI_cat, vL_cat, List.sum_cons, List.sum_nil]; decide) dX6_gate_38 hB ?_
      clear h
      rintro _ _ ws ⟨rfl, y_30, rfl, h⟩ hM8
      refine ww_st1 ?_
      obtain ⟨hg, h⟩ := h
      obtain ⟨c_32, s_33, b_34, h⟩ := h
      refine wm_callX (n := 2) hM8 (tm_X6_number h) rfl hg rfl (lw_V q781 q783 qs7 q118 q784) ⟨by decide, by decide, by decide +kernel⟩ rfl ⟨Nat.le_of_ble_eq_true rfl, Nat.le_of_ble_eq_true rfl⟩ rfl (Nat.le_of_ble_eq_true rfl) dX6_gate_41 b_34 ?_ ?_
      · clear h
        intro q_38 E_39 μ_40 ws h hM9
        have hB := b_34
        exact wx_out (fun _ hz => nomatch hz) (ws, μ_40) ⟨hM9, h⟩ rfl hB.1 hB.2
      · clear h
        rintro _ μ_37 ws ⟨y_35, rfl, h⟩ hM10
        have hB := b_34
        refine ww_st1 ?_
        refine ww_istore_n (i := 3) (lv2 := [(3, vI y_35), (2, va_rf (some q_13)), (1, va_rf y_7), (0, va_rf (some b))]) dX6_gate_44 rfl (Nat.le_of_ble_eq_true rfl) rfl ?_
        refine ww_iconst dX6_gate_45 ?_
        refine ww_istore (i := 4) (lv2 := [(4, vI 0), (3, vI y_35), (2, va_rf (some q_13)), (1, va_rf y_7), (0, va_rf (some b))]) dX6_gate_46 (Nat.le_of_ble_eq_true rfl) rfl ?_
        obtain ⟨I48, hI48, h⟩ := h
        have kI48 : ∀ (n48 : Nat), ∀ (v4_48 : Int), ∀ (μ48 : HM), ∀ (uc48 : Nat), ∀ (us48 : Nat), I48 n48 v4_48 μ48 uc48 us48 → ∀ ws : va_W, Mrep G ws μ48 → (uc48 ≤ mc ∧ us48 ≤ ms) → WF G l cX6_gate RX6 7 (Option.none : Option Jvm.ClassFile.FieldType) "gate" 12 mc ms (gFX G (hMR G (hR0 P)) (fun u => [u.1, fr]) (hMX G X) (fun u => [u.1, fr]) mc ms []) uc48 us48 [ws, fr] 48 [(0, va_rf (some b)), (1, va_rf y_7), (2, va_rf (some q_13)), (3, vI y_35), (4, vI v4_48)] [] := by
          clear h
          intro n48
          induction n48 using Nat.strongRecOn with
          | ind n48 ih48 =>
            intro v4_48 μ48 uc48 us48 hj ws hM11 hB
            have h := hI48 n48 v4_48 μ48 uc48 us48 hj
            refine ww_aloadQ_n dX6_gate_48 0 rfl ?_
            obtain ⟨x_41, hx, h⟩ := h
            refine wm_getI hM11 rfl in_X6 (ci := 5) rfl (by decide) 7 (Nat.le_of_ble_eq_true rfl) hx (fun _ _ => rfl) q408 (fun _ _ h => h) dX6_gate_49 ?_
            refine ww_iconst dX6_gate_52 ?_
            obtain ⟨r_42, h⟩ := h
            refine ww_icmp_eq (tgt := 215) dX6_gate_53 (by decide) r_42 (by decide) (fun c => ?_) (fun c => ?_)
            · replace h := h.1 c
              refine ww_aloadQ_n dX6_gate_215 0 rfl ?_
              obtain ⟨x_43, hx, h⟩ := h
              refine wm_getQ hM11 rfl in_X6 (ci := 5) rfl (by decide) 1 (Nat.le_of_ble_eq_true rfl) hx (fun _ _ => rfl) q400 (fun _ _ h => h) dX6_gate_216 ?_
              obtain ⟨a_45, ea_45, h⟩ := h
              subst ea_45
              obtain ⟨x_44, hx, h⟩ := h
              refine wm_getQN hM11 rfl in_X2 (ci := 2) rfl (by decide) 1 (Nat.le_of_ble_eq_true rfl) hx (fun _ _ => rfl) q262 (fun _ _ h => h) dX6_gate_219 ?_
              obtain ⟨b_47, h⟩ := h
              refine wm_new hM11 in_X9 tyX9_ok q1137 q1138 q141 (ci := 7) rfl dfl_7 b_47.1 b_47.2 dX6_gate_222 (fun q_46 ws hq hM12 => ?_)
              replace h := h q_46 hq
              have hB := b_47
              refine ww_dup dX6_gate_225 (rf_cat _) ?_
              refine ww_aloadQ_n dX6_gate_226 1 rfl ?_
              refine ww_aloadQ_n dX6_gate_227 0 rfl ?_
              obtain ⟨x_48, hx, h⟩ := h
              refine wm_getQ hM12 rfl in_X6 (ci := 5) rfl (by decide) 1 (Nat.le_of_ble_eq_true rfl) hx (fun _ _ => rfl) q400 (fun _ _ h => h) dX6_gate_228 ?_
              obtain ⟨a_50, ea_50, h⟩ := h
              subst ea_50
              obtain ⟨x_49, hx, h⟩ := h
              refine wm_getQN hM12 rfl in_X2 (ci := 2) rfl (by decide) 1 (Nat.le_of_ble_eq_true rfl) hx (fun _ _ => rfl) q262 (fun _ _ h => h) dX6_gate_231 ?_
              obtain ⟨a_51, ea_51, h⟩ := h
              subst ea_51
              obtain ⟨hg, h⟩ := h
              refine wm_callV (n := 0) hM12 (tm_X3_size h) rfl hg rfl (lw_V q1139 q1140 q1141 q110 q1142) ⟨by decide, by decide, by decide +kernel⟩ rfl ⟨Nat.le_of_ble_eq_true rfl, Nat.le_of_ble_eq_true rfl⟩ rfl (by simp only [List.map_cons, List.map_nil, rf_cat, vI_cat, vL_cat, List.sum_cons, List.sum_nil]; decide) dX6_gate_234 hB ?_
              clear h
              rintro _ _ ws ⟨rfl, y_52, rfl, h⟩ hM13
              refine ww_st1 ?_
              refine ww_iload_n dX6_gate_237 3 rfl ?_
              refine ww_aloadQ_n dX6_gate_238 2 rfl ?_
              refine ww_iload_n dX6_gate_239 3 rfl ?_
              obtain ⟨hg, h⟩ := h
              obtain ⟨c_54, s_55, b_56, h⟩ := h
              refine wm_callV (n := 1) hM13 (tm_X10_signature h) rfl hg rfl (lw_V q1336 q1337 q1338 q143 q1339) ⟨by decide, by decide, by decide +kernel⟩ rfl ⟨Nat.le_of_ble_eq_true rfl, Nat.le_of_ble_eq_true rfl⟩ rfl (by simp only [List.map_cons, List.map_nil, rf_cat, vI_cat, vL_cat, List.sum_cons, List.sum_nil]; decide) dX6_gate_240 b_56 ?_
              clear h
              rintro _ μ_59 ws ⟨y_57, rfl, h⟩ hM14
              have hB := b_56
              refine ww_st1 ?_
              refine wm_callI (n := 4) hM14 (tm_X9_init h) rfl q1145 q141 q1143 q1144 rfl ⟨by decide, by decide, by decide +kernel⟩ rfl ⟨Nat.le_of_ble_eq_true rfl, Nat.le_of_ble_eq_true rfl⟩ rfl (by simp only [List.map_cons, List.map_nil, rf_cat, vI_cat, vL_cat, List.sum_cons, List.sum_nil]; decide) dX6_gate_243 hB ?_
              clear h
              rintro _ μ_60 ws ⟨rfl, h⟩ hM15
              refine ww_st0 ?_
              obtain ⟨a_61, ea_61, h⟩ := h
              subst ea_61
              obtain ⟨hg, h⟩ := h
              obtain ⟨c_62, s_63, b_64, h⟩ := h
              refine wm_callV (n := 1) hM15 (tm_X3_add h) rfl hg rfl (lw_V q1171 q1172 q1173 q110 q1174) ⟨by decide, by decide, by decide +kernel⟩ rfl ⟨Nat.le_of_ble_eq_true rfl, Nat.le_of_ble_eq_true rfl⟩ rfl (Nat.le_of_ble_eq_true rfl) dX6_gate_246 b_64 ?_
              clear h
              rintro _ μ_65 ws ⟨rfl, h⟩ hM16
              have hB := b_64
              refine ww_st0 ?_
              refine wx_lift ?_
              exact ww_vret (ws, μ_65) rfl ⟨hM16, ⟨rfl, h⟩⟩ rfl hB.1 hB.2 dX6_gate_249
            · replace h := h.2 c
              refine ww_aloadQ_n dX6_gate_56 0 rfl ?_
              refine ww_iconst dX6_gate_57 ?_
              refine ww_aloadQ_n dX6_gate_58 2 rfl ?_
              obtain ⟨x_66, hx, h⟩ := h
              refine wm_getIN hM11 rfl in_X10 (ci := 11) rfl (by decide) 1 (Nat.le_of_ble_eq_true rfl) hx (fun _ _ => rfl) q1325 (fun _ _ h => h) dX6_gate_59 ?_
              refine ww_iconst dX6_gate_62 ?_
              refine ww_isub dX6_gate_63 ?_
              obtain ⟨hg, h⟩ := h
              obtain ⟨c_67, s_68, b_69, h⟩ := h
              refine wm_callX (n := 2) hM11 (tm_X6_looks h) rfl hg rfl (lw_V q692 q694 qs3 q118 q695) ⟨by decide, by decide, by decide +kernel⟩ rfl ⟨Nat.le_of_ble_eq_true rfl, Nat.le_of_ble_eq_true rfl⟩ rfl (Nat.le_of_ble_eq_true rfl) dX6_gate_64 b_69 ?_ ?_
              · clear h
                intro q_71 E_72 μ_73 ws h hM17
                have hB := b_69
                exact wx_out (fun _ hz => nomatch hz) (ws, μ_73) ⟨hM17, h⟩ rfl hB.1 hB.2
              · clear h
                rintro _ μ_70 ws ⟨rfl, h⟩ hM18
                have hB := b_69
                refine ww_st0 ?_
                refine ww_aloadQ_n dX6_gate_67 0 rfl ?_
                refine ww_iload dX6_gate_68 4 rfl ?_
                refine ww_bipush (v := 12) dX6_gate_70 rfl ?_
                obtain ⟨r_74, h⟩ := h
                obtain ⟨J80, hJ80, h⟩ := h
                have kJ80 : ∀ (s1_80 : Int), J80 s1_80 → ∀ ws : va_W, Mrep G ws μ_70 → (uc48 + c_67 ≤ mc ∧ us48 + s_68 ≤ ms) → WF G l cX6_gate RX6 7 (Option.none : Option Jvm.ClassFile.FieldType) "gate" 12 mc ms (gFX G (hMR G (hR0 P)) (fun u => [u.1, fr]) (hMX G X) (fun u => [u.1, fr]) mc ms []) (uc48 + c_67) (us48 + s_68) [ws, fr] 80 [(0, va_rf (some b)), (1, va_rf y_7), (2, va_rf (some q_13)), (3, vI y_35), (4, vI v4_48)] [vI s1_80, va_rf (some b)] := by
                  clear h
                  intro s1_80 hj ws hM19 hB
                  have h := hJ80 s1_80 hj
                  refine ww_iconst dX6_gate_80 ?_
                  obtain ⟨hg, h⟩ := h
                  obtain ⟨c_75, s_76, b_77, h⟩ := h
                  refine wm_callX (n := 2) hM19 (tm_X6_must h) rfl hg rfl (lw_V q696 q698 qs4 q118 q699) ⟨by decide, by decide, by decide +kernel⟩ rfl ⟨Nat.le_of_ble_eq_true rfl, Nat.le_of_ble_eq_true rfl⟩ rfl (Nat.le_of_ble_eq_true rfl) dX6_gate_81 b_77 ?_ ?_
                  · clear h
                    intro q_79 E_80 μ_81 ws h hM20
                    have hB := b_77
                    exact wx_out (fun _ hz => nomatch hz) (ws, μ_81) ⟨hM20, h⟩ rfl hB.1 hB.2
                  · clear h
                    rintro _ μ_78 ws ⟨rfl, h⟩ hM21
                    have hB := b_77
                    refine ww_st0 ?_
                    refine ww_aloadQ_n dX6_gate_84 0 rfl ?_
                    refine ww_iconst dX6_gate_85 ?_
                    refine ww_aloadQ_n dX6_gate_86 2 rfl ?_
                    obtain ⟨x_82, hx, h⟩ := h
                    refine wm_getIN hM21 rfl in_X10 (ci := 11) rfl (by decide) 1 (Nat.le_of_ble_eq_true rfl) hx (fun _ _ => rfl) q1325 (fun _ _ h => h) dX6_gate_87 ?_
                    refine ww_iconst dX6_gate_90 ?_
                    refine ww_isub dX6_gate_91 ?_
                    obtain ⟨hg, h⟩ := h
                    obtain ⟨c_83, s_84, b_85, h⟩ := h
                    refine wm_callX (n := 2) hM21 (tm_X6_number h) rfl hg rfl (lw_V q781 q783 qs7 q118 q784) ⟨by decide, by decide, by decide +kernel⟩ rfl ⟨Nat.le_of_ble_eq_true rfl, Nat.le_of_ble_eq_true rfl⟩ rfl (Nat.le_of_ble_eq_true rfl) dX6_gate_92 b_85 ?_ ?_
                    · clear h
                      intro q_89 E_90 μ_91 ws h hM22
                      have hB := b_85
                      exact wx_out (fun _ hz => nomatch hz) (ws, μ_91) ⟨hM22, h⟩ rfl hB.1 hB.2
                    · clear h
                      rintro _ μ_88 ws ⟨y_86, rfl, h⟩ hM23
                      have hB := b_85
                      refine ww_st1 ?_
                      refine ww_istore (i := 5) (lv2 := [(5, vI y_86), (0, va_rf (some b)), (1, va_rf y_7), (2, va_rf (some q_13)), (3, vI y_35), (4, vI v4_48)]) dX6_gate_95 (Nat.le_of_ble_eq_true rfl) rfl ?_
                      refine ww_aloadQ_n dX6_gate_97 1 rfl ?_
                      refine ww_iconst dX6_gate_98 ?_
                      refine ww_aloadQ_n dX6_gate_99 3 rfl ?_
                      obtain ⟨x_92, hx, h⟩ := h
                      refine wm_getIN hM23 rfl in_X10 (ci := 11) rfl (by decide) 1 (Nat.le_of_ble_eq_true rfl) hx (fun _ _ => rfl) q1325 (fun _ _ h => h) dX6_gate_100 ?_
                      refine ww_iconst dX6_gate_103 ?_
                      refine ww_isub dX6_gate_104 ?_
                      obtain ⟨hg, h⟩ := h
                      obtain ⟨c_93, s_94, b_95, h⟩ := h
                      refine wm_callX (n := 2) hM23 (tm_X6_looks h) rfl hg rfl (lw_V q692 q694 qs3 q118 q695) ⟨by decide, by decide, by decide +kernel⟩ rfl ⟨Nat.le_of_ble_eq_true rfl, Nat.le_of_ble_eq_true rfl⟩ rfl (Nat.le_of_ble_eq_true rfl) dX6_gate_105 b_95 ?_ ?_
                      · clear h
                        intro q_97 E_98 μ_99 ws h hM24
                        have hB := b_95
                        exact wx_out (fun _ hz => nomatch hz) (ws, μ_99) ⟨hM24, h⟩ rfl hB.1 hB.2
                      · clear h
                        rintro _ μ_96 ws ⟨rfl, h⟩ hM25
                        have hB := b_95
                        refine ww_st0 ?_
                        refine ww_aloadQ_n dX6_gate_108 1 rfl ?_
                        refine ww_aloadQ_n dX6_gate_109 3 rfl ?_
                        obtain ⟨x_100, hx, h⟩ := h
                        refine wm_getQN hM25 rfl in_X10 (ci := 11) rfl (by decide) 2 (Nat.le_of_ble_eq_true rfl) hx (fun _ _ => rfl) q1327 (fun _ _ h => h) dX6_gate_110 ?_
                        refine ww_iload dX6_gate_113 0 rfl ?_
                        obtain ⟨a_101, ea_101, h⟩ := h
                        subst ea_101
                        obtain ⟨x_102, hx, h⟩ := h
                        refine wm_aald hM25 rfl (by decide) hx dX6_gate_115 ?_
                        refine ww_aloadQ_n dX6_gate_116 1 rfl ?_
                        obtain ⟨x_103, hx, h⟩ := h
                        refine wm_getI hM25 rfl in_X6 (ci := 5) rfl (by decide) 7 (Nat.le_of_ble_eq_true rfl) hx (fun _ _ => rfl) q408 (fun _ _ h => h) dX6_gate_117 ?_
                        obtain ⟨a_104, ea_104, h⟩ := h
                        subst ea_104
                        obtain ⟨x_105, hx, h⟩ := h
                        refine wm_iald hM25 rfl hx dX6_gate_120 ?_
                        obtain ⟨r_106, h⟩ := h
                        obtain ⟨J129, hJ129, h⟩ := h
                        have kJ129 : ∀ (s1_129 : Int), J129 s1_129 → ∀ ws : va_W, Mrep G ws μ_96 → (uc48 + c_67 + c_75 + c_83 + c_93 ≤ mc ∧ us48 + s_68 + s_76 + s_84 + s_94 ≤ ms) → WF G l cX6_gate RX6 7 (Option.none : Option Jvm.ClassFile.FieldType) "gate" 12 mc ms (gFX G (hMR G (hR0 P)) (fun u => [u.1, fr]) (hMX G X) (fun u => [u.1, fr]) mc ms []) (uc48 + c_67 + c_75 + c_83 + c_93) (us48 + s_68 + s_76 + s_84 + s_94) [ws, fr] 129 [(0, va_rf (some b)), (1, va_rf y_7), (2, va_rf (some q_13)), (3, vI y_35), (4, vI v4_48), (5, vI y_86)] [vI s1_129, va_rf (some b)] := by
                          clear h
                          intro s1_129 hj ws hM26 hB
                          have h := hJ129 s1_129 hj
                          refine ww_iconst dX6_gate_129 ?_
                          obtain ⟨hg, h⟩ := h
                          obtain ⟨c_107, s_108, b_109, h⟩ := h
                          refine wm_callX (n := 2) hM26 (tm_X6_must h) rfl hg rfl (lw_V q696 q698 qs4 q118 q699) ⟨by decide, by decide, by decide +kernel⟩ rfl ⟨Nat.le_of_ble_eq_true rfl, Nat.le_of_ble_eq_true rfl⟩ rfl (Nat.le_of_ble_eq_true rfl) dX6_gate_130 b_109 ?_ ?_
                          · clear h
                            intro q_111 E_112 μ_113 ws h hM27
                            have hB := b_109
                            exact wx_out (fun _ hz => nomatch hz) (ws, μ_113) ⟨hM27, h⟩ rfl hB.1 hB.2
                          · clear h
                            rintro _ μ_110 ws ⟨rfl, h⟩ hM28
                            have hB := b_109
                            refine ww_st0 ?_
                            refine ww_aloadQ_n dX6_gate_133 0 rfl ?_
                            refine ww_iload dX6_gate_134 5 rfl ?_
                            refine ww_aloadQ_n dX6_gate_136 0 rfl ?_
                            obtain ⟨x_114, hx, h⟩ := h
                            refine wm_getI hM28 rfl in_X6 (ci := 5) rfl (by decide) 7 (Nat.le_of_ble_eq_true rfl) hx (fun _ _ => rfl) q408 (fun _ _ h => h) dX6_gate_137 ?_
                            obtain ⟨r_115, r_116, h⟩ := h
                            obtain ⟨J148, hJ148, h⟩ := h
                            have kJ148 : ∀ (s1_148 : Int), J148 s1_148 → ∀ ws : va_W, Mrep G ws μ_110 → (uc48 + c_67 + c_75 + c_83 + c_93 + c_107 ≤ mc ∧ us48 + s_68 + s_76 + s_84 + s_94 + s_108 ≤ ms) → WF G l cX6_gate RX6 7 (Option.none : Option Jvm.ClassFile.FieldType) "gate" 12 mc ms (gFX G (hMR G (hR0 P)) (fun u => [u.1, fr]) (hMX G X) (fun u => [u.1, fr]) mc ms []) (uc48 + c_67 + c_75 + c_83 + c_93 + c_107) (us48 + s_68 + s_76 + s_84 + s_94 + s_108) [ws, fr] 148 [(0, va_rf (some b)), (1, va_rf y_7), (2, va_rf (some q_13)), (3, vI y_35), (4, vI v4_48), (5, vI y_86)] [vI s1_148, va_rf (some b)] := by
                              clear h
                              intro s1_148 hj ws hM29 hB
                              have h := hJ148 s1_148 hj
                              refine ww_iconst dX6_gate_148 ?_
                              obtain ⟨hg, h⟩ := h
                              obtain ⟨c_117, s_118, b_119, h⟩ := h
                              refine wm_callX (n := 2) hM29 (tm_X6_must h) rfl hg rfl (lw_V q696 q698 qs4 q118 q699) ⟨by decide, by decide, by decide +kernel⟩ rfl ⟨Nat.le_of_ble_eq_true rfl, Nat.le_of_ble_eq_true rfl⟩ rfl (Nat.le_of_ble_eq_true rfl) dX6_gate_149 b_119 ?_ ?_
                              · clear h
                                intro q_121 E_122 μ_123 ws h hM30
                                have hB := b_119
                                exact wx_out (fun _ hz => nomatch hz) (ws, μ_123) ⟨hM30, h⟩ rfl hB.1 hB.2
                              · clear h
                                rintro _ μ_120 ws ⟨rfl, h⟩ hM31
                                have hB := b_119
                                refine ww_st0 ?_
                                refine ww_aloadQ_n dX6_gate_152 0 rfl ?_
                                refine ww_iconst dX6_gate_153 ?_
                                refine ww_aloadQ_n dX6_gate_154 2 rfl ?_
                                obtain ⟨x_124, hx, h⟩ := h
                                refine wm_getIN hM31 rfl in_X10 (ci := 11) rfl (by decide) 1 (Nat.le_of_ble_eq_true rfl) hx (fun _ _ => rfl) q1325 (fun _ _ h => h) dX6_gate_155 ?_
                                refine ww_iconst dX6_gate_158 ?_
                                refine ww_isub dX6_gate_159 ?_
                                obtain ⟨hg, h⟩ := h
                                obtain ⟨c_125, s_126, b_127, h⟩ := h
                                refine wm_callX (n := 2) hM31 (tm_X6_number h) rfl hg rfl (lw_V q781 q783 qs7 q118 q784) ⟨by decide, by decide, by decide +kernel⟩ rfl ⟨Nat.le_of_ble_eq_true rfl, Nat.le_of_ble_eq_true rfl⟩ rfl (Nat.le_of_ble_eq_true rfl) dX6_gate_160 b_127 ?_ ?_
                                · clear h
                                  intro q_131 E_132 μ_133 ws h hM32
                                  have hB := b_127
                                  exact wx_out (fun _ hz => nomatch hz) (ws, μ_133) ⟨hM32, h⟩ rfl hB.1 hB.2
                                · clear h
                                  rintro _ μ_130 ws ⟨y_128, rfl, h⟩ hM33
                                  have hB := b_127
                                  refine ww_st1 ?_
                                  refine ww_istore (i := 6) (lv2 := [(6, vI y_128), (0, va_rf (some b)), (1, va_rf y_7), (2, va_rf (some q_13)), (3, vI y_35), (4, vI v4_48), (5, vI y_86)]) dX6_gate_163 (Nat.le_of_ble_eq_true rfl) rfl ?_
                                  refine ww_aloadQ_n dX6_gate_165 3 rfl ?_
                                  obtain ⟨x_134, hx, h⟩ := h
                                  refine wm_getQN hM33 rfl in_X10 (ci := 11) rfl (by decide) 2 (Nat.le_of_ble_eq_true rfl) hx (fun _ _ => rfl) q1327 (fun _ _ h => h) dX6_gate_166 ?_
                                  refine ww_iload dX6_gate_169 6 rfl ?_
                                  obtain ⟨a_135, ea_135, h⟩ := h
                                  subst ea_135
                                  obtain ⟨x_136, hx, h⟩ := h
                                  refine wm_aald hM33 rfl (by decide) hx dX6_gate_171 ?_
                                  refine ww_iload dX6_gate_172 0 rfl ?_
                                  refine ww_aloadQ_n dX6_gate_174 1 rfl ?_
                                  refine ww_iconst dX6_gate_175 ?_
                                  refine ww_aloadQ_n dX6_gate_176 1 rfl ?_
                                  obtain ⟨x_137, hx, h⟩ := h
                                  refine wm_getQ hM33 rfl in_X6 (ci := 5) rfl (by decide) 1 (Nat.le_of_ble_eq_true rfl) hx (fun _ _ => rfl) q400 (fun _ _ h => h) dX6_gate_177 ?_
                                  obtain ⟨a_139, ea_139, h⟩ := h
                                  subst ea_139
                                  obtain ⟨x_138, hx, h⟩ := h
                                  refine wm_getIN hM33 rfl in_X2 (ci := 2) rfl (by decide) 0 (Nat.le_of_ble_eq_true rfl) hx (fun _ _ => rfl) q258 (fun _ _ h => h) dX6_gate_180 ?_
                                  refine ww_iconst dX6_gate_183 ?_
                                  refine ww_isub dX6_gate_184 ?_
                                  obtain ⟨hg, h⟩ := h
                                  obtain ⟨c_140, s_141, b_142, h⟩ := h
                                  refine wm_callX (n := 2) hM33 (tm_X6_number h) rfl hg rfl (lw_V q781 q783 qs7 q118 q784) ⟨by decide, by decide, by decide +kernel⟩ rfl ⟨Nat.le_of_ble_eq_true rfl, Nat.le_of_ble_eq_true rfl⟩ rfl (by simp only [List.map_cons, List.map_nil, rf_cat, vI_cat, vL_cat, List.sum_cons, List.sum_nil]; decide) dX6_gate_185 b_142 ?_ ?_
                                  · clear h
                                    intro q_146 E_147 μ_148 ws h hM34
                                    have hB := b_142
                                    exact wx_out (fun _ hz => nomatch hz) (ws, μ_148) ⟨hM34, h⟩ rfl hB.1 hB.2
                                  · clear h
                                    rintro _ μ_145 ws ⟨y_143, rfl, h⟩ hM35
                                    have hB := b_142
                                    refine ww_st1 ?_
                                    obtain ⟨a_149, ea_149, h⟩ := h
                                    subst ea_149
                                    obtain ⟨n_150, f_151, hc, hi, h⟩ := h
                                    refine wm_iast hM35 rfl hc hi.1 hi.2.1 hi.2.2 dX6_gate_188 (fun ws hM36 => ?_)
                                    refine ww_aloadQ_n dX6_gate_189 3 rfl ?_
                                    obtain ⟨x_152, hx, h⟩ := h
                                    refine wm_getQN hM36 rfl in_X10 (ci := 11) rfl (by decide) 2 (Nat.le_of_ble_eq_true rfl) hx (fun _ _ => rfl) q1327 (fun _ _ h => h) dX6_gate_190 ?_
                                    refine ww_iload dX6_gate_193 0 rfl ?_
                                    obtain ⟨a_153, ea_153, h⟩ := h
                                    subst ea_153
                                    obtain ⟨x_154, hx, h⟩ := h
                                    refine wm_aald hM36 rfl (by decide) hx dX6_gate_195 ?_
                                    refine ww_iload dX6_gate_196 6 rfl ?_
                                    refine ww_aloadQ_n dX6_gate_198 3 rfl ?_
                                    obtain ⟨x_155, hx, h⟩ := h
                                    refine wm_getQN hM36 rfl in_X10 (ci := 11) rfl (by decide) 2 (Nat.le_of_ble_eq_true rfl) hx (fun _ _ => rfl) q1327 (fun _ _ h => h) dX6_gate_199 ?_
                                    refine ww_iload dX6_gate_202 6 rfl ?_
                                    obtain ⟨a_156, ea_156, h⟩ := h
                                    subst ea_156
                                    obtain ⟨x_157, hx, h⟩ := h
                                    refine wm_aald hM36 rfl (by decide) hx dX6_gate_204 ?_
                                    refine ww_iload dX6_gate_205 0 rfl ?_
                                    obtain ⟨a_158, ea_158, h⟩ := h
                                    subst ea_158
                                    obtain ⟨x_159, hx, h⟩ := h
                                    refine wm_iald hM36 rfl hx dX6_gate_207 ?_
                                    obtain ⟨a_160, ea_160, h⟩ := h
                                    subst ea_160
                                    obtain ⟨n_161, f_162, hc, hi, h⟩ := h
                                    refine wm_iast hM36 rfl hc hi.1 hi.2.1 hi.2.2 dX6_gate_208 (fun ws hM37 => ?_)
                                    refine ww_iinc (lv2 := [(4, vI (v4_48 + 1)), (6, vI y_128), (0, va_rf (some b)), (1, va_rf y_7), (2, va_rf (some q_13)), (3, vI y_35), (5, vI y_86)]) dX6_gate_209 5 rfl (Nat.le_of_ble_eq_true rfl) rfl ?_
                                    refine ww_goto (tgt := 48) dX6_gate_212 (by decide) ?_
                                    refine ww_lv [2, 3, 4, 5, 0] rfl ?_
                                    obtain ⟨m, hm, h⟩ := h
                                    exact ih48 m hm _ _ _ _ h _ hM37 hB
                            refine ww_icmp_eq (tgt := 147) dX6_gate_140 (by decide) r_115 r_116 (fun c => ?_) (fun c => ?_)
                            · replace h := h.1 c
                              refine ww_iconst dX6_gate_147 ?_
                              exact kJ148 _ h _ hM28 hB
                            · replace h := h.2 c
                              refine ww_iconst dX6_gate_143 ?_
                              refine ww_goto (tgt := 148) dX6_gate_144 (by decide) ?_
                              exact kJ148 _ h _ hM28 hB
                        refine ww_if_ne (tgt := 128) dX6_gate_121 (by decide) r_106 (fun c => ?_) (fun c => ?_)
                        · replace h := h.1 c
                          refine ww_iconst dX6_gate_128 ?_
                          refine ww_lv [1, 2, 3, 4, 5, 0] rfl ?_
                          exact kJ129 _ h _ hM25 hB
                        · replace h := h.2 c
                          refine ww_iconst dX6_gate_124 ?_
                          refine ww_goto (tgt := 129) dX6_gate_125 (by decide) ?_
                          refine ww_lv [1, 2, 3, 4, 5, 0] rfl ?_
                          exact kJ129 _ h _ hM25 hB
                refine ww_icmp_ge (tgt := 79) dX6_gate_72 (by decide) r_74 (by decide) (fun c => ?_) (fun c => ?_)
                · replace h := h.1 c
                  refine ww_iconst dX6_gate_79 ?_
                  exact kJ80 _ h _ hM18 hB
                · replace h := h.2 (Int.not_le.mp c)
                  refine ww_iconst dX6_gate_75 ?_
                  refine ww_goto (tgt := 80) dX6_gate_76 (by decide) ?_
                  exact kJ80 _ h _ hM18 hB
        refine ww_lv [4, 3, 2, 1, 0] rfl ?_
        obtain ⟨m, h⟩ := h
        exact kI48 m _ _ _ _ h _ hM10 hB
