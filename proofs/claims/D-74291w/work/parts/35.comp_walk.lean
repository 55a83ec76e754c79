/-! THE COMPONENT and what it calls: weakest preconditions and walks (printed by tools/comp.py) -/
set_option maxRecDepth 100000
/-! J12_equals: java/lang/StringLatin1 equals ([B[B)Z; flags (False, False, False), depth 0 -/
def wc_J12_equals (ad : Nat → Nat) (μ : HM) (o1 : Option Nat) (o2 : Option Nat) (P : Int → Prop) : Prop :=
  ∃ a_1 : Nat, o1 = some a_1 ∧
  ∃ n_2 : Nat, gL μ a_1 = some n_2 ∧
  ∃ a_3 : Nat, o2 = some a_3 ∧
  ∃ n_4 : Nat, gL μ a_3 = some n_4 ∧
  rI (n_2 : Int) ∧
  rI (n_4 : Int) ∧
  ((¬ (n_2 : Int) = (n_4 : Int) →
    P 0) ∧
  ((n_2 : Int) = (n_4 : Int) →
    ∃ I9 : Nat → Int → Prop, (∀ (n9 : Nat) (v2_9 : Int), I9 n9 v2_9 →
      ∃ n_7 : Nat, gL μ a_1 = some n_7 ∧
      rI v2_9 ∧
      rI (n_7 : Int) ∧
      (((n_7 : Int) ≤ v2_9 →
        P 1) ∧
      (v2_9 < (n_7 : Int) →
        ∃ x_10 : Int, gA μ a_1 2 v2_9 = some x_10 ∧
        ∃ x_11 : Int, gA μ a_3 2 v2_9 = some x_11 ∧
        rI x_10 ∧
        rI x_11 ∧
        ((x_10 = x_11 →
          ∃ m : Nat, m < n9 ∧ I9 m (v2_9 + 1)) ∧
        (¬ x_10 = x_11 →
          P 0))))) ∧
    ∃ m : Nat, I9 m 0))
set_option maxHeartbeats 4000000 in
theorem tm_J12_equals {G : g_G} {l : Launch} {μ : HM} {o1 : Option Nat} {o2 : Option Nat} {P : Int → Prop} (h : wc_J12_equals (g_ad G) μ o1 o2 P) : CM G l yJ12_equals cJ12_equals 3 (Option.some Jvm.ClassFile.FieldType.boolean) 0 0 0 [va_rf o1, va_rf o2] μ (hN2 μ P) := by
  unfold wc_J12_equals at h
  refine wm_of (lvs := [(0, va_rf o1), (1, va_rf o2)]) (by decide) (by simp [lg_sl, rf_cat, vI_cat, vL_cat, ref_cat]) (by simp [lv_args, rf_cat, vI_cat, vL_cat, ref_cat, rf_some]) (fun fr ws hM1 => ?_)
  show WW G l cJ12_equals RJ12 3 (Option.some Jvm.ClassFile.FieldType.boolean) "equals" 0 0 0 (hMR G (hN2 μ P)) (fun u => [u.1, fr]) 0 0 [ws, fr] 0 [(0, va_rf o1), (1, va_rf o2)] []
  refine ww_aloadQ_n dJ12_equals_0 0 rfl ?_
  obtain ⟨a_1, ea_1, h⟩ := h
  subst ea_1
  obtain ⟨n_2, hn, h⟩ := h
  refine wm_alen hM1 rfl hn dJ12_equals_1 ?_
  refine ww_aloadQ_n dJ12_equals_2 1 rfl ?_
  obtain ⟨a_3, ea_3, h⟩ := h
  subst ea_3
  obtain ⟨n_4, hn, h⟩ := h
  refine wm_alen hM1 rfl hn dJ12_equals_3 ?_
  obtain ⟨r_5, r_6, h⟩ := h
  refine ww_icmp_ne (tgt := 34) dJ12_equals_4 (by decide) r_5 r_6 (fun c => ?_) (fun c => ?_)
  · replace h := h.1 c
    refine ww_iconst dJ12_equals_34 ?_
    exact ww_zret (ws, μ) rfl (Or.inl rfl) ⟨hM1, ⟨rfl, _, rfl, Or.inl rfl, h⟩⟩ rfl (Nat.le_refl _) (Nat.le_refl _) dJ12_equals_35
  · replace h := h.2 c
    refine ww_iconst dJ12_equals_7 ?_
    refine ww_istore_n (i := 2) (lv2 := [(2, vI 0), (0, va_rf (some a_1)), (1, va_rf (some a_3))]) dJ12_equals_8 rfl (Nat.le_of_ble_eq_true rfl) rfl ?_
    obtain ⟨I9, hI9, h⟩ := h
    have kI9 : ∀ (n9 : Nat), ∀ (v2_9 : Int), I9 n9 v2_9 → ∀ ws : va_W, Mrep G ws μ → WW G l cJ12_equals RJ12 3 (Option.some Jvm.ClassFile.FieldType.boolean) "equals" 0 0 0 (hMR G (hN2 μ P)) (fun u => [u.1, fr]) 0 0 [ws, fr] 9 [(0, va_rf (some a_1)), (1, va_rf (some a_3)), (2, vI v2_9)] [] := by
      clear h
      intro n9
      induction n9 using Nat.strongRecOn with
      | ind n9 ih9 =>
        intro v2_9 hj ws hM2
        have h := hI9 n9 v2_9 hj
        refine ww_iload_n dJ12_equals_9 2 rfl ?_
        refine ww_aloadQ_n dJ12_equals_10 0 rfl ?_
        obtain ⟨n_7, hn, h⟩ := h
        refine wm_alen hM2 rfl hn dJ12_equals_11 ?_
        obtain ⟨r_8, r_9, h⟩ := h
        refine ww_icmp_ge (tgt := 32) dJ12_equals_12 (by decide) r_8 r_9 (fun c => ?_) (fun c => ?_)
        · replace h := h.1 c
          refine ww_iconst dJ12_equals_32 ?_
          exact ww_zret (ws, μ) rfl (Or.inr rfl) ⟨hM2, ⟨rfl, _, rfl, Or.inr rfl, h⟩⟩ rfl (Nat.le_refl _) (Nat.le_refl _) dJ12_equals_33
        · replace h := h.2 (Int.not_le.mp c)
          refine ww_aloadQ_n dJ12_equals_15 0 rfl ?_
          refine ww_iload_n dJ12_equals_16 2 rfl ?_
          obtain ⟨x_10, hx, h⟩ := h
          refine wm_bald hM2 rfl hx dJ12_equals_17 ?_
          refine ww_aloadQ_n dJ12_equals_18 1 rfl ?_
          refine ww_iload_n dJ12_equals_19 2 rfl ?_
          obtain ⟨x_11, hx, h⟩ := h
          refine wm_bald hM2 rfl hx dJ12_equals_20 ?_
          obtain ⟨r_12, r_13, h⟩ := h
          refine ww_icmp_eq (tgt := 26) dJ12_equals_21 (by decide) r_12 r_13 (fun c => ?_) (fun c => ?_)
          · replace h := h.1 c
            refine ww_iinc (lv2 := [(2, vI (v2_9 + 1)), (0, va_rf (some a_1)), (1, va_rf (some a_3))]) dJ12_equals_26 2 rfl (Nat.le_of_ble_eq_true rfl) rfl ?_
            refine ww_goto (tgt := 9) dJ12_equals_29 (by decide) ?_
            refine ww_lv [1, 2, 0] rfl ?_
            obtain ⟨m, hm, h⟩ := h
            exact ih9 m hm _ h _ hM2
          · replace h := h.2 c
            refine ww_iconst dJ12_equals_24 ?_
            exact ww_zret (ws, μ) rfl (Or.inl rfl) ⟨hM2, ⟨rfl, _, rfl, Or.inl rfl, h⟩⟩ rfl (Nat.le_refl _) (Nat.le_refl _) dJ12_equals_25
    refine ww_lv [1, 2, 0] rfl ?_
    obtain ⟨m, h⟩ := h
    exact kI9 m _ h _ hM1
/-! J7_equals: java/lang/String equals (Ljava/lang/Object;)Z; flags (False, False, False), depth 1 -/
def wc_J7_equals (ad : Nat → Nat) (μ : HM) (b : Nat) (o1 : Option Nat) (P : Int → Prop) : Prop :=
  ((¬ ((some b) : Option Nat) = o1 →
    ∃ a_1 : Nat, o1 = some a_1 ∧
    gC μ a_1 = some 22 ∧
    (((1 : Int) = 0 →
      P 0) ∧
    (¬ (1 : Int) = 0 →
      (∀ z : Nat, (some a_1) = some z → ∃ ci, gC μ z = some ci ∧ (ci = 22)) ∧
      ∃ J36 : Prop, (J36 →
        ∃ x_2 : Option Nat, gQ μ b 22 0 = some x_2 ∧
        ∃ x_3 : Option Nat, gQ μ a_1 22 0 = some x_3 ∧
        wc_J12_equals ad μ x_2 x_3 (fun y_4 =>
          ((y_4 = 0 →
            P 0) ∧
          (¬ y_4 = 0 →
            P 1)))) ∧
      (((1 : Int) = 0 →
        J36) ∧
      (¬ (1 : Int) = 0 →
        ∃ x_6 : Int, gI μ b 22 1 = some x_6 ∧
        ∃ x_7 : Int, gI μ a_1 22 1 = some x_7 ∧
        rI x_6 ∧
        rI x_7 ∧
        ((¬ x_6 = x_7 →
          P 0) ∧
        (x_6 = x_7 →
          J36))))))) ∧
  (((some b) : Option Nat) = o1 →
    P 1))
set_option maxHeartbeats 4000000 in
theorem tm_J7_equals {G : g_G} {l : Launch} {μ : HM} {b : Nat} {o1 : Option Nat} {P : Int → Prop} (h : wc_J7_equals (g_ad G) μ b o1 P) : CM G l yJ7_equals cJ7_equals 3 (Option.some Jvm.ClassFile.FieldType.boolean) 1 0 0 [.ref b, va_rf o1] μ (hN2 μ P) := by
  unfold wc_J7_equals at h
  refine wm_of (lvs := [(0, va_rf (some b)), (1, va_rf o1)]) (by decide) (by simp [lg_sl, rf_cat, vI_cat, vL_cat, ref_cat]) (by simp [lv_args, rf_cat, vI_cat, vL_cat, ref_cat, rf_some]) (fun fr ws hM1 => ?_)
  show WW G l cJ7_equals RJ7 3 (Option.some Jvm.ClassFile.FieldType.boolean) "equals" 1 0 0 (hMR G (hN2 μ P)) (fun u => [u.1, fr]) 0 0 [ws, fr] 0 [(0, va_rf (some b)), (1, va_rf o1)] []
  refine ww_aloadQ_n dJ7_equals_0 0 rfl ?_
  refine ww_aloadQ_n dJ7_equals_1 1 rfl ?_
  refine ww_acmp_ne (tgt := 7) dJ7_equals_2 (by decide) (fun c => ?_) (fun c => ?_)
  · replace h := h.1 c
    refine ww_aloadQ_n dJ7_equals_7 1 rfl ?_
    obtain ⟨a_1, ea_1, h⟩ := h
    subst ea_1
    obtain ⟨hc, h⟩ := h
    refine wm_instS hM1 hc rfl q688 dJ7_equals_8 ?_
    refine ww_if_eq (tgt := 54) dJ7_equals_11 (by decide) (by decide) (fun c => ?_) (fun c => ?_)
    · replace h := h.1 c
      refine ww_iconst dJ7_equals_54 ?_
      exact ww_zret (ws, μ) rfl (Or.inl rfl) ⟨hM1, ⟨rfl, _, rfl, Or.inl rfl, h⟩⟩ rfl (Nat.le_refl _) (Nat.le_refl _) dJ7_equals_55
    · replace h := h.2 c
      refine ww_aloadQ_n dJ7_equals_14 1 rfl ?_
      obtain ⟨hc, h⟩ := h
      refine wm_cast hM1 hc cast_0 q688 dJ7_equals_15 ?_
      refine ww_astoreQ_n (i := 2) (lv2 := [(2, va_rf (some a_1)), (0, va_rf (some b)), (1, va_rf (some a_1))]) dJ7_equals_18 rfl (Nat.le_of_ble_eq_true rfl) rfl ?_
      refine wm_getsI (C := "java/lang/String") (x := 1) (by decide) q601 (fun _ _ h => h) dJ7_equals_19 ?_
      refine ww_eq rfl rfl (show _ = vI 1 :: _ from rfl) ?_
      obtain ⟨J36, hJ36, h⟩ := h
      have kJ36 : J36 → ∀ ws : va_W, Mrep G ws μ → WW G l cJ7_equals RJ7 3 (Option.some Jvm.ClassFile.FieldType.boolean) "equals" 1 0 0 (hMR G (hN2 μ P)) (fun u => [u.1, fr]) 0 0 [ws, fr] 36 [(0, va_rf (some b)), (2, va_rf (some a_1))] [] := by
        clear h
        intro hj ws hM2
        have h := hJ36 hj
        refine ww_aloadQ_n dJ7_equals_36 0 rfl ?_
        obtain ⟨x_2, hx, h⟩ := h
        refine wm_strQ hM2 rfl hx q615 (fun _ _ h => h) dJ7_equals_37 ?_
        refine ww_aloadQ_n dJ7_equals_40 1 rfl ?_
        obtain ⟨x_3, hx, h⟩ := h
        refine wm_strQ hM2 rfl hx q615 (fun _ _ h => h) dJ7_equals_41 ?_
        refine wm_callS (n := 2) hM2 (tm_J12_equals h) (lw_S q689 q690 q127 q691) ⟨by decide, by decide, by decide +kernel⟩ rfl ⟨Nat.le_of_ble_eq_true rfl, Nat.le_of_ble_eq_true rfl⟩ rfl (Nat.le_of_ble_eq_true rfl) dJ7_equals_44 ⟨Nat.le_refl _, Nat.le_refl _⟩ ?_
        clear h
        rintro _ _ ws ⟨rfl, y_4, rfl, z_5, h⟩ hM3
        refine ww_st1 ?_
        refine ww_if_eq (tgt := 54) dJ7_equals_47 (by decide) (r_z z_5) (fun c => ?_) (fun c => ?_)
        · replace h := h.1 c
          refine ww_iconst dJ7_equals_54 ?_
          exact ww_zret (ws, μ) rfl (Or.inl rfl) ⟨hM3, ⟨rfl, _, rfl, Or.inl rfl, h⟩⟩ rfl (Nat.le_refl _) (Nat.le_refl _) dJ7_equals_55
        · replace h := h.2 c
          refine ww_iconst dJ7_equals_50 ?_
          refine ww_goto (tgt := 55) dJ7_equals_51 (by decide) ?_
          exact ww_zret (ws, μ) rfl (Or.inr rfl) ⟨hM3, ⟨rfl, _, rfl, Or.inr rfl, h⟩⟩ rfl (Nat.le_refl _) (Nat.le_refl _) dJ7_equals_55
      refine ww_if_eq (tgt := 36) dJ7_equals_22 (by decide) (by decide) (fun c => ?_) (fun c => ?_)
      · replace h := h.1 c
        refine ww_lv [1, 0] rfl ?_
        exact kJ36 h _ hM1
      · replace h := h.2 c
        refine ww_aloadQ_n dJ7_equals_25 1 rfl ?_
        obtain ⟨x_6, hx, h⟩ := h
        refine wm_strI1 hM1 rfl hx q616 (fun _ _ h => h) dJ7_equals_26 ?_
        refine ww_aloadQ_n dJ7_equals_29 0 rfl ?_
        obtain ⟨x_7, hx, h⟩ := h
        refine wm_strI1 hM1 rfl hx q616 (fun _ _ h => h) dJ7_equals_30 ?_
        obtain ⟨r_8, r_9, h⟩ := h
        refine ww_icmp_ne (tgt := 54) dJ7_equals_33 (by decide) r_8 r_9 (fun c => ?_) (fun c => ?_)
        · replace h := h.1 c
          refine ww_iconst dJ7_equals_54 ?_
          exact ww_zret (ws, μ) rfl (Or.inl rfl) ⟨hM1, ⟨rfl, _, rfl, Or.inl rfl, h⟩⟩ rfl (Nat.le_refl _) (Nat.le_refl _) dJ7_equals_55
        · replace h := h.2 c
          refine ww_lv [1, 0] rfl ?_
          exact kJ36 h _ hM1
  · replace h := h.2 c
    refine ww_iconst dJ7_equals_5 ?_
    exact ww_zret (ws, μ) rfl (Or.inr rfl) ⟨hM1, ⟨rfl, _, rfl, Or.inr rfl, h⟩⟩ rfl (Nat.le_refl _) (Nat.le_refl _) dJ7_equals_6
/-! J9_hashCode: jdk/internal/util/ArraysSupport hashCode (I[CII)I; flags (False, False, False), depth 0 -/
def wc_J9_hashCode (ad : Nat → Nat) (μ : HM) (a1 : Int) (o2 : Option Nat) (a3 : Int) (a4 : Int) (P : Int → Prop) : Prop :=
  rI a3 ∧
  rI (a3 + a4) ∧
  (((a3 + a4) ≤ a3 →
    P a1) ∧
  (a3 < (a3 + a4) →
    False))
set_option maxHeartbeats 4000000 in
theorem tm_J9_hashCode {G : g_G} {l : Launch} {μ : HM} {a1 : Int} {o2 : Option Nat} {a3 : Int} {a4 : Int} {P : Int → Prop} (h : wc_J9_hashCode (g_ad G) μ a1 o2 a3 a4 P) : CM G l yJ9_hashCode cJ9_hashCode 6 (Option.some Jvm.ClassFile.FieldType.int) 0 0 0 [vI a1, va_rf o2, vI a3, vI a4] μ (hN1 μ P) := by
  unfold wc_J9_hashCode at h
  refine wm_of (lvs := [(0, vI a1), (1, va_rf o2), (2, vI a3), (3, vI a4)]) (by decide) (by simp [lg_sl, rf_cat, vI_cat, vL_cat, ref_cat]) (by simp [lv_args, rf_cat, vI_cat, vL_cat, ref_cat, rf_some]) (fun fr ws hM1 => ?_)
  show WW G l cJ9_hashCode RJ9 6 (Option.some Jvm.ClassFile.FieldType.int) "hashCode" 0 0 0 (hMR G (hN1 μ P)) (fun u => [u.1, fr]) 0 0 [ws, fr] 0 [(0, vI a1), (1, va_rf o2), (2, vI a3), (3, vI a4)] []
  refine ww_iload_n dJ9_hashCode_0 2 rfl ?_
  refine ww_iload_n dJ9_hashCode_1 3 rfl ?_
  refine ww_iadd dJ9_hashCode_2 ?_
  refine ww_istore (i := 4) (lv2 := [(4, vI (a3 + a4)), (0, vI a1), (1, va_rf o2), (2, vI a3), (3, vI a4)]) dJ9_hashCode_3 (Nat.le_of_ble_eq_true rfl) rfl ?_
  refine ww_iload_n dJ9_hashCode_5 3 rfl ?_
  refine ww_istore (i := 5) (lv2 := [(5, vI a3), (4, vI (a3 + a4)), (0, vI a1), (1, va_rf o2), (2, vI a3), (3, vI a4)]) dJ9_hashCode_6 (Nat.le_of_ble_eq_true rfl) rfl ?_
  refine ww_iload dJ9_hashCode_8 0 rfl ?_
  refine ww_iload dJ9_hashCode_10 1 rfl ?_
  obtain ⟨r_1, r_2, h⟩ := h
  refine ww_icmp_ge (tgt := 31) dJ9_hashCode_12 (by decide) r_1 r_2 (fun c => ?_) (fun c => ?_)
  · replace h := h.1 c
    refine ww_iload_n dJ9_hashCode_31 2 rfl ?_
    exact ww_iret (ws, μ) rfl ⟨hM1, ⟨rfl, _, rfl, h⟩⟩ rfl (Nat.le_refl _) (Nat.le_refl _) dJ9_hashCode_32
  · replace h := h.2 (Int.not_le.mp c)
    refine ww_bipush (v := 31) dJ9_hashCode_15 rfl ?_
    refine ww_iload_n dJ9_hashCode_17 2 rfl ?_
    refine ww_imul dJ9_hashCode_18 ?_
    refine ww_aloadQ_n dJ9_hashCode_19 3 rfl ?_
    refine ww_iload dJ9_hashCode_20 0 rfl ?_
    exact h.elim
/-! J9_signedHashCode: jdk/internal/util/ArraysSupport signedHashCode (I[BII)I; flags (False, False, False), depth 0 -/
def wc_J9_signedHashCode (ad : Nat → Nat) (μ : HM) (a1 : Int) (o2 : Option Nat) (a3 : Int) (a4 : Int) (P : Int → Prop) : Prop :=
  ∃ I8 : Nat → Int → Int → Prop, (∀ (n8 : Nat) (v0_8 : Int) (v5_8 : Int), I8 n8 v0_8 v5_8 →
    rI v5_8 ∧
    rI (a3 + a4) ∧
    (((a3 + a4) ≤ v5_8 →
      P v0_8) ∧
    (v5_8 < (a3 + a4) →
      ∃ a_3 : Nat, o2 = some a_3 ∧
      ∃ x_4 : Int, gA μ a_3 2 v5_8 = some x_4 ∧
      ∀ x_5 : Int, x_5 = (31 * v0_8) + (bA x_4 255) →
      ∃ m : Nat, m < n8 ∧ I8 m x_5 (v5_8 + 1)))) ∧
  ∃ m : Nat, I8 m a1 a3
set_option maxHeartbeats 4000000 in
theorem tm_J9_signedHashCode {G : g_G} {l : Launch} {μ : HM} {a1 : Int} {o2 : Option Nat} {a3 : Int} {a4 : Int} {P : Int → Prop} (h : wc_J9_signedHashCode (g_ad G) μ a1 o2 a3 a4 P) : CM G l yJ9_signedHashCode cJ9_signedHashCode 6 (Option.some Jvm.ClassFile.FieldType.int) 0 0 0 [vI a1, va_rf o2, vI a3, vI a4] μ (hN1 μ P) := by
  unfold wc_J9_signedHashCode at h
  refine wm_of (lvs := [(0, vI a1), (1, va_rf o2), (2, vI a3), (3, vI a4)]) (by decide) (by simp [lg_sl, rf_cat, vI_cat, vL_cat, ref_cat]) (by simp [lv_args, rf_cat, vI_cat, vL_cat, ref_cat, rf_some]) (fun fr ws hM1 => ?_)
  show WW G l cJ9_signedHashCode RJ9 6 (Option.some Jvm.ClassFile.FieldType.int) "signedHashCode" 0 0 0 (hMR G (hN1 μ P)) (fun u => [u.1, fr]) 0 0 [ws, fr] 0 [(0, vI a1), (1, va_rf o2), (2, vI a3), (3, vI a4)] []
  refine ww_iload_n dJ9_signedHashCode_0 2 rfl ?_
  refine ww_iload_n dJ9_signedHashCode_1 3 rfl ?_
  refine ww_iadd dJ9_signedHashCode_2 ?_
  refine ww_istore (i := 4) (lv2 := [(4, vI (a3 + a4)), (0, vI a1), (1, va_rf o2), (2, vI a3), (3, vI a4)]) dJ9_signedHashCode_3 (Nat.le_of_ble_eq_true rfl) rfl ?_
  refine ww_iload_n dJ9_signedHashCode_5 3 rfl ?_
  refine ww_istore (i := 5) (lv2 := [(5, vI a3), (4, vI (a3 + a4)), (0, vI a1), (1, va_rf o2), (2, vI a3), (3, vI a4)]) dJ9_signedHashCode_6 (Nat.le_of_ble_eq_true rfl) rfl ?_
  obtain ⟨I8, hI8, h⟩ := h
  have kI8 : ∀ (n8 : Nat), ∀ (v0_8 : Int), ∀ (v5_8 : Int), I8 n8 v0_8 v5_8 → ∀ ws : va_W, Mrep G ws μ → WW G l cJ9_signedHashCode RJ9 6 (Option.some Jvm.ClassFile.FieldType.int) "signedHashCode" 0 0 0 (hMR G (hN1 μ P)) (fun u => [u.1, fr]) 0 0 [ws, fr] 8 [(0, vI v0_8), (1, va_rf o2), (4, vI (a3 + a4)), (5, vI v5_8)] [] := by
    clear h
    intro n8
    induction n8 using Nat.strongRecOn with
    | ind n8 ih8 =>
      intro v0_8 v5_8 hj ws hM2
      have h := hI8 n8 v0_8 v5_8 hj
      refine ww_iload dJ9_signedHashCode_8 3 rfl ?_
      refine ww_iload dJ9_signedHashCode_10 2 rfl ?_
      obtain ⟨r_1, r_2, h⟩ := h
      refine ww_icmp_ge (tgt := 35) dJ9_signedHashCode_12 (by decide) r_1 r_2 (fun c => ?_) (fun c => ?_)
      · replace h := h.1 c
        refine ww_iload_n dJ9_signedHashCode_35 0 rfl ?_
        exact ww_iret (ws, μ) rfl ⟨hM2, ⟨rfl, _, rfl, h⟩⟩ rfl (Nat.le_refl _) (Nat.le_refl _) dJ9_signedHashCode_36
      · replace h := h.2 (Int.not_le.mp c)
        refine ww_bipush (v := 31) dJ9_signedHashCode_15 rfl ?_
        refine ww_iload_n dJ9_signedHashCode_17 0 rfl ?_
        refine ww_imul dJ9_signedHashCode_18 ?_
        refine ww_aloadQ_n dJ9_signedHashCode_19 1 rfl ?_
        refine ww_iload dJ9_signedHashCode_20 3 rfl ?_
        obtain ⟨a_3, ea_3, h⟩ := h
        subst ea_3
        obtain ⟨x_4, hx, h⟩ := h
        refine wm_bald hM2 rfl hx dJ9_signedHashCode_22 ?_
        refine ww_sipush (v := 255) dJ9_signedHashCode_23 rfl ?_
        refine ww_iand dJ9_signedHashCode_26 ?_
        refine ww_iadd dJ9_signedHashCode_27 ?_
        refine ww_nmI (fun x_5 ex_5 => ?_)
        replace h := h x_5 ex_5
        refine ww_istore_n (i := 0) (lv2 := [(0, vI x_5), (1, va_rf (some a_3)), (4, vI (a3 + a4)), (5, vI v5_8)]) dJ9_signedHashCode_28 rfl (Nat.le_of_ble_eq_true rfl) rfl ?_
        refine ww_iinc (lv2 := [(5, vI (v5_8 + 1)), (0, vI x_5), (1, va_rf (some a_3)), (4, vI (a3 + a4))]) dJ9_signedHashCode_29 3 rfl (Nat.le_of_ble_eq_true rfl) rfl ?_
        refine ww_goto (tgt := 8) dJ9_signedHashCode_32 (by decide) ?_
        refine ww_lv [1, 2, 3, 0] rfl ?_
        obtain ⟨m, hm, h⟩ := h
        exact ih8 m hm _ _ h _ hM2
  refine ww_lv [2, 3, 1, 0] rfl ?_
  obtain ⟨m, h⟩ := h
  exact kI8 m _ _ h _ hM1
/-! J9_vectorizedHashCode: jdk/internal/util/ArraysSupport vectorizedHashCode (Ljava/lang/Object;IIII)I; flags (False, False, False), depth 1 -/
def wc_J9_vectorizedHashCode (ad : Nat → Nat) (μ : HM) (o1 : Option Nat) (a2 : Int) (a3 : Int) (a4 : Int) (a5 : Int) (P : Int → Prop) : Prop :=
  rI a5 ∧
  (a5 = 4 →
    ∃ a_2 : Nat, o1 = some a_2 ∧
    ∃ (n_3 : Nat) (f_4 : Int → Int), μ a_2 = some (hA 2 n_3 f_4) ∧
    wc_J9_signedHashCode ad μ a4 (some a_2) a2 a3 (fun y_5 =>
      P y_5)) ∧
  (a5 = 5 →
    False) ∧
  (a5 = 6 →
    False) ∧
  (a5 = 7 →
    False) ∧
  (a5 = 8 →
    ∃ a_7 : Nat, o1 = some a_7 ∧
    ∃ (n_8 : Nat) (f_9 : Int → Int), μ a_7 = some (hA 2 n_8 f_9) ∧
    False) ∧
  (a5 = 9 →
    False) ∧
  (a5 = 10 →
    ∃ a_10 : Nat, o1 = some a_10 ∧
    ∃ (n_11 : Nat) (f_12 : Int → Int), μ a_10 = some (hA 0 n_11 f_12) ∧
    False) ∧
  (a5 < 4 ∨ 10 < a5 →
    False)
set_option maxHeartbeats 4000000 in
theorem tm_J9_vectorizedHashCode {G : g_G} {l : Launch} {μ : HM} {o1 : Option Nat} {a2 : Int} {a3 : Int} {a4 : Int} {a5 : Int} {P : Int → Prop} (h : wc_J9_vectorizedHashCode (g_ad G) μ o1 a2 a3 a4 a5 P) : CM G l yJ9_vectorizedHashCode cJ9_vectorizedHashCode 5 (Option.some Jvm.ClassFile.FieldType.int) 1 0 0 [va_rf o1, vI a2, vI a3, vI a4, vI a5] μ (hN1 μ P) := by
  unfold wc_J9_vectorizedHashCode at h
  refine wm_of (lvs := [(0, va_rf o1), (1, vI a2), (2, vI a3), (3, vI a4), (4, vI a5)]) (by decide) (by simp [lg_sl, rf_cat, vI_cat, vL_cat, ref_cat]) (by simp [lv_args, rf_cat, vI_cat, vL_cat, ref_cat, rf_some]) (fun fr ws hM1 => ?_)
  show WW G l cJ9_vectorizedHashCode RJ9 5 (Option.some Jvm.ClassFile.FieldType.int) "vectorizedHashCode" 1 0 0 (hMR G (hN1 μ P)) (fun u => [u.1, fr]) 0 0 [ws, fr] 0 [(0, va_rf o1), (1, vI a2), (2, vI a3), (3, vI a4), (4, vI a5)] []
  refine ww_iload dJ9_vectorizedHashCode_0 4 rfl ?_
  obtain ⟨r_1, h⟩ := h
  by_cases c0 : a5 = 4
  · replace h := h.1 c0
    refine ww_tableIn (tgt := 44) dJ9_vectorizedHashCode_2 r_1 (by rw [c0]; decide) (by rw [c0]; decide) (by rw [c0]; rfl) (by decide) ?_
    refine ww_iload_n dJ9_vectorizedHashCode_44 3 rfl ?_
    refine ww_aloadQ_n dJ9_vectorizedHashCode_45 0 rfl ?_
    obtain ⟨a_2, ea_2, h⟩ := h
    subst ea_2
    obtain ⟨n_3, f_4, hc, h⟩ := h
    refine wm_castArr hM1 hc (by decide) nm_B q799 dJ9_vectorizedHashCode_46 ?_
    refine ww_iload_n dJ9_vectorizedHashCode_49 1 rfl ?_
    refine ww_iload_n dJ9_vectorizedHashCode_50 2 rfl ?_
    refine wm_callS (n := 4) hM1 (tm_J9_signedHashCode h) (lw_S q800 q801 q123 q802) ⟨by decide, by decide, by decide +kernel⟩ rfl ⟨Nat.le_of_ble_eq_true rfl, Nat.le_of_ble_eq_true rfl⟩ rfl (Nat.le_of_ble_eq_true rfl) dJ9_vectorizedHashCode_51 ⟨Nat.le_refl _, Nat.le_refl _⟩ ?_
    clear h
    rintro _ _ ws ⟨rfl, y_5, rfl, h⟩ hM2
    refine ww_st1 ?_
    refine ww_goto (tgt := 157) dJ9_vectorizedHashCode_54 (by decide) ?_
    exact ww_iret (ws, μ) rfl ⟨hM2, ⟨rfl, _, rfl, h⟩⟩ rfl (Nat.le_refl _) (Nat.le_refl _) dJ9_vectorizedHashCode_157
  by_cases c1 : a5 = 5
  · replace h := h.2.1 c1
    refine ww_tableIn (tgt := 57) dJ9_vectorizedHashCode_2 r_1 (by rw [c1]; decide) (by rw [c1]; decide) (by rw [c1]; rfl) (by decide) ?_
    refine ww_aloadQ_n dJ9_vectorizedHashCode_57 0 rfl ?_
    exact h.elim
  by_cases c2 : a5 = 6
  · replace h := h.2.2.1 c2
    refine ww_tableIn (tgt := 129) dJ9_vectorizedHashCode_2 r_1 (by rw [c2]; decide) (by rw [c2]; decide) (by rw [c2]; rfl) (by decide) ?_
    exact h.elim
  by_cases c3 : a5 = 7
  · replace h := h.2.2.2.1 c3
    refine ww_tableIn (tgt := 129) dJ9_vectorizedHashCode_2 r_1 (by rw [c3]; decide) (by rw [c3]; decide) (by rw [c3]; rfl) (by decide) ?_
    exact h.elim
  by_cases c4 : a5 = 8
  · replace h := h.2.2.2.2.1 c4
    refine ww_tableIn (tgt := 90) dJ9_vectorizedHashCode_2 r_1 (by rw [c4]; decide) (by rw [c4]; decide) (by rw [c4]; rfl) (by decide) ?_
    refine ww_iload_n dJ9_vectorizedHashCode_90 3 rfl ?_
    refine ww_aloadQ_n dJ9_vectorizedHashCode_91 0 rfl ?_
    obtain ⟨a_7, ea_7, h⟩ := h
    subst ea_7
    obtain ⟨n_8, f_9, hc, h⟩ := h
    refine wm_castArr hM1 hc (by decide) nm_B q799 dJ9_vectorizedHashCode_92 ?_
    refine ww_iload_n dJ9_vectorizedHashCode_95 1 rfl ?_
    refine ww_iload_n dJ9_vectorizedHashCode_96 2 rfl ?_
    exact h.elim
  by_cases c5 : a5 = 9
  · replace h := h.2.2.2.2.2.1 c5
    refine ww_tableIn (tgt := 103) dJ9_vectorizedHashCode_2 r_1 (by rw [c5]; decide) (by rw [c5]; decide) (by rw [c5]; rfl) (by decide) ?_
    refine ww_iload_n dJ9_vectorizedHashCode_103 3 rfl ?_
    refine ww_aloadQ_n dJ9_vectorizedHashCode_104 0 rfl ?_
    exact h.elim
  by_cases c6 : a5 = 10
  · replace h := h.2.2.2.2.2.2.1 c6
    refine ww_tableIn (tgt := 116) dJ9_vectorizedHashCode_2 r_1 (by rw [c6]; decide) (by rw [c6]; decide) (by rw [c6]; rfl) (by decide) ?_
    refine ww_iload_n dJ9_vectorizedHashCode_116 3 rfl ?_
    refine ww_aloadQ_n dJ9_vectorizedHashCode_117 0 rfl ?_
    obtain ⟨a_10, ea_10, h⟩ := h
    subst ea_10
    obtain ⟨n_11, f_12, hc, h⟩ := h
    refine wm_castArr hM1 hc (by decide) nm_I q830 dJ9_vectorizedHashCode_118 ?_
    refine ww_iload_n dJ9_vectorizedHashCode_121 1 rfl ?_
    refine ww_iload_n dJ9_vectorizedHashCode_122 2 rfl ?_
    exact h.elim
  have c : a5 < 4 ∨ 10 < a5 := by omega
  replace h := h.2.2.2.2.2.2.2 c
  refine ww_tableOut (tgt := 129) dJ9_vectorizedHashCode_2 r_1 c (by decide) ?_
  exact h.elim
/-! J12_hashCode: java/lang/StringLatin1 hashCode ([B)I; flags (False, False, False), depth 2 -/
def wc_J12_hashCode (ad : Nat → Nat) (μ : HM) (o1 : Option Nat) (P : Int → Prop) : Prop :=
  ∃ a_1 : Nat, o1 = some a_1 ∧
  ∃ n_2 : Nat, gL μ a_1 = some n_2 ∧
  rI (n_2 : Int) ∧
  ((n_2 : Int) = 0 →
    P 0) ∧
  ((n_2 : Int) = 1 →
    ∃ x_4 : Int, gA μ a_1 2 0 = some x_4 ∧
    P (bA x_4 255)) ∧
  (¬ (n_2 : Int) = 0 ∧ ¬ (n_2 : Int) = 1 →
    ∃ n_5 : Nat, gL μ a_1 = some n_5 ∧
    wc_J9_vectorizedHashCode ad μ (some a_1) 0 (n_5 : Int) 0 4 (fun y_6 =>
      P y_6))
set_option maxHeartbeats 4000000 in
theorem tm_J12_hashCode {G : g_G} {l : Launch} {μ : HM} {o1 : Option Nat} {P : Int → Prop} (h : wc_J12_hashCode (g_ad G) μ o1 P) : CM G l yJ12_hashCode cJ12_hashCode 1 (Option.some Jvm.ClassFile.FieldType.int) 2 0 0 [va_rf o1] μ (hN1 μ P) := by
  unfold wc_J12_hashCode at h
  refine wm_of (lvs := [(0, va_rf o1)]) (by decide) (by simp [lg_sl, rf_cat, vI_cat, vL_cat, ref_cat]) (by simp [lv_args, rf_cat, vI_cat, vL_cat, ref_cat, rf_some]) (fun fr ws hM1 => ?_)
  show WW G l cJ12_hashCode RJ12 1 (Option.some Jvm.ClassFile.FieldType.int) "hashCode" 2 0 0 (hMR G (hN1 μ P)) (fun u => [u.1, fr]) 0 0 [ws, fr] 0 [(0, va_rf o1)] []
  refine ww_aloadQ_n dJ12_hashCode_0 0 rfl ?_
  obtain ⟨a_1, ea_1, h⟩ := h
  subst ea_1
  obtain ⟨n_2, hn, h⟩ := h
  refine wm_alen hM1 rfl hn dJ12_hashCode_1 ?_
  obtain ⟨r_3, h⟩ := h
  by_cases c0 : (n_2 : Int) = 0
  · replace h := h.1 c0
    refine ww_lookup (tgt := 28) (off := 26) dJ12_hashCode_2 (by decide) (by rw [c0]; rfl) (by decide) ?_
    refine ww_iconst dJ12_hashCode_28 ?_
    refine ww_goto (tgt := 51) dJ12_hashCode_29 (by decide) ?_
    exact ww_iret (ws, μ) rfl ⟨hM1, ⟨rfl, _, rfl, h⟩⟩ rfl (Nat.le_refl _) (Nat.le_refl _) dJ12_hashCode_51
  by_cases c1 : (n_2 : Int) = 1
  · replace h := h.2.1 c1
    refine ww_lookup (tgt := 32) (off := 30) dJ12_hashCode_2 (by decide) (by rw [c1]; rfl) (by decide) ?_
    refine ww_aloadQ_n dJ12_hashCode_32 0 rfl ?_
    refine ww_iconst dJ12_hashCode_33 ?_
    obtain ⟨x_4, hx, h⟩ := h
    refine wm_bald hM1 rfl hx dJ12_hashCode_34 ?_
    refine ww_sipush (v := 255) dJ12_hashCode_35 rfl ?_
    refine ww_iand dJ12_hashCode_38 ?_
    refine ww_goto (tgt := 51) dJ12_hashCode_39 (by decide) ?_
    exact ww_iret (ws, μ) rfl ⟨hM1, ⟨rfl, _, rfl, h⟩⟩ rfl (Nat.le_refl _) (Nat.le_refl _) dJ12_hashCode_51
  replace h := h.2.2 ⟨c0, c1⟩
  refine ww_lookup (tgt := 42) (off := 40) dJ12_hashCode_2 (by decide) (by rw [rI_toInt r_3]; simp [Op.lookupswitch.offset, c0, c1, (show ¬ (0 : Int) = (n_2 : Int) from fun e => c0 e.symm), (show ¬ (1 : Int) = (n_2 : Int) from fun e => c1 e.symm)]) (by decide) ?_
  refine ww_aloadQ_n dJ12_hashCode_42 0 rfl ?_
  refine ww_iconst dJ12_hashCode_43 ?_
  refine ww_aloadQ_n dJ12_hashCode_44 0 rfl ?_
  obtain ⟨n_5, hn, h⟩ := h
  refine wm_alen hM1 rfl hn dJ12_hashCode_45 ?_
  refine ww_iconst dJ12_hashCode_46 ?_
  refine ww_iconst dJ12_hashCode_47 ?_
  refine wm_callS (n := 5) hM1 (tm_J9_vectorizedHashCode h) (lw_S q796 q797 q123 q798) ⟨by decide, by decide, by decide +kernel⟩ rfl ⟨Nat.le_of_ble_eq_true rfl, Nat.le_of_ble_eq_true rfl⟩ rfl (Nat.le_of_ble_eq_true rfl) dJ12_hashCode_48 ⟨Nat.le_refl _, Nat.le_refl _⟩ ?_
  clear h
  rintro _ _ ws ⟨rfl, y_6, rfl, h⟩ hM2
  refine ww_st1 ?_
  exact ww_iret (ws, μ) rfl ⟨hM2, ⟨rfl, _, rfl, h⟩⟩ rfl (Nat.le_refl _) (Nat.le_refl _) dJ12_hashCode_51
/-! J7_isLatin1: java/lang/String isLatin1 ()Z; flags (False, False, False), depth 0 -/
def wc_J7_isLatin1 (ad : Nat → Nat) (μ : HM) (b : Nat) (P : Int → Prop) : Prop :=
  (((1 : Int) = 0 →
    P 0) ∧
  (¬ (1 : Int) = 0 →
    ∃ x_1 : Int, gI μ b 22 1 = some x_1 ∧
    rI x_1 ∧
    ((¬ x_1 = 0 →
      P 0) ∧
    (x_1 = 0 →
      P 1))))
set_option maxHeartbeats 4000000 in
theorem tm_J7_isLatin1 {G : g_G} {l : Launch} {μ : HM} {b : Nat} {P : Int → Prop} (h : wc_J7_isLatin1 (g_ad G) μ b P) : CM G l yJ7_isLatin1 cJ7_isLatin1 1 (Option.some Jvm.ClassFile.FieldType.boolean) 0 0 0 [.ref b] μ (hN2 μ P) := by
  unfold wc_J7_isLatin1 at h
  refine wm_of (lvs := [(0, va_rf (some b))]) (by decide) (Nat.le_of_ble_eq_true rfl) rfl (fun fr ws hM1 => ?_)
  show WW G l cJ7_isLatin1 RJ7 1 (Option.some Jvm.ClassFile.FieldType.boolean) "isLatin1" 0 0 0 (hMR G (hN2 μ P)) (fun u => [u.1, fr]) 0 0 [ws, fr] 0 [(0, va_rf (some b))] []
  refine wm_getsI (C := "java/lang/String") (x := 1) (by decide) q601 (fun _ _ h => h) dJ7_isLatin1_0 ?_
  refine ww_eq rfl rfl (show _ = vI 1 :: _ from rfl) ?_
  refine ww_if_eq (tgt := 17) dJ7_isLatin1_3 (by decide) (by decide) (fun c => ?_) (fun c => ?_)
  · replace h := h.1 c
    refine ww_iconst dJ7_isLatin1_17 ?_
    exact ww_zret (ws, μ) rfl (Or.inl rfl) ⟨hM1, ⟨rfl, _, rfl, Or.inl rfl, h⟩⟩ rfl (Nat.le_refl _) (Nat.le_refl _) dJ7_isLatin1_18
  · replace h := h.2 c
    refine ww_aloadQ_n dJ7_isLatin1_6 0 rfl ?_
    obtain ⟨x_1, hx, h⟩ := h
    refine wm_strI1 hM1 rfl hx q616 (fun _ _ h => h) dJ7_isLatin1_7 ?_
    obtain ⟨r_2, h⟩ := h
    refine ww_if_ne (tgt := 17) dJ7_isLatin1_10 (by decide) r_2 (fun c => ?_) (fun c => ?_)
    · replace h := h.1 c
      refine ww_iconst dJ7_isLatin1_17 ?_
      exact ww_zret (ws, μ) rfl (Or.inl rfl) ⟨hM1, ⟨rfl, _, rfl, Or.inl rfl, h⟩⟩ rfl (Nat.le_refl _) (Nat.le_refl _) dJ7_isLatin1_18
    · replace h := h.2 c
      refine ww_iconst dJ7_isLatin1_13 ?_
      refine ww_goto (tgt := 18) dJ7_isLatin1_14 (by decide) ?_
      exact ww_zret (ws, μ) rfl (Or.inr rfl) ⟨hM1, ⟨rfl, _, rfl, Or.inr rfl, h⟩⟩ rfl (Nat.le_refl _) (Nat.le_refl _) dJ7_isLatin1_18
/-! J7_hashCode: java/lang/String hashCode ()I; flags (True, False, False), depth 3 -/
def wc_J7_hashCode (ad : Nat → Nat) (μ : HM) (b : Nat) (P : Int → HM → Prop) : Prop :=
  ∃ x_1 : Int, gI μ b 22 2 = some x_1 ∧
  rI x_1 ∧
  ((¬ x_1 = 0 →
    P x_1 μ) ∧
  (x_1 = 0 →
    ∃ x_3 : Int, gI μ b 22 3 = some x_3 ∧
    rI x_3 ∧
    ((¬ x_3 = 0 →
      P x_1 μ) ∧
    (x_3 = 0 →
      gC μ b = some 22 ∧
      wc_J7_isLatin1 ad μ b (fun y_5 =>
        ((y_5 = 0 →
          ∃ x_7 : Option Nat, gQ μ b 22 0 = some x_7 ∧
          False) ∧
        (¬ y_5 = 0 →
          ∃ x_8 : Option Nat, gQ μ b 22 0 = some x_8 ∧
          wc_J12_hashCode ad μ x_8 (fun y_9 =>
            rI y_9 ∧
            ((¬ y_9 = 0 →
              ∃ (fi_12 : Nat → Int) (fq_13 : Nat → Option Nat), μ b = some (hO 22 fi_12 fq_13) ∧ 
              P y_9 (hs μ b (hO 22 (upF fi_12 2 y_9) fq_13))) ∧
            (y_9 = 0 →
              ∃ (fi_14 : Nat → Int) (fq_15 : Nat → Option Nat), μ b = some (hO 22 fi_14 fq_15) ∧ 
              P y_9 (hs μ b (hO 22 (upF fi_14 3 1) fq_15))))))))))))
set_option maxHeartbeats 4000000 in
theorem tm_J7_hashCode {G : g_G} {l : Launch} {μ : HM} {b : Nat} {P : Int → HM → Prop} (h : wc_J7_hashCode (g_ad G) μ b P) : CM G l yJ7_hashCode cJ7_hashCode 2 (Option.some Jvm.ClassFile.FieldType.int) 3 0 0 [.ref b] μ (hR1 P) := by
  unfold wc_J7_hashCode at h
  refine wm_of (lvs := [(0, va_rf (some b))]) (by decide) (Nat.le_of_ble_eq_true rfl) rfl (fun fr ws hM1 => ?_)
  show WW G l cJ7_hashCode RJ7 2 (Option.some Jvm.ClassFile.FieldType.int) "hashCode" 3 0 0 (hMR G (hR1 P)) (fun u => [u.1, fr]) 0 0 [ws, fr] 0 [(0, va_rf (some b))] []
  refine ww_aloadQ_n dJ7_hashCode_0 0 rfl ?_
  obtain ⟨x_1, hx, h⟩ := h
  refine wm_strI2 hM1 rfl hx q617 (fun _ _ h => h) dJ7_hashCode_1 ?_
  refine ww_istore_n (i := 1) (lv2 := [(1, vI x_1), (0, va_rf (some b))]) dJ7_hashCode_4 rfl (Nat.le_of_ble_eq_true rfl) rfl ?_
  refine ww_iload_n dJ7_hashCode_5 0 rfl ?_
  obtain ⟨r_2, h⟩ := h
  refine ww_if_ne (tgt := 58) dJ7_hashCode_6 (by decide) r_2 (fun c => ?_) (fun c => ?_)
  · replace h := h.1 c
    refine ww_iload_n dJ7_hashCode_58 0 rfl ?_
    exact ww_iret (ws, μ) rfl ⟨hM1, ⟨_, rfl, h⟩⟩ rfl (Nat.le_refl _) (Nat.le_refl _) dJ7_hashCode_59
  · replace h := h.2 c
    refine ww_aloadQ_n dJ7_hashCode_9 1 rfl ?_
    obtain ⟨x_3, hx, h⟩ := h
    refine wm_strI3 hM1 rfl hx q618 (fun _ _ h => h) dJ7_hashCode_10 ?_
    obtain ⟨r_4, h⟩ := h
    refine ww_if_ne (tgt := 58) dJ7_hashCode_13 (by decide) r_4 (fun c => ?_) (fun c => ?_)
    · replace h := h.1 c
      refine ww_iload_n dJ7_hashCode_58 0 rfl ?_
      exact ww_iret (ws, μ) rfl ⟨hM1, ⟨_, rfl, h⟩⟩ rfl (Nat.le_refl _) (Nat.le_refl _) dJ7_hashCode_59
    · replace h := h.2 c
      refine ww_aloadQ_n dJ7_hashCode_16 1 rfl ?_
      obtain ⟨hg, h⟩ := h
      refine wm_callV (n := 0) hM1 (tm_J7_isLatin1 h) rfl hg rfl (lw_V q661 q662 q663 q121 q664) ⟨by decide, by decide, by decide +kernel⟩ rfl ⟨Nat.le_of_ble_eq_true rfl, Nat.le_of_ble_eq_true rfl⟩ rfl (Nat.le_of_ble_eq_true rfl) dJ7_hashCode_17 ⟨Nat.le_refl _, Nat.le_refl _⟩ ?_
      clear h
      rintro _ _ ws ⟨rfl, y_5, rfl, z_6, h⟩ hM2
      refine ww_st1 ?_
      refine ww_if_eq (tgt := 33) dJ7_hashCode_20 (by decide) (r_z z_6) (fun c => ?_) (fun c => ?_)
      · replace h := h.1 c
        refine ww_aloadQ_n dJ7_hashCode_33 1 rfl ?_
        obtain ⟨x_7, hx, h⟩ := h
        refine wm_strQ hM2 rfl hx q615 (fun _ _ h => h) dJ7_hashCode_34 ?_
        exact h.elim
      · replace h := h.2 c
        refine ww_aloadQ_n dJ7_hashCode_23 1 rfl ?_
        obtain ⟨x_8, hx, h⟩ := h
        refine wm_strQ hM2 rfl hx q615 (fun _ _ h => h) dJ7_hashCode_24 ?_
        refine wm_callS (n := 1) hM2 (tm_J12_hashCode h) (lw_S q793 q794 q127 q795) ⟨by decide, by decide, by decide +kernel⟩ rfl ⟨Nat.le_of_ble_eq_true rfl, Nat.le_of_ble_eq_true rfl⟩ rfl (Nat.le_of_ble_eq_true rfl) dJ7_hashCode_27 ⟨Nat.le_refl _, Nat.le_refl _⟩ ?_
        clear h
        rintro _ _ ws ⟨rfl, y_9, rfl, h⟩ hM3
        refine ww_st1 ?_
        refine ww_goto (tgt := 40) dJ7_hashCode_30 (by decide) ?_
        refine ww_istore_n (i := 1) (lv2 := [(1, vI y_9), (0, va_rf (some b))]) dJ7_hashCode_40 rfl (Nat.le_of_ble_eq_true rfl) rfl ?_
        refine ww_iload_n dJ7_hashCode_41 0 rfl ?_
        obtain ⟨r_11, h⟩ := h
        refine ww_if_ne (tgt := 53) dJ7_hashCode_42 (by decide) r_11 (fun c => ?_) (fun c => ?_)
        · replace h := h.1 c
          refine ww_aloadQ_n dJ7_hashCode_53 1 rfl ?_
          refine ww_iload_n dJ7_hashCode_54 0 rfl ?_
          obtain ⟨fi_12, fq_13, hc, h⟩ := h
          refine wm_putI hM3 rfl in_J7 tyJ7_ok nmJ7 (ci := 22) rfl 2 (Nat.le_of_ble_eq_true rfl) hc (fun _ _ => rfl) (fun _ _ => Nat.le_of_ble_eq_true rfl) q617 (fun _ _ h => h) rfl rfl rfl dJ7_hashCode_55 (fun ws hM4 => ?_)
          refine ww_iload_n dJ7_hashCode_58 0 rfl ?_
          exact ww_iret (ws, (hs μ b (hO 22 (upF fi_12 2 y_9) fq_13))) rfl ⟨hM4, ⟨_, rfl, h⟩⟩ rfl (Nat.le_refl _) (Nat.le_refl _) dJ7_hashCode_59
        · replace h := h.2 c
          refine ww_aloadQ_n dJ7_hashCode_45 1 rfl ?_
          refine ww_iconst dJ7_hashCode_46 ?_
          obtain ⟨fi_14, fq_15, hc, h⟩ := h
          refine wm_putI hM3 rfl in_J7 tyJ7_ok nmJ7 (ci := 22) rfl 3 (Nat.le_of_ble_eq_true rfl) hc (fun _ _ => rfl) (fun _ _ => Nat.le_of_ble_eq_true rfl) q618 (fun _ _ h => h) rfl rfl rfl dJ7_hashCode_47 (fun ws hM5 => ?_)
          refine ww_goto (tgt := 58) dJ7_hashCode_50 (by decide) ?_
          refine ww_iload_n dJ7_hashCode_58 0 rfl ?_
          exact ww_iret (ws, (hs μ b (hO 22 (upF fi_14 3 1) fq_15))) rfl ⟨hM5, ⟨_, rfl, h⟩⟩ rfl (Nat.le_refl _) (Nat.le_refl _) dJ7_hashCode_59
/-! X1_isPrime: HoloNet isPrime (I)Z; flags (False, False, False), depth 0 -/
def wc_X1_isPrime (ad : Nat → Nat) (μ : HM) (a1 : Int) (P : Int → Prop) : Prop :=
  ∃ I2 : Nat → Int → Prop, (∀ (n2 : Nat) (v1_2 : Int), I2 n2 v1_2 →
    rI (v1_2 * v1_2) ∧
    rI a1 ∧
    ((a1 < (v1_2 * v1_2) →
      P 1) ∧
    ((v1_2 * v1_2) ≤ a1 →
      (0 ≤ a1 ∧ a1 < 2147483648 ∧ (0 : Int) < v1_2 ∧ (v1_2 : Int) < 2147483648) ∧
      rI (a1 % v1_2) ∧
      ((¬ (a1 % v1_2) = 0 →
        ∃ m : Nat, m < n2 ∧ I2 m (v1_2 + 1)) ∧
      ((a1 % v1_2) = 0 →
        P 0))))) ∧
  ∃ m : Nat, I2 m 2
set_option maxHeartbeats 4000000 in
theorem tm_X1_isPrime {G : g_G} {l : Launch} {μ : HM} {a1 : Int} {P : Int → Prop} (h : wc_X1_isPrime (g_ad G) μ a1 P) : CM G l yX1_isPrime cX1_isPrime 2 (Option.some Jvm.ClassFile.FieldType.boolean) 0 0 0 [vI a1] μ (hN2 μ P) := by
  unfold wc_X1_isPrime at h
  refine wm_of (lvs := [(0, vI a1)]) (by decide) (Nat.le_of_ble_eq_true rfl) rfl (fun fr ws hM1 => ?_)
  show WW G l cX1_isPrime RX1 2 (Option.some Jvm.ClassFile.FieldType.boolean) "isPrime" 0 0 0 (hMR G (hN2 μ P)) (fun u => [u.1, fr]) 0 0 [ws, fr] 0 [(0, vI a1)] []
  refine ww_iconst dX1_isPrime_0 ?_
  refine ww_istore_n (i := 1) (lv2 := [(1, vI 2), (0, vI a1)]) dX1_isPrime_1 rfl (Nat.le_of_ble_eq_true rfl) rfl ?_
  obtain ⟨I2, hI2, h⟩ := h
  have kI2 : ∀ (n2 : Nat), ∀ (v1_2 : Int), I2 n2 v1_2 → ∀ ws : va_W, Mrep G ws μ → WW G l cX1_isPrime RX1 2 (Option.some Jvm.ClassFile.FieldType.boolean) "isPrime" 0 0 0 (hMR G (hN2 μ P)) (fun u => [u.1, fr]) 0 0 [ws, fr] 2 [(0, vI a1), (1, vI v1_2)] [] := by
    clear h
    intro n2
    induction n2 using Nat.strongRecOn with
    | ind n2 ih2 =>
      intro v1_2 hj ws hM2
      have h := hI2 n2 v1_2 hj
      refine ww_iload_n dX1_isPrime_2 1 rfl ?_
      refine ww_iload_n dX1_isPrime_3 1 rfl ?_
      refine ww_imul dX1_isPrime_4 ?_
      refine ww_iload_n dX1_isPrime_5 0 rfl ?_
      obtain ⟨r_1, r_2, h⟩ := h
      refine ww_icmp_gt (tgt := 23) dX1_isPrime_6 (by decide) r_1 r_2 (fun c => ?_) (fun c => ?_)
      · replace h := h.1 c
        refine ww_iconst dX1_isPrime_23 ?_
        exact ww_zret (ws, μ) rfl (Or.inr rfl) ⟨hM2, ⟨rfl, _, rfl, Or.inr rfl, h⟩⟩ rfl (Nat.le_refl _) (Nat.le_refl _) dX1_isPrime_24
      · replace h := h.2 (Int.not_lt.mp c)
        refine ww_iload_n dX1_isPrime_9 0 rfl ?_
        refine ww_iload_n dX1_isPrime_10 1 rfl ?_
        obtain ⟨r_3, h⟩ := h
        refine ww_irem dX1_isPrime_11 r_3 ?_
        obtain ⟨r_4, h⟩ := h
        refine ww_if_ne (tgt := 17) dX1_isPrime_12 (by decide) r_4 (fun c => ?_) (fun c => ?_)
        · replace h := h.1 c
          refine ww_iinc (lv2 := [(1, vI (v1_2 + 1)), (0, vI a1)]) dX1_isPrime_17 1 rfl (Nat.le_of_ble_eq_true rfl) rfl ?_
          refine ww_goto (tgt := 2) dX1_isPrime_20 (by decide) ?_
          refine ww_lv [1, 0] rfl ?_
          obtain ⟨m, hm, h⟩ := h
          exact ih2 m hm _ h _ hM2
        · replace h := h.2 c
          refine ww_iconst dX1_isPrime_15 ?_
          exact ww_zret (ws, μ) rfl (Or.inl rfl) ⟨hM2, ⟨rfl, _, rfl, Or.inl rfl, h⟩⟩ rfl (Nat.le_refl _) (Nat.le_refl _) dX1_isPrime_16
  refine ww_lv [1, 0] rfl ?_
  obtain ⟨m, h⟩ := h
  exact kI2 m _ h _ hM1
/-! X8_init_8: HoloNet$Labelled <init> (Ljava/lang/String;I)V; flags (True, False, False), depth 1 -/
def wc_X8_init_8 (ad : Nat → Nat) (μ : HM) (b : Nat) (o1 : Option Nat) (a2 : Int) (P : HM → Prop) : Prop :=
  ∃ (fi_1 : Nat → Int) (fq_2 : Nat → Option Nat), μ b = some (hO 8 fi_1 fq_2) ∧ 
  ∃ (fi_3 : Nat → Int) (fq_4 : Nat → Option Nat), (hs μ b (hO 8 fi_1 (upF fq_2 0 o1))) b = some (hO 8 fi_3 fq_4) ∧ 
  P (hs (hs μ b (hO 8 fi_1 (upF fq_2 0 o1))) b (hO 8 (upF fi_3 1 a2) fq_4))
set_option maxHeartbeats 4000000 in
theorem tm_X8_init_8 {G : g_G} {l : Launch} {μ : HM} {b : Nat} {o1 : Option Nat} {a2 : Int} {P : HM → Prop} (h : wc_X8_init_8 (g_ad G) μ b o1 a2 P) : CM G l yX8_init cX8_init 3 (Option.none : Option Jvm.ClassFile.FieldType) 1 0 0 [.ref b, va_rf o1, vI a2] μ (hR0 P) := by
  unfold wc_X8_init_8 at h
  refine wm_of (lvs := [(0, va_rf (some b)), (1, va_rf o1), (2, vI a2)]) (by decide) (by simp [lg_sl, rf_cat, vI_cat, vL_cat, ref_cat]) (by simp [lv_args, rf_cat, vI_cat, vL_cat, ref_cat, rf_some]) (fun fr ws hM1 => ?_)
  show WW G l cX8_init RX8 3 (Option.none : Option Jvm.ClassFile.FieldType) "<init>" 1 0 0 (hMR G (hR0 P)) (fun u => [u.1, fr]) 0 0 [ws, fr] 0 [(0, va_rf (some b)), (1, va_rf o1), (2, vI a2)] []
  refine ww_aloadQ_n dX8_init_0 0 rfl ?_
  refine wm_objInit rfl q1149 q170 q171 (Nat.le_of_ble_eq_true rfl) (Nat.le_of_ble_eq_true rfl) dX8_init_1 ?_
  refine ww_aloadQ_n dX8_init_4 0 rfl ?_
  refine ww_aloadQ_n dX8_init_5 1 rfl ?_
  obtain ⟨fi_1, fq_2, hc, h⟩ := h
  refine wm_putQF hM1 rfl in_X11 tyX11_ok nmX11 (ci := 8) rfl 0 (Nat.le_of_ble_eq_true rfl) hc (fun _ _ => rfl) (fun _ _ => Nat.le_of_ble_eq_true rfl) q1158 (fun _ _ h => h) rfl rfl rfl (narrow_rf rfl _) (fits_rf rfl _) dX8_init_6 (fun ws hM2 => ?_)
  refine ww_aloadQ_n dX8_init_9 0 rfl ?_
  refine ww_iload_n dX8_init_10 2 rfl ?_
  obtain ⟨fi_3, fq_4, hc, h⟩ := h
  refine wm_putIF hM2 rfl in_X11 tyX11_ok nmX11 (ci := 8) rfl 1 (Nat.le_of_ble_eq_true rfl) hc (fun _ _ => rfl) (fun _ _ => Nat.le_of_ble_eq_true rfl) q1160 (fun _ _ h => h) rfl rfl rfl rfl rfl dX8_init_11 (fun ws hM3 => ?_)
  exact ww_vret (ws, (hs (hs μ b (hO 8 fi_1 (upF fq_2 0 o1))) b (hO 8 (upF fi_3 1 a2) fq_4))) rfl ⟨hM3, ⟨rfl, h⟩⟩ rfl (Nat.le_refl _) (Nat.le_refl _) dX8_init_14
/-! X11_init: HoloNet$Base <init> (Ljava/lang/String;I[I)V; flags (True, False, False), depth 2 -/
def wc_X11_init (ad : Nat → Nat) (μ : HM) (b : Nat) (o1 : Option Nat) (a2 : Int) (o3 : Option Nat) (P : HM → Prop) : Prop :=
  wc_X8_init_8 ad μ b o1 a2 (fun μ_1 =>
    ∃ (fi_2 : Nat → Int) (fq_3 : Nat → Option Nat), μ_1 b = some (hO 8 fi_2 fq_3) ∧ 
    P (hs μ_1 b (hO 8 fi_2 (upF fq_3 2 o3))))
set_option maxHeartbeats 4000000 in
theorem tm_X11_init {G : g_G} {l : Launch} {μ : HM} {b : Nat} {o1 : Option Nat} {a2 : Int} {o3 : Option Nat} {P : HM → Prop} (h : wc_X11_init (g_ad G) μ b o1 a2 o3 P) : CM G l yX11_init cX11_init 4 (Option.none : Option Jvm.ClassFile.FieldType) 2 0 0 [.ref b, va_rf o1, vI a2, va_rf o3] μ (hR0 P) := by
  unfold wc_X11_init at h
  refine wm_of (lvs := [(0, va_rf (some b)), (1, va_rf o1), (2, vI a2), (3, va_rf o3)]) (by decide) (by simp [lg_sl, rf_cat, vI_cat, vL_cat, ref_cat]) (by simp [lv_args, rf_cat, vI_cat, vL_cat, ref_cat, rf_some]) (fun fr ws hM1 => ?_)
  show WW G l cX11_init RX11 4 (Option.none : Option Jvm.ClassFile.FieldType) "<init>" 2 0 0 (hMR G (hR0 P)) (fun u => [u.1, fr]) 0 0 [ws, fr] 0 [(0, va_rf (some b)), (1, va_rf o1), (2, vI a2), (3, va_rf o3)] []
  refine ww_aloadQ_n dX11_init_0 0 rfl ?_
  refine ww_aloadQ_n dX11_init_1 1 rfl ?_
  refine ww_iload_n dX11_init_2 2 rfl ?_
  refine wm_callI (n := 2) hM1 (tm_X8_init_8 h) rfl q1148 q140 q1365 q1147 rfl ⟨by decide, by decide, by decide +kernel⟩ rfl ⟨Nat.le_of_ble_eq_true rfl, Nat.le_of_ble_eq_true rfl⟩ rfl (Nat.le_of_ble_eq_true rfl) dX11_init_3 ⟨Nat.le_refl _, Nat.le_refl _⟩ ?_
  clear h
  rintro _ μ_1 ws ⟨rfl, h⟩ hM2
  refine ww_st0 ?_
  refine ww_aloadQ_n dX11_init_6 0 rfl ?_
  refine ww_aloadQ_n dX11_init_7 3 rfl ?_
  obtain ⟨fi_2, fq_3, hc, h⟩ := h
  refine wm_putQF hM2 rfl in_X11 tyX11_ok nmX11 (ci := 8) rfl 2 (Nat.le_of_ble_eq_true rfl) hc (fun _ _ => rfl) (fun _ _ => Nat.le_of_ble_eq_true rfl) q1366 (fun _ _ h => h) rfl rfl rfl (narrow_rf rfl _) (fits_rf rfl _) dX11_init_8 (fun ws hM3 => ?_)
  exact ww_vret (ws, (hs μ_1 b (hO 8 fi_2 (upF fq_3 2 o3)))) rfl ⟨hM3, ⟨rfl, h⟩⟩ rfl (Nat.le_refl _) (Nat.le_refl _) dX11_init_11
/-! J10_floorMod: java/lang/Math floorMod (JJ)J; flags (False, False, False), depth 0 -/
def wc_J10_floorMod (ad : Nat → Nat) (μ : HM) (a1 : Int) (a2 : Int) (P : Int → Prop) : Prop :=
  (rL a1 ∧ (0 : Int) < a2 ∧ (a2 : Int) < 2147483648) ∧
  rL (lbX a1 a2) ∧
  ((0 ≤ (lbX a1 a2) →
    P (a1.tmod a2)) ∧
  ((lbX a1 a2) < 0 →
    rL (a1.tmod a2) ∧
    (((a1.tmod a2) = 0 →
      P (a1.tmod a2)) ∧
    (¬ (a1.tmod a2) = 0 →
      P ((a1.tmod a2) + a2)))))
set_option maxHeartbeats 4000000 in
theorem tm_J10_floorMod {G : g_G} {l : Launch} {μ : HM} {a1 : Int} {a2 : Int} {P : Int → Prop} (h : wc_J10_floorMod (g_ad G) μ a1 a2 P) : CM G l yJ10_floorMod cJ10_floorMod 6 (Option.some Jvm.ClassFile.FieldType.long) 0 0 0 [vL a1, vL a2] μ (hN3 μ P) := by
  unfold wc_J10_floorMod at h
  refine wm_ofF (lvs := [(0, vL a1), (2, vL a2)]) (Nat.le_of_ble_eq_true rfl) rfl (by decide +kernel) (fun fr ws hM1 => ?_)
  show WW G l cJ10_floorMod RJ10 6 (Option.some Jvm.ClassFile.FieldType.long) "floorMod" 0 0 0 (hMR G (hN3 μ P)) (fun u => [u.1, fr]) 0 0 [ws, fr] 0 [(0, vL a1), (2, vL a2)] []
  refine ww_lload_n dJ10_floorMod_0 0 rfl ?_
  refine ww_lload_n dJ10_floorMod_1 1 rfl ?_
  obtain ⟨r_1, h⟩ := h
  refine ww_lrem dJ10_floorMod_2 r_1 ?_
  refine ww_lstore (i := 4) (lv2 := [(4, vL (a1.tmod a2)), (0, vL a1), (2, vL a2)]) dJ10_floorMod_3 (Nat.le_of_ble_eq_true rfl) rfl ?_
  refine ww_lload_n dJ10_floorMod_5 1 rfl ?_
  refine ww_lload_n dJ10_floorMod_6 2 rfl ?_
  refine wm_lxor dJ10_floorMod_7 ?_
  refine ww_lconst (v := 0) dJ10_floorMod_8 rfl ?_
  obtain ⟨r_2, h⟩ := h
  refine ww_lcmp dJ10_floorMod_9 r_2 (by decide) ?_
  refine ww_if_ge (tgt := 25) dJ10_floorMod_10 (by decide) r_cmp (fun c => ?_) (fun c => ?_)
  · replace h := h.1 (cmp_ge.mp c)
    refine ww_lload dJ10_floorMod_25 0 rfl ?_
    exact ww_lret (ws, μ) rfl ⟨hM1, ⟨rfl, _, rfl, h⟩⟩ rfl (Nat.le_refl _) (Nat.le_refl _) dJ10_floorMod_27
  · replace h := h.2 (cmp_gen.mp c)
    refine ww_lload dJ10_floorMod_13 0 rfl ?_
    refine ww_lconst (v := 0) dJ10_floorMod_15 rfl ?_
    obtain ⟨r_3, h⟩ := h
    refine ww_lcmp dJ10_floorMod_16 r_3 (by decide) ?_
    refine ww_if_eq (tgt := 25) dJ10_floorMod_17 (by decide) r_cmp (fun c => ?_) (fun c => ?_)
    · replace h := h.1 (cmp_eq.mp c)
      refine ww_lload dJ10_floorMod_25 0 rfl ?_
      exact ww_lret (ws, μ) rfl ⟨hM1, ⟨rfl, _, rfl, h⟩⟩ rfl (Nat.le_refl _) (Nat.le_refl _) dJ10_floorMod_27
    · replace h := h.2 (cmp_eqn.mp c)
      refine ww_lload dJ10_floorMod_20 0 rfl ?_
      refine ww_lload_n dJ10_floorMod_22 2 rfl ?_
      refine ww_ladd dJ10_floorMod_23 ?_
      exact ww_lret (ws, μ) rfl ⟨hM1, ⟨rfl, _, rfl, h⟩⟩ rfl (Nat.le_refl _) (Nat.le_refl _) dJ10_floorMod_24
/-! X2_mod: HoloNet$Net mod (J)I; flags (False, False, False), depth 1 -/
def wc_X2_mod (ad : Nat → Nat) (μ : HM) (b : Nat) (a1 : Int) (P : Int → Prop) : Prop :=
  ∃ x_1 : Int, gI μ b 2 0 = some x_1 ∧
  rI x_1 ∧
  wc_J10_floorMod ad μ a1 x_1 (fun y_3 =>
    P y_3)
set_option maxHeartbeats 4000000 in
theorem tm_X2_mod {G : g_G} {l : Launch} {μ : HM} {b : Nat} {a1 : Int} {P : Int → Prop} (h : wc_X2_mod (g_ad G) μ b a1 P) : CM G l yX2_mod cX2_mod 3 (Option.some Jvm.ClassFile.FieldType.int) 1 0 0 [.ref b, vL a1] μ (hN1 μ P) := by
  unfold wc_X2_mod at h
  refine wm_of (lvs := [(0, va_rf (some b)), (1, vL a1)]) (by decide) (Nat.le_of_ble_eq_true rfl) rfl (fun fr ws hM1 => ?_)
  show WW G l cX2_mod RX2 3 (Option.some Jvm.ClassFile.FieldType.int) "mod" 1 0 0 (hMR G (hN1 μ P)) (fun u => [u.1, fr]) 0 0 [ws, fr] 0 [(0, va_rf (some b)), (1, vL a1)] []
  refine ww_lload_n dX2_mod_0 1 rfl ?_
  refine ww_aloadQ_n dX2_mod_1 0 rfl ?_
  obtain ⟨x_1, hx, h⟩ := h
  refine wm_getI hM1 rfl in_X2 (ci := 2) rfl (by decide) 0 (Nat.le_of_ble_eq_true rfl) hx (fun _ _ => rfl) q256 (fun _ _ h => h) dX2_mod_2 ?_
  obtain ⟨r_2, h⟩ := h
  refine ww_i2l dX2_mod_5 r_2 ?_
  refine wm_callS (n := 2) hM1 (tm_J10_floorMod h) (lw_S q1352 q1353 q124 q1354) ⟨by decide, by decide, by decide +kernel⟩ rfl ⟨Nat.le_of_ble_eq_true rfl, Nat.le_of_ble_eq_true rfl⟩ rfl (Nat.le_of_ble_eq_true rfl) dX2_mod_6 ⟨Nat.le_refl _, Nat.le_refl _⟩ ?_
  clear h
  rintro _ _ ws ⟨rfl, y_3, rfl, h⟩ hM2
  refine ww_st1 ?_
  refine ww_l2i dX2_mod_9 ?_
  exact ww_iret (ws, μ) rfl ⟨hM2, ⟨rfl, _, rfl, h⟩⟩ rfl (Nat.le_refl _) (Nat.le_refl _) dX2_mod_10
/-! J10_max: java/lang/Math max (II)I; flags (False, False, False), depth 0 -/
def wc_J10_max (ad : Nat → Nat) (μ : HM) (a1 : Int) (a2 : Int) (P : Int → Prop) : Prop :=
  rI a1 ∧
  rI a2 ∧
  ((a1 < a2 →
    P a2) ∧
  (a2 ≤ a1 →
    P a1))
set_option maxHeartbeats 4000000 in
theorem tm_J10_max {G : g_G} {l : Launch} {μ : HM} {a1 : Int} {a2 : Int} {P : Int → Prop} (h : wc_J10_max (g_ad G) μ a1 a2 P) : CM G l yJ10_max cJ10_max 2 (Option.some Jvm.ClassFile.FieldType.int) 0 0 0 [vI a1, vI a2] μ (hN1 μ P) := by
  unfold wc_J10_max at h
  refine wm_ofF (lvs := [(0, vI a1), (1, vI a2)]) (Nat.le_of_ble_eq_true rfl) rfl (by decide +kernel) (fun fr ws hM1 => ?_)
  show WW G l cJ10_max RJ10 2 (Option.some Jvm.ClassFile.FieldType.int) "max" 0 0 0 (hMR G (hN1 μ P)) (fun u => [u.1, fr]) 0 0 [ws, fr] 0 [(0, vI a1), (1, vI a2)] []
  refine ww_iload_n dJ10_max_0 0 rfl ?_
  refine ww_iload_n dJ10_max_1 1 rfl ?_
  obtain ⟨r_1, r_2, h⟩ := h
  refine ww_icmp_lt (tgt := 9) dJ10_max_2 (by decide) r_1 r_2 (fun c => ?_) (fun c => ?_)
  · replace h := h.1 c
    refine ww_iload_n dJ10_max_9 1 rfl ?_
    exact ww_iret (ws, μ) rfl ⟨hM1, ⟨rfl, _, rfl, h⟩⟩ rfl (Nat.le_refl _) (Nat.le_refl _) dJ10_max_10
  · replace h := h.2 (Int.not_lt.mp c)
    refine ww_iload_n dJ10_max_5 0 rfl ?_
    refine ww_goto (tgt := 10) dJ10_max_6 (by decide) ?_
    exact ww_iret (ws, μ) rfl ⟨hM1, ⟨rfl, _, rfl, h⟩⟩ rfl (Nat.le_refl _) (Nat.le_refl _) dJ10_max_10
/-! J10_min: java/lang/Math min (II)I; flags (False, False, False), depth 0 -/
def wc_J10_min (ad : Nat → Nat) (μ : HM) (a1 : Int) (a2 : Int) (P : Int → Prop) : Prop :=
  rI a1 ∧
  rI a2 ∧
  ((a2 < a1 →
    P a2) ∧
  (a1 ≤ a2 →
    P a1))
set_option maxHeartbeats 4000000 in
theorem tm_J10_min {G : g_G} {l : Launch} {μ : HM} {a1 : Int} {a2 : Int} {P : Int → Prop} (h : wc_J10_min (g_ad G) μ a1 a2 P) : CM G l yJ10_min cJ10_min 2 (Option.some Jvm.ClassFile.FieldType.int) 0 0 0 [vI a1, vI a2] μ (hN1 μ P) := by
  unfold wc_J10_min at h
  refine wm_ofF (lvs := [(0, vI a1), (1, vI a2)]) (Nat.le_of_ble_eq_true rfl) rfl (by decide +kernel) (fun fr ws hM1 => ?_)
  show WW G l cJ10_min RJ10 2 (Option.some Jvm.ClassFile.FieldType.int) "min" 0 0 0 (hMR G (hN1 μ P)) (fun u => [u.1, fr]) 0 0 [ws, fr] 0 [(0, vI a1), (1, vI a2)] []
  refine ww_iload_n dJ10_min_0 0 rfl ?_
  refine ww_iload_n dJ10_min_1 1 rfl ?_
  obtain ⟨r_1, r_2, h⟩ := h
  refine ww_icmp_gt (tgt := 9) dJ10_min_2 (by decide) r_1 r_2 (fun c => ?_) (fun c => ?_)
  · replace h := h.1 c
    refine ww_iload_n dJ10_min_9 1 rfl ?_
    exact ww_iret (ws, μ) rfl ⟨hM1, ⟨rfl, _, rfl, h⟩⟩ rfl (Nat.le_refl _) (Nat.le_refl _) dJ10_min_10
  · replace h := h.2 (Int.not_lt.mp c)
    refine ww_iload_n dJ10_min_5 0 rfl ?_
    refine ww_goto (tgt := 10) dJ10_min_6 (by decide) ?_
    exact ww_iret (ws, μ) rfl ⟨hM1, ⟨rfl, _, rfl, h⟩⟩ rfl (Nat.le_refl _) (Nat.le_refl _) dJ10_min_10
/-! J11_copyOf_3: java/util/Arrays copyOf ([Ljava/lang/Object;ILjava/lang/Class;)[Ljava/lang/Object;; flags (True, True, False), depth 1 -/
def wc_J11_copyOf_3 (ad : Nat → Nat) (mc ms : Nat) (μ : HM) (o1 : Option Nat) (a2 : Int) (o3 : Option Nat) (P : Option Nat → HM → Prop) : Prop :=
  ((¬ (o3 : Option Nat) = (some (ad 3)) →
    False) ∧
  ((o3 : Option Nat) = (some (ad 3)) →
    (0 ≤ a2 ∧ a2 < 50000000 ∧ 0 + 1 ≤ mc ∧ 0 + a2.toNat ≤ ms) ∧ ∀ q_1 : Nat, μ q_1 = none →
    ∃ a_3 : Nat, o1 = some a_3 ∧
    ∃ n_4 : Nat, gL (hs μ q_1 (hQ 4 a2.toNat (fun _ => none))) a_3 = some n_4 ∧
    wc_J10_min ad (hs μ q_1 (hQ 4 a2.toNat (fun _ => none))) (n_4 : Int) a2 (fun y_5 =>
      ∃ μ_11 : HM, ((∃ (n_7 n_8 : Nat) (f_9 g_10 : Int → Option Nat), (hs μ q_1 (hQ 4 a2.toNat (fun _ => none))) a_3 = some (hQ 4 n_7 f_9) ∧ (hs μ q_1 (hQ 4 a2.toNat (fun _ => none))) q_1 = some (hQ 4 n_8 g_10) ∧ ((0 : Int) ≤ (0 : Int) ∧ (0 : Int) ≤ (0 : Int) ∧ (0 : Int) ≤ y_5 ∧ (0 : Int) + y_5 ≤ (n_7 : Int) ∧ (0 : Int) + y_5 ≤ (n_8 : Int) ∧ (n_7 : Int) < 2147483648 ∧ (n_8 : Int) < 2147483648) ∧ (∀ (j : Int) (y : Nat), (0 : Int) ≤ j → j < (0 : Int) + y_5 → f_9 j = some y → hst (hs μ q_1 (hQ 4 a2.toNat (fun _ => none))) 4 y) ∧ μ_11 = hs (hs μ q_1 (hQ 4 a2.toNat (fun _ => none))) q_1 (hQ 4 n_8 (cpyI f_9 g_10 (0 : Int) (0 : Int) y_5))) ∨ (∃ (n_8 : Nat) (g_10 : Int → Option Nat), a_3 = ad 0 ∧ (hs μ q_1 (hQ 4 a2.toNat (fun _ => none))) q_1 = some (hQ 4 n_8 g_10) ∧ (0 : Int) = 0 ∧ 0 ≤ (0 : Int) ∧ y_5 = 0 ∧ (0 : Int) ≤ (n_8 : Int) ∧ (n_8 : Int) < 2147483648 ∧ μ_11 = hs (hs μ q_1 (hQ 4 a2.toNat (fun _ => none))) q_1 (hQ 4 n_8 g_10))) ∧
      P (some q_1) μ_11)))
set_option maxHeartbeats 4000000 in
theorem tm_J11_copyOf_3 {G : g_G} {l : Launch} {mc ms : Nat} {μ : HM} {o1 : Option Nat} {a2 : Int} {o3 : Option Nat} {P : Option Nat → HM → Prop} (h : wc_J11_copyOf_3 (g_ad G) mc ms μ o1 a2 o3 P) : CM G l yJ11_copyOf_3 cJ11_copyOf_3 4 (Option.some (Jvm.ClassFile.FieldType.array (Jvm.ClassFile.FieldType.object "java/lang/Object"))) 1 mc ms [va_rf o1, vI a2, va_rf o3] μ (hR4 P) := by
  unfold wc_J11_copyOf_3 at h
  refine wm_of (lvs := [(0, va_rf o1), (1, vI a2), (2, va_rf o3)]) (by decide) (by simp [lg_sl, rf_cat, vI_cat, vL_cat, ref_cat]) (by simp [lv_args, rf_cat, vI_cat, vL_cat, ref_cat, rf_some]) (fun fr ws hM1 => ?_)
  show WW G l cJ11_copyOf_3 RJ11 4 (Option.some (Jvm.ClassFile.FieldType.array (Jvm.ClassFile.FieldType.object "java/lang/Object"))) "copyOf" 1 mc ms (hMR G (hR4 P)) (fun u => [u.1, fr]) 0 0 [ws, fr] 0 [(0, va_rf o1), (1, vI a2), (2, va_rf o3)] []
  have hB : 0 ≤ mc ∧ 0 ≤ ms := ⟨Nat.zero_le _, Nat.zero_le _⟩
  refine ww_aloadQ_n dJ11_copyOf_3_0 2 rfl ?_
  refine wm_ldcM q1231 dJ11_copyOf_3_1 ?_
  refine ww_acmp_ne (tgt := 13) dJ11_copyOf_3_3 (by decide) (fun c => ?_) (fun c => ?_)
  · replace h := h.1 c
    refine ww_aloadQ_n dJ11_copyOf_3_13 2 rfl ?_
    exact h.elim
  · replace h := h.2 c
    refine ww_iload_n dJ11_copyOf_3_6 1 rfl ?_
    obtain ⟨b_2, h⟩ := h
    refine wm_anew 4 hM1 (fun _ h => h.2.1) rfl q1233 b_2.1 (by omega) b_2.2.2.1 b_2.2.2.2 dJ11_copyOf_3_7 (fun q_1 ws hq hM2 => ?_)
    replace h := h q_1 hq
    have hB := b_2.2.2
    refine ww_goto (tgt := 24) dJ11_copyOf_3_10 (by decide) ?_
    refine ww_astoreQ_n (i := 3) (lv2 := [(3, va_rf (some q_1)), (0, va_rf o1), (1, vI a2), (2, va_rf o3)]) dJ11_copyOf_3_24 rfl (Nat.le_of_ble_eq_true rfl) (by simp [rf_cat, vI_cat, vL_cat, ref_cat]) ?_
    refine ww_aloadQ_n dJ11_copyOf_3_25 1 rfl ?_
    refine ww_iconst dJ11_copyOf_3_26 ?_
    refine ww_aloadQ_n dJ11_copyOf_3_27 0 rfl ?_
    refine ww_iconst dJ11_copyOf_3_28 ?_
    refine ww_aloadQ_n dJ11_copyOf_3_29 1 rfl ?_
    obtain ⟨a_3, ea_3, h⟩ := h
    subst ea_3
    obtain ⟨n_4, hn, h⟩ := h
    refine wm_alen hM2 rfl hn dJ11_copyOf_3_30 ?_
    refine ww_iload_n dJ11_copyOf_3_31 2 rfl ?_
    refine wm_callS (n := 2) hM2 (tm_J10_min h) (lw_S q483 q484 q124 q485) ⟨by decide, by decide, by decide +kernel⟩ rfl ⟨Nat.le_of_ble_eq_true rfl, Nat.le_of_ble_eq_true rfl⟩ rfl (by simp only [List.map_cons, List.map_nil, rf_cat, vI_cat, vL_cat, List.sum_cons, List.sum_nil]; decide) dJ11_copyOf_3_32 hB ?_
    clear h
    rintro _ _ ws ⟨rfl, y_5, rfl, h⟩ hM3
    refine ww_st1 ?_
    obtain ⟨μ_11, hc, h⟩ := h
    refine wm_copyQ (ty := .object "java/lang/Object") hM3 rfl rfl hc q486 q488 q487 q126 (Nat.le_of_ble_eq_true rfl) (Nat.le_of_ble_eq_true rfl) dJ11_copyOf_3_35 (fun ws hM4 => ?_)
    refine ww_aloadQ_n dJ11_copyOf_3_38 0 rfl ?_
    exact ww_aret (ws, μ_11) rfl (by first | exact Or.inl ⟨_, rfl⟩ | exact Or.inr ⟨_, rfl⟩) (rf_or _) ⟨hM4, ⟨_, rfl, h⟩⟩ rfl hB.1 hB.2 dJ11_copyOf_3_39
/-! J11_copyOf_2: java/util/Arrays copyOf ([Ljava/lang/Object;I)[Ljava/lang/Object;; flags (True, True, False), depth 2 -/
def wc_J11_copyOf_2 (ad : Nat → Nat) (mc ms : Nat) (μ : HM) (o1 : Option Nat) (a2 : Int) (P : Option Nat → HM → Prop) : Prop :=
  ∃ a_1 : Nat, o1 = some a_1 ∧
  ((∃ (n : Nat) (f : Int → Option Nat), μ a_1 = some (hQ 4 n f)) ∨ a_1 = ad 0) ∧
  ∃ c_2 s_3 : Nat, (0 + c_2 ≤ mc ∧ 0 + s_3 ≤ ms) ∧
  wc_J11_copyOf_3 ad c_2 s_3 μ (some a_1) a2 (some (ad 3)) (fun y_5 μ_7 =>
    P y_5 μ_7)
set_option maxHeartbeats 4000000 in
theorem tm_J11_copyOf_2 {G : g_G} {l : Launch} {mc ms : Nat} {μ : HM} {o1 : Option Nat} {a2 : Int} {P : Option Nat → HM → Prop} (h : wc_J11_copyOf_2 (g_ad G) mc ms μ o1 a2 P) : CM G l yJ11_copyOf_2 cJ11_copyOf_2 2 (Option.some (Jvm.ClassFile.FieldType.array (Jvm.ClassFile.FieldType.object "java/lang/Object"))) 2 mc ms [va_rf o1, vI a2] μ (hR4 P) := by
  unfold wc_J11_copyOf_2 at h
  refine wm_of (lvs := [(0, va_rf o1), (1, vI a2)]) (by decide) (by simp [lg_sl, rf_cat, vI_cat, vL_cat, ref_cat]) (by simp [lv_args, rf_cat, vI_cat, vL_cat, ref_cat, rf_some]) (fun fr ws hM1 => ?_)
  show WW G l cJ11_copyOf_2 RJ11 2 (Option.some (Jvm.ClassFile.FieldType.array (Jvm.ClassFile.FieldType.object "java/lang/Object"))) "copyOf" 2 mc ms (hMR G (hR4 P)) (fun u => [u.1, fr]) 0 0 [ws, fr] 0 [(0, va_rf o1), (1, vI a2)] []
  have hB : 0 ≤ mc ∧ 0 ≤ ms := ⟨Nat.zero_le _, Nat.zero_le _⟩
  refine ww_aloadQ_n dJ11_copyOf_2_0 0 rfl ?_
  refine ww_iload_n dJ11_copyOf_2_1 1 rfl ?_
  refine ww_aloadQ_n dJ11_copyOf_2_2 0 rfl ?_
  obtain ⟨a_1, ea_1, h⟩ := h
  subst ea_1
  obtain ⟨hc, h⟩ := h
  refine wm_getC hM1 rfl hc q1195 q2702 q1196 q1227 (Nat.le_of_ble_eq_true rfl) (by simp only [List.map_cons, List.map_nil, rf_cat, vI_cat, vL_cat, List.sum_cons, List.sum_nil]; decide) dJ11_copyOf_2_3 ?_
  obtain ⟨c_2, s_3, b_4, h⟩ := h
  refine wm_callS (n := 3) hM1 (tm_J11_copyOf_3 h) (lw_S q1228 q1229 q125 q1230) ⟨by decide, by decide, by decide +kernel⟩ rfl ⟨Nat.le_of_ble_eq_true rfl, Nat.le_of_ble_eq_true rfl⟩ rfl (Nat.le_of_ble_eq_true rfl) dJ11_copyOf_2_6 b_4 ?_
  clear h
  rintro _ μ_7 ws ⟨y_5, rfl, h⟩ hM2
  have hB := b_4
  refine ww_st1 ?_
  exact ww_aret (ws, μ_7) rfl (by first | exact Or.inl ⟨_, rfl⟩ | exact Or.inr ⟨_, rfl⟩) (rf_or _) ⟨hM2, ⟨_, rfl, h⟩⟩ rfl hB.1 hB.2 dJ11_copyOf_2_9
/-! J9_newLength: jdk/internal/util/ArraysSupport newLength (III)I; flags (False, False, False), depth 1 -/
def wc_J9_newLength (ad : Nat → Nat) (μ : HM) (a1 : Int) (a2 : Int) (a3 : Int) (P : Int → Prop) : Prop :=
  wc_J10_max ad μ a2 a3 (fun y_1 =>
    rI (a1 + y_1) ∧
    ∃ J21 : Prop, (J21 →
      False) ∧
    (((a1 + y_1) ≤ (0 : Int) →
      J21) ∧
    ((0 : Int) < (a1 + y_1) →
      rI (a1 + y_1) ∧
      ((2147483639 < (a1 + y_1) →
        J21) ∧
      ((a1 + y_1) ≤ 2147483639 →
        P (a1 + y_1))))))
set_option maxHeartbeats 4000000 in
theorem tm_J9_newLength {G : g_G} {l : Launch} {μ : HM} {a1 : Int} {a2 : Int} {a3 : Int} {P : Int → Prop} (h : wc_J9_newLength (g_ad G) μ a1 a2 a3 P) : CM G l yJ9_newLength cJ9_newLength 4 (Option.some Jvm.ClassFile.FieldType.int) 1 0 0 [vI a1, vI a2, vI a3] μ (hN1 μ P) := by
  unfold wc_J9_newLength at h
  refine wm_of (lvs := [(0, vI a1), (1, vI a2), (2, vI a3)]) (by decide) (Nat.le_of_ble_eq_true rfl) rfl (fun fr ws hM1 => ?_)
  show WW G l cJ9_newLength RJ9 4 (Option.some Jvm.ClassFile.FieldType.int) "newLength" 1 0 0 (hMR G (hN1 μ P)) (fun u => [u.1, fr]) 0 0 [ws, fr] 0 [(0, vI a1), (1, vI a2), (2, vI a3)] []
  refine ww_iload_n dJ9_newLength_0 0 rfl ?_
  refine ww_iload_n dJ9_newLength_1 1 rfl ?_
  refine ww_iload_n dJ9_newLength_2 2 rfl ?_
  refine wm_callS (n := 2) hM1 (tm_J10_max h) (lw_S q465 q466 q124 q467) ⟨by decide, by decide, by decide +kernel⟩ rfl ⟨Nat.le_of_ble_eq_true rfl, Nat.le_of_ble_eq_true rfl⟩ rfl (Nat.le_of_ble_eq_true rfl) dJ9_newLength_3 ⟨Nat.le_refl _, Nat.le_refl _⟩ ?_
  clear h
  rintro _ _ ws ⟨rfl, y_1, rfl, h⟩ hM2
  refine ww_st1 ?_
  refine ww_iadd dJ9_newLength_6 ?_
  refine ww_istore_n (i := 3) (lv2 := [(3, vI (a1 + y_1)), (0, vI a1), (1, vI a2), (2, vI a3)]) dJ9_newLength_7 rfl (Nat.le_of_ble_eq_true rfl) rfl ?_
  refine ww_iconst dJ9_newLength_8 ?_
  refine ww_iload_n dJ9_newLength_9 0 rfl ?_
  obtain ⟨r_3, h⟩ := h
  obtain ⟨J21, hJ21, h⟩ := h
  have kJ21 : J21 → ∀ ws : va_W, Mrep G ws μ → WW G l cJ9_newLength RJ9 4 (Option.some Jvm.ClassFile.FieldType.int) "newLength" 1 0 0 (hMR G (hN1 μ P)) (fun u => [u.1, fr]) 0 0 [ws, fr] 21 [(0, vI a1), (1, vI a2)] [] := by
    clear h
    intro hj ws hM3
    have h := hJ21 hj
    refine ww_iload_n dJ9_newLength_21 0 rfl ?_
    refine ww_iload_n dJ9_newLength_22 1 rfl ?_
    exact h.elim
  refine ww_icmp_ge (tgt := 21) dJ9_newLength_10 (by decide) (by decide) r_3 (fun c => ?_) (fun c => ?_)
  · replace h := h.1 c
    refine ww_lv [1, 2] rfl ?_
    exact kJ21 h _ hM2
  · replace h := h.2 (Int.not_le.mp c)
    refine ww_iload_n dJ9_newLength_13 0 rfl ?_
    refine ww_ldc (x := 2147483639) dJ9_newLength_14 q468 rfl ?_
    obtain ⟨r_4, h⟩ := h
    refine ww_icmp_gt (tgt := 21) dJ9_newLength_16 (by decide) r_4 (by decide) (fun c => ?_) (fun c => ?_)
    · replace h := h.1 c
      refine ww_lv [1, 2] rfl ?_
      exact kJ21 h _ hM2
    · replace h := h.2 (Int.not_lt.mp c)
      refine ww_iload_n dJ9_newLength_19 0 rfl ?_
      exact ww_iret (ws, μ) rfl ⟨hM2, ⟨rfl, _, rfl, h⟩⟩ rfl (Nat.le_refl _) (Nat.le_refl _) dJ9_newLength_20
/-! J2_grow_2: java/util/ArrayList grow (I)[Ljava/lang/Object;; flags (True, True, False), depth 3 -/
def wc_J2_grow_2 (ad : Nat → Nat) (mc ms : Nat) (μ : HM) (b : Nat) (a1 : Int) (P : Option Nat → HM → Prop) : Prop :=
  ∃ x_1 : Option Nat, gQ μ b 18 1 = some x_1 ∧
  ∃ a_2 : Nat, x_1 = some a_2 ∧
  ∃ n_3 : Nat, gL μ a_2 = some n_3 ∧
  rI (n_3 : Int) ∧
  ∃ J20 : Prop, (J20 →
    wc_J9_newLength ad μ (n_3 : Int) (a1 - (n_3 : Int)) (bR (n_3 : Int) 1) (fun y_5 =>
      ∃ x_7 : Option Nat, gQ μ b 18 1 = some x_7 ∧
      ∃ c_8 s_9 : Nat, (0 + c_8 ≤ mc ∧ 0 + s_9 ≤ ms) ∧
      wc_J11_copyOf_2 ad c_8 s_9 μ x_7 y_5 (fun y_11 μ_13 =>
        ∃ (fi_14 : Nat → Int) (fq_15 : Nat → Option Nat), μ_13 b = some (hO 18 fi_14 fq_15) ∧ 
        P y_11 (hs μ_13 b (hO 18 fi_14 (upF fq_15 1 y_11)))))) ∧
  ((0 < (n_3 : Int) →
    J20) ∧
  ((n_3 : Int) ≤ 0 →
    ∃ x_16 : Option Nat, gQ μ b 18 1 = some x_16 ∧
    (((x_16 : Option Nat) = (some (ad 0)) →
      wc_J10_max ad μ 10 a1 (fun y_17 =>
        (0 ≤ y_17 ∧ y_17 < 50000000 ∧ 0 + 1 ≤ mc ∧ 0 + y_17.toNat ≤ ms) ∧ ∀ q_19 : Nat, μ q_19 = none →
        ∃ (fi_21 : Nat → Int) (fq_22 : Nat → Option Nat), (hs μ q_19 (hQ 4 y_17.toNat (fun _ => none))) b = some (hO 18 fi_21 fq_22) ∧ 
        P (some q_19) (hs (hs μ q_19 (hQ 4 y_17.toNat (fun _ => none))) b (hO 18 fi_21 (upF fq_22 1 (some q_19)))))) ∧
    (¬ (x_16 : Option Nat) = (some (ad 0)) →
      J20))))
set_option maxHeartbeats 4000000 in
theorem tm_J2_grow_2 {G : g_G} {l : Launch} {mc ms : Nat} {μ : HM} {b : Nat} {a1 : Int} {P : Option Nat → HM → Prop} (h : wc_J2_grow_2 (g_ad G) mc ms μ b a1 P) : CM G l yJ2_grow_2 cJ2_grow_2 4 (Option.some (Jvm.ClassFile.FieldType.array (Jvm.ClassFile.FieldType.object "java/lang/Object"))) 3 mc ms [.ref b, vI a1] μ (hR4 P) := by
  unfold wc_J2_grow_2 at h
  refine wm_of (lvs := [(0, va_rf (some b)), (1, vI a1)]) (by decide) (Nat.le_of_ble_eq_true rfl) rfl (fun fr ws hM1 => ?_)
  show WW G l cJ2_grow_2 RJ2 4 (Option.some (Jvm.ClassFile.FieldType.array (Jvm.ClassFile.FieldType.object "java/lang/Object"))) "grow" 3 mc ms (hMR G (hR4 P)) (fun u => [u.1, fr]) 0 0 [ws, fr] 0 [(0, va_rf (some b)), (1, vI a1)] []
  have hB : 0 ≤ mc ∧ 0 ≤ ms := ⟨Nat.zero_le _, Nat.zero_le _⟩
  refine ww_aloadQ_n dJ2_grow_2_0 0 rfl ?_
  obtain ⟨x_1, hx, h⟩ := h
  refine wm_getQ hM1 rfl in_J2 (ci := 18) rfl (by decide) 1 (Nat.le_of_ble_eq_true rfl) hx (fun _ _ => rfl) q198 (fun _ _ h => h) dJ2_grow_2_1 ?_
  obtain ⟨a_2, ea_2, h⟩ := h
  subst ea_2
  obtain ⟨n_3, hn, h⟩ := h
  refine wm_alen hM1 rfl hn dJ2_grow_2_4 ?_
  refine ww_istore_n (i := 2) (lv2 := [(2, vI (n_3 : Int)), (0, va_rf (some b)), (1, vI a1)]) dJ2_grow_2_5 rfl (Nat.le_of_ble_eq_true rfl) rfl ?_
  refine ww_iload_n dJ2_grow_2_6 0 rfl ?_
  obtain ⟨r_4, h⟩ := h
  obtain ⟨J20, hJ20, h⟩ := h
  have kJ20 : J20 → ∀ ws : va_W, Mrep G ws μ → (0 ≤ mc ∧ 0 ≤ ms) → WW G l cJ2_grow_2 RJ2 4 (Option.some (Jvm.ClassFile.FieldType.array (Jvm.ClassFile.FieldType.object "java/lang/Object"))) "grow" 3 mc ms (hMR G (hR4 P)) (fun u => [u.1, fr]) 0 0 [ws, fr] 20 [(0, va_rf (some b)), (1, vI a1), (2, vI (n_3 : Int))] [] := by
    clear h
    intro hj ws hM2 hB
    have h := hJ20 hj
    refine ww_iload_n dJ2_grow_2_20 2 rfl ?_
    refine ww_iload_n dJ2_grow_2_21 1 rfl ?_
    refine ww_iload_n dJ2_grow_2_22 2 rfl ?_
    refine ww_isub dJ2_grow_2_23 ?_
    refine ww_iload_n dJ2_grow_2_24 2 rfl ?_
    refine ww_iconst dJ2_grow_2_25 ?_
    refine ww_ishr dJ2_grow_2_26 ?_
    refine wm_callS (n := 3) hM2 (tm_J9_newLength h) (lw_S q1191 q463 q123 q464) ⟨by decide, by decide, by decide +kernel⟩ rfl ⟨Nat.le_of_ble_eq_true rfl, Nat.le_of_ble_eq_true rfl⟩ rfl (Nat.le_of_ble_eq_true rfl) dJ2_grow_2_27 hB ?_
    clear h
    rintro _ _ ws ⟨rfl, y_5, rfl, h⟩ hM3
    refine ww_st1 ?_
    refine ww_istore_n (i := 3) (lv2 := [(3, vI y_5), (0, va_rf (some b)), (1, vI a1), (2, vI (n_3 : Int))]) dJ2_grow_2_30 rfl (Nat.le_of_ble_eq_true rfl) rfl ?_
    refine ww_aloadQ_n dJ2_grow_2_31 1 rfl ?_
    refine ww_aloadQ_n dJ2_grow_2_32 1 rfl ?_
    obtain ⟨x_7, hx, h⟩ := h
    refine wm_getQ hM3 rfl in_J2 (ci := 18) rfl (by decide) 1 (Nat.le_of_ble_eq_true rfl) hx (fun _ _ => rfl) q198 (fun _ _ h => h) dJ2_grow_2_33 ?_
    refine ww_iload_n dJ2_grow_2_36 0 rfl ?_
    obtain ⟨c_8, s_9, b_10, h⟩ := h
    refine wm_callS (n := 2) hM3 (tm_J11_copyOf_2 h) (lw_S q1192 q1193 q125 q1194) ⟨by decide, by decide, by decide +kernel⟩ rfl ⟨Nat.le_of_ble_eq_true rfl, Nat.le_of_ble_eq_true rfl⟩ rfl (by simp only [List.map_cons, List.map_nil, rf_cat, vI_cat, vL_cat, List.sum_cons, List.sum_nil]; decide) dJ2_grow_2_37 b_10 ?_
    clear h
    rintro _ μ_13 ws ⟨y_11, rfl, h⟩ hM4
    have hB := b_10
    refine ww_st1 ?_
    refine ww_dup_x1 dJ2_grow_2_40 (rf_cat _) (rf_cat _) ?_
    obtain ⟨fi_14, fq_15, hc, h⟩ := h
    refine wm_putQ hM4 rfl in_J2 tyJ2_ok nmJ2 (ci := 18) rfl 1 (Nat.le_of_ble_eq_true rfl) hc (fun _ _ => rfl) (fun _ _ => Nat.le_of_ble_eq_true rfl) q198 (fun _ _ h => h) rfl (narrow_rf rfl _) (fits_rf rfl _) dJ2_grow_2_41 (fun ws hM5 => ?_)
    exact ww_aret (ws, (hs μ_13 b (hO 18 fi_14 (upF fq_15 1 y_11)))) rfl (by first | exact Or.inl ⟨_, rfl⟩ | exact Or.inr ⟨_, rfl⟩) (rf_or _) ⟨hM5, ⟨_, rfl, h⟩⟩ rfl hB.1 hB.2 dJ2_grow_2_44
  refine ww_if_gt (tgt := 20) dJ2_grow_2_7 (by decide) r_4 (fun c => ?_) (fun c => ?_)
  · replace h := h.1 c
    refine ww_lv [1, 2, 0] rfl ?_
    exact kJ20 h _ hM1 hB
  · replace h := h.2 (Int.not_lt.mp c)
    refine ww_aloadQ_n dJ2_grow_2_10 1 rfl ?_
    obtain ⟨x_16, hx, h⟩ := h
    refine wm_getQ hM1 rfl in_J2 (ci := 18) rfl (by decide) 1 (Nat.le_of_ble_eq_true rfl) hx (fun _ _ => rfl) q198 (fun _ _ h => h) dJ2_grow_2_11 ?_
    refine wm_getsC 0 hZ_0 (by decide) hM1 q196 (fun _ _ h => h) dJ2_grow_2_14 ?_
    refine ww_acmp_eq (tgt := 45) dJ2_grow_2_17 (by decide) (fun c => ?_) (fun c => ?_)
    · replace h := h.1 c
      refine ww_aloadQ_n dJ2_grow_2_45 1 rfl ?_
      refine ww_bipush (v := 10) dJ2_grow_2_46 rfl ?_
      refine ww_iload_n dJ2_grow_2_48 2 rfl ?_
      refine wm_callS (n := 2) hM1 (tm_J10_max h) (lw_S q1234 q466 q124 q467) ⟨by decide, by decide, by decide +kernel⟩ rfl ⟨Nat.le_of_ble_eq_true rfl, Nat.le_of_ble_eq_true rfl⟩ rfl (by simp only [List.map_cons, List.map_nil, rf_cat, vI_cat, vL_cat, List.sum_cons, List.sum_nil]; decide) dJ2_grow_2_49 hB ?_
      clear h
      rintro _ _ ws ⟨rfl, y_17, rfl, h⟩ hM6
      refine ww_st1 ?_
      obtain ⟨b_20, h⟩ := h
      refine wm_anew 4 hM6 (fun _ h => h.2.1) rfl q1235 b_20.1 (by omega) b_20.2.2.1 b_20.2.2.2 dJ2_grow_2_52 (fun q_19 ws hq hM7 => ?_)
      replace h := h q_19 hq
      have hB := b_20.2.2
      refine ww_dup_x1 dJ2_grow_2_55 (rf_cat _) (rf_cat _) ?_
      obtain ⟨fi_21, fq_22, hc, h⟩ := h
      refine wm_putQ hM7 rfl in_J2 tyJ2_ok nmJ2 (ci := 18) rfl 1 (Nat.le_of_ble_eq_true rfl) hc (fun _ _ => rfl) (fun _ _ => Nat.le_of_ble_eq_true rfl) q198 (fun _ _ h => h) rfl (narrow_rf rfl _) (fits_rf rfl _) dJ2_grow_2_56 (fun ws hM8 => ?_)
      exact ww_aret (ws, (hs (hs μ q_19 (hQ 4 y_17.toNat (fun _ => none))) b (hO 18 fi_21 (upF fq_22 1 (some q_19))))) rfl (by first | exact Or.inl ⟨_, rfl⟩ | exact Or.inr ⟨_, rfl⟩) (rf_or _) ⟨hM8, ⟨_, rfl, h⟩⟩ rfl hB.1 hB.2 dJ2_grow_2_59
    · replace h := h.2 c
      refine ww_lv [1, 2, 0] rfl ?_
      exact kJ20 h _ hM1 hB
