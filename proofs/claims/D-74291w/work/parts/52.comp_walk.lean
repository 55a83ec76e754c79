/-! THE COMPONENT and what it calls: weakest preconditions and walks (printed by tools/comp.py) -/
set_option maxRecDepth 100000
/-! J27_add: java/util/PriorityQueue add (Ljava/lang/Object;)Z; flags (True, True, False), depth 6 -/
def wc_J27_add (ad : Nat → Nat) (mc ms : Nat) (μ : HM) (b : Nat) (o1 : Option Nat) (P : Int → HM → Prop) : Prop :=
  gC μ b = some 24 ∧
  ∃ c_1 s_2 : Nat, (0 + c_1 ≤ mc ∧ 0 + s_2 ≤ ms) ∧
  wc_J27_offer ad c_1 s_2 μ b o1 (fun y_4 μ_6 =>
    (y_4 = 0 ∨ y_4 = 1) ∧ P y_4 μ_6)
set_option maxHeartbeats 4000000 in
theorem tm_J27_add {G : g_G} {l : Launch} {mc ms : Nat} {μ : HM} {b : Nat} {o1 : Option Nat} {P : Int → HM → Prop} (h : wc_J27_add (g_ad G) mc ms μ b o1 P) : CM G l yJ27_add cJ27_add 2 (Option.some Jvm.ClassFile.FieldType.boolean) 6 mc ms [.ref b, va_rf o1] μ (hR2 P) := by
  unfold wc_J27_add at h
  refine wm_of (lvs := [(0, va_rf (some b)), (1, va_rf o1)]) (by decide) (by simp [lg_sl, rf_cat, vI_cat, vL_cat, ref_cat]) (by simp [lv_args, rf_cat, vI_cat, vL_cat, ref_cat, rf_some]) (fun fr ws hM1 => ?_)
  show WW G l cJ27_add RJ27 2 (Option.some Jvm.ClassFile.FieldType.boolean) "add" 6 mc ms (hMR G (hR2 P)) (fun u => [u.1, fr]) 0 0 [ws, fr] 0 [(0, va_rf (some b)), (1, va_rf o1)] []
  have hB : 0 ≤ mc ∧ 0 ≤ ms := ⟨Nat.zero_le _, Nat.zero_le _⟩
  refine ww_aloadQ_n dJ27_add_0 0 rfl ?_
  refine ww_aloadQ_n dJ27_add_1 1 rfl ?_
  obtain ⟨hg, h⟩ := h
  obtain ⟨c_1, s_2, b_3, h⟩ := h
  refine wm_callV (n := 1) hM1 (tm_J27_offer h) rfl hg rfl (lw_V q1948 q1949 q1950 q157 q1951) ⟨by decide, by decide, by decide +kernel⟩ rfl ⟨Nat.le_of_ble_eq_true rfl, Nat.le_of_ble_eq_true rfl⟩ rfl (Nat.le_of_ble_eq_true rfl) dJ27_add_2 b_3 ?_
  clear h
  rintro _ μ_6 ws ⟨y_4, rfl, z_5, h⟩ hM2
  have hB := b_3
  refine ww_st1 ?_
  obtain ⟨hz, h⟩ := h
  exact ww_zret (ws, μ_6) rfl hz ⟨hM2, ⟨_, rfl, hz, h⟩⟩ rfl hB.1 hB.2 dJ27_add_5
/-! J26_init: java/util/AbstractQueue <init> ()V; flags (False, False, False), depth 2 -/
def wc_J26_init (ad : Nat → Nat) (μ : HM) (b : Nat) (P : Prop) : Prop :=
  wc_J0_init ad μ b (
    P)
set_option maxHeartbeats 4000000 in
theorem tm_J26_init {G : g_G} {l : Launch} {μ : HM} {b : Nat} {P : Prop} (h : wc_J26_init (g_ad G) μ b P) : CM G l yJ26_init cJ26_init 1 (Option.none : Option Jvm.ClassFile.FieldType) 2 0 0 [.ref b] μ (hN0 μ P) := by
  unfold wc_J26_init at h
  refine wm_of (lvs := [(0, va_rf (some b))]) (by decide) (Nat.le_of_ble_eq_true rfl) rfl (fun fr ws hM1 => ?_)
  show WW G l cJ26_init RJ26 1 (Option.none : Option Jvm.ClassFile.FieldType) "<init>" 2 0 0 (hMR G (hN0 μ P)) (fun u => [u.1, fr]) 0 0 [ws, fr] 0 [(0, va_rf (some b))] []
  refine ww_aloadQ_n dJ26_init_0 0 rfl ?_
  refine wm_callI (n := 0) hM1 (tm_J0_init h) rfl q194 q111 q1910 q193 rfl ⟨by decide, by decide, by decide +kernel⟩ rfl ⟨Nat.le_of_ble_eq_true rfl, Nat.le_of_ble_eq_true rfl⟩ rfl (Nat.le_of_ble_eq_true rfl) dJ26_init_1 ⟨Nat.le_refl _, Nat.le_refl _⟩ ?_
  clear h
  rintro _ _ ws ⟨rfl, rfl, h⟩ hM2
  refine ww_st0 ?_
  exact ww_vret (ws, μ) rfl ⟨hM2, ⟨rfl, rfl, h⟩⟩ rfl (Nat.le_refl _) (Nat.le_refl _) dJ26_init_4
/-! J27_init_2: java/util/PriorityQueue <init> (ILjava/util/Comparator;)V; flags (True, True, False), depth 3 -/
def wc_J27_init_2 (ad : Nat → Nat) (mc ms : Nat) (μ : HM) (b : Nat) (a1 : Int) (o2 : Option Nat) (P : HM → Prop) : Prop :=
  wc_J26_init ad μ b (
    rI a1 ∧
    ((1 ≤ a1 →
      (0 ≤ a1 ∧ a1 < 50000000 ∧ 0 + 1 ≤ mc ∧ 0 + a1.toNat ≤ ms) ∧ ∀ q_2 : Nat, μ q_2 = none →
      ∃ (fi_4 : Nat → Int) (fq_5 : Nat → Option Nat), (hs μ q_2 (hQ 4 a1.toNat (fun _ => none))) b = some (hO 24 fi_4 fq_5) ∧ 
      ∃ (fi_6 : Nat → Int) (fq_7 : Nat → Option Nat), (hs (hs μ q_2 (hQ 4 a1.toNat (fun _ => none))) b (hO 24 fi_4 (upF fq_5 0 (some q_2)))) b = some (hO 24 fi_6 fq_7) ∧ 
      P (hs (hs (hs μ q_2 (hQ 4 a1.toNat (fun _ => none))) b (hO 24 fi_4 (upF fq_5 0 (some q_2)))) b (hO 24 fi_6 (upF fq_7 2 o2)))) ∧
    (a1 < 1 →
      False)))
set_option maxHeartbeats 4000000 in
theorem tm_J27_init_2 {G : g_G} {l : Launch} {mc ms : Nat} {μ : HM} {b : Nat} {a1 : Int} {o2 : Option Nat} {P : HM → Prop} (h : wc_J27_init_2 (g_ad G) mc ms μ b a1 o2 P) : CM G l yJ27_init_2 cJ27_init_2 3 (Option.none : Option Jvm.ClassFile.FieldType) 3 mc ms [.ref b, vI a1, va_rf o2] μ (hR0 P) := by
  unfold wc_J27_init_2 at h
  refine wm_of (lvs := [(0, va_rf (some b)), (1, vI a1), (2, va_rf o2)]) (by decide) (by simp [lg_sl, rf_cat, vI_cat, vL_cat, ref_cat]) (by simp [lv_args, rf_cat, vI_cat, vL_cat, ref_cat, rf_some]) (fun fr ws hM1 => ?_)
  show WW G l cJ27_init_2 RJ27 3 (Option.none : Option Jvm.ClassFile.FieldType) "<init>" 3 mc ms (hMR G (hR0 P)) (fun u => [u.1, fr]) 0 0 [ws, fr] 0 [(0, va_rf (some b)), (1, vI a1), (2, va_rf o2)] []
  have hB : 0 ≤ mc ∧ 0 ≤ ms := ⟨Nat.zero_le _, Nat.zero_le _⟩
  refine ww_aloadQ_n dJ27_init_2_0 0 rfl ?_
  refine wm_callI (n := 0) hM1 (tm_J26_init h) rfl q1909 q156 q1907 q1908 rfl ⟨by decide, by decide, by decide +kernel⟩ rfl ⟨Nat.le_of_ble_eq_true rfl, Nat.le_of_ble_eq_true rfl⟩ rfl (Nat.le_of_ble_eq_true rfl) dJ27_init_2_1 hB ?_
  clear h
  rintro _ _ ws ⟨rfl, rfl, h⟩ hM2
  refine ww_st0 ?_
  refine ww_iload_n dJ27_init_2_4 1 rfl ?_
  refine ww_iconst dJ27_init_2_5 ?_
  obtain ⟨r_1, h⟩ := h
  refine ww_icmp_ge (tgt := 17) dJ27_init_2_6 (by decide) r_1 (by decide) (fun c => ?_) (fun c => ?_)
  · replace h := h.1 c
    refine ww_aloadQ_n dJ27_init_2_17 0 rfl ?_
    refine ww_iload_n dJ27_init_2_18 1 rfl ?_
    obtain ⟨b_3, h⟩ := h
    refine wm_anew 4 hM2 (fun _ h => h.2.1) rfl q1911 b_3.1 (by omega) b_3.2.2.1 b_3.2.2.2 dJ27_init_2_19 (fun q_2 ws hq hM3 => ?_)
    replace h := h q_2 hq
    have hB := b_3.2.2
    obtain ⟨fi_4, fq_5, hc, h⟩ := h
    refine wm_putQ hM3 rfl in_J27 tyJ27_ok nmJ27 (ci := 24) rfl 0 (Nat.le_of_ble_eq_true rfl) hc (fun _ _ => rfl) (fun _ _ => Nat.le_of_ble_eq_true rfl) q1912 (fun _ _ h => h) rfl (narrow_rf rfl _) (fits_rf rfl _) dJ27_init_2_22 (fun ws hM4 => ?_)
    refine ww_aloadQ_n dJ27_init_2_25 0 rfl ?_
    refine ww_aloadQ_n dJ27_init_2_26 2 rfl ?_
    obtain ⟨fi_6, fq_7, hc, h⟩ := h
    refine wm_putQF hM4 rfl in_J27 tyJ27_ok nmJ27 (ci := 24) rfl 2 (Nat.le_of_ble_eq_true rfl) hc (fun _ _ => rfl) (fun _ _ => Nat.le_of_ble_eq_true rfl) q1914 (fun _ _ h => h) rfl rfl rfl (narrow_rf rfl _) (fits_rf rfl _) dJ27_init_2_27 (fun ws hM5 => ?_)
    exact ww_vret (ws, (hs (hs (hs μ q_2 (hQ 4 a1.toNat (fun _ => none))) b (hO 24 fi_4 (upF fq_5 0 (some q_2)))) b (hO 24 fi_6 (upF fq_7 2 o2)))) rfl ⟨hM5, ⟨rfl, h⟩⟩ rfl hB.1 hB.2 dJ27_init_2_30
  · replace h := h.2 (Int.not_le.mp c)
    exact h.elim
/-! J27_init: java/util/PriorityQueue <init> ()V; flags (True, True, False), depth 4 -/
def wc_J27_init (ad : Nat → Nat) (mc ms : Nat) (μ : HM) (b : Nat) (P : HM → Prop) : Prop :=
  ∃ c_1 s_2 : Nat, (0 + c_1 ≤ mc ∧ 0 + s_2 ≤ ms) ∧
  wc_J27_init_2 ad c_1 s_2 μ b 11 none (fun μ_4 =>
    P μ_4)
set_option maxHeartbeats 4000000 in
theorem tm_J27_init {G : g_G} {l : Launch} {mc ms : Nat} {μ : HM} {b : Nat} {P : HM → Prop} (h : wc_J27_init (g_ad G) mc ms μ b P) : CM G l yJ27_init cJ27_init 1 (Option.none : Option Jvm.ClassFile.FieldType) 4 mc ms [.ref b] μ (hR0 P) := by
  unfold wc_J27_init at h
  refine wm_of (lvs := [(0, va_rf (some b))]) (by decide) (Nat.le_of_ble_eq_true rfl) rfl (fun fr ws hM1 => ?_)
  show WW G l cJ27_init RJ27 1 (Option.none : Option Jvm.ClassFile.FieldType) "<init>" 4 mc ms (hMR G (hR0 P)) (fun u => [u.1, fr]) 0 0 [ws, fr] 0 [(0, va_rf (some b))] []
  have hB : 0 ≤ mc ∧ 0 ≤ ms := ⟨Nat.zero_le _, Nat.zero_le _⟩
  refine ww_aloadQ_n dJ27_init_0 0 rfl ?_
  refine ww_bipush (v := 11) dJ27_init_1 rfl ?_
  refine ww_nullQ dJ27_init_3 ?_
  obtain ⟨c_1, s_2, b_3, h⟩ := h
  refine wm_callI (n := 2) hM1 (tm_J27_init_2 h) rfl q1906 q157 q1904 q1905 rfl ⟨by decide, by decide, by decide +kernel⟩ rfl ⟨Nat.le_of_ble_eq_true rfl, Nat.le_of_ble_eq_true rfl⟩ rfl (Nat.le_of_ble_eq_true rfl) dJ27_init_4 b_3 ?_
  clear h
  rintro _ μ_4 ws ⟨rfl, h⟩ hM2
  have hB := b_3
  refine ww_st0 ?_
  exact ww_vret (ws, μ_4) rfl ⟨hM2, ⟨rfl, h⟩⟩ rfl hB.1 hB.2 dJ27_init_7
/-! X1_wide: HoloNet wide (I)I; flags (False, False, False), depth 6 -/
def wc_X1_wide (ad : Nat → Nat) (μ : HM) (b : Nat) (a1 : Int) (P : Int → Prop) : Prop :=
  ∃ I4 : Nat → Int → Int → Prop, (∀ (n4 : Nat) (v2_4 : Int) (v3_4 : Int), I4 n4 v2_4 v3_4 →
    ∃ x_1 : Option Nat, gQ μ b 1 2 = some x_1 ∧
    ∃ a_3 : Nat, x_1 = some a_3 ∧
    ∃ x_2 : Option Nat, gQ μ a_3 2 3 = some x_2 ∧
    ∃ a_4 : Nat, x_2 = some a_4 ∧
    gC μ a_4 = some 3 ∧
    wc_X3_size ad μ a_4 (fun y_5 =>
      rI v3_4 ∧
      rI y_5 ∧
      ((y_5 ≤ v3_4 →
        ∃ I50 : Nat → Int → Int → Prop, (∀ (n50 : Nat) (v2_50 : Int) (v3_50 : Int), I50 n50 v2_50 v3_50 →
          ∃ x_9 : Option Nat, gQ μ b 1 3 = some x_9 ∧
          ∃ a_11 : Nat, x_9 = some a_11 ∧
          ∃ x_10 : Option Nat, gQ μ a_11 4 1 = some x_10 ∧
          ∃ a_12 : Nat, x_10 = some a_12 ∧
          gC μ a_12 = some 18 ∧
          wc_J2_size ad μ a_12 (fun y_13 =>
            rI v3_50 ∧
            rI y_13 ∧
            ((y_13 ≤ v3_50 →
              P v2_50) ∧
            (v3_50 < y_13 →
              ∃ x_17 : Option Nat, gQ μ b 1 3 = some x_17 ∧
              ∃ a_19 : Nat, x_17 = some a_19 ∧
              ∃ x_18 : Option Nat, gQ μ a_19 4 1 = some x_18 ∧
              ∃ a_20 : Nat, x_18 = some a_20 ∧
              gC μ a_20 = some 18 ∧
              wc_J2_get ad μ a_20 v3_50 (fun y_21 =>
                (∀ z : Nat, y_21 = some z → ∃ ci, gC μ z = some ci ∧ (ci = 10)) ∧
                ∃ a_23 : Nat, y_21 = some a_23 ∧
                gC μ a_23 = some 10 ∧
                wc_X13_node ad μ a_23 (fun y_24 =>
                  wc_X1_has ad μ a1 y_24 (fun y_26 =>
                    ∃ x_28 : Option Nat, gQ μ b 1 3 = some x_28 ∧
                    ∃ a_30 : Nat, x_28 = some a_30 ∧
                    ∃ x_29 : Option Nat, gQ μ a_30 4 1 = some x_29 ∧
                    ∃ a_31 : Nat, x_29 = some a_31 ∧
                    gC μ a_31 = some 18 ∧
                    wc_J2_get ad μ a_31 v3_50 (fun y_32 =>
                      (∀ z : Nat, y_32 = some z → ∃ ci, gC μ z = some ci ∧ (ci = 10)) ∧
                      ∃ a_34 : Nat, y_32 = some a_34 ∧
                      gC μ a_34 = some 10 ∧
                      wc_X13_other ad μ a_34 (fun y_35 =>
                        wc_X1_has ad μ a1 y_35 (fun y_37 =>
                          ∃ J115 : Int → Prop, (∀ (s1_115 : Int), J115 s1_115 →
                            ∃ m : Nat, m < n50 ∧ I50 m (v2_50 + s1_115) (v3_50 + 1)) ∧
                          ((y_26 = y_37 →
                            J115 0) ∧
                          (¬ y_26 = y_37 →
                            J115 1)))))))))))) ∧
        ∃ m : Nat, I50 m v2_4 0) ∧
      (v3_4 < y_5 →
        wc_X1_has ad μ a1 v3_4 (fun y_39 =>
          ∃ J40 : Int → Prop, (∀ (s1_40 : Int), J40 s1_40 →
            ∃ m : Nat, m < n4 ∧ I4 m (v2_4 + s1_40) (v3_4 + 1)) ∧
          ((y_39 = 0 →
            J40 0) ∧
          (¬ y_39 = 0 →
            gC μ b = some 1 ∧
            wc_X1_openOf ad μ b v3_4 (fun y_41 =>
              ∃ x_43 : Int, gA μ (ad 1) 0 y_41 = some x_43 ∧
              J40 x_43)))))))) ∧
  ∃ m : Nat, I4 m 0 0
set_option maxHeartbeats 4000000 in
theorem tm_X1_wide {G : g_G} {l : Launch} {μ : HM} {b : Nat} {a1 : Int} {P : Int → Prop} (h : wc_X1_wide (g_ad G) μ b a1 P) : CM G l yX1_wide cX1_wide 4 (Option.some Jvm.ClassFile.FieldType.int) 6 0 0 [.ref b, vI a1] μ (hN1 μ P) := by
  unfold wc_X1_wide at h
  refine wm_of (lvs := [(0, va_rf (some b)), (1, vI a1)]) (by decide) (Nat.le_of_ble_eq_true rfl) rfl (fun fr ws hM1 => ?_)
  show WW G l cX1_wide RX1 4 (Option.some Jvm.ClassFile.FieldType.int) "wide" 6 0 0 (hMR G (hN1 μ P)) (fun u => [u.1, fr]) 0 0 [ws, fr] 0 [(0, va_rf (some b)), (1, vI a1)] []
  refine ww_iconst dX1_wide_0 ?_
  refine ww_istore_n (i := 2) (lv2 := [(2, vI 0), (0, va_rf (some b)), (1, vI a1)]) dX1_wide_1 rfl (Nat.le_of_ble_eq_true rfl) rfl ?_
  refine ww_iconst dX1_wide_2 ?_
  refine ww_istore_n (i := 3) (lv2 := [(3, vI 0), (2, vI 0), (0, va_rf (some b)), (1, vI a1)]) dX1_wide_3 rfl (Nat.le_of_ble_eq_true rfl) rfl ?_
  obtain ⟨I4, hI4, h⟩ := h
  have kI4 : ∀ (n4 : Nat), ∀ (v2_4 : Int), ∀ (v3_4 : Int), I4 n4 v2_4 v3_4 → ∀ ws : va_W, Mrep G ws μ → WW G l cX1_wide RX1 4 (Option.some Jvm.ClassFile.FieldType.int) "wide" 6 0 0 (hMR G (hN1 μ P)) (fun u => [u.1, fr]) 0 0 [ws, fr] 4 [(0, va_rf (some b)), (1, vI a1), (2, vI v2_4), (3, vI v3_4)] [] := by
    clear h
    intro n4
    induction n4 using Nat.strongRecOn with
    | ind n4 ih4 =>
      intro v2_4 v3_4 hj ws hM2
      have h := hI4 n4 v2_4 v3_4 hj
      refine ww_iload_n dX1_wide_4 3 rfl ?_
      refine ww_aloadQ_n dX1_wide_5 0 rfl ?_
      obtain ⟨x_1, hx, h⟩ := h
      refine wm_getQ hM2 rfl in_X1 (ci := 1) rfl (by decide) 2 (Nat.le_of_ble_eq_true rfl) hx (fun _ _ => rfl) q319 (fun _ _ h => h) dX1_wide_6 ?_
      obtain ⟨a_3, ea_3, h⟩ := h
      subst ea_3
      obtain ⟨x_2, hx, h⟩ := h
      refine wm_getQN hM2 rfl in_X2 (ci := 2) rfl (by decide) 3 (Nat.le_of_ble_eq_true rfl) hx (fun _ _ => rfl) q268 (fun _ _ h => h) dX1_wide_9 ?_
      obtain ⟨a_4, ea_4, h⟩ := h
      subst ea_4
      obtain ⟨hg, h⟩ := h
      refine wm_callV (n := 0) hM2 (tm_X3_size h) rfl hg rfl (lw_V q1631 q1140 q1141 q110 q1142) ⟨by decide, by decide, by decide +kernel⟩ rfl ⟨Nat.le_of_ble_eq_true rfl, Nat.le_of_ble_eq_true rfl⟩ rfl (Nat.le_of_ble_eq_true rfl) dX1_wide_12 ⟨Nat.le_refl _, Nat.le_refl _⟩ ?_
      clear h
      rintro _ _ ws ⟨rfl, y_5, rfl, h⟩ hM3
      refine ww_st1 ?_
      obtain ⟨r_7, r_8, h⟩ := h
      refine ww_icmp_ge (tgt := 48) dX1_wide_15 (by decide) r_7 r_8 (fun c => ?_) (fun c => ?_)
      · replace h := h.1 c
        refine ww_iconst dX1_wide_48 ?_
        refine ww_istore_n (i := 3) (lv2 := [(3, vI 0), (0, va_rf (some b)), (1, vI a1), (2, vI v2_4)]) dX1_wide_49 rfl (Nat.le_of_ble_eq_true rfl) rfl ?_
        obtain ⟨I50, hI50, h⟩ := h
        have kI50 : ∀ (n50 : Nat), ∀ (v2_50 : Int), ∀ (v3_50 : Int), I50 n50 v2_50 v3_50 → ∀ ws : va_W, Mrep G ws μ → WW G l cX1_wide RX1 4 (Option.some Jvm.ClassFile.FieldType.int) "wide" 6 0 0 (hMR G (hN1 μ P)) (fun u => [u.1, fr]) 0 0 [ws, fr] 50 [(0, va_rf (some b)), (1, vI a1), (2, vI v2_50), (3, vI v3_50)] [] := by
          clear h
          intro n50
          induction n50 using Nat.strongRecOn with
          | ind n50 ih50 =>
            intro v2_50 v3_50 hj ws hM4
            have h := hI50 n50 v2_50 v3_50 hj
            refine ww_iload_n dX1_wide_50 3 rfl ?_
            refine ww_aloadQ_n dX1_wide_51 0 rfl ?_
            obtain ⟨x_9, hx, h⟩ := h
            refine wm_getQ hM4 rfl in_X1 (ci := 1) rfl (by decide) 3 (Nat.le_of_ble_eq_true rfl) hx (fun _ _ => rfl) q322 (fun _ _ h => h) dX1_wide_52 ?_
            obtain ⟨a_11, ea_11, h⟩ := h
            subst ea_11
            obtain ⟨x_10, hx, h⟩ := h
            refine wm_getQN hM4 rfl in_X4 (ci := 4) rfl (by decide) 1 (Nat.le_of_ble_eq_true rfl) hx (fun _ _ => rfl) q300 (fun _ _ h => h) dX1_wide_55 ?_
            obtain ⟨a_12, ea_12, h⟩ := h
            subst ea_12
            obtain ⟨hg, h⟩ := h
            refine wm_callV (n := 0) hM4 (tm_J2_size h) rfl hg rfl (lw_V q2006 q856 q857 q113 q858) ⟨by decide, by decide, by decide +kernel⟩ rfl ⟨Nat.le_of_ble_eq_true rfl, Nat.le_of_ble_eq_true rfl⟩ rfl (Nat.le_of_ble_eq_true rfl) dX1_wide_58 ⟨Nat.le_refl _, Nat.le_refl _⟩ ?_
            clear h
            rintro _ _ ws ⟨rfl, y_13, rfl, h⟩ hM5
            refine ww_st1 ?_
            obtain ⟨r_15, r_16, h⟩ := h
            refine ww_icmp_ge (tgt := 123) dX1_wide_61 (by decide) r_15 r_16 (fun c => ?_) (fun c => ?_)
            · replace h := h.1 c
              refine ww_iload_n dX1_wide_123 2 rfl ?_
              exact ww_iret (ws, μ) rfl ⟨hM5, ⟨rfl, _, rfl, h⟩⟩ rfl (Nat.le_refl _) (Nat.le_refl _) dX1_wide_124
            · replace h := h.2 (Int.not_le.mp c)
              refine ww_iload_n dX1_wide_64 2 rfl ?_
              refine ww_iload_n dX1_wide_65 1 rfl ?_
              refine ww_aloadQ_n dX1_wide_66 0 rfl ?_
              obtain ⟨x_17, hx, h⟩ := h
              refine wm_getQ hM5 rfl in_X1 (ci := 1) rfl (by decide) 3 (Nat.le_of_ble_eq_true rfl) hx (fun _ _ => rfl) q322 (fun _ _ h => h) dX1_wide_67 ?_
              obtain ⟨a_19, ea_19, h⟩ := h
              subst ea_19
              obtain ⟨x_18, hx, h⟩ := h
              refine wm_getQN hM5 rfl in_X4 (ci := 4) rfl (by decide) 1 (Nat.le_of_ble_eq_true rfl) hx (fun _ _ => rfl) q300 (fun _ _ h => h) dX1_wide_70 ?_
              refine ww_iload_n dX1_wide_73 3 rfl ?_
              obtain ⟨a_20, ea_20, h⟩ := h
              subst ea_20
              obtain ⟨hg, h⟩ := h
              refine wm_callV (n := 1) hM5 (tm_J2_get h) rfl hg rfl (lw_V q2007 q1409 q1410 q113 q1411) ⟨by decide, by decide, by decide +kernel⟩ rfl ⟨Nat.le_of_ble_eq_true rfl, Nat.le_of_ble_eq_true rfl⟩ rfl (Nat.le_of_ble_eq_true rfl) dX1_wide_74 ⟨Nat.le_refl _, Nat.le_refl _⟩ ?_
              clear h
              rintro _ _ ws ⟨rfl, y_21, rfl, h⟩ hM6
              refine ww_st1 ?_
              obtain ⟨hc, h⟩ := h
              refine wm_cast hM6 hc cast_7 q2008 dX1_wide_77 ?_
              obtain ⟨a_23, ea_23, h⟩ := h
              subst ea_23
              obtain ⟨hg, h⟩ := h
              refine wm_callV (n := 0) hM6 (tm_X13_node h) rfl hg rfl (lw_V q2009 q1480 q1481 q147 q1482) ⟨by decide, by decide, by decide +kernel⟩ rfl ⟨Nat.le_of_ble_eq_true rfl, Nat.le_of_ble_eq_true rfl⟩ rfl (Nat.le_of_ble_eq_true rfl) dX1_wide_80 ⟨Nat.le_refl _, Nat.le_refl _⟩ ?_
              clear h
              rintro _ _ ws ⟨rfl, y_24, rfl, h⟩ hM7
              refine ww_st1 ?_
              refine wm_callS (n := 2) hM7 (tm_X1_has h) (lw_S q1572 q1346 q108 q1347) ⟨by decide, by decide, by decide +kernel⟩ rfl ⟨Nat.le_of_ble_eq_true rfl, Nat.le_of_ble_eq_true rfl⟩ rfl (Nat.le_of_ble_eq_true rfl) dX1_wide_83 ⟨Nat.le_refl _, Nat.le_refl _⟩ ?_
              clear h
              rintro _ _ ws ⟨rfl, y_26, rfl, z_27, h⟩ hM8
              refine ww_st1 ?_
              refine ww_iload_n dX1_wide_86 1 rfl ?_
              refine ww_aloadQ_n dX1_wide_87 0 rfl ?_
              obtain ⟨x_28, hx, h⟩ := h
              refine wm_getQ hM8 rfl in_X1 (ci := 1) rfl (by decide) 3 (Nat.le_of_ble_eq_true rfl) hx (fun _ _ => rfl) q322 (fun _ _ h => h) dX1_wide_88 ?_
              obtain ⟨a_30, ea_30, h⟩ := h
              subst ea_30
              obtain ⟨x_29, hx, h⟩ := h
              refine wm_getQN hM8 rfl in_X4 (ci := 4) rfl (by decide) 1 (Nat.le_of_ble_eq_true rfl) hx (fun _ _ => rfl) q300 (fun _ _ h => h) dX1_wide_91 ?_
              refine ww_iload_n dX1_wide_94 3 rfl ?_
              obtain ⟨a_31, ea_31, h⟩ := h
              subst ea_31
              obtain ⟨hg, h⟩ := h
              refine wm_callV (n := 1) hM8 (tm_J2_get h) rfl hg rfl (lw_V q2007 q1409 q1410 q113 q1411) ⟨by decide, by decide, by decide +kernel⟩ rfl ⟨Nat.le_of_ble_eq_true rfl, Nat.le_of_ble_eq_true rfl⟩ rfl (Nat.le_of_ble_eq_true rfl) dX1_wide_95 ⟨Nat.le_refl _, Nat.le_refl _⟩ ?_
              clear h
              rintro _ _ ws ⟨rfl, y_32, rfl, h⟩ hM9
              refine ww_st1 ?_
              obtain ⟨hc, h⟩ := h
              refine wm_cast hM9 hc cast_7 q2008 dX1_wide_98 ?_
              obtain ⟨a_34, ea_34, h⟩ := h
              subst ea_34
              obtain ⟨hg, h⟩ := h
              refine wm_callV (n := 0) hM9 (tm_X13_other h) rfl hg rfl (lw_V q2010 q1488 q1489 q147 q1490) ⟨by decide, by decide, by decide +kernel⟩ rfl ⟨Nat.le_of_ble_eq_true rfl, Nat.le_of_ble_eq_true rfl⟩ rfl (Nat.le_of_ble_eq_true rfl) dX1_wide_101 ⟨Nat.le_refl _, Nat.le_refl _⟩ ?_
              clear h
              rintro _ _ ws ⟨rfl, y_35, rfl, h⟩ hM10
              refine ww_st1 ?_
              refine wm_callS (n := 2) hM10 (tm_X1_has h) (lw_S q1572 q1346 q108 q1347) ⟨by decide, by decide, by decide +kernel⟩ rfl ⟨Nat.le_of_ble_eq_true rfl, Nat.le_of_ble_eq_true rfl⟩ rfl (Nat.le_of_ble_eq_true rfl) dX1_wide_104 ⟨Nat.le_refl _, Nat.le_refl _⟩ ?_
              clear h
              rintro _ _ ws ⟨rfl, y_37, rfl, z_38, h⟩ hM11
              refine ww_st1 ?_
              obtain ⟨J115, hJ115, h⟩ := h
              have kJ115 : ∀ (s1_115 : Int), J115 s1_115 → ∀ ws : va_W, Mrep G ws μ → WW G l cX1_wide RX1 4 (Option.some Jvm.ClassFile.FieldType.int) "wide" 6 0 0 (hMR G (hN1 μ P)) (fun u => [u.1, fr]) 0 0 [ws, fr] 115 [(0, va_rf (some b)), (1, vI a1), (3, vI v3_50)] [vI s1_115, vI v2_50] := by
                clear h
                intro s1_115 hj ws hM12
                have h := hJ115 s1_115 hj
                refine ww_iadd dX1_wide_115 ?_
                refine ww_istore_n (i := 2) (lv2 := [(2, vI (v2_50 + s1_115)), (0, va_rf (some b)), (1, vI a1), (3, vI v3_50)]) dX1_wide_116 rfl (Nat.le_of_ble_eq_true rfl) rfl ?_
                refine ww_iinc (lv2 := [(3, vI (v3_50 + 1)), (2, vI (v2_50 + s1_115)), (0, va_rf (some b)), (1, vI a1)]) dX1_wide_117 3 rfl (Nat.le_of_ble_eq_true rfl) rfl ?_
                refine ww_goto (tgt := 50) dX1_wide_120 (by decide) ?_
                refine ww_lv [2, 3, 1, 0] rfl ?_
                obtain ⟨m, hm, h⟩ := h
                exact ih50 m hm _ _ h _ hM12
              refine ww_icmp_eq (tgt := 114) dX1_wide_107 (by decide) (r_z z_27) (r_z z_38) (fun c => ?_) (fun c => ?_)
              · replace h := h.1 c
                refine ww_iconst dX1_wide_114 ?_
                refine ww_lv [0, 1, 3] rfl ?_
                exact kJ115 _ h _ hM11
              · replace h := h.2 c
                refine ww_iconst dX1_wide_110 ?_
                refine ww_goto (tgt := 115) dX1_wide_111 (by decide) ?_
                refine ww_lv [0, 1, 3] rfl ?_
                exact kJ115 _ h _ hM11
        refine ww_lv [1, 2, 3, 0] rfl ?_
        obtain ⟨m, h⟩ := h
        exact kI50 m _ _ h _ hM3
      · replace h := h.2 (Int.not_le.mp c)
        refine ww_iload_n dX1_wide_18 2 rfl ?_
        refine ww_iload_n dX1_wide_19 1 rfl ?_
        refine ww_iload_n dX1_wide_20 3 rfl ?_
        refine wm_callS (n := 2) hM3 (tm_X1_has h) (lw_S q1572 q1346 q108 q1347) ⟨by decide, by decide, by decide +kernel⟩ rfl ⟨Nat.le_of_ble_eq_true rfl, Nat.le_of_ble_eq_true rfl⟩ rfl (Nat.le_of_ble_eq_true rfl) dX1_wide_21 ⟨Nat.le_refl _, Nat.le_refl _⟩ ?_
        clear h
        rintro _ _ ws ⟨rfl, y_39, rfl, z_40, h⟩ hM13
        refine ww_st1 ?_
        obtain ⟨J40, hJ40, h⟩ := h
        have kJ40 : ∀ (s1_40 : Int), J40 s1_40 → ∀ ws : va_W, Mrep G ws μ → WW G l cX1_wide RX1 4 (Option.some Jvm.ClassFile.FieldType.int) "wide" 6 0 0 (hMR G (hN1 μ P)) (fun u => [u.1, fr]) 0 0 [ws, fr] 40 [(0, va_rf (some b)), (1, vI a1), (3, vI v3_4)] [vI s1_40, vI v2_4] := by
          clear h
          intro s1_40 hj ws hM14
          have h := hJ40 s1_40 hj
          refine ww_iadd dX1_wide_40 ?_
          refine ww_istore_n (i := 2) (lv2 := [(2, vI (v2_4 + s1_40)), (0, va_rf (some b)), (1, vI a1), (3, vI v3_4)]) dX1_wide_41 rfl (Nat.le_of_ble_eq_true rfl) rfl ?_
          refine ww_iinc (lv2 := [(3, vI (v3_4 + 1)), (2, vI (v2_4 + s1_40)), (0, va_rf (some b)), (1, vI a1)]) dX1_wide_42 3 rfl (Nat.le_of_ble_eq_true rfl) rfl ?_
          refine ww_goto (tgt := 4) dX1_wide_45 (by decide) ?_
          refine ww_lv [2, 3, 1, 0] rfl ?_
          obtain ⟨m, hm, h⟩ := h
          exact ih4 m hm _ _ h _ hM14
        refine ww_if_eq (tgt := 39) dX1_wide_24 (by decide) (r_z z_40) (fun c => ?_) (fun c => ?_)
        · replace h := h.1 c
          refine ww_iconst dX1_wide_39 ?_
          refine ww_lv [0, 1, 3] rfl ?_
          exact kJ40 _ h _ hM13
        · replace h := h.2 c
          refine wm_getsC 1 hZ_1 (by decide) hM13 q1525 (fun _ _ h => h) dX1_wide_27 ?_
          refine ww_aloadQ_n dX1_wide_30 0 rfl ?_
          refine ww_iload_n dX1_wide_31 3 rfl ?_
          obtain ⟨hg, h⟩ := h
          refine wm_callV (n := 1) hM13 (tm_X1_openOf h) rfl hg rfl (lw_V q1657 q1659 qs43 q108 q1660) ⟨by decide, by decide, by decide +kernel⟩ rfl ⟨Nat.le_of_ble_eq_true rfl, Nat.le_of_ble_eq_true rfl⟩ rfl (by simp only [List.map_cons, List.map_nil, rf_cat, vI_cat, vL_cat, List.sum_cons, List.sum_nil]; decide) dX1_wide_32 ⟨Nat.le_refl _, Nat.le_refl _⟩ ?_
          clear h
          rintro _ _ ws ⟨rfl, y_41, rfl, h⟩ hM15
          refine ww_st1 ?_
          obtain ⟨x_43, hx, h⟩ := h
          refine wm_iald hM15 rfl hx dX1_wide_35 ?_
          refine ww_goto (tgt := 40) dX1_wide_36 (by decide) ?_
          refine ww_lv [0, 1, 3] rfl ?_
          exact kJ40 _ h _ hM15
  refine ww_lv [2, 3, 1, 0] rfl ?_
  obtain ⟨m, h⟩ := h
  exact kI4 m _ _ h _ hM1
/-! X20_init: HoloNet$Step <init> (III)V; flags (True, False, False), depth 1 -/
def wc_X20_init (ad : Nat → Nat) (μ : HM) (b : Nat) (a1 : Int) (a2 : Int) (a3 : Int) (P : HM → Prop) : Prop :=
  ∃ (fi_1 : Nat → Int) (fq_2 : Nat → Option Nat), μ b = some (hO 17 fi_1 fq_2) ∧ 
  ∃ (fi_3 : Nat → Int) (fq_4 : Nat → Option Nat), (hs μ b (hO 17 (upF fi_1 0 a1) fq_2)) b = some (hO 17 fi_3 fq_4) ∧ 
  ∃ (fi_5 : Nat → Int) (fq_6 : Nat → Option Nat), (hs (hs μ b (hO 17 (upF fi_1 0 a1) fq_2)) b (hO 17 (upF fi_3 1 a2) fq_4)) b = some (hO 17 fi_5 fq_6) ∧ 
  P (hs (hs (hs μ b (hO 17 (upF fi_1 0 a1) fq_2)) b (hO 17 (upF fi_3 1 a2) fq_4)) b (hO 17 (upF fi_5 2 a3) fq_6))
set_option maxHeartbeats 4000000 in
theorem tm_X20_init {G : g_G} {l : Launch} {μ : HM} {b : Nat} {a1 : Int} {a2 : Int} {a3 : Int} {P : HM → Prop} (h : wc_X20_init (g_ad G) μ b a1 a2 a3 P) : CM G l yX20_init cX20_init 4 (Option.none : Option Jvm.ClassFile.FieldType) 1 0 0 [.ref b, vI a1, vI a2, vI a3] μ (hR0 P) := by
  unfold wc_X20_init at h
  refine wm_of (lvs := [(0, va_rf (some b)), (1, vI a1), (2, vI a2), (3, vI a3)]) (by decide) (Nat.le_of_ble_eq_true rfl) rfl (fun fr ws hM1 => ?_)
  show WW G l cX20_init RX20 4 (Option.none : Option Jvm.ClassFile.FieldType) "<init>" 1 0 0 (hMR G (hR0 P)) (fun u => [u.1, fr]) 0 0 [ws, fr] 0 [(0, va_rf (some b)), (1, vI a1), (2, vI a2), (3, vI a3)] []
  refine ww_aloadQ_n dX20_init_0 0 rfl ?_
  refine wm_objInit rfl q1930 q170 q171 (Nat.le_of_ble_eq_true rfl) (Nat.le_of_ble_eq_true rfl) dX20_init_1 ?_
  refine ww_aloadQ_n dX20_init_4 0 rfl ?_
  refine ww_iload_n dX20_init_5 1 rfl ?_
  obtain ⟨fi_1, fq_2, hc, h⟩ := h
  refine wm_putIF hM1 rfl in_X20 tyX20_ok nmX20 (ci := 17) rfl 0 (Nat.le_of_ble_eq_true rfl) hc (fun _ _ => rfl) (fun _ _ => Nat.le_of_ble_eq_true rfl) q1931 (fun _ _ h => h) rfl rfl rfl rfl rfl dX20_init_6 (fun ws hM2 => ?_)
  refine ww_aloadQ_n dX20_init_9 0 rfl ?_
  refine ww_iload_n dX20_init_10 2 rfl ?_
  obtain ⟨fi_3, fq_4, hc, h⟩ := h
  refine wm_putIF hM2 rfl in_X20 tyX20_ok nmX20 (ci := 17) rfl 1 (Nat.le_of_ble_eq_true rfl) hc (fun _ _ => rfl) (fun _ _ => Nat.le_of_ble_eq_true rfl) q1933 (fun _ _ h => h) rfl rfl rfl rfl rfl dX20_init_11 (fun ws hM3 => ?_)
  refine ww_aloadQ_n dX20_init_14 0 rfl ?_
  refine ww_iload_n dX20_init_15 3 rfl ?_
  obtain ⟨fi_5, fq_6, hc, h⟩ := h
  refine wm_putIF hM3 rfl in_X20 tyX20_ok nmX20 (ci := 17) rfl 2 (Nat.le_of_ble_eq_true rfl) hc (fun _ _ => rfl) (fun _ _ => Nat.le_of_ble_eq_true rfl) q1935 (fun _ _ h => h) rfl rfl rfl rfl rfl dX20_init_16 (fun ws hM4 => ?_)
  exact ww_vret (ws, (hs (hs (hs μ b (hO 17 (upF fi_1 0 a1) fq_2)) b (hO 17 (upF fi_3 1 a2) fq_4)) b (hO 17 (upF fi_5 2 a3) fq_6))) rfl ⟨hM4, ⟨rfl, h⟩⟩ rfl (Nat.le_refl _) (Nat.le_refl _) dX20_init_19
/-! X1_narrowest: HoloNet narrowest ()LHoloNet$Step;; flags (True, True, False), depth 7 -/
def wc_X1_narrowest (ad : Nat → Nat) (mc ms : Nat) (μ : HM) (b : Nat) (P : Option Nat → HM → Prop) : Prop :=
  (0 + 1 ≤ mc ∧ 0 + 4 ≤ ms) ∧ ∀ q_1 : Nat, μ q_1 = none →
  ∃ c_3 s_4 : Nat, (0 + 1 + c_3 ≤ mc ∧ 0 + 4 + s_4 ≤ ms) ∧
  wc_J27_init ad c_3 s_4 (hs μ q_1 (hO 24 (fun _ => 0) (fun _ => none))) q_1 (fun μ_6 =>
    (0 + 1 + c_3 + 1 ≤ mc ∧ 0 + 4 + s_4 + 3 ≤ ms) ∧ ∀ q_7 : Nat, μ_6 q_7 = none →
    wc_X20_init ad (hs μ_6 q_7 (hO 17 (fun _ => 0) (fun _ => none))) q_7 0 0 0 (fun μ_9 =>
      gC μ_9 q_1 = some 24 ∧
      ∃ c_10 s_11 : Nat, (0 + 1 + c_3 + 1 + c_10 ≤ mc ∧ 0 + 4 + s_4 + 3 + s_11 ≤ ms) ∧
      wc_J27_add ad c_10 s_11 μ_9 q_1 (some q_7) (fun y_13 μ_15 =>
        ∃ I23 : Nat → HM → Nat → Nat → Prop, (∀ (n23 : Nat) (μ23 : HM) (uc23 : Nat) (us23 : Nat), I23 n23 μ23 uc23 us23 →
          gC μ23 q_1 = some 24 ∧
          wc_J26_remove ad μ23 q_1 (fun y_16 μ_18 =>
            (∀ z : Nat, y_16 = some z → ∃ ci, gC μ_18 z = some ci ∧ (ci = 17)) ∧
            ∃ a_20 : Nat, y_16 = some a_20 ∧
            ∃ x_19 : Int, gI μ_18 a_20 17 1 = some x_19 ∧
            wc_J21_bitCount ad μ_18 x_19 (fun y_21 =>
              ∃ x_23 : Option Nat, gQ μ_18 b 1 2 = some x_23 ∧
              ∃ a_25 : Nat, x_23 = some a_25 ∧
              ∃ x_24 : Option Nat, gQ μ_18 a_25 2 3 = some x_24 ∧
              ∃ a_26 : Nat, x_24 = some a_26 ∧
              gC μ_18 a_26 = some 3 ∧
              wc_X3_size ad μ_18 a_26 (fun y_27 =>
                rI y_21 ∧
                rI y_27 ∧
                ((¬ y_21 = y_27 →
                  ∃ I58 : Nat → Int → HM → Nat → Nat → Prop, (∀ (n58 : Nat) (v4_58 : Int) (μ58 : HM) (uc58 : Nat) (us58 : Nat), I58 n58 v4_58 μ58 uc58 us58 →
                    ∃ x_31 : Option Nat, gQ μ58 b 1 2 = some x_31 ∧
                    ∃ a_33 : Nat, x_31 = some a_33 ∧
                    ∃ x_32 : Option Nat, gQ μ58 a_33 2 3 = some x_32 ∧
                    ∃ a_34 : Nat, x_32 = some a_34 ∧
                    gC μ58 a_34 = some 3 ∧
                    wc_X3_size ad μ58 a_34 (fun y_35 =>
                      rI v4_58 ∧
                      rI y_35 ∧
                      ((y_35 ≤ v4_58 →
                        ∃ m : Nat, m < n23 ∧ I23 m μ58 uc58 us58) ∧
                      (v4_58 < y_35 →
                        ∃ x_39 : Int, gI μ58 a_20 17 1 = some x_39 ∧
                        wc_X1_has ad μ58 x_39 v4_58 (fun y_40 =>
                          ∃ J141 : HM → Nat → Nat → Prop, (∀ (μ141 : HM) (uc141 : Nat) (us141 : Nat), J141 μ141 uc141 us141 →
                            ∃ m : Nat, m < n58 ∧ I58 m (v4_58 + 1) μ141 uc141 us141) ∧
                          ((y_40 = 0 →
                            ∃ x_42 : Int, gI μ58 a_20 17 1 = some x_42 ∧
                            ∀ x_43 : Int, x_43 = bO x_42 (bL 1 v4_58) →
                            (uc58 + 1 ≤ mc ∧ us58 + 3 ≤ ms) ∧ ∀ q_44 : Nat, μ58 q_44 = none →
                            ∃ x_46 : Int, gI (hs μ58 q_44 (hO 17 (fun _ => 0) (fun _ => none))) a_20 17 0 = some x_46 ∧
                            ∃ x_47 : Int, gA (hs μ58 q_44 (hO 17 (fun _ => 0) (fun _ => none))) (ad 2) 0 y_21 = some x_47 ∧
                            ∃ x_48 : Int, gI (hs μ58 q_44 (hO 17 (fun _ => 0) (fun _ => none))) a_20 17 2 = some x_48 ∧
                            gC (hs μ58 q_44 (hO 17 (fun _ => 0) (fun _ => none))) b = some 1 ∧
                            wc_X1_wide ad (hs μ58 q_44 (hO 17 (fun _ => 0) (fun _ => none))) b x_43 (fun y_49 =>
                              wc_J10_max ad (hs μ58 q_44 (hO 17 (fun _ => 0) (fun _ => none))) x_48 y_49 (fun y_51 =>
                                wc_X20_init ad (hs μ58 q_44 (hO 17 (fun _ => 0) (fun _ => none))) q_44 (x_46 + ((v4_58 + 1) * x_47)) x_43 y_51 (fun μ_53 =>
                                  gC μ_53 q_1 = some 24 ∧
                                  ∃ c_54 s_55 : Nat, (uc58 + 1 + c_54 ≤ mc ∧ us58 + 3 + s_55 ≤ ms) ∧
                                  wc_J27_add ad c_54 s_55 μ_53 q_1 (some q_44) (fun y_57 μ_59 =>
                                    J141 μ_59 (uc58 + 1 + c_54) (us58 + 3 + s_55)))))) ∧
                          (¬ y_40 = 0 →
                            J141 μ58 uc58 us58))))))) ∧
                  ∃ m : Nat, I58 m 0 μ_18 uc23 us23) ∧
                (y_21 = y_27 →
                  P (some a_20) μ_18)))))) ∧
        ∃ m : Nat, I23 m μ_15 (0 + 1 + c_3 + 1 + c_10) (0 + 4 + s_4 + 3 + s_11))))
set_option maxHeartbeats 4000000 in
theorem tm_X1_narrowest {G : g_G} {l : Launch} {mc ms : Nat} {μ : HM} {b : Nat} {P : Option Nat → HM → Prop} (hGY : g_YQ G) (h : wc_X1_narrowest (g_ad G) mc ms μ b P) : CM G l yX1_narrowest cX1_narrowest 6 (Option.some (Jvm.ClassFile.FieldType.object "HoloNet$Step")) 7 mc ms [.ref b] μ (hR4 P) := by
  unfold wc_X1_narrowest at h
  refine wm_of (lvs := [(0, va_rf (some b))]) (by decide) (Nat.le_of_ble_eq_true rfl) rfl (fun fr ws hM1 => ?_)
  show WW G l cX1_narrowest RX1 6 (Option.some (Jvm.ClassFile.FieldType.object "HoloNet$Step")) "narrowest" 7 mc ms (hMR G (hR4 P)) (fun u => [u.1, fr]) 0 0 [ws, fr] 0 [(0, va_rf (some b))] []
  have hB : 0 ≤ mc ∧ 0 ≤ ms := ⟨Nat.zero_le _, Nat.zero_le _⟩
  obtain ⟨b_2, h⟩ := h
  refine wm_new hM1 in_J27 tyJ27_ok q1899 q1900 q157 (ci := 24) rfl dfl_24 b_2.1 b_2.2 dX1_narrowest_0 (fun q_1 ws hq hM2 => ?_)
  replace h := h q_1 hq
  have hB := b_2
  refine ww_dup dX1_narrowest_3 (rf_cat _) ?_
  obtain ⟨c_3, s_4, b_5, h⟩ := h
  refine wm_callI (n := 0) hM2 (tm_J27_init h) rfl q1903 q157 q1901 q1902 rfl ⟨by decide, by decide, by decide +kernel⟩ rfl ⟨Nat.le_of_ble_eq_true rfl, Nat.le_of_ble_eq_true rfl⟩ rfl (by simp only [List.map_cons, List.map_nil, rf_cat, vI_cat, vL_cat, List.sum_cons, List.sum_nil]; decide) dX1_narrowest_4 b_5 ?_
  clear h
  rintro _ μ_6 ws ⟨rfl, h⟩ hM3
  have hB := b_5
  refine ww_st0 ?_
  refine ww_astoreQ_n (i := 1) (lv2 := [(1, va_rf (some q_1)), (0, va_rf (some b))]) dX1_narrowest_7 rfl (Nat.le_of_ble_eq_true rfl) rfl ?_
  refine ww_aloadQ_n dX1_narrowest_8 0 rfl ?_
  obtain ⟨b_8, h⟩ := h
  refine wm_new hM3 in_X20 tyX20_ok q1925 q1926 q158 (ci := 17) rfl dfl_17 b_8.1 b_8.2 dX1_narrowest_9 (fun q_7 ws hq hM4 => ?_)
  replace h := h q_7 hq
  have hB := b_8
  refine ww_dup dX1_narrowest_12 (rf_cat _) ?_
  refine ww_iconst dX1_narrowest_13 ?_
  refine ww_iconst dX1_narrowest_14 ?_
  refine ww_iconst dX1_narrowest_15 ?_
  refine wm_callI (n := 3) hM4 (tm_X20_init h) rfl q1929 q158 q1927 q1928 rfl ⟨by decide, by decide, by decide +kernel⟩ rfl ⟨Nat.le_of_ble_eq_true rfl, Nat.le_of_ble_eq_true rfl⟩ rfl (by simp only [List.map_cons, List.map_nil, rf_cat, vI_cat, vL_cat, List.sum_cons, List.sum_nil]; decide) dX1_narrowest_16 hB ?_
  clear h
  rintro _ μ_9 ws ⟨rfl, h⟩ hM5
  refine ww_st0 ?_
  obtain ⟨hg, h⟩ := h
  obtain ⟨c_10, s_11, b_12, h⟩ := h
  refine wm_callV (n := 1) hM5 (tm_J27_add h) rfl hg rfl (lw_V q1944 q1945 q1946 q157 q1947) ⟨by decide, by decide, by decide +kernel⟩ rfl ⟨Nat.le_of_ble_eq_true rfl, Nat.le_of_ble_eq_true rfl⟩ rfl (Nat.le_of_ble_eq_true rfl) dX1_narrowest_19 b_12 ?_
  clear h
  rintro _ μ_15 ws ⟨y_13, rfl, z_14, h⟩ hM6
  have hB := b_12
  refine ww_st1 ?_
  refine ww_pop dX1_narrowest_22 rfl ?_
  obtain ⟨I23, hI23, h⟩ := h
  have kI23 : ∀ (n23 : Nat), ∀ (μ23 : HM), ∀ (uc23 : Nat), ∀ (us23 : Nat), I23 n23 μ23 uc23 us23 → ∀ ws : va_W, Mrep G ws μ23 → (uc23 ≤ mc ∧ us23 ≤ ms) → WW G l cX1_narrowest RX1 6 (Option.some (Jvm.ClassFile.FieldType.object "HoloNet$Step")) "narrowest" 7 mc ms (hMR G (hR4 P)) (fun u => [u.1, fr]) uc23 us23 [ws, fr] 23 [(0, va_rf (some b)), (1, va_rf (some q_1))] [] := by
    clear h
    intro n23
    induction n23 using Nat.strongRecOn with
    | ind n23 ih23 =>
      intro μ23 uc23 us23 hj ws hM7 hB
      have h := hI23 n23 μ23 uc23 us23 hj
      refine ww_aloadQ_n dX1_narrowest_23 1 rfl ?_
      obtain ⟨hg, h⟩ := h
      refine wm_callU (n := 0) hM7 (tm_J26_remove hGY h) rfl hg rfl (lw_U q1975 q1976 q1978 q1979 q156 q1980) rfl ⟨by decide, by decide, by decide +kernel⟩ rfl ⟨Nat.le_of_ble_eq_true rfl, Nat.le_of_ble_eq_true rfl⟩ rfl (Nat.le_of_ble_eq_true rfl) dX1_narrowest_24 hB ?_
      clear h
      rintro _ μ_18 ws ⟨y_16, rfl, h⟩ hM8
      refine ww_st1 ?_
      obtain ⟨hc, h⟩ := h
      refine wm_cast hM8 hc cast_8 q1925 dX1_narrowest_27 ?_
      refine ww_astoreQ_n (i := 2) (lv2 := [(2, va_rf y_16), (0, va_rf (some b)), (1, va_rf (some q_1))]) dX1_narrowest_30 rfl (Nat.le_of_ble_eq_true rfl) rfl ?_
      refine ww_aloadQ_n dX1_narrowest_31 0 rfl ?_
      obtain ⟨a_20, ea_20, h⟩ := h
      subst ea_20
      obtain ⟨x_19, hx, h⟩ := h
      refine wm_getIN hM8 rfl in_X20 (ci := 17) rfl (by decide) 1 (Nat.le_of_ble_eq_true rfl) hx (fun _ _ => rfl) q1934 (fun _ _ h => h) dX1_narrowest_32 ?_
      refine wm_callS (n := 1) hM8 (tm_J21_bitCount h) (lw_S q1994 q1995 q139 q1996) ⟨by decide, by decide, by decide +kernel⟩ rfl ⟨Nat.le_of_ble_eq_true rfl, Nat.le_of_ble_eq_true rfl⟩ rfl (Nat.le_of_ble_eq_true rfl) dX1_narrowest_35 hB ?_
      clear h
      rintro _ _ ws ⟨rfl, y_21, rfl, h⟩ hM9
      refine ww_st1 ?_
      refine ww_istore_n (i := 3) (lv2 := [(3, vI y_21), (2, va_rf (some a_20)), (0, va_rf (some b)), (1, va_rf (some q_1))]) dX1_narrowest_38 rfl (Nat.le_of_ble_eq_true rfl) rfl ?_
      refine ww_iload_n dX1_narrowest_39 0 rfl ?_
      refine ww_aloadQ_n dX1_narrowest_40 2 rfl ?_
      obtain ⟨x_23, hx, h⟩ := h
      refine wm_getQ hM9 rfl in_X1 (ci := 1) rfl (by decide) 2 (Nat.le_of_ble_eq_true rfl) hx (fun _ _ => rfl) q319 (fun _ _ h => h) dX1_narrowest_41 ?_
      obtain ⟨a_25, ea_25, h⟩ := h
      subst ea_25
      obtain ⟨x_24, hx, h⟩ := h
      refine wm_getQN hM9 rfl in_X2 (ci := 2) rfl (by decide) 3 (Nat.le_of_ble_eq_true rfl) hx (fun _ _ => rfl) q268 (fun _ _ h => h) dX1_narrowest_44 ?_
      obtain ⟨a_26, ea_26, h⟩ := h
      subst ea_26
      obtain ⟨hg, h⟩ := h
      refine wm_callV (n := 0) hM9 (tm_X3_size h) rfl hg rfl (lw_V q1631 q1140 q1141 q110 q1142) ⟨by decide, by decide, by decide +kernel⟩ rfl ⟨Nat.le_of_ble_eq_true rfl, Nat.le_of_ble_eq_true rfl⟩ rfl (Nat.le_of_ble_eq_true rfl) dX1_narrowest_47 hB ?_
      clear h
      rintro _ _ ws ⟨rfl, y_27, rfl, h⟩ hM10
      refine ww_st1 ?_
      obtain ⟨r_29, r_30, h⟩ := h
      refine ww_icmp_ne (tgt := 55) dX1_narrowest_50 (by decide) r_29 r_30 (fun c => ?_) (fun c => ?_)
      · replace h := h.1 c
        refine ww_iconst dX1_narrowest_55 ?_
        refine ww_istore (i := 4) (lv2 := [(4, vI 0), (3, vI y_21), (2, va_rf (some a_20)), (0, va_rf (some b)), (1, va_rf (some q_1))]) dX1_narrowest_56 (Nat.le_of_ble_eq_true rfl) rfl ?_
        obtain ⟨I58, hI58, h⟩ := h
        have kI58 : ∀ (n58 : Nat), ∀ (v4_58 : Int), ∀ (μ58 : HM), ∀ (uc58 : Nat), ∀ (us58 : Nat), I58 n58 v4_58 μ58 uc58 us58 → ∀ ws : va_W, Mrep G ws μ58 → (uc58 ≤ mc ∧ us58 ≤ ms) → WW G l cX1_narrowest RX1 6 (Option.some (Jvm.ClassFile.FieldType.object "HoloNet$Step")) "narrowest" 7 mc ms (hMR G (hR4 P)) (fun u => [u.1, fr]) uc58 us58 [ws, fr] 58 [(0, va_rf (some b)), (1, va_rf (some q_1)), (2, va_rf (some a_20)), (3, vI y_21), (4, vI v4_58)] [] := by
          clear h
          intro n58
          induction n58 using Nat.strongRecOn with
          | ind n58 ih58 =>
            intro v4_58 μ58 uc58 us58 hj ws hM11 hB
            have h := hI58 n58 v4_58 μ58 uc58 us58 hj
            refine ww_iload dX1_narrowest_58 4 rfl ?_
            refine ww_aloadQ_n dX1_narrowest_60 0 rfl ?_
            obtain ⟨x_31, hx, h⟩ := h
            refine wm_getQ hM11 rfl in_X1 (ci := 1) rfl (by decide) 2 (Nat.le_of_ble_eq_true rfl) hx (fun _ _ => rfl) q319 (fun _ _ h => h) dX1_narrowest_61 ?_
            obtain ⟨a_33, ea_33, h⟩ := h
            subst ea_33
            obtain ⟨x_32, hx, h⟩ := h
            refine wm_getQN hM11 rfl in_X2 (ci := 2) rfl (by decide) 3 (Nat.le_of_ble_eq_true rfl) hx (fun _ _ => rfl) q268 (fun _ _ h => h) dX1_narrowest_64 ?_
            obtain ⟨a_34, ea_34, h⟩ := h
            subst ea_34
            obtain ⟨hg, h⟩ := h
            refine wm_callV (n := 0) hM11 (tm_X3_size h) rfl hg rfl (lw_V q1631 q1140 q1141 q110 q1142) ⟨by decide, by decide, by decide +kernel⟩ rfl ⟨Nat.le_of_ble_eq_true rfl, Nat.le_of_ble_eq_true rfl⟩ rfl (Nat.le_of_ble_eq_true rfl) dX1_narrowest_67 hB ?_
            clear h
            rintro _ _ ws ⟨rfl, y_35, rfl, h⟩ hM12
            refine ww_st1 ?_
            obtain ⟨r_37, r_38, h⟩ := h
            refine ww_icmp_ge (tgt := 147) dX1_narrowest_70 (by decide) r_37 r_38 (fun c => ?_) (fun c => ?_)
            · replace h := h.1 c
              refine ww_goto (tgt := 23) dX1_narrowest_147 (by decide) ?_
              refine ww_lv [0, 1] rfl ?_
              obtain ⟨m, hm, h⟩ := h
              exact ih23 m hm _ _ _ h _ hM12 hB
            · replace h := h.2 (Int.not_le.mp c)
              refine ww_aloadQ_n dX1_narrowest_73 2 rfl ?_
              obtain ⟨x_39, hx, h⟩ := h
              refine wm_getIN hM12 rfl in_X20 (ci := 17) rfl (by decide) 1 (Nat.le_of_ble_eq_true rfl) hx (fun _ _ => rfl) q1934 (fun _ _ h => h) dX1_narrowest_74 ?_
              refine ww_iload dX1_narrowest_77 4 rfl ?_
              refine wm_callS (n := 2) hM12 (tm_X1_has h) (lw_S q1572 q1346 q108 q1347) ⟨by decide, by decide, by decide +kernel⟩ rfl ⟨Nat.le_of_ble_eq_true rfl, Nat.le_of_ble_eq_true rfl⟩ rfl (Nat.le_of_ble_eq_true rfl) dX1_narrowest_79 hB ?_
              clear h
              rintro _ _ ws ⟨rfl, y_40, rfl, z_41, h⟩ hM13
              refine ww_st1 ?_
              obtain ⟨J141, hJ141, h⟩ := h
              have kJ141 : ∀ (μ141 : HM), ∀ (uc141 : Nat), ∀ (us141 : Nat), J141 μ141 uc141 us141 → ∀ ws : va_W, Mrep G ws μ141 → (uc141 ≤ mc ∧ us141 ≤ ms) → WW G l cX1_narrowest RX1 6 (Option.some (Jvm.ClassFile.FieldType.object "HoloNet$Step")) "narrowest" 7 mc ms (hMR G (hR4 P)) (fun u => [u.1, fr]) uc141 us141 [ws, fr] 141 [(0, va_rf (some b)), (1, va_rf (some q_1)), (2, va_rf (some a_20)), (3, vI y_21), (4, vI v4_58)] [] := by
                clear h
                intro μ141 uc141 us141 hj ws hM14 hB
                have h := hJ141 μ141 uc141 us141 hj
                refine ww_iinc (lv2 := [(4, vI (v4_58 + 1)), (0, va_rf (some b)), (1, va_rf (some q_1)), (2, va_rf (some a_20)), (3, vI y_21)]) dX1_narrowest_141 4 rfl (Nat.le_of_ble_eq_true rfl) rfl ?_
                refine ww_goto (tgt := 58) dX1_narrowest_144 (by decide) ?_
                refine ww_lv [1, 2, 3, 4, 0] rfl ?_
                obtain ⟨m, hm, h⟩ := h
                exact ih58 m hm _ _ _ _ h _ hM14 hB
              refine ww_if_eq (tgt := 88) dX1_narrowest_82 (by decide) (r_z z_41) (fun c => ?_) (fun c => ?_)
              · replace h := h.1 c
                refine ww_aloadQ_n dX1_narrowest_88 2 rfl ?_
                obtain ⟨x_42, hx, h⟩ := h
                refine wm_getIN hM13 rfl in_X20 (ci := 17) rfl (by decide) 1 (Nat.le_of_ble_eq_true rfl) hx (fun _ _ => rfl) q1934 (fun _ _ h => h) dX1_narrowest_89 ?_
                refine ww_iconst dX1_narrowest_92 ?_
                refine ww_iload dX1_narrowest_93 4 rfl ?_
                refine ww_ishl dX1_narrowest_95 ?_
                refine ww_ior dX1_narrowest_96 ?_
                refine ww_nmI (fun x_43 ex_43 => ?_)
                replace h := h x_43 ex_43
                have rx_43 : rI x_43 := by rw [ex_43]; exact (rI_bO _ _)
                refine ww_istore (i := 5) (lv2 := [(5, vI x_43), (0, va_rf (some b)), (1, va_rf (some q_1)), (2, va_rf (some a_20)), (3, vI y_21), (4, vI v4_58)]) dX1_narrowest_97 (Nat.le_of_ble_eq_true rfl) rfl ?_
                refine ww_aloadQ_n dX1_narrowest_99 2 rfl ?_
                obtain ⟨b_45, h⟩ := h
                refine wm_new hM13 in_X20 tyX20_ok q1925 q1926 q158 (ci := 17) rfl dfl_17 b_45.1 b_45.2 dX1_narrowest_100 (fun q_44 ws hq hM15 => ?_)
                replace h := h q_44 hq
                have hB := b_45
                refine ww_dup dX1_narrowest_103 (rf_cat _) ?_
                refine ww_aloadQ_n dX1_narrowest_104 3 rfl ?_
                obtain ⟨x_46, hx, h⟩ := h
                refine wm_getIN hM15 rfl in_X20 (ci := 17) rfl (by decide) 0 (Nat.le_of_ble_eq_true rfl) hx (fun _ _ => rfl) q1932 (fun _ _ h => h) dX1_narrowest_105 ?_
                refine ww_iload dX1_narrowest_108 5 rfl ?_
                refine ww_iconst dX1_narrowest_110 ?_
                refine ww_iadd dX1_narrowest_111 ?_
                refine wm_getsC 2 hZ_2 (by decide) hM15 q2000 (fun _ _ h => h) dX1_narrowest_112 ?_
                refine ww_iload_n dX1_narrowest_115 4 rfl ?_
                obtain ⟨x_47, hx, h⟩ := h
                refine wm_iald hM15 rfl hx dX1_narrowest_116 ?_
                refine ww_imul dX1_narrowest_117 ?_
                refine ww_iadd dX1_narrowest_118 ?_
                refine ww_iload dX1_narrowest_119 0 rfl ?_
                refine ww_aloadQ_n dX1_narrowest_121 3 rfl ?_
                obtain ⟨x_48, hx, h⟩ := h
                refine wm_getIN hM15 rfl in_X20 (ci := 17) rfl (by decide) 2 (Nat.le_of_ble_eq_true rfl) hx (fun _ _ => rfl) q1936 (fun _ _ h => h) dX1_narrowest_122 ?_
                refine ww_aloadQ_n dX1_narrowest_125 1 rfl ?_
                refine ww_iload dX1_narrowest_126 0 rfl ?_
                obtain ⟨hg, h⟩ := h
                refine wm_callV (n := 1) hM15 (tm_X1_wide h) rfl hg rfl (lw_V q2002 q2004 qs48 q108 q2005) ⟨by decide, by decide, by decide +kernel⟩ rfl ⟨Nat.le_of_ble_eq_true rfl, Nat.le_of_ble_eq_true rfl⟩ rfl (by simp only [List.map_cons, List.map_nil, rf_cat, vI_cat, vL_cat, List.sum_cons, List.sum_nil]; decide) dX1_narrowest_128 hB ?_
                clear h
                rintro _ _ ws ⟨rfl, y_49, rfl, h⟩ hM16
                refine ww_st1 ?_
                refine wm_callS (n := 2) hM16 (tm_J10_max h) (lw_S q2011 q466 q124 q467) ⟨by decide, by decide, by decide +kernel⟩ rfl ⟨Nat.le_of_ble_eq_true rfl, Nat.le_of_ble_eq_true rfl⟩ rfl (by simp only [List.map_cons, List.map_nil, rf_cat, vI_cat, vL_cat, List.sum_cons, List.sum_nil]; decide) dX1_narrowest_131 hB ?_
                clear h
                rintro _ _ ws ⟨rfl, y_51, rfl, h⟩ hM17
                refine ww_st1 ?_
                refine wm_callI (n := 3) hM17 (tm_X20_init h) rfl q1929 q158 q1927 q1928 rfl ⟨by decide, by decide, by decide +kernel⟩ rfl ⟨Nat.le_of_ble_eq_true rfl, Nat.le_of_ble_eq_true rfl⟩ rfl (by simp only [List.map_cons, List.map_nil, rf_cat, vI_cat, vL_cat, List.sum_cons, List.sum_nil]; decide) dX1_narrowest_134 hB ?_
                clear h
                rintro _ μ_53 ws ⟨rfl, h⟩ hM18
                refine ww_st0 ?_
                obtain ⟨hg, h⟩ := h
                obtain ⟨c_54, s_55, b_56, h⟩ := h
                refine wm_callV (n := 1) hM18 (tm_J27_add h) rfl hg rfl (lw_V q1944 q1945 q1946 q157 q1947) ⟨by decide, by decide, by decide +kernel⟩ rfl ⟨Nat.le_of_ble_eq_true rfl, Nat.le_of_ble_eq_true rfl⟩ rfl (Nat.le_of_ble_eq_true rfl) dX1_narrowest_137 b_56 ?_
                clear h
                rintro _ μ_59 ws ⟨y_57, rfl, z_58, h⟩ hM19
                have hB := b_56
                refine ww_st1 ?_
                refine ww_pop dX1_narrowest_140 rfl ?_
                refine ww_lv [1, 2, 3, 4, 5] rfl ?_
                exact kJ141 _ _ _ h _ hM19 hB
              · replace h := h.2 c
                refine ww_goto (tgt := 141) dX1_narrowest_85 (by decide) ?_
                exact kJ141 _ _ _ h _ hM13 hB
        refine ww_lv [3, 4, 2, 1, 0] rfl ?_
        obtain ⟨m, h⟩ := h
        exact kI58 m _ _ _ _ h _ hM10 hB
      · replace h := h.2 c
        refine ww_aloadQ_n dX1_narrowest_53 1 rfl ?_
        exact ww_aret (ws, μ_18) rfl (by first | exact Or.inl ⟨_, rfl⟩ | exact Or.inr ⟨_, rfl⟩) (rf_or _) ⟨hM10, ⟨_, rfl, h⟩⟩ rfl hB.1 hB.2 dX1_narrowest_54
  refine ww_lv [1, 0] rfl ?_
  obtain ⟨m, h⟩ := h
  exact kI23 m _ _ _ h _ hM6 hB
/-! X20_node: HoloNet$Step node (I)I; flags (False, False, False), depth 0 -/
def wc_X20_node (ad : Nat → Nat) (μ : HM) (b : Nat) (a1 : Int) (P : Int → Prop) : Prop :=
  ∃ x_1 : Int, gI μ b 17 0 = some x_1 ∧
  ∃ x_2 : Int, gA μ (ad 2) 0 a1 = some x_2 ∧
  (0 ≤ x_1 ∧ x_1 < 2147483648 ∧ (0 : Int) < x_2 ∧ (x_2 : Int) < 2147483648) ∧
  (0 ≤ x_1 / x_2 ∧ (x_1 / x_2) < 2147483648 ∧ (0 : Int) < 10 ∧ (10 : Int) < 2147483648) ∧
  P (((x_1 / x_2) % 10) - 1)
set_option maxHeartbeats 4000000 in
theorem tm_X20_node {G : g_G} {l : Launch} {μ : HM} {b : Nat} {a1 : Int} {P : Int → Prop} (h : wc_X20_node (g_ad G) μ b a1 P) : CM G l yX20_node cX20_node 2 (Option.some Jvm.ClassFile.FieldType.int) 0 0 0 [.ref b, vI a1] μ (hN1 μ P) := by
  unfold wc_X20_node at h
  refine wm_of (lvs := [(0, va_rf (some b)), (1, vI a1)]) (by decide) (Nat.le_of_ble_eq_true rfl) rfl (fun fr ws hM1 => ?_)
  show WW G l cX20_node RX20 2 (Option.some Jvm.ClassFile.FieldType.int) "node" 0 0 0 (hMR G (hN1 μ P)) (fun u => [u.1, fr]) 0 0 [ws, fr] 0 [(0, va_rf (some b)), (1, vI a1)] []
  refine ww_aloadQ_n dX20_node_0 0 rfl ?_
  obtain ⟨x_1, hx, h⟩ := h
  refine wm_getI hM1 rfl in_X20 (ci := 17) rfl (by decide) 0 (Nat.le_of_ble_eq_true rfl) hx (fun _ _ => rfl) q1931 (fun _ _ h => h) dX20_node_1 ?_
  refine wm_getsCN 2 hZ_2 (by decide) hM1 q2016 (fun _ _ h => h) dX20_node_4 ?_
  refine ww_iload_n dX20_node_7 1 rfl ?_
  obtain ⟨x_2, hx, h⟩ := h
  refine wm_iald hM1 rfl hx dX20_node_8 ?_
  obtain ⟨r_3, h⟩ := h
  refine ww_idiv dX20_node_9 r_3 ?_
  refine ww_bipush (v := 10) dX20_node_10 rfl ?_
  obtain ⟨r_4, h⟩ := h
  refine ww_irem dX20_node_12 r_4 ?_
  refine ww_iconst dX20_node_13 ?_
  refine ww_isub dX20_node_14 ?_
  exact ww_iret (ws, μ) rfl ⟨hM1, ⟨rfl, _, rfl, h⟩⟩ rfl (Nat.le_refl _) (Nat.le_refl _) dX20_node_15
/-! X1_width: HoloNet width (I)I; flags (True, True, False), depth 8 -/
def wc_X1_width (ad : Nat → Nat) (mc ms : Nat) (μ : HM) (b : Nat) (a1 : Int) (P : Int → HM → Prop) : Prop :=
  rI a1 ∧
  ∃ x_2 : Option Nat, gQ μ b 1 2 = some x_2 ∧
  ∃ a_4 : Nat, x_2 = some a_4 ∧
  ∃ x_3 : Option Nat, gQ μ a_4 2 3 = some x_3 ∧
  ∃ a_5 : Nat, x_3 = some a_5 ∧
  gC μ a_5 = some 3 ∧
  wc_X3_size ad μ a_5 (fun y_6 =>
    rI y_6 ∧
    wc_X1_within ad μ a1 0 y_6 (fun y_9 =>
      ((¬ y_9 = 0 →
        gC μ b = some 1 ∧
        ∃ c_11 s_12 : Nat, (0 + c_11 ≤ mc ∧ 0 + s_12 ≤ ms) ∧
        wc_X1_narrowest ad c_11 s_12 μ b (fun y_14 μ_16 =>
          rI a1 ∧
          ((¬ a1 = 0 →
            ∃ a_18 : Nat, y_14 = some a_18 ∧
            gC μ_16 a_18 = some 17 ∧
            wc_X20_node ad μ_16 a_18 (a1 - 1) (fun y_19 =>
              P y_19 μ_16)) ∧
          (a1 = 0 →
            ∃ a_22 : Nat, y_14 = some a_22 ∧
            ∃ x_21 : Int, gI μ_16 a_22 17 2 = some x_21 ∧
            P x_21 μ_16)))) ∧
      (y_9 = 0 →
        P (-1) μ))))
set_option maxHeartbeats 4000000 in
theorem tm_X1_width {G : g_G} {l : Launch} {mc ms : Nat} {μ : HM} {b : Nat} {a1 : Int} {P : Int → HM → Prop} (hGY : g_YQ G) (h : wc_X1_width (g_ad G) mc ms μ b a1 P) : CM G l yX1_width cX1_width 3 (Option.some Jvm.ClassFile.FieldType.int) 8 mc ms [.ref b, vI a1] μ (hR1 P) := by
  unfold wc_X1_width at h
  refine wm_of (lvs := [(0, va_rf (some b)), (1, vI a1)]) (by decide) (Nat.le_of_ble_eq_true rfl) rfl (fun fr ws hM1 => ?_)
  show WW G l cX1_width RX1 3 (Option.some Jvm.ClassFile.FieldType.int) "width" 8 mc ms (hMR G (hR1 P)) (fun u => [u.1, fr]) 0 0 [ws, fr] 0 [(0, va_rf (some b)), (1, vI a1)] []
  have hB : 0 ≤ mc ∧ 0 ≤ ms := ⟨Nat.zero_le _, Nat.zero_le _⟩
  refine ww_iload_n dX1_width_0 1 rfl ?_
  obtain ⟨r_1, h⟩ := h
  refine ww_i2l dX1_width_1 r_1 ?_
  refine ww_lconst (v := 0) dX1_width_2 rfl ?_
  refine ww_aloadQ_n dX1_width_3 0 rfl ?_
  obtain ⟨x_2, hx, h⟩ := h
  refine wm_getQ hM1 rfl in_X1 (ci := 1) rfl (by decide) 2 (Nat.le_of_ble_eq_true rfl) hx (fun _ _ => rfl) q319 (fun _ _ h => h) dX1_width_4 ?_
  obtain ⟨a_4, ea_4, h⟩ := h
  subst ea_4
  obtain ⟨x_3, hx, h⟩ := h
  refine wm_getQN hM1 rfl in_X2 (ci := 2) rfl (by decide) 3 (Nat.le_of_ble_eq_true rfl) hx (fun _ _ => rfl) q268 (fun _ _ h => h) dX1_width_7 ?_
  obtain ⟨a_5, ea_5, h⟩ := h
  subst ea_5
  obtain ⟨hg, h⟩ := h
  refine wm_callV (n := 0) hM1 (tm_X3_size h) rfl hg rfl (lw_V q1631 q1140 q1141 q110 q1142) ⟨by decide, by decide, by decide +kernel⟩ rfl ⟨Nat.le_of_ble_eq_true rfl, Nat.le_of_ble_eq_true rfl⟩ rfl (Nat.le_of_ble_eq_true rfl) dX1_width_10 hB ?_
  clear h
  rintro _ _ ws ⟨rfl, y_6, rfl, h⟩ hM2
  refine ww_st1 ?_
  obtain ⟨r_8, h⟩ := h
  refine ww_i2l dX1_width_13 r_8 ?_
  refine wm_callS (n := 3) hM2 (tm_X1_within h) (lw_S q353 q354 q108 q355) ⟨by decide, by decide, by decide +kernel⟩ rfl ⟨Nat.le_of_ble_eq_true rfl, Nat.le_of_ble_eq_true rfl⟩ rfl (Nat.le_of_ble_eq_true rfl) dX1_width_14 hB ?_
  clear h
  rintro _ _ ws ⟨rfl, y_9, rfl, z_10, h⟩ hM3
  refine ww_st1 ?_
  refine ww_if_ne (tgt := 22) dX1_width_17 (by decide) (r_z z_10) (fun c => ?_) (fun c => ?_)
  · replace h := h.1 c
    refine ww_aloadQ_n dX1_width_22 0 rfl ?_
    obtain ⟨hg, h⟩ := h
    obtain ⟨c_11, s_12, b_13, h⟩ := h
    refine wm_callV (n := 0) hM3 (tm_X1_narrowest hGY h) rfl hg rfl (lw_V q1895 q1897 qs45 q108 q1898) ⟨by decide, by decide, by decide +kernel⟩ rfl ⟨Nat.le_of_ble_eq_true rfl, Nat.le_of_ble_eq_true rfl⟩ rfl (Nat.le_of_ble_eq_true rfl) dX1_width_23 b_13 ?_
    clear h
    rintro _ μ_16 ws ⟨y_14, rfl, h⟩ hM4
    have hB := b_13
    refine ww_st1 ?_
    refine ww_astoreQ_n (i := 2) (lv2 := [(2, va_rf y_14), (0, va_rf (some b)), (1, vI a1)]) dX1_width_26 rfl (Nat.le_of_ble_eq_true rfl) rfl ?_
    refine ww_iload_n dX1_width_27 2 rfl ?_
    obtain ⟨r_17, h⟩ := h
    refine ww_if_ne (tgt := 38) dX1_width_28 (by decide) r_17 (fun c => ?_) (fun c => ?_)
    · replace h := h.1 c
      refine ww_aloadQ_n dX1_width_38 0 rfl ?_
      refine ww_iload_n dX1_width_39 2 rfl ?_
      refine ww_iconst dX1_width_40 ?_
      refine ww_isub dX1_width_41 ?_
      obtain ⟨a_18, ea_18, h⟩ := h
      subst ea_18
      obtain ⟨hg, h⟩ := h
      refine wm_callV (n := 1) hM4 (tm_X20_node h) rfl hg rfl (lw_V q2012 q2013 q2014 q158 q2015) ⟨by decide, by decide, by decide +kernel⟩ rfl ⟨Nat.le_of_ble_eq_true rfl, Nat.le_of_ble_eq_true rfl⟩ rfl (Nat.le_of_ble_eq_true rfl) dX1_width_42 hB ?_
      clear h
      rintro _ _ ws ⟨rfl, y_19, rfl, h⟩ hM5
      refine ww_st1 ?_
      exact ww_iret (ws, μ_16) rfl ⟨hM5, ⟨_, rfl, h⟩⟩ rfl hB.1 hB.2 dX1_width_45
    · replace h := h.2 c
      refine ww_aloadQ_n dX1_width_31 0 rfl ?_
      obtain ⟨a_22, ea_22, h⟩ := h
      subst ea_22
      obtain ⟨x_21, hx, h⟩ := h
      refine wm_getIN hM4 rfl in_X20 (ci := 17) rfl (by decide) 2 (Nat.le_of_ble_eq_true rfl) hx (fun _ _ => rfl) q1936 (fun _ _ h => h) dX1_width_32 ?_
      refine ww_goto (tgt := 45) dX1_width_35 (by decide) ?_
      exact ww_iret (ws, μ_16) rfl ⟨hM4, ⟨_, rfl, h⟩⟩ rfl hB.1 hB.2 dX1_width_45
  · replace h := h.2 c
    refine ww_iconst dX1_width_20 ?_
    exact ww_iret (ws, μ) rfl ⟨hM3, ⟨_, rfl, h⟩⟩ rfl hB.1 hB.2 dX1_width_21
/-! X1_fresh: HoloNet fresh (I)[I; flags (True, True, False), depth 1 -/
def wc_X1_fresh (ad : Nat → Nat) (mc ms : Nat) (μ : HM) (b : Nat) (a1 : Int) (P : Option Nat → HM → Prop) : Prop :=
  ∃ x_1 : Option Nat, gQ μ b 1 3 = some x_1 ∧
  ∃ a_3 : Nat, x_1 = some a_3 ∧
  ∃ x_2 : Option Nat, gQ μ a_3 4 0 = some x_2 ∧
  ∃ x_4 : Option Nat, gQ μ b 1 3 = some x_4 ∧
  ∃ a_6 : Nat, x_4 = some a_6 ∧
  ∃ x_5 : Option Nat, gQ μ a_6 4 0 = some x_5 ∧
  ∃ a_7 : Nat, x_5 = some a_7 ∧
  ∃ x_8 : Option Nat, gR μ a_7 6 a1 = some x_8 ∧
  ∃ a_9 : Nat, x_8 = some a_9 ∧
  ∃ (n_10 : Nat) (f_11 : Int → Int), μ a_9 = some (hA 0 n_10 f_11) ∧ (0 + 1 ≤ mc ∧ 0 + n_10 ≤ ms) ∧ ∀ q_12 : Nat, μ q_12 = none →
  ∃ (n_14 : Nat) (f_15 : Int → Int), (hs μ q_12 (hA 0 n_10 f_11)) q_12 = some (hA 0 n_14 f_15) ∧
  ∃ a_16 : Nat, x_2 = some a_16 ∧
  ∃ (n_17 : Nat) (f_18 : Int → Option Nat), (hs μ q_12 (hA 0 n_10 f_11)) a_16 = some (hQ 6 n_17 f_18) ∧ hst (hs μ q_12 (hA 0 n_10 f_11)) 6 q_12 ∧ ((0 : Int) ≤ a1 ∧ a1 < (n_17 : Int) ∧ (n_17 : Int) < 2147483648) ∧
  ∃ x_19 : Option Nat, gQ (hs (hs μ q_12 (hA 0 n_10 f_11)) a_16 (hQ 6 n_17 (updI f_18 a1 (some q_12)))) b 1 3 = some x_19 ∧
  ∃ a_21 : Nat, x_19 = some a_21 ∧
  ∃ x_20 : Option Nat, gQ (hs (hs μ q_12 (hA 0 n_10 f_11)) a_16 (hQ 6 n_17 (updI f_18 a1 (some q_12)))) a_21 4 0 = some x_20 ∧
  ∃ a_22 : Nat, x_20 = some a_22 ∧
  ∃ x_23 : Option Nat, gR (hs (hs μ q_12 (hA 0 n_10 f_11)) a_16 (hQ 6 n_17 (updI f_18 a1 (some q_12)))) a_22 6 a1 = some x_23 ∧
  P x_23 (hs (hs μ q_12 (hA 0 n_10 f_11)) a_16 (hQ 6 n_17 (updI f_18 a1 (some q_12))))
set_option maxHeartbeats 4000000 in
theorem tm_X1_fresh {G : g_G} {l : Launch} {mc ms : Nat} {μ : HM} {b : Nat} {a1 : Int} {P : Option Nat → HM → Prop} (h : wc_X1_fresh (g_ad G) mc ms μ b a1 P) : CM G l yX1_fresh cX1_fresh 2 (Option.some (Jvm.ClassFile.FieldType.array Jvm.ClassFile.FieldType.int)) 1 mc ms [.ref b, vI a1] μ (hR4 P) := by
  unfold wc_X1_fresh at h
  refine wm_of (lvs := [(0, va_rf (some b)), (1, vI a1)]) (by decide) (Nat.le_of_ble_eq_true rfl) rfl (fun fr ws hM1 => ?_)
  show WW G l cX1_fresh RX1 2 (Option.some (Jvm.ClassFile.FieldType.array Jvm.ClassFile.FieldType.int)) "fresh" 1 mc ms (hMR G (hR4 P)) (fun u => [u.1, fr]) 0 0 [ws, fr] 0 [(0, va_rf (some b)), (1, vI a1)] []
  have hB : 0 ≤ mc ∧ 0 ≤ ms := ⟨Nat.zero_le _, Nat.zero_le _⟩
  refine ww_aloadQ_n dX1_fresh_0 0 rfl ?_
  obtain ⟨x_1, hx, h⟩ := h
  refine wm_getQ hM1 rfl in_X1 (ci := 1) rfl (by decide) 3 (Nat.le_of_ble_eq_true rfl) hx (fun _ _ => rfl) q322 (fun _ _ h => h) dX1_fresh_1 ?_
  obtain ⟨a_3, ea_3, h⟩ := h
  subst ea_3
  obtain ⟨x_2, hx, h⟩ := h
  refine wm_getQN hM1 rfl in_X4 (ci := 4) rfl (by decide) 0 (Nat.le_of_ble_eq_true rfl) hx (fun _ _ => rfl) q297 (fun _ _ h => h) dX1_fresh_4 ?_
  refine ww_iload_n dX1_fresh_7 1 rfl ?_
  refine ww_aloadQ_n dX1_fresh_8 0 rfl ?_
  obtain ⟨x_4, hx, h⟩ := h
  refine wm_getQ hM1 rfl in_X1 (ci := 1) rfl (by decide) 3 (Nat.le_of_ble_eq_true rfl) hx (fun _ _ => rfl) q322 (fun _ _ h => h) dX1_fresh_9 ?_
  obtain ⟨a_6, ea_6, h⟩ := h
  subst ea_6
  obtain ⟨x_5, hx, h⟩ := h
  refine wm_getQN hM1 rfl in_X4 (ci := 4) rfl (by decide) 0 (Nat.le_of_ble_eq_true rfl) hx (fun _ _ => rfl) q297 (fun _ _ h => h) dX1_fresh_12 ?_
  refine ww_iload_n dX1_fresh_15 1 rfl ?_
  obtain ⟨a_7, ea_7, h⟩ := h
  subst ea_7
  obtain ⟨x_8, hx, h⟩ := h
  refine wm_aald hM1 rfl (by decide) hx dX1_fresh_16 ?_
  obtain ⟨a_9, ea_9, h⟩ := h
  subst ea_9
  obtain ⟨n_10, f_11, hc, b_13, h⟩ := h
  refine wm_clone 0 (ty := .int) hM1 rfl hc (by decide) rfl nm_I (fun _ _ _ => rfl) q2073 q2074 q478 q479 q2075 q2076 (Nat.le_of_ble_eq_true rfl) (by simp only [List.map_cons, List.map_nil, rf_cat, vI_cat, vL_cat, List.sum_cons, List.sum_nil]; decide) b_13.1 b_13.2 dX1_fresh_17 (fun q_12 ws hq hM2 => ?_)
  replace h := h q_12 hq
  have hB := b_13
  obtain ⟨n_14, f_15, hc, h⟩ := h
  refine wm_castArr hM2 hc (by decide) nm_I q2077 dX1_fresh_20 ?_
  obtain ⟨a_16, ea_16, h⟩ := h
  subst ea_16
  obtain ⟨n_17, f_18, hc, hx, hi, h⟩ := h
  refine wm_aast hM2 rfl rfl hc hx hi.1 hi.2.1 hi.2.2 dX1_fresh_23 (fun ws hM3 => ?_)
  refine ww_aloadQ_n dX1_fresh_24 0 rfl ?_
  obtain ⟨x_19, hx, h⟩ := h
  refine wm_getQ hM3 rfl in_X1 (ci := 1) rfl (by decide) 3 (Nat.le_of_ble_eq_true rfl) hx (fun _ _ => rfl) q322 (fun _ _ h => h) dX1_fresh_25 ?_
  obtain ⟨a_21, ea_21, h⟩ := h
  subst ea_21
  obtain ⟨x_20, hx, h⟩ := h
  refine wm_getQN hM3 rfl in_X4 (ci := 4) rfl (by decide) 0 (Nat.le_of_ble_eq_true rfl) hx (fun _ _ => rfl) q297 (fun _ _ h => h) dX1_fresh_28 ?_
  refine ww_iload_n dX1_fresh_31 1 rfl ?_
  obtain ⟨a_22, ea_22, h⟩ := h
  subst ea_22
  obtain ⟨x_23, hx, h⟩ := h
  refine wm_aald hM3 rfl (by decide) hx dX1_fresh_32 ?_
  exact ww_aret (ws, (hs (hs μ q_12 (hA 0 n_10 f_11)) a_16 (hQ 6 n_17 (updI f_18 a1 (some q_12))))) rfl (by first | exact Or.inl ⟨_, rfl⟩ | exact Or.inr ⟨_, rfl⟩) (rf_or _) ⟨hM3, ⟨_, rfl, h⟩⟩ rfl hB.1 hB.2 dX1_fresh_33
/-! X1_changes_2: HoloNet changes (IIIIII)V; flags (True, True, False), depth 3 -/
def wc_X1_changes_2 (ad : Nat → Nat) (mc ms : Nat) (μ : HM) (b : Nat) (a1 : Int) (a2 : Int) (a3 : Int) (a4 : Int) (a5 : Int) (a6 : Int) (P : HM → Prop) : Prop :=
  gC μ b = some 1 ∧
  ∃ c_1 s_2 : Nat, (0 + c_1 ≤ mc ∧ 0 + s_2 ≤ ms) ∧
  wc_X1_fresh ad c_1 s_2 μ b a1 (fun y_4 μ_6 =>
    ∃ a_7 : Nat, y_4 = some a_7 ∧
    ∃ n_8 : Nat, gL μ_6 a_7 = some n_8 ∧
    gC μ_6 b = some 1 ∧
    wc_X1_changes ad μ_6 b (some a_7) (n_8 : Int) a2 a3 a4 a5 a6 (fun μ_9 =>
      P μ_9))
set_option maxHeartbeats 4000000 in
theorem tm_X1_changes_2 {G : g_G} {l : Launch} {mc ms : Nat} {μ : HM} {b : Nat} {a1 : Int} {a2 : Int} {a3 : Int} {a4 : Int} {a5 : Int} {a6 : Int} {P : HM → Prop} (h : wc_X1_changes_2 (g_ad G) mc ms μ b a1 a2 a3 a4 a5 a6 P) : CM G l yX1_changes_2 cX1_changes_2 8 (Option.none : Option Jvm.ClassFile.FieldType) 3 mc ms [.ref b, vI a1, vI a2, vI a3, vI a4, vI a5, vI a6] μ (hR0 P) := by
  unfold wc_X1_changes_2 at h
  refine wm_of (lvs := [(0, va_rf (some b)), (1, vI a1), (2, vI a2), (3, vI a3), (4, vI a4), (5, vI a5), (6, vI a6)]) (by decide) (Nat.le_of_ble_eq_true rfl) rfl (fun fr ws hM1 => ?_)
  show WW G l cX1_changes_2 RX1 8 (Option.none : Option Jvm.ClassFile.FieldType) "changes" 3 mc ms (hMR G (hR0 P)) (fun u => [u.1, fr]) 0 0 [ws, fr] 0 [(0, va_rf (some b)), (1, vI a1), (2, vI a2), (3, vI a3), (4, vI a4), (5, vI a5), (6, vI a6)] []
  have hB : 0 ≤ mc ∧ 0 ≤ ms := ⟨Nat.zero_le _, Nat.zero_le _⟩
  refine ww_aloadQ_n dX1_changes_2_0 0 rfl ?_
  refine ww_iload_n dX1_changes_2_1 1 rfl ?_
  obtain ⟨hg, h⟩ := h
  obtain ⟨c_1, s_2, b_3, h⟩ := h
  refine wm_callV (n := 1) hM1 (tm_X1_fresh h) rfl hg rfl (lw_V q2069 q2071 qs53 q108 q2072) ⟨by decide, by decide, by decide +kernel⟩ rfl ⟨Nat.le_of_ble_eq_true rfl, Nat.le_of_ble_eq_true rfl⟩ rfl (Nat.le_of_ble_eq_true rfl) dX1_changes_2_2 b_3 ?_
  clear h
  rintro _ μ_6 ws ⟨y_4, rfl, h⟩ hM2
  have hB := b_3
  refine ww_st1 ?_
  refine ww_astoreQ (i := 7) (lv2 := [(7, va_rf y_4), (0, va_rf (some b)), (1, vI a1), (2, vI a2), (3, vI a3), (4, vI a4), (5, vI a5), (6, vI a6)]) dX1_changes_2_5 (Nat.le_of_ble_eq_true rfl) rfl ?_
  refine ww_aloadQ_n dX1_changes_2_7 1 rfl ?_
  refine ww_aloadQ dX1_changes_2_8 0 rfl ?_
  refine ww_aloadQ dX1_changes_2_10 0 rfl ?_
  obtain ⟨a_7, ea_7, h⟩ := h
  subst ea_7
  obtain ⟨n_8, hn, h⟩ := h
  refine wm_alen hM2 rfl hn dX1_changes_2_12 ?_
  refine ww_iload_n dX1_changes_2_13 3 rfl ?_
  refine ww_iload_n dX1_changes_2_14 4 rfl ?_
  refine ww_iload dX1_changes_2_15 5 rfl ?_
  refine ww_iload dX1_changes_2_17 6 rfl ?_
  refine ww_iload dX1_changes_2_19 7 rfl ?_
  obtain ⟨hg, h⟩ := h
  refine wm_callV (n := 7) hM2 (tm_X1_changes h) rfl hg rfl (lw_V q1615 q1617 qs38 q108 q1618) ⟨by decide, by decide, by decide +kernel⟩ rfl ⟨Nat.le_of_ble_eq_true rfl, Nat.le_of_ble_eq_true rfl⟩ rfl (Nat.le_of_ble_eq_true rfl) dX1_changes_2_21 hB ?_
  clear h
  rintro _ μ_9 ws ⟨rfl, h⟩ hM3
  refine ww_st0 ?_
  exact ww_vret (ws, μ_9) rfl ⟨hM3, ⟨rfl, h⟩⟩ rfl hB.1 hB.2 dX1_changes_2_24
