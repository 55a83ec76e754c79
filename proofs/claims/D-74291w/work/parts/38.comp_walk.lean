/-! THE COMPONENT and what it calls: weakest preconditions and walks (printed by tools/comp.py) -/
set_option maxRecDepth 100000
/-! X3_size: HoloNet$Shelf size ()I; flags (False, False, False), depth 1 -/
def wc_X3_size (ad : Nat → Nat) (μ : HM) (b : Nat) (P : Int → Prop) : Prop :=
  ∃ x_1 : Option Nat, gQ μ b 3 0 = some x_1 ∧
  ∃ a_2 : Nat, x_1 = some a_2 ∧
  gC μ a_2 = some 18 ∧
  wc_J2_size ad μ a_2 (fun y_3 =>
    P y_3)
set_option maxHeartbeats 4000000 in
theorem tm_X3_size {G : g_G} {l : Launch} {μ : HM} {b : Nat} {P : Int → Prop} (h : wc_X3_size (g_ad G) μ b P) : CM G l yX3_size cX3_size 1 (Option.some Jvm.ClassFile.FieldType.int) 1 0 0 [.ref b] μ (hN1 μ P) := by
  unfold wc_X3_size at h
  refine wm_of (lvs := [(0, va_rf (some b))]) (by decide) (Nat.le_of_ble_eq_true rfl) rfl (fun fr ws hM1 => ?_)
  show WW G l cX3_size RX3 1 (Option.some Jvm.ClassFile.FieldType.int) "size" 1 0 0 (hMR G (hN1 μ P)) (fun u => [u.1, fr]) 0 0 [ws, fr] 0 [(0, va_rf (some b))] []
  refine ww_aloadQ_n dX3_size_0 0 rfl ?_
  obtain ⟨x_1, hx, h⟩ := h
  refine wm_getQ hM1 rfl in_X3 (ci := 3) rfl (by decide) 0 (Nat.le_of_ble_eq_true rfl) hx (fun _ _ => rfl) q246 (fun _ _ h => h) dX3_size_1 ?_
  obtain ⟨a_2, ea_2, h⟩ := h
  subst ea_2
  obtain ⟨hg, h⟩ := h
  refine wm_callV (n := 0) hM1 (tm_J2_size h) rfl hg rfl (lw_V q855 q856 q857 q113 q858) ⟨by decide, by decide, by decide +kernel⟩ rfl ⟨Nat.le_of_ble_eq_true rfl, Nat.le_of_ble_eq_true rfl⟩ rfl (Nat.le_of_ble_eq_true rfl) dX3_size_4 ⟨Nat.le_refl _, Nat.le_refl _⟩ ?_
  clear h
  rintro _ _ ws ⟨rfl, y_3, rfl, h⟩ hM2
  refine ww_st1 ?_
  exact ww_iret (ws, μ) rfl ⟨hM2, ⟨rfl, _, rfl, h⟩⟩ rfl (Nat.le_refl _) (Nat.le_refl _) dX3_size_7
/-! J4_getEntry: java/util/TreeMap getEntry (Ljava/lang/Object;)Ljava/util/TreeMap$Entry;; flags (False, False, False), depth 5 -/
def wc_J4_getEntry (ad : Nat → Nat) (μ : HM) (b : Nat) (o1 : Option Nat) (P : Option Nat → Prop) : Prop :=
  ∃ x_1 : Option Nat, gQ μ b 19 2 = some x_1 ∧
  ((x_1 = none →
    wc_J16_requireNonNull ad μ o1 (fun y_3 =>
      (∀ z : Nat, o1 = some z → ∃ ci, gC μ z = some ci ∧ (ci = 7 ∨ ci = 8 ∨ ci = 9 ∨ ci = 17 ∨ ci = 21 ∨ ci = 22)) ∧
      ∃ x_5 : Option Nat, gQ μ b 19 3 = some x_5 ∧
      ∃ I28 : Nat → Option Nat → Prop, (∀ (n28 : Nat) (v3_28 : Option Nat), I28 n28 v3_28 →
        ((v3_28 = none →
          P none) ∧
        (∀ a_6 : Nat, v3_28 = some a_6 →
          ∃ x_7 : Option Nat, gQ μ a_6 20 0 = some x_7 ∧
          ∃ a_8 : Nat, o1 = some a_8 ∧
          gC μ a_8 = some 22 ∧
          wc_J7_compareTo_2 ad μ a_8 x_7 (fun y_9 =>
            rI y_9 ∧
            ∃ J72 : Option Nat → Prop, (∀ (v3_72 : Option Nat), J72 v3_72 →
              ∃ m : Nat, m < n28 ∧ I28 m v3_72) ∧
            ((0 ≤ y_9 →
              rI y_9 ∧
              ((y_9 ≤ 0 →
                P (some a_6)) ∧
              (0 < y_9 →
                ∃ x_13 : Option Nat, gQ μ a_6 20 3 = some x_13 ∧
                J72 x_13))) ∧
            (y_9 < 0 →
              ∃ x_14 : Option Nat, gQ μ a_6 20 2 = some x_14 ∧
              J72 x_14)))))) ∧
      ∃ m : Nat, I28 m x_5)) ∧
  (∀ a_2 : Nat, x_1 = some a_2 →
    False))
set_option maxHeartbeats 4000000 in
theorem tm_J4_getEntry {G : g_G} {l : Launch} {μ : HM} {b : Nat} {o1 : Option Nat} {P : Option Nat → Prop} (h : wc_J4_getEntry (g_ad G) μ b o1 P) : CM G l yJ4_getEntry cJ4_getEntry 5 (Option.some (Jvm.ClassFile.FieldType.object "java/util/TreeMap$Entry")) 5 0 0 [.ref b, va_rf o1] μ (hN4 μ P) := by
  unfold wc_J4_getEntry at h
  refine wm_of (lvs := [(0, va_rf (some b)), (1, va_rf o1)]) (by decide) (by simp [lg_sl, rf_cat, vI_cat, vL_cat, ref_cat]) (by simp [lv_args, rf_cat, vI_cat, vL_cat, ref_cat, rf_some]) (fun fr ws hM1 => ?_)
  show WW G l cJ4_getEntry RJ4 5 (Option.some (Jvm.ClassFile.FieldType.object "java/util/TreeMap$Entry")) "getEntry" 5 0 0 (hMR G (hN4 μ P)) (fun u => [u.1, fr]) 0 0 [ws, fr] 0 [(0, va_rf (some b)), (1, va_rf o1)] []
  refine ww_aloadQ_n dJ4_getEntry_0 0 rfl ?_
  obtain ⟨x_1, hx, h⟩ := h
  refine wm_getQ hM1 rfl in_J4 (ci := 19) rfl (by decide) 2 (Nat.le_of_ble_eq_true rfl) hx (fun _ _ => rfl) q223 (fun _ _ h => h) dJ4_getEntry_1 ?_
  refine ww_ifnullQ (tgt := 13) dJ4_getEntry_4 (by decide) (fun c => ?_) (fun a_2 c => ?_)
  · replace h := h.1 c
    subst c
    refine ww_aloadQ_n dJ4_getEntry_13 1 rfl ?_
    refine wm_callS (n := 1) hM1 (tm_J16_requireNonNull h) (lw_S q886 q887 q132 q888) ⟨by decide, by decide, by decide +kernel⟩ rfl ⟨Nat.le_of_ble_eq_true rfl, Nat.le_of_ble_eq_true rfl⟩ rfl (Nat.le_of_ble_eq_true rfl) dJ4_getEntry_14 ⟨Nat.le_refl _, Nat.le_refl _⟩ ?_
    clear h
    rintro _ _ ws ⟨rfl, y_3, rfl, h⟩ hM2
    refine ww_st1 ?_
    refine ww_pop dJ4_getEntry_17 (rf_cat _) ?_
    refine ww_aloadQ_n dJ4_getEntry_18 1 rfl ?_
    obtain ⟨hc, h⟩ := h
    refine wm_cast hM2 hc cast_2 q916 dJ4_getEntry_19 ?_
    refine ww_astoreQ_n (i := 2) (lv2 := [(2, va_rf o1), (0, va_rf (some b)), (1, va_rf o1)]) dJ4_getEntry_22 rfl (Nat.le_of_ble_eq_true rfl) (by simp [rf_cat, vI_cat, vL_cat, ref_cat]) ?_
    refine ww_aloadQ_n dJ4_getEntry_23 1 rfl ?_
    obtain ⟨x_5, hx, h⟩ := h
    refine wm_getQ hM2 rfl in_J4 (ci := 19) rfl (by decide) 3 (Nat.le_of_ble_eq_true rfl) hx (fun _ _ => rfl) q224 (fun _ _ h => h) dJ4_getEntry_24 ?_
    refine ww_astoreQ_n (i := 3) (lv2 := [(3, va_rf x_5), (2, va_rf o1), (0, va_rf (some b)), (1, va_rf o1)]) dJ4_getEntry_27 rfl (Nat.le_of_ble_eq_true rfl) (by simp [rf_cat, vI_cat, vL_cat, ref_cat]) ?_
    obtain ⟨I28, hI28, h⟩ := h
    have kI28 : ∀ (n28 : Nat), ∀ (v3_28 : Option Nat), I28 n28 v3_28 → ∀ ws : va_W, Mrep G ws μ → WW G l cJ4_getEntry RJ4 5 (Option.some (Jvm.ClassFile.FieldType.object "java/util/TreeMap$Entry")) "getEntry" 5 0 0 (hMR G (hN4 μ P)) (fun u => [u.1, fr]) 0 0 [ws, fr] 28 [(2, va_rf o1), (3, va_rf v3_28)] [] := by
      clear h
      intro n28
      induction n28 using Nat.strongRecOn with
      | ind n28 ih28 =>
        intro v3_28 hj ws hM3
        have h := hI28 n28 v3_28 hj
        refine ww_aloadQ_n dJ4_getEntry_28 1 rfl ?_
        refine ww_ifnullQ (tgt := 75) dJ4_getEntry_29 (by decide) (fun c => ?_) (fun a_6 c => ?_)
        · replace h := h.1 c
          subst c
          refine ww_nullQ dJ4_getEntry_75 ?_
          exact ww_aret (ws, μ) rfl (by first | exact Or.inl ⟨_, rfl⟩ | exact Or.inr ⟨_, rfl⟩) (rf_or _) ⟨hM3, ⟨rfl, _, rfl, h⟩⟩ rfl (Nat.le_refl _) (Nat.le_refl _) dJ4_getEntry_76
        · replace h := h.2 a_6 c
          subst c
          refine ww_aloadQ_n dJ4_getEntry_32 0 rfl ?_
          refine ww_aloadQ_n dJ4_getEntry_33 1 rfl ?_
          obtain ⟨x_7, hx, h⟩ := h
          refine wm_getQ hM3 rfl in_J22 (ci := 20) rfl (by decide) 0 (Nat.le_of_ble_eq_true rfl) hx (fun _ _ => rfl) q1259 (fun _ _ h => h) dJ4_getEntry_34 ?_
          obtain ⟨a_8, ea_8, h⟩ := h
          subst ea_8
          obtain ⟨hg, h⟩ := h
          refine wm_callF (n := 1) hM3 (tm_J7_compareTo_2 h) rfl hg rfl (lw_F q918 q1096 q1098 q121 q1100) (by decide) ⟨by decide, by decide, by decide +kernel⟩ rfl ⟨Nat.le_of_ble_eq_true rfl, Nat.le_of_ble_eq_true rfl⟩ rfl (Nat.le_of_ble_eq_true rfl) dJ4_getEntry_37 ⟨Nat.le_refl _, Nat.le_refl _⟩ ?_
          clear h
          rintro _ _ ws ⟨rfl, y_9, rfl, h⟩ hM4
          refine ww_st1 ?_
          refine ww_istore (i := 4) (lv2 := [(4, vI y_9), (2, va_rf (some a_8)), (3, va_rf (some a_6))]) dJ4_getEntry_42 (Nat.le_of_ble_eq_true rfl) rfl ?_
          refine ww_iload dJ4_getEntry_44 0 rfl ?_
          obtain ⟨r_11, h⟩ := h
          obtain ⟨J72, hJ72, h⟩ := h
          have kJ72 : ∀ (v3_72 : Option Nat), J72 v3_72 → ∀ ws : va_W, Mrep G ws μ → WW G l cJ4_getEntry RJ4 5 (Option.some (Jvm.ClassFile.FieldType.object "java/util/TreeMap$Entry")) "getEntry" 5 0 0 (hMR G (hN4 μ P)) (fun u => [u.1, fr]) 0 0 [ws, fr] 72 [(2, va_rf (some a_8)), (3, va_rf v3_72)] [] := by
            clear h
            intro v3_72 hj ws hM5
            have h := hJ72 v3_72 hj
            refine ww_goto (tgt := 28) dJ4_getEntry_72 (by decide) ?_
            obtain ⟨m, hm, h⟩ := h
            exact ih28 m hm _ h _ hM5
          refine ww_if_ge (tgt := 57) dJ4_getEntry_46 (by decide) r_11 (fun c => ?_) (fun c => ?_)
          · replace h := h.1 c
            refine ww_iload dJ4_getEntry_57 0 rfl ?_
            obtain ⟨r_12, h⟩ := h
            refine ww_if_le (tgt := 70) dJ4_getEntry_59 (by decide) r_12 (fun c => ?_) (fun c => ?_)
            · replace h := h.1 c
              refine ww_aloadQ_n dJ4_getEntry_70 2 rfl ?_
              exact ww_aret (ws, μ) rfl (by first | exact Or.inl ⟨_, rfl⟩ | exact Or.inr ⟨_, rfl⟩) (rf_or _) ⟨hM4, ⟨rfl, _, rfl, h⟩⟩ rfl (Nat.le_refl _) (Nat.le_refl _) dJ4_getEntry_71
            · replace h := h.2 (Int.not_le.mp c)
              refine ww_aloadQ_n dJ4_getEntry_62 2 rfl ?_
              obtain ⟨x_13, hx, h⟩ := h
              refine wm_getQ hM4 rfl in_J22 (ci := 20) rfl (by decide) 3 (Nat.le_of_ble_eq_true rfl) hx (fun _ _ => rfl) q1263 (fun _ _ h => h) dJ4_getEntry_63 ?_
              refine ww_astoreQ_n (i := 3) (lv2 := [(3, va_rf x_13), (4, vI y_9), (2, va_rf (some a_8))]) dJ4_getEntry_66 rfl (Nat.le_of_ble_eq_true rfl) rfl ?_
              refine ww_goto (tgt := 72) dJ4_getEntry_67 (by decide) ?_
              refine ww_lv [2, 0] rfl ?_
              exact kJ72 _ h _ hM4
          · replace h := h.2 (Int.not_le.mp c)
            refine ww_aloadQ_n dJ4_getEntry_49 2 rfl ?_
            obtain ⟨x_14, hx, h⟩ := h
            refine wm_getQ hM4 rfl in_J22 (ci := 20) rfl (by decide) 2 (Nat.le_of_ble_eq_true rfl) hx (fun _ _ => rfl) q1262 (fun _ _ h => h) dJ4_getEntry_50 ?_
            refine ww_astoreQ_n (i := 3) (lv2 := [(3, va_rf x_14), (4, vI y_9), (2, va_rf (some a_8))]) dJ4_getEntry_53 rfl (Nat.le_of_ble_eq_true rfl) rfl ?_
            refine ww_goto (tgt := 72) dJ4_getEntry_54 (by decide) ?_
            refine ww_lv [2, 0] rfl ?_
            exact kJ72 _ h _ hM4
    refine ww_lv [1, 0] rfl ?_
    obtain ⟨m, h⟩ := h
    exact kI28 m _ h _ hM2
  · replace h := h.2 a_2 c
    subst c
    refine ww_aloadQ_n dJ4_getEntry_7 0 rfl ?_
    refine ww_aloadQ_n dJ4_getEntry_8 1 rfl ?_
    exact h.elim
/-! J4_containsKey: java/util/TreeMap containsKey (Ljava/lang/Object;)Z; flags (False, False, False), depth 6 -/
def wc_J4_containsKey (ad : Nat → Nat) (μ : HM) (b : Nat) (o1 : Option Nat) (P : Int → Prop) : Prop :=
  gC μ b = some 19 ∧
  wc_J4_getEntry ad μ b o1 (fun y_1 =>
    ((y_1 = none →
      P 0) ∧
    (∀ a_3 : Nat, y_1 = some a_3 →
      P 1)))
set_option maxHeartbeats 4000000 in
theorem tm_J4_containsKey {G : g_G} {l : Launch} {μ : HM} {b : Nat} {o1 : Option Nat} {P : Int → Prop} (h : wc_J4_containsKey (g_ad G) μ b o1 P) : CM G l yJ4_containsKey cJ4_containsKey 2 (Option.some Jvm.ClassFile.FieldType.boolean) 6 0 0 [.ref b, va_rf o1] μ (hN2 μ P) := by
  unfold wc_J4_containsKey at h
  refine wm_of (lvs := [(0, va_rf (some b)), (1, va_rf o1)]) (by decide) (by simp [lg_sl, rf_cat, vI_cat, vL_cat, ref_cat]) (by simp [lv_args, rf_cat, vI_cat, vL_cat, ref_cat, rf_some]) (fun fr ws hM1 => ?_)
  show WW G l cJ4_containsKey RJ4 2 (Option.some Jvm.ClassFile.FieldType.boolean) "containsKey" 6 0 0 (hMR G (hN2 μ P)) (fun u => [u.1, fr]) 0 0 [ws, fr] 0 [(0, va_rf (some b)), (1, va_rf o1)] []
  refine ww_aloadQ_n dJ4_containsKey_0 0 rfl ?_
  refine ww_aloadQ_n dJ4_containsKey_1 1 rfl ?_
  obtain ⟨hg, h⟩ := h
  refine wm_callV (n := 1) hM1 (tm_J4_getEntry h) rfl hg rfl (lw_V q874 q875 q876 q115 q877) ⟨by decide, by decide, by decide +kernel⟩ rfl ⟨Nat.le_of_ble_eq_true rfl, Nat.le_of_ble_eq_true rfl⟩ rfl (Nat.le_of_ble_eq_true rfl) dJ4_containsKey_2 ⟨Nat.le_refl _, Nat.le_refl _⟩ ?_
  clear h
  rintro _ _ ws ⟨rfl, y_1, rfl, h⟩ hM2
  refine ww_st1 ?_
  refine ww_ifnullQ (tgt := 12) dJ4_containsKey_5 (by decide) (fun c => ?_) (fun a_3 c => ?_)
  · replace h := h.1 c
    subst c
    refine ww_iconst dJ4_containsKey_12 ?_
    exact ww_zret (ws, μ) rfl (Or.inl rfl) ⟨hM2, ⟨rfl, _, rfl, Or.inl rfl, h⟩⟩ rfl (Nat.le_refl _) (Nat.le_refl _) dJ4_containsKey_13
  · replace h := h.2 a_3 c
    subst c
    refine ww_iconst dJ4_containsKey_8 ?_
    refine ww_goto (tgt := 13) dJ4_containsKey_9 (by decide) ?_
    exact ww_zret (ws, μ) rfl (Or.inr rfl) ⟨hM2, ⟨rfl, _, rfl, Or.inr rfl, h⟩⟩ rfl (Nat.le_refl _) (Nat.le_refl _) dJ4_containsKey_13
/-! X3_isOn: HoloNet$Shelf isOn (LHoloNet$Shelf;Ljava/lang/String;)Z; flags (False, False, False), depth 7 -/
def wc_X3_isOn (ad : Nat → Nat) (μ : HM) (o1 : Option Nat) (o2 : Option Nat) (P : Int → Prop) : Prop :=
  ∃ a_2 : Nat, o1 = some a_2 ∧
  ∃ x_1 : Option Nat, gQ μ a_2 3 1 = some x_1 ∧
  ∃ a_3 : Nat, x_1 = some a_3 ∧
  gC μ a_3 = some 19 ∧
  wc_J4_containsKey ad μ a_3 o2 (fun y_4 =>
    (y_4 = 0 ∨ y_4 = 1) ∧ P y_4)
set_option maxHeartbeats 4000000 in
theorem tm_X3_isOn {G : g_G} {l : Launch} {μ : HM} {o1 : Option Nat} {o2 : Option Nat} {P : Int → Prop} (h : wc_X3_isOn (g_ad G) μ o1 o2 P) : CM G l yX3_isOn cX3_isOn 2 (Option.some Jvm.ClassFile.FieldType.boolean) 7 0 0 [va_rf o1, va_rf o2] μ (hN2 μ P) := by
  unfold wc_X3_isOn at h
  refine wm_of (lvs := [(0, va_rf o1), (1, va_rf o2)]) (by decide) (by simp [lg_sl, rf_cat, vI_cat, vL_cat, ref_cat]) (by simp [lv_args, rf_cat, vI_cat, vL_cat, ref_cat, rf_some]) (fun fr ws hM1 => ?_)
  show WW G l cX3_isOn RX3 2 (Option.some Jvm.ClassFile.FieldType.boolean) "isOn" 7 0 0 (hMR G (hN2 μ P)) (fun u => [u.1, fr]) 0 0 [ws, fr] 0 [(0, va_rf o1), (1, va_rf o2)] []
  refine ww_aloadQ_n dX3_isOn_0 0 rfl ?_
  obtain ⟨a_2, ea_2, h⟩ := h
  subst ea_2
  obtain ⟨x_1, hx, h⟩ := h
  refine wm_getQ hM1 rfl in_X3 (ci := 3) rfl (by decide) 1 (Nat.le_of_ble_eq_true rfl) hx (fun _ _ => rfl) q247 (fun _ _ h => h) dX3_isOn_1 ?_
  refine ww_aloadQ_n dX3_isOn_4 1 rfl ?_
  obtain ⟨a_3, ea_3, h⟩ := h
  subst ea_3
  obtain ⟨hg, h⟩ := h
  refine wm_callV (n := 1) hM1 (tm_J4_containsKey h) rfl hg rfl (lw_V q870 q871 q872 q115 q873) ⟨by decide, by decide, by decide +kernel⟩ rfl ⟨Nat.le_of_ble_eq_true rfl, Nat.le_of_ble_eq_true rfl⟩ rfl (Nat.le_of_ble_eq_true rfl) dX3_isOn_5 ⟨Nat.le_refl _, Nat.le_refl _⟩ ?_
  clear h
  rintro _ _ ws ⟨rfl, y_4, rfl, z_5, h⟩ hM2
  refine ww_st1 ?_
  obtain ⟨hz, h⟩ := h
  exact ww_zret (ws, μ) rfl hz ⟨hM2, ⟨rfl, _, rfl, hz, h⟩⟩ rfl (Nat.le_refl _) (Nat.le_refl _) dX3_isOn_8
/-! X2_isTold: HoloNet$Net isTold (Ljava/lang/String;)Z; flags (False, False, False), depth 8 -/
def wc_X2_isTold (ad : Nat → Nat) (μ : HM) (b : Nat) (o1 : Option Nat) (P : Int → Prop) : Prop :=
  ∃ x_1 : Option Nat, gQ μ b 2 1 = some x_1 ∧
  wc_X3_isOn ad μ x_1 o1 (fun y_2 =>
    ((¬ y_2 = 0 →
      P 1) ∧
    (y_2 = 0 →
      ∃ x_4 : Option Nat, gQ μ b 2 2 = some x_4 ∧
      wc_X3_isOn ad μ x_4 o1 (fun y_5 =>
        ((¬ y_5 = 0 →
          P 1) ∧
        (y_5 = 0 →
          ∃ x_7 : Option Nat, gQ μ b 2 3 = some x_7 ∧
          wc_X3_isOn ad μ x_7 o1 (fun y_8 =>
            ((y_8 = 0 →
              P 0) ∧
            (¬ y_8 = 0 →
              P 1)))))))))
set_option maxHeartbeats 4000000 in
theorem tm_X2_isTold {G : g_G} {l : Launch} {μ : HM} {b : Nat} {o1 : Option Nat} {P : Int → Prop} (h : wc_X2_isTold (g_ad G) μ b o1 P) : CM G l yX2_isTold cX2_isTold 2 (Option.some Jvm.ClassFile.FieldType.boolean) 8 0 0 [.ref b, va_rf o1] μ (hN2 μ P) := by
  unfold wc_X2_isTold at h
  refine wm_of (lvs := [(0, va_rf (some b)), (1, va_rf o1)]) (by decide) (by simp [lg_sl, rf_cat, vI_cat, vL_cat, ref_cat]) (by simp [lv_args, rf_cat, vI_cat, vL_cat, ref_cat, rf_some]) (fun fr ws hM1 => ?_)
  show WW G l cX2_isTold RX2 2 (Option.some Jvm.ClassFile.FieldType.boolean) "isTold" 8 0 0 (hMR G (hN2 μ P)) (fun u => [u.1, fr]) 0 0 [ws, fr] 0 [(0, va_rf (some b)), (1, va_rf o1)] []
  refine ww_aloadQ_n dX2_isTold_0 0 rfl ?_
  obtain ⟨x_1, hx, h⟩ := h
  refine wm_getQ hM1 rfl in_X2 (ci := 2) rfl (by decide) 1 (Nat.le_of_ble_eq_true rfl) hx (fun _ _ => rfl) q260 (fun _ _ h => h) dX2_isTold_1 ?_
  refine ww_aloadQ_n dX2_isTold_4 1 rfl ?_
  refine wm_callS (n := 2) hM1 (tm_X3_isOn h) (lw_S q867 q868 q110 q869) ⟨by decide, by decide, by decide +kernel⟩ rfl ⟨Nat.le_of_ble_eq_true rfl, Nat.le_of_ble_eq_true rfl⟩ rfl (Nat.le_of_ble_eq_true rfl) dX2_isTold_5 ⟨Nat.le_refl _, Nat.le_refl _⟩ ?_
  clear h
  rintro _ _ ws ⟨rfl, y_2, rfl, z_3, h⟩ hM2
  refine ww_st1 ?_
  refine ww_if_ne (tgt := 33) dX2_isTold_8 (by decide) (r_z z_3) (fun c => ?_) (fun c => ?_)
  · replace h := h.1 c
    refine ww_iconst dX2_isTold_33 ?_
    refine ww_goto (tgt := 38) dX2_isTold_34 (by decide) ?_
    exact ww_zret (ws, μ) rfl (Or.inr rfl) ⟨hM2, ⟨rfl, _, rfl, Or.inr rfl, h⟩⟩ rfl (Nat.le_refl _) (Nat.le_refl _) dX2_isTold_38
  · replace h := h.2 c
    refine ww_aloadQ_n dX2_isTold_11 0 rfl ?_
    obtain ⟨x_4, hx, h⟩ := h
    refine wm_getQ hM2 rfl in_X2 (ci := 2) rfl (by decide) 2 (Nat.le_of_ble_eq_true rfl) hx (fun _ _ => rfl) q263 (fun _ _ h => h) dX2_isTold_12 ?_
    refine ww_aloadQ_n dX2_isTold_15 1 rfl ?_
    refine wm_callS (n := 2) hM2 (tm_X3_isOn h) (lw_S q867 q868 q110 q869) ⟨by decide, by decide, by decide +kernel⟩ rfl ⟨Nat.le_of_ble_eq_true rfl, Nat.le_of_ble_eq_true rfl⟩ rfl (Nat.le_of_ble_eq_true rfl) dX2_isTold_16 ⟨Nat.le_refl _, Nat.le_refl _⟩ ?_
    clear h
    rintro _ _ ws ⟨rfl, y_5, rfl, z_6, h⟩ hM3
    refine ww_st1 ?_
    refine ww_if_ne (tgt := 33) dX2_isTold_19 (by decide) (r_z z_6) (fun c => ?_) (fun c => ?_)
    · replace h := h.1 c
      refine ww_iconst dX2_isTold_33 ?_
      refine ww_goto (tgt := 38) dX2_isTold_34 (by decide) ?_
      exact ww_zret (ws, μ) rfl (Or.inr rfl) ⟨hM3, ⟨rfl, _, rfl, Or.inr rfl, h⟩⟩ rfl (Nat.le_refl _) (Nat.le_refl _) dX2_isTold_38
    · replace h := h.2 c
      refine ww_aloadQ_n dX2_isTold_22 0 rfl ?_
      obtain ⟨x_7, hx, h⟩ := h
      refine wm_getQ hM3 rfl in_X2 (ci := 2) rfl (by decide) 3 (Nat.le_of_ble_eq_true rfl) hx (fun _ _ => rfl) q266 (fun _ _ h => h) dX2_isTold_23 ?_
      refine ww_aloadQ_n dX2_isTold_26 1 rfl ?_
      refine wm_callS (n := 2) hM3 (tm_X3_isOn h) (lw_S q867 q868 q110 q869) ⟨by decide, by decide, by decide +kernel⟩ rfl ⟨Nat.le_of_ble_eq_true rfl, Nat.le_of_ble_eq_true rfl⟩ rfl (Nat.le_of_ble_eq_true rfl) dX2_isTold_27 ⟨Nat.le_refl _, Nat.le_refl _⟩ ?_
      clear h
      rintro _ _ ws ⟨rfl, y_8, rfl, z_9, h⟩ hM4
      refine ww_st1 ?_
      refine ww_if_eq (tgt := 37) dX2_isTold_30 (by decide) (r_z z_9) (fun c => ?_) (fun c => ?_)
      · replace h := h.1 c
        refine ww_iconst dX2_isTold_37 ?_
        exact ww_zret (ws, μ) rfl (Or.inl rfl) ⟨hM4, ⟨rfl, _, rfl, Or.inl rfl, h⟩⟩ rfl (Nat.le_refl _) (Nat.le_refl _) dX2_isTold_38
      · replace h := h.2 c
        refine ww_iconst dX2_isTold_33 ?_
        refine ww_goto (tgt := 38) dX2_isTold_34 (by decide) ?_
        exact ww_zret (ws, μ) rfl (Or.inr rfl) ⟨hM4, ⟨rfl, _, rfl, Or.inr rfl, h⟩⟩ rfl (Nat.le_refl _) (Nat.le_refl _) dX2_isTold_38
/-! X3_isFull: HoloNet$Shelf isFull ()Z; flags (False, False, False), depth 1 -/
def wc_X3_isFull (ad : Nat → Nat) (μ : HM) (b : Nat) (P : Int → Prop) : Prop :=
  ∃ x_1 : Option Nat, gQ μ b 3 0 = some x_1 ∧
  ∃ a_2 : Nat, x_1 = some a_2 ∧
  gC μ a_2 = some 18 ∧
  wc_J2_size ad μ a_2 (fun y_3 =>
    ∃ x_5 : Int, gI μ b 3 2 = some x_5 ∧
    rI y_3 ∧
    rI x_5 ∧
    ((¬ y_3 = x_5 →
      P 0) ∧
    (y_3 = x_5 →
      P 1)))
set_option maxHeartbeats 4000000 in
theorem tm_X3_isFull {G : g_G} {l : Launch} {μ : HM} {b : Nat} {P : Int → Prop} (h : wc_X3_isFull (g_ad G) μ b P) : CM G l yX3_isFull cX3_isFull 1 (Option.some Jvm.ClassFile.FieldType.boolean) 1 0 0 [.ref b] μ (hN2 μ P) := by
  unfold wc_X3_isFull at h
  refine wm_of (lvs := [(0, va_rf (some b))]) (by decide) (Nat.le_of_ble_eq_true rfl) rfl (fun fr ws hM1 => ?_)
  show WW G l cX3_isFull RX3 1 (Option.some Jvm.ClassFile.FieldType.boolean) "isFull" 1 0 0 (hMR G (hN2 μ P)) (fun u => [u.1, fr]) 0 0 [ws, fr] 0 [(0, va_rf (some b))] []
  refine ww_aloadQ_n dX3_isFull_0 0 rfl ?_
  obtain ⟨x_1, hx, h⟩ := h
  refine wm_getQ hM1 rfl in_X3 (ci := 3) rfl (by decide) 0 (Nat.le_of_ble_eq_true rfl) hx (fun _ _ => rfl) q246 (fun _ _ h => h) dX3_isFull_1 ?_
  obtain ⟨a_2, ea_2, h⟩ := h
  subst ea_2
  obtain ⟨hg, h⟩ := h
  refine wm_callV (n := 0) hM1 (tm_J2_size h) rfl hg rfl (lw_V q855 q856 q857 q113 q858) ⟨by decide, by decide, by decide +kernel⟩ rfl ⟨Nat.le_of_ble_eq_true rfl, Nat.le_of_ble_eq_true rfl⟩ rfl (Nat.le_of_ble_eq_true rfl) dX3_isFull_4 ⟨Nat.le_refl _, Nat.le_refl _⟩ ?_
  clear h
  rintro _ _ ws ⟨rfl, y_3, rfl, h⟩ hM2
  refine ww_st1 ?_
  refine ww_aloadQ_n dX3_isFull_7 0 rfl ?_
  obtain ⟨x_5, hx, h⟩ := h
  refine wm_getI hM2 rfl in_X3 (ci := 3) rfl (by decide) 2 (Nat.le_of_ble_eq_true rfl) hx (fun _ _ => rfl) q248 (fun _ _ h => h) dX3_isFull_8 ?_
  obtain ⟨r_6, r_7, h⟩ := h
  refine ww_icmp_ne (tgt := 18) dX3_isFull_11 (by decide) r_6 r_7 (fun c => ?_) (fun c => ?_)
  · replace h := h.1 c
    refine ww_iconst dX3_isFull_18 ?_
    exact ww_zret (ws, μ) rfl (Or.inl rfl) ⟨hM2, ⟨rfl, _, rfl, Or.inl rfl, h⟩⟩ rfl (Nat.le_refl _) (Nat.le_refl _) dX3_isFull_19
  · replace h := h.2 c
    refine ww_iconst dX3_isFull_14 ?_
    refine ww_goto (tgt := 19) dX3_isFull_15 (by decide) ?_
    exact ww_zret (ws, μ) rfl (Or.inr rfl) ⟨hM2, ⟨rfl, _, rfl, Or.inr rfl, h⟩⟩ rfl (Nat.le_refl _) (Nat.le_refl _) dX3_isFull_19
/-! J12_canEncode: java/lang/StringLatin1 canEncode (C)Z; flags (False, False, False), depth 0 -/
def wc_J12_canEncode (ad : Nat → Nat) (μ : HM) (a1 : Int) (P : Int → Prop) : Prop :=
  rI a1 ∧
  ((255 < a1 →
    P 0) ∧
  (a1 ≤ 255 →
    P 1))
set_option maxHeartbeats 4000000 in
theorem tm_J12_canEncode {G : g_G} {l : Launch} {μ : HM} {a1 : Int} {P : Int → Prop} (h : wc_J12_canEncode (g_ad G) μ a1 P) : CM G l yJ12_canEncode cJ12_canEncode 1 (Option.some Jvm.ClassFile.FieldType.boolean) 0 0 0 [vI a1] μ (hN2 μ P) := by
  unfold wc_J12_canEncode at h
  refine wm_of (lvs := [(0, vI a1)]) (by decide) (Nat.le_of_ble_eq_true rfl) rfl (fun fr ws hM1 => ?_)
  show WW G l cJ12_canEncode RJ12 1 (Option.some Jvm.ClassFile.FieldType.boolean) "canEncode" 0 0 0 (hMR G (hN2 μ P)) (fun u => [u.1, fr]) 0 0 [ws, fr] 0 [(0, vI a1)] []
  refine ww_iload_n dJ12_canEncode_0 0 rfl ?_
  refine ww_sipush (v := 255) dJ12_canEncode_1 rfl ?_
  obtain ⟨r_1, h⟩ := h
  refine ww_icmp_gt (tgt := 11) dJ12_canEncode_4 (by decide) r_1 (by decide) (fun c => ?_) (fun c => ?_)
  · replace h := h.1 c
    refine ww_iconst dJ12_canEncode_11 ?_
    exact ww_zret (ws, μ) rfl (Or.inl rfl) ⟨hM1, ⟨rfl, _, rfl, Or.inl rfl, h⟩⟩ rfl (Nat.le_refl _) (Nat.le_refl _) dJ12_canEncode_12
  · replace h := h.2 (Int.not_lt.mp c)
    refine ww_iconst dJ12_canEncode_7 ?_
    refine ww_goto (tgt := 12) dJ12_canEncode_8 (by decide) ?_
    exact ww_zret (ws, μ) rfl (Or.inr rfl) ⟨hM1, ⟨rfl, _, rfl, Or.inr rfl, h⟩⟩ rfl (Nat.le_refl _) (Nat.le_refl _) dJ12_canEncode_12
/-! J11_copyOf: java/util/Arrays copyOf ([BI)[B; flags (True, True, False), depth 1 -/
def wc_J11_copyOf (ad : Nat → Nat) (mc ms : Nat) (μ : HM) (o1 : Option Nat) (a2 : Int) (P : Option Nat → HM → Prop) : Prop :=
  ∃ a_1 : Nat, o1 = some a_1 ∧
  ∃ n_2 : Nat, gL μ a_1 = some n_2 ∧
  rI a2 ∧
  rI (n_2 : Int) ∧
  ((¬ a2 = (n_2 : Int) →
    (0 ≤ a2 ∧ a2 < 50000000 ∧ 0 + 1 ≤ mc ∧ 0 + a2.toNat ≤ ms) ∧ ∀ q_5 : Nat, μ q_5 = none →
    ∃ n_7 : Nat, gL (hs μ q_5 (hA 2 a2.toNat (fun _ => 0))) a_1 = some n_7 ∧
    wc_J10_min ad (hs μ q_5 (hA 2 a2.toNat (fun _ => 0))) (n_7 : Int) a2 (fun y_8 =>
      ∃ (n_10 n_11 : Nat) (f_12 g_13 : Int → Int), (hs μ q_5 (hA 2 a2.toNat (fun _ => 0))) a_1 = some (hA 2 n_10 f_12) ∧ (hs μ q_5 (hA 2 a2.toNat (fun _ => 0))) q_5 = some (hA 2 n_11 g_13) ∧ ((0 : Int) ≤ (0 : Int) ∧ (0 : Int) ≤ (0 : Int) ∧ (0 : Int) ≤ y_8 ∧ (0 : Int) + y_8 ≤ (n_10 : Int) ∧ (0 : Int) + y_8 ≤ (n_11 : Int) ∧ (n_10 : Int) < 2147483648 ∧ (n_11 : Int) < 2147483648) ∧ (∀ j : Int, (0 : Int) ≤ j → j < (0 : Int) + y_8 → -128 ≤ f_12 j ∧ f_12 j < 128) ∧ 
      P (some q_5) (hs (hs μ q_5 (hA 2 a2.toNat (fun _ => 0))) q_5 (hA 2 n_11 (cpyI f_12 g_13 (0 : Int) (0 : Int) y_8))))) ∧
  (a2 = (n_2 : Int) →
    False))
set_option maxHeartbeats 4000000 in
theorem tm_J11_copyOf {G : g_G} {l : Launch} {mc ms : Nat} {μ : HM} {o1 : Option Nat} {a2 : Int} {P : Option Nat → HM → Prop} (h : wc_J11_copyOf (g_ad G) mc ms μ o1 a2 P) : CM G l yJ11_copyOf cJ11_copyOf 3 (Option.some (Jvm.ClassFile.FieldType.array Jvm.ClassFile.FieldType.byte)) 1 mc ms [va_rf o1, vI a2] μ (hR4 P) := by
  unfold wc_J11_copyOf at h
  refine wm_of (lvs := [(0, va_rf o1), (1, vI a2)]) (by decide) (by simp [lg_sl, rf_cat, vI_cat, vL_cat, ref_cat]) (by simp [lv_args, rf_cat, vI_cat, vL_cat, ref_cat, rf_some]) (fun fr ws hM1 => ?_)
  show WW G l cJ11_copyOf RJ11 3 (Option.some (Jvm.ClassFile.FieldType.array Jvm.ClassFile.FieldType.byte)) "copyOf" 1 mc ms (hMR G (hR4 P)) (fun u => [u.1, fr]) 0 0 [ws, fr] 0 [(0, va_rf o1), (1, vI a2)] []
  have hB : 0 ≤ mc ∧ 0 ≤ ms := ⟨Nat.zero_le _, Nat.zero_le _⟩
  refine ww_iload_n dJ11_copyOf_0 1 rfl ?_
  refine ww_aloadQ_n dJ11_copyOf_1 0 rfl ?_
  obtain ⟨a_1, ea_1, h⟩ := h
  subst ea_1
  obtain ⟨n_2, hn, h⟩ := h
  refine wm_alen hM1 rfl hn dJ11_copyOf_2 ?_
  obtain ⟨r_3, r_4, h⟩ := h
  refine ww_icmp_ne (tgt := 14) dJ11_copyOf_3 (by decide) r_3 r_4 (fun c => ?_) (fun c => ?_)
  · replace h := h.1 c
    refine ww_iload_n dJ11_copyOf_14 1 rfl ?_
    obtain ⟨b_6, h⟩ := h
    refine wm_new2 hM1 q213 b_6.1 (by omega) b_6.2.2.1 b_6.2.2.2 dJ11_copyOf_15 (fun q_5 ws hq hM2 => ?_)
    replace h := h q_5 hq
    have hB := b_6.2.2
    refine ww_astoreQ_n (i := 2) (lv2 := [(2, va_rf (some q_5)), (0, va_rf (some a_1)), (1, vI a2)]) dJ11_copyOf_17 rfl (Nat.le_of_ble_eq_true rfl) rfl ?_
    refine ww_aloadQ_n dJ11_copyOf_18 1 rfl ?_
    refine ww_iconst dJ11_copyOf_19 ?_
    refine ww_aloadQ_n dJ11_copyOf_20 0 rfl ?_
    refine ww_iconst dJ11_copyOf_21 ?_
    refine ww_aloadQ_n dJ11_copyOf_22 1 rfl ?_
    obtain ⟨n_7, hn, h⟩ := h
    refine wm_alen hM2 rfl hn dJ11_copyOf_23 ?_
    refine ww_iload_n dJ11_copyOf_24 2 rfl ?_
    refine wm_callS (n := 2) hM2 (tm_J10_min h) (lw_S q483 q484 q124 q485) ⟨by decide, by decide, by decide +kernel⟩ rfl ⟨Nat.le_of_ble_eq_true rfl, Nat.le_of_ble_eq_true rfl⟩ rfl (by simp only [List.map_cons, List.map_nil, rf_cat, vI_cat, vL_cat, List.sum_cons, List.sum_nil]; decide) dJ11_copyOf_25 hB ?_
    clear h
    rintro _ _ ws ⟨rfl, y_8, rfl, h⟩ hM3
    refine ww_st1 ?_
    obtain ⟨n_10, n_11, f_12, g_13, hc, hc1, hi, hx, h⟩ := h
    refine wm_copyI 2 (ty := .byte) hM3 rfl rfl hc hc1 (by decide) rfl rfl hi.1 hi.2.1 hi.2.2.1 hi.2.2.2.1 hi.2.2.2.2.1 hi.2.2.2.2.2.1 hi.2.2.2.2.2.2 (fun j h1 h2 => fits_b (hx j h1 h2)) q486 q488 q487 q126 (Nat.le_of_ble_eq_true rfl) (Nat.le_of_ble_eq_true rfl) dJ11_copyOf_28 (fun ws hM4 => ?_)
    refine ww_aloadQ_n dJ11_copyOf_31 0 rfl ?_
    exact ww_aret (ws, (hs (hs μ q_5 (hA 2 a2.toNat (fun _ => 0))) q_5 (hA 2 n_11 (cpyI f_12 g_13 (0 : Int) (0 : Int) y_8)))) rfl (by first | exact Or.inl ⟨_, rfl⟩ | exact Or.inr ⟨_, rfl⟩) (rf_or _) ⟨hM4, ⟨_, rfl, h⟩⟩ rfl hB.1 hB.2 dJ11_copyOf_32
  · replace h := h.2 c
    refine ww_aloadQ_n dJ11_copyOf_6 0 rfl ?_
    exact h.elim
/-! J5_newCapacity: java/lang/AbstractStringBuilder newCapacity (I)I; flags (False, False, False), depth 2 -/
def wc_J5_newCapacity (ad : Nat → Nat) (μ : HM) (b : Nat) (a1 : Int) (P : Int → Prop) : Prop :=
  ∃ x_1 : Option Nat, gQ μ b 21 0 = some x_1 ∧
  ∃ a_2 : Nat, x_1 = some a_2 ∧
  ∃ n_3 : Nat, gL μ a_2 = some n_3 ∧
  ∃ x_4 : Int, gI μ b 21 1 = some x_4 ∧
  ∀ x_5 : Int, x_5 = (bL a1 x_4) - (n_3 : Int) →
  ∃ x_6 : Int, gI μ b 21 1 = some x_6 ∧
  wc_J9_newLength ad μ (n_3 : Int) x_5 ((n_3 : Int) + (bL 2 x_6)) (fun y_7 =>
    rI y_7 ∧
    ((¬ y_7 = 2147483647 →
      ∃ x_10 : Int, gI μ b 21 1 = some x_10 ∧
      P (bR y_7 x_10)) ∧
    (y_7 = 2147483647 →
      False)))
set_option maxHeartbeats 4000000 in
theorem tm_J5_newCapacity {G : g_G} {l : Launch} {μ : HM} {b : Nat} {a1 : Int} {P : Int → Prop} (h : wc_J5_newCapacity (g_ad G) μ b a1 P) : CM G l yJ5_newCapacity cJ5_newCapacity 6 (Option.some Jvm.ClassFile.FieldType.int) 2 0 0 [.ref b, vI a1] μ (hN1 μ P) := by
  unfold wc_J5_newCapacity at h
  refine wm_of (lvs := [(0, va_rf (some b)), (1, vI a1)]) (by decide) (Nat.le_of_ble_eq_true rfl) rfl (fun fr ws hM1 => ?_)
  show WW G l cJ5_newCapacity RJ5 6 (Option.some Jvm.ClassFile.FieldType.int) "newCapacity" 2 0 0 (hMR G (hN1 μ P)) (fun u => [u.1, fr]) 0 0 [ws, fr] 0 [(0, va_rf (some b)), (1, vI a1)] []
  refine ww_aloadQ_n dJ5_newCapacity_0 0 rfl ?_
  obtain ⟨x_1, hx, h⟩ := h
  refine wm_getQ hM1 rfl in_J6 (ci := 21) rfl (by decide) 0 (Nat.le_of_ble_eq_true rfl) hx (fun _ _ => rfl) q384 (fun _ _ h => h) dJ5_newCapacity_1 ?_
  obtain ⟨a_2, ea_2, h⟩ := h
  subst ea_2
  obtain ⟨n_3, hn, h⟩ := h
  refine wm_alen hM1 rfl hn dJ5_newCapacity_4 ?_
  refine ww_istore_n (i := 2) (lv2 := [(2, vI (n_3 : Int)), (0, va_rf (some b)), (1, vI a1)]) dJ5_newCapacity_5 rfl (Nat.le_of_ble_eq_true rfl) rfl ?_
  refine ww_iload_n dJ5_newCapacity_6 2 rfl ?_
  refine ww_aloadQ_n dJ5_newCapacity_7 1 rfl ?_
  obtain ⟨x_4, hx, h⟩ := h
  refine wm_getI hM1 rfl in_J6 (ci := 21) rfl (by decide) 1 (Nat.le_of_ble_eq_true rfl) hx (fun _ _ => rfl) q385 (fun _ _ h => h) dJ5_newCapacity_8 ?_
  refine ww_ishl dJ5_newCapacity_11 ?_
  refine ww_istore_n (i := 3) (lv2 := [(3, vI (bL a1 x_4)), (2, vI (n_3 : Int)), (0, va_rf (some b)), (1, vI a1)]) dJ5_newCapacity_12 rfl (Nat.le_of_ble_eq_true rfl) rfl ?_
  refine ww_iload_n dJ5_newCapacity_13 0 rfl ?_
  refine ww_iload_n dJ5_newCapacity_14 1 rfl ?_
  refine ww_isub dJ5_newCapacity_15 ?_
  refine ww_nmI (fun x_5 ex_5 => ?_)
  replace h := h x_5 ex_5
  refine ww_istore (i := 4) (lv2 := [(4, vI x_5), (3, vI (bL a1 x_4)), (2, vI (n_3 : Int)), (0, va_rf (some b)), (1, vI a1)]) dJ5_newCapacity_16 (Nat.le_of_ble_eq_true rfl) rfl ?_
  refine ww_iload_n dJ5_newCapacity_18 2 rfl ?_
  refine ww_iload dJ5_newCapacity_19 0 rfl ?_
  refine ww_iload_n dJ5_newCapacity_21 2 rfl ?_
  refine ww_iconst dJ5_newCapacity_22 ?_
  refine ww_aloadQ_n dJ5_newCapacity_23 3 rfl ?_
  obtain ⟨x_6, hx, h⟩ := h
  refine wm_getI hM1 rfl in_J6 (ci := 21) rfl (by decide) 1 (Nat.le_of_ble_eq_true rfl) hx (fun _ _ => rfl) q385 (fun _ _ h => h) dJ5_newCapacity_24 ?_
  refine ww_ishl dJ5_newCapacity_27 ?_
  refine ww_iadd dJ5_newCapacity_28 ?_
  refine wm_callS (n := 3) hM1 (tm_J9_newLength h) (lw_S q462 q463 q123 q464) ⟨by decide, by decide, by decide +kernel⟩ rfl ⟨Nat.le_of_ble_eq_true rfl, Nat.le_of_ble_eq_true rfl⟩ rfl (Nat.le_of_ble_eq_true rfl) dJ5_newCapacity_29 ⟨Nat.le_refl _, Nat.le_refl _⟩ ?_
  clear h
  rintro _ _ ws ⟨rfl, y_7, rfl, h⟩ hM2
  refine ww_st1 ?_
  refine ww_istore (i := 5) (lv2 := [(5, vI y_7), (4, vI x_5), (3, vI (bL a1 x_4)), (2, vI (n_3 : Int)), (0, va_rf (some b)), (1, vI a1)]) dJ5_newCapacity_32 (Nat.le_of_ble_eq_true rfl) rfl ?_
  refine ww_iload dJ5_newCapacity_34 0 rfl ?_
  refine ww_ldc (x := 2147483647) dJ5_newCapacity_36 q472 rfl ?_
  obtain ⟨r_9, h⟩ := h
  refine ww_icmp_ne (tgt := 51) dJ5_newCapacity_38 (by decide) r_9 (by decide) (fun c => ?_) (fun c => ?_)
  · replace h := h.1 c
    refine ww_iload dJ5_newCapacity_51 0 rfl ?_
    refine ww_aloadQ_n dJ5_newCapacity_53 4 rfl ?_
    obtain ⟨x_10, hx, h⟩ := h
    refine wm_getI hM2 rfl in_J6 (ci := 21) rfl (by decide) 1 (Nat.le_of_ble_eq_true rfl) hx (fun _ _ => rfl) q385 (fun _ _ h => h) dJ5_newCapacity_54 ?_
    refine ww_ishr dJ5_newCapacity_57 ?_
    exact ww_iret (ws, μ) rfl ⟨hM2, ⟨rfl, _, rfl, h⟩⟩ rfl (Nat.le_refl _) (Nat.le_refl _) dJ5_newCapacity_58
  · replace h := h.2 c
    exact h.elim
/-! J5_ensureCapacityInternal: java/lang/AbstractStringBuilder ensureCapacityInternal (I)V; flags (True, True, False), depth 3 -/
def wc_J5_ensureCapacityInternal (ad : Nat → Nat) (mc ms : Nat) (μ : HM) (b : Nat) (a1 : Int) (P : HM → Prop) : Prop :=
  ∃ x_1 : Option Nat, gQ μ b 21 0 = some x_1 ∧
  ∃ a_2 : Nat, x_1 = some a_2 ∧
  ∃ n_3 : Nat, gL μ a_2 = some n_3 ∧
  ∃ x_4 : Int, gI μ b 21 1 = some x_4 ∧
  ∀ x_5 : Int, x_5 = bR (n_3 : Int) x_4 →
  rI (a1 - x_5) ∧
  (((a1 - x_5) ≤ 0 →
    P μ) ∧
  (0 < (a1 - x_5) →
    ∃ x_7 : Option Nat, gQ μ b 21 0 = some x_7 ∧
    gC μ b = some 21 ∧
    wc_J5_newCapacity ad μ b a1 (fun y_8 =>
      ∃ x_10 : Int, gI μ b 21 1 = some x_10 ∧
      ∃ c_11 s_12 : Nat, (0 + c_11 ≤ mc ∧ 0 + s_12 ≤ ms) ∧
      wc_J11_copyOf ad c_11 s_12 μ x_7 (bL y_8 x_10) (fun y_14 μ_16 =>
        ∃ (fi_17 : Nat → Int) (fq_18 : Nat → Option Nat), μ_16 b = some (hO 21 fi_17 fq_18) ∧ 
        P (hs μ_16 b (hO 21 fi_17 (upF fq_18 0 y_14)))))))
set_option maxHeartbeats 4000000 in
theorem tm_J5_ensureCapacityInternal {G : g_G} {l : Launch} {mc ms : Nat} {μ : HM} {b : Nat} {a1 : Int} {P : HM → Prop} (h : wc_J5_ensureCapacityInternal (g_ad G) mc ms μ b a1 P) : CM G l yJ5_ensureCapacityInternal cJ5_ensureCapacityInternal 3 (Option.none : Option Jvm.ClassFile.FieldType) 3 mc ms [.ref b, vI a1] μ (hR0 P) := by
  unfold wc_J5_ensureCapacityInternal at h
  refine wm_of (lvs := [(0, va_rf (some b)), (1, vI a1)]) (by decide) (Nat.le_of_ble_eq_true rfl) rfl (fun fr ws hM1 => ?_)
  show WW G l cJ5_ensureCapacityInternal RJ5 3 (Option.none : Option Jvm.ClassFile.FieldType) "ensureCapacityInternal" 3 mc ms (hMR G (hR0 P)) (fun u => [u.1, fr]) 0 0 [ws, fr] 0 [(0, va_rf (some b)), (1, vI a1)] []
  have hB : 0 ≤ mc ∧ 0 ≤ ms := ⟨Nat.zero_le _, Nat.zero_le _⟩
  refine ww_aloadQ_n dJ5_ensureCapacityInternal_0 0 rfl ?_
  obtain ⟨x_1, hx, h⟩ := h
  refine wm_getQ hM1 rfl in_J6 (ci := 21) rfl (by decide) 0 (Nat.le_of_ble_eq_true rfl) hx (fun _ _ => rfl) q384 (fun _ _ h => h) dJ5_ensureCapacityInternal_1 ?_
  obtain ⟨a_2, ea_2, h⟩ := h
  subst ea_2
  obtain ⟨n_3, hn, h⟩ := h
  refine wm_alen hM1 rfl hn dJ5_ensureCapacityInternal_4 ?_
  refine ww_aloadQ_n dJ5_ensureCapacityInternal_5 0 rfl ?_
  obtain ⟨x_4, hx, h⟩ := h
  refine wm_getI hM1 rfl in_J6 (ci := 21) rfl (by decide) 1 (Nat.le_of_ble_eq_true rfl) hx (fun _ _ => rfl) q385 (fun _ _ h => h) dJ5_ensureCapacityInternal_6 ?_
  refine ww_ishr dJ5_ensureCapacityInternal_9 ?_
  refine ww_nmI (fun x_5 ex_5 => ?_)
  replace h := h x_5 ex_5
  have rx_5 : rI x_5 := by rw [ex_5]; exact (rI_bR _ _)
  refine ww_istore_n (i := 2) (lv2 := [(2, vI x_5), (0, va_rf (some b)), (1, vI a1)]) dJ5_ensureCapacityInternal_10 rfl (Nat.le_of_ble_eq_true rfl) rfl ?_
  refine ww_iload_n dJ5_ensureCapacityInternal_11 2 rfl ?_
  refine ww_iload_n dJ5_ensureCapacityInternal_12 0 rfl ?_
  refine ww_isub dJ5_ensureCapacityInternal_13 ?_
  obtain ⟨r_6, h⟩ := h
  refine ww_if_le (tgt := 38) dJ5_ensureCapacityInternal_14 (by decide) r_6 (fun c => ?_) (fun c => ?_)
  · replace h := h.1 c
    exact ww_vret (ws, μ) rfl ⟨hM1, ⟨rfl, h⟩⟩ rfl hB.1 hB.2 dJ5_ensureCapacityInternal_38
  · replace h := h.2 (Int.not_le.mp c)
    refine ww_aloadQ_n dJ5_ensureCapacityInternal_17 1 rfl ?_
    refine ww_aloadQ_n dJ5_ensureCapacityInternal_18 1 rfl ?_
    obtain ⟨x_7, hx, h⟩ := h
    refine wm_getQ hM1 rfl in_J6 (ci := 21) rfl (by decide) 0 (Nat.le_of_ble_eq_true rfl) hx (fun _ _ => rfl) q384 (fun _ _ h => h) dJ5_ensureCapacityInternal_19 ?_
    refine ww_aloadQ_n dJ5_ensureCapacityInternal_22 1 rfl ?_
    refine ww_iload_n dJ5_ensureCapacityInternal_23 2 rfl ?_
    obtain ⟨hg, h⟩ := h
    refine wm_callP (n := 1) hM1 (tm_J5_newCapacity h) rfl hg rfl (nI := 4) q367 q459 q458 q2656 q460 q119 q461 ⟨by decide, by decide, by decide +kernel⟩ rfl ⟨Nat.le_of_ble_eq_true rfl, Nat.le_of_ble_eq_true rfl⟩ rfl (by simp only [List.map_cons, List.map_nil, rf_cat, vI_cat, vL_cat, List.sum_cons, List.sum_nil]; decide) dJ5_ensureCapacityInternal_24 hB ?_
    clear h
    rintro _ _ ws ⟨rfl, y_8, rfl, h⟩ hM2
    refine ww_st1 ?_
    refine ww_aloadQ_n dJ5_ensureCapacityInternal_27 1 rfl ?_
    obtain ⟨x_10, hx, h⟩ := h
    refine wm_getI hM2 rfl in_J6 (ci := 21) rfl (by decide) 1 (Nat.le_of_ble_eq_true rfl) hx (fun _ _ => rfl) q385 (fun _ _ h => h) dJ5_ensureCapacityInternal_28 ?_
    refine ww_ishl dJ5_ensureCapacityInternal_31 ?_
    obtain ⟨c_11, s_12, b_13, h⟩ := h
    refine wm_callS (n := 2) hM2 (tm_J11_copyOf h) (lw_S q473 q474 q125 q475) ⟨by decide, by decide, by decide +kernel⟩ rfl ⟨Nat.le_of_ble_eq_true rfl, Nat.le_of_ble_eq_true rfl⟩ rfl (by simp only [List.map_cons, List.map_nil, rf_cat, vI_cat, vL_cat, List.sum_cons, List.sum_nil]; decide) dJ5_ensureCapacityInternal_32 b_13 ?_
    clear h
    rintro _ μ_16 ws ⟨y_14, rfl, h⟩ hM3
    have hB := b_13
    refine ww_st1 ?_
    obtain ⟨fi_17, fq_18, hc, h⟩ := h
    refine wm_putQ hM3 rfl in_J6 tyJ6_ok nmJ6 (ci := 21) rfl 0 (Nat.le_of_ble_eq_true rfl) hc (fun _ _ => rfl) (fun _ _ => Nat.le_of_ble_eq_true rfl) q384 (fun _ _ h => h) rfl (narrow_rf rfl _) (fits_rf rfl _) dJ5_ensureCapacityInternal_35 (fun ws hM4 => ?_)
    exact ww_vret (ws, (hs μ_16 b (hO 21 fi_17 (upF fq_18 0 y_14)))) rfl ⟨hM4, ⟨rfl, h⟩⟩ rfl hB.1 hB.2 dJ5_ensureCapacityInternal_38
/-! J5_isLatin1: java/lang/AbstractStringBuilder isLatin1 ()Z; flags (False, False, False), depth 0 -/
def wc_J5_isLatin1 (ad : Nat → Nat) (μ : HM) (b : Nat) (P : Int → Prop) : Prop :=
  (((1 : Int) = 0 →
    P 0) ∧
  (¬ (1 : Int) = 0 →
    ∃ x_1 : Int, gI μ b 21 1 = some x_1 ∧
    rI x_1 ∧
    ((¬ x_1 = 0 →
      P 0) ∧
    (x_1 = 0 →
      P 1))))
set_option maxHeartbeats 4000000 in
theorem tm_J5_isLatin1 {G : g_G} {l : Launch} {μ : HM} {b : Nat} {P : Int → Prop} (h : wc_J5_isLatin1 (g_ad G) μ b P) : CM G l yJ5_isLatin1 cJ5_isLatin1 1 (Option.some Jvm.ClassFile.FieldType.boolean) 0 0 0 [.ref b] μ (hN2 μ P) := by
  unfold wc_J5_isLatin1 at h
  refine wm_of (lvs := [(0, va_rf (some b))]) (by decide) (Nat.le_of_ble_eq_true rfl) rfl (fun fr ws hM1 => ?_)
  show WW G l cJ5_isLatin1 RJ5 1 (Option.some Jvm.ClassFile.FieldType.boolean) "isLatin1" 0 0 0 (hMR G (hN2 μ P)) (fun u => [u.1, fr]) 0 0 [ws, fr] 0 [(0, va_rf (some b))] []
  refine wm_getsI (C := "java/lang/String") (x := 1) (by decide) q375 (fun _ _ h => h) dJ5_isLatin1_0 ?_
  refine ww_eq rfl rfl (show _ = vI 1 :: _ from rfl) ?_
  refine ww_if_eq (tgt := 17) dJ5_isLatin1_3 (by decide) (by decide) (fun c => ?_) (fun c => ?_)
  · replace h := h.1 c
    refine ww_iconst dJ5_isLatin1_17 ?_
    exact ww_zret (ws, μ) rfl (Or.inl rfl) ⟨hM1, ⟨rfl, _, rfl, Or.inl rfl, h⟩⟩ rfl (Nat.le_refl _) (Nat.le_refl _) dJ5_isLatin1_18
  · replace h := h.2 c
    refine ww_aloadQ_n dJ5_isLatin1_6 0 rfl ?_
    obtain ⟨x_1, hx, h⟩ := h
    refine wm_getI hM1 rfl in_J6 (ci := 21) rfl (by decide) 1 (Nat.le_of_ble_eq_true rfl) hx (fun _ _ => rfl) q385 (fun _ _ h => h) dJ5_isLatin1_7 ?_
    obtain ⟨r_2, h⟩ := h
    refine ww_if_ne (tgt := 17) dJ5_isLatin1_10 (by decide) r_2 (fun c => ?_) (fun c => ?_)
    · replace h := h.1 c
      refine ww_iconst dJ5_isLatin1_17 ?_
      exact ww_zret (ws, μ) rfl (Or.inl rfl) ⟨hM1, ⟨rfl, _, rfl, Or.inl rfl, h⟩⟩ rfl (Nat.le_refl _) (Nat.le_refl _) dJ5_isLatin1_18
    · replace h := h.2 c
      refine ww_iconst dJ5_isLatin1_13 ?_
      refine ww_goto (tgt := 18) dJ5_isLatin1_14 (by decide) ?_
      exact ww_zret (ws, μ) rfl (Or.inr rfl) ⟨hM1, ⟨rfl, _, rfl, Or.inr rfl, h⟩⟩ rfl (Nat.le_refl _) (Nat.le_refl _) dJ5_isLatin1_18
/-! J5_append: java/lang/AbstractStringBuilder append (C)Ljava/lang/AbstractStringBuilder;; flags (True, True, False), depth 4 -/
def wc_J5_append (ad : Nat → Nat) (mc ms : Nat) (μ : HM) (b : Nat) (a1 : Int) (P : Option Nat → HM → Prop) : Prop :=
  ∃ x_1 : Int, gI μ b 21 3 = some x_1 ∧
  gC μ b = some 21 ∧
  ∃ c_2 s_3 : Nat, (0 + c_2 ≤ mc ∧ 0 + s_3 ≤ ms) ∧
  wc_J5_ensureCapacityInternal ad c_2 s_3 μ b (x_1 + 1) (fun μ_5 =>
    gC μ_5 b = some 21 ∧
    wc_J5_isLatin1 ad μ_5 b (fun y_6 =>
      ∃ J45 : Prop, (J45 →
        gC μ_5 b = some 21 ∧
        wc_J5_isLatin1 ad μ_5 b (fun y_8 =>
          ((y_8 = 0 →
            ∃ x_10 : Option Nat, gQ μ_5 b 21 0 = some x_10 ∧
            ∃ x_11 : Int, gI μ_5 b 21 3 = some x_11 ∧
            ∃ (fi_12 : Nat → Int) (fq_13 : Nat → Option Nat), μ_5 b = some (hO 21 fi_12 fq_13) ∧ 
            False) ∧
          (¬ y_8 = 0 →
            False)))) ∧
      ((y_6 = 0 →
        J45) ∧
      (¬ y_6 = 0 →
        wc_J12_canEncode ad μ_5 a1 (fun y_14 =>
          ((y_14 = 0 →
            J45) ∧
          (¬ y_14 = 0 →
            ∃ x_16 : Option Nat, gQ μ_5 b 21 0 = some x_16 ∧
            ∃ x_17 : Int, gI μ_5 b 21 3 = some x_17 ∧
            ∃ (fi_18 : Nat → Int) (fq_19 : Nat → Option Nat), μ_5 b = some (hO 21 fi_18 fq_19) ∧ 
            ∃ a_20 : Nat, x_16 = some a_20 ∧
            ∃ (n_21 : Nat) (f_22 : Int → Int), (hs μ_5 b (hO 21 (upF fi_18 3 (x_17 + 1)) fq_19)) a_20 = some (hA 2 n_21 f_22) ∧ ((0 : Int) ≤ x_17 ∧ x_17 < (n_21 : Int) ∧ (n_21 : Int) < 2147483648) ∧ (-128 ≤ a1.bmod 256 ∧ a1.bmod 256 < 128) ∧ 
            P (some b) (hs (hs μ_5 b (hO 21 (upF fi_18 3 (x_17 + 1)) fq_19)) a_20 (hA 2 n_21 (updI f_22 x_17 (a1.bmod 256)))))))))))
set_option maxHeartbeats 4000000 in
theorem tm_J5_append {G : g_G} {l : Launch} {mc ms : Nat} {μ : HM} {b : Nat} {a1 : Int} {P : Option Nat → HM → Prop} (h : wc_J5_append (g_ad G) mc ms μ b a1 P) : CM G l yJ5_append cJ5_append 2 (Option.some (Jvm.ClassFile.FieldType.object "java/lang/AbstractStringBuilder")) 4 mc ms [.ref b, vI a1] μ (hR4 P) := by
  unfold wc_J5_append at h
  refine wm_of (lvs := [(0, va_rf (some b)), (1, vI a1)]) (by decide) (Nat.le_of_ble_eq_true rfl) rfl (fun fr ws hM1 => ?_)
  show WW G l cJ5_append RJ5 2 (Option.some (Jvm.ClassFile.FieldType.object "java/lang/AbstractStringBuilder")) "append" 4 mc ms (hMR G (hR4 P)) (fun u => [u.1, fr]) 0 0 [ws, fr] 0 [(0, va_rf (some b)), (1, vI a1)] []
  have hB : 0 ≤ mc ∧ 0 ≤ ms := ⟨Nat.zero_le _, Nat.zero_le _⟩
  refine ww_aloadQ_n dJ5_append_0 0 rfl ?_
  refine ww_aloadQ_n dJ5_append_1 0 rfl ?_
  obtain ⟨x_1, hx, h⟩ := h
  refine wm_getI hM1 rfl in_J6 (ci := 21) rfl (by decide) 3 (Nat.le_of_ble_eq_true rfl) hx (fun _ _ => rfl) q388 (fun _ _ h => h) dJ5_append_2 ?_
  refine ww_iconst dJ5_append_5 ?_
  refine ww_iadd dJ5_append_6 ?_
  obtain ⟨hg, h⟩ := h
  obtain ⟨c_2, s_3, b_4, h⟩ := h
  refine wm_callP (n := 1) hM1 (tm_J5_ensureCapacityInternal h) rfl hg rfl (nI := 4) q367 q455 q454 q2655 q456 q119 q457 ⟨by decide, by decide, by decide +kernel⟩ rfl ⟨Nat.le_of_ble_eq_true rfl, Nat.le_of_ble_eq_true rfl⟩ rfl (Nat.le_of_ble_eq_true rfl) dJ5_append_7 b_4 ?_
  clear h
  rintro _ μ_5 ws ⟨rfl, h⟩ hM2
  have hB := b_4
  refine ww_st0 ?_
  refine ww_aloadQ_n dJ5_append_10 0 rfl ?_
  obtain ⟨hg, h⟩ := h
  refine wm_callU (n := 0) hM2 (tm_J5_isLatin1 h) rfl hg rfl (lw_U q489 q491 q492 q490 q119 q493) rfl ⟨by decide, by decide, by decide +kernel⟩ rfl ⟨Nat.le_of_ble_eq_true rfl, Nat.le_of_ble_eq_true rfl⟩ rfl (Nat.le_of_ble_eq_true rfl) dJ5_append_11 hB ?_
  clear h
  rintro _ _ ws ⟨rfl, y_6, rfl, z_7, h⟩ hM3
  refine ww_st1 ?_
  obtain ⟨J45, hJ45, h⟩ := h
  have kJ45 : J45 → ∀ ws : va_W, Mrep G ws μ_5 → (0 + c_2 ≤ mc ∧ 0 + s_3 ≤ ms) → WW G l cJ5_append RJ5 2 (Option.some (Jvm.ClassFile.FieldType.object "java/lang/AbstractStringBuilder")) "append" 4 mc ms (hMR G (hR4 P)) (fun u => [u.1, fr]) (0 + c_2) (0 + s_3) [ws, fr] 45 [(0, va_rf (some b)), (1, vI a1)] [] := by
    clear h
    intro hj ws hM4 hB
    have h := hJ45 hj
    refine ww_aloadQ_n dJ5_append_45 0 rfl ?_
    obtain ⟨hg, h⟩ := h
    refine wm_callU (n := 0) hM4 (tm_J5_isLatin1 h) rfl hg rfl (lw_U q489 q491 q492 q490 q119 q493) rfl ⟨by decide, by decide, by decide +kernel⟩ rfl ⟨Nat.le_of_ble_eq_true rfl, Nat.le_of_ble_eq_true rfl⟩ rfl (Nat.le_of_ble_eq_true rfl) dJ5_append_46 hB ?_
    clear h
    rintro _ _ ws ⟨rfl, y_8, rfl, z_9, h⟩ hM5
    refine ww_st1 ?_
    refine ww_if_eq (tgt := 56) dJ5_append_49 (by decide) (r_z z_9) (fun c => ?_) (fun c => ?_)
    · replace h := h.1 c
      refine ww_aloadQ_n dJ5_append_56 0 rfl ?_
      obtain ⟨x_10, hx, h⟩ := h
      refine wm_getQ hM5 rfl in_J6 (ci := 21) rfl (by decide) 0 (Nat.le_of_ble_eq_true rfl) hx (fun _ _ => rfl) q384 (fun _ _ h => h) dJ5_append_57 ?_
      refine ww_aloadQ_n dJ5_append_60 0 rfl ?_
      refine ww_dup dJ5_append_61 (rf_cat _) ?_
      obtain ⟨x_11, hx, h⟩ := h
      refine wm_getI hM5 rfl in_J6 (ci := 21) rfl (by decide) 3 (Nat.le_of_ble_eq_true rfl) hx (fun _ _ => rfl) q388 (fun _ _ h => h) dJ5_append_62 ?_
      refine ww_dup_x1 dJ5_append_65 rfl (rf_cat _) ?_
      refine ww_iconst dJ5_append_66 ?_
      refine ww_iadd dJ5_append_67 ?_
      obtain ⟨fi_12, fq_13, hc, h⟩ := h
      refine wm_putI hM5 rfl in_J6 tyJ6_ok nmJ6 (ci := 21) rfl 3 (Nat.le_of_ble_eq_true rfl) hc (fun _ _ => rfl) (fun _ _ => Nat.le_of_ble_eq_true rfl) q388 (fun _ _ h => h) rfl rfl rfl dJ5_append_68 (fun ws hM6 => ?_)
      refine ww_iload_n dJ5_append_71 1 rfl ?_
      exact h.elim
    · replace h := h.2 c
      refine ww_aloadQ_n dJ5_append_52 0 rfl ?_
      exact h.elim
  refine ww_if_eq (tgt := 45) dJ5_append_14 (by decide) (r_z z_7) (fun c => ?_) (fun c => ?_)
  · replace h := h.1 c
    exact kJ45 h _ hM3 hB
  · replace h := h.2 c
    refine ww_iload_n dJ5_append_17 1 rfl ?_
    refine wm_callS (n := 1) hM3 (tm_J12_canEncode h) (lw_S q517 q518 q127 q519) ⟨by decide, by decide, by decide +kernel⟩ rfl ⟨Nat.le_of_ble_eq_true rfl, Nat.le_of_ble_eq_true rfl⟩ rfl (Nat.le_of_ble_eq_true rfl) dJ5_append_18 hB ?_
    clear h
    rintro _ _ ws ⟨rfl, y_14, rfl, z_15, h⟩ hM7
    refine ww_st1 ?_
    refine ww_if_eq (tgt := 45) dJ5_append_21 (by decide) (r_z z_15) (fun c => ?_) (fun c => ?_)
    · replace h := h.1 c
      exact kJ45 h _ hM7 hB
    · replace h := h.2 c
      refine ww_aloadQ_n dJ5_append_24 0 rfl ?_
      obtain ⟨x_16, hx, h⟩ := h
      refine wm_getQ hM7 rfl in_J6 (ci := 21) rfl (by decide) 0 (Nat.le_of_ble_eq_true rfl) hx (fun _ _ => rfl) q384 (fun _ _ h => h) dJ5_append_25 ?_
      refine ww_aloadQ_n dJ5_append_28 0 rfl ?_
      refine ww_dup dJ5_append_29 (rf_cat _) ?_
      obtain ⟨x_17, hx, h⟩ := h
      refine wm_getI hM7 rfl in_J6 (ci := 21) rfl (by decide) 3 (Nat.le_of_ble_eq_true rfl) hx (fun _ _ => rfl) q388 (fun _ _ h => h) dJ5_append_30 ?_
      refine ww_dup_x1 dJ5_append_33 rfl (rf_cat _) ?_
      refine ww_iconst dJ5_append_34 ?_
      refine ww_iadd dJ5_append_35 ?_
      obtain ⟨fi_18, fq_19, hc, h⟩ := h
      refine wm_putI hM7 rfl in_J6 tyJ6_ok nmJ6 (ci := 21) rfl 3 (Nat.le_of_ble_eq_true rfl) hc (fun _ _ => rfl) (fun _ _ => Nat.le_of_ble_eq_true rfl) q388 (fun _ _ h => h) rfl rfl rfl dJ5_append_36 (fun ws hM8 => ?_)
      refine ww_iload_n dJ5_append_39 1 rfl ?_
      refine ww_i2b dJ5_append_40 ?_
      obtain ⟨a_20, ea_20, h⟩ := h
      subst ea_20
      obtain ⟨n_21, f_22, hc, hi, hx, h⟩ := h
      refine wm_bast hM8 rfl hc hi.1 hi.2.1 hi.2.2 hx dJ5_append_41 (fun ws hM9 => ?_)
      refine ww_goto (tgt := 75) dJ5_append_42 (by decide) ?_
      refine ww_aloadQ_n dJ5_append_75 0 rfl ?_
      exact ww_aret (ws, (hs (hs μ_5 b (hO 21 (upF fi_18 3 (x_17 + 1)) fq_19)) a_20 (hA 2 n_21 (updI f_22 x_17 (a1.bmod 256))))) rfl (by first | exact Or.inl ⟨_, rfl⟩ | exact Or.inr ⟨_, rfl⟩) (rf_or _) ⟨hM9, ⟨_, rfl, h⟩⟩ rfl hB.1 hB.2 dJ5_append_76
/-! J6_append: java/lang/StringBuilder append (C)Ljava/lang/StringBuilder;; flags (True, True, False), depth 5 -/
def wc_J6_append (ad : Nat → Nat) (mc ms : Nat) (μ : HM) (b : Nat) (a1 : Int) (P : Option Nat → HM → Prop) : Prop :=
  gC μ b = some 21 ∧
  ∃ c_1 s_2 : Nat, (0 + c_1 ≤ mc ∧ 0 + s_2 ≤ ms) ∧
  wc_J5_append ad c_1 s_2 μ b a1 (fun y_4 μ_6 =>
    P (some b) μ_6)
set_option maxHeartbeats 4000000 in
theorem tm_J6_append {G : g_G} {l : Launch} {mc ms : Nat} {μ : HM} {b : Nat} {a1 : Int} {P : Option Nat → HM → Prop} (h : wc_J6_append (g_ad G) mc ms μ b a1 P) : CM G l yJ6_append cJ6_append 2 (Option.some (Jvm.ClassFile.FieldType.object "java/lang/StringBuilder")) 5 mc ms [.ref b, vI a1] μ (hR4 P) := by
  unfold wc_J6_append at h
  refine wm_of (lvs := [(0, va_rf (some b)), (1, vI a1)]) (by decide) (Nat.le_of_ble_eq_true rfl) rfl (fun fr ws hM1 => ?_)
  show WW G l cJ6_append RJ6 2 (Option.some (Jvm.ClassFile.FieldType.object "java/lang/StringBuilder")) "append" 5 mc ms (hMR G (hR4 P)) (fun u => [u.1, fr]) 0 0 [ws, fr] 0 [(0, va_rf (some b)), (1, vI a1)] []
  have hB : 0 ≤ mc ∧ 0 ≤ ms := ⟨Nat.zero_le _, Nat.zero_le _⟩
  refine ww_aloadQ_n dJ6_append_0 0 rfl ?_
  refine ww_iload_n dJ6_append_1 1 rfl ?_
  obtain ⟨hg, h⟩ := h
  obtain ⟨c_1, s_2, b_3, h⟩ := h
  refine wm_callSU (n := 1) hM1 (tm_J5_append h) rfl hg rfl (lw_SU q514 q2657 q397 q515 q119 q516) ⟨by decide, by decide +kernel⟩ rfl ⟨Nat.le_of_ble_eq_true rfl, Nat.le_of_ble_eq_true rfl⟩ rfl (Nat.le_of_ble_eq_true rfl) dJ6_append_2 b_3 ?_
  clear h
  rintro _ μ_6 ws ⟨y_4, rfl, h⟩ hM2
  have hB := b_3
  refine ww_st1 ?_
  refine ww_pop dJ6_append_5 (rf_cat _) ?_
  refine ww_aloadQ_n dJ6_append_6 0 rfl ?_
  exact ww_aret (ws, μ_6) rfl (by first | exact Or.inl ⟨_, rfl⟩ | exact Or.inr ⟨_, rfl⟩) (rf_or _) ⟨hM2, ⟨_, rfl, h⟩⟩ rfl hB.1 hB.2 dJ6_append_7
/-! J5_length: java/lang/AbstractStringBuilder length ()I; flags (False, False, False), depth 0 -/
def wc_J5_length (ad : Nat → Nat) (μ : HM) (b : Nat) (P : Int → Prop) : Prop :=
  ∃ x_1 : Int, gI μ b 21 3 = some x_1 ∧
  P x_1
set_option maxHeartbeats 4000000 in
theorem tm_J5_length {G : g_G} {l : Launch} {μ : HM} {b : Nat} {P : Int → Prop} (h : wc_J5_length (g_ad G) μ b P) : CM G l yJ5_length cJ5_length 1 (Option.some Jvm.ClassFile.FieldType.int) 0 0 0 [.ref b] μ (hN1 μ P) := by
  unfold wc_J5_length at h
  refine wm_of (lvs := [(0, va_rf (some b))]) (by decide) (Nat.le_of_ble_eq_true rfl) rfl (fun fr ws hM1 => ?_)
  show WW G l cJ5_length RJ5 1 (Option.some Jvm.ClassFile.FieldType.int) "length" 0 0 0 (hMR G (hN1 μ P)) (fun u => [u.1, fr]) 0 0 [ws, fr] 0 [(0, va_rf (some b))] []
  refine ww_aloadQ_n dJ5_length_0 0 rfl ?_
  obtain ⟨x_1, hx, h⟩ := h
  refine wm_getI hM1 rfl in_J6 (ci := 21) rfl (by decide) 3 (Nat.le_of_ble_eq_true rfl) hx (fun _ _ => rfl) q388 (fun _ _ h => h) dJ5_length_1 ?_
  exact ww_iret (ws, μ) rfl ⟨hM1, ⟨rfl, _, rfl, h⟩⟩ rfl (Nat.le_refl _) (Nat.le_refl _) dJ5_length_4
/-! J6_length: java/lang/StringBuilder length ()I; flags (False, False, False), depth 1 -/
def wc_J6_length (ad : Nat → Nat) (μ : HM) (b : Nat) (P : Int → Prop) : Prop :=
  gC μ b = some 21 ∧
  wc_J5_length ad μ b (fun y_1 =>
    P y_1)
set_option maxHeartbeats 4000000 in
theorem tm_J6_length {G : g_G} {l : Launch} {μ : HM} {b : Nat} {P : Int → Prop} (h : wc_J6_length (g_ad G) μ b P) : CM G l yJ6_length cJ6_length 1 (Option.some Jvm.ClassFile.FieldType.int) 1 0 0 [.ref b] μ (hN1 μ P) := by
  unfold wc_J6_length at h
  refine wm_of (lvs := [(0, va_rf (some b))]) (by decide) (Nat.le_of_ble_eq_true rfl) rfl (fun fr ws hM1 => ?_)
  show WW G l cJ6_length RJ6 1 (Option.some Jvm.ClassFile.FieldType.int) "length" 1 0 0 (hMR G (hN1 μ P)) (fun u => [u.1, fr]) 0 0 [ws, fr] 0 [(0, va_rf (some b))] []
  refine ww_aloadQ_n dJ6_length_0 0 rfl ?_
  obtain ⟨hg, h⟩ := h
  refine wm_callSU (n := 0) hM1 (tm_J5_length h) rfl hg rfl (lw_SU q569 q2659 q397 q570 q119 q571) ⟨by decide, by decide +kernel⟩ rfl ⟨Nat.le_of_ble_eq_true rfl, Nat.le_of_ble_eq_true rfl⟩ rfl (Nat.le_of_ble_eq_true rfl) dJ6_length_1 ⟨Nat.le_refl _, Nat.le_refl _⟩ ?_
  clear h
  rintro _ _ ws ⟨rfl, y_1, rfl, h⟩ hM2
  refine ww_st1 ?_
  exact ww_iret (ws, μ) rfl ⟨hM2, ⟨rfl, _, rfl, h⟩⟩ rfl (Nat.le_refl _) (Nat.le_refl _) dJ6_length_4
/-! J5_setLength: java/lang/AbstractStringBuilder setLength (I)V; flags (True, True, False), depth 4 -/
def wc_J5_setLength (ad : Nat → Nat) (mc ms : Nat) (μ : HM) (b : Nat) (a1 : Int) (P : HM → Prop) : Prop :=
  rI a1 ∧
  ((0 ≤ a1 →
    gC μ b = some 21 ∧
    ∃ c_2 s_3 : Nat, (0 + c_2 ≤ mc ∧ 0 + s_3 ≤ ms) ∧
    wc_J5_ensureCapacityInternal ad c_2 s_3 μ b a1 (fun μ_5 =>
      ∃ x_6 : Int, gI μ_5 b 21 3 = some x_6 ∧
      rI x_6 ∧
      rI a1 ∧
      ((a1 ≤ x_6 →
        ∃ x_9 : Int, gI μ_5 b 21 3 = some x_9 ∧
        rI x_9 ∧
        rI a1 ∧
        ((x_9 ≤ a1 →
          ∃ (fi_12 : Nat → Int) (fq_13 : Nat → Option Nat), μ_5 b = some (hO 21 fi_12 fq_13) ∧ 
          P (hs μ_5 b (hO 21 (upF fi_12 3 a1) fq_13))) ∧
        (a1 < x_9 →
          ∃ (fi_14 : Nat → Int) (fq_15 : Nat → Option Nat), μ_5 b = some (hO 21 fi_14 fq_15) ∧ 
          ∃ (fi_16 : Nat → Int) (fq_17 : Nat → Option Nat), (hs μ_5 b (hO 21 (upF fi_14 2 1) fq_15)) b = some (hO 21 fi_16 fq_17) ∧ 
          P (hs (hs μ_5 b (hO 21 (upF fi_14 2 1) fq_15)) b (hO 21 (upF fi_16 3 a1) fq_17))))) ∧
      (x_6 < a1 →
        gC μ_5 b = some 21 ∧
        wc_J5_isLatin1 ad μ_5 b (fun y_18 =>
          ((y_18 = 0 →
            ∃ x_20 : Option Nat, gQ μ_5 b 21 0 = some x_20 ∧
            ∃ x_21 : Int, gI μ_5 b 21 3 = some x_21 ∧
            False) ∧
          (¬ y_18 = 0 →
            ∃ x_22 : Option Nat, gQ μ_5 b 21 0 = some x_22 ∧
            ∃ x_23 : Int, gI μ_5 b 21 3 = some x_23 ∧
            False))))))) ∧
  (a1 < 0 →
    False))
set_option maxHeartbeats 4000000 in
theorem tm_J5_setLength {G : g_G} {l : Launch} {mc ms : Nat} {μ : HM} {b : Nat} {a1 : Int} {P : HM → Prop} (h : wc_J5_setLength (g_ad G) mc ms μ b a1 P) : CM G l yJ5_setLength cJ5_setLength 2 (Option.none : Option Jvm.ClassFile.FieldType) 4 mc ms [.ref b, vI a1] μ (hR0 P) := by
  unfold wc_J5_setLength at h
  refine wm_of (lvs := [(0, va_rf (some b)), (1, vI a1)]) (by decide) (Nat.le_of_ble_eq_true rfl) rfl (fun fr ws hM1 => ?_)
  show WW G l cJ5_setLength RJ5 2 (Option.none : Option Jvm.ClassFile.FieldType) "setLength" 4 mc ms (hMR G (hR0 P)) (fun u => [u.1, fr]) 0 0 [ws, fr] 0 [(0, va_rf (some b)), (1, vI a1)] []
  have hB : 0 ≤ mc ∧ 0 ≤ ms := ⟨Nat.zero_le _, Nat.zero_le _⟩
  refine ww_iload_n dJ5_setLength_0 1 rfl ?_
  obtain ⟨r_1, h⟩ := h
  refine ww_if_ge (tgt := 13) dJ5_setLength_1 (by decide) r_1 (fun c => ?_) (fun c => ?_)
  · replace h := h.1 c
    refine ww_aloadQ_n dJ5_setLength_13 0 rfl ?_
    refine ww_iload_n dJ5_setLength_14 1 rfl ?_
    obtain ⟨hg, h⟩ := h
    obtain ⟨c_2, s_3, b_4, h⟩ := h
    refine wm_callP (n := 1) hM1 (tm_J5_ensureCapacityInternal h) rfl hg rfl (nI := 4) q367 q455 q454 q2655 q456 q119 q457 ⟨by decide, by decide, by decide +kernel⟩ rfl ⟨Nat.le_of_ble_eq_true rfl, Nat.le_of_ble_eq_true rfl⟩ rfl (Nat.le_of_ble_eq_true rfl) dJ5_setLength_15 b_4 ?_
    clear h
    rintro _ μ_5 ws ⟨rfl, h⟩ hM2
    have hB := b_4
    refine ww_st0 ?_
    refine ww_aloadQ_n dJ5_setLength_18 0 rfl ?_
    obtain ⟨x_6, hx, h⟩ := h
    refine wm_getI hM2 rfl in_J6 (ci := 21) rfl (by decide) 3 (Nat.le_of_ble_eq_true rfl) hx (fun _ _ => rfl) q388 (fun _ _ h => h) dJ5_setLength_19 ?_
    refine ww_iload_n dJ5_setLength_22 1 rfl ?_
    obtain ⟨r_7, r_8, h⟩ := h
    refine ww_icmp_ge (tgt := 63) dJ5_setLength_23 (by decide) r_7 r_8 (fun c => ?_) (fun c => ?_)
    · replace h := h.1 c
      refine ww_aloadQ_n dJ5_setLength_63 0 rfl ?_
      obtain ⟨x_9, hx, h⟩ := h
      refine wm_getI hM2 rfl in_J6 (ci := 21) rfl (by decide) 3 (Nat.le_of_ble_eq_true rfl) hx (fun _ _ => rfl) q388 (fun _ _ h => h) dJ5_setLength_64 ?_
      refine ww_iload_n dJ5_setLength_67 1 rfl ?_
      obtain ⟨r_10, r_11, h⟩ := h
      refine ww_icmp_le (tgt := 76) dJ5_setLength_68 (by decide) r_10 r_11 (fun c => ?_) (fun c => ?_)
      · replace h := h.1 c
        refine ww_aloadQ_n dJ5_setLength_76 0 rfl ?_
        refine ww_iload_n dJ5_setLength_77 1 rfl ?_
        obtain ⟨fi_12, fq_13, hc, h⟩ := h
        refine wm_putI hM2 rfl in_J6 tyJ6_ok nmJ6 (ci := 21) rfl 3 (Nat.le_of_ble_eq_true rfl) hc (fun _ _ => rfl) (fun _ _ => Nat.le_of_ble_eq_true rfl) q388 (fun _ _ h => h) rfl rfl rfl dJ5_setLength_78 (fun ws hM3 => ?_)
        exact ww_vret (ws, (hs μ_5 b (hO 21 (upF fi_12 3 a1) fq_13))) rfl ⟨hM3, ⟨rfl, h⟩⟩ rfl hB.1 hB.2 dJ5_setLength_81
      · replace h := h.2 (Int.not_le.mp c)
        refine ww_aloadQ_n dJ5_setLength_71 0 rfl ?_
        refine ww_iconst dJ5_setLength_72 ?_
        obtain ⟨fi_14, fq_15, hc, h⟩ := h
        refine wm_putI hM2 rfl in_J6 tyJ6_ok nmJ6 (ci := 21) rfl 2 (Nat.le_of_ble_eq_true rfl) hc (fun _ _ => rfl) (fun _ _ => Nat.le_of_ble_eq_true rfl) q386 (fun _ _ h => h) rfl rfl rfl dJ5_setLength_73 (fun ws hM4 => ?_)
        refine ww_aloadQ_n dJ5_setLength_76 0 rfl ?_
        refine ww_iload_n dJ5_setLength_77 1 rfl ?_
        obtain ⟨fi_16, fq_17, hc, h⟩ := h
        refine wm_putI hM4 rfl in_J6 tyJ6_ok nmJ6 (ci := 21) rfl 3 (Nat.le_of_ble_eq_true rfl) hc (fun _ _ => rfl) (fun _ _ => Nat.le_of_ble_eq_true rfl) q388 (fun _ _ h => h) rfl rfl rfl dJ5_setLength_78 (fun ws hM5 => ?_)
        exact ww_vret (ws, (hs (hs μ_5 b (hO 21 (upF fi_14 2 1) fq_15)) b (hO 21 (upF fi_16 3 a1) fq_17))) rfl ⟨hM5, ⟨rfl, h⟩⟩ rfl hB.1 hB.2 dJ5_setLength_81
    · replace h := h.2 (Int.not_le.mp c)
      refine ww_aloadQ_n dJ5_setLength_26 0 rfl ?_
      obtain ⟨hg, h⟩ := h
      refine wm_callU (n := 0) hM2 (tm_J5_isLatin1 h) rfl hg rfl (lw_U q489 q491 q492 q490 q119 q493) rfl ⟨by decide, by decide, by decide +kernel⟩ rfl ⟨Nat.le_of_ble_eq_true rfl, Nat.le_of_ble_eq_true rfl⟩ rfl (Nat.le_of_ble_eq_true rfl) dJ5_setLength_27 hB ?_
      clear h
      rintro _ _ ws ⟨rfl, y_18, rfl, z_19, h⟩ hM6
      refine ww_st1 ?_
      refine ww_if_eq (tgt := 48) dJ5_setLength_30 (by decide) (r_z z_19) (fun c => ?_) (fun c => ?_)
      · replace h := h.1 c
        refine ww_aloadQ_n dJ5_setLength_48 0 rfl ?_
        obtain ⟨x_20, hx, h⟩ := h
        refine wm_getQ hM6 rfl in_J6 (ci := 21) rfl (by decide) 0 (Nat.le_of_ble_eq_true rfl) hx (fun _ _ => rfl) q384 (fun _ _ h => h) dJ5_setLength_49 ?_
        refine ww_aloadQ_n dJ5_setLength_52 0 rfl ?_
        obtain ⟨x_21, hx, h⟩ := h
        refine wm_getI hM6 rfl in_J6 (ci := 21) rfl (by decide) 3 (Nat.le_of_ble_eq_true rfl) hx (fun _ _ => rfl) q388 (fun _ _ h => h) dJ5_setLength_53 ?_
        refine ww_iload_n dJ5_setLength_56 1 rfl ?_
        exact h.elim
      · replace h := h.2 c
        refine ww_aloadQ_n dJ5_setLength_33 0 rfl ?_
        obtain ⟨x_22, hx, h⟩ := h
        refine wm_getQ hM6 rfl in_J6 (ci := 21) rfl (by decide) 0 (Nat.le_of_ble_eq_true rfl) hx (fun _ _ => rfl) q384 (fun _ _ h => h) dJ5_setLength_34 ?_
        refine ww_aloadQ_n dJ5_setLength_37 0 rfl ?_
        obtain ⟨x_23, hx, h⟩ := h
        refine wm_getI hM6 rfl in_J6 (ci := 21) rfl (by decide) 3 (Nat.le_of_ble_eq_true rfl) hx (fun _ _ => rfl) q388 (fun _ _ h => h) dJ5_setLength_38 ?_
        refine ww_iload_n dJ5_setLength_41 1 rfl ?_
        exact h.elim
  · replace h := h.2 (Int.not_le.mp c)
    exact h.elim
/-! J6_setLength: java/lang/StringBuilder setLength (I)V; flags (True, True, False), depth 5 -/
def wc_J6_setLength (ad : Nat → Nat) (mc ms : Nat) (μ : HM) (b : Nat) (a1 : Int) (P : HM → Prop) : Prop :=
  gC μ b = some 21 ∧
  ∃ c_1 s_2 : Nat, (0 + c_1 ≤ mc ∧ 0 + s_2 ≤ ms) ∧
  wc_J5_setLength ad c_1 s_2 μ b a1 (fun μ_4 =>
    P μ_4)
set_option maxHeartbeats 4000000 in
theorem tm_J6_setLength {G : g_G} {l : Launch} {mc ms : Nat} {μ : HM} {b : Nat} {a1 : Int} {P : HM → Prop} (h : wc_J6_setLength (g_ad G) mc ms μ b a1 P) : CM G l yJ6_setLength cJ6_setLength 2 (Option.none : Option Jvm.ClassFile.FieldType) 5 mc ms [.ref b, vI a1] μ (hR0 P) := by
  unfold wc_J6_setLength at h
  refine wm_of (lvs := [(0, va_rf (some b)), (1, vI a1)]) (by decide) (Nat.le_of_ble_eq_true rfl) rfl (fun fr ws hM1 => ?_)
  show WW G l cJ6_setLength RJ6 2 (Option.none : Option Jvm.ClassFile.FieldType) "setLength" 5 mc ms (hMR G (hR0 P)) (fun u => [u.1, fr]) 0 0 [ws, fr] 0 [(0, va_rf (some b)), (1, vI a1)] []
  have hB : 0 ≤ mc ∧ 0 ≤ ms := ⟨Nat.zero_le _, Nat.zero_le _⟩
  refine ww_aloadQ_n dJ6_setLength_0 0 rfl ?_
  refine ww_iload_n dJ6_setLength_1 1 rfl ?_
  obtain ⟨hg, h⟩ := h
  obtain ⟨c_1, s_2, b_3, h⟩ := h
  refine wm_callSU (n := 1) hM1 (tm_J5_setLength h) rfl hg rfl (lw_SU q451 q2654 q397 q452 q119 q453) ⟨by decide, by decide +kernel⟩ rfl ⟨Nat.le_of_ble_eq_true rfl, Nat.le_of_ble_eq_true rfl⟩ rfl (Nat.le_of_ble_eq_true rfl) dJ6_setLength_2 b_3 ?_
  clear h
  rintro _ μ_4 ws ⟨rfl, h⟩ hM2
  have hB := b_3
  refine ww_st0 ?_
  exact ww_vret (ws, μ_4) rfl ⟨hM2, ⟨rfl, h⟩⟩ rfl hB.1 hB.2 dJ6_setLength_5
/-! J11_checkLength: java/util/Arrays checkLength (II)V; flags (False, False, False), depth 0 -/
def wc_J11_checkLength (ad : Nat → Nat) (μ : HM) (a1 : Int) (a2 : Int) (P : Prop) : Prop :=
  rI a2 ∧
  rI a1 ∧
  ((a1 ≤ a2 →
    P) ∧
  (a2 < a1 →
    False))
set_option maxHeartbeats 4000000 in
theorem tm_J11_checkLength {G : g_G} {l : Launch} {μ : HM} {a1 : Int} {a2 : Int} {P : Prop} (h : wc_J11_checkLength (g_ad G) μ a1 a2 P) : CM G l yJ11_checkLength cJ11_checkLength 2 (Option.none : Option Jvm.ClassFile.FieldType) 0 0 0 [vI a1, vI a2] μ (hN0 μ P) := by
  unfold wc_J11_checkLength at h
  refine wm_of (lvs := [(0, vI a1), (1, vI a2)]) (by decide) (Nat.le_of_ble_eq_true rfl) rfl (fun fr ws hM1 => ?_)
  show WW G l cJ11_checkLength RJ11 2 (Option.none : Option Jvm.ClassFile.FieldType) "checkLength" 0 0 0 (hMR G (hN0 μ P)) (fun u => [u.1, fr]) 0 0 [ws, fr] 0 [(0, vI a1), (1, vI a2)] []
  refine ww_iload_n dJ11_checkLength_0 1 rfl ?_
  refine ww_iload_n dJ11_checkLength_1 0 rfl ?_
  obtain ⟨r_1, r_2, h⟩ := h
  refine ww_icmp_ge (tgt := 37) dJ11_checkLength_2 (by decide) r_1 r_2 (fun c => ?_) (fun c => ?_)
  · replace h := h.1 c
    exact ww_vret (ws, μ) rfl ⟨hM1, ⟨rfl, rfl, h⟩⟩ rfl (Nat.le_refl _) (Nat.le_refl _) dJ11_checkLength_37
  · replace h := h.2 (Int.not_le.mp c)
    exact h.elim
