/-! THE COMPONENT and what it calls: weakest preconditions and walks (printed by tools/comp.py) -/
set_option maxRecDepth 100000
/-! J11_copyOfRangeByte: java/util/Arrays copyOfRangeByte ([BII)[B; flags (True, True, False), depth 1 -/
def wc_J11_copyOfRangeByte (ad : Nat → Nat) (mc ms : Nat) (μ : HM) (o1 : Option Nat) (a2 : Int) (a3 : Int) (P : Option Nat → HM → Prop) : Prop :=
  wc_J11_checkLength ad μ a2 a3 (
    (0 ≤ a3 - a2 ∧ a3 - a2 < 50000000 ∧ 0 + 1 ≤ mc ∧ 0 + (a3 - a2).toNat ≤ ms) ∧ ∀ q_1 : Nat, μ q_1 = none →
    ∃ a_3 : Nat, o1 = some a_3 ∧
    ∃ n_4 : Nat, gL (hs μ q_1 (hA 2 (a3 - a2).toNat (fun _ => 0))) a_3 = some n_4 ∧
    wc_J10_min ad (hs μ q_1 (hA 2 (a3 - a2).toNat (fun _ => 0))) ((n_4 : Int) - a2) (a3 - a2) (fun y_5 =>
      ∃ (n_7 n_8 : Nat) (f_9 g_10 : Int → Int), (hs μ q_1 (hA 2 (a3 - a2).toNat (fun _ => 0))) a_3 = some (hA 2 n_7 f_9) ∧ (hs μ q_1 (hA 2 (a3 - a2).toNat (fun _ => 0))) q_1 = some (hA 2 n_8 g_10) ∧ ((0 : Int) ≤ a2 ∧ (0 : Int) ≤ (0 : Int) ∧ (0 : Int) ≤ y_5 ∧ a2 + y_5 ≤ (n_7 : Int) ∧ (0 : Int) + y_5 ≤ (n_8 : Int) ∧ (n_7 : Int) < 2147483648 ∧ (n_8 : Int) < 2147483648) ∧ (∀ j : Int, a2 ≤ j → j < a2 + y_5 → -128 ≤ f_9 j ∧ f_9 j < 128) ∧ 
      P (some q_1) (hs (hs μ q_1 (hA 2 (a3 - a2).toNat (fun _ => 0))) q_1 (hA 2 n_8 (cpyI f_9 g_10 a2 (0 : Int) y_5)))))
set_option maxHeartbeats 4000000 in
theorem tm_J11_copyOfRangeByte {G : g_G} {l : Launch} {mc ms : Nat} {μ : HM} {o1 : Option Nat} {a2 : Int} {a3 : Int} {P : Option Nat → HM → Prop} (h : wc_J11_copyOfRangeByte (g_ad G) mc ms μ o1 a2 a3 P) : CM G l yJ11_copyOfRangeByte cJ11_copyOfRangeByte 5 (Option.some (Jvm.ClassFile.FieldType.array Jvm.ClassFile.FieldType.byte)) 1 mc ms [va_rf o1, vI a2, vI a3] μ (hR4 P) := by
  unfold wc_J11_copyOfRangeByte at h
  refine wm_of (lvs := [(0, va_rf o1), (1, vI a2), (2, vI a3)]) (by decide) (by simp [lg_sl, rf_cat, vI_cat, vL_cat, ref_cat]) (by simp [lv_args, rf_cat, vI_cat, vL_cat, ref_cat, rf_some]) (fun fr ws hM1 => ?_)
  show WW G l cJ11_copyOfRangeByte RJ11 5 (Option.some (Jvm.ClassFile.FieldType.array Jvm.ClassFile.FieldType.byte)) "copyOfRangeByte" 1 mc ms (hMR G (hR4 P)) (fun u => [u.1, fr]) 0 0 [ws, fr] 0 [(0, va_rf o1), (1, vI a2), (2, vI a3)] []
  have hB : 0 ≤ mc ∧ 0 ≤ ms := ⟨Nat.zero_le _, Nat.zero_le _⟩
  refine ww_iload_n dJ11_copyOfRangeByte_0 1 rfl ?_
  refine ww_iload_n dJ11_copyOfRangeByte_1 2 rfl ?_
  refine wm_callS (n := 2) hM1 (tm_J11_checkLength h) (lw_S q598 q599 q125 q600) ⟨by decide, by decide, by decide +kernel⟩ rfl ⟨Nat.le_of_ble_eq_true rfl, Nat.le_of_ble_eq_true rfl⟩ rfl (Nat.le_of_ble_eq_true rfl) dJ11_copyOfRangeByte_2 hB ?_
  clear h
  rintro _ _ ws ⟨rfl, rfl, h⟩ hM2
  refine ww_st0 ?_
  refine ww_iload_n dJ11_copyOfRangeByte_5 2 rfl ?_
  refine ww_iload_n dJ11_copyOfRangeByte_6 1 rfl ?_
  refine ww_isub dJ11_copyOfRangeByte_7 ?_
  refine ww_istore_n (i := 3) (lv2 := [(3, vI (a3 - a2)), (0, va_rf o1), (1, vI a2), (2, vI a3)]) dJ11_copyOfRangeByte_8 rfl (Nat.le_of_ble_eq_true rfl) rfl ?_
  refine ww_iload_n dJ11_copyOfRangeByte_9 0 rfl ?_
  obtain ⟨b_2, h⟩ := h
  refine wm_new2 hM2 q213 b_2.1 (by omega) b_2.2.2.1 b_2.2.2.2 dJ11_copyOfRangeByte_10 (fun q_1 ws hq hM3 => ?_)
  replace h := h q_1 hq
  have hB := b_2.2.2
  refine ww_astoreQ (i := 4) (lv2 := [(4, va_rf (some q_1)), (3, vI (a3 - a2)), (0, va_rf o1), (1, vI a2), (2, vI a3)]) dJ11_copyOfRangeByte_12 (Nat.le_of_ble_eq_true rfl) rfl ?_
  refine ww_aloadQ_n dJ11_copyOfRangeByte_14 2 rfl ?_
  refine ww_iload_n dJ11_copyOfRangeByte_15 3 rfl ?_
  refine ww_aloadQ dJ11_copyOfRangeByte_16 0 rfl ?_
  refine ww_iconst dJ11_copyOfRangeByte_18 ?_
  refine ww_aloadQ_n dJ11_copyOfRangeByte_19 2 rfl ?_
  obtain ⟨a_3, ea_3, h⟩ := h
  subst ea_3
  obtain ⟨n_4, hn, h⟩ := h
  refine wm_alen hM3 rfl hn dJ11_copyOfRangeByte_20 ?_
  refine ww_iload_n dJ11_copyOfRangeByte_21 3 rfl ?_
  refine ww_isub dJ11_copyOfRangeByte_22 ?_
  refine ww_iload_n dJ11_copyOfRangeByte_23 1 rfl ?_
  refine wm_callS (n := 2) hM3 (tm_J10_min h) (lw_S q483 q484 q124 q485) ⟨by decide, by decide, by decide +kernel⟩ rfl ⟨Nat.le_of_ble_eq_true rfl, Nat.le_of_ble_eq_true rfl⟩ rfl (by simp only [List.map_cons, List.map_nil, rf_cat, vI_cat, vL_cat, List.sum_cons, List.sum_nil]; decide) dJ11_copyOfRangeByte_24 hB ?_
  clear h
  rintro _ _ ws ⟨rfl, y_5, rfl, h⟩ hM4
  refine ww_st1 ?_
  obtain ⟨n_7, n_8, f_9, g_10, hc, hc1, hi, hx, h⟩ := h
  refine wm_copyI 2 (ty := .byte) hM4 rfl rfl hc hc1 (by decide) rfl rfl hi.1 hi.2.1 hi.2.2.1 hi.2.2.2.1 hi.2.2.2.2.1 hi.2.2.2.2.2.1 hi.2.2.2.2.2.2 (fun j h1 h2 => fits_b (hx j h1 h2)) q486 q488 q487 q126 (Nat.le_of_ble_eq_true rfl) (Nat.le_of_ble_eq_true rfl) dJ11_copyOfRangeByte_27 (fun ws hM5 => ?_)
  refine ww_aloadQ dJ11_copyOfRangeByte_30 0 rfl ?_
  exact ww_aret (ws, (hs (hs μ q_1 (hA 2 (a3 - a2).toNat (fun _ => 0))) q_1 (hA 2 n_8 (cpyI f_9 g_10 a2 (0 : Int) y_5)))) rfl (by first | exact Or.inl ⟨_, rfl⟩ | exact Or.inr ⟨_, rfl⟩) (rf_or _) ⟨hM5, ⟨_, rfl, h⟩⟩ rfl hB.1 hB.2 dJ11_copyOfRangeByte_32
/-! J11_copyOfRange: java/util/Arrays copyOfRange ([BII)[B; flags (True, True, False), depth 2 -/
def wc_J11_copyOfRange (ad : Nat → Nat) (mc ms : Nat) (μ : HM) (o1 : Option Nat) (a2 : Int) (a3 : Int) (P : Option Nat → HM → Prop) : Prop :=
  rI a2 ∧
  ∃ J10 : Prop, (J10 →
    ∃ c_2 s_3 : Nat, (0 + c_2 ≤ mc ∧ 0 + s_3 ≤ ms) ∧
    wc_J11_copyOfRangeByte ad c_2 s_3 μ o1 a2 a3 (fun y_5 μ_7 =>
      P y_5 μ_7)) ∧
  ((¬ a2 = 0 →
    J10) ∧
  (a2 = 0 →
    ∃ a_8 : Nat, o1 = some a_8 ∧
    ∃ n_9 : Nat, gL μ a_8 = some n_9 ∧
    rI a3 ∧
    rI (n_9 : Int) ∧
    ((a3 = (n_9 : Int) →
      False) ∧
    (¬ a3 = (n_9 : Int) →
      J10))))
set_option maxHeartbeats 4000000 in
theorem tm_J11_copyOfRange {G : g_G} {l : Launch} {mc ms : Nat} {μ : HM} {o1 : Option Nat} {a2 : Int} {a3 : Int} {P : Option Nat → HM → Prop} (h : wc_J11_copyOfRange (g_ad G) mc ms μ o1 a2 a3 P) : CM G l yJ11_copyOfRange cJ11_copyOfRange 3 (Option.some (Jvm.ClassFile.FieldType.array Jvm.ClassFile.FieldType.byte)) 2 mc ms [va_rf o1, vI a2, vI a3] μ (hR4 P) := by
  unfold wc_J11_copyOfRange at h
  refine wm_of (lvs := [(0, va_rf o1), (1, vI a2), (2, vI a3)]) (by decide) (by simp [lg_sl, rf_cat, vI_cat, vL_cat, ref_cat]) (by simp [lv_args, rf_cat, vI_cat, vL_cat, ref_cat, rf_some]) (fun fr ws hM1 => ?_)
  show WW G l cJ11_copyOfRange RJ11 3 (Option.some (Jvm.ClassFile.FieldType.array Jvm.ClassFile.FieldType.byte)) "copyOfRange" 2 mc ms (hMR G (hR4 P)) (fun u => [u.1, fr]) 0 0 [ws, fr] 0 [(0, va_rf o1), (1, vI a2), (2, vI a3)] []
  have hB : 0 ≤ mc ∧ 0 ≤ ms := ⟨Nat.zero_le _, Nat.zero_le _⟩
  refine ww_iload_n dJ11_copyOfRange_0 1 rfl ?_
  obtain ⟨r_1, h⟩ := h
  obtain ⟨J10, hJ10, h⟩ := h
  have kJ10 : J10 → ∀ ws : va_W, Mrep G ws μ → (0 ≤ mc ∧ 0 ≤ ms) → WW G l cJ11_copyOfRange RJ11 3 (Option.some (Jvm.ClassFile.FieldType.array Jvm.ClassFile.FieldType.byte)) "copyOfRange" 2 mc ms (hMR G (hR4 P)) (fun u => [u.1, fr]) 0 0 [ws, fr] 10 [(0, va_rf o1), (1, vI a2), (2, vI a3)] [] := by
    clear h
    intro hj ws hM2 hB
    have h := hJ10 hj
    refine ww_aloadQ_n dJ11_copyOfRange_10 0 rfl ?_
    refine ww_iload_n dJ11_copyOfRange_11 1 rfl ?_
    refine ww_iload_n dJ11_copyOfRange_12 2 rfl ?_
    obtain ⟨c_2, s_3, b_4, h⟩ := h
    refine wm_callS (n := 3) hM2 (tm_J11_copyOfRangeByte h) (lw_S q595 q596 q125 q597) ⟨by decide, by decide, by decide +kernel⟩ rfl ⟨Nat.le_of_ble_eq_true rfl, Nat.le_of_ble_eq_true rfl⟩ rfl (Nat.le_of_ble_eq_true rfl) dJ11_copyOfRange_13 b_4 ?_
    clear h
    rintro _ μ_7 ws ⟨y_5, rfl, h⟩ hM3
    have hB := b_4
    refine ww_st1 ?_
    exact ww_aret (ws, μ_7) rfl (by first | exact Or.inl ⟨_, rfl⟩ | exact Or.inr ⟨_, rfl⟩) (rf_or _) ⟨hM3, ⟨_, rfl, h⟩⟩ rfl hB.1 hB.2 dJ11_copyOfRange_16
  refine ww_if_ne (tgt := 10) dJ11_copyOfRange_1 (by decide) r_1 (fun c => ?_) (fun c => ?_)
  · replace h := h.1 c
    exact kJ10 h _ hM1 hB
  · replace h := h.2 c
    refine ww_iload_n dJ11_copyOfRange_4 2 rfl ?_
    refine ww_aloadQ_n dJ11_copyOfRange_5 0 rfl ?_
    obtain ⟨a_8, ea_8, h⟩ := h
    subst ea_8
    obtain ⟨n_9, hn, h⟩ := h
    refine wm_alen hM1 rfl hn dJ11_copyOfRange_6 ?_
    obtain ⟨r_10, r_11, h⟩ := h
    refine ww_icmp_eq (tgt := 17) dJ11_copyOfRange_7 (by decide) r_10 r_11 (fun c => ?_) (fun c => ?_)
    · replace h := h.1 c
      refine ww_aloadQ_n dJ11_copyOfRange_17 0 rfl ?_
      exact h.elim
    · replace h := h.2 c
      exact kJ10 h _ hM1 hB
/-! J5_getValue: java/lang/AbstractStringBuilder getValue ()[B; flags (False, False, False), depth 0 -/
def wc_J5_getValue (ad : Nat → Nat) (μ : HM) (b : Nat) (P : Option Nat → Prop) : Prop :=
  ∃ x_1 : Option Nat, gQ μ b 21 0 = some x_1 ∧
  P x_1
set_option maxHeartbeats 4000000 in
theorem tm_J5_getValue {G : g_G} {l : Launch} {μ : HM} {b : Nat} {P : Option Nat → Prop} (h : wc_J5_getValue (g_ad G) μ b P) : CM G l yJ5_getValue cJ5_getValue 1 (Option.some (Jvm.ClassFile.FieldType.array Jvm.ClassFile.FieldType.byte)) 0 0 0 [.ref b] μ (hN4 μ P) := by
  unfold wc_J5_getValue at h
  refine wm_of (lvs := [(0, va_rf (some b))]) (by decide) (Nat.le_of_ble_eq_true rfl) rfl (fun fr ws hM1 => ?_)
  show WW G l cJ5_getValue RJ5 1 (Option.some (Jvm.ClassFile.FieldType.array Jvm.ClassFile.FieldType.byte)) "getValue" 0 0 0 (hMR G (hN4 μ P)) (fun u => [u.1, fr]) 0 0 [ws, fr] 0 [(0, va_rf (some b))] []
  refine ww_aloadQ_n dJ5_getValue_0 0 rfl ?_
  obtain ⟨x_1, hx, h⟩ := h
  refine wm_getQ hM1 rfl in_J6 (ci := 21) rfl (by decide) 0 (Nat.le_of_ble_eq_true rfl) hx (fun _ _ => rfl) q384 (fun _ _ h => h) dJ5_getValue_1 ?_
  exact ww_aret (ws, μ) rfl (by first | exact Or.inl ⟨_, rfl⟩ | exact Or.inr ⟨_, rfl⟩) (rf_or _) ⟨hM1, ⟨rfl, _, rfl, h⟩⟩ rfl (Nat.le_refl _) (Nat.le_refl _) dJ5_getValue_4
/-! J7_init_2: java/lang/String <init> (Ljava/lang/AbstractStringBuilder;Ljava/lang/Void;)V; flags (True, True, False), depth 3 -/
def wc_J7_init_2 (ad : Nat → Nat) (mc ms : Nat) (μ : HM) (b : Nat) (o1 : Option Nat) (o2 : Option Nat) (P : HM → Prop) : Prop :=
  ∃ a_1 : Nat, o1 = some a_1 ∧
  gC μ a_1 = some 21 ∧
  wc_J5_getValue ad μ a_1 (fun y_2 =>
    gC μ a_1 = some 21 ∧
    wc_J6_length ad μ a_1 (fun y_4 =>
      gC μ a_1 = some 21 ∧
      wc_J5_isLatin1 ad μ a_1 (fun y_6 =>
        ((y_6 = 0 →
          ∃ J79 : Prop, (J79 →
            ∃ (fi_8 : Nat → Int) (fq_9 : Nat → Option Nat), μ b = some (hO 22 fi_8 fq_9) ∧ 
            ∃ c_10 s_11 : Nat, (0 + c_10 ≤ mc ∧ 0 + s_11 ≤ ms) ∧
            wc_J11_copyOfRange ad c_10 s_11 (hs μ b (hO 22 (upF fi_8 1 1) fq_9)) y_2 0 (bL y_4 1) (fun y_13 μ_15 =>
              ∃ (fi_16 : Nat → Int) (fq_17 : Nat → Option Nat), μ_15 b = some (hO 22 fi_16 fq_17) ∧ 
              P (hs μ_15 b (hO 22 fi_16 (upF fq_17 0 y_13))))) ∧
          (((1 : Int) = 0 →
            J79) ∧
          (¬ (1 : Int) = 0 →
            False))) ∧
        (¬ y_6 = 0 →
          ∃ (fi_19 : Nat → Int) (fq_20 : Nat → Option Nat), μ b = some (hO 22 fi_19 fq_20) ∧ 
          ∃ c_21 s_22 : Nat, (0 + c_21 ≤ mc ∧ 0 + s_22 ≤ ms) ∧
          wc_J11_copyOfRange ad c_21 s_22 (hs μ b (hO 22 (upF fi_19 1 0) fq_20)) y_2 0 y_4 (fun y_24 μ_26 =>
            ∃ (fi_27 : Nat → Int) (fq_28 : Nat → Option Nat), μ_26 b = some (hO 22 fi_27 fq_28) ∧ 
            P (hs μ_26 b (hO 22 fi_27 (upF fq_28 0 y_24)))))))))
set_option maxHeartbeats 4000000 in
theorem tm_J7_init_2 {G : g_G} {l : Launch} {mc ms : Nat} {μ : HM} {b : Nat} {o1 : Option Nat} {o2 : Option Nat} {P : HM → Prop} (h : wc_J7_init_2 (g_ad G) mc ms μ b o1 o2 P) : CM G l yJ7_init_2 cJ7_init_2 5 (Option.none : Option Jvm.ClassFile.FieldType) 3 mc ms [.ref b, va_rf o1, va_rf o2] μ (hR0 P) := by
  unfold wc_J7_init_2 at h
  refine wm_of (lvs := [(0, va_rf (some b)), (1, va_rf o1), (2, va_rf o2)]) (by decide) (by simp [lg_sl, rf_cat, vI_cat, vL_cat, ref_cat]) (by simp [lv_args, rf_cat, vI_cat, vL_cat, ref_cat, rf_some]) (fun fr ws hM1 => ?_)
  show WW G l cJ7_init_2 RJ7 5 (Option.none : Option Jvm.ClassFile.FieldType) "<init>" 3 mc ms (hMR G (hR0 P)) (fun u => [u.1, fr]) 0 0 [ws, fr] 0 [(0, va_rf (some b)), (1, va_rf o1), (2, va_rf o2)] []
  have hB : 0 ≤ mc ∧ 0 ≤ ms := ⟨Nat.zero_le _, Nat.zero_le _⟩
  refine ww_aloadQ_n dJ7_init_2_0 0 rfl ?_
  refine wm_objInit rfl q584 q170 q171 (Nat.le_of_ble_eq_true rfl) (Nat.le_of_ble_eq_true rfl) dJ7_init_2_1 ?_
  refine ww_aloadQ_n dJ7_init_2_4 1 rfl ?_
  obtain ⟨a_1, ea_1, h⟩ := h
  subst ea_1
  obtain ⟨hg, h⟩ := h
  refine wm_callU (n := 0) hM1 (tm_J5_getValue h) rfl hg rfl (lw_U q585 q587 q588 q586 q119 q589) rfl ⟨by decide, by decide, by decide +kernel⟩ rfl ⟨Nat.le_of_ble_eq_true rfl, Nat.le_of_ble_eq_true rfl⟩ rfl (Nat.le_of_ble_eq_true rfl) dJ7_init_2_5 hB ?_
  clear h
  rintro _ _ ws ⟨rfl, y_2, rfl, h⟩ hM2
  refine ww_st1 ?_
  refine ww_astoreQ_n (i := 3) (lv2 := [(3, va_rf y_2), (0, va_rf (some b)), (1, va_rf (some a_1)), (2, va_rf o2)]) dJ7_init_2_8 rfl (Nat.le_of_ble_eq_true rfl) (by simp [rf_cat, vI_cat, vL_cat, ref_cat]) ?_
  refine ww_aloadQ_n dJ7_init_2_9 2 rfl ?_
  obtain ⟨hg, h⟩ := h
  refine wm_callO (n := 0) (owner := "java/lang/AbstractStringBuilder") hM2 (tm_J6_length h) rfl hg rfl (lw_O q590 q2659 q570 q2660 q566 q120 q568) q571 ⟨by decide, by decide, by decide +kernel⟩ rfl ⟨Nat.le_of_ble_eq_true rfl, Nat.le_of_ble_eq_true rfl⟩ rfl (Nat.le_of_ble_eq_true rfl) dJ7_init_2_10 hB ?_
  clear h
  rintro _ _ ws ⟨rfl, y_4, rfl, h⟩ hM3
  refine ww_st1 ?_
  refine ww_istore (i := 4) (lv2 := [(4, vI y_4), (3, va_rf y_2), (0, va_rf (some b)), (1, va_rf (some a_1)), (2, va_rf o2)]) dJ7_init_2_13 (Nat.le_of_ble_eq_true rfl) (by simp [rf_cat, vI_cat, vL_cat, ref_cat]) ?_
  refine ww_aloadQ_n dJ7_init_2_15 3 rfl ?_
  obtain ⟨hg, h⟩ := h
  refine wm_callU (n := 0) hM3 (tm_J5_isLatin1 h) rfl hg rfl (lw_U q591 q491 q492 q490 q119 q493) rfl ⟨by decide, by decide, by decide +kernel⟩ rfl ⟨Nat.le_of_ble_eq_true rfl, Nat.le_of_ble_eq_true rfl⟩ rfl (Nat.le_of_ble_eq_true rfl) dJ7_init_2_16 hB ?_
  clear h
  rintro _ _ ws ⟨rfl, y_6, rfl, z_7, h⟩ hM4
  refine ww_st1 ?_
  refine ww_if_eq (tgt := 41) dJ7_init_2_19 (by decide) (r_z z_7) (fun c => ?_) (fun c => ?_)
  · replace h := h.1 c
    refine wm_getsI (C := "java/lang/String") (x := 1) (by decide) q601 (fun _ _ h => h) dJ7_init_2_41 ?_
    refine ww_eq rfl rfl (show _ = vI 1 :: _ from rfl) ?_
    obtain ⟨J79, hJ79, h⟩ := h
    have kJ79 : J79 → ∀ ws : va_W, Mrep G ws μ → (0 ≤ mc ∧ 0 ≤ ms) → WW G l cJ7_init_2 RJ7 5 (Option.none : Option Jvm.ClassFile.FieldType) "<init>" 3 mc ms (hMR G (hR0 P)) (fun u => [u.1, fr]) 0 0 [ws, fr] 79 [(0, va_rf (some b)), (3, va_rf y_2), (4, vI y_4)] [] := by
      clear h
      intro hj ws hM5 hB
      have h := hJ79 hj
      refine ww_aloadQ_n dJ7_init_2_79 0 rfl ?_
      refine ww_iconst dJ7_init_2_80 ?_
      obtain ⟨fi_8, fq_9, hc, h⟩ := h
      refine wm_putIF hM5 rfl in_J7 tyJ7_ok nmJ7 (ci := 22) rfl 1 (Nat.le_of_ble_eq_true rfl) hc (fun _ _ => rfl) (fun _ _ => Nat.le_of_ble_eq_true rfl) q616 (fun _ _ h => h) rfl rfl rfl rfl rfl dJ7_init_2_81 (fun ws hM6 => ?_)
      refine ww_aloadQ_n dJ7_init_2_84 0 rfl ?_
      refine ww_aloadQ_n dJ7_init_2_85 1 rfl ?_
      refine ww_iconst dJ7_init_2_86 ?_
      refine ww_iload dJ7_init_2_87 2 rfl ?_
      refine ww_iconst dJ7_init_2_89 ?_
      refine ww_ishl dJ7_init_2_90 ?_
      obtain ⟨c_10, s_11, b_12, h⟩ := h
      refine wm_callS (n := 3) hM6 (tm_J11_copyOfRange h) (lw_S q592 q593 q125 q594) ⟨by decide, by decide, by decide +kernel⟩ rfl ⟨Nat.le_of_ble_eq_true rfl, Nat.le_of_ble_eq_true rfl⟩ rfl (by simp only [List.map_cons, List.map_nil, rf_cat, vI_cat, vL_cat, List.sum_cons, List.sum_nil]; decide) dJ7_init_2_91 b_12 ?_
      clear h
      rintro _ μ_15 ws ⟨y_13, rfl, h⟩ hM7
      have hB := b_12
      refine ww_st1 ?_
      obtain ⟨fi_16, fq_17, hc, h⟩ := h
      refine wm_putQF hM7 rfl in_J7 tyJ7_ok nmJ7 (ci := 22) rfl 0 (Nat.le_of_ble_eq_true rfl) hc (fun _ _ => rfl) (fun _ _ => Nat.le_of_ble_eq_true rfl) q615 (fun _ _ h => h) rfl rfl rfl (narrow_rf rfl _) (fits_rf rfl _) dJ7_init_2_94 (fun ws hM8 => ?_)
      exact ww_vret (ws, (hs μ_15 b (hO 22 fi_16 (upF fq_17 0 y_13)))) rfl ⟨hM8, ⟨rfl, h⟩⟩ rfl hB.1 hB.2 dJ7_init_2_97
    refine ww_if_eq (tgt := 79) dJ7_init_2_44 (by decide) (by decide) (fun c => ?_) (fun c => ?_)
    · replace h := h.1 c
      refine ww_lv [2, 1, 0] rfl ?_
      exact kJ79 h _ hM4 hB
    · replace h := h.2 c
      refine ww_aloadQ_n dJ7_init_2_47 3 rfl ?_
      exact h.elim
  · replace h := h.2 c
    refine ww_aloadQ_n dJ7_init_2_22 2 rfl ?_
    refine ww_iconst dJ7_init_2_23 ?_
    obtain ⟨fi_19, fq_20, hc, h⟩ := h
    refine wm_putIF hM4 rfl in_J7 tyJ7_ok nmJ7 (ci := 22) rfl 1 (Nat.le_of_ble_eq_true rfl) hc (fun _ _ => rfl) (fun _ _ => Nat.le_of_ble_eq_true rfl) q616 (fun _ _ h => h) rfl rfl rfl rfl rfl dJ7_init_2_24 (fun ws hM9 => ?_)
    refine ww_aloadQ_n dJ7_init_2_27 2 rfl ?_
    refine ww_aloadQ_n dJ7_init_2_28 1 rfl ?_
    refine ww_iconst dJ7_init_2_29 ?_
    refine ww_iload dJ7_init_2_30 0 rfl ?_
    obtain ⟨c_21, s_22, b_23, h⟩ := h
    refine wm_callS (n := 3) hM9 (tm_J11_copyOfRange h) (lw_S q592 q593 q125 q594) ⟨by decide, by decide, by decide +kernel⟩ rfl ⟨Nat.le_of_ble_eq_true rfl, Nat.le_of_ble_eq_true rfl⟩ rfl (by simp only [List.map_cons, List.map_nil, rf_cat, vI_cat, vL_cat, List.sum_cons, List.sum_nil]; decide) dJ7_init_2_32 b_23 ?_
    clear h
    rintro _ μ_26 ws ⟨y_24, rfl, h⟩ hM10
    have hB := b_23
    refine ww_st1 ?_
    obtain ⟨fi_27, fq_28, hc, h⟩ := h
    refine wm_putQF hM10 rfl in_J7 tyJ7_ok nmJ7 (ci := 22) rfl 0 (Nat.le_of_ble_eq_true rfl) hc (fun _ _ => rfl) (fun _ _ => Nat.le_of_ble_eq_true rfl) q615 (fun _ _ h => h) rfl rfl rfl (narrow_rf rfl _) (fits_rf rfl _) dJ7_init_2_35 (fun ws hM11 => ?_)
    refine ww_goto (tgt := 97) dJ7_init_2_38 (by decide) ?_
    exact ww_vret (ws, (hs μ_26 b (hO 22 fi_27 (upF fq_28 0 y_24)))) rfl ⟨hM11, ⟨rfl, h⟩⟩ rfl hB.1 hB.2 dJ7_init_2_97
/-! J7_init: java/lang/String <init> (Ljava/lang/StringBuilder;)V; flags (True, True, False), depth 4 -/
def wc_J7_init (ad : Nat → Nat) (mc ms : Nat) (μ : HM) (b : Nat) (o1 : Option Nat) (P : HM → Prop) : Prop :=
  ∃ c_1 s_2 : Nat, (0 + c_1 ≤ mc ∧ 0 + s_2 ≤ ms) ∧
  wc_J7_init_2 ad c_1 s_2 μ b o1 none (fun μ_4 =>
    P μ_4)
set_option maxHeartbeats 4000000 in
theorem tm_J7_init {G : g_G} {l : Launch} {mc ms : Nat} {μ : HM} {b : Nat} {o1 : Option Nat} {P : HM → Prop} (h : wc_J7_init (g_ad G) mc ms μ b o1 P) : CM G l yJ7_init cJ7_init 2 (Option.none : Option Jvm.ClassFile.FieldType) 4 mc ms [.ref b, va_rf o1] μ (hR0 P) := by
  unfold wc_J7_init at h
  refine wm_of (lvs := [(0, va_rf (some b)), (1, va_rf o1)]) (by decide) (by simp [lg_sl, rf_cat, vI_cat, vL_cat, ref_cat]) (by simp [lv_args, rf_cat, vI_cat, vL_cat, ref_cat, rf_some]) (fun fr ws hM1 => ?_)
  show WW G l cJ7_init RJ7 2 (Option.none : Option Jvm.ClassFile.FieldType) "<init>" 4 mc ms (hMR G (hR0 P)) (fun u => [u.1, fr]) 0 0 [ws, fr] 0 [(0, va_rf (some b)), (1, va_rf o1)] []
  have hB : 0 ≤ mc ∧ 0 ≤ ms := ⟨Nat.zero_le _, Nat.zero_le _⟩
  refine ww_aloadQ_n dJ7_init_0 0 rfl ?_
  refine ww_aloadQ_n dJ7_init_1 1 rfl ?_
  refine ww_nullQ dJ7_init_2 ?_
  obtain ⟨c_1, s_2, b_3, h⟩ := h
  refine wm_callI (n := 2) hM1 (tm_J7_init_2 h) rfl q583 q121 q581 q582 rfl ⟨by decide, by decide, by decide +kernel⟩ rfl ⟨Nat.le_of_ble_eq_true rfl, Nat.le_of_ble_eq_true rfl⟩ rfl (Nat.le_of_ble_eq_true rfl) dJ7_init_3 b_3 ?_
  clear h
  rintro _ μ_4 ws ⟨rfl, h⟩ hM2
  have hB := b_3
  refine ww_st0 ?_
  exact ww_vret (ws, μ_4) rfl ⟨hM2, ⟨rfl, h⟩⟩ rfl hB.1 hB.2 dJ7_init_6
/-! J6_toString: java/lang/StringBuilder toString ()Ljava/lang/String;; flags (True, True, False), depth 5 -/
def wc_J6_toString (ad : Nat → Nat) (mc ms : Nat) (μ : HM) (b : Nat) (P : Option Nat → HM → Prop) : Prop :=
  (0 + 1 ≤ mc ∧ 0 + 4 ≤ ms) ∧ ∀ q_1 : Nat, μ q_1 = none →
  ∃ c_3 s_4 : Nat, (0 + 1 + c_3 ≤ mc ∧ 0 + 4 + s_4 ≤ ms) ∧
  wc_J7_init ad c_3 s_4 (hs μ q_1 (hO 22 (fun _ => 0) (fun _ => none))) q_1 (some b) (fun μ_6 =>
    P (some q_1) μ_6)
set_option maxHeartbeats 4000000 in
theorem tm_J6_toString {G : g_G} {l : Launch} {mc ms : Nat} {μ : HM} {b : Nat} {P : Option Nat → HM → Prop} (h : wc_J6_toString (g_ad G) mc ms μ b P) : CM G l yJ6_toString cJ6_toString 1 (Option.some (Jvm.ClassFile.FieldType.object "java/lang/String")) 5 mc ms [.ref b] μ (hR4 P) := by
  unfold wc_J6_toString at h
  refine wm_of (lvs := [(0, va_rf (some b))]) (by decide) (Nat.le_of_ble_eq_true rfl) rfl (fun fr ws hM1 => ?_)
  show WW G l cJ6_toString RJ6 1 (Option.some (Jvm.ClassFile.FieldType.object "java/lang/String")) "toString" 5 mc ms (hMR G (hR4 P)) (fun u => [u.1, fr]) 0 0 [ws, fr] 0 [(0, va_rf (some b))] []
  have hB : 0 ≤ mc ∧ 0 ≤ ms := ⟨Nat.zero_le _, Nat.zero_le _⟩
  obtain ⟨b_2, h⟩ := h
  refine wm_new hM1 in_J7 tyJ7_ok q576 q577 q121 (ci := 22) rfl dfl_22 b_2.1 b_2.2 dJ6_toString_0 (fun q_1 ws hq hM2 => ?_)
  replace h := h q_1 hq
  have hB := b_2
  refine ww_dup dJ6_toString_3 (rf_cat _) ?_
  refine ww_aloadQ_n dJ6_toString_4 0 rfl ?_
  obtain ⟨c_3, s_4, b_5, h⟩ := h
  refine wm_callI (n := 1) hM2 (tm_J7_init h) rfl q580 q121 q578 q579 rfl ⟨by decide, by decide, by decide +kernel⟩ rfl ⟨Nat.le_of_ble_eq_true rfl, Nat.le_of_ble_eq_true rfl⟩ rfl (by simp only [List.map_cons, List.map_nil, rf_cat, vI_cat, vL_cat, List.sum_cons, List.sum_nil]; decide) dJ6_toString_5 b_5 ?_
  clear h
  rintro _ μ_6 ws ⟨rfl, h⟩ hM3
  have hB := b_5
  refine ww_st0 ?_
  exact ww_aret (ws, μ_6) rfl (by first | exact Or.inl ⟨_, rfl⟩ | exact Or.inr ⟨_, rfl⟩) (rf_or _) ⟨hM3, ⟨_, rfl, h⟩⟩ rfl hB.1 hB.2 dJ6_toString_8
/-! X6_at: HoloNet$Reader at ()I; flags (False, False, False), depth 0 -/
def wc_X6_at (ad : Nat → Nat) (μ : HM) (b : Nat) (P : Int → Prop) : Prop :=
  ∃ x_1 : Int, gI μ b 5 4 = some x_1 ∧
  ∃ x_2 : Int, gI μ b 5 0 = some x_2 ∧
  rI x_1 ∧
  rI x_2 ∧
  ((x_2 ≤ x_1 →
    P (-1)) ∧
  (x_1 < x_2 →
    ∃ x_5 : Option Nat, gQ μ b 5 10 = some x_5 ∧
    ∃ a_7 : Nat, x_5 = some a_7 ∧
    ∃ x_6 : Option Nat, gQ μ a_7 1 0 = some x_6 ∧
    ∃ x_8 : Int, gI μ b 5 4 = some x_8 ∧
    ∃ a_9 : Nat, x_6 = some a_9 ∧
    ∃ x_10 : Int, gA μ a_9 2 x_8 = some x_10 ∧
    P (bA x_10 255)))
set_option maxHeartbeats 4000000 in
theorem tm_X6_at {G : g_G} {l : Launch} {μ : HM} {b : Nat} {P : Int → Prop} (h : wc_X6_at (g_ad G) μ b P) : CM G l yX6_at cX6_at 1 (Option.some Jvm.ClassFile.FieldType.int) 0 0 0 [.ref b] μ (hN1 μ P) := by
  unfold wc_X6_at at h
  refine wm_of (lvs := [(0, va_rf (some b))]) (by decide) (Nat.le_of_ble_eq_true rfl) rfl (fun fr ws hM1 => ?_)
  show WW G l cX6_at RX6 1 (Option.some Jvm.ClassFile.FieldType.int) "at" 0 0 0 (hMR G (hN1 μ P)) (fun u => [u.1, fr]) 0 0 [ws, fr] 0 [(0, va_rf (some b))] []
  refine ww_aloadQ_n dX6_at_0 0 rfl ?_
  obtain ⟨x_1, hx, h⟩ := h
  refine wm_getI hM1 rfl in_X6 (ci := 5) rfl (by decide) 4 (Nat.le_of_ble_eq_true rfl) hx (fun _ _ => rfl) q405 (fun _ _ h => h) dX6_at_1 ?_
  refine ww_aloadQ_n dX6_at_4 0 rfl ?_
  obtain ⟨x_2, hx, h⟩ := h
  refine wm_getI hM1 rfl in_X6 (ci := 5) rfl (by decide) 0 (Nat.le_of_ble_eq_true rfl) hx (fun _ _ => rfl) q399 (fun _ _ h => h) dX6_at_5 ?_
  obtain ⟨r_3, r_4, h⟩ := h
  refine ww_icmp_ge (tgt := 30) dX6_at_8 (by decide) r_3 r_4 (fun c => ?_) (fun c => ?_)
  · replace h := h.1 c
    refine ww_iconst dX6_at_30 ?_
    exact ww_iret (ws, μ) rfl ⟨hM1, ⟨rfl, _, rfl, h⟩⟩ rfl (Nat.le_refl _) (Nat.le_refl _) dX6_at_31
  · replace h := h.2 (Int.not_le.mp c)
    refine ww_aloadQ_n dX6_at_11 0 rfl ?_
    obtain ⟨x_5, hx, h⟩ := h
    refine wm_getQ hM1 rfl in_X6 (ci := 5) rfl (by decide) 10 (Nat.le_of_ble_eq_true rfl) hx (fun _ _ => rfl) q411 (fun _ _ h => h) dX6_at_12 ?_
    obtain ⟨a_7, ea_7, h⟩ := h
    subst ea_7
    obtain ⟨x_6, hx, h⟩ := h
    refine wm_getQN hM1 rfl in_X1 (ci := 1) rfl (by decide) 0 (Nat.le_of_ble_eq_true rfl) hx (fun _ _ => rfl) q314 (fun _ _ h => h) dX6_at_15 ?_
    refine ww_aloadQ_n dX6_at_18 0 rfl ?_
    obtain ⟨x_8, hx, h⟩ := h
    refine wm_getI hM1 rfl in_X6 (ci := 5) rfl (by decide) 4 (Nat.le_of_ble_eq_true rfl) hx (fun _ _ => rfl) q405 (fun _ _ h => h) dX6_at_19 ?_
    obtain ⟨a_9, ea_9, h⟩ := h
    subst ea_9
    obtain ⟨x_10, hx, h⟩ := h
    refine wm_bald hM1 rfl hx dX6_at_22 ?_
    refine ww_sipush (v := 255) dX6_at_23 rfl ?_
    refine ww_iand dX6_at_26 ?_
    refine ww_goto (tgt := 31) dX6_at_27 (by decide) ?_
    exact ww_iret (ws, μ) rfl ⟨hM1, ⟨rfl, _, rfl, h⟩⟩ rfl (Nat.le_refl _) (Nat.le_refl _) dX6_at_31
/-! J13_checkIndex: jdk/internal/util/Preconditions checkIndex (IILjava/util/function/BiFunction;)I; flags (False, False, False), depth 0 -/
def wc_J13_checkIndex (ad : Nat → Nat) (μ : HM) (a1 : Int) (a2 : Int) (o3 : Option Nat) (P : Int → Prop) : Prop :=
  rI a1 ∧
  ∃ J9 : Prop, (J9 →
    False) ∧
  ((a1 < 0 →
    J9) ∧
  (0 ≤ a1 →
    rI a1 ∧
    rI a2 ∧
    ((a1 < a2 →
      P a1) ∧
    (a2 ≤ a1 →
      J9))))
set_option maxHeartbeats 4000000 in
theorem tm_J13_checkIndex {G : g_G} {l : Launch} {μ : HM} {a1 : Int} {a2 : Int} {o3 : Option Nat} {P : Int → Prop} (h : wc_J13_checkIndex (g_ad G) μ a1 a2 o3 P) : CM G l yJ13_checkIndex cJ13_checkIndex 3 (Option.some Jvm.ClassFile.FieldType.int) 0 0 0 [vI a1, vI a2, va_rf o3] μ (hN1 μ P) := by
  unfold wc_J13_checkIndex at h
  refine wm_of (lvs := [(0, vI a1), (1, vI a2), (2, va_rf o3)]) (by decide) (by simp [lg_sl, rf_cat, vI_cat, vL_cat, ref_cat]) (by simp [lv_args, rf_cat, vI_cat, vL_cat, ref_cat, rf_some]) (fun fr ws hM1 => ?_)
  show WW G l cJ13_checkIndex RJ13 3 (Option.some Jvm.ClassFile.FieldType.int) "checkIndex" 0 0 0 (hMR G (hN1 μ P)) (fun u => [u.1, fr]) 0 0 [ws, fr] 0 [(0, vI a1), (1, vI a2), (2, va_rf o3)] []
  refine ww_iload_n dJ13_checkIndex_0 0 rfl ?_
  obtain ⟨r_1, h⟩ := h
  obtain ⟨J9, hJ9, h⟩ := h
  have kJ9 : J9 → ∀ ws : va_W, Mrep G ws μ → WW G l cJ13_checkIndex RJ13 3 (Option.some Jvm.ClassFile.FieldType.int) "checkIndex" 0 0 0 (hMR G (hN1 μ P)) (fun u => [u.1, fr]) 0 0 [ws, fr] 9 [(0, vI a1), (1, vI a2), (2, va_rf o3)] [] := by
    clear h
    intro hj ws hM2
    have h := hJ9 hj
    refine ww_aloadQ_n dJ13_checkIndex_9 2 rfl ?_
    refine ww_iload_n dJ13_checkIndex_10 0 rfl ?_
    refine ww_iload_n dJ13_checkIndex_11 1 rfl ?_
    exact h.elim
  refine ww_if_lt (tgt := 9) dJ13_checkIndex_1 (by decide) r_1 (fun c => ?_) (fun c => ?_)
  · replace h := h.1 c
    exact kJ9 h _ hM1
  · replace h := h.2 (Int.not_lt.mp c)
    refine ww_iload_n dJ13_checkIndex_4 0 rfl ?_
    refine ww_iload_n dJ13_checkIndex_5 1 rfl ?_
    obtain ⟨r_2, r_3, h⟩ := h
    refine ww_icmp_lt (tgt := 16) dJ13_checkIndex_6 (by decide) r_2 r_3 (fun c => ?_) (fun c => ?_)
    · replace h := h.1 c
      refine ww_iload_n dJ13_checkIndex_16 0 rfl ?_
      exact ww_iret (ws, μ) rfl ⟨hM1, ⟨rfl, _, rfl, h⟩⟩ rfl (Nat.le_refl _) (Nat.le_refl _) dJ13_checkIndex_17
    · replace h := h.2 (Int.not_lt.mp c)
      exact kJ9 h _ hM1
/-! J7_checkIndex: java/lang/String checkIndex (II)V; flags (False, False, False), depth 1 -/
def wc_J7_checkIndex (ad : Nat → Nat) (μ : HM) (a1 : Int) (a2 : Int) (P : Prop) : Prop :=
  ∀ x_1 : Option Nat,
  wc_J13_checkIndex ad μ a1 a2 x_1 (fun y_2 =>
    P)
set_option maxHeartbeats 4000000 in
theorem tm_J7_checkIndex {G : g_G} {l : Launch} {μ : HM} {a1 : Int} {a2 : Int} {P : Prop} (h : wc_J7_checkIndex (g_ad G) μ a1 a2 P) : CM G l yJ7_checkIndex cJ7_checkIndex 2 (Option.none : Option Jvm.ClassFile.FieldType) 1 0 0 [vI a1, vI a2] μ (hN0 μ P) := by
  unfold wc_J7_checkIndex at h
  refine wm_of (lvs := [(0, vI a1), (1, vI a2)]) (by decide) (Nat.le_of_ble_eq_true rfl) rfl (fun fr ws hM1 => ?_)
  show WW G l cJ7_checkIndex RJ7 2 (Option.none : Option Jvm.ClassFile.FieldType) "checkIndex" 1 0 0 (hMR G (hN0 μ P)) (fun u => [u.1, fr]) 0 0 [ws, fr] 0 [(0, vI a1), (1, vI a2)] []
  refine ww_iload_n dJ7_checkIndex_0 0 rfl ?_
  refine ww_iload_n dJ7_checkIndex_1 1 rfl ?_
  refine wm_getsZ (C := "jdk/internal/util/Preconditions") (n := "SIOOBE_FORMATTER") (dd := "Ljava/util/function/BiFunction;") (by decide) q539 (fun _ _ h => h) dJ7_checkIndex_2 (fun x_1 => ?_)
  replace h := h x_1
  refine wm_callS (n := 3) hM1 (tm_J13_checkIndex h) (lw_S q562 q563 q128 q564) ⟨by decide, by decide, by decide +kernel⟩ rfl ⟨Nat.le_of_ble_eq_true rfl, Nat.le_of_ble_eq_true rfl⟩ rfl (Nat.le_of_ble_eq_true rfl) dJ7_checkIndex_5 ⟨Nat.le_refl _, Nat.le_refl _⟩ ?_
  clear h
  rintro _ _ ws ⟨rfl, y_2, rfl, h⟩ hM2
  refine ww_st1 ?_
  refine ww_pop dJ7_checkIndex_8 rfl ?_
  exact ww_vret (ws, μ) rfl ⟨hM2, ⟨rfl, rfl, h⟩⟩ rfl (Nat.le_refl _) (Nat.le_refl _) dJ7_checkIndex_9
/-! J5_charAt: java/lang/AbstractStringBuilder charAt (I)C; flags (False, False, False), depth 2 -/
def wc_J5_charAt (ad : Nat → Nat) (μ : HM) (b : Nat) (a1 : Int) (P : Int → Prop) : Prop :=
  ∃ x_1 : Int, gI μ b 21 1 = some x_1 ∧
  ∃ x_2 : Option Nat, gQ μ b 21 0 = some x_2 ∧
  ∃ x_3 : Int, gI μ b 21 3 = some x_3 ∧
  ∃ a_4 : Nat, x_2 = some a_4 ∧
  ∃ n_5 : Nat, gL μ a_4 = some n_5 ∧
  wc_J10_min ad μ x_3 (bR (n_5 : Int) x_1) (fun y_6 =>
    wc_J7_checkIndex ad μ a1 y_6 (
      rI x_1 ∧
      ((¬ x_1 = 0 →
        False) ∧
      (x_1 = 0 →
        ∃ x_9 : Int, gA μ a_4 2 a1 = some x_9 ∧
        (0 ≤ bC (bA x_9 255) ∧ bC (bA x_9 255) < 65536) ∧ P (bC (bA x_9 255))))))
set_option maxHeartbeats 4000000 in
theorem tm_J5_charAt {G : g_G} {l : Launch} {μ : HM} {b : Nat} {a1 : Int} {P : Int → Prop} (h : wc_J5_charAt (g_ad G) μ b a1 P) : CM G l yJ5_charAt cJ5_charAt 5 (Option.some Jvm.ClassFile.FieldType.char) 2 0 0 [.ref b, vI a1] μ (hN6 μ P) := by
  unfold wc_J5_charAt at h
  refine wm_of (lvs := [(0, va_rf (some b)), (1, vI a1)]) (by decide) (Nat.le_of_ble_eq_true rfl) rfl (fun fr ws hM1 => ?_)
  show WW G l cJ5_charAt RJ5 5 (Option.some Jvm.ClassFile.FieldType.char) "charAt" 2 0 0 (hMR G (hN6 μ P)) (fun u => [u.1, fr]) 0 0 [ws, fr] 0 [(0, va_rf (some b)), (1, vI a1)] []
  refine ww_aloadQ_n dJ5_charAt_0 0 rfl ?_
  obtain ⟨x_1, hx, h⟩ := h
  refine wm_getI hM1 rfl in_J6 (ci := 21) rfl (by decide) 1 (Nat.le_of_ble_eq_true rfl) hx (fun _ _ => rfl) q385 (fun _ _ h => h) dJ5_charAt_1 ?_
  refine ww_istore_n (i := 2) (lv2 := [(2, vI x_1), (0, va_rf (some b)), (1, vI a1)]) dJ5_charAt_4 rfl (Nat.le_of_ble_eq_true rfl) rfl ?_
  refine ww_aloadQ_n dJ5_charAt_5 1 rfl ?_
  obtain ⟨x_2, hx, h⟩ := h
  refine wm_getQ hM1 rfl in_J6 (ci := 21) rfl (by decide) 0 (Nat.le_of_ble_eq_true rfl) hx (fun _ _ => rfl) q384 (fun _ _ h => h) dJ5_charAt_6 ?_
  refine ww_astoreQ_n (i := 3) (lv2 := [(3, va_rf x_2), (2, vI x_1), (0, va_rf (some b)), (1, vI a1)]) dJ5_charAt_9 rfl (Nat.le_of_ble_eq_true rfl) rfl ?_
  refine ww_aloadQ_n dJ5_charAt_10 2 rfl ?_
  obtain ⟨x_3, hx, h⟩ := h
  refine wm_getI hM1 rfl in_J6 (ci := 21) rfl (by decide) 3 (Nat.le_of_ble_eq_true rfl) hx (fun _ _ => rfl) q388 (fun _ _ h => h) dJ5_charAt_11 ?_
  refine ww_aloadQ_n dJ5_charAt_14 0 rfl ?_
  obtain ⟨a_4, ea_4, h⟩ := h
  subst ea_4
  obtain ⟨n_5, hn, h⟩ := h
  refine wm_alen hM1 rfl hn dJ5_charAt_15 ?_
  refine ww_iload_n dJ5_charAt_16 1 rfl ?_
  refine ww_ishr dJ5_charAt_17 ?_
  refine wm_callS (n := 2) hM1 (tm_J10_min h) (lw_S q680 q484 q124 q485) ⟨by decide, by decide, by decide +kernel⟩ rfl ⟨Nat.le_of_ble_eq_true rfl, Nat.le_of_ble_eq_true rfl⟩ rfl (Nat.le_of_ble_eq_true rfl) dJ5_charAt_18 ⟨Nat.le_refl _, Nat.le_refl _⟩ ?_
  clear h
  rintro _ _ ws ⟨rfl, y_6, rfl, h⟩ hM2
  refine ww_st1 ?_
  refine ww_istore (i := 4) (lv2 := [(4, vI y_6), (3, va_rf (some a_4)), (2, vI x_1), (0, va_rf (some b)), (1, vI a1)]) dJ5_charAt_21 (Nat.le_of_ble_eq_true rfl) rfl ?_
  refine ww_iload_n dJ5_charAt_23 4 rfl ?_
  refine ww_iload dJ5_charAt_24 0 rfl ?_
  refine wm_callS (n := 2) hM2 (tm_J7_checkIndex h) (lw_S q681 q560 q121 q561) ⟨by decide, by decide, by decide +kernel⟩ rfl ⟨Nat.le_of_ble_eq_true rfl, Nat.le_of_ble_eq_true rfl⟩ rfl (Nat.le_of_ble_eq_true rfl) dJ5_charAt_26 ⟨Nat.le_refl _, Nat.le_refl _⟩ ?_
  clear h
  rintro _ _ ws ⟨rfl, rfl, h⟩ hM3
  refine ww_st0 ?_
  refine ww_iload_n dJ5_charAt_29 2 rfl ?_
  obtain ⟨r_8, h⟩ := h
  refine ww_if_ne (tgt := 42) dJ5_charAt_30 (by decide) r_8 (fun c => ?_) (fun c => ?_)
  · replace h := h.1 c
    refine ww_aloadQ_n dJ5_charAt_42 1 rfl ?_
    refine ww_iload_n dJ5_charAt_43 4 rfl ?_
    exact h.elim
  · replace h := h.2 c
    refine ww_aloadQ_n dJ5_charAt_33 1 rfl ?_
    refine ww_iload_n dJ5_charAt_34 4 rfl ?_
    obtain ⟨x_9, hx, h⟩ := h
    refine wm_bald hM3 rfl hx dJ5_charAt_35 ?_
    refine ww_sipush (v := 255) dJ5_charAt_36 rfl ?_
    refine ww_iand dJ5_charAt_39 ?_
    refine wm_i2c dJ5_charAt_40 ?_
    obtain ⟨hz, h⟩ := h
    exact ww_xret (ws, μ) rfl (narrow_c hz) ⟨hM3, ⟨rfl, _, rfl, hz, h⟩⟩ rfl (Nat.le_refl _) (Nat.le_refl _) dJ5_charAt_41
/-! J6_charAt: java/lang/StringBuilder charAt (I)C; flags (False, False, False), depth 3 -/
def wc_J6_charAt (ad : Nat → Nat) (μ : HM) (b : Nat) (a1 : Int) (P : Int → Prop) : Prop :=
  gC μ b = some 21 ∧
  wc_J5_charAt ad μ b a1 (fun y_1 =>
    (0 ≤ y_1 ∧ y_1 < 65536) ∧ P y_1)
set_option maxHeartbeats 4000000 in
theorem tm_J6_charAt {G : g_G} {l : Launch} {μ : HM} {b : Nat} {a1 : Int} {P : Int → Prop} (h : wc_J6_charAt (g_ad G) μ b a1 P) : CM G l yJ6_charAt cJ6_charAt 2 (Option.some Jvm.ClassFile.FieldType.char) 3 0 0 [.ref b, vI a1] μ (hN6 μ P) := by
  unfold wc_J6_charAt at h
  refine wm_of (lvs := [(0, va_rf (some b)), (1, vI a1)]) (by decide) (Nat.le_of_ble_eq_true rfl) rfl (fun fr ws hM1 => ?_)
  show WW G l cJ6_charAt RJ6 2 (Option.some Jvm.ClassFile.FieldType.char) "charAt" 3 0 0 (hMR G (hN6 μ P)) (fun u => [u.1, fr]) 0 0 [ws, fr] 0 [(0, va_rf (some b)), (1, vI a1)] []
  refine ww_aloadQ_n dJ6_charAt_0 0 rfl ?_
  refine ww_iload_n dJ6_charAt_1 1 rfl ?_
  obtain ⟨hg, h⟩ := h
  refine wm_callSU (n := 1) hM1 (tm_J5_charAt h) rfl hg rfl (lw_SU q677 q2661 q397 q678 q119 q679) ⟨by decide, by decide +kernel⟩ rfl ⟨Nat.le_of_ble_eq_true rfl, Nat.le_of_ble_eq_true rfl⟩ rfl (Nat.le_of_ble_eq_true rfl) dJ6_charAt_2 ⟨Nat.le_refl _, Nat.le_refl _⟩ ?_
  clear h
  rintro _ _ ws ⟨rfl, y_1, rfl, z_2, h⟩ hM2
  refine ww_st1 ?_
  obtain ⟨hz, h⟩ := h
  exact ww_xret (ws, μ) rfl (narrow_c hz) ⟨hM2, ⟨rfl, _, rfl, hz, h⟩⟩ rfl (Nat.le_refl _) (Nat.le_refl _) dJ6_charAt_5
/-! X6_told: HoloNet$Reader told (Ljava/lang/CharSequence;)I; flags (False, False, False), depth 4 -/
def wc_X6_told (ad : Nat → Nat) (μ : HM) (b : Nat) (o1 : Option Nat) (P : Int → Prop) : Prop :=
  ∃ a_1 : Nat, o1 = some a_1 ∧
  gC μ a_1 = some 21 ∧
  wc_J6_length ad μ a_1 (fun y_2 =>
    rI y_2 ∧
    ((y_2 ≤ 2 →
      ∃ I16 : Nat → Int → Int → Prop, (∀ (n16 : Nat) (v2_16 : Int) (v3_16 : Int), I16 n16 v2_16 v3_16 →
        gC μ a_1 = some 21 ∧
        wc_J6_length ad μ a_1 (fun y_5 =>
          rI v3_16 ∧
          rI y_5 ∧
          ((y_5 ≤ v3_16 →
            P v2_16) ∧
          (v3_16 < y_5 →
            gC μ a_1 = some 21 ∧
            wc_J6_charAt ad μ a_1 v3_16 (fun y_9 =>
              ∀ x_11 : Int, x_11 = ((10 * v2_16) + y_9) - 48 →
              ∃ m : Nat, m < n16 ∧ I16 m x_11 (v3_16 + 1)))))) ∧
      ∃ m : Nat, I16 m 0 0) ∧
    (2 < y_2 →
      P (-1))))
set_option maxHeartbeats 4000000 in
theorem tm_X6_told {G : g_G} {l : Launch} {μ : HM} {b : Nat} {o1 : Option Nat} {P : Int → Prop} (h : wc_X6_told (g_ad G) μ b o1 P) : CM G l yX6_told cX6_told 4 (Option.some Jvm.ClassFile.FieldType.int) 4 0 0 [.ref b, va_rf o1] μ (hN1 μ P) := by
  unfold wc_X6_told at h
  refine wm_of (lvs := [(0, va_rf (some b)), (1, va_rf o1)]) (by decide) (by simp [lg_sl, rf_cat, vI_cat, vL_cat, ref_cat]) (by simp [lv_args, rf_cat, vI_cat, vL_cat, ref_cat, rf_some]) (fun fr ws hM1 => ?_)
  show WW G l cX6_told RX6 4 (Option.some Jvm.ClassFile.FieldType.int) "told" 4 0 0 (hMR G (hN1 μ P)) (fun u => [u.1, fr]) 0 0 [ws, fr] 0 [(0, va_rf (some b)), (1, va_rf o1)] []
  refine ww_aloadQ_n dX6_told_0 1 rfl ?_
  obtain ⟨a_1, ea_1, h⟩ := h
  subst ea_1
  obtain ⟨hg, h⟩ := h
  refine wm_callF (n := 0) hM1 (tm_J6_length h) rfl hg rfl (lw_F q635 q649 q566 q120 q568) (by decide) ⟨by decide, by decide, by decide +kernel⟩ rfl ⟨Nat.le_of_ble_eq_true rfl, Nat.le_of_ble_eq_true rfl⟩ rfl (Nat.le_of_ble_eq_true rfl) dX6_told_1 ⟨Nat.le_refl _, Nat.le_refl _⟩ ?_
  clear h
  rintro _ _ ws ⟨rfl, y_2, rfl, h⟩ hM2
  refine ww_st1 ?_
  refine ww_iconst dX6_told_6 ?_
  obtain ⟨r_4, h⟩ := h
  refine ww_icmp_le (tgt := 12) dX6_told_7 (by decide) r_4 (by decide) (fun c => ?_) (fun c => ?_)
  · replace h := h.1 c
    refine ww_iconst dX6_told_12 ?_
    refine ww_istore_n (i := 2) (lv2 := [(2, vI 0), (0, va_rf (some b)), (1, va_rf (some a_1))]) dX6_told_13 rfl (Nat.le_of_ble_eq_true rfl) rfl ?_
    refine ww_iconst dX6_told_14 ?_
    refine ww_istore_n (i := 3) (lv2 := [(3, vI 0), (2, vI 0), (0, va_rf (some b)), (1, va_rf (some a_1))]) dX6_told_15 rfl (Nat.le_of_ble_eq_true rfl) rfl ?_
    obtain ⟨I16, hI16, h⟩ := h
    have kI16 : ∀ (n16 : Nat), ∀ (v2_16 : Int), ∀ (v3_16 : Int), I16 n16 v2_16 v3_16 → ∀ ws : va_W, Mrep G ws μ → WW G l cX6_told RX6 4 (Option.some Jvm.ClassFile.FieldType.int) "told" 4 0 0 (hMR G (hN1 μ P)) (fun u => [u.1, fr]) 0 0 [ws, fr] 16 [(1, va_rf (some a_1)), (2, vI v2_16), (3, vI v3_16)] [] := by
      clear h
      intro n16
      induction n16 using Nat.strongRecOn with
      | ind n16 ih16 =>
        intro v2_16 v3_16 hj ws hM3
        have h := hI16 n16 v2_16 v3_16 hj
        refine ww_iload_n dX6_told_16 2 rfl ?_
        refine ww_aloadQ_n dX6_told_17 0 rfl ?_
        obtain ⟨hg, h⟩ := h
        refine wm_callF (n := 0) hM3 (tm_J6_length h) rfl hg rfl (lw_F q635 q649 q566 q120 q568) (by decide) ⟨by decide, by decide, by decide +kernel⟩ rfl ⟨Nat.le_of_ble_eq_true rfl, Nat.le_of_ble_eq_true rfl⟩ rfl (Nat.le_of_ble_eq_true rfl) dX6_told_18 ⟨Nat.le_refl _, Nat.le_refl _⟩ ?_
        clear h
        rintro _ _ ws ⟨rfl, y_5, rfl, h⟩ hM4
        refine ww_st1 ?_
        obtain ⟨r_7, r_8, h⟩ := h
        refine ww_icmp_ge (tgt := 48) dX6_told_23 (by decide) r_7 r_8 (fun c => ?_) (fun c => ?_)
        · replace h := h.1 c
          refine ww_iload_n dX6_told_48 1 rfl ?_
          exact ww_iret (ws, μ) rfl ⟨hM4, ⟨rfl, _, rfl, h⟩⟩ rfl (Nat.le_refl _) (Nat.le_refl _) dX6_told_49
        · replace h := h.2 (Int.not_le.mp c)
          refine ww_bipush (v := 10) dX6_told_26 rfl ?_
          refine ww_iload_n dX6_told_28 1 rfl ?_
          refine ww_imul dX6_told_29 ?_
          refine ww_aloadQ_n dX6_told_30 0 rfl ?_
          refine ww_iload_n dX6_told_31 2 rfl ?_
          obtain ⟨hg, h⟩ := h
          refine wm_callF (n := 1) hM4 (tm_J6_charAt h) rfl hg rfl (lw_F q653 q672 q674 q120 q676) (by decide) ⟨by decide, by decide, by decide +kernel⟩ rfl ⟨Nat.le_of_ble_eq_true rfl, Nat.le_of_ble_eq_true rfl⟩ rfl (Nat.le_of_ble_eq_true rfl) dX6_told_32 ⟨Nat.le_refl _, Nat.le_refl _⟩ ?_
          clear h
          rintro _ _ ws ⟨rfl, y_9, rfl, z_10, h⟩ hM5
          refine ww_st1 ?_
          refine ww_iadd dX6_told_37 ?_
          refine ww_bipush (v := 48) dX6_told_38 rfl ?_
          refine ww_isub dX6_told_40 ?_
          refine ww_nmI (fun x_11 ex_11 => ?_)
          replace h := h x_11 ex_11
          refine ww_istore_n (i := 2) (lv2 := [(2, vI x_11), (1, va_rf (some a_1)), (3, vI v3_16)]) dX6_told_41 rfl (Nat.le_of_ble_eq_true rfl) rfl ?_
          refine ww_iinc (lv2 := [(3, vI (v3_16 + 1)), (2, vI x_11), (1, va_rf (some a_1))]) dX6_told_42 2 rfl (Nat.le_of_ble_eq_true rfl) rfl ?_
          refine ww_goto (tgt := 16) dX6_told_45 (by decide) ?_
          refine ww_lv [2, 1, 0] rfl ?_
          obtain ⟨m, hm, h⟩ := h
          exact ih16 m hm _ _ h _ hM5
    refine ww_lv [3, 1, 0] rfl ?_
    obtain ⟨m, h⟩ := h
    exact kI16 m _ _ h _ hM2
  · replace h := h.2 (Int.not_le.mp c)
    refine ww_iconst dX6_told_10 ?_
    exact ww_iret (ws, μ) rfl ⟨hM2, ⟨rfl, _, rfl, h⟩⟩ rfl (Nat.le_refl _) (Nat.le_refl _) dX6_told_11
/-! X6_go: HoloNet$Reader go ()V; flags (True, True, False), depth 6 -/
def wc_X6_go (ad : Nat → Nat) (mc ms : Nat) (μ : HM) (b : Nat) (P : HM → Prop) : Prop :=
  ∃ I0 : Nat → HM → Prop, (∀ (n0 : Nat) (μ0 : HM), I0 n0 μ0 →
    gC μ0 b = some 5 ∧
    wc_X6_at ad μ0 b (fun y_1 =>
      rI y_1 ∧
      ∃ J18 : Prop, (J18 →
        ∃ x_4 : Int, gI μ0 b 5 4 = some x_4 ∧
        ∃ (fi_5 : Nat → Int) (fq_6 : Nat → Option Nat), μ0 b = some (hO 5 fi_5 fq_6) ∧ 
        ∃ m : Nat, m < n0 ∧ I0 m (hs μ0 b (hO 5 (upF fi_5 4 (x_4 + 1)) fq_6))) ∧
      ((y_1 = 32 →
        J18) ∧
      (¬ y_1 = 32 →
        gC μ0 b = some 5 ∧
        wc_X6_at ad μ0 b (fun y_7 =>
          rI y_7 ∧
          ((¬ y_7 = 10 →
            ∃ x_10 : Int, gI μ0 b 5 4 = some x_10 ∧
            ∃ (fi_11 : Nat → Int) (fq_12 : Nat → Option Nat), μ0 b = some (hO 5 fi_11 fq_12) ∧ 
            ∃ (fi_13 : Nat → Int) (fq_14 : Nat → Option Nat), (hs μ0 b (hO 5 (upF fi_11 5 x_10) fq_12)) b = some (hO 5 fi_13 fq_14) ∧ 
            ∃ (fi_15 : Nat → Int) (fq_16 : Nat → Option Nat), (hs (hs μ0 b (hO 5 (upF fi_11 5 x_10) fq_12)) b (hO 5 fi_13 (upF fq_14 6 (some (ad 10))))) b = some (hO 5 fi_15 fq_16) ∧ 
            ∃ (fi_17 : Nat → Int) (fq_18 : Nat → Option Nat), (hs (hs (hs μ0 b (hO 5 (upF fi_11 5 x_10) fq_12)) b (hO 5 fi_13 (upF fq_14 6 (some (ad 10))))) b (hO 5 (upF fi_15 7 (-1)) fq_16)) b = some (hO 5 fi_17 fq_18) ∧ 
            ∃ x_19 : Int, gI (hs (hs (hs (hs μ0 b (hO 5 (upF fi_11 5 x_10) fq_12)) b (hO 5 fi_13 (upF fq_14 6 (some (ad 10))))) b (hO 5 (upF fi_15 7 (-1)) fq_16)) b (hO 5 (upF fi_17 8 0) fq_18)) b 5 4 = some x_19 ∧
            ∃ x_20 : Int, gI (hs (hs (hs (hs μ0 b (hO 5 (upF fi_11 5 x_10) fq_12)) b (hO 5 fi_13 (upF fq_14 6 (some (ad 10))))) b (hO 5 (upF fi_15 7 (-1)) fq_16)) b (hO 5 (upF fi_17 8 0) fq_18)) b 5 0 = some x_20 ∧
            rI x_19 ∧
            rI x_20 ∧
            ∃ J72 : Int → Prop, (∀ (s1_72 : Int), J72 s1_72 →
              ∃ (fi_23 : Nat → Int) (fq_24 : Nat → Option Nat), (hs (hs (hs (hs μ0 b (hO 5 (upF fi_11 5 x_10) fq_12)) b (hO 5 fi_13 (upF fq_14 6 (some (ad 10))))) b (hO 5 (upF fi_15 7 (-1)) fq_16)) b (hO 5 (upF fi_17 8 0) fq_18)) b = some (hO 5 fi_23 fq_24) ∧ (s1_72 = 0 ∨ s1_72 = 1) ∧ 
              ∃ x_25 : Option Nat, gQ (hs (hs (hs (hs (hs μ0 b (hO 5 (upF fi_11 5 x_10) fq_12)) b (hO 5 fi_13 (upF fq_14 6 (some (ad 10))))) b (hO 5 (upF fi_15 7 (-1)) fq_16)) b (hO 5 (upF fi_17 8 0) fq_18)) b (hO 5 (upF fi_23 9 s1_72) fq_24)) b 5 3 = some x_25 ∧
              ∃ a_26 : Nat, x_25 = some a_26 ∧
              gC (hs (hs (hs (hs (hs μ0 b (hO 5 (upF fi_11 5 x_10) fq_12)) b (hO 5 fi_13 (upF fq_14 6 (some (ad 10))))) b (hO 5 (upF fi_15 7 (-1)) fq_16)) b (hO 5 (upF fi_17 8 0) fq_18)) b (hO 5 (upF fi_23 9 s1_72) fq_24)) a_26 = some 21 ∧
              ∃ c_27 s_28 : Nat, (0 + c_27 ≤ mc ∧ 0 + s_28 ≤ ms) ∧
              wc_J6_setLength ad c_27 s_28 (hs (hs (hs (hs (hs μ0 b (hO 5 (upF fi_11 5 x_10) fq_12)) b (hO 5 fi_13 (upF fq_14 6 (some (ad 10))))) b (hO 5 (upF fi_15 7 (-1)) fq_16)) b (hO 5 (upF fi_17 8 0) fq_18)) b (hO 5 (upF fi_23 9 s1_72) fq_24)) a_26 0 (fun μ_30 =>
                gC μ_30 b = some 5 ∧
                wc_X6_at ad μ_30 b (fun y_31 =>
                  rI y_31 ∧
                  wc_X1_within ad μ_30 y_31 97 122 (fun y_34 =>
                    ∃ I100 : Nat → HM → Nat → Nat → Prop, (∀ (n100 : Nat) (μ100 : HM) (uc100 : Nat) (us100 : Nat), I100 n100 μ100 uc100 us100 →
                      gC μ100 b = some 5 ∧
                      wc_X6_at ad μ100 b (fun y_36 =>
                        rI y_36 ∧
                        wc_X1_within ad μ100 y_36 97 122 (fun y_39 =>
                          ((y_39 = 0 →
                            ∃ x_41 : Option Nat, gQ μ100 b 5 3 = some x_41 ∧
                            ∃ a_42 : Nat, x_41 = some a_42 ∧
                            gC μ100 a_42 = some 21 ∧
                            wc_J6_length ad μ100 a_42 (fun y_43 =>
                              rI y_43 ∧
                              ((y_43 ≤ 6 →
                                ∃ x_46 : Option Nat, gQ μ100 b 5 3 = some x_46 ∧
                                ∃ a_47 : Nat, x_46 = some a_47 ∧
                                gC μ100 a_47 = some 21 ∧
                                ∃ c_48 s_49 : Nat, (uc100 + c_48 ≤ mc ∧ us100 + s_49 ≤ ms) ∧
                                wc_J6_toString ad c_48 s_49 μ100 a_47 (fun y_51 μ_53 =>
                                  ∃ (fi_54 : Nat → Int) (fq_55 : Nat → Option Nat), μ_53 b = some (hO 5 fi_54 fq_55) ∧ 
                                  P (hs μ_53 b (hO 5 fi_54 (upF fq_55 6 y_51))))) ∧
                              (6 < y_43 →
                                ∃ (fi_56 : Nat → Int) (fq_57 : Nat → Option Nat), μ100 b = some (hO 5 fi_56 fq_57) ∧ 
                                P (hs μ100 b (hO 5 fi_56 (upF fq_57 6 (some (ad 10))))))))) ∧
                          (¬ y_39 = 0 →
                            ∃ x_58 : Option Nat, gQ μ100 b 5 3 = some x_58 ∧
                            gC μ100 b = some 5 ∧
                            wc_X6_at ad μ100 b (fun y_59 =>
                              ∃ a_61 : Nat, x_58 = some a_61 ∧
                              gC μ100 a_61 = some 21 ∧
                              ∃ c_62 s_63 : Nat, (uc100 + c_62 ≤ mc ∧ us100 + s_63 ≤ ms) ∧
                              wc_J6_append ad c_62 s_63 μ100 a_61 (bC y_59) (fun y_65 μ_67 =>
                                ∃ x_68 : Int, gI μ_67 b 5 4 = some x_68 ∧
                                ∃ (fi_69 : Nat → Int) (fq_70 : Nat → Option Nat), μ_67 b = some (hO 5 fi_69 fq_70) ∧ 
                                ∃ m : Nat, m < n100 ∧ I100 m (hs μ_67 b (hO 5 (upF fi_69 4 (x_68 + 1)) fq_70)) (uc100 + c_62) (us100 + s_63)))))))) ∧
                    ((y_34 = 0 →
                      gC μ_30 b = some 5 ∧
                      wc_X6_at ad μ_30 b (fun y_71 =>
                        rI y_71 ∧
                        wc_X1_within ad μ_30 y_71 48 57 (fun y_74 =>
                          ∃ I191 : Nat → HM → Nat → Nat → Prop, (∀ (n191 : Nat) (μ191 : HM) (uc191 : Nat) (us191 : Nat), I191 n191 μ191 uc191 us191 →
                            gC μ191 b = some 5 ∧
                            wc_X6_at ad μ191 b (fun y_76 =>
                              rI y_76 ∧
                              wc_X1_within ad μ191 y_76 48 57 (fun y_79 =>
                                ((y_79 = 0 →
                                  ∃ x_81 : Option Nat, gQ μ191 b 5 3 = some x_81 ∧
                                  gC μ191 b = some 5 ∧
                                  wc_X6_told ad μ191 b x_81 (fun y_82 =>
                                    ∃ (fi_84 : Nat → Int) (fq_85 : Nat → Option Nat), μ191 b = some (hO 5 fi_84 fq_85) ∧ 
                                    P (hs μ191 b (hO 5 (upF fi_84 7 y_82) fq_85)))) ∧
                                (¬ y_79 = 0 →
                                  ∃ x_86 : Option Nat, gQ μ191 b 5 3 = some x_86 ∧
                                  gC μ191 b = some 5 ∧
                                  wc_X6_at ad μ191 b (fun y_87 =>
                                    ∃ a_89 : Nat, x_86 = some a_89 ∧
                                    gC μ191 a_89 = some 21 ∧
                                    ∃ c_90 s_91 : Nat, (uc191 + c_90 ≤ mc ∧ us191 + s_91 ≤ ms) ∧
                                    wc_J6_append ad c_90 s_91 μ191 a_89 (bC y_87) (fun y_93 μ_95 =>
                                      ∃ x_96 : Int, gI μ_95 b 5 4 = some x_96 ∧
                                      ∃ (fi_97 : Nat → Int) (fq_98 : Nat → Option Nat), μ_95 b = some (hO 5 fi_97 fq_98) ∧ 
                                      ∃ m : Nat, m < n191 ∧ I191 m (hs μ_95 b (hO 5 (upF fi_97 4 (x_96 + 1)) fq_98)) (uc191 + c_90) (us191 + s_91)))))))) ∧
                          ((y_74 = 0 →
                            ∃ x_99 : Int, gI μ_30 b 5 9 = some x_99 ∧
                            rI x_99 ∧
                            ((¬ x_99 = 0 →
                              P μ_30) ∧
                            (x_99 = 0 →
                              gC μ_30 b = some 5 ∧
                              wc_X6_at ad μ_30 b (fun y_101 =>
                                rI y_101 ∧
                                ∃ J271 : Int → Prop, (∀ (s1_271 : Int), J271 s1_271 →
                                  ∃ (fi_104 : Nat → Int) (fq_105 : Nat → Option Nat), μ_30 b = some (hO 5 fi_104 fq_105) ∧ (s1_271 = 0 ∨ s1_271 = 1) ∧ 
                                  ∃ x_106 : Int, gI (hs μ_30 b (hO 5 (upF fi_104 8 s1_271) fq_105)) b 5 4 = some x_106 ∧
                                  ∃ (fi_107 : Nat → Int) (fq_108 : Nat → Option Nat), (hs μ_30 b (hO 5 (upF fi_104 8 s1_271) fq_105)) b = some (hO 5 fi_107 fq_108) ∧ 
                                  P (hs (hs μ_30 b (hO 5 (upF fi_104 8 s1_271) fq_105)) b (hO 5 (upF fi_107 4 (x_106 + 1)) fq_108))) ∧
                                ((¬ y_101 = 59 →
                                  J271 0) ∧
                                (y_101 = 59 →
                                  J271 1)))))) ∧
                          (¬ y_74 = 0 →
                            ∃ m : Nat, I191 m μ_30 (0 + c_27) (0 + s_28)))))) ∧
                    (¬ y_34 = 0 →
                      ∃ m : Nat, I100 m μ_30 (0 + c_27) (0 + s_28))))))) ∧
            ((x_19 < x_20 →
              J72 0) ∧
            (x_20 ≤ x_19 →
              J72 1))) ∧
          (y_7 = 10 →
            J18))))))) ∧
  ∃ m : Nat, I0 m μ
set_option maxHeartbeats 4000000 in
theorem tm_X6_go {G : g_G} {l : Launch} {mc ms : Nat} {μ : HM} {b : Nat} {P : HM → Prop} (h : wc_X6_go (g_ad G) mc ms μ b P) : CM G l yX6_go cX6_go 1 (Option.none : Option Jvm.ClassFile.FieldType) 6 mc ms [.ref b] μ (hR0 P) := by
  unfold wc_X6_go at h
  refine wm_of (lvs := [(0, va_rf (some b))]) (by decide) (Nat.le_of_ble_eq_true rfl) rfl (fun fr ws hM1 => ?_)
  show WW G l cX6_go RX6 1 (Option.none : Option Jvm.ClassFile.FieldType) "go" 6 mc ms (hMR G (hR0 P)) (fun u => [u.1, fr]) 0 0 [ws, fr] 0 [(0, va_rf (some b))] []
  have hB : 0 ≤ mc ∧ 0 ≤ ms := ⟨Nat.zero_le _, Nat.zero_le _⟩
  obtain ⟨I0, hI0, h⟩ := h
  have kI0 : ∀ (n0 : Nat), ∀ (μ0 : HM), I0 n0 μ0 → ∀ ws : va_W, Mrep G ws μ0 → (0 ≤ mc ∧ 0 ≤ ms) → WW G l cX6_go RX6 1 (Option.none : Option Jvm.ClassFile.FieldType) "go" 6 mc ms (hMR G (hR0 P)) (fun u => [u.1, fr]) 0 0 [ws, fr] 0 [(0, va_rf (some b))] [] := by
    clear h
    intro n0
    induction n0 using Nat.strongRecOn with
    | ind n0 ih0 =>
      intro μ0 hj ws hM2 hB
      have h := hI0 n0 μ0 hj
      refine ww_aloadQ_n dX6_go_0 0 rfl ?_
      obtain ⟨hg, h⟩ := h
      refine wm_callV (n := 0) hM2 (tm_X6_at h) rfl hg rfl (lw_V q443 q445 qs1 q118 q446) ⟨by decide, by decide, by decide +kernel⟩ rfl ⟨Nat.le_of_ble_eq_true rfl, Nat.le_of_ble_eq_true rfl⟩ rfl (Nat.le_of_ble_eq_true rfl) dX6_go_1 hB ?_
      clear h
      rintro _ _ ws ⟨rfl, y_1, rfl, h⟩ hM3
      refine ww_st1 ?_
      refine ww_bipush (v := 32) dX6_go_4 rfl ?_
      obtain ⟨r_3, h⟩ := h
      obtain ⟨J18, hJ18, h⟩ := h
      have kJ18 : J18 → ∀ ws : va_W, Mrep G ws μ0 → (0 ≤ mc ∧ 0 ≤ ms) → WW G l cX6_go RX6 1 (Option.none : Option Jvm.ClassFile.FieldType) "go" 6 mc ms (hMR G (hR0 P)) (fun u => [u.1, fr]) 0 0 [ws, fr] 18 [(0, va_rf (some b))] [] := by
        clear h
        intro hj ws hM4 hB
        have h := hJ18 hj
        refine ww_aloadQ_n dX6_go_18 0 rfl ?_
        refine ww_dup dX6_go_19 (rf_cat _) ?_
        obtain ⟨x_4, hx, h⟩ := h
        refine wm_getI hM4 rfl in_X6 (ci := 5) rfl (by decide) 4 (Nat.le_of_ble_eq_true rfl) hx (fun _ _ => rfl) q405 (fun _ _ h => h) dX6_go_20 ?_
        refine ww_iconst dX6_go_23 ?_
        refine ww_iadd dX6_go_24 ?_
        obtain ⟨fi_5, fq_6, hc, h⟩ := h
        refine wm_putI hM4 rfl in_X6 tyX6_ok nmX6 (ci := 5) rfl 4 (Nat.le_of_ble_eq_true rfl) hc (fun _ _ => rfl) (fun _ _ => Nat.le_of_ble_eq_true rfl) q405 (fun _ _ h => h) rfl rfl rfl dX6_go_25 (fun ws hM5 => ?_)
        refine ww_goto (tgt := 0) dX6_go_28 (by decide) ?_
        obtain ⟨m, hm, h⟩ := h
        exact ih0 m hm _ h _ hM5 hB
      refine ww_icmp_eq (tgt := 18) dX6_go_6 (by decide) r_3 (by decide) (fun c => ?_) (fun c => ?_)
      · replace h := h.1 c
        exact kJ18 h _ hM3 hB
      · replace h := h.2 c
        refine ww_aloadQ_n dX6_go_9 0 rfl ?_
        obtain ⟨hg, h⟩ := h
        refine wm_callV (n := 0) hM3 (tm_X6_at h) rfl hg rfl (lw_V q443 q445 qs1 q118 q446) ⟨by decide, by decide, by decide +kernel⟩ rfl ⟨Nat.le_of_ble_eq_true rfl, Nat.le_of_ble_eq_true rfl⟩ rfl (Nat.le_of_ble_eq_true rfl) dX6_go_10 hB ?_
        clear h
        rintro _ _ ws ⟨rfl, y_7, rfl, h⟩ hM6
        refine ww_st1 ?_
        refine ww_bipush (v := 10) dX6_go_13 rfl ?_
        obtain ⟨r_9, h⟩ := h
        refine ww_icmp_ne (tgt := 31) dX6_go_15 (by decide) r_9 (by decide) (fun c => ?_) (fun c => ?_)
        · replace h := h.1 c
          refine ww_aloadQ_n dX6_go_31 0 rfl ?_
          refine ww_aloadQ_n dX6_go_32 0 rfl ?_
          obtain ⟨x_10, hx, h⟩ := h
          refine wm_getI hM6 rfl in_X6 (ci := 5) rfl (by decide) 4 (Nat.le_of_ble_eq_true rfl) hx (fun _ _ => rfl) q405 (fun _ _ h => h) dX6_go_33 ?_
          obtain ⟨fi_11, fq_12, hc, h⟩ := h
          refine wm_putI hM6 rfl in_X6 tyX6_ok nmX6 (ci := 5) rfl 5 (Nat.le_of_ble_eq_true rfl) hc (fun _ _ => rfl) (fun _ _ => Nat.le_of_ble_eq_true rfl) q406 (fun _ _ h => h) rfl rfl rfl dX6_go_36 (fun ws hM7 => ?_)
          refine ww_aloadQ_n dX6_go_39 0 rfl ?_
          refine wm_ldcS 0 rfl dX6_go_40 ?_
          obtain ⟨fi_13, fq_14, hc, h⟩ := h
          refine wm_putQ hM7 rfl in_X6 tyX6_ok nmX6 (ci := 5) rfl 6 (Nat.le_of_ble_eq_true rfl) hc (fun _ _ => rfl) (fun _ _ => Nat.le_of_ble_eq_true rfl) q407 (fun _ _ h => h) rfl (narrow_rf rfl _) (fits_rf rfl _) dX6_go_42 (fun ws hM8 => ?_)
          refine ww_aloadQ_n dX6_go_45 0 rfl ?_
          refine ww_iconst dX6_go_46 ?_
          obtain ⟨fi_15, fq_16, hc, h⟩ := h
          refine wm_putI hM8 rfl in_X6 tyX6_ok nmX6 (ci := 5) rfl 7 (Nat.le_of_ble_eq_true rfl) hc (fun _ _ => rfl) (fun _ _ => Nat.le_of_ble_eq_true rfl) q408 (fun _ _ h => h) rfl rfl rfl dX6_go_47 (fun ws hM9 => ?_)
          refine ww_aloadQ_n dX6_go_50 0 rfl ?_
          refine ww_iconst dX6_go_51 ?_
          obtain ⟨fi_17, fq_18, hc, h⟩ := h
          refine wm_putI hM9 rfl in_X6 tyX6_ok nmX6 (ci := 5) rfl 8 (Nat.le_of_ble_eq_true rfl) hc (fun _ _ => rfl) (fun _ _ => Nat.le_of_ble_eq_true rfl) q409 (fun _ _ h => h) rfl rfl rfl dX6_go_52 (fun ws hM10 => ?_)
          refine ww_aloadQ_n dX6_go_55 0 rfl ?_
          refine ww_aloadQ_n dX6_go_56 0 rfl ?_
          obtain ⟨x_19, hx, h⟩ := h
          refine wm_getI hM10 rfl in_X6 (ci := 5) rfl (by decide) 4 (Nat.le_of_ble_eq_true rfl) hx (fun _ _ => rfl) q405 (fun _ _ h => h) dX6_go_57 ?_
          refine ww_aloadQ_n dX6_go_60 0 rfl ?_
          obtain ⟨x_20, hx, h⟩ := h
          refine wm_getI hM10 rfl in_X6 (ci := 5) rfl (by decide) 0 (Nat.le_of_ble_eq_true rfl) hx (fun _ _ => rfl) q399 (fun _ _ h => h) dX6_go_61 ?_
          obtain ⟨r_21, r_22, h⟩ := h
          obtain ⟨J72, hJ72, h⟩ := h
          have kJ72 : ∀ (s1_72 : Int), J72 s1_72 → ∀ ws : va_W, Mrep G ws (hs (hs (hs (hs μ0 b (hO 5 (upF fi_11 5 x_10) fq_12)) b (hO 5 fi_13 (upF fq_14 6 (some (g_ad G 10))))) b (hO 5 (upF fi_15 7 (-1)) fq_16)) b (hO 5 (upF fi_17 8 0) fq_18)) → (0 ≤ mc ∧ 0 ≤ ms) → WW G l cX6_go RX6 1 (Option.none : Option Jvm.ClassFile.FieldType) "go" 6 mc ms (hMR G (hR0 P)) (fun u => [u.1, fr]) 0 0 [ws, fr] 72 [(0, va_rf (some b))] [vI s1_72, va_rf (some b)] := by
            clear h
            intro s1_72 hj ws hM11 hB
            have h := hJ72 s1_72 hj
            obtain ⟨fi_23, fq_24, hc, hz, h⟩ := h
            refine wm_putI hM11 rfl in_X6 tyX6_ok nmX6 (ci := 5) rfl 9 (Nat.le_of_ble_eq_true rfl) hc (fun _ _ => rfl) (fun _ _ => Nat.le_of_ble_eq_true rfl) q410 (fun _ _ h => h) rfl (narrow_z hz) (fits_z hz) dX6_go_72 (fun ws hM12 => ?_)
            refine ww_aloadQ_n dX6_go_75 0 rfl ?_
            obtain ⟨x_25, hx, h⟩ := h
            refine wm_getQ hM12 rfl in_X6 (ci := 5) rfl (by decide) 3 (Nat.le_of_ble_eq_true rfl) hx (fun _ _ => rfl) q404 (fun _ _ h => h) dX6_go_76 ?_
            refine ww_iconst dX6_go_79 ?_
            obtain ⟨a_26, ea_26, h⟩ := h
            subst ea_26
            obtain ⟨hg, h⟩ := h
            obtain ⟨c_27, s_28, b_29, h⟩ := h
            refine wm_callV (n := 1) hM12 (tm_J6_setLength h) rfl hg rfl (lw_V q447 q448 q449 q120 q450) ⟨by decide, by decide, by decide +kernel⟩ rfl ⟨Nat.le_of_ble_eq_true rfl, Nat.le_of_ble_eq_true rfl⟩ rfl (Nat.le_of_ble_eq_true rfl) dX6_go_80 b_29 ?_
            clear h
            rintro _ μ_30 ws ⟨rfl, h⟩ hM13
            have hB := b_29
            refine ww_st0 ?_
            refine ww_aloadQ_n dX6_go_83 0 rfl ?_
            obtain ⟨hg, h⟩ := h
            refine wm_callV (n := 0) hM13 (tm_X6_at h) rfl hg rfl (lw_V q443 q445 qs1 q118 q446) ⟨by decide, by decide, by decide +kernel⟩ rfl ⟨Nat.le_of_ble_eq_true rfl, Nat.le_of_ble_eq_true rfl⟩ rfl (Nat.le_of_ble_eq_true rfl) dX6_go_84 hB ?_
            clear h
            rintro _ _ ws ⟨rfl, y_31, rfl, h⟩ hM14
            refine ww_st1 ?_
            obtain ⟨r_33, h⟩ := h
            refine ww_i2l dX6_go_87 r_33 ?_
            refine ww_ldc2 (x := 97) dX6_go_88 q507 rfl ?_
            refine ww_ldc2 (x := 122) dX6_go_91 q508 rfl ?_
            refine wm_callSN (n := 3) hM14 (tm_X1_within h) q509 q355 q108 q354 ⟨by decide, by decide, by decide +kernel⟩ rfl ⟨Nat.le_of_ble_eq_true rfl, Nat.le_of_ble_eq_true rfl⟩ rfl (Nat.le_of_ble_eq_true rfl) dX6_go_94 hB ?_
            clear h
            rintro _ _ ws ⟨rfl, y_34, rfl, z_35, h⟩ hM15
            refine ww_st1 ?_
            obtain ⟨I100, hI100, h⟩ := h
            have kI100 : ∀ (n100 : Nat), ∀ (μ100 : HM), ∀ (uc100 : Nat), ∀ (us100 : Nat), I100 n100 μ100 uc100 us100 → ∀ ws : va_W, Mrep G ws μ100 → (uc100 ≤ mc ∧ us100 ≤ ms) → WW G l cX6_go RX6 1 (Option.none : Option Jvm.ClassFile.FieldType) "go" 6 mc ms (hMR G (hR0 P)) (fun u => [u.1, fr]) uc100 us100 [ws, fr] 100 [(0, va_rf (some b))] [] := by
              clear h
              intro n100
              induction n100 using Nat.strongRecOn with
              | ind n100 ih100 =>
                intro μ100 uc100 us100 hj ws hM16 hB
                have h := hI100 n100 μ100 uc100 us100 hj
                refine ww_aloadQ_n dX6_go_100 0 rfl ?_
                obtain ⟨hg, h⟩ := h
                refine wm_callV (n := 0) hM16 (tm_X6_at h) rfl hg rfl (lw_V q443 q445 qs1 q118 q446) ⟨by decide, by decide, by decide +kernel⟩ rfl ⟨Nat.le_of_ble_eq_true rfl, Nat.le_of_ble_eq_true rfl⟩ rfl (Nat.le_of_ble_eq_true rfl) dX6_go_101 hB ?_
                clear h
                rintro _ _ ws ⟨rfl, y_36, rfl, h⟩ hM17
                refine ww_st1 ?_
                obtain ⟨r_38, h⟩ := h
                refine ww_i2l dX6_go_104 r_38 ?_
                refine ww_ldc2 (x := 97) dX6_go_105 q507 rfl ?_
                refine ww_ldc2 (x := 122) dX6_go_108 q508 rfl ?_
                refine wm_callSN (n := 3) hM17 (tm_X1_within h) q509 q355 q108 q354 ⟨by decide, by decide, by decide +kernel⟩ rfl ⟨Nat.le_of_ble_eq_true rfl, Nat.le_of_ble_eq_true rfl⟩ rfl (Nat.le_of_ble_eq_true rfl) dX6_go_111 hB ?_
                clear h
                rintro _ _ ws ⟨rfl, y_39, rfl, z_40, h⟩ hM18
                refine ww_st1 ?_
                refine ww_if_eq (tgt := 143) dX6_go_114 (by decide) (r_z z_40) (fun c => ?_) (fun c => ?_)
                · replace h := h.1 c
                  refine ww_aloadQ_n dX6_go_143 0 rfl ?_
                  refine ww_aloadQ_n dX6_go_144 0 rfl ?_
                  obtain ⟨x_41, hx, h⟩ := h
                  refine wm_getQ hM18 rfl in_X6 (ci := 5) rfl (by decide) 3 (Nat.le_of_ble_eq_true rfl) hx (fun _ _ => rfl) q404 (fun _ _ h => h) dX6_go_145 ?_
                  obtain ⟨a_42, ea_42, h⟩ := h
                  subst ea_42
                  obtain ⟨hg, h⟩ := h
                  refine wm_callV (n := 0) hM18 (tm_J6_length h) rfl hg rfl (lw_V q565 q566 q567 q120 q568) ⟨by decide, by decide, by decide +kernel⟩ rfl ⟨Nat.le_of_ble_eq_true rfl, Nat.le_of_ble_eq_true rfl⟩ rfl (by simp only [List.map_cons, List.map_nil, rf_cat, vI_cat, vL_cat, List.sum_cons, List.sum_nil]; decide) dX6_go_148 hB ?_
                  clear h
                  rintro _ _ ws ⟨rfl, y_43, rfl, h⟩ hM19
                  refine ww_st1 ?_
                  refine ww_bipush (v := 6) dX6_go_151 rfl ?_
                  obtain ⟨r_45, h⟩ := h
                  refine ww_icmp_le (tgt := 161) dX6_go_153 (by decide) r_45 (by decide) (fun c => ?_) (fun c => ?_)
                  · replace h := h.1 c
                    refine ww_aloadQ_n dX6_go_161 0 rfl ?_
                    obtain ⟨x_46, hx, h⟩ := h
                    refine wm_getQ hM19 rfl in_X6 (ci := 5) rfl (by decide) 3 (Nat.le_of_ble_eq_true rfl) hx (fun _ _ => rfl) q404 (fun _ _ h => h) dX6_go_162 ?_
                    obtain ⟨a_47, ea_47, h⟩ := h
                    subst ea_47
                    obtain ⟨hg, h⟩ := h
                    obtain ⟨c_48, s_49, b_50, h⟩ := h
                    refine wm_callV (n := 0) hM19 (tm_J6_toString h) rfl hg rfl (lw_V q572 q573 q574 q120 q575) ⟨by decide, by decide, by decide +kernel⟩ rfl ⟨Nat.le_of_ble_eq_true rfl, Nat.le_of_ble_eq_true rfl⟩ rfl (by simp only [List.map_cons, List.map_nil, rf_cat, vI_cat, vL_cat, List.sum_cons, List.sum_nil]; decide) dX6_go_165 b_50 ?_
                    clear h
                    rintro _ μ_53 ws ⟨y_51, rfl, h⟩ hM20
                    have hB := b_50
                    refine ww_st1 ?_
                    obtain ⟨fi_54, fq_55, hc, h⟩ := h
                    refine wm_putQ hM20 rfl in_X6 tyX6_ok nmX6 (ci := 5) rfl 6 (Nat.le_of_ble_eq_true rfl) hc (fun _ _ => rfl) (fun _ _ => Nat.le_of_ble_eq_true rfl) q407 (fun _ _ h => h) rfl (narrow_rf rfl _) (fits_rf rfl _) dX6_go_168 (fun ws hM21 => ?_)
                    refine ww_goto (tgt := 284) dX6_go_171 (by decide) ?_
                    exact ww_vret (ws, (hs μ_53 b (hO 5 fi_54 (upF fq_55 6 y_51)))) rfl ⟨hM21, ⟨rfl, h⟩⟩ rfl hB.1 hB.2 dX6_go_284
                  · replace h := h.2 (Int.not_le.mp c)
                    refine wm_ldcS 0 rfl dX6_go_156 ?_
                    refine ww_goto (tgt := 168) dX6_go_158 (by decide) ?_
                    obtain ⟨fi_56, fq_57, hc, h⟩ := h
                    refine wm_putQ hM19 rfl in_X6 tyX6_ok nmX6 (ci := 5) rfl 6 (Nat.le_of_ble_eq_true rfl) hc (fun _ _ => rfl) (fun _ _ => Nat.le_of_ble_eq_true rfl) q407 (fun _ _ h => h) rfl (narrow_rf rfl _) (fits_rf rfl _) dX6_go_168 (fun ws hM22 => ?_)
                    refine ww_goto (tgt := 284) dX6_go_171 (by decide) ?_
                    exact ww_vret (ws, (hs μ100 b (hO 5 fi_56 (upF fq_57 6 (some (g_ad G 10)))))) rfl ⟨hM22, ⟨rfl, h⟩⟩ rfl hB.1 hB.2 dX6_go_284
                · replace h := h.2 c
                  refine ww_aloadQ_n dX6_go_117 0 rfl ?_
                  obtain ⟨x_58, hx, h⟩ := h
                  refine wm_getQ hM18 rfl in_X6 (ci := 5) rfl (by decide) 3 (Nat.le_of_ble_eq_true rfl) hx (fun _ _ => rfl) q404 (fun _ _ h => h) dX6_go_118 ?_
                  refine ww_aloadQ_n dX6_go_121 0 rfl ?_
                  obtain ⟨hg, h⟩ := h
                  refine wm_callV (n := 0) hM18 (tm_X6_at h) rfl hg rfl (lw_V q443 q445 qs1 q118 q446) ⟨by decide, by decide, by decide +kernel⟩ rfl ⟨Nat.le_of_ble_eq_true rfl, Nat.le_of_ble_eq_true rfl⟩ rfl (by simp only [List.map_cons, List.map_nil, rf_cat, vI_cat, vL_cat, List.sum_cons, List.sum_nil]; decide) dX6_go_122 hB ?_
                  clear h
                  rintro _ _ ws ⟨rfl, y_59, rfl, h⟩ hM23
                  refine ww_st1 ?_
                  refine wm_i2c dX6_go_125 ?_
                  obtain ⟨a_61, ea_61, h⟩ := h
                  subst ea_61
                  obtain ⟨hg, h⟩ := h
                  obtain ⟨c_62, s_63, b_64, h⟩ := h
                  refine wm_callV (n := 1) hM23 (tm_J6_append h) rfl hg rfl (lw_V q510 q511 q512 q120 q513) ⟨by decide, by decide, by decide +kernel⟩ rfl ⟨Nat.le_of_ble_eq_true rfl, Nat.le_of_ble_eq_true rfl⟩ rfl (Nat.le_of_ble_eq_true rfl) dX6_go_126 b_64 ?_
                  clear h
                  rintro _ μ_67 ws ⟨y_65, rfl, h⟩ hM24
                  have hB := b_64
                  refine ww_st1 ?_
                  refine ww_pop dX6_go_129 (rf_cat _) ?_
                  refine ww_aloadQ_n dX6_go_130 0 rfl ?_
                  refine ww_dup dX6_go_131 (rf_cat _) ?_
                  obtain ⟨x_68, hx, h⟩ := h
                  refine wm_getI hM24 rfl in_X6 (ci := 5) rfl (by decide) 4 (Nat.le_of_ble_eq_true rfl) hx (fun _ _ => rfl) q405 (fun _ _ h => h) dX6_go_132 ?_
                  refine ww_iconst dX6_go_135 ?_
                  refine ww_iadd dX6_go_136 ?_
                  obtain ⟨fi_69, fq_70, hc, h⟩ := h
                  refine wm_putI hM24 rfl in_X6 tyX6_ok nmX6 (ci := 5) rfl 4 (Nat.le_of_ble_eq_true rfl) hc (fun _ _ => rfl) (fun _ _ => Nat.le_of_ble_eq_true rfl) q405 (fun _ _ h => h) rfl rfl rfl dX6_go_137 (fun ws hM25 => ?_)
                  refine ww_goto (tgt := 100) dX6_go_140 (by decide) ?_
                  obtain ⟨m, hm, h⟩ := h
                  exact ih100 m hm _ _ _ h _ hM25 hB
            refine ww_if_eq (tgt := 174) dX6_go_97 (by decide) (r_z z_35) (fun c => ?_) (fun c => ?_)
            · replace h := h.1 c
              refine ww_aloadQ_n dX6_go_174 0 rfl ?_
              obtain ⟨hg, h⟩ := h
              refine wm_callV (n := 0) hM15 (tm_X6_at h) rfl hg rfl (lw_V q443 q445 qs1 q118 q446) ⟨by decide, by decide, by decide +kernel⟩ rfl ⟨Nat.le_of_ble_eq_true rfl, Nat.le_of_ble_eq_true rfl⟩ rfl (Nat.le_of_ble_eq_true rfl) dX6_go_175 hB ?_
              clear h
              rintro _ _ ws ⟨rfl, y_71, rfl, h⟩ hM26
              refine ww_st1 ?_
              obtain ⟨r_73, h⟩ := h
              refine ww_i2l dX6_go_178 r_73 ?_
              refine ww_ldc2 (x := 48) dX6_go_179 q628 rfl ?_
              refine ww_ldc2 (x := 57) dX6_go_182 q629 rfl ?_
              refine wm_callSN (n := 3) hM26 (tm_X1_within h) q509 q355 q108 q354 ⟨by decide, by decide, by decide +kernel⟩ rfl ⟨Nat.le_of_ble_eq_true rfl, Nat.le_of_ble_eq_true rfl⟩ rfl (Nat.le_of_ble_eq_true rfl) dX6_go_185 hB ?_
              clear h
              rintro _ _ ws ⟨rfl, y_74, rfl, z_75, h⟩ hM27
              refine ww_st1 ?_
              obtain ⟨I191, hI191, h⟩ := h
              have kI191 : ∀ (n191 : Nat), ∀ (μ191 : HM), ∀ (uc191 : Nat), ∀ (us191 : Nat), I191 n191 μ191 uc191 us191 → ∀ ws : va_W, Mrep G ws μ191 → (uc191 ≤ mc ∧ us191 ≤ ms) → WW G l cX6_go RX6 1 (Option.none : Option Jvm.ClassFile.FieldType) "go" 6 mc ms (hMR G (hR0 P)) (fun u => [u.1, fr]) uc191 us191 [ws, fr] 191 [(0, va_rf (some b))] [] := by
                clear h
                intro n191
                induction n191 using Nat.strongRecOn with
                | ind n191 ih191 =>
                  intro μ191 uc191 us191 hj ws hM28 hB
                  have h := hI191 n191 μ191 uc191 us191 hj
                  refine ww_aloadQ_n dX6_go_191 0 rfl ?_
                  obtain ⟨hg, h⟩ := h
                  refine wm_callV (n := 0) hM28 (tm_X6_at h) rfl hg rfl (lw_V q443 q445 qs1 q118 q446) ⟨by decide, by decide, by decide +kernel⟩ rfl ⟨Nat.le_of_ble_eq_true rfl, Nat.le_of_ble_eq_true rfl⟩ rfl (Nat.le_of_ble_eq_true rfl) dX6_go_192 hB ?_
                  clear h
                  rintro _ _ ws ⟨rfl, y_76, rfl, h⟩ hM29
                  refine ww_st1 ?_
                  obtain ⟨r_78, h⟩ := h
                  refine ww_i2l dX6_go_195 r_78 ?_
                  refine ww_ldc2 (x := 48) dX6_go_196 q628 rfl ?_
                  refine ww_ldc2 (x := 57) dX6_go_199 q629 rfl ?_
                  refine wm_callSN (n := 3) hM29 (tm_X1_within h) q509 q355 q108 q354 ⟨by decide, by decide, by decide +kernel⟩ rfl ⟨Nat.le_of_ble_eq_true rfl, Nat.le_of_ble_eq_true rfl⟩ rfl (Nat.le_of_ble_eq_true rfl) dX6_go_202 hB ?_
                  clear h
                  rintro _ _ ws ⟨rfl, y_79, rfl, z_80, h⟩ hM30
                  refine ww_st1 ?_
                  refine ww_if_eq (tgt := 234) dX6_go_205 (by decide) (r_z z_80) (fun c => ?_) (fun c => ?_)
                  · replace h := h.1 c
                    refine ww_aloadQ_n dX6_go_234 0 rfl ?_
                    refine ww_aloadQ_n dX6_go_235 0 rfl ?_
                    refine ww_aloadQ_n dX6_go_236 0 rfl ?_
                    obtain ⟨x_81, hx, h⟩ := h
                    refine wm_getQ hM30 rfl in_X6 (ci := 5) rfl (by decide) 3 (Nat.le_of_ble_eq_true rfl) hx (fun _ _ => rfl) q404 (fun _ _ h => h) dX6_go_237 ?_
                    obtain ⟨hg, h⟩ := h
                    refine wm_callV (n := 1) hM30 (tm_X6_told h) rfl hg rfl (lw_V q630 q632 qs2 q118 q633) ⟨by decide, by decide, by decide +kernel⟩ rfl ⟨Nat.le_of_ble_eq_true rfl, Nat.le_of_ble_eq_true rfl⟩ rfl (by simp only [List.map_cons, List.map_nil, rf_cat, vI_cat, vL_cat, List.sum_cons, List.sum_nil]; decide) dX6_go_240 hB ?_
                    clear h
                    rintro _ _ ws ⟨rfl, y_82, rfl, h⟩ hM31
                    refine ww_st1 ?_
                    obtain ⟨fi_84, fq_85, hc, h⟩ := h
                    refine wm_putI hM31 rfl in_X6 tyX6_ok nmX6 (ci := 5) rfl 7 (Nat.le_of_ble_eq_true rfl) hc (fun _ _ => rfl) (fun _ _ => Nat.le_of_ble_eq_true rfl) q408 (fun _ _ h => h) rfl rfl rfl dX6_go_243 (fun ws hM32 => ?_)
                    refine ww_goto (tgt := 284) dX6_go_246 (by decide) ?_
                    exact ww_vret (ws, (hs μ191 b (hO 5 (upF fi_84 7 y_82) fq_85))) rfl ⟨hM32, ⟨rfl, h⟩⟩ rfl hB.1 hB.2 dX6_go_284
                  · replace h := h.2 c
                    refine ww_aloadQ_n dX6_go_208 0 rfl ?_
                    obtain ⟨x_86, hx, h⟩ := h
                    refine wm_getQ hM30 rfl in_X6 (ci := 5) rfl (by decide) 3 (Nat.le_of_ble_eq_true rfl) hx (fun _ _ => rfl) q404 (fun _ _ h => h) dX6_go_209 ?_
                    refine ww_aloadQ_n dX6_go_212 0 rfl ?_
                    obtain ⟨hg, h⟩ := h
                    refine wm_callV (n := 0) hM30 (tm_X6_at h) rfl hg rfl (lw_V q443 q445 qs1 q118 q446) ⟨by decide, by decide, by decide +kernel⟩ rfl ⟨Nat.le_of_ble_eq_true rfl, Nat.le_of_ble_eq_true rfl⟩ rfl (by simp only [List.map_cons, List.map_nil, rf_cat, vI_cat, vL_cat, List.sum_cons, List.sum_nil]; decide) dX6_go_213 hB ?_
                    clear h
                    rintro _ _ ws ⟨rfl, y_87, rfl, h⟩ hM33
                    refine ww_st1 ?_
                    refine wm_i2c dX6_go_216 ?_
                    obtain ⟨a_89, ea_89, h⟩ := h
                    subst ea_89
                    obtain ⟨hg, h⟩ := h
                    obtain ⟨c_90, s_91, b_92, h⟩ := h
                    refine wm_callV (n := 1) hM33 (tm_J6_append h) rfl hg rfl (lw_V q510 q511 q512 q120 q513) ⟨by decide, by decide, by decide +kernel⟩ rfl ⟨Nat.le_of_ble_eq_true rfl, Nat.le_of_ble_eq_true rfl⟩ rfl (Nat.le_of_ble_eq_true rfl) dX6_go_217 b_92 ?_
                    clear h
                    rintro _ μ_95 ws ⟨y_93, rfl, h⟩ hM34
                    have hB := b_92
                    refine ww_st1 ?_
                    refine ww_pop dX6_go_220 (rf_cat _) ?_
                    refine ww_aloadQ_n dX6_go_221 0 rfl ?_
                    refine ww_dup dX6_go_222 (rf_cat _) ?_
                    obtain ⟨x_96, hx, h⟩ := h
                    refine wm_getI hM34 rfl in_X6 (ci := 5) rfl (by decide) 4 (Nat.le_of_ble_eq_true rfl) hx (fun _ _ => rfl) q405 (fun _ _ h => h) dX6_go_223 ?_
                    refine ww_iconst dX6_go_226 ?_
                    refine ww_iadd dX6_go_227 ?_
                    obtain ⟨fi_97, fq_98, hc, h⟩ := h
                    refine wm_putI hM34 rfl in_X6 tyX6_ok nmX6 (ci := 5) rfl 4 (Nat.le_of_ble_eq_true rfl) hc (fun _ _ => rfl) (fun _ _ => Nat.le_of_ble_eq_true rfl) q405 (fun _ _ h => h) rfl rfl rfl dX6_go_228 (fun ws hM35 => ?_)
                    refine ww_goto (tgt := 191) dX6_go_231 (by decide) ?_
                    obtain ⟨m, hm, h⟩ := h
                    exact ih191 m hm _ _ _ h _ hM35 hB
              refine ww_if_eq (tgt := 249) dX6_go_188 (by decide) (r_z z_75) (fun c => ?_) (fun c => ?_)
              · replace h := h.1 c
                refine ww_aloadQ_n dX6_go_249 0 rfl ?_
                obtain ⟨x_99, hx, h⟩ := h
                refine wm_getI hM27 rfl in_X6 (ci := 5) rfl (by decide) 9 (Nat.le_of_ble_eq_true rfl) hx (fun _ _ => rfl) q410 (fun _ _ h => h) dX6_go_250 ?_
                obtain ⟨r_100, h⟩ := h
                refine ww_if_ne (tgt := 284) dX6_go_253 (by decide) r_100 (fun c => ?_) (fun c => ?_)
                · replace h := h.1 c
                  exact ww_vret (ws, μ_30) rfl ⟨hM27, ⟨rfl, h⟩⟩ rfl hB.1 hB.2 dX6_go_284
                · replace h := h.2 c
                  refine ww_aloadQ_n dX6_go_256 0 rfl ?_
                  refine ww_aloadQ_n dX6_go_257 0 rfl ?_
                  obtain ⟨hg, h⟩ := h
                  refine wm_callV (n := 0) hM27 (tm_X6_at h) rfl hg rfl (lw_V q443 q445 qs1 q118 q446) ⟨by decide, by decide, by decide +kernel⟩ rfl ⟨Nat.le_of_ble_eq_true rfl, Nat.le_of_ble_eq_true rfl⟩ rfl (by simp only [List.map_cons, List.map_nil, rf_cat, vI_cat, vL_cat, List.sum_cons, List.sum_nil]; decide) dX6_go_258 hB ?_
                  clear h
                  rintro _ _ ws ⟨rfl, y_101, rfl, h⟩ hM36
                  refine ww_st1 ?_
                  refine ww_bipush (v := 59) dX6_go_261 rfl ?_
                  obtain ⟨r_103, h⟩ := h
                  obtain ⟨J271, hJ271, h⟩ := h
                  have kJ271 : ∀ (s1_271 : Int), J271 s1_271 → ∀ ws : va_W, Mrep G ws μ_30 → (0 + c_27 ≤ mc ∧ 0 + s_28 ≤ ms) → WW G l cX6_go RX6 1 (Option.none : Option Jvm.ClassFile.FieldType) "go" 6 mc ms (hMR G (hR0 P)) (fun u => [u.1, fr]) (0 + c_27) (0 + s_28) [ws, fr] 271 [(0, va_rf (some b))] [vI s1_271, va_rf (some b)] := by
                    clear h
                    intro s1_271 hj ws hM37 hB
                    have h := hJ271 s1_271 hj
                    obtain ⟨fi_104, fq_105, hc, hz, h⟩ := h
                    refine wm_putI hM37 rfl in_X6 tyX6_ok nmX6 (ci := 5) rfl 8 (Nat.le_of_ble_eq_true rfl) hc (fun _ _ => rfl) (fun _ _ => Nat.le_of_ble_eq_true rfl) q409 (fun _ _ h => h) rfl (narrow_z hz) (fits_z hz) dX6_go_271 (fun ws hM38 => ?_)
                    refine ww_aloadQ_n dX6_go_274 0 rfl ?_
                    refine ww_dup dX6_go_275 (rf_cat _) ?_
                    obtain ⟨x_106, hx, h⟩ := h
                    refine wm_getI hM38 rfl in_X6 (ci := 5) rfl (by decide) 4 (Nat.le_of_ble_eq_true rfl) hx (fun _ _ => rfl) q405 (fun _ _ h => h) dX6_go_276 ?_
                    refine ww_iconst dX6_go_279 ?_
                    refine ww_iadd dX6_go_280 ?_
                    obtain ⟨fi_107, fq_108, hc, h⟩ := h
                    refine wm_putI hM38 rfl in_X6 tyX6_ok nmX6 (ci := 5) rfl 4 (Nat.le_of_ble_eq_true rfl) hc (fun _ _ => rfl) (fun _ _ => Nat.le_of_ble_eq_true rfl) q405 (fun _ _ h => h) rfl rfl rfl dX6_go_281 (fun ws hM39 => ?_)
                    exact ww_vret (ws, (hs (hs μ_30 b (hO 5 (upF fi_104 8 s1_271) fq_105)) b (hO 5 (upF fi_107 4 (x_106 + 1)) fq_108))) rfl ⟨hM39, ⟨rfl, h⟩⟩ rfl hB.1 hB.2 dX6_go_284
                  refine ww_icmp_ne (tgt := 270) dX6_go_263 (by decide) r_103 (by decide) (fun c => ?_) (fun c => ?_)
                  · replace h := h.1 c
                    refine ww_iconst dX6_go_270 ?_
                    exact kJ271 _ h _ hM36 hB
                  · replace h := h.2 c
                    refine ww_iconst dX6_go_266 ?_
                    refine ww_goto (tgt := 271) dX6_go_267 (by decide) ?_
                    exact kJ271 _ h _ hM36 hB
              · replace h := h.2 c
                obtain ⟨m, h⟩ := h
                exact kI191 m _ _ _ h _ hM27 hB
            · replace h := h.2 c
              obtain ⟨m, h⟩ := h
              exact kI100 m _ _ _ h _ hM15 hB
          refine ww_icmp_lt (tgt := 71) dX6_go_64 (by decide) r_21 r_22 (fun c => ?_) (fun c => ?_)
          · replace h := h.1 c
            refine ww_iconst dX6_go_71 ?_
            exact kJ72 _ h _ hM10 hB
          · replace h := h.2 (Int.not_lt.mp c)
            refine ww_iconst dX6_go_67 ?_
            refine ww_goto (tgt := 72) dX6_go_68 (by decide) ?_
            exact kJ72 _ h _ hM10 hB
        · replace h := h.2 c
          exact kJ18 h _ hM6 hB
  obtain ⟨m, h⟩ := h
  exact kI0 m _ h _ hM1 hB
