/-! THE TWIN: weakest preconditions and walks (printed by tools/twin.py) -/
set_option maxRecDepth 100000
/-! plug -/
def w_plug (σ : TS) (a1 : Int) (a2 : Int) (P : Int → TS → Prop) : Prop :=
  w_isNode (sF σ 0 0) a1 (fun y_1 =>
    ((y_1 = 0 →
      P 0 (sF σ 0 0)) ∧
    (¬ y_1 = 0 →
      w_isTable (sF σ 0 0) a2 (fun y_3 =>
        ((y_3 = 0 →
          P 0 (sF σ 0 0)) ∧
        (¬ y_3 = 0 →
          (0 ≤ a2 ∧ a2 < 16) ∧
          w_legsAt (sF σ 0 0) a1 (fun y_6 =>
            rI (tA σ 20 a2) ∧
            rI y_6 ∧
            (((tA σ 20 a2) = y_6 →
              w_keeps (sF σ 0 0) (fun σ_9 =>
                ∃ I43 : Nat → Int → TS → Prop, (∀ (n43 : Nat) (v3_43 : Int) (σ43 : TS), I43 n43 v3_43 σ43 →
                  rI v3_43 ∧
                  ((16 ≤ v3_43 →
                    P 1 σ43) ∧
                  (v3_43 < 16 →
                    (0 ≤ (16 * a2) + v3_43 ∧ (16 * a2) + v3_43 < 256) ∧
                    (0 ≤ (16 * a1) + v3_43 ∧ (16 * a1) + v3_43 < 117) ∧
                    ∃ m : Nat, m < n43 ∧ I43 m (v3_43 + 1) (sA σ43 30 ((16 * a1) + v3_43) (tA σ43 21 ((16 * a2) + v3_43)))))) ∧
                ∃ m : Nat, I43 m 0 σ_9)) ∧
            (¬ (tA σ 20 a2) = y_6 →
              P 0 (sF σ 0 0))))))))))
set_option maxHeartbeats 4000000 in
theorem t_plug {G : g_G} {l : Launch} {q : Nat → Nat} {σ : TS} {a1 : Int} {a2 : Int} {P : Int → TS → Prop} (h : w_plug σ a1 a2 P) : CT G l yX5_plug cX5_plug 4 (Option.some Jvm.ClassFile.FieldType.boolean) 2 0 0 [.ref (q 100), vI a1, vI a2] [tw G q σ] (tR2 (P)) (fun u => [tw G q u.2]) := by
  unfold w_plug at h
  refine ww_of (by decide) (Nat.le_of_ble_eq_true rfl) (fun fr => ?_)
  show WW G l cX5_plug RX5 4 (Option.some Jvm.ClassFile.FieldType.boolean) "plug" 2 0 0 (tR2 (P)) (tS G q fr) 0 0 [tw G q σ, fr] 0 [(0, .ref (q 100)), (1, vI a1), (2, vI a2)] []
  refine ww_aload_n dX5_plug_0 0 rfl ?_
  refine ww_iconst dX5_plug_1 ?_
  refine tp_0 dX5_plug_2 ?_
  refine ww_aload_n dX5_plug_5 0 rfl ?_
  refine ww_iload_n dX5_plug_6 1 rfl ?_
  refine tc_isNode h ⟨Nat.le_of_ble_eq_true rfl, Nat.le_of_ble_eq_true rfl⟩ ⟨Nat.le_refl _, Nat.le_refl _⟩ (Nat.le_of_ble_eq_true rfl) dX5_plug_7 (fun y_1 z_2 h => ?_)
  refine ww_if_eq (tgt := 35) dX5_plug_10 (by decide) (z01 z_2) (fun c => ?_) (fun c => ?_)
  · replace h := h.1 c
    refine ww_iconst dX5_plug_35 ?_
    exact ww_zret (0, sF σ 0 0) rfl (Or.inl rfl) ⟨rfl, (Or.inl rfl), h⟩ rfl (Nat.le_refl _) (Nat.le_refl _) dX5_plug_36
  · replace h := h.2 c
    refine ww_aload_n dX5_plug_13 0 rfl ?_
    refine ww_iload_n dX5_plug_14 2 rfl ?_
    refine tc_isTable h ⟨Nat.le_of_ble_eq_true rfl, Nat.le_of_ble_eq_true rfl⟩ ⟨Nat.le_refl _, Nat.le_refl _⟩ (Nat.le_of_ble_eq_true rfl) dX5_plug_15 (fun y_3 z_4 h => ?_)
    refine ww_if_eq (tgt := 35) dX5_plug_18 (by decide) (z01 z_4) (fun c => ?_) (fun c => ?_)
    · replace h := h.1 c
      refine ww_iconst dX5_plug_35 ?_
      exact ww_zret (0, sF σ 0 0) rfl (Or.inl rfl) ⟨rfl, (Or.inl rfl), h⟩ rfl (Nat.le_refl _) (Nat.le_refl _) dX5_plug_36
    · replace h := h.2 c
      refine ww_aload_n dX5_plug_21 0 rfl ?_
      refine tg_20 dX5_plug_22 ?_
      refine ww_iload_n dX5_plug_25 2 rfl ?_
      obtain ⟨r_5, h⟩ := h
      refine ta_20 r_5 dX5_plug_26 ?_
      refine ww_aload_n dX5_plug_27 0 rfl ?_
      refine ww_iload_n dX5_plug_28 1 rfl ?_
      refine tc_legsAt h ⟨Nat.le_of_ble_eq_true rfl, Nat.le_of_ble_eq_true rfl⟩ ⟨Nat.le_refl _, Nat.le_refl _⟩ (Nat.le_of_ble_eq_true rfl) dX5_plug_29 (fun y_6 h => ?_)
      obtain ⟨r_7, r_8, h⟩ := h
      refine ww_icmp_eq (tgt := 37) dX5_plug_32 (by decide) r_7 r_8 (fun c => ?_) (fun c => ?_)
      · replace h := h.1 c
        refine ww_aload_n dX5_plug_37 0 rfl ?_
        refine tc_keeps h ⟨Nat.le_of_ble_eq_true rfl, Nat.le_of_ble_eq_true rfl⟩ ⟨Nat.le_refl _, Nat.le_refl _⟩ (Nat.le_of_ble_eq_true rfl) dX5_plug_38 (fun σ_9 h => ?_)
        refine ww_iconst dX5_plug_41 ?_
        refine ww_istore_n dX5_plug_42 rfl (Nat.le_of_ble_eq_true rfl) rfl ?_
        obtain ⟨I43, hI43, h⟩ := h
        have kI43 : ∀ (n43 : Nat), ∀ (v3_43 : Int), ∀ (σ43 : TS), I43 n43 v3_43 σ43 → WW G l cX5_plug RX5 4 (Option.some Jvm.ClassFile.FieldType.boolean) "plug" 2 0 0 (tR2 (P)) (tS G q fr) 0 0 [tw G q σ43, fr] 43 [(0, .ref (q 100)), (1, vI a1), (2, vI a2), (3, vI v3_43)] [] := by
          intro n43
          induction n43 using Nat.strongRecOn with
          | ind n43 ih43 =>
            intro v3_43 σ43 hj
            have h := hI43 n43 v3_43 σ43 hj
            refine ww_iload_n dX5_plug_43 3 rfl ?_
            refine ww_bipush (v := 16) dX5_plug_44 rfl ?_
            obtain ⟨r_10, h⟩ := h
            refine ww_icmp_ge (tgt := 77) dX5_plug_46 (by decide) r_10 (by decide) (fun c => ?_) (fun c => ?_)
            · replace h := h.1 c
              refine ww_iconst dX5_plug_77 ?_
              exact ww_zret (1, σ43) rfl (Or.inr rfl) ⟨rfl, (Or.inr rfl), h⟩ rfl (Nat.le_refl _) (Nat.le_refl _) dX5_plug_78
            · replace h := h.2 (Int.not_le.mp c)
              refine ww_aload_n dX5_plug_49 0 rfl ?_
              refine tg_30 dX5_plug_50 ?_
              refine ww_bipush (v := 16) dX5_plug_53 rfl ?_
              refine ww_iload_n dX5_plug_55 1 rfl ?_
              refine ww_imul dX5_plug_56 ?_
              refine ww_iload_n dX5_plug_57 3 rfl ?_
              refine ww_iadd dX5_plug_58 ?_
              refine ww_aload_n dX5_plug_59 0 rfl ?_
              refine tg_21 dX5_plug_60 ?_
              refine ww_bipush (v := 16) dX5_plug_63 rfl ?_
              refine ww_iload_n dX5_plug_65 2 rfl ?_
              refine ww_imul dX5_plug_66 ?_
              refine ww_iload_n dX5_plug_67 3 rfl ?_
              refine ww_iadd dX5_plug_68 ?_
              obtain ⟨r_11, h⟩ := h
              refine ta_21 r_11 dX5_plug_69 ?_
              obtain ⟨r_12, h⟩ := h
              refine ts_30 r_12 dX5_plug_70 ?_
              refine ww_iinc dX5_plug_71 3 rfl (Nat.le_of_ble_eq_true rfl) rfl ?_
              refine ww_goto (tgt := 43) dX5_plug_74 (by decide) ?_
              refine ww_lv [1, 2, 3, 0] rfl ?_
              obtain ⟨m, hm, h⟩ := h
              exact ih43 m hm _ _ h
        refine ww_lv [1, 2, 3, 0] rfl ?_
        obtain ⟨m, h⟩ := h
        exact kI43 m _ _ h
      · replace h := h.2 c
        refine ww_iconst dX5_plug_35 ?_
        exact ww_zret (0, sF σ 0 0) rfl (Or.inl rfl) ⟨rfl, (Or.inl rfl), h⟩ rfl (Nat.le_refl _) (Nat.le_refl _) dX5_plug_36

/-! scale -/
def w_scale (σ : TS) (a1 : Int) (a2 : Int) (P : Int → TS → Prop) : Prop :=
  w_isNode (sF σ 0 0) a1 (fun y_1 =>
    ((y_1 = 0 →
      P 0 (sF σ 0 0)) ∧
    (¬ y_1 = 0 →
      rI a2 ∧
      w_p (sF σ 0 0) (fun y_4 =>
        rI (y_4 - 1) ∧
        w_within a2 1 (y_4 - 1) (fun y_6 =>
          ((¬ y_6 = 0 →
            w_keeps (sF σ 0 0) (fun σ_8 =>
              ∃ I37 : Nat → Int → TS → Prop, (∀ (n37 : Nat) (v3_37 : Int) (σ37 : TS), I37 n37 v3_37 σ37 →
                rI v3_37 ∧
                ((16 ≤ v3_37 →
                  P 1 σ37) ∧
                (v3_37 < 16 →
                  (0 ≤ (16 * a1) + v3_37 ∧ (16 * a1) + v3_37 < 117) ∧
                  w_p σ37 (fun y_11 =>
                    (0 ≤ (tA σ37 30 ((16 * a1) + v3_37)) * a2 ∧ ((tA σ37 30 ((16 * a1) + v3_37)) * a2) < 2147483648 ∧ (0 : Int) < y_11 ∧ (y_11 : Int) < 2147483648) ∧
                    (0 ≤ (16 * a1) + v3_37 ∧ (16 * a1) + v3_37 < 117) ∧
                    ∃ m : Nat, m < n37 ∧ I37 m (v3_37 + 1) (sA σ37 30 ((16 * a1) + v3_37) (((tA σ37 30 ((16 * a1) + v3_37)) * a2) % y_11)))))) ∧
              ∃ m : Nat, I37 m 0 σ_8)) ∧
          (y_6 = 0 →
            P 0 (sF σ 0 0))))))))
set_option maxHeartbeats 4000000 in
theorem t_scale {G : g_G} {l : Launch} {q : Nat → Nat} {σ : TS} {a1 : Int} {a2 : Int} {P : Int → TS → Prop} (h : w_scale σ a1 a2 P) : CT G l yX5_scale cX5_scale 4 (Option.some Jvm.ClassFile.FieldType.boolean) 2 0 0 [.ref (q 100), vI a1, vI a2] [tw G q σ] (tR2 (P)) (fun u => [tw G q u.2]) := by
  unfold w_scale at h
  refine ww_of (by decide) (Nat.le_of_ble_eq_true rfl) (fun fr => ?_)
  show WW G l cX5_scale RX5 4 (Option.some Jvm.ClassFile.FieldType.boolean) "scale" 2 0 0 (tR2 (P)) (tS G q fr) 0 0 [tw G q σ, fr] 0 [(0, .ref (q 100)), (1, vI a1), (2, vI a2)] []
  refine ww_aload_n dX5_scale_0 0 rfl ?_
  refine ww_iconst dX5_scale_1 ?_
  refine tp_0 dX5_scale_2 ?_
  refine ww_aload_n dX5_scale_5 0 rfl ?_
  refine ww_iload_n dX5_scale_6 1 rfl ?_
  refine tc_isNode h ⟨Nat.le_of_ble_eq_true rfl, Nat.le_of_ble_eq_true rfl⟩ ⟨Nat.le_refl _, Nat.le_refl _⟩ (Nat.le_of_ble_eq_true rfl) dX5_scale_7 (fun y_1 z_2 h => ?_)
  refine ww_if_eq (tgt := 29) dX5_scale_10 (by decide) (z01 z_2) (fun c => ?_) (fun c => ?_)
  · replace h := h.1 c
    refine ww_iconst dX5_scale_29 ?_
    exact ww_zret (0, sF σ 0 0) rfl (Or.inl rfl) ⟨rfl, (Or.inl rfl), h⟩ rfl (Nat.le_refl _) (Nat.le_refl _) dX5_scale_30
  · replace h := h.2 c
    refine ww_iload_n dX5_scale_13 2 rfl ?_
    obtain ⟨r_3, h⟩ := h
    refine ww_i2l dX5_scale_14 r_3 ?_
    refine ww_lconst (v := 1) dX5_scale_15 rfl ?_
    refine ww_aload_n dX5_scale_16 0 rfl ?_
    refine tc_p h ⟨Nat.le_of_ble_eq_true rfl, Nat.le_of_ble_eq_true rfl⟩ ⟨Nat.le_refl _, Nat.le_refl _⟩ (Nat.le_of_ble_eq_true rfl) dX5_scale_17 (fun y_4 h => ?_)
    refine ww_iconst dX5_scale_20 ?_
    refine ww_isub dX5_scale_21 ?_
    obtain ⟨r_5, h⟩ := h
    refine ww_i2l dX5_scale_22 r_5 ?_
    refine tc_within h ⟨Nat.le_of_ble_eq_true rfl, Nat.le_of_ble_eq_true rfl⟩ ⟨Nat.le_refl _, Nat.le_refl _⟩ (Nat.le_of_ble_eq_true rfl) dX5_scale_23 (fun y_6 z_7 h => ?_)
    refine ww_if_ne (tgt := 31) dX5_scale_26 (by decide) (z01 z_7) (fun c => ?_) (fun c => ?_)
    · replace h := h.1 c
      refine ww_aload_n dX5_scale_31 0 rfl ?_
      refine tc_keeps h ⟨Nat.le_of_ble_eq_true rfl, Nat.le_of_ble_eq_true rfl⟩ ⟨Nat.le_refl _, Nat.le_refl _⟩ (Nat.le_of_ble_eq_true rfl) dX5_scale_32 (fun σ_8 h => ?_)
      refine ww_iconst dX5_scale_35 ?_
      refine ww_istore_n dX5_scale_36 rfl (Nat.le_of_ble_eq_true rfl) rfl ?_
      obtain ⟨I37, hI37, h⟩ := h
      have kI37 : ∀ (n37 : Nat), ∀ (v3_37 : Int), ∀ (σ37 : TS), I37 n37 v3_37 σ37 → WW G l cX5_scale RX5 4 (Option.some Jvm.ClassFile.FieldType.boolean) "scale" 2 0 0 (tR2 (P)) (tS G q fr) 0 0 [tw G q σ37, fr] 37 [(0, .ref (q 100)), (1, vI a1), (2, vI a2), (3, vI v3_37)] [] := by
        intro n37
        induction n37 using Nat.strongRecOn with
        | ind n37 ih37 =>
          intro v3_37 σ37 hj
          have h := hI37 n37 v3_37 σ37 hj
          refine ww_iload_n dX5_scale_37 3 rfl ?_
          refine ww_bipush (v := 16) dX5_scale_38 rfl ?_
          obtain ⟨r_9, h⟩ := h
          refine ww_icmp_ge (tgt := 78) dX5_scale_40 (by decide) r_9 (by decide) (fun c => ?_) (fun c => ?_)
          · replace h := h.1 c
            refine ww_iconst dX5_scale_78 ?_
            exact ww_zret (1, σ37) rfl (Or.inr rfl) ⟨rfl, (Or.inr rfl), h⟩ rfl (Nat.le_refl _) (Nat.le_refl _) dX5_scale_79
          · replace h := h.2 (Int.not_le.mp c)
            refine ww_aload_n dX5_scale_43 0 rfl ?_
            refine tg_30 dX5_scale_44 ?_
            refine ww_bipush (v := 16) dX5_scale_47 rfl ?_
            refine ww_iload_n dX5_scale_49 1 rfl ?_
            refine ww_imul dX5_scale_50 ?_
            refine ww_iload_n dX5_scale_51 3 rfl ?_
            refine ww_iadd dX5_scale_52 ?_
            refine ww_aload_n dX5_scale_53 0 rfl ?_
            refine tg_30 dX5_scale_54 ?_
            refine ww_bipush (v := 16) dX5_scale_57 rfl ?_
            refine ww_iload_n dX5_scale_59 1 rfl ?_
            refine ww_imul dX5_scale_60 ?_
            refine ww_iload_n dX5_scale_61 3 rfl ?_
            refine ww_iadd dX5_scale_62 ?_
            obtain ⟨r_10, h⟩ := h
            refine ta_30 r_10 dX5_scale_63 ?_
            refine ww_iload_n dX5_scale_64 2 rfl ?_
            refine ww_imul dX5_scale_65 ?_
            refine ww_aload_n dX5_scale_66 0 rfl ?_
            refine tc_p h ⟨Nat.le_of_ble_eq_true rfl, Nat.le_of_ble_eq_true rfl⟩ ⟨Nat.le_refl _, Nat.le_refl _⟩ (Nat.le_of_ble_eq_true rfl) dX5_scale_67 (fun y_11 h => ?_)
            obtain ⟨r_12, h⟩ := h
            refine ww_irem dX5_scale_70 r_12 ?_
            obtain ⟨r_13, h⟩ := h
            refine ts_30 r_13 dX5_scale_71 ?_
            refine ww_iinc dX5_scale_72 3 rfl (Nat.le_of_ble_eq_true rfl) rfl ?_
            refine ww_goto (tgt := 37) dX5_scale_75 (by decide) ?_
            refine ww_lv [1, 2, 3, 0] rfl ?_
            obtain ⟨m, hm, h⟩ := h
            exact ih37 m hm _ _ h
      refine ww_lv [1, 2, 3, 0] rfl ?_
      obtain ⟨m, h⟩ := h
      exact kI37 m _ _ h
    · replace h := h.2 c
      refine ww_iconst dX5_scale_29 ?_
      exact ww_zret (0, sF σ 0 0) rfl (Or.inl rfl) ⟨rfl, (Or.inl rfl), h⟩ rfl (Nat.le_refl _) (Nat.le_refl _) dX5_scale_30

/-! swap -/
def w_swap (σ : TS) (a1 : Int) (a2 : Int) (a3 : Int) (P : Int → TS → Prop) : Prop :=
  w_isNode (sF σ 0 0) a1 (fun y_1 =>
    ((y_1 = 0 →
      P 0 (sF σ 0 0)) ∧
    (¬ y_1 = 0 →
      rI a2 ∧
      w_legsAt (sF σ 0 0) a1 (fun y_4 =>
        rI (y_4 - 1) ∧
        w_within a2 0 (y_4 - 1) (fun y_6 =>
          ((y_6 = 0 →
            P 0 (sF σ 0 0)) ∧
          (¬ y_6 = 0 →
            rI a3 ∧
            w_legsAt (sF σ 0 0) a1 (fun y_9 =>
              rI (y_9 - 1) ∧
              w_within a3 0 (y_9 - 1) (fun y_11 =>
                ((y_11 = 0 →
                  P 0 (sF σ 0 0)) ∧
                (¬ y_11 = 0 →
                  rI a2 ∧
                  rI a3 ∧
                  ((¬ a2 = a3 →
                    w_keeps (sF σ 0 0) (fun σ_15 =>
                      ∃ I61 : Nat → Int → TS → Prop, (∀ (n61 : Nat) (v4_61 : Int) (σ61 : TS), I61 n61 v4_61 σ61 →
                        w_legsAt σ61 a1 (fun y_16 =>
                          rI v4_61 ∧
                          (((bL 1 y_16) ≤ v4_61 →
                            P 1 σ61) ∧
                          (v4_61 < (bL 1 y_16) →
                            ∃ J161 : TS → Prop, (∀ (σ161 : TS), J161 σ161 →
                              ∃ m : Nat, m < n61 ∧ I61 m (v4_61 + 1) σ161) ∧
                            (((bA (bR v4_61 a2) 1) = 0 →
                              J161 σ61) ∧
                            (¬ (bA (bR v4_61 a2) 1) = 0 →
                              ((¬ (bA (bR v4_61 a3) 1) = 1 →
                                ∀ x_18 : Int, x_18 = bO (bA v4_61 (bX (bL 1 a2) (-1))) (bL 1 a3) →
                                (0 ≤ (16 * a1) + v4_61 ∧ (16 * a1) + v4_61 < 117) ∧
                                ∀ x_20 : Int, x_20 = tA σ61 30 ((16 * a1) + v4_61) →
                                (0 ≤ (16 * a1) + x_18 ∧ (16 * a1) + x_18 < 117) ∧
                                (0 ≤ (16 * a1) + v4_61 ∧ (16 * a1) + v4_61 < 117) ∧
                                (0 ≤ (16 * a1) + x_18 ∧ (16 * a1) + x_18 < 117) ∧
                                J161 (sA (sA σ61 30 ((16 * a1) + v4_61) (tA σ61 30 ((16 * a1) + x_18))) 30 ((16 * a1) + x_18) x_20)) ∧
                              ((bA (bR v4_61 a3) 1) = 1 →
                                J161 σ61)))))))) ∧
                      ∃ m : Nat, I61 m 0 σ_15)) ∧
                  (a2 = a3 →
                    P 0 (sF σ 0 0))))))))))))))
set_option maxHeartbeats 4000000 in
theorem t_swap {G : g_G} {l : Launch} {q : Nat → Nat} {σ : TS} {a1 : Int} {a2 : Int} {a3 : Int} {P : Int → TS → Prop} (h : w_swap σ a1 a2 a3 P) : CT G l yX5_swap cX5_swap 7 (Option.some Jvm.ClassFile.FieldType.boolean) 2 0 0 [.ref (q 100), vI a1, vI a2, vI a3] [tw G q σ] (tR2 (P)) (fun u => [tw G q u.2]) := by
  unfold w_swap at h
  refine ww_of (by decide) (Nat.le_of_ble_eq_true rfl) (fun fr => ?_)
  show WW G l cX5_swap RX5 7 (Option.some Jvm.ClassFile.FieldType.boolean) "swap" 2 0 0 (tR2 (P)) (tS G q fr) 0 0 [tw G q σ, fr] 0 [(0, .ref (q 100)), (1, vI a1), (2, vI a2), (3, vI a3)] []
  refine ww_aload_n dX5_swap_0 0 rfl ?_
  refine ww_iconst dX5_swap_1 ?_
  refine tp_0 dX5_swap_2 ?_
  refine ww_aload_n dX5_swap_5 0 rfl ?_
  refine ww_iload_n dX5_swap_6 1 rfl ?_
  refine tc_isNode h ⟨Nat.le_of_ble_eq_true rfl, Nat.le_of_ble_eq_true rfl⟩ ⟨Nat.le_refl _, Nat.le_refl _⟩ (Nat.le_of_ble_eq_true rfl) dX5_swap_7 (fun y_1 z_2 h => ?_)
  refine ww_if_eq (tgt := 52) dX5_swap_10 (by decide) (z01 z_2) (fun c => ?_) (fun c => ?_)
  · replace h := h.1 c
    refine ww_iconst dX5_swap_52 ?_
    exact ww_zret (0, sF σ 0 0) rfl (Or.inl rfl) ⟨rfl, (Or.inl rfl), h⟩ rfl (Nat.le_refl _) (Nat.le_refl _) dX5_swap_53
  · replace h := h.2 c
    refine ww_iload_n dX5_swap_13 2 rfl ?_
    obtain ⟨r_3, h⟩ := h
    refine ww_i2l dX5_swap_14 r_3 ?_
    refine ww_lconst (v := 0) dX5_swap_15 rfl ?_
    refine ww_aload_n dX5_swap_16 0 rfl ?_
    refine ww_iload_n dX5_swap_17 1 rfl ?_
    refine tc_legsAt h ⟨Nat.le_of_ble_eq_true rfl, Nat.le_of_ble_eq_true rfl⟩ ⟨Nat.le_refl _, Nat.le_refl _⟩ (Nat.le_of_ble_eq_true rfl) dX5_swap_18 (fun y_4 h => ?_)
    refine ww_iconst dX5_swap_21 ?_
    refine ww_isub dX5_swap_22 ?_
    obtain ⟨r_5, h⟩ := h
    refine ww_i2l dX5_swap_23 r_5 ?_
    refine tc_within h ⟨Nat.le_of_ble_eq_true rfl, Nat.le_of_ble_eq_true rfl⟩ ⟨Nat.le_refl _, Nat.le_refl _⟩ (Nat.le_of_ble_eq_true rfl) dX5_swap_24 (fun y_6 z_7 h => ?_)
    refine ww_if_eq (tgt := 52) dX5_swap_27 (by decide) (z01 z_7) (fun c => ?_) (fun c => ?_)
    · replace h := h.1 c
      refine ww_iconst dX5_swap_52 ?_
      exact ww_zret (0, sF σ 0 0) rfl (Or.inl rfl) ⟨rfl, (Or.inl rfl), h⟩ rfl (Nat.le_refl _) (Nat.le_refl _) dX5_swap_53
    · replace h := h.2 c
      refine ww_iload_n dX5_swap_30 3 rfl ?_
      obtain ⟨r_8, h⟩ := h
      refine ww_i2l dX5_swap_31 r_8 ?_
      refine ww_lconst (v := 0) dX5_swap_32 rfl ?_
      refine ww_aload_n dX5_swap_33 0 rfl ?_
      refine ww_iload_n dX5_swap_34 1 rfl ?_
      refine tc_legsAt h ⟨Nat.le_of_ble_eq_true rfl, Nat.le_of_ble_eq_true rfl⟩ ⟨Nat.le_refl _, Nat.le_refl _⟩ (Nat.le_of_ble_eq_true rfl) dX5_swap_35 (fun y_9 h => ?_)
      refine ww_iconst dX5_swap_38 ?_
      refine ww_isub dX5_swap_39 ?_
      obtain ⟨r_10, h⟩ := h
      refine ww_i2l dX5_swap_40 r_10 ?_
      refine tc_within h ⟨Nat.le_of_ble_eq_true rfl, Nat.le_of_ble_eq_true rfl⟩ ⟨Nat.le_refl _, Nat.le_refl _⟩ (Nat.le_of_ble_eq_true rfl) dX5_swap_41 (fun y_11 z_12 h => ?_)
      refine ww_if_eq (tgt := 52) dX5_swap_44 (by decide) (z01 z_12) (fun c => ?_) (fun c => ?_)
      · replace h := h.1 c
        refine ww_iconst dX5_swap_52 ?_
        exact ww_zret (0, sF σ 0 0) rfl (Or.inl rfl) ⟨rfl, (Or.inl rfl), h⟩ rfl (Nat.le_refl _) (Nat.le_refl _) dX5_swap_53
      · replace h := h.2 c
        refine ww_iload_n dX5_swap_47 2 rfl ?_
        refine ww_iload_n dX5_swap_48 3 rfl ?_
        obtain ⟨r_13, r_14, h⟩ := h
        refine ww_icmp_ne (tgt := 54) dX5_swap_49 (by decide) r_13 r_14 (fun c => ?_) (fun c => ?_)
        · replace h := h.1 c
          refine ww_aload_n dX5_swap_54 0 rfl ?_
          refine tc_keeps h ⟨Nat.le_of_ble_eq_true rfl, Nat.le_of_ble_eq_true rfl⟩ ⟨Nat.le_refl _, Nat.le_refl _⟩ (Nat.le_of_ble_eq_true rfl) dX5_swap_55 (fun σ_15 h => ?_)
          refine ww_iconst dX5_swap_58 ?_
          refine ww_istore dX5_swap_59 (Nat.le_of_ble_eq_true rfl) rfl ?_
          obtain ⟨I61, hI61, h⟩ := h
          have kI61 : ∀ (n61 : Nat), ∀ (v4_61 : Int), ∀ (σ61 : TS), I61 n61 v4_61 σ61 → WW G l cX5_swap RX5 7 (Option.some Jvm.ClassFile.FieldType.boolean) "swap" 2 0 0 (tR2 (P)) (tS G q fr) 0 0 [tw G q σ61, fr] 61 [(0, .ref (q 100)), (1, vI a1), (2, vI a2), (3, vI a3), (4, vI v4_61)] [] := by
            intro n61
            induction n61 using Nat.strongRecOn with
            | ind n61 ih61 =>
              intro v4_61 σ61 hj
              have h := hI61 n61 v4_61 σ61 hj
              refine ww_iload dX5_swap_61 4 rfl ?_
              refine ww_iconst dX5_swap_63 ?_
              refine ww_aload_n dX5_swap_64 0 rfl ?_
              refine ww_iload_n dX5_swap_65 1 rfl ?_
              refine tc_legsAt h ⟨Nat.le_of_ble_eq_true rfl, Nat.le_of_ble_eq_true rfl⟩ ⟨Nat.le_refl _, Nat.le_refl _⟩ (Nat.le_of_ble_eq_true rfl) dX5_swap_66 (fun y_16 h => ?_)
              refine ww_ishl dX5_swap_69 ?_
              obtain ⟨r_17, h⟩ := h
              refine ww_icmp_ge (tgt := 167) dX5_swap_70 (by decide) r_17 (rI_bL _ _) (fun c => ?_) (fun c => ?_)
              · replace h := h.1 c
                refine ww_iconst dX5_swap_167 ?_
                exact ww_zret (1, σ61) rfl (Or.inr rfl) ⟨rfl, (Or.inr rfl), h⟩ rfl (Nat.le_refl _) (Nat.le_refl _) dX5_swap_168
              · replace h := h.2 (Int.not_le.mp c)
                refine ww_iload dX5_swap_73 4 rfl ?_
                refine ww_iload_n dX5_swap_75 2 rfl ?_
                refine ww_ishr dX5_swap_76 ?_
                refine ww_iconst dX5_swap_77 ?_
                refine ww_iand dX5_swap_78 ?_
                obtain ⟨J161, hJ161, h⟩ := h
                have kJ161 : ∀ (σ161 : TS), J161 σ161 → WW G l cX5_swap RX5 7 (Option.some Jvm.ClassFile.FieldType.boolean) "swap" 2 0 0 (tR2 (P)) (tS G q fr) 0 0 [tw G q σ161, fr] 161 [(0, .ref (q 100)), (1, vI a1), (2, vI a2), (3, vI a3), (4, vI v4_61)] [] := by
                  intro σ161 hj
                  have h := hJ161 σ161 hj
                  refine ww_iinc dX5_swap_161 4 rfl (Nat.le_of_ble_eq_true rfl) rfl ?_
                  refine ww_goto (tgt := 61) dX5_swap_164 (by decide) ?_
                  refine ww_lv [1, 2, 3, 4, 0] rfl ?_
                  obtain ⟨m, hm, h⟩ := h
                  exact ih61 m hm _ _ h
                refine ww_if_eq (tgt := 161) dX5_swap_79 (by decide) (rI_bA _ _) (fun c => ?_) (fun c => ?_)
                · replace h := h.1 c
                  exact kJ161 _ h
                · replace h := h.2 c
                  refine ww_iload dX5_swap_82 4 rfl ?_
                  refine ww_iload_n dX5_swap_84 3 rfl ?_
                  refine ww_ishr dX5_swap_85 ?_
                  refine ww_iconst dX5_swap_86 ?_
                  refine ww_iand dX5_swap_87 ?_
                  refine ww_iconst dX5_swap_88 ?_
                  refine ww_icmp_ne (tgt := 95) dX5_swap_89 (by decide) (rI_bA _ _) (by decide) (fun c => ?_) (fun c => ?_)
                  · replace h := h.1 c
                    refine ww_iload dX5_swap_95 4 rfl ?_
                    refine ww_iconst dX5_swap_97 ?_
                    refine ww_iload_n dX5_swap_98 2 rfl ?_
                    refine ww_ishl dX5_swap_99 ?_
                    refine ww_iconst dX5_swap_100 ?_
                    refine ww_ixor dX5_swap_101 ?_
                    refine ww_iand dX5_swap_102 ?_
                    refine ww_iconst dX5_swap_103 ?_
                    refine ww_iload_n dX5_swap_104 3 rfl ?_
                    refine ww_ishl dX5_swap_105 ?_
                    refine ww_ior dX5_swap_106 ?_
                    refine ww_nmI (fun x_18 ex_18 => ?_)
                    replace h := h x_18 ex_18
                    have rx_18 : rI x_18 := by rw [ex_18]; exact (rI_bO _ _)
                    refine ww_istore dX5_swap_107 (Nat.le_of_ble_eq_true rfl) rfl ?_
                    refine ww_aload_n dX5_swap_109 1 rfl ?_
                    refine tg_30 dX5_swap_110 ?_
                    refine ww_bipush (v := 16) dX5_swap_113 rfl ?_
                    refine ww_iload_n dX5_swap_115 2 rfl ?_
                    refine ww_imul dX5_swap_116 ?_
                    refine ww_iload dX5_swap_117 5 rfl ?_
                    refine ww_iadd dX5_swap_119 ?_
                    obtain ⟨r_19, h⟩ := h
                    refine ta_30 r_19 dX5_swap_120 ?_
                    refine ww_nmI (fun x_20 ex_20 => ?_)
                    replace h := h x_20 ex_20
                    refine ww_istore dX5_swap_121 (Nat.le_of_ble_eq_true rfl) rfl ?_
                    refine ww_aload_n dX5_swap_123 2 rfl ?_
                    refine tg_30 dX5_swap_124 ?_
                    refine ww_bipush (v := 16) dX5_swap_127 rfl ?_
                    refine ww_iload_n dX5_swap_129 3 rfl ?_
                    refine ww_imul dX5_swap_130 ?_
                    refine ww_iload dX5_swap_131 6 rfl ?_
                    refine ww_iadd dX5_swap_133 ?_
                    refine ww_aload_n dX5_swap_134 2 rfl ?_
                    refine tg_30 dX5_swap_135 ?_
                    refine ww_bipush (v := 16) dX5_swap_138 rfl ?_
                    refine ww_iload_n dX5_swap_140 3 rfl ?_
                    refine ww_imul dX5_swap_141 ?_
                    refine ww_iload dX5_swap_142 1 rfl ?_
                    refine ww_iadd dX5_swap_144 ?_
                    obtain ⟨r_21, h⟩ := h
                    refine ta_30 r_21 dX5_swap_145 ?_
                    obtain ⟨r_22, h⟩ := h
                    refine ts_30 r_22 dX5_swap_146 ?_
                    refine ww_aload_n dX5_swap_147 2 rfl ?_
                    refine tg_30 dX5_swap_148 ?_
                    refine ww_bipush (v := 16) dX5_swap_151 rfl ?_
                    refine ww_iload_n dX5_swap_153 3 rfl ?_
                    refine ww_imul dX5_swap_154 ?_
                    refine ww_iload dX5_swap_155 1 rfl ?_
                    refine ww_iadd dX5_swap_157 ?_
                    refine ww_iload dX5_swap_158 0 rfl ?_
                    obtain ⟨r_23, h⟩ := h
                    refine ts_30 r_23 dX5_swap_160 ?_
                    refine ww_lv [2, 3, 4, 5, 6] rfl ?_
                    exact kJ161 _ h
                  · replace h := h.2 c
                    refine ww_goto (tgt := 161) dX5_swap_92 (by decide) ?_
                    exact kJ161 _ h
          refine ww_lv [1, 2, 3, 4, 0] rfl ?_
          obtain ⟨m, h⟩ := h
          exact kI61 m _ _ h
        · replace h := h.2 c
          refine ww_iconst dX5_swap_52 ?_
          exact ww_zret (0, sF σ 0 0) rfl (Or.inl rfl) ⟨rfl, (Or.inl rfl), h⟩ rfl (Nat.le_refl _) (Nat.le_refl _) dX5_swap_53

/-! isOpen -/
def w_isOpen (σ : TS) (a1 : Int) (a2 : Int) (P : Int → Prop) : Prop :=
  w_isNode σ a1 (fun y_1 =>
    ((y_1 = 0 →
      P 0) ∧
    (¬ y_1 = 0 →
      rI a2 ∧
      w_legsAt σ a1 (fun y_4 =>
        rI (y_4 - 1) ∧
        w_within a2 0 (y_4 - 1) (fun y_6 =>
          ((y_6 = 0 →
            P 0) ∧
          (¬ y_6 = 0 →
            w_wireAt σ ((4 * a1) + a2) (fun y_8 =>
              rI y_8 ∧
              ((0 ≤ y_8 →
                P 0) ∧
              (y_8 < 0 →
                P 1))))))))))
set_option maxHeartbeats 4000000 in
theorem t_isOpen {G : g_G} {l : Launch} {q : Nat → Nat} {σ : TS} {a1 : Int} {a2 : Int} {P : Int → Prop} (h : w_isOpen σ a1 a2 P) : CT G l yX5_isOpen cX5_isOpen 3 (Option.some Jvm.ClassFile.FieldType.boolean) 2 0 0 [.ref (q 100), vI a1, vI a2] [tw G q σ] (tR2 (fun r s => s = σ ∧ P r)) (fun u => [tw G q u.2]) := by
  unfold w_isOpen at h
  refine ww_of (by decide) (Nat.le_of_ble_eq_true rfl) (fun fr => ?_)
  show WW G l cX5_isOpen RX5 3 (Option.some Jvm.ClassFile.FieldType.boolean) "isOpen" 2 0 0 (tR2 (fun r s => s = σ ∧ P r)) (tS G q fr) 0 0 [tw G q σ, fr] 0 [(0, .ref (q 100)), (1, vI a1), (2, vI a2)] []
  refine ww_aload_n dX5_isOpen_0 0 rfl ?_
  refine ww_iload_n dX5_isOpen_1 1 rfl ?_
  refine tc_isNode h ⟨Nat.le_of_ble_eq_true rfl, Nat.le_of_ble_eq_true rfl⟩ ⟨Nat.le_refl _, Nat.le_refl _⟩ (Nat.le_of_ble_eq_true rfl) dX5_isOpen_2 (fun y_1 z_2 h => ?_)
  refine ww_if_eq (tgt := 41) dX5_isOpen_5 (by decide) (z01 z_2) (fun c => ?_) (fun c => ?_)
  · replace h := h.1 c
    refine ww_iconst dX5_isOpen_41 ?_
    exact ww_zret (0, σ) rfl (Or.inl rfl) ⟨rfl, (Or.inl rfl), ⟨rfl, h⟩⟩ rfl (Nat.le_refl _) (Nat.le_refl _) dX5_isOpen_42
  · replace h := h.2 c
    refine ww_iload_n dX5_isOpen_8 2 rfl ?_
    obtain ⟨r_3, h⟩ := h
    refine ww_i2l dX5_isOpen_9 r_3 ?_
    refine ww_lconst (v := 0) dX5_isOpen_10 rfl ?_
    refine ww_aload_n dX5_isOpen_11 0 rfl ?_
    refine ww_iload_n dX5_isOpen_12 1 rfl ?_
    refine tc_legsAt h ⟨Nat.le_of_ble_eq_true rfl, Nat.le_of_ble_eq_true rfl⟩ ⟨Nat.le_refl _, Nat.le_refl _⟩ (Nat.le_of_ble_eq_true rfl) dX5_isOpen_13 (fun y_4 h => ?_)
    refine ww_iconst dX5_isOpen_16 ?_
    refine ww_isub dX5_isOpen_17 ?_
    obtain ⟨r_5, h⟩ := h
    refine ww_i2l dX5_isOpen_18 r_5 ?_
    refine tc_within h ⟨Nat.le_of_ble_eq_true rfl, Nat.le_of_ble_eq_true rfl⟩ ⟨Nat.le_refl _, Nat.le_refl _⟩ (Nat.le_of_ble_eq_true rfl) dX5_isOpen_19 (fun y_6 z_7 h => ?_)
    refine ww_if_eq (tgt := 41) dX5_isOpen_22 (by decide) (z01 z_7) (fun c => ?_) (fun c => ?_)
    · replace h := h.1 c
      refine ww_iconst dX5_isOpen_41 ?_
      exact ww_zret (0, σ) rfl (Or.inl rfl) ⟨rfl, (Or.inl rfl), ⟨rfl, h⟩⟩ rfl (Nat.le_refl _) (Nat.le_refl _) dX5_isOpen_42
    · replace h := h.2 c
      refine ww_aload_n dX5_isOpen_25 0 rfl ?_
      refine ww_iconst dX5_isOpen_26 ?_
      refine ww_iload_n dX5_isOpen_27 1 rfl ?_
      refine ww_imul dX5_isOpen_28 ?_
      refine ww_iload_n dX5_isOpen_29 2 rfl ?_
      refine ww_iadd dX5_isOpen_30 ?_
      refine tc_wireAt h ⟨Nat.le_of_ble_eq_true rfl, Nat.le_of_ble_eq_true rfl⟩ ⟨Nat.le_refl _, Nat.le_refl _⟩ (Nat.le_of_ble_eq_true rfl) dX5_isOpen_31 (fun y_8 h => ?_)
      obtain ⟨r_9, h⟩ := h
      refine ww_if_ge (tgt := 41) dX5_isOpen_34 (by decide) r_9 (fun c => ?_) (fun c => ?_)
      · replace h := h.1 c
        refine ww_iconst dX5_isOpen_41 ?_
        exact ww_zret (0, σ) rfl (Or.inl rfl) ⟨rfl, (Or.inl rfl), ⟨rfl, h⟩⟩ rfl (Nat.le_refl _) (Nat.le_refl _) dX5_isOpen_42
      · replace h := h.2 (Int.not_le.mp c)
        refine ww_iconst dX5_isOpen_37 ?_
        refine ww_goto (tgt := 42) dX5_isOpen_38 (by decide) ?_
        exact ww_zret (1, σ) rfl (Or.inr rfl) ⟨rfl, (Or.inr rfl), ⟨rfl, h⟩⟩ rfl (Nat.le_refl _) (Nat.le_refl _) dX5_isOpen_42
theorem tc_isOpen {S : Type} {G : g_G} {l : Launch} {cc : ByteArray} {nL : Nat} {ret : Option FieldType} {mn : String} {d mc ms : Nat} {R : Option Value → S → Prop} {sh : S → List va_W} {cells slots pc : Nat} {lv : List (Nat × Value)} {st : List Value} {q : Nat → Nat} {fr : va_W} {σ : TS} {a1 : Int} {a2 : Int} {P : Int → Prop} (h : w_isOpen σ a1 a2 P) (hR : 2 + 1 ≤ d ∧ 16 + (3 + 11) + 100 * 2 ≤ 100 * d) (hc : cells ≤ mc ∧ slots ≤ ms) (hst : (st.map fun v => v.category).sum ≤ 16) (hdg : decode cc pc = .ok (.invokevirtual 367, 3)) (k : ∀ r, (r = 0 ∨ r = 1) → P r → WW G l cc RX5 nL ret mn d mc ms R sh cells slots [tw G q σ, fr] (pc + 3) lv (vI r :: st)) : WW G l cc RX5 nL ret mn d mc ms R sh cells slots [tw G q σ, fr] pc lv (vI a2 :: vI a1 :: .ref (q 100) :: st) := by
  refine tw_call2 (n := 2) (t_isOpen (q := q) h) (lw_V q2634 q2636 qs106 q117 q2637) ⟨rfl, by decide, by decide, by decide +kernel⟩ rfl hR hc rfl hst hdg ?_
  rintro r σ2 z ⟨rfl, h2⟩
  exact k r z h2
/-! join -/
def w_join (σ : TS) (a1 : Int) (a2 : Int) (a3 : Int) (a4 : Int) (P : Int → TS → Prop) : Prop :=
  w_isOpen (sF σ 0 0) a1 a2 (fun y_1 =>
    ((y_1 = 0 →
      P (-1) (sF σ 0 0)) ∧
    (¬ y_1 = 0 →
      w_isOpen (sF σ 0 0) a3 a4 (fun y_3 =>
        ((y_3 = 0 →
          P (-1) (sF σ 0 0)) ∧
        (¬ y_3 = 0 →
          rI a1 ∧
          rI a3 ∧
          ∃ J35 : Prop, (J35 →
            rI (tA σ 30 116) ∧
            ((¬ (tA σ 30 116) = 10 →
              w_keeps (sF σ 0 0) (fun σ_8 =>
                (0 ≤ 96 + (2 * (tA σ_8 30 116)) ∧ 96 + (2 * (tA σ_8 30 116)) < 117) ∧
                (0 ≤ (96 + (2 * (tA (sA σ_8 30 (96 + (2 * (tA σ_8 30 116))) ((4 * a1) + a2)) 30 116))) + 1 ∧ (96 + (2 * (tA (sA σ_8 30 (96 + (2 * (tA σ_8 30 116))) ((4 * a1) + a2)) 30 116))) + 1 < 117) ∧
                P ((tA (sA (sA (sA σ_8 30 (96 + (2 * (tA σ_8 30 116))) ((4 * a1) + a2)) 30 ((96 + (2 * (tA (sA σ_8 30 (96 + (2 * (tA σ_8 30 116))) ((4 * a1) + a2)) 30 116))) + 1) ((4 * a3) + a4)) 30 116 ((tA (sA (sA σ_8 30 (96 + (2 * (tA σ_8 30 116))) ((4 * a1) + a2)) 30 ((96 + (2 * (tA (sA σ_8 30 (96 + (2 * (tA σ_8 30 116))) ((4 * a1) + a2)) 30 116))) + 1) ((4 * a3) + a4)) 30 116) + 1)) 30 116) - 1) (sA (sA (sA σ_8 30 (96 + (2 * (tA σ_8 30 116))) ((4 * a1) + a2)) 30 ((96 + (2 * (tA (sA σ_8 30 (96 + (2 * (tA σ_8 30 116))) ((4 * a1) + a2)) 30 116))) + 1) ((4 * a3) + a4)) 30 116 ((tA (sA (sA σ_8 30 (96 + (2 * (tA σ_8 30 116))) ((4 * a1) + a2)) 30 ((96 + (2 * (tA (sA σ_8 30 (96 + (2 * (tA σ_8 30 116))) ((4 * a1) + a2)) 30 116))) + 1) ((4 * a3) + a4)) 30 116) + 1)))) ∧
            ((tA σ 30 116) = 10 →
              P (-1) (sF σ 0 0)))) ∧
          ((¬ a1 = a3 →
            J35) ∧
          (a1 = a3 →
            rI a2 ∧
            rI a4 ∧
            ((a2 = a4 →
              P (-1) (sF σ 0 0)) ∧
            (¬ a2 = a4 →
              J35))))))))))
set_option maxHeartbeats 4000000 in
theorem t_join {G : g_G} {l : Launch} {q : Nat → Nat} {σ : TS} {a1 : Int} {a2 : Int} {a3 : Int} {a4 : Int} {P : Int → TS → Prop} (h : w_join σ a1 a2 a3 a4 P) : CT G l yX5_join cX5_join 5 (Option.some Jvm.ClassFile.FieldType.int) 3 0 0 [.ref (q 100), vI a1, vI a2, vI a3, vI a4] [tw G q σ] (tR1 (P)) (fun u => [tw G q u.2]) := by
  unfold w_join at h
  refine ww_of (by decide) (Nat.le_of_ble_eq_true rfl) (fun fr => ?_)
  show WW G l cX5_join RX5 5 (Option.some Jvm.ClassFile.FieldType.int) "join" 3 0 0 (tR1 (P)) (tS G q fr) 0 0 [tw G q σ, fr] 0 [(0, .ref (q 100)), (1, vI a1), (2, vI a2), (3, vI a3), (4, vI a4)] []
  refine ww_aload_n dX5_join_0 0 rfl ?_
  refine ww_iconst dX5_join_1 ?_
  refine tp_0 dX5_join_2 ?_
  refine ww_aload_n dX5_join_5 0 rfl ?_
  refine ww_iload_n dX5_join_6 1 rfl ?_
  refine ww_iload_n dX5_join_7 2 rfl ?_
  refine tc_isOpen h ⟨Nat.le_of_ble_eq_true rfl, Nat.le_of_ble_eq_true rfl⟩ ⟨Nat.le_refl _, Nat.le_refl _⟩ (Nat.le_of_ble_eq_true rfl) dX5_join_8 (fun y_1 z_2 h => ?_)
  refine ww_if_eq (tgt := 47) dX5_join_11 (by decide) (z01 z_2) (fun c => ?_) (fun c => ?_)
  · replace h := h.1 c
    refine ww_iconst dX5_join_47 ?_
    exact ww_iret ((-1), sF σ 0 0) rfl ⟨rfl, h⟩ rfl (Nat.le_refl _) (Nat.le_refl _) dX5_join_48
  · replace h := h.2 c
    refine ww_aload_n dX5_join_14 0 rfl ?_
    refine ww_iload_n dX5_join_15 3 rfl ?_
    refine ww_iload dX5_join_16 4 rfl ?_
    refine tc_isOpen h ⟨Nat.le_of_ble_eq_true rfl, Nat.le_of_ble_eq_true rfl⟩ ⟨Nat.le_refl _, Nat.le_refl _⟩ (Nat.le_of_ble_eq_true rfl) dX5_join_18 (fun y_3 z_4 h => ?_)
    refine ww_if_eq (tgt := 47) dX5_join_21 (by decide) (z01 z_4) (fun c => ?_) (fun c => ?_)
    · replace h := h.1 c
      refine ww_iconst dX5_join_47 ?_
      exact ww_iret ((-1), sF σ 0 0) rfl ⟨rfl, h⟩ rfl (Nat.le_refl _) (Nat.le_refl _) dX5_join_48
    · replace h := h.2 c
      refine ww_iload_n dX5_join_24 1 rfl ?_
      refine ww_iload_n dX5_join_25 3 rfl ?_
      obtain ⟨r_5, r_6, h⟩ := h
      obtain ⟨J35, hJ35, h⟩ := h
      have kJ35 : J35 → WW G l cX5_join RX5 5 (Option.some Jvm.ClassFile.FieldType.int) "join" 3 0 0 (tR1 (P)) (tS G q fr) 0 0 [tw G q (sF σ 0 0), fr] 35 [(0, .ref (q 100)), (1, vI a1), (2, vI a2), (3, vI a3), (4, vI a4)] [] := by
        intro hj
        have h := hJ35 hj
        refine ww_aload_n dX5_join_35 0 rfl ?_
        refine tg_30 dX5_join_36 ?_
        refine ww_bipush (v := 116) dX5_join_39 rfl ?_
        refine ta_30 ⟨by decide, by decide⟩ dX5_join_41 ?_
        refine ww_bipush (v := 10) dX5_join_42 rfl ?_
        obtain ⟨r_7, h⟩ := h
        refine ww_icmp_ne (tgt := 49) dX5_join_44 (by decide) r_7 (by decide) (fun c => ?_) (fun c => ?_)
        · replace h := h.1 c
          refine ww_aload_n dX5_join_49 0 rfl ?_
          refine tc_keeps h ⟨Nat.le_of_ble_eq_true rfl, Nat.le_of_ble_eq_true rfl⟩ ⟨Nat.le_refl _, Nat.le_refl _⟩ (Nat.le_of_ble_eq_true rfl) dX5_join_50 (fun σ_8 h => ?_)
          refine ww_aload_n dX5_join_53 0 rfl ?_
          refine tg_30 dX5_join_54 ?_
          refine ww_bipush (v := 96) dX5_join_57 rfl ?_
          refine ww_iconst dX5_join_59 ?_
          refine ww_aload_n dX5_join_60 0 rfl ?_
          refine tg_30 dX5_join_61 ?_
          refine ww_bipush (v := 116) dX5_join_64 rfl ?_
          refine ta_30 ⟨by decide, by decide⟩ dX5_join_66 ?_
          refine ww_imul dX5_join_67 ?_
          refine ww_iadd dX5_join_68 ?_
          refine ww_iconst dX5_join_69 ?_
          refine ww_iload_n dX5_join_70 1 rfl ?_
          refine ww_imul dX5_join_71 ?_
          refine ww_iload_n dX5_join_72 2 rfl ?_
          refine ww_iadd dX5_join_73 ?_
          obtain ⟨r_9, h⟩ := h
          refine ts_30 r_9 dX5_join_74 ?_
          refine ww_aload_n dX5_join_75 0 rfl ?_
          refine tg_30 dX5_join_76 ?_
          refine ww_bipush (v := 96) dX5_join_79 rfl ?_
          refine ww_iconst dX5_join_81 ?_
          refine ww_aload_n dX5_join_82 0 rfl ?_
          refine tg_30 dX5_join_83 ?_
          refine ww_bipush (v := 116) dX5_join_86 rfl ?_
          refine ta_30 ⟨by decide, by decide⟩ dX5_join_88 ?_
          refine ww_imul dX5_join_89 ?_
          refine ww_iadd dX5_join_90 ?_
          refine ww_iconst dX5_join_91 ?_
          refine ww_iadd dX5_join_92 ?_
          refine ww_iconst dX5_join_93 ?_
          refine ww_iload_n dX5_join_94 3 rfl ?_
          refine ww_imul dX5_join_95 ?_
          refine ww_iload dX5_join_96 4 rfl ?_
          refine ww_iadd dX5_join_98 ?_
          obtain ⟨r_10, h⟩ := h
          refine ts_30 r_10 dX5_join_99 ?_
          refine ww_aload_n dX5_join_100 0 rfl ?_
          refine tg_30 dX5_join_101 ?_
          refine ww_bipush (v := 116) dX5_join_104 rfl ?_
          refine ww_dup2 dX5_join_106 rfl rfl ?_
          refine ta_30 ⟨by decide, by decide⟩ dX5_join_107 ?_
          refine ww_iconst dX5_join_108 ?_
          refine ww_iadd dX5_join_109 ?_
          refine ts_30 ⟨by decide, by decide⟩ dX5_join_110 ?_
          refine ww_aload_n dX5_join_111 0 rfl ?_
          refine tg_30 dX5_join_112 ?_
          refine ww_bipush (v := 116) dX5_join_115 rfl ?_
          refine ta_30 ⟨by decide, by decide⟩ dX5_join_117 ?_
          refine ww_iconst dX5_join_118 ?_
          refine ww_isub dX5_join_119 ?_
          exact ww_iret ((tA (sA (sA (sA σ_8 30 (96 + (2 * (tA σ_8 30 116))) ((4 * a1) + a2)) 30 ((96 + (2 * (tA (sA σ_8 30 (96 + (2 * (tA σ_8 30 116))) ((4 * a1) + a2)) 30 116))) + 1) ((4 * a3) + a4)) 30 116 ((tA (sA (sA σ_8 30 (96 + (2 * (tA σ_8 30 116))) ((4 * a1) + a2)) 30 ((96 + (2 * (tA (sA σ_8 30 (96 + (2 * (tA σ_8 30 116))) ((4 * a1) + a2)) 30 116))) + 1) ((4 * a3) + a4)) 30 116) + 1)) 30 116) - 1, sA (sA (sA σ_8 30 (96 + (2 * (tA σ_8 30 116))) ((4 * a1) + a2)) 30 ((96 + (2 * (tA (sA σ_8 30 (96 + (2 * (tA σ_8 30 116))) ((4 * a1) + a2)) 30 116))) + 1) ((4 * a3) + a4)) 30 116 ((tA (sA (sA σ_8 30 (96 + (2 * (tA σ_8 30 116))) ((4 * a1) + a2)) 30 ((96 + (2 * (tA (sA σ_8 30 (96 + (2 * (tA σ_8 30 116))) ((4 * a1) + a2)) 30 116))) + 1) ((4 * a3) + a4)) 30 116) + 1)) rfl ⟨rfl, h⟩ rfl (Nat.le_refl _) (Nat.le_refl _) dX5_join_120
        · replace h := h.2 c
          refine ww_iconst dX5_join_47 ?_
          exact ww_iret ((-1), sF σ 0 0) rfl ⟨rfl, h⟩ rfl (Nat.le_refl _) (Nat.le_refl _) dX5_join_48
      refine ww_icmp_ne (tgt := 35) dX5_join_26 (by decide) r_5 r_6 (fun c => ?_) (fun c => ?_)
      · replace h := h.1 c
        exact kJ35 h
      · replace h := h.2 c
        refine ww_iload_n dX5_join_29 2 rfl ?_
        refine ww_iload dX5_join_30 4 rfl ?_
        obtain ⟨r_11, r_12, h⟩ := h
        refine ww_icmp_eq (tgt := 47) dX5_join_32 (by decide) r_11 r_12 (fun c => ?_) (fun c => ?_)
        · replace h := h.1 c
          refine ww_iconst dX5_join_47 ?_
          exact ww_iret ((-1), sF σ 0 0) rfl ⟨rfl, h⟩ rfl (Nat.le_refl _) (Nat.le_refl _) dX5_join_48
        · replace h := h.2 c
          exact kJ35 h

/-! cut -/
def w_cut (σ : TS) (a1 : Int) (P : Int → TS → Prop) : Prop :=
  w_isWire (sF σ 0 0) a1 (fun y_1 =>
    ((¬ y_1 = 0 →
      w_keeps (sF σ 0 0) (fun σ_3 =>
        ∃ I23 : Nat → Int → TS → Prop, (∀ (n23 : Nat) (v2_23 : Int) (σ23 : TS), I23 n23 v2_23 σ23 →
          rI (v2_23 + 2) ∧
          rI (2 * (tA σ23 30 116)) ∧
          (((2 * (tA σ23 30 116)) ≤ (v2_23 + 2) →
            P (tA (sA σ23 30 116 ((tA σ23 30 116) - 1)) 30 116) (sA σ23 30 116 ((tA σ23 30 116) - 1))) ∧
          ((v2_23 + 2) < (2 * (tA σ23 30 116)) →
            (0 ≤ (96 + v2_23) + 2 ∧ (96 + v2_23) + 2 < 117) ∧
            (0 ≤ 96 + v2_23 ∧ 96 + v2_23 < 117) ∧
            ∃ m : Nat, m < n23 ∧ I23 m (v2_23 + 1) (sA σ23 30 (96 + v2_23) (tA σ23 30 ((96 + v2_23) + 2)))))) ∧
        ∃ m : Nat, I23 m (2 * a1) σ_3)) ∧
    (y_1 = 0 →
      P (-1) (sF σ 0 0))))
set_option maxHeartbeats 4000000 in
theorem t_cut {G : g_G} {l : Launch} {q : Nat → Nat} {σ : TS} {a1 : Int} {P : Int → TS → Prop} (h : w_cut σ a1 P) : CT G l yX5_cut cX5_cut 3 (Option.some Jvm.ClassFile.FieldType.int) 2 0 0 [.ref (q 100), vI a1] [tw G q σ] (tR1 (P)) (fun u => [tw G q u.2]) := by
  unfold w_cut at h
  refine ww_of (by decide) (Nat.le_of_ble_eq_true rfl) (fun fr => ?_)
  show WW G l cX5_cut RX5 3 (Option.some Jvm.ClassFile.FieldType.int) "cut" 2 0 0 (tR1 (P)) (tS G q fr) 0 0 [tw G q σ, fr] 0 [(0, .ref (q 100)), (1, vI a1)] []
  refine ww_aload_n dX5_cut_0 0 rfl ?_
  refine ww_iconst dX5_cut_1 ?_
  refine tp_0 dX5_cut_2 ?_
  refine ww_aload_n dX5_cut_5 0 rfl ?_
  refine ww_iload_n dX5_cut_6 1 rfl ?_
  refine tc_isWire h ⟨Nat.le_of_ble_eq_true rfl, Nat.le_of_ble_eq_true rfl⟩ ⟨Nat.le_refl _, Nat.le_refl _⟩ (Nat.le_of_ble_eq_true rfl) dX5_cut_7 (fun y_1 z_2 h => ?_)
  refine ww_if_ne (tgt := 15) dX5_cut_10 (by decide) (z01 z_2) (fun c => ?_) (fun c => ?_)
  · replace h := h.1 c
    refine ww_aload_n dX5_cut_15 0 rfl ?_
    refine tc_keeps h ⟨Nat.le_of_ble_eq_true rfl, Nat.le_of_ble_eq_true rfl⟩ ⟨Nat.le_refl _, Nat.le_refl _⟩ (Nat.le_of_ble_eq_true rfl) dX5_cut_16 (fun σ_3 h => ?_)
    refine ww_iconst dX5_cut_19 ?_
    refine ww_iload_n dX5_cut_20 1 rfl ?_
    refine ww_imul dX5_cut_21 ?_
    refine ww_istore_n dX5_cut_22 rfl (Nat.le_of_ble_eq_true rfl) rfl ?_
    obtain ⟨I23, hI23, h⟩ := h
    have kI23 : ∀ (n23 : Nat), ∀ (v2_23 : Int), ∀ (σ23 : TS), I23 n23 v2_23 σ23 → WW G l cX5_cut RX5 3 (Option.some Jvm.ClassFile.FieldType.int) "cut" 2 0 0 (tR1 (P)) (tS G q fr) 0 0 [tw G q σ23, fr] 23 [(0, .ref (q 100)), (2, vI v2_23)] [] := by
      intro n23
      induction n23 using Nat.strongRecOn with
      | ind n23 ih23 =>
        intro v2_23 σ23 hj
        have h := hI23 n23 v2_23 σ23 hj
        refine ww_iload_n dX5_cut_23 1 rfl ?_
        refine ww_iconst dX5_cut_24 ?_
        refine ww_iadd dX5_cut_25 ?_
        refine ww_iconst dX5_cut_26 ?_
        refine ww_aload_n dX5_cut_27 0 rfl ?_
        refine tg_30 dX5_cut_28 ?_
        refine ww_bipush (v := 116) dX5_cut_31 rfl ?_
        refine ta_30 ⟨by decide, by decide⟩ dX5_cut_33 ?_
        refine ww_imul dX5_cut_34 ?_
        obtain ⟨r_4, r_5, h⟩ := h
        refine ww_icmp_ge (tgt := 64) dX5_cut_35 (by decide) r_4 r_5 (fun c => ?_) (fun c => ?_)
        · replace h := h.1 c
          refine ww_aload_n dX5_cut_64 0 rfl ?_
          refine tg_30 dX5_cut_65 ?_
          refine ww_bipush (v := 116) dX5_cut_68 rfl ?_
          refine ww_dup2 dX5_cut_70 rfl rfl ?_
          refine ta_30 ⟨by decide, by decide⟩ dX5_cut_71 ?_
          refine ww_iconst dX5_cut_72 ?_
          refine ww_isub dX5_cut_73 ?_
          refine ts_30 ⟨by decide, by decide⟩ dX5_cut_74 ?_
          refine ww_aload_n dX5_cut_75 0 rfl ?_
          refine tg_30 dX5_cut_76 ?_
          refine ww_bipush (v := 116) dX5_cut_79 rfl ?_
          refine ta_30 ⟨by decide, by decide⟩ dX5_cut_81 ?_
          exact ww_iret (tA (sA σ23 30 116 ((tA σ23 30 116) - 1)) 30 116, sA σ23 30 116 ((tA σ23 30 116) - 1)) rfl ⟨rfl, h⟩ rfl (Nat.le_refl _) (Nat.le_refl _) dX5_cut_82
        · replace h := h.2 (Int.not_le.mp c)
          refine ww_aload_n dX5_cut_38 0 rfl ?_
          refine tg_30 dX5_cut_39 ?_
          refine ww_bipush (v := 96) dX5_cut_42 rfl ?_
          refine ww_iload_n dX5_cut_44 1 rfl ?_
          refine ww_iadd dX5_cut_45 ?_
          refine ww_aload_n dX5_cut_46 0 rfl ?_
          refine tg_30 dX5_cut_47 ?_
          refine ww_bipush (v := 96) dX5_cut_50 rfl ?_
          refine ww_iload_n dX5_cut_52 1 rfl ?_
          refine ww_iadd dX5_cut_53 ?_
          refine ww_iconst dX5_cut_54 ?_
          refine ww_iadd dX5_cut_55 ?_
          obtain ⟨r_6, h⟩ := h
          refine ta_30 r_6 dX5_cut_56 ?_
          obtain ⟨r_7, h⟩ := h
          refine ts_30 r_7 dX5_cut_57 ?_
          refine ww_iinc dX5_cut_58 1 rfl (Nat.le_of_ble_eq_true rfl) rfl ?_
          refine ww_goto (tgt := 23) dX5_cut_61 (by decide) ?_
          refine ww_lv [1, 0] rfl ?_
          obtain ⟨m, hm, h⟩ := h
          exact ih23 m hm _ _ h
    refine ww_lv [1, 0] rfl ?_
    obtain ⟨m, h⟩ := h
    exact kI23 m _ _ h
  · replace h := h.2 c
    refine ww_iconst dX5_cut_13 ?_
    exact ww_iret ((-1), sF σ 0 0) rfl ⟨rfl, h⟩ rfl (Nat.le_refl _) (Nat.le_refl _) dX5_cut_14

/-! undo -/
def w_undo (σ : TS) (P : Int → TS → Prop) : Prop :=
  rI (tF σ 32) ∧
  ((¬ (tF σ 32) = 0 →
    ∃ I26 : Nat → Int → TS → Prop, (∀ (n26 : Nat) (v1_26 : Int) (σ26 : TS), I26 n26 v1_26 σ26 →
      rI v1_26 ∧
      ((117 ≤ v1_26 →
        P (tF σ26 32) σ26) ∧
      (v1_26 < 117 →
        (0 ≤ (117 * (tF σ26 32)) + v1_26 ∧ (117 * (tF σ26 32)) + v1_26 < 1404) ∧
        (0 ≤ v1_26 ∧ v1_26 < 117) ∧
        ∃ m : Nat, m < n26 ∧ I26 m (v1_26 + 1) (sA σ26 30 v1_26 (tA σ26 31 ((117 * (tF σ26 32)) + v1_26)))))) ∧
    ∃ m : Nat, I26 m 0 (sF (sF σ 0 0) 32 ((tF σ 32) - 1))) ∧
  ((tF σ 32) = 0 →
    P (-1) (sF σ 0 0)))
set_option maxHeartbeats 4000000 in
theorem t_undo {G : g_G} {l : Launch} {q : Nat → Nat} {σ : TS} {P : Int → TS → Prop} (h : w_undo σ P) : CT G l yX5_undo cX5_undo 2 (Option.some Jvm.ClassFile.FieldType.int) 0 0 0 [.ref (q 100)] [tw G q σ] (tR1 (P)) (fun u => [tw G q u.2]) := by
  unfold w_undo at h
  refine ww_of (by decide) (Nat.le_of_ble_eq_true rfl) (fun fr => ?_)
  show WW G l cX5_undo RX5 2 (Option.some Jvm.ClassFile.FieldType.int) "undo" 0 0 0 (tR1 (P)) (tS G q fr) 0 0 [tw G q σ, fr] 0 [(0, .ref (q 100))] []
  refine ww_aload_n dX5_undo_0 0 rfl ?_
  refine ww_iconst dX5_undo_1 ?_
  refine tp_0 dX5_undo_2 ?_
  refine ww_aload_n dX5_undo_5 0 rfl ?_
  refine tg_32 dX5_undo_6 ?_
  obtain ⟨r_1, h⟩ := h
  refine ww_if_ne (tgt := 14) dX5_undo_9 (by decide) r_1 (fun c => ?_) (fun c => ?_)
  · replace h := h.1 c
    refine ww_aload_n dX5_undo_14 0 rfl ?_
    refine ww_dup dX5_undo_15 rfl ?_
    refine tg_32 dX5_undo_16 ?_
    refine ww_iconst dX5_undo_19 ?_
    refine ww_isub dX5_undo_20 ?_
    refine tp_32 dX5_undo_21 ?_
    refine ww_iconst dX5_undo_24 ?_
    refine ww_istore_n dX5_undo_25 rfl (Nat.le_of_ble_eq_true rfl) rfl ?_
    obtain ⟨I26, hI26, h⟩ := h
    have kI26 : ∀ (n26 : Nat), ∀ (v1_26 : Int), ∀ (σ26 : TS), I26 n26 v1_26 σ26 → WW G l cX5_undo RX5 2 (Option.some Jvm.ClassFile.FieldType.int) "undo" 0 0 0 (tR1 (P)) (tS G q fr) 0 0 [tw G q σ26, fr] 26 [(0, .ref (q 100)), (1, vI v1_26)] [] := by
      intro n26
      induction n26 using Nat.strongRecOn with
      | ind n26 ih26 =>
        intro v1_26 σ26 hj
        have h := hI26 n26 v1_26 σ26 hj
        refine ww_iload_n dX5_undo_26 1 rfl ?_
        refine ww_bipush (v := 117) dX5_undo_27 rfl ?_
        obtain ⟨r_2, h⟩ := h
        refine ww_icmp_ge (tgt := 58) dX5_undo_29 (by decide) r_2 (by decide) (fun c => ?_) (fun c => ?_)
        · replace h := h.1 c
          refine ww_aload_n dX5_undo_58 0 rfl ?_
          refine tg_32 dX5_undo_59 ?_
          exact ww_iret (tF σ26 32, σ26) rfl ⟨rfl, h⟩ rfl (Nat.le_refl _) (Nat.le_refl _) dX5_undo_62
        · replace h := h.2 (Int.not_le.mp c)
          refine ww_aload_n dX5_undo_32 0 rfl ?_
          refine tg_30 dX5_undo_33 ?_
          refine ww_iload_n dX5_undo_36 1 rfl ?_
          refine ww_aload_n dX5_undo_37 0 rfl ?_
          refine tg_31 dX5_undo_38 ?_
          refine ww_bipush (v := 117) dX5_undo_41 rfl ?_
          refine ww_aload_n dX5_undo_43 0 rfl ?_
          refine tg_32 dX5_undo_44 ?_
          refine ww_imul dX5_undo_47 ?_
          refine ww_iload_n dX5_undo_48 1 rfl ?_
          refine ww_iadd dX5_undo_49 ?_
          obtain ⟨r_3, h⟩ := h
          refine ta_31 r_3 dX5_undo_50 ?_
          obtain ⟨r_4, h⟩ := h
          refine ts_30 r_4 dX5_undo_51 ?_
          refine ww_iinc dX5_undo_52 1 rfl (Nat.le_of_ble_eq_true rfl) rfl ?_
          refine ww_goto (tgt := 26) dX5_undo_55 (by decide) ?_
          refine ww_lv [1, 0] rfl ?_
          obtain ⟨m, hm, h⟩ := h
          exact ih26 m hm _ _ h
    refine ww_lv [1, 0] rfl ?_
    obtain ⟨m, h⟩ := h
    exact kI26 m _ _ h
  · replace h := h.2 c
    refine ww_iconst dX5_undo_12 ?_
    exact ww_iret ((-1), sF σ 0 0) rfl ⟨rfl, h⟩ rfl (Nat.le_refl _) (Nat.le_refl _) dX5_undo_13

/-! keep -/
def w_keep (σ : TS) (a1 : Int) (a2 : Int) (P : Int → TS → Prop) : Prop :=
  rI a1 ∧
  w_within a1 0 1 (fun y_2 =>
    ((y_2 = 0 →
      P 0 (sF σ 0 0)) ∧
    (¬ y_2 = 0 →
      rI a2 ∧
      ∃ J30 : Prop, (J30 →
        ∃ I32 : Nat → Int → TS → Prop, (∀ (n32 : Nat) (v3_32 : Int) (σ32 : TS), I32 n32 v3_32 σ32 →
          rI v3_32 ∧
          ((117 ≤ v3_32 →
            rI a2 ∧
            ((a2 = 0 →
              (0 ≤ a1 ∧ a1 < 2) ∧
              P 1 (sA σ32 34 a1 1)) ∧
            (¬ a2 = 0 →
              P 1 (sF σ32 32 0)))) ∧
          (v3_32 < 117 →
            rI a2 ∧
            ∃ J79 : TS → Prop, (∀ (σ79 : TS), J79 σ79 →
              ∃ m : Nat, m < n32 ∧ I32 m (v3_32 + 1) σ79) ∧
            ((a2 = 0 →
              (0 ≤ v3_32 ∧ v3_32 < 117) ∧
              (0 ≤ (117 * a1) + v3_32 ∧ (117 * a1) + v3_32 < 234) ∧
              J79 (sA σ32 33 ((117 * a1) + v3_32) (tA σ32 30 v3_32))) ∧
            (¬ a2 = 0 →
              (0 ≤ (117 * a1) + v3_32 ∧ (117 * a1) + v3_32 < 234) ∧
              (0 ≤ v3_32 ∧ v3_32 < 117) ∧
              J79 (sA σ32 30 v3_32 (tA σ32 33 ((117 * a1) + v3_32)))))))) ∧
        ∃ m : Nat, I32 m 0 (sF σ 0 0)) ∧
      ((a2 = 0 →
        J30) ∧
      (¬ a2 = 0 →
        (0 ≤ a1 ∧ a1 < 2) ∧
        rI (tA σ 34 a1) ∧
        ((¬ (tA σ 34 a1) = 0 →
          J30) ∧
        ((tA σ 34 a1) = 0 →
          P 0 (sF σ 0 0))))))))
set_option maxHeartbeats 4000000 in
theorem t_keep {G : g_G} {l : Launch} {q : Nat → Nat} {σ : TS} {a1 : Int} {a2 : Int} {P : Int → TS → Prop} (h : w_keep σ a1 a2 P) : CT G l yX5_keep cX5_keep 4 (Option.some Jvm.ClassFile.FieldType.boolean) 1 0 0 [.ref (q 100), vI a1, vI a2] [tw G q σ] (tR2 (P)) (fun u => [tw G q u.2]) := by
  unfold w_keep at h
  refine ww_of (by decide) (Nat.le_of_ble_eq_true rfl) (fun fr => ?_)
  show WW G l cX5_keep RX5 4 (Option.some Jvm.ClassFile.FieldType.boolean) "keep" 1 0 0 (tR2 (P)) (tS G q fr) 0 0 [tw G q σ, fr] 0 [(0, .ref (q 100)), (1, vI a1), (2, vI a2)] []
  refine ww_aload_n dX5_keep_0 0 rfl ?_
  refine ww_iconst dX5_keep_1 ?_
  refine tp_0 dX5_keep_2 ?_
  refine ww_iload_n dX5_keep_5 1 rfl ?_
  obtain ⟨r_1, h⟩ := h
  refine ww_i2l dX5_keep_6 r_1 ?_
  refine ww_lconst (v := 0) dX5_keep_7 rfl ?_
  refine ww_lconst (v := 1) dX5_keep_8 rfl ?_
  refine tc_within h ⟨Nat.le_of_ble_eq_true rfl, Nat.le_of_ble_eq_true rfl⟩ ⟨Nat.le_refl _, Nat.le_refl _⟩ (Nat.le_of_ble_eq_true rfl) dX5_keep_9 (fun y_2 z_3 h => ?_)
  refine ww_if_eq (tgt := 28) dX5_keep_12 (by decide) (z01 z_3) (fun c => ?_) (fun c => ?_)
  · replace h := h.1 c
    refine ww_iconst dX5_keep_28 ?_
    exact ww_zret (0, sF σ 0 0) rfl (Or.inl rfl) ⟨rfl, (Or.inl rfl), h⟩ rfl (Nat.le_refl _) (Nat.le_refl _) dX5_keep_29
  · replace h := h.2 c
    refine ww_iload_n dX5_keep_15 2 rfl ?_
    obtain ⟨r_4, h⟩ := h
    obtain ⟨J30, hJ30, h⟩ := h
    have kJ30 : J30 → WW G l cX5_keep RX5 4 (Option.some Jvm.ClassFile.FieldType.boolean) "keep" 1 0 0 (tR2 (P)) (tS G q fr) 0 0 [tw G q (sF σ 0 0), fr] 30 [(0, .ref (q 100)), (1, vI a1), (2, vI a2)] [] := by
      intro hj
      have h := hJ30 hj
      refine ww_iconst dX5_keep_30 ?_
      refine ww_istore_n dX5_keep_31 rfl (Nat.le_of_ble_eq_true rfl) rfl ?_
      obtain ⟨I32, hI32, h⟩ := h
      have kI32 : ∀ (n32 : Nat), ∀ (v3_32 : Int), ∀ (σ32 : TS), I32 n32 v3_32 σ32 → WW G l cX5_keep RX5 4 (Option.some Jvm.ClassFile.FieldType.boolean) "keep" 1 0 0 (tR2 (P)) (tS G q fr) 0 0 [tw G q σ32, fr] 32 [(0, .ref (q 100)), (1, vI a1), (2, vI a2), (3, vI v3_32)] [] := by
        intro n32
        induction n32 using Nat.strongRecOn with
        | ind n32 ih32 =>
          intro v3_32 σ32 hj
          have h := hI32 n32 v3_32 σ32 hj
          refine ww_iload_n dX5_keep_32 3 rfl ?_
          refine ww_bipush (v := 117) dX5_keep_33 rfl ?_
          obtain ⟨r_5, h⟩ := h
          refine ww_icmp_ge (tgt := 85) dX5_keep_35 (by decide) r_5 (by decide) (fun c => ?_) (fun c => ?_)
          · replace h := h.1 c
            refine ww_iload_n dX5_keep_85 2 rfl ?_
            obtain ⟨r_6, h⟩ := h
            refine ww_if_eq (tgt := 97) dX5_keep_86 (by decide) r_6 (fun c => ?_) (fun c => ?_)
            · replace h := h.1 c
              refine ww_aload_n dX5_keep_97 0 rfl ?_
              refine tg_34 dX5_keep_98 ?_
              refine ww_iload_n dX5_keep_101 1 rfl ?_
              refine ww_iconst dX5_keep_102 ?_
              obtain ⟨r_7, h⟩ := h
              refine ts_34 r_7 (by decide) dX5_keep_103 ?_
              refine ww_iconst dX5_keep_104 ?_
              exact ww_zret (1, sA σ32 34 a1 1) rfl (Or.inr rfl) ⟨rfl, (Or.inr rfl), h⟩ rfl (Nat.le_refl _) (Nat.le_refl _) dX5_keep_105
            · replace h := h.2 c
              refine ww_aload_n dX5_keep_89 0 rfl ?_
              refine ww_iconst dX5_keep_90 ?_
              refine tp_32 dX5_keep_91 ?_
              refine ww_goto (tgt := 104) dX5_keep_94 (by decide) ?_
              refine ww_iconst dX5_keep_104 ?_
              exact ww_zret (1, sF σ32 32 0) rfl (Or.inr rfl) ⟨rfl, (Or.inr rfl), h⟩ rfl (Nat.le_refl _) (Nat.le_refl _) dX5_keep_105
          · replace h := h.2 (Int.not_le.mp c)
            refine ww_iload_n dX5_keep_38 2 rfl ?_
            obtain ⟨r_8, h⟩ := h
            obtain ⟨J79, hJ79, h⟩ := h
            have kJ79 : ∀ (σ79 : TS), J79 σ79 → WW G l cX5_keep RX5 4 (Option.some Jvm.ClassFile.FieldType.boolean) "keep" 1 0 0 (tR2 (P)) (tS G q fr) 0 0 [tw G q σ79, fr] 79 [(0, .ref (q 100)), (1, vI a1), (2, vI a2), (3, vI v3_32)] [] := by
              intro σ79 hj
              have h := hJ79 σ79 hj
              refine ww_iinc dX5_keep_79 3 rfl (Nat.le_of_ble_eq_true rfl) rfl ?_
              refine ww_goto (tgt := 32) dX5_keep_82 (by decide) ?_
              refine ww_lv [1, 2, 3, 0] rfl ?_
              obtain ⟨m, hm, h⟩ := h
              exact ih32 m hm _ _ h
            refine ww_if_eq (tgt := 62) dX5_keep_39 (by decide) r_8 (fun c => ?_) (fun c => ?_)
            · replace h := h.1 c
              refine ww_aload_n dX5_keep_62 0 rfl ?_
              refine tg_33 dX5_keep_63 ?_
              refine ww_bipush (v := 117) dX5_keep_66 rfl ?_
              refine ww_iload_n dX5_keep_68 1 rfl ?_
              refine ww_imul dX5_keep_69 ?_
              refine ww_iload_n dX5_keep_70 3 rfl ?_
              refine ww_iadd dX5_keep_71 ?_
              refine ww_aload_n dX5_keep_72 0 rfl ?_
              refine tg_30 dX5_keep_73 ?_
              refine ww_iload_n dX5_keep_76 3 rfl ?_
              obtain ⟨r_9, h⟩ := h
              refine ta_30 r_9 dX5_keep_77 ?_
              obtain ⟨r_10, h⟩ := h
              refine ts_33 r_10 dX5_keep_78 ?_
              exact kJ79 _ h
            · replace h := h.2 c
              refine ww_aload_n dX5_keep_42 0 rfl ?_
              refine tg_30 dX5_keep_43 ?_
              refine ww_iload_n dX5_keep_46 3 rfl ?_
              refine ww_aload_n dX5_keep_47 0 rfl ?_
              refine tg_33 dX5_keep_48 ?_
              refine ww_bipush (v := 117) dX5_keep_51 rfl ?_
              refine ww_iload_n dX5_keep_53 1 rfl ?_
              refine ww_imul dX5_keep_54 ?_
              refine ww_iload_n dX5_keep_55 3 rfl ?_
              refine ww_iadd dX5_keep_56 ?_
              obtain ⟨r_11, h⟩ := h
              refine ta_33 r_11 dX5_keep_57 ?_
              obtain ⟨r_12, h⟩ := h
              refine ts_30 r_12 dX5_keep_58 ?_
              refine ww_goto (tgt := 79) dX5_keep_59 (by decide) ?_
              exact kJ79 _ h
      refine ww_lv [1, 2, 3, 0] rfl ?_
      obtain ⟨m, h⟩ := h
      exact kI32 m _ _ h
    refine ww_if_eq (tgt := 30) dX5_keep_16 (by decide) r_4 (fun c => ?_) (fun c => ?_)
    · replace h := h.1 c
      exact kJ30 h
    · replace h := h.2 c
      refine ww_aload_n dX5_keep_19 0 rfl ?_
      refine tg_34 dX5_keep_20 ?_
      refine ww_iload_n dX5_keep_23 1 rfl ?_
      obtain ⟨r_13, h⟩ := h
      refine ta_34 r_13 dX5_keep_24 ?_
      obtain ⟨r_14, h⟩ := h
      refine ww_if_ne (tgt := 30) dX5_keep_25 (by decide) r_14 (fun c => ?_) (fun c => ?_)
      · replace h := h.1 c
        exact kJ30 h
      · replace h := h.2 c
        refine ww_iconst dX5_keep_28 ?_
        exact ww_zret (0, sF σ 0 0) rfl (Or.inl rfl) ⟨rfl, (Or.inl rfl), h⟩ rfl (Nat.le_refl _) (Nat.le_refl _) dX5_keep_29

/-! count -/
def w_count (σ : TS) (a1 : Int) (P : Int → TS → Prop) : Prop :=
  rI a1 ∧
  (a1 = 0 →
    w_p (sF σ 0 0) (fun y_2 =>
      P y_2 (sF σ 0 0))) ∧
  (a1 = 1 →
    P (tA σ 14 0) (sF σ 0 0)) ∧
  (a1 = 2 →
    P (tA σ 15 0) (sF σ 0 0)) ∧
  (a1 = 3 →
    P (tA σ 16 0) (sF σ 0 0)) ∧
  (a1 = 4 →
    P (tA σ 30 116) (sF σ 0 0)) ∧
  (a1 = 5 →
    w_laysOpen (sF σ 0 0) (fun σ_3 =>
      P (tF σ_3 39) σ_3)) ∧
  (a1 = 6 →
    P (tF σ 32) (sF σ 0 0)) ∧
  (a1 = 7 →
    P (tF σ 2) (sF σ 0 0)) ∧
  (a1 < 0 ∨ 7 < a1 →
    P (-1) (sF σ 0 0))
set_option maxHeartbeats 4000000 in
theorem t_count {G : g_G} {l : Launch} {q : Nat → Nat} {σ : TS} {a1 : Int} {P : Int → TS → Prop} (h : w_count σ a1 P) : CT G l yX5_count cX5_count 2 (Option.some Jvm.ClassFile.FieldType.int) 2 0 0 [.ref (q 100), vI a1] [tw G q σ] (tR1 (P)) (fun u => [tw G q u.2]) := by
  unfold w_count at h
  refine ww_of (by decide) (Nat.le_of_ble_eq_true rfl) (fun fr => ?_)
  show WW G l cX5_count RX5 2 (Option.some Jvm.ClassFile.FieldType.int) "count" 2 0 0 (tR1 (P)) (tS G q fr) 0 0 [tw G q σ, fr] 0 [(0, .ref (q 100)), (1, vI a1)] []
  refine ww_aload_n dX5_count_0 0 rfl ?_
  refine ww_iconst dX5_count_1 ?_
  refine tp_0 dX5_count_2 ?_
  refine ww_iload_n dX5_count_5 1 rfl ?_
  obtain ⟨r_1, h⟩ := h
  by_cases c0 : a1 = 0
  · replace h := h.1 c0
    refine ww_tableIn (tgt := 52) dX5_count_6 r_1 (by rw [c0]; decide) (by rw [c0]; decide) (by rw [c0]; rfl) (by decide) ?_
    refine ww_aload_n dX5_count_52 0 rfl ?_
    refine tc_p h ⟨Nat.le_of_ble_eq_true rfl, Nat.le_of_ble_eq_true rfl⟩ ⟨Nat.le_refl _, Nat.le_refl _⟩ (Nat.le_of_ble_eq_true rfl) dX5_count_53 (fun y_2 h => ?_)
    exact ww_iret (y_2, sF σ 0 0) rfl ⟨rfl, h⟩ rfl (Nat.le_refl _) (Nat.le_refl _) dX5_count_56
  by_cases c1 : a1 = 1
  · replace h := h.2.1 c1
    refine ww_tableIn (tgt := 57) dX5_count_6 r_1 (by rw [c1]; decide) (by rw [c1]; decide) (by rw [c1]; rfl) (by decide) ?_
    refine ww_aload_n dX5_count_57 0 rfl ?_
    refine tg_14 dX5_count_58 ?_
    refine ww_iconst dX5_count_61 ?_
    refine ta_14 ⟨by decide, by decide⟩ dX5_count_62 ?_
    exact ww_iret (tA σ 14 0, sF σ 0 0) rfl ⟨rfl, h⟩ rfl (Nat.le_refl _) (Nat.le_refl _) dX5_count_63
  by_cases c2 : a1 = 2
  · replace h := h.2.2.1 c2
    refine ww_tableIn (tgt := 64) dX5_count_6 r_1 (by rw [c2]; decide) (by rw [c2]; decide) (by rw [c2]; rfl) (by decide) ?_
    refine ww_aload_n dX5_count_64 0 rfl ?_
    refine tg_15 dX5_count_65 ?_
    refine ww_iconst dX5_count_68 ?_
    refine ta_15 ⟨by decide, by decide⟩ dX5_count_69 ?_
    exact ww_iret (tA σ 15 0, sF σ 0 0) rfl ⟨rfl, h⟩ rfl (Nat.le_refl _) (Nat.le_refl _) dX5_count_70
  by_cases c3 : a1 = 3
  · replace h := h.2.2.2.1 c3
    refine ww_tableIn (tgt := 71) dX5_count_6 r_1 (by rw [c3]; decide) (by rw [c3]; decide) (by rw [c3]; rfl) (by decide) ?_
    refine ww_aload_n dX5_count_71 0 rfl ?_
    refine tg_16 dX5_count_72 ?_
    refine ww_iconst dX5_count_75 ?_
    refine ta_16 ⟨by decide, by decide⟩ dX5_count_76 ?_
    exact ww_iret (tA σ 16 0, sF σ 0 0) rfl ⟨rfl, h⟩ rfl (Nat.le_refl _) (Nat.le_refl _) dX5_count_77
  by_cases c4 : a1 = 4
  · replace h := h.2.2.2.2.1 c4
    refine ww_tableIn (tgt := 78) dX5_count_6 r_1 (by rw [c4]; decide) (by rw [c4]; decide) (by rw [c4]; rfl) (by decide) ?_
    refine ww_aload_n dX5_count_78 0 rfl ?_
    refine tg_30 dX5_count_79 ?_
    refine ww_bipush (v := 116) dX5_count_82 rfl ?_
    refine ta_30 ⟨by decide, by decide⟩ dX5_count_84 ?_
    exact ww_iret (tA σ 30 116, sF σ 0 0) rfl ⟨rfl, h⟩ rfl (Nat.le_refl _) (Nat.le_refl _) dX5_count_85
  by_cases c5 : a1 = 5
  · replace h := h.2.2.2.2.2.1 c5
    refine ww_tableIn (tgt := 86) dX5_count_6 r_1 (by rw [c5]; decide) (by rw [c5]; decide) (by rw [c5]; rfl) (by decide) ?_
    refine ww_aload_n dX5_count_86 0 rfl ?_
    refine tc_laysOpen h ⟨Nat.le_of_ble_eq_true rfl, Nat.le_of_ble_eq_true rfl⟩ ⟨Nat.le_refl _, Nat.le_refl _⟩ (Nat.le_of_ble_eq_true rfl) dX5_count_87 (fun σ_3 h => ?_)
    refine ww_aload_n dX5_count_90 0 rfl ?_
    refine tg_39 dX5_count_91 ?_
    exact ww_iret (tF σ_3 39, σ_3) rfl ⟨rfl, h⟩ rfl (Nat.le_refl _) (Nat.le_refl _) dX5_count_94
  by_cases c6 : a1 = 6
  · replace h := h.2.2.2.2.2.2.1 c6
    refine ww_tableIn (tgt := 95) dX5_count_6 r_1 (by rw [c6]; decide) (by rw [c6]; decide) (by rw [c6]; rfl) (by decide) ?_
    refine ww_aload_n dX5_count_95 0 rfl ?_
    refine tg_32 dX5_count_96 ?_
    exact ww_iret (tF σ 32, sF σ 0 0) rfl ⟨rfl, h⟩ rfl (Nat.le_refl _) (Nat.le_refl _) dX5_count_99
  by_cases c7 : a1 = 7
  · replace h := h.2.2.2.2.2.2.2.1 c7
    refine ww_tableIn (tgt := 100) dX5_count_6 r_1 (by rw [c7]; decide) (by rw [c7]; decide) (by rw [c7]; rfl) (by decide) ?_
    refine ww_aload_n dX5_count_100 0 rfl ?_
    refine tg_2 dX5_count_101 ?_
    exact ww_iret (tF σ 2, sF σ 0 0) rfl ⟨rfl, h⟩ rfl (Nat.le_refl _) (Nat.le_refl _) dX5_count_104
  have c : a1 < 0 ∨ 7 < a1 := by omega
  replace h := h.2.2.2.2.2.2.2.2 c
  refine ww_tableOut (tgt := 105) dX5_count_6 r_1 c (by decide) ?_
  refine ww_iconst dX5_count_105 ?_
  exact ww_iret ((-1), sF σ 0 0) rfl ⟨rfl, h⟩ rfl (Nat.le_refl _) (Nat.le_refl _) dX5_count_106

