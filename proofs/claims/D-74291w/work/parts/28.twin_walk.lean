/-! THE TWIN: weakest preconditions and walks (printed by tools/twin.py) -/
set_option maxRecDepth 100000
/-! changes_35 -/
def w_changes_35 (σ : TS) (a1 : Int) (a2 : Int) (a3 : Int) (a4 : Int) (a5 : Int) (a6 : Int) (a7 : Int) (P : TS → Prop) : Prop :=
  ∃ I3 : Nat → Int → TS → Prop, (∀ (n3 : Nat) (v9_3 : Int) (σ3 : TS), I3 n3 v9_3 σ3 →
    rI v9_3 ∧
    (((bL 1 a2) ≤ v9_3 →
      P σ3) ∧
    (v9_3 < (bL 1 a2) →
      ∃ J101 : TS → Prop, (∀ (σ101 : TS), J101 σ101 →
        ∃ m : Nat, m < n3 ∧ I3 m (v9_3 + 1) σ101) ∧
      ((¬ (bA (bR v9_3 a3) 1) = 1 →
        (0 ≤ a1 + v9_3 ∧ a1 + v9_3 < 16) ∧
        ∀ x_3 : Int, x_3 = tA σ3 35 (a1 + v9_3) →
        (0 ≤ a1 + (bO v9_3 (bL 1 a3)) ∧ a1 + (bO v9_3 (bL 1 a3)) < 16) ∧
        ∀ x_5 : Int, x_5 = tA σ3 35 (a1 + (bO v9_3 (bL 1 a3))) →
        rI ((a4 * x_3) + (a5 * x_5)) ∧
        w_p σ3 (fun y_7 =>
          w_modulo ((a4 * x_3) + (a5 * x_5)) y_7 (fun y_8 =>
            (0 ≤ a1 + v9_3 ∧ a1 + v9_3 < 16) ∧
            rI ((a6 * x_3) + (a7 * x_5)) ∧
            w_p (sA σ3 35 (a1 + v9_3) y_8) (fun y_11 =>
              w_modulo ((a6 * x_3) + (a7 * x_5)) y_11 (fun y_12 =>
                (0 ≤ a1 + (bO v9_3 (bL 1 a3)) ∧ a1 + (bO v9_3 (bL 1 a3)) < 16) ∧
                J101 (sA (sA σ3 35 (a1 + v9_3) y_8) 35 (a1 + (bO v9_3 (bL 1 a3))) y_12)))))) ∧
      ((bA (bR v9_3 a3) 1) = 1 →
        J101 σ3))))) ∧
  ∃ m : Nat, I3 m 0 σ
set_option maxHeartbeats 4000000 in
theorem t_changes_35 {G : g_G} {l : Launch} {q : Nat → Nat} {σ : TS} {a1 : Int} {a2 : Int} {a3 : Int} {a4 : Int} {a5 : Int} {a6 : Int} {a7 : Int} {P : TS → Prop} (h : w_changes_35 σ a1 a2 a3 a4 a5 a6 a7 P) : CT G l yX5_changes cX5_changes 12 (Option.none : Option Jvm.ClassFile.FieldType) 1 0 0 [.ref (q 100), .ref (q 35), vI a1, vI a2, vI a3, vI a4, vI a5, vI a6, vI a7] [tw G q σ] (tR0 (fun _ s => P s)) (fun u => [tw G q u.2]) := by
  unfold w_changes_35 at h
  refine ww_of (by decide) (Nat.le_of_ble_eq_true rfl) (fun fr => ?_)
  show WW G l cX5_changes RX5 12 (Option.none : Option Jvm.ClassFile.FieldType) "changes" 1 0 0 (tR0 (fun _ s => P s)) (tS G q fr) 0 0 [tw G q σ, fr] 0 [(0, .ref (q 100)), (1, .ref (q 35)), (2, vI a1), (3, vI a2), (4, vI a3), (5, vI a4), (6, vI a5), (7, vI a6), (8, vI a7)] []
  refine ww_iconst dX5_changes_0 ?_
  refine ww_istore dX5_changes_1 (Nat.le_of_ble_eq_true rfl) rfl ?_
  obtain ⟨I3, hI3, h⟩ := h
  have kI3 : ∀ (n3 : Nat), ∀ (v9_3 : Int), ∀ (σ3 : TS), I3 n3 v9_3 σ3 → WW G l cX5_changes RX5 12 (Option.none : Option Jvm.ClassFile.FieldType) "changes" 1 0 0 (tR0 (fun _ s => P s)) (tS G q fr) 0 0 [tw G q σ3, fr] 3 [(0, .ref (q 100)), (1, .ref (q 35)), (2, vI a1), (3, vI a2), (4, vI a3), (5, vI a4), (6, vI a5), (7, vI a6), (8, vI a7), (9, vI v9_3)] [] := by
    intro n3
    induction n3 using Nat.strongRecOn with
    | ind n3 ih3 =>
      intro v9_3 σ3 hj
      have h := hI3 n3 v9_3 σ3 hj
      refine ww_iload dX5_changes_3 9 rfl ?_
      refine ww_iconst dX5_changes_5 ?_
      refine ww_iload_n dX5_changes_6 3 rfl ?_
      refine ww_ishl dX5_changes_7 ?_
      obtain ⟨r_1, h⟩ := h
      refine ww_icmp_ge (tgt := 107) dX5_changes_8 (by decide) r_1 (rI_bL _ _) (fun c => ?_) (fun c => ?_)
      · replace h := h.1 c
        exact ww_vret (0, σ3) rfl ⟨rfl, h⟩ rfl (Nat.le_refl _) (Nat.le_refl _) dX5_changes_107
      · replace h := h.2 (Int.not_le.mp c)
        refine ww_iload dX5_changes_11 9 rfl ?_
        refine ww_iload dX5_changes_13 4 rfl ?_
        refine ww_ishr dX5_changes_15 ?_
        refine ww_iconst dX5_changes_16 ?_
        refine ww_iand dX5_changes_17 ?_
        refine ww_iconst dX5_changes_18 ?_
        obtain ⟨J101, hJ101, h⟩ := h
        have kJ101 : ∀ (σ101 : TS), J101 σ101 → WW G l cX5_changes RX5 12 (Option.none : Option Jvm.ClassFile.FieldType) "changes" 1 0 0 (tR0 (fun _ s => P s)) (tS G q fr) 0 0 [tw G q σ101, fr] 101 [(0, .ref (q 100)), (1, .ref (q 35)), (2, vI a1), (3, vI a2), (4, vI a3), (5, vI a4), (6, vI a5), (7, vI a6), (8, vI a7), (9, vI v9_3)] [] := by
          intro σ101 hj
          have h := hJ101 σ101 hj
          refine ww_iinc dX5_changes_101 9 rfl (Nat.le_of_ble_eq_true rfl) rfl ?_
          refine ww_goto (tgt := 3) dX5_changes_104 (by decide) ?_
          refine ww_lv [1, 2, 3, 4, 5, 6, 7, 8, 9, 0] rfl ?_
          obtain ⟨m, hm, h⟩ := h
          exact ih3 m hm _ _ h
        refine ww_icmp_ne (tgt := 25) dX5_changes_19 (by decide) (rI_bA _ _) (by decide) (fun c => ?_) (fun c => ?_)
        · replace h := h.1 c
          refine ww_aload_n dX5_changes_25 1 rfl ?_
          refine ww_iload_n dX5_changes_26 2 rfl ?_
          refine ww_iload dX5_changes_27 9 rfl ?_
          refine ww_iadd dX5_changes_29 ?_
          obtain ⟨r_2, h⟩ := h
          refine ta_35 r_2 dX5_changes_30 ?_
          refine ww_nmI (fun x_3 ex_3 => ?_)
          replace h := h x_3 ex_3
          refine ww_istore dX5_changes_31 (Nat.le_of_ble_eq_true rfl) rfl ?_
          refine ww_aload_n dX5_changes_33 2 rfl ?_
          refine ww_iload_n dX5_changes_34 3 rfl ?_
          refine ww_iload dX5_changes_35 10 rfl ?_
          refine ww_iconst dX5_changes_37 ?_
          refine ww_iload dX5_changes_38 5 rfl ?_
          refine ww_ishl dX5_changes_40 ?_
          refine ww_ior dX5_changes_41 ?_
          refine ww_iadd dX5_changes_42 ?_
          obtain ⟨r_4, h⟩ := h
          refine ta_35 r_4 dX5_changes_43 ?_
          refine ww_nmI (fun x_5 ex_5 => ?_)
          replace h := h x_5 ex_5
          refine ww_istore dX5_changes_44 (Nat.le_of_ble_eq_true rfl) rfl ?_
          refine ww_aload_n dX5_changes_46 3 rfl ?_
          refine ww_iload_n dX5_changes_47 4 rfl ?_
          refine ww_iload dX5_changes_48 11 rfl ?_
          refine ww_iadd dX5_changes_50 ?_
          refine ww_iload dX5_changes_51 7 rfl ?_
          refine ww_iload dX5_changes_53 1 rfl ?_
          refine ww_imul dX5_changes_55 ?_
          refine ww_iload dX5_changes_56 8 rfl ?_
          refine ww_iload dX5_changes_58 0 rfl ?_
          refine ww_imul dX5_changes_60 ?_
          refine ww_iadd dX5_changes_61 ?_
          obtain ⟨r_6, h⟩ := h
          refine ww_i2l dX5_changes_62 r_6 ?_
          refine ww_aload_n dX5_changes_63 2 rfl ?_
          refine tc_p h ⟨Nat.le_of_ble_eq_true rfl, Nat.le_of_ble_eq_true rfl⟩ ⟨Nat.le_refl _, Nat.le_refl _⟩ (Nat.le_of_ble_eq_true rfl) dX5_changes_64 (fun y_7 h => ?_)
          refine tc_modulo h ⟨Nat.le_of_ble_eq_true rfl, Nat.le_of_ble_eq_true rfl⟩ ⟨Nat.le_refl _, Nat.le_refl _⟩ (Nat.le_of_ble_eq_true rfl) dX5_changes_67 (fun y_8 h => ?_)
          obtain ⟨r_9, h⟩ := h
          refine ts_35 r_9 dX5_changes_70 ?_
          refine ww_aload_n dX5_changes_71 3 rfl ?_
          refine ww_iload_n dX5_changes_72 4 rfl ?_
          refine ww_iload dX5_changes_73 11 rfl ?_
          refine ww_iconst dX5_changes_75 ?_
          refine ww_iload dX5_changes_76 6 rfl ?_
          refine ww_ishl dX5_changes_78 ?_
          refine ww_ior dX5_changes_79 ?_
          refine ww_iadd dX5_changes_80 ?_
          refine ww_iload dX5_changes_81 9 rfl ?_
          refine ww_iload dX5_changes_83 1 rfl ?_
          refine ww_imul dX5_changes_85 ?_
          refine ww_iload dX5_changes_86 10 rfl ?_
          refine ww_iload dX5_changes_88 0 rfl ?_
          refine ww_imul dX5_changes_90 ?_
          refine ww_iadd dX5_changes_91 ?_
          obtain ⟨r_10, h⟩ := h
          refine ww_i2l dX5_changes_92 r_10 ?_
          refine ww_aload_n dX5_changes_93 2 rfl ?_
          refine tc_p h ⟨Nat.le_of_ble_eq_true rfl, Nat.le_of_ble_eq_true rfl⟩ ⟨Nat.le_refl _, Nat.le_refl _⟩ (Nat.le_of_ble_eq_true rfl) dX5_changes_94 (fun y_11 h => ?_)
          refine tc_modulo h ⟨Nat.le_of_ble_eq_true rfl, Nat.le_of_ble_eq_true rfl⟩ ⟨Nat.le_refl _, Nat.le_refl _⟩ (Nat.le_of_ble_eq_true rfl) dX5_changes_97 (fun y_12 h => ?_)
          obtain ⟨r_13, h⟩ := h
          refine ts_35 r_13 dX5_changes_100 ?_
          refine ww_lv [2, 3, 4, 5, 6, 7, 8, 9, 10, 11] rfl ?_
          exact kJ101 _ h
        · replace h := h.2 c
          refine ww_goto (tgt := 101) dX5_changes_22 (by decide) ?_
          exact kJ101 _ h
  refine ww_lv [1, 2, 3, 4, 5, 6, 7, 8, 9, 0] rfl ?_
  obtain ⟨m, h⟩ := h
  exact kI3 m _ _ h
theorem tc_changes_35 {S : Type} {G : g_G} {l : Launch} {cc : ByteArray} {nL : Nat} {ret : Option FieldType} {mn : String} {d mc ms : Nat} {R : Option Value → S → Prop} {sh : S → List va_W} {cells slots pc : Nat} {lv : List (Nat × Value)} {st : List Value} {q : Nat → Nat} {fr : va_W} {σ : TS} {a1 : Int} {a2 : Int} {a3 : Int} {a4 : Int} {a5 : Int} {a6 : Int} {a7 : Int} {P : TS → Prop} (h : w_changes_35 σ a1 a2 a3 a4 a5 a6 a7 P) (hR : 1 + 1 ≤ d ∧ 16 + (12 + 11) + 100 * 1 ≤ 100 * d) (hc : cells ≤ mc ∧ slots ≤ ms) (hst : (st.map fun v => v.category).sum ≤ 16) (hdg : decode cc pc = .ok (.invokevirtual 305, 3)) (k : ∀ σ2, P σ2 → WW G l cc RX5 nL ret mn d mc ms R sh cells slots [tw G q σ2, fr] (pc + 3) lv (st)) : WW G l cc RX5 nL ret mn d mc ms R sh cells slots [tw G q σ, fr] pc lv (vI a7 :: vI a6 :: vI a5 :: vI a4 :: vI a3 :: vI a2 :: vI a1 :: .ref (q 35) :: .ref (q 100) :: st) := by
  refine tw_call0 (n := 8) (t_changes_35 (q := q) h) (lw_V q2506 q2508 qs90 q117 q2509) ⟨rfl, by decide, by decide, by decide +kernel⟩ rfl hR hc rfl hst hdg ?_
  exact k
/-! laysBased -/
def w_laysBased (σ : TS) (a1 : Int) (a2 : Int) (a3 : Int) (a4 : Int) (a5 : Int) (P : TS → Prop) : Prop :=
  w_laysTable σ a1 (fun σ_1 =>
    ∃ I8 : Nat → Int → TS → Prop, (∀ (n8 : Nat) (v6_8 : Int) (σ8 : TS), I8 n8 v6_8 σ8 →
      rI v6_8 ∧
      rI (tF σ8 36) ∧
      (((tF σ8 36) ≤ v6_8 →
        P σ8) ∧
      (v6_8 < (tF σ8 36) →
        w_changes_35 σ8 0 (tF σ8 36) v6_8 a2 a3 a4 a5 (fun σ_4 =>
          ∃ m : Nat, m < n8 ∧ I8 m (v6_8 + 1) σ_4)))) ∧
    ∃ m : Nat, I8 m 0 σ_1)
set_option maxHeartbeats 4000000 in
theorem t_laysBased {G : g_G} {l : Launch} {q : Nat → Nat} {σ : TS} {a1 : Int} {a2 : Int} {a3 : Int} {a4 : Int} {a5 : Int} {P : TS → Prop} (h : w_laysBased σ a1 a2 a3 a4 a5 P) : CT G l yX5_laysBased cX5_laysBased 7 (Option.none : Option Jvm.ClassFile.FieldType) 2 0 0 [.ref (q 100), vI a1, vI a2, vI a3, vI a4, vI a5] [tw G q σ] (tR0 (fun _ s => P s)) (fun u => [tw G q u.2]) := by
  unfold w_laysBased at h
  refine ww_of (by decide) (Nat.le_of_ble_eq_true rfl) (fun fr => ?_)
  show WW G l cX5_laysBased RX5 7 (Option.none : Option Jvm.ClassFile.FieldType) "laysBased" 2 0 0 (tR0 (fun _ s => P s)) (tS G q fr) 0 0 [tw G q σ, fr] 0 [(0, .ref (q 100)), (1, vI a1), (2, vI a2), (3, vI a3), (4, vI a4), (5, vI a5)] []
  refine ww_aload_n dX5_laysBased_0 0 rfl ?_
  refine ww_iload_n dX5_laysBased_1 1 rfl ?_
  refine tc_laysTable h ⟨Nat.le_of_ble_eq_true rfl, Nat.le_of_ble_eq_true rfl⟩ ⟨Nat.le_refl _, Nat.le_refl _⟩ (Nat.le_of_ble_eq_true rfl) dX5_laysBased_2 (fun σ_1 h => ?_)
  refine ww_iconst dX5_laysBased_5 ?_
  refine ww_istore dX5_laysBased_6 (Nat.le_of_ble_eq_true rfl) rfl ?_
  obtain ⟨I8, hI8, h⟩ := h
  have kI8 : ∀ (n8 : Nat), ∀ (v6_8 : Int), ∀ (σ8 : TS), I8 n8 v6_8 σ8 → WW G l cX5_laysBased RX5 7 (Option.none : Option Jvm.ClassFile.FieldType) "laysBased" 2 0 0 (tR0 (fun _ s => P s)) (tS G q fr) 0 0 [tw G q σ8, fr] 8 [(0, .ref (q 100)), (2, vI a2), (3, vI a3), (4, vI a4), (5, vI a5), (6, vI v6_8)] [] := by
    intro n8
    induction n8 using Nat.strongRecOn with
    | ind n8 ih8 =>
      intro v6_8 σ8 hj
      have h := hI8 n8 v6_8 σ8 hj
      refine ww_iload dX5_laysBased_8 5 rfl ?_
      refine ww_aload_n dX5_laysBased_10 0 rfl ?_
      refine tg_36 dX5_laysBased_11 ?_
      obtain ⟨r_2, r_3, h⟩ := h
      refine ww_icmp_ge (tgt := 44) dX5_laysBased_14 (by decide) r_2 r_3 (fun c => ?_) (fun c => ?_)
      · replace h := h.1 c
        exact ww_vret (0, σ8) rfl ⟨rfl, h⟩ rfl (Nat.le_refl _) (Nat.le_refl _) dX5_laysBased_44
      · replace h := h.2 (Int.not_le.mp c)
        refine ww_aload_n dX5_laysBased_17 0 rfl ?_
        refine ww_aload_n dX5_laysBased_18 0 rfl ?_
        refine tg_35 dX5_laysBased_19 ?_
        refine ww_iconst dX5_laysBased_22 ?_
        refine ww_aload_n dX5_laysBased_23 0 rfl ?_
        refine tg_36 dX5_laysBased_24 ?_
        refine ww_iload dX5_laysBased_27 5 rfl ?_
        refine ww_iload_n dX5_laysBased_29 1 rfl ?_
        refine ww_iload_n dX5_laysBased_30 2 rfl ?_
        refine ww_iload dX5_laysBased_31 3 rfl ?_
        refine ww_iload dX5_laysBased_33 4 rfl ?_
        refine tc_changes_35 h ⟨Nat.le_of_ble_eq_true rfl, Nat.le_of_ble_eq_true rfl⟩ ⟨Nat.le_refl _, Nat.le_refl _⟩ (Nat.le_of_ble_eq_true rfl) dX5_laysBased_35 (fun σ_4 h => ?_)
        refine ww_iinc dX5_laysBased_38 5 rfl (Nat.le_of_ble_eq_true rfl) rfl ?_
        refine ww_goto (tgt := 8) dX5_laysBased_41 (by decide) ?_
        refine ww_lv [1, 2, 3, 4, 5, 0] rfl ?_
        obtain ⟨m, hm, h⟩ := h
        exact ih8 m hm _ _ h
  refine ww_lv [1, 3, 4, 5, 6, 0] rfl ?_
  obtain ⟨m, h⟩ := h
  exact kI8 m _ _ h
theorem tc_laysBased {S : Type} {G : g_G} {l : Launch} {cc : ByteArray} {nL : Nat} {ret : Option FieldType} {mn : String} {d mc ms : Nat} {R : Option Value → S → Prop} {sh : S → List va_W} {cells slots pc : Nat} {lv : List (Nat × Value)} {st : List Value} {q : Nat → Nat} {fr : va_W} {σ : TS} {a1 : Int} {a2 : Int} {a3 : Int} {a4 : Int} {a5 : Int} {P : TS → Prop} (h : w_laysBased σ a1 a2 a3 a4 a5 P) (hR : 2 + 1 ≤ d ∧ 16 + (7 + 11) + 100 * 2 ≤ 100 * d) (hc : cells ≤ mc ∧ slots ≤ ms) (hst : (st.map fun v => v.category).sum ≤ 16) (hdg : decode cc pc = .ok (.invokevirtual 309, 3)) (k : ∀ σ2, P σ2 → WW G l cc RX5 nL ret mn d mc ms R sh cells slots [tw G q σ2, fr] (pc + 3) lv (st)) : WW G l cc RX5 nL ret mn d mc ms R sh cells slots [tw G q σ, fr] pc lv (vI a5 :: vI a4 :: vI a3 :: vI a2 :: vI a1 :: .ref (q 100) :: st) := by
  refine tw_call0 (n := 5) (t_laysBased (q := q) h) (lw_V q2502 q2504 qs89 q117 q2505) ⟨rfl, by decide, by decide, by decide +kernel⟩ rfl hR hc rfl hst hdg ?_
  exact k
/-! laysBasedBy -/
def w_laysBasedBy (σ : TS) (a1 : Int) (a2 : Int) (P : TS → Prop) : Prop :=
  (0 ≤ 4 * a2 ∧ 4 * a2 < 40) ∧
  (0 ≤ (4 * a2) + 1 ∧ (4 * a2) + 1 < 40) ∧
  (0 ≤ (4 * a2) + 2 ∧ (4 * a2) + 2 < 40) ∧
  (0 ≤ (4 * a2) + 3 ∧ (4 * a2) + 3 < 40) ∧
  w_laysBased σ a1 (tA σ 22 (4 * a2)) (tA σ 22 ((4 * a2) + 1)) (tA σ 22 ((4 * a2) + 2)) (tA σ 22 ((4 * a2) + 3)) (fun σ_5 =>
    P σ_5)
set_option maxHeartbeats 4000000 in
theorem t_laysBasedBy {G : g_G} {l : Launch} {q : Nat → Nat} {σ : TS} {a1 : Int} {a2 : Int} {P : TS → Prop} (h : w_laysBasedBy σ a1 a2 P) : CT G l yX5_laysBasedBy cX5_laysBasedBy 3 (Option.none : Option Jvm.ClassFile.FieldType) 3 0 0 [.ref (q 100), vI a1, vI a2] [tw G q σ] (tR0 (fun _ s => P s)) (fun u => [tw G q u.2]) := by
  unfold w_laysBasedBy at h
  refine ww_of (by decide) (Nat.le_of_ble_eq_true rfl) (fun fr => ?_)
  show WW G l cX5_laysBasedBy RX5 3 (Option.none : Option Jvm.ClassFile.FieldType) "laysBasedBy" 3 0 0 (tR0 (fun _ s => P s)) (tS G q fr) 0 0 [tw G q σ, fr] 0 [(0, .ref (q 100)), (1, vI a1), (2, vI a2)] []
  refine ww_aload_n dX5_laysBasedBy_0 0 rfl ?_
  refine ww_iload_n dX5_laysBasedBy_1 1 rfl ?_
  refine ww_aload_n dX5_laysBasedBy_2 0 rfl ?_
  refine tg_22 dX5_laysBasedBy_3 ?_
  refine ww_iconst dX5_laysBasedBy_6 ?_
  refine ww_iload_n dX5_laysBasedBy_7 2 rfl ?_
  refine ww_imul dX5_laysBasedBy_8 ?_
  obtain ⟨r_1, h⟩ := h
  refine ta_22 r_1 dX5_laysBasedBy_9 ?_
  refine ww_aload_n dX5_laysBasedBy_10 0 rfl ?_
  refine tg_22 dX5_laysBasedBy_11 ?_
  refine ww_iconst dX5_laysBasedBy_14 ?_
  refine ww_iload_n dX5_laysBasedBy_15 2 rfl ?_
  refine ww_imul dX5_laysBasedBy_16 ?_
  refine ww_iconst dX5_laysBasedBy_17 ?_
  refine ww_iadd dX5_laysBasedBy_18 ?_
  obtain ⟨r_2, h⟩ := h
  refine ta_22 r_2 dX5_laysBasedBy_19 ?_
  refine ww_aload_n dX5_laysBasedBy_20 0 rfl ?_
  refine tg_22 dX5_laysBasedBy_21 ?_
  refine ww_iconst dX5_laysBasedBy_24 ?_
  refine ww_iload_n dX5_laysBasedBy_25 2 rfl ?_
  refine ww_imul dX5_laysBasedBy_26 ?_
  refine ww_iconst dX5_laysBasedBy_27 ?_
  refine ww_iadd dX5_laysBasedBy_28 ?_
  obtain ⟨r_3, h⟩ := h
  refine ta_22 r_3 dX5_laysBasedBy_29 ?_
  refine ww_aload_n dX5_laysBasedBy_30 0 rfl ?_
  refine tg_22 dX5_laysBasedBy_31 ?_
  refine ww_iconst dX5_laysBasedBy_34 ?_
  refine ww_iload_n dX5_laysBasedBy_35 2 rfl ?_
  refine ww_imul dX5_laysBasedBy_36 ?_
  refine ww_iconst dX5_laysBasedBy_37 ?_
  refine ww_iadd dX5_laysBasedBy_38 ?_
  obtain ⟨r_4, h⟩ := h
  refine ta_22 r_4 dX5_laysBasedBy_39 ?_
  refine tc_laysBased h ⟨Nat.le_of_ble_eq_true rfl, Nat.le_of_ble_eq_true rfl⟩ ⟨Nat.le_refl _, Nat.le_refl _⟩ (Nat.le_of_ble_eq_true rfl) dX5_laysBasedBy_40 (fun σ_5 h => ?_)
  exact ww_vret (0, σ_5) rfl ⟨rfl, h⟩ rfl (Nat.le_refl _) (Nat.le_refl _) dX5_laysBasedBy_43
theorem tc_laysBasedBy {S : Type} {G : g_G} {l : Launch} {cc : ByteArray} {nL : Nat} {ret : Option FieldType} {mn : String} {d mc ms : Nat} {R : Option Value → S → Prop} {sh : S → List va_W} {cells slots pc : Nat} {lv : List (Nat × Value)} {st : List Value} {q : Nat → Nat} {fr : va_W} {σ : TS} {a1 : Int} {a2 : Int} {P : TS → Prop} (h : w_laysBasedBy σ a1 a2 P) (hR : 3 + 1 ≤ d ∧ 16 + (3 + 11) + 100 * 3 ≤ 100 * d) (hc : cells ≤ mc ∧ slots ≤ ms) (hst : (st.map fun v => v.category).sum ≤ 16) (hdg : decode cc pc = .ok (.invokevirtual 313, 3)) (k : ∀ σ2, P σ2 → WW G l cc RX5 nL ret mn d mc ms R sh cells slots [tw G q σ2, fr] (pc + 3) lv (st)) : WW G l cc RX5 nL ret mn d mc ms R sh cells slots [tw G q σ, fr] pc lv (vI a2 :: vI a1 :: .ref (q 100) :: st) := by
  refine tw_call0 (n := 2) (t_laysBasedBy (q := q) h) (lw_V q2498 q2500 qs88 q117 q2501) ⟨rfl, by decide, by decide, by decide +kernel⟩ rfl hR hc rfl hst hdg ?_
  exact k
/-! based -/
def w_based (σ : TS) (a1 : Int) (a2 : Int) (a3 : Int) (P : Int → TS → Prop) : Prop :=
  w_isTable (sF σ 0 0) a1 (fun y_1 =>
    ((y_1 = 0 →
      P (-1) (sF σ 0 0)) ∧
    (¬ y_1 = 0 →
      w_isBase (sF σ 0 0) a2 (fun y_3 =>
        ((y_3 = 0 →
          P (-1) (sF σ 0 0)) ∧
        (¬ y_3 = 0 →
          rI a3 ∧
          (0 ≤ a1 ∧ a1 < 16) ∧
          rI ((bL 1 (tA σ 20 a1)) - 1) ∧
          w_within a3 0 ((bL 1 (tA σ 20 a1)) - 1) (fun y_8 =>
            ((¬ y_8 = 0 →
              w_laysBasedBy (sF σ 0 0) a1 a2 (fun σ_10 =>
                (0 ≤ a3 ∧ a3 < 16) ∧
                P (tA σ_10 35 a3) σ_10)) ∧
            (y_8 = 0 →
              P (-1) (sF σ 0 0))))))))))
set_option maxHeartbeats 4000000 in
theorem t_based {G : g_G} {l : Launch} {q : Nat → Nat} {σ : TS} {a1 : Int} {a2 : Int} {a3 : Int} {P : Int → TS → Prop} (h : w_based σ a1 a2 a3 P) : CT G l yX5_based cX5_based 4 (Option.some Jvm.ClassFile.FieldType.int) 4 0 0 [.ref (q 100), vI a1, vI a2, vI a3] [tw G q σ] (tR1 (P)) (fun u => [tw G q u.2]) := by
  unfold w_based at h
  refine ww_of (by decide) (Nat.le_of_ble_eq_true rfl) (fun fr => ?_)
  show WW G l cX5_based RX5 4 (Option.some Jvm.ClassFile.FieldType.int) "based" 4 0 0 (tR1 (P)) (tS G q fr) 0 0 [tw G q σ, fr] 0 [(0, .ref (q 100)), (1, vI a1), (2, vI a2), (3, vI a3)] []
  refine ww_aload_n dX5_based_0 0 rfl ?_
  refine ww_iconst dX5_based_1 ?_
  refine tp_0 dX5_based_2 ?_
  refine ww_aload_n dX5_based_5 0 rfl ?_
  refine ww_iload_n dX5_based_6 1 rfl ?_
  refine tc_isTable h ⟨Nat.le_of_ble_eq_true rfl, Nat.le_of_ble_eq_true rfl⟩ ⟨Nat.le_refl _, Nat.le_refl _⟩ (Nat.le_of_ble_eq_true rfl) dX5_based_7 (fun y_1 z_2 h => ?_)
  refine ww_if_eq (tgt := 41) dX5_based_10 (by decide) (z01 z_2) (fun c => ?_) (fun c => ?_)
  · replace h := h.1 c
    refine ww_iconst dX5_based_41 ?_
    exact ww_iret ((-1), sF σ 0 0) rfl ⟨rfl, h⟩ rfl (Nat.le_refl _) (Nat.le_refl _) dX5_based_42
  · replace h := h.2 c
    refine ww_aload_n dX5_based_13 0 rfl ?_
    refine ww_iload_n dX5_based_14 2 rfl ?_
    refine tc_isBase h ⟨Nat.le_of_ble_eq_true rfl, Nat.le_of_ble_eq_true rfl⟩ ⟨Nat.le_refl _, Nat.le_refl _⟩ (Nat.le_of_ble_eq_true rfl) dX5_based_15 (fun y_3 z_4 h => ?_)
    refine ww_if_eq (tgt := 41) dX5_based_18 (by decide) (z01 z_4) (fun c => ?_) (fun c => ?_)
    · replace h := h.1 c
      refine ww_iconst dX5_based_41 ?_
      exact ww_iret ((-1), sF σ 0 0) rfl ⟨rfl, h⟩ rfl (Nat.le_refl _) (Nat.le_refl _) dX5_based_42
    · replace h := h.2 c
      refine ww_iload_n dX5_based_21 3 rfl ?_
      obtain ⟨r_5, h⟩ := h
      refine ww_i2l dX5_based_22 r_5 ?_
      refine ww_lconst (v := 0) dX5_based_23 rfl ?_
      refine ww_iconst dX5_based_24 ?_
      refine ww_aload_n dX5_based_25 0 rfl ?_
      refine tg_20 dX5_based_26 ?_
      refine ww_iload_n dX5_based_29 1 rfl ?_
      obtain ⟨r_6, h⟩ := h
      refine ta_20 r_6 dX5_based_30 ?_
      refine ww_ishl dX5_based_31 ?_
      refine ww_iconst dX5_based_32 ?_
      refine ww_isub dX5_based_33 ?_
      obtain ⟨r_7, h⟩ := h
      refine ww_i2l dX5_based_34 r_7 ?_
      refine tc_within h ⟨Nat.le_of_ble_eq_true rfl, Nat.le_of_ble_eq_true rfl⟩ ⟨Nat.le_refl _, Nat.le_refl _⟩ (Nat.le_of_ble_eq_true rfl) dX5_based_35 (fun y_8 z_9 h => ?_)
      refine ww_if_ne (tgt := 43) dX5_based_38 (by decide) (z01 z_9) (fun c => ?_) (fun c => ?_)
      · replace h := h.1 c
        refine ww_aload_n dX5_based_43 0 rfl ?_
        refine ww_iload_n dX5_based_44 1 rfl ?_
        refine ww_iload_n dX5_based_45 2 rfl ?_
        refine tc_laysBasedBy h ⟨Nat.le_of_ble_eq_true rfl, Nat.le_of_ble_eq_true rfl⟩ ⟨Nat.le_refl _, Nat.le_refl _⟩ (Nat.le_of_ble_eq_true rfl) dX5_based_46 (fun σ_10 h => ?_)
        refine ww_aload_n dX5_based_49 0 rfl ?_
        refine tg_35 dX5_based_50 ?_
        refine ww_iload_n dX5_based_53 3 rfl ?_
        obtain ⟨r_11, h⟩ := h
        refine ta_35 r_11 dX5_based_54 ?_
        exact ww_iret (tA σ_10 35 a3, σ_10) rfl ⟨rfl, h⟩ rfl (Nat.le_refl _) (Nat.le_refl _) dX5_based_55
      · replace h := h.2 c
        refine ww_iconst dX5_based_41 ?_
        exact ww_iret ((-1), sF σ 0 0) rfl ⟨rfl, h⟩ rfl (Nat.le_refl _) (Nat.le_refl _) dX5_based_42

/-! fits -/
def w_fits (σ : TS) (a1 : Int) (a2 : Int) (P : Int → TS → Prop) : Prop :=
  w_isTable (sF σ 0 0) a1 (fun y_1 =>
    ((y_1 = 0 →
      P (-1) (sF σ 0 0)) ∧
    (¬ y_1 = 0 →
      w_isBase (sF σ 0 0) a2 (fun y_3 =>
        ((¬ y_3 = 0 →
          w_laysBasedBy (sF σ 0 0) a1 a2 (fun σ_5 =>
            w_isMadeHere σ_5 (fun y_6 =>
              ((y_6 = 0 →
                P 0 σ_5) ∧
              (¬ y_6 = 0 →
                P 1 σ_5))))) ∧
        (y_3 = 0 →
          P (-1) (sF σ 0 0)))))))
set_option maxHeartbeats 4000000 in
theorem t_fits {G : g_G} {l : Launch} {q : Nat → Nat} {σ : TS} {a1 : Int} {a2 : Int} {P : Int → TS → Prop} (h : w_fits σ a1 a2 P) : CT G l yX5_fits cX5_fits 3 (Option.some Jvm.ClassFile.FieldType.int) 4 0 0 [.ref (q 100), vI a1, vI a2] [tw G q σ] (tR1 (P)) (fun u => [tw G q u.2]) := by
  unfold w_fits at h
  refine ww_of (by decide) (Nat.le_of_ble_eq_true rfl) (fun fr => ?_)
  show WW G l cX5_fits RX5 3 (Option.some Jvm.ClassFile.FieldType.int) "fits" 4 0 0 (tR1 (P)) (tS G q fr) 0 0 [tw G q σ, fr] 0 [(0, .ref (q 100)), (1, vI a1), (2, vI a2)] []
  refine ww_aload_n dX5_fits_0 0 rfl ?_
  refine ww_iconst dX5_fits_1 ?_
  refine tp_0 dX5_fits_2 ?_
  refine ww_aload_n dX5_fits_5 0 rfl ?_
  refine ww_iload_n dX5_fits_6 1 rfl ?_
  refine tc_isTable h ⟨Nat.le_of_ble_eq_true rfl, Nat.le_of_ble_eq_true rfl⟩ ⟨Nat.le_refl _, Nat.le_refl _⟩ (Nat.le_of_ble_eq_true rfl) dX5_fits_7 (fun y_1 z_2 h => ?_)
  refine ww_if_eq (tgt := 21) dX5_fits_10 (by decide) (z01 z_2) (fun c => ?_) (fun c => ?_)
  · replace h := h.1 c
    refine ww_iconst dX5_fits_21 ?_
    exact ww_iret ((-1), sF σ 0 0) rfl ⟨rfl, h⟩ rfl (Nat.le_refl _) (Nat.le_refl _) dX5_fits_22
  · replace h := h.2 c
    refine ww_aload_n dX5_fits_13 0 rfl ?_
    refine ww_iload_n dX5_fits_14 2 rfl ?_
    refine tc_isBase h ⟨Nat.le_of_ble_eq_true rfl, Nat.le_of_ble_eq_true rfl⟩ ⟨Nat.le_refl _, Nat.le_refl _⟩ (Nat.le_of_ble_eq_true rfl) dX5_fits_15 (fun y_3 z_4 h => ?_)
    refine ww_if_ne (tgt := 23) dX5_fits_18 (by decide) (z01 z_4) (fun c => ?_) (fun c => ?_)
    · replace h := h.1 c
      refine ww_aload_n dX5_fits_23 0 rfl ?_
      refine ww_iload_n dX5_fits_24 1 rfl ?_
      refine ww_iload_n dX5_fits_25 2 rfl ?_
      refine tc_laysBasedBy h ⟨Nat.le_of_ble_eq_true rfl, Nat.le_of_ble_eq_true rfl⟩ ⟨Nat.le_refl _, Nat.le_refl _⟩ (Nat.le_of_ble_eq_true rfl) dX5_fits_26 (fun σ_5 h => ?_)
      refine ww_aload_n dX5_fits_29 0 rfl ?_
      refine tc_isMadeHere h ⟨Nat.le_of_ble_eq_true rfl, Nat.le_of_ble_eq_true rfl⟩ ⟨Nat.le_refl _, Nat.le_refl _⟩ (Nat.le_of_ble_eq_true rfl) dX5_fits_30 (fun y_6 z_7 h => ?_)
      refine ww_if_eq (tgt := 40) dX5_fits_33 (by decide) (z01 z_7) (fun c => ?_) (fun c => ?_)
      · replace h := h.1 c
        refine ww_iconst dX5_fits_40 ?_
        exact ww_iret (0, σ_5) rfl ⟨rfl, h⟩ rfl (Nat.le_refl _) (Nat.le_refl _) dX5_fits_41
      · replace h := h.2 c
        refine ww_iconst dX5_fits_36 ?_
        refine ww_goto (tgt := 41) dX5_fits_37 (by decide) ?_
        exact ww_iret (1, σ_5) rfl ⟨rfl, h⟩ rfl (Nat.le_refl _) (Nat.le_refl _) dX5_fits_41
    · replace h := h.2 c
      refine ww_iconst dX5_fits_21 ?_
      exact ww_iret ((-1), sF σ 0 0) rfl ⟨rfl, h⟩ rfl (Nat.le_refl _) (Nat.le_refl _) dX5_fits_22

/-! first -/
def w_first (σ : TS) (a1 : Int) (P : Int → TS → Prop) : Prop :=
  w_isTable (sF σ 0 0) a1 (fun y_1 =>
    ((¬ y_1 = 0 →
      ∃ I17 : Nat → Int → TS → Prop, (∀ (n17 : Nat) (v2_17 : Int) (σ17 : TS), I17 n17 v2_17 σ17 →
        rI v2_17 ∧
        rI (tA σ17 15 0) ∧
        (((tA σ17 15 0) ≤ v2_17 →
          P (-2) σ17) ∧
        (v2_17 < (tA σ17 15 0) →
          w_laysBasedBy σ17 a1 v2_17 (fun σ_5 =>
            w_isMadeHere σ_5 (fun y_6 =>
              ((y_6 = 0 →
                ∃ m : Nat, m < n17 ∧ I17 m (v2_17 + 1) σ_5) ∧
              (¬ y_6 = 0 →
                P v2_17 σ_5))))))) ∧
      ∃ m : Nat, I17 m 0 (sF σ 0 0)) ∧
    (y_1 = 0 →
      P (-1) (sF σ 0 0))))
set_option maxHeartbeats 4000000 in
theorem t_first {G : g_G} {l : Launch} {q : Nat → Nat} {σ : TS} {a1 : Int} {P : Int → TS → Prop} (h : w_first σ a1 P) : CT G l yX5_first cX5_first 3 (Option.some Jvm.ClassFile.FieldType.int) 4 0 0 [.ref (q 100), vI a1] [tw G q σ] (tR1 (P)) (fun u => [tw G q u.2]) := by
  unfold w_first at h
  refine ww_of (by decide) (Nat.le_of_ble_eq_true rfl) (fun fr => ?_)
  show WW G l cX5_first RX5 3 (Option.some Jvm.ClassFile.FieldType.int) "first" 4 0 0 (tR1 (P)) (tS G q fr) 0 0 [tw G q σ, fr] 0 [(0, .ref (q 100)), (1, vI a1)] []
  refine ww_aload_n dX5_first_0 0 rfl ?_
  refine ww_iconst dX5_first_1 ?_
  refine tp_0 dX5_first_2 ?_
  refine ww_aload_n dX5_first_5 0 rfl ?_
  refine ww_iload_n dX5_first_6 1 rfl ?_
  refine tc_isTable h ⟨Nat.le_of_ble_eq_true rfl, Nat.le_of_ble_eq_true rfl⟩ ⟨Nat.le_refl _, Nat.le_refl _⟩ (Nat.le_of_ble_eq_true rfl) dX5_first_7 (fun y_1 z_2 h => ?_)
  refine ww_if_ne (tgt := 15) dX5_first_10 (by decide) (z01 z_2) (fun c => ?_) (fun c => ?_)
  · replace h := h.1 c
    refine ww_iconst dX5_first_15 ?_
    refine ww_istore_n dX5_first_16 rfl (Nat.le_of_ble_eq_true rfl) rfl ?_
    obtain ⟨I17, hI17, h⟩ := h
    have kI17 : ∀ (n17 : Nat), ∀ (v2_17 : Int), ∀ (σ17 : TS), I17 n17 v2_17 σ17 → WW G l cX5_first RX5 3 (Option.some Jvm.ClassFile.FieldType.int) "first" 4 0 0 (tR1 (P)) (tS G q fr) 0 0 [tw G q σ17, fr] 17 [(0, .ref (q 100)), (1, vI a1), (2, vI v2_17)] [] := by
      intro n17
      induction n17 using Nat.strongRecOn with
      | ind n17 ih17 =>
        intro v2_17 σ17 hj
        have h := hI17 n17 v2_17 σ17 hj
        refine ww_iload_n dX5_first_17 2 rfl ?_
        refine ww_aload_n dX5_first_18 0 rfl ?_
        refine tg_15 dX5_first_19 ?_
        refine ww_iconst dX5_first_22 ?_
        refine ta_15 ⟨by decide, by decide⟩ dX5_first_23 ?_
        obtain ⟨r_3, r_4, h⟩ := h
        refine ww_icmp_ge (tgt := 48) dX5_first_24 (by decide) r_3 r_4 (fun c => ?_) (fun c => ?_)
        · replace h := h.1 c
          refine ww_bipush (v := (-2)) dX5_first_48 rfl ?_
          exact ww_iret ((-2), σ17) rfl ⟨rfl, h⟩ rfl (Nat.le_refl _) (Nat.le_refl _) dX5_first_50
        · replace h := h.2 (Int.not_le.mp c)
          refine ww_aload_n dX5_first_27 0 rfl ?_
          refine ww_iload_n dX5_first_28 1 rfl ?_
          refine ww_iload_n dX5_first_29 2 rfl ?_
          refine tc_laysBasedBy h ⟨Nat.le_of_ble_eq_true rfl, Nat.le_of_ble_eq_true rfl⟩ ⟨Nat.le_refl _, Nat.le_refl _⟩ (Nat.le_of_ble_eq_true rfl) dX5_first_30 (fun σ_5 h => ?_)
          refine ww_aload_n dX5_first_33 0 rfl ?_
          refine tc_isMadeHere h ⟨Nat.le_of_ble_eq_true rfl, Nat.le_of_ble_eq_true rfl⟩ ⟨Nat.le_refl _, Nat.le_refl _⟩ (Nat.le_of_ble_eq_true rfl) dX5_first_34 (fun y_6 z_7 h => ?_)
          refine ww_if_eq (tgt := 42) dX5_first_37 (by decide) (z01 z_7) (fun c => ?_) (fun c => ?_)
          · replace h := h.1 c
            refine ww_iinc dX5_first_42 2 rfl (Nat.le_of_ble_eq_true rfl) rfl ?_
            refine ww_goto (tgt := 17) dX5_first_45 (by decide) ?_
            refine ww_lv [1, 2, 0] rfl ?_
            obtain ⟨m, hm, h⟩ := h
            exact ih17 m hm _ _ h
          · replace h := h.2 c
            refine ww_iload_n dX5_first_40 2 rfl ?_
            exact ww_iret (v2_17, σ_5) rfl ⟨rfl, h⟩ rfl (Nat.le_refl _) (Nat.le_refl _) dX5_first_41
    refine ww_lv [1, 2, 0] rfl ?_
    obtain ⟨m, h⟩ := h
    exact kI17 m _ _ h
  · replace h := h.2 c
    refine ww_iconst dX5_first_13 ?_
    exact ww_iret ((-1), sF σ 0 0) rfl ⟨rfl, h⟩ rfl (Nat.le_refl _) (Nat.le_refl _) dX5_first_14

/-! seek -/
def w_seek (σ : TS) (a1 : Int) (P : Int → TS → Prop) : Prop :=
  w_isTable (sF σ 0 0) a1 (fun y_1 =>
    ((¬ y_1 = 0 →
      ∃ I17 : Nat → Int → TS → Prop, (∀ (n17 : Nat) (v2_17 : Int) (σ17 : TS), I17 n17 v2_17 σ17 →
        w_p σ17 (fun y_3 =>
          rI v2_17 ∧
          rI y_3 ∧
          ((y_3 ≤ v2_17 →
            P (-2) σ17) ∧
          (v2_17 < y_3 →
            ∃ I27 : Nat → Int → TS → Prop, (∀ (n27 : Nat) (v3_27 : Int) (σ27 : TS), I27 n27 v3_27 σ27 →
              w_p σ27 (fun y_6 =>
                rI v3_27 ∧
                rI y_6 ∧
                ((y_6 ≤ v3_27 →
                  ∃ m : Nat, m < n17 ∧ I17 m (v2_17 + 1) σ27) ∧
                (v3_27 < y_6 →
                  rI v2_17 ∧
                  rI v3_27 ∧
                  ∃ J68 : TS → Prop, (∀ (σ68 : TS), J68 σ68 →
                    ∃ m : Nat, m < n27 ∧ I27 m (v3_27 + 1) σ68) ∧
                  ((¬ v2_17 = v3_27 →
                    w_laysBased σ27 a1 1 1 v2_17 v3_27 (fun σ_11 =>
                      w_isMadeHere σ_11 (fun y_12 =>
                        ((y_12 = 0 →
                          J68 σ_11) ∧
                        (¬ y_12 = 0 →
                          w_p σ_11 (fun y_14 =>
                            P ((y_14 * v2_17) + v3_27) σ_11)))))) ∧
                  (v2_17 = v3_27 →
                    J68 σ27)))))) ∧
            ∃ m : Nat, I27 m 0 σ17)))) ∧
      ∃ m : Nat, I17 m 0 (sF σ 0 0)) ∧
    (y_1 = 0 →
      P (-1) (sF σ 0 0))))
set_option maxHeartbeats 4000000 in
theorem t_seek {G : g_G} {l : Launch} {q : Nat → Nat} {σ : TS} {a1 : Int} {P : Int → TS → Prop} (h : w_seek σ a1 P) : CT G l yX5_seek cX5_seek 4 (Option.some Jvm.ClassFile.FieldType.int) 3 0 0 [.ref (q 100), vI a1] [tw G q σ] (tR1 (P)) (fun u => [tw G q u.2]) := by
  unfold w_seek at h
  refine ww_of (by decide) (Nat.le_of_ble_eq_true rfl) (fun fr => ?_)
  show WW G l cX5_seek RX5 4 (Option.some Jvm.ClassFile.FieldType.int) "seek" 3 0 0 (tR1 (P)) (tS G q fr) 0 0 [tw G q σ, fr] 0 [(0, .ref (q 100)), (1, vI a1)] []
  refine ww_aload_n dX5_seek_0 0 rfl ?_
  refine ww_iconst dX5_seek_1 ?_
  refine tp_0 dX5_seek_2 ?_
  refine ww_aload_n dX5_seek_5 0 rfl ?_
  refine ww_iload_n dX5_seek_6 1 rfl ?_
  refine tc_isTable h ⟨Nat.le_of_ble_eq_true rfl, Nat.le_of_ble_eq_true rfl⟩ ⟨Nat.le_refl _, Nat.le_refl _⟩ (Nat.le_of_ble_eq_true rfl) dX5_seek_7 (fun y_1 z_2 h => ?_)
  refine ww_if_ne (tgt := 15) dX5_seek_10 (by decide) (z01 z_2) (fun c => ?_) (fun c => ?_)
  · replace h := h.1 c
    refine ww_iconst dX5_seek_15 ?_
    refine ww_istore_n dX5_seek_16 rfl (Nat.le_of_ble_eq_true rfl) rfl ?_
    obtain ⟨I17, hI17, h⟩ := h
    have kI17 : ∀ (n17 : Nat), ∀ (v2_17 : Int), ∀ (σ17 : TS), I17 n17 v2_17 σ17 → WW G l cX5_seek RX5 4 (Option.some Jvm.ClassFile.FieldType.int) "seek" 3 0 0 (tR1 (P)) (tS G q fr) 0 0 [tw G q σ17, fr] 17 [(0, .ref (q 100)), (1, vI a1), (2, vI v2_17)] [] := by
      intro n17
      induction n17 using Nat.strongRecOn with
      | ind n17 ih17 =>
        intro v2_17 σ17 hj
        have h := hI17 n17 v2_17 σ17 hj
        refine ww_iload_n dX5_seek_17 2 rfl ?_
        refine ww_aload_n dX5_seek_18 0 rfl ?_
        refine tc_p h ⟨Nat.le_of_ble_eq_true rfl, Nat.le_of_ble_eq_true rfl⟩ ⟨Nat.le_refl _, Nat.le_refl _⟩ (Nat.le_of_ble_eq_true rfl) dX5_seek_19 (fun y_3 h => ?_)
        obtain ⟨r_4, r_5, h⟩ := h
        refine ww_icmp_ge (tgt := 80) dX5_seek_22 (by decide) r_4 r_5 (fun c => ?_) (fun c => ?_)
        · replace h := h.1 c
          refine ww_bipush (v := (-2)) dX5_seek_80 rfl ?_
          exact ww_iret ((-2), σ17) rfl ⟨rfl, h⟩ rfl (Nat.le_refl _) (Nat.le_refl _) dX5_seek_82
        · replace h := h.2 (Int.not_le.mp c)
          refine ww_iconst dX5_seek_25 ?_
          refine ww_istore_n dX5_seek_26 rfl (Nat.le_of_ble_eq_true rfl) rfl ?_
          obtain ⟨I27, hI27, h⟩ := h
          have kI27 : ∀ (n27 : Nat), ∀ (v3_27 : Int), ∀ (σ27 : TS), I27 n27 v3_27 σ27 → WW G l cX5_seek RX5 4 (Option.some Jvm.ClassFile.FieldType.int) "seek" 3 0 0 (tR1 (P)) (tS G q fr) 0 0 [tw G q σ27, fr] 27 [(0, .ref (q 100)), (1, vI a1), (2, vI v2_17), (3, vI v3_27)] [] := by
            intro n27
            induction n27 using Nat.strongRecOn with
            | ind n27 ih27 =>
              intro v3_27 σ27 hj
              have h := hI27 n27 v3_27 σ27 hj
              refine ww_iload_n dX5_seek_27 3 rfl ?_
              refine ww_aload_n dX5_seek_28 0 rfl ?_
              refine tc_p h ⟨Nat.le_of_ble_eq_true rfl, Nat.le_of_ble_eq_true rfl⟩ ⟨Nat.le_refl _, Nat.le_refl _⟩ (Nat.le_of_ble_eq_true rfl) dX5_seek_29 (fun y_6 h => ?_)
              obtain ⟨r_7, r_8, h⟩ := h
              refine ww_icmp_ge (tgt := 74) dX5_seek_32 (by decide) r_7 r_8 (fun c => ?_) (fun c => ?_)
              · replace h := h.1 c
                refine ww_iinc dX5_seek_74 2 rfl (Nat.le_of_ble_eq_true rfl) rfl ?_
                refine ww_goto (tgt := 17) dX5_seek_77 (by decide) ?_
                refine ww_lv [1, 2, 0] rfl ?_
                obtain ⟨m, hm, h⟩ := h
                exact ih17 m hm _ _ h
              · replace h := h.2 (Int.not_le.mp c)
                refine ww_iload_n dX5_seek_35 2 rfl ?_
                refine ww_iload_n dX5_seek_36 3 rfl ?_
                obtain ⟨r_9, r_10, h⟩ := h
                obtain ⟨J68, hJ68, h⟩ := h
                have kJ68 : ∀ (σ68 : TS), J68 σ68 → WW G l cX5_seek RX5 4 (Option.some Jvm.ClassFile.FieldType.int) "seek" 3 0 0 (tR1 (P)) (tS G q fr) 0 0 [tw G q σ68, fr] 68 [(0, .ref (q 100)), (1, vI a1), (2, vI v2_17), (3, vI v3_27)] [] := by
                  intro σ68 hj
                  have h := hJ68 σ68 hj
                  refine ww_iinc dX5_seek_68 3 rfl (Nat.le_of_ble_eq_true rfl) rfl ?_
                  refine ww_goto (tgt := 27) dX5_seek_71 (by decide) ?_
                  refine ww_lv [1, 2, 3, 0] rfl ?_
                  obtain ⟨m, hm, h⟩ := h
                  exact ih27 m hm _ _ h
                refine ww_icmp_ne (tgt := 43) dX5_seek_37 (by decide) r_9 r_10 (fun c => ?_) (fun c => ?_)
                · replace h := h.1 c
                  refine ww_aload_n dX5_seek_43 0 rfl ?_
                  refine ww_iload_n dX5_seek_44 1 rfl ?_
                  refine ww_iconst dX5_seek_45 ?_
                  refine ww_iconst dX5_seek_46 ?_
                  refine ww_iload_n dX5_seek_47 2 rfl ?_
                  refine ww_iload_n dX5_seek_48 3 rfl ?_
                  refine tc_laysBased h ⟨Nat.le_of_ble_eq_true rfl, Nat.le_of_ble_eq_true rfl⟩ ⟨Nat.le_refl _, Nat.le_refl _⟩ (Nat.le_of_ble_eq_true rfl) dX5_seek_49 (fun σ_11 h => ?_)
                  refine ww_aload_n dX5_seek_52 0 rfl ?_
                  refine tc_isMadeHere h ⟨Nat.le_of_ble_eq_true rfl, Nat.le_of_ble_eq_true rfl⟩ ⟨Nat.le_refl _, Nat.le_refl _⟩ (Nat.le_of_ble_eq_true rfl) dX5_seek_53 (fun y_12 z_13 h => ?_)
                  refine ww_if_eq (tgt := 68) dX5_seek_56 (by decide) (z01 z_13) (fun c => ?_) (fun c => ?_)
                  · replace h := h.1 c
                    exact kJ68 _ h
                  · replace h := h.2 c
                    refine ww_aload_n dX5_seek_59 0 rfl ?_
                    refine tc_p h ⟨Nat.le_of_ble_eq_true rfl, Nat.le_of_ble_eq_true rfl⟩ ⟨Nat.le_refl _, Nat.le_refl _⟩ (Nat.le_of_ble_eq_true rfl) dX5_seek_60 (fun y_14 h => ?_)
                    refine ww_iload_n dX5_seek_63 2 rfl ?_
                    refine ww_imul dX5_seek_64 ?_
                    refine ww_iload_n dX5_seek_65 3 rfl ?_
                    refine ww_iadd dX5_seek_66 ?_
                    exact ww_iret ((y_14 * v2_17) + v3_27, σ_11) rfl ⟨rfl, h⟩ rfl (Nat.le_refl _) (Nat.le_refl _) dX5_seek_67
                · replace h := h.2 c
                  refine ww_goto (tgt := 68) dX5_seek_40 (by decide) ?_
                  exact kJ68 _ h
          refine ww_lv [1, 2, 3, 0] rfl ?_
          obtain ⟨m, h⟩ := h
          exact kI27 m _ _ h
    refine ww_lv [1, 2, 0] rfl ?_
    obtain ⟨m, h⟩ := h
    exact kI17 m _ _ h
  · replace h := h.2 c
    refine ww_iconst dX5_seek_13 ?_
    exact ww_iret ((-1), sF σ 0 0) rfl ⟨rfl, h⟩ rfl (Nat.le_refl _) (Nat.le_refl _) dX5_seek_14

/-! isNode -/
def w_isNode (σ : TS) (a1 : Int) (P : Int → Prop) : Prop :=
  rI a1 ∧
  rI ((tA σ 16 0) - 1) ∧
  w_within a1 0 ((tA σ 16 0) - 1) (fun y_3 =>
    P y_3)
set_option maxHeartbeats 4000000 in
theorem t_isNode {G : g_G} {l : Launch} {q : Nat → Nat} {σ : TS} {a1 : Int} {P : Int → Prop} (h : w_isNode σ a1 P) : CT G l yX5_isNode cX5_isNode 2 (Option.some Jvm.ClassFile.FieldType.boolean) 1 0 0 [.ref (q 100), vI a1] [tw G q σ] (tR2 (fun r s => s = σ ∧ P r)) (fun u => [tw G q u.2]) := by
  unfold w_isNode at h
  refine ww_of (by decide) (Nat.le_of_ble_eq_true rfl) (fun fr => ?_)
  show WW G l cX5_isNode RX5 2 (Option.some Jvm.ClassFile.FieldType.boolean) "isNode" 1 0 0 (tR2 (fun r s => s = σ ∧ P r)) (tS G q fr) 0 0 [tw G q σ, fr] 0 [(0, .ref (q 100)), (1, vI a1)] []
  refine ww_iload_n dX5_isNode_0 1 rfl ?_
  obtain ⟨r_1, h⟩ := h
  refine ww_i2l dX5_isNode_1 r_1 ?_
  refine ww_lconst (v := 0) dX5_isNode_2 rfl ?_
  refine ww_aload_n dX5_isNode_3 0 rfl ?_
  refine tg_16 dX5_isNode_4 ?_
  refine ww_iconst dX5_isNode_7 ?_
  refine ta_16 ⟨by decide, by decide⟩ dX5_isNode_8 ?_
  refine ww_iconst dX5_isNode_9 ?_
  refine ww_isub dX5_isNode_10 ?_
  obtain ⟨r_2, h⟩ := h
  refine ww_i2l dX5_isNode_11 r_2 ?_
  refine tc_within h ⟨Nat.le_of_ble_eq_true rfl, Nat.le_of_ble_eq_true rfl⟩ ⟨Nat.le_refl _, Nat.le_refl _⟩ (Nat.le_of_ble_eq_true rfl) dX5_isNode_12 (fun y_3 z_4 h => ?_)
  exact ww_zret (y_3, σ) rfl z_4 ⟨rfl, z_4, ⟨rfl, h⟩⟩ rfl (Nat.le_refl _) (Nat.le_refl _) dX5_isNode_15
theorem tc_isNode {S : Type} {G : g_G} {l : Launch} {cc : ByteArray} {nL : Nat} {ret : Option FieldType} {mn : String} {d mc ms : Nat} {R : Option Value → S → Prop} {sh : S → List va_W} {cells slots pc : Nat} {lv : List (Nat × Value)} {st : List Value} {q : Nat → Nat} {fr : va_W} {σ : TS} {a1 : Int} {P : Int → Prop} (h : w_isNode σ a1 P) (hR : 1 + 1 ≤ d ∧ 16 + (2 + 11) + 100 * 1 ≤ 100 * d) (hc : cells ≤ mc ∧ slots ≤ ms) (hst : (st.map fun v => v.category).sum ≤ 16) (hdg : decode cc pc = .ok (.invokevirtual 316, 3)) (k : ∀ r, (r = 0 ∨ r = 1) → P r → WW G l cc RX5 nL ret mn d mc ms R sh cells slots [tw G q σ, fr] (pc + 3) lv (vI r :: st)) : WW G l cc RX5 nL ret mn d mc ms R sh cells slots [tw G q σ, fr] pc lv (vI a1 :: .ref (q 100) :: st) := by
  refine tw_call2 (n := 1) (t_isNode (q := q) h) (lw_V q2526 q2528 qs91 q117 q2529) ⟨rfl, by decide, by decide, by decide +kernel⟩ rfl hR hc rfl hst hdg ?_
  rintro r σ2 z ⟨rfl, h2⟩
  exact k r z h2
/-! legsAt -/
def w_legsAt (σ : TS) (a1 : Int) (P : Int → Prop) : Prop :=
  (0 ≤ a1 ∧ a1 < 12) ∧
  (0 ≤ tA σ 23 a1 ∧ tA σ 23 a1 < 16) ∧
  P (tA σ 20 (tA σ 23 a1))
set_option maxHeartbeats 4000000 in
theorem t_legsAt {G : g_G} {l : Launch} {q : Nat → Nat} {σ : TS} {a1 : Int} {P : Int → Prop} (h : w_legsAt σ a1 P) : CT G l yX5_legsAt cX5_legsAt 2 (Option.some Jvm.ClassFile.FieldType.int) 0 0 0 [.ref (q 100), vI a1] [tw G q σ] (tR1 (fun r s => s = σ ∧ P r)) (fun u => [tw G q u.2]) := by
  unfold w_legsAt at h
  refine ww_of (by decide) (Nat.le_of_ble_eq_true rfl) (fun fr => ?_)
  show WW G l cX5_legsAt RX5 2 (Option.some Jvm.ClassFile.FieldType.int) "legsAt" 0 0 0 (tR1 (fun r s => s = σ ∧ P r)) (tS G q fr) 0 0 [tw G q σ, fr] 0 [(0, .ref (q 100)), (1, vI a1)] []
  refine ww_aload_n dX5_legsAt_0 0 rfl ?_
  refine tg_20 dX5_legsAt_1 ?_
  refine ww_aload_n dX5_legsAt_4 0 rfl ?_
  refine tg_23 dX5_legsAt_5 ?_
  refine ww_iload_n dX5_legsAt_8 1 rfl ?_
  obtain ⟨r_1, h⟩ := h
  refine ta_23 r_1 dX5_legsAt_9 ?_
  obtain ⟨r_2, h⟩ := h
  refine ta_20 r_2 dX5_legsAt_10 ?_
  exact ww_iret (tA σ 20 (tA σ 23 a1), σ) rfl ⟨rfl, ⟨rfl, h⟩⟩ rfl (Nat.le_refl _) (Nat.le_refl _) dX5_legsAt_11
theorem tc_legsAt {S : Type} {G : g_G} {l : Launch} {cc : ByteArray} {nL : Nat} {ret : Option FieldType} {mn : String} {d mc ms : Nat} {R : Option Value → S → Prop} {sh : S → List va_W} {cells slots pc : Nat} {lv : List (Nat × Value)} {st : List Value} {q : Nat → Nat} {fr : va_W} {σ : TS} {a1 : Int} {P : Int → Prop} (h : w_legsAt σ a1 P) (hR : 0 + 1 ≤ d ∧ 16 + (2 + 11) + 100 * 0 ≤ 100 * d) (hc : cells ≤ mc ∧ slots ≤ ms) (hst : (st.map fun v => v.category).sum ≤ 16) (hdg : decode cc pc = .ok (.invokevirtual 319, 3)) (k : ∀ r, P r → WW G l cc RX5 nL ret mn d mc ms R sh cells slots [tw G q σ, fr] (pc + 3) lv (vI r :: st)) : WW G l cc RX5 nL ret mn d mc ms R sh cells slots [tw G q σ, fr] pc lv (vI a1 :: .ref (q 100) :: st) := by
  refine tw_call1 (n := 1) (t_legsAt (q := q) h) (lw_V q2530 q2532 qs92 q117 q2533) ⟨rfl, by decide, by decide, by decide +kernel⟩ rfl hR hc rfl hst hdg ?_
  rintro r σ2 ⟨rfl, h2⟩
  exact k r h2
/-! node -/
def w_node (σ : TS) (a1 : Int) (a2 : Int) (P : Int → TS → Prop) : Prop :=
  w_isNode (sF σ 0 0) a1 (fun y_1 =>
    ((¬ y_1 = 0 →
      rI a2 ∧
      ((¬ a2 = (-1) →
        rI a2 ∧
        w_legsAt (sF σ 0 0) a1 (fun y_5 =>
          rI ((bL 1 y_5) - 1) ∧
          w_within a2 0 ((bL 1 y_5) - 1) (fun y_7 =>
            ((y_7 = 0 →
              P (-2) (sF σ 0 0)) ∧
            (¬ y_7 = 0 →
              (0 ≤ (16 * a1) + a2 ∧ (16 * a1) + a2 < 117) ∧
              P (tA σ 30 ((16 * a1) + a2)) (sF σ 0 0)))))) ∧
      (a2 = (-1) →
        w_legsAt (sF σ 0 0) a1 (fun y_10 =>
          P y_10 (sF σ 0 0))))) ∧
    (y_1 = 0 →
      P (-2) (sF σ 0 0))))
set_option maxHeartbeats 4000000 in
theorem t_node {G : g_G} {l : Launch} {q : Nat → Nat} {σ : TS} {a1 : Int} {a2 : Int} {P : Int → TS → Prop} (h : w_node σ a1 a2 P) : CT G l yX5_node cX5_node 3 (Option.some Jvm.ClassFile.FieldType.int) 2 0 0 [.ref (q 100), vI a1, vI a2] [tw G q σ] (tR1 (P)) (fun u => [tw G q u.2]) := by
  unfold w_node at h
  refine ww_of (by decide) (Nat.le_of_ble_eq_true rfl) (fun fr => ?_)
  show WW G l cX5_node RX5 3 (Option.some Jvm.ClassFile.FieldType.int) "node" 2 0 0 (tR1 (P)) (tS G q fr) 0 0 [tw G q σ, fr] 0 [(0, .ref (q 100)), (1, vI a1), (2, vI a2)] []
  refine ww_aload_n dX5_node_0 0 rfl ?_
  refine ww_iconst dX5_node_1 ?_
  refine tp_0 dX5_node_2 ?_
  refine ww_aload_n dX5_node_5 0 rfl ?_
  refine ww_iload_n dX5_node_6 1 rfl ?_
  refine tc_isNode h ⟨Nat.le_of_ble_eq_true rfl, Nat.le_of_ble_eq_true rfl⟩ ⟨Nat.le_refl _, Nat.le_refl _⟩ (Nat.le_of_ble_eq_true rfl) dX5_node_7 (fun y_1 z_2 h => ?_)
  refine ww_if_ne (tgt := 16) dX5_node_10 (by decide) (z01 z_2) (fun c => ?_) (fun c => ?_)
  · replace h := h.1 c
    refine ww_iload_n dX5_node_16 2 rfl ?_
    refine ww_iconst dX5_node_17 ?_
    obtain ⟨r_3, h⟩ := h
    refine ww_icmp_ne (tgt := 29) dX5_node_18 (by decide) r_3 (by decide) (fun c => ?_) (fun c => ?_)
    · replace h := h.1 c
      refine ww_iload_n dX5_node_29 2 rfl ?_
      obtain ⟨r_4, h⟩ := h
      refine ww_i2l dX5_node_30 r_4 ?_
      refine ww_lconst (v := 0) dX5_node_31 rfl ?_
      refine ww_iconst dX5_node_32 ?_
      refine ww_aload_n dX5_node_33 0 rfl ?_
      refine ww_iload_n dX5_node_34 1 rfl ?_
      refine tc_legsAt h ⟨Nat.le_of_ble_eq_true rfl, Nat.le_of_ble_eq_true rfl⟩ ⟨Nat.le_refl _, Nat.le_refl _⟩ (Nat.le_of_ble_eq_true rfl) dX5_node_35 (fun y_5 h => ?_)
      refine ww_ishl dX5_node_38 ?_
      refine ww_iconst dX5_node_39 ?_
      refine ww_isub dX5_node_40 ?_
      obtain ⟨r_6, h⟩ := h
      refine ww_i2l dX5_node_41 r_6 ?_
      refine tc_within h ⟨Nat.le_of_ble_eq_true rfl, Nat.le_of_ble_eq_true rfl⟩ ⟨Nat.le_refl _, Nat.le_refl _⟩ (Nat.le_of_ble_eq_true rfl) dX5_node_42 (fun y_7 z_8 h => ?_)
      refine ww_if_eq (tgt := 62) dX5_node_45 (by decide) (z01 z_8) (fun c => ?_) (fun c => ?_)
      · replace h := h.1 c
        refine ww_bipush (v := (-2)) dX5_node_62 rfl ?_
        exact ww_iret ((-2), sF σ 0 0) rfl ⟨rfl, h⟩ rfl (Nat.le_refl _) (Nat.le_refl _) dX5_node_64
      · replace h := h.2 c
        refine ww_aload_n dX5_node_48 0 rfl ?_
        refine tg_30 dX5_node_49 ?_
        refine ww_bipush (v := 16) dX5_node_52 rfl ?_
        refine ww_iload_n dX5_node_54 1 rfl ?_
        refine ww_imul dX5_node_55 ?_
        refine ww_iload_n dX5_node_56 2 rfl ?_
        refine ww_iadd dX5_node_57 ?_
        obtain ⟨r_9, h⟩ := h
        refine ta_30 r_9 dX5_node_58 ?_
        refine ww_goto (tgt := 64) dX5_node_59 (by decide) ?_
        exact ww_iret (tA σ 30 ((16 * a1) + a2), sF σ 0 0) rfl ⟨rfl, h⟩ rfl (Nat.le_refl _) (Nat.le_refl _) dX5_node_64
    · replace h := h.2 c
      refine ww_aload_n dX5_node_21 0 rfl ?_
      refine ww_iload_n dX5_node_22 1 rfl ?_
      refine tc_legsAt h ⟨Nat.le_of_ble_eq_true rfl, Nat.le_of_ble_eq_true rfl⟩ ⟨Nat.le_refl _, Nat.le_refl _⟩ (Nat.le_of_ble_eq_true rfl) dX5_node_23 (fun y_10 h => ?_)
      refine ww_goto (tgt := 64) dX5_node_26 (by decide) ?_
      exact ww_iret (y_10, sF σ 0 0) rfl ⟨rfl, h⟩ rfl (Nat.le_refl _) (Nat.le_refl _) dX5_node_64
  · replace h := h.2 c
    refine ww_bipush (v := (-2)) dX5_node_13 rfl ?_
    exact ww_iret ((-2), sF σ 0 0) rfl ⟨rfl, h⟩ rfl (Nat.le_refl _) (Nat.le_refl _) dX5_node_15

/-! isWire -/
def w_isWire (σ : TS) (a1 : Int) (P : Int → Prop) : Prop :=
  rI a1 ∧
  rI ((tA σ 30 116) - 1) ∧
  w_within a1 0 ((tA σ 30 116) - 1) (fun y_3 =>
    P y_3)
set_option maxHeartbeats 4000000 in
theorem t_isWire {G : g_G} {l : Launch} {q : Nat → Nat} {σ : TS} {a1 : Int} {P : Int → Prop} (h : w_isWire σ a1 P) : CT G l yX5_isWire cX5_isWire 2 (Option.some Jvm.ClassFile.FieldType.boolean) 1 0 0 [.ref (q 100), vI a1] [tw G q σ] (tR2 (fun r s => s = σ ∧ P r)) (fun u => [tw G q u.2]) := by
  unfold w_isWire at h
  refine ww_of (by decide) (Nat.le_of_ble_eq_true rfl) (fun fr => ?_)
  show WW G l cX5_isWire RX5 2 (Option.some Jvm.ClassFile.FieldType.boolean) "isWire" 1 0 0 (tR2 (fun r s => s = σ ∧ P r)) (tS G q fr) 0 0 [tw G q σ, fr] 0 [(0, .ref (q 100)), (1, vI a1)] []
  refine ww_iload_n dX5_isWire_0 1 rfl ?_
  obtain ⟨r_1, h⟩ := h
  refine ww_i2l dX5_isWire_1 r_1 ?_
  refine ww_lconst (v := 0) dX5_isWire_2 rfl ?_
  refine ww_aload_n dX5_isWire_3 0 rfl ?_
  refine tg_30 dX5_isWire_4 ?_
  refine ww_bipush (v := 116) dX5_isWire_7 rfl ?_
  refine ta_30 ⟨by decide, by decide⟩ dX5_isWire_9 ?_
  refine ww_iconst dX5_isWire_10 ?_
  refine ww_isub dX5_isWire_11 ?_
  obtain ⟨r_2, h⟩ := h
  refine ww_i2l dX5_isWire_12 r_2 ?_
  refine tc_within h ⟨Nat.le_of_ble_eq_true rfl, Nat.le_of_ble_eq_true rfl⟩ ⟨Nat.le_refl _, Nat.le_refl _⟩ (Nat.le_of_ble_eq_true rfl) dX5_isWire_13 (fun y_3 z_4 h => ?_)
  exact ww_zret (y_3, σ) rfl z_4 ⟨rfl, z_4, ⟨rfl, h⟩⟩ rfl (Nat.le_refl _) (Nat.le_refl _) dX5_isWire_16
theorem tc_isWire {S : Type} {G : g_G} {l : Launch} {cc : ByteArray} {nL : Nat} {ret : Option FieldType} {mn : String} {d mc ms : Nat} {R : Option Value → S → Prop} {sh : S → List va_W} {cells slots pc : Nat} {lv : List (Nat × Value)} {st : List Value} {q : Nat → Nat} {fr : va_W} {σ : TS} {a1 : Int} {P : Int → Prop} (h : w_isWire σ a1 P) (hR : 1 + 1 ≤ d ∧ 16 + (2 + 11) + 100 * 1 ≤ 100 * d) (hc : cells ≤ mc ∧ slots ≤ ms) (hst : (st.map fun v => v.category).sum ≤ 16) (hdg : decode cc pc = .ok (.invokevirtual 322, 3)) (k : ∀ r, (r = 0 ∨ r = 1) → P r → WW G l cc RX5 nL ret mn d mc ms R sh cells slots [tw G q σ, fr] (pc + 3) lv (vI r :: st)) : WW G l cc RX5 nL ret mn d mc ms R sh cells slots [tw G q σ, fr] pc lv (vI a1 :: .ref (q 100) :: st) := by
  refine tw_call2 (n := 1) (t_isWire (q := q) h) (lw_V q2538 q2540 qs93 q117 q2541) ⟨rfl, by decide, by decide, by decide +kernel⟩ rfl hR hc rfl hst hdg ?_
  rintro r σ2 z ⟨rfl, h2⟩
  exact k r z h2
/-! wire -/
def w_wire (σ : TS) (a1 : Int) (a2 : Int) (P : Int → TS → Prop) : Prop :=
  w_isWire σ a1 (fun y_1 =>
    ∃ J26 : Int → Prop, (∀ (s1_26 : Int), J26 s1_26 →
      rI s1_26 ∧
      ((¬ s1_26 = 1 →
        (0 ≤ a2 ∧ a2 < 2147483648 ∧ (0 : Int) < 2 ∧ (2 : Int) < 2147483648) ∧
        (0 ≤ (96 + (2 * a1)) + (a2 / 2) ∧ (96 + (2 * a1)) + (a2 / 2) < 117) ∧
        ∀ x_6 : Int, x_6 = tA σ 30 ((96 + (2 * a1)) + (a2 / 2)) →
        (0 ≤ a2 ∧ a2 < 2147483648 ∧ (0 : Int) < 2 ∧ (2 : Int) < 2147483648) ∧
        rI (a2 % 2) ∧
        ((¬ (a2 % 2) = 0 →
          (0 ≤ x_6 ∧ x_6 < 2147483648 ∧ (0 : Int) < 4 ∧ (4 : Int) < 2147483648) ∧
          P (x_6 % 4) (sF σ 0 s1_26)) ∧
        ((a2 % 2) = 0 →
          (0 ≤ x_6 ∧ x_6 < 2147483648 ∧ (0 : Int) < 4 ∧ (4 : Int) < 2147483648) ∧
          P (x_6 / 4) (sF σ 0 s1_26)))) ∧
      (s1_26 = 1 →
        P 0 (sF σ 0 s1_26)))) ∧
    ∃ J25 : Prop, (J25 →
      J26 1) ∧
    ((y_1 = 0 →
      J25) ∧
    (¬ y_1 = 0 →
      rI a2 ∧
      w_within a2 0 3 (fun y_12 =>
        ((y_12 = 0 →
          J25) ∧
        (¬ y_12 = 0 →
          J26 0))))))
set_option maxHeartbeats 4000000 in
theorem t_wire {G : g_G} {l : Launch} {q : Nat → Nat} {σ : TS} {a1 : Int} {a2 : Int} {P : Int → TS → Prop} (h : w_wire σ a1 a2 P) : CT G l yX5_wire cX5_wire 4 (Option.some Jvm.ClassFile.FieldType.int) 2 0 0 [.ref (q 100), vI a1, vI a2] [tw G q σ] (tR1 (P)) (fun u => [tw G q u.2]) := by
  unfold w_wire at h
  refine ww_of (by decide) (Nat.le_of_ble_eq_true rfl) (fun fr => ?_)
  show WW G l cX5_wire RX5 4 (Option.some Jvm.ClassFile.FieldType.int) "wire" 2 0 0 (tR1 (P)) (tS G q fr) 0 0 [tw G q σ, fr] 0 [(0, .ref (q 100)), (1, vI a1), (2, vI a2)] []
  refine ww_aload_n dX5_wire_0 0 rfl ?_
  refine ww_aload_n dX5_wire_1 0 rfl ?_
  refine ww_iload_n dX5_wire_2 1 rfl ?_
  refine tc_isWire h ⟨Nat.le_of_ble_eq_true rfl, Nat.le_of_ble_eq_true rfl⟩ ⟨Nat.le_refl _, Nat.le_refl _⟩ (Nat.le_of_ble_eq_true rfl) dX5_wire_3 (fun y_1 z_2 h => ?_)
  obtain ⟨J26, hJ26, h⟩ := h
  have kJ26 : ∀ (s1_26 : Int), J26 s1_26 → WW G l cX5_wire RX5 4 (Option.some Jvm.ClassFile.FieldType.int) "wire" 2 0 0 (tR1 (P)) (tS G q fr) 0 0 [tw G q σ, fr] 26 [(0, .ref (q 100)), (1, vI a1), (2, vI a2)] [vI s1_26, .ref (q 100)] := by
    intro s1_26 hj
    have h := hJ26 s1_26 hj
    refine tp_0 dX5_wire_26 ?_
    refine ww_aload_n dX5_wire_29 0 rfl ?_
    refine tg_0 dX5_wire_30 ?_
    refine ww_iconst dX5_wire_33 ?_
    obtain ⟨r_3, h⟩ := h
    refine ww_icmp_ne (tgt := 39) dX5_wire_34 (by decide) r_3 (by decide) (fun c => ?_) (fun c => ?_)
    · replace h := h.1 c
      refine ww_aload_n dX5_wire_39 0 rfl ?_
      refine tg_30 dX5_wire_40 ?_
      refine ww_bipush (v := 96) dX5_wire_43 rfl ?_
      refine ww_iconst dX5_wire_45 ?_
      refine ww_iload_n dX5_wire_46 1 rfl ?_
      refine ww_imul dX5_wire_47 ?_
      refine ww_iadd dX5_wire_48 ?_
      refine ww_iload_n dX5_wire_49 2 rfl ?_
      refine ww_iconst dX5_wire_50 ?_
      obtain ⟨r_4, h⟩ := h
      refine ww_idiv dX5_wire_51 r_4 ?_
      refine ww_iadd dX5_wire_52 ?_
      obtain ⟨r_5, h⟩ := h
      refine ta_30 r_5 dX5_wire_53 ?_
      refine ww_nmI (fun x_6 ex_6 => ?_)
      replace h := h x_6 ex_6
      refine ww_istore_n dX5_wire_54 rfl (Nat.le_of_ble_eq_true rfl) rfl ?_
      refine ww_iload_n dX5_wire_55 3 rfl ?_
      refine ww_iconst dX5_wire_56 ?_
      obtain ⟨r_7, h⟩ := h
      refine ww_irem dX5_wire_57 r_7 ?_
      obtain ⟨r_8, h⟩ := h
      refine ww_if_ne (tgt := 67) dX5_wire_58 (by decide) r_8 (fun c => ?_) (fun c => ?_)
      · replace h := h.1 c
        refine ww_iload_n dX5_wire_67 0 rfl ?_
        refine ww_iconst dX5_wire_68 ?_
        obtain ⟨r_9, h⟩ := h
        refine ww_irem dX5_wire_69 r_9 ?_
        exact ww_iret (x_6 % 4, sF σ 0 s1_26) rfl ⟨rfl, h⟩ rfl (Nat.le_refl _) (Nat.le_refl _) dX5_wire_70
      · replace h := h.2 c
        refine ww_iload_n dX5_wire_61 0 rfl ?_
        refine ww_iconst dX5_wire_62 ?_
        obtain ⟨r_10, h⟩ := h
        refine ww_idiv dX5_wire_63 r_10 ?_
        refine ww_goto (tgt := 70) dX5_wire_64 (by decide) ?_
        exact ww_iret (x_6 / 4, sF σ 0 s1_26) rfl ⟨rfl, h⟩ rfl (Nat.le_refl _) (Nat.le_refl _) dX5_wire_70
    · replace h := h.2 c
      refine ww_iconst dX5_wire_37 ?_
      exact ww_iret (0, sF σ 0 s1_26) rfl ⟨rfl, h⟩ rfl (Nat.le_refl _) (Nat.le_refl _) dX5_wire_38
  obtain ⟨J25, hJ25, h⟩ := h
  have kJ25 : J25 → WW G l cX5_wire RX5 4 (Option.some Jvm.ClassFile.FieldType.int) "wire" 2 0 0 (tR1 (P)) (tS G q fr) 0 0 [tw G q σ, fr] 25 [(0, .ref (q 100)), (1, vI a1), (2, vI a2)] [.ref (q 100)] := by
    intro hj
    have h := hJ25 hj
    refine ww_iconst dX5_wire_25 ?_
    exact kJ26 _ h
  refine ww_if_eq (tgt := 25) dX5_wire_6 (by decide) (z01 z_2) (fun c => ?_) (fun c => ?_)
  · replace h := h.1 c
    exact kJ25 h
  · replace h := h.2 c
    refine ww_iload_n dX5_wire_9 2 rfl ?_
    obtain ⟨r_11, h⟩ := h
    refine ww_i2l dX5_wire_10 r_11 ?_
    refine ww_lconst (v := 0) dX5_wire_11 rfl ?_
    refine ww_ldc2 (x := 3) dX5_wire_12 q2339 rfl ?_
    refine tc_within h ⟨Nat.le_of_ble_eq_true rfl, Nat.le_of_ble_eq_true rfl⟩ ⟨Nat.le_refl _, Nat.le_refl _⟩ (Nat.le_of_ble_eq_true rfl) dX5_wire_15 (fun y_12 z_13 h => ?_)
    refine ww_if_eq (tgt := 25) dX5_wire_18 (by decide) (z01 z_13) (fun c => ?_) (fun c => ?_)
    · replace h := h.1 c
      exact kJ25 h
    · replace h := h.2 c
      refine ww_iconst dX5_wire_21 ?_
      refine ww_goto (tgt := 26) dX5_wire_22 (by decide) ?_
      exact kJ26 _ h

/-! wireAt -/
def w_wireAt (σ : TS) (a1 : Int) (P : Int → Prop) : Prop :=
  ∃ I2 : Nat → Int → Prop, (∀ (n2 : Nat) (v2_2 : Int), I2 n2 v2_2 →
    rI v2_2 ∧
    rI (2 * (tA σ 30 116)) ∧
    (((2 * (tA σ 30 116)) ≤ v2_2 →
      P (-1)) ∧
    (v2_2 < (2 * (tA σ 30 116)) →
      (0 ≤ 96 + v2_2 ∧ 96 + v2_2 < 117) ∧
      rI (tA σ 30 (96 + v2_2)) ∧
      rI a1 ∧
      ((¬ (tA σ 30 (96 + v2_2)) = a1 →
        ∃ m : Nat, m < n2 ∧ I2 m (v2_2 + 1)) ∧
      ((tA σ 30 (96 + v2_2)) = a1 →
        (0 ≤ v2_2 ∧ v2_2 < 2147483648 ∧ (0 : Int) < 2 ∧ (2 : Int) < 2147483648) ∧
        P (v2_2 / 2)))))) ∧
  ∃ m : Nat, I2 m 0
set_option maxHeartbeats 4000000 in
theorem t_wireAt {G : g_G} {l : Launch} {q : Nat → Nat} {σ : TS} {a1 : Int} {P : Int → Prop} (h : w_wireAt σ a1 P) : CT G l yX5_wireAt cX5_wireAt 3 (Option.some Jvm.ClassFile.FieldType.int) 0 0 0 [.ref (q 100), vI a1] [tw G q σ] (tR1 (fun r s => s = σ ∧ P r)) (fun u => [tw G q u.2]) := by
  unfold w_wireAt at h
  refine ww_of (by decide) (Nat.le_of_ble_eq_true rfl) (fun fr => ?_)
  show WW G l cX5_wireAt RX5 3 (Option.some Jvm.ClassFile.FieldType.int) "wireAt" 0 0 0 (tR1 (fun r s => s = σ ∧ P r)) (tS G q fr) 0 0 [tw G q σ, fr] 0 [(0, .ref (q 100)), (1, vI a1)] []
  refine ww_iconst dX5_wireAt_0 ?_
  refine ww_istore_n dX5_wireAt_1 rfl (Nat.le_of_ble_eq_true rfl) rfl ?_
  obtain ⟨I2, hI2, h⟩ := h
  have kI2 : ∀ (n2 : Nat), ∀ (v2_2 : Int), I2 n2 v2_2 → WW G l cX5_wireAt RX5 3 (Option.some Jvm.ClassFile.FieldType.int) "wireAt" 0 0 0 (tR1 (fun r s => s = σ ∧ P r)) (tS G q fr) 0 0 [tw G q σ, fr] 2 [(0, .ref (q 100)), (1, vI a1), (2, vI v2_2)] [] := by
    intro n2
    induction n2 using Nat.strongRecOn with
    | ind n2 ih2 =>
      intro v2_2 hj
      have h := hI2 n2 v2_2 hj
      refine ww_iload_n dX5_wireAt_2 2 rfl ?_
      refine ww_iconst dX5_wireAt_3 ?_
      refine ww_aload_n dX5_wireAt_4 0 rfl ?_
      refine tg_30 dX5_wireAt_5 ?_
      refine ww_bipush (v := 116) dX5_wireAt_8 rfl ?_
      refine ta_30 ⟨by decide, by decide⟩ dX5_wireAt_10 ?_
      refine ww_imul dX5_wireAt_11 ?_
      obtain ⟨r_1, r_2, h⟩ := h
      refine ww_icmp_ge (tgt := 38) dX5_wireAt_12 (by decide) r_1 r_2 (fun c => ?_) (fun c => ?_)
      · replace h := h.1 c
        refine ww_iconst dX5_wireAt_38 ?_
        exact ww_iret ((-1), σ) rfl ⟨rfl, ⟨rfl, h⟩⟩ rfl (Nat.le_refl _) (Nat.le_refl _) dX5_wireAt_39
      · replace h := h.2 (Int.not_le.mp c)
        refine ww_aload_n dX5_wireAt_15 0 rfl ?_
        refine tg_30 dX5_wireAt_16 ?_
        refine ww_bipush (v := 96) dX5_wireAt_19 rfl ?_
        refine ww_iload_n dX5_wireAt_21 2 rfl ?_
        refine ww_iadd dX5_wireAt_22 ?_
        obtain ⟨r_3, h⟩ := h
        refine ta_30 r_3 dX5_wireAt_23 ?_
        refine ww_iload_n dX5_wireAt_24 1 rfl ?_
        obtain ⟨r_4, r_5, h⟩ := h
        refine ww_icmp_ne (tgt := 32) dX5_wireAt_25 (by decide) r_4 r_5 (fun c => ?_) (fun c => ?_)
        · replace h := h.1 c
          refine ww_iinc dX5_wireAt_32 2 rfl (Nat.le_of_ble_eq_true rfl) rfl ?_
          refine ww_goto (tgt := 2) dX5_wireAt_35 (by decide) ?_
          refine ww_lv [1, 2, 0] rfl ?_
          obtain ⟨m, hm, h⟩ := h
          exact ih2 m hm _ h
        · replace h := h.2 c
          refine ww_iload_n dX5_wireAt_28 2 rfl ?_
          refine ww_iconst dX5_wireAt_29 ?_
          obtain ⟨r_6, h⟩ := h
          refine ww_idiv dX5_wireAt_30 r_6 ?_
          exact ww_iret (v2_2 / 2, σ) rfl ⟨rfl, ⟨rfl, h⟩⟩ rfl (Nat.le_refl _) (Nat.le_refl _) dX5_wireAt_31
  refine ww_lv [1, 2, 0] rfl ?_
  obtain ⟨m, h⟩ := h
  exact kI2 m _ h
theorem tc_wireAt {S : Type} {G : g_G} {l : Launch} {cc : ByteArray} {nL : Nat} {ret : Option FieldType} {mn : String} {d mc ms : Nat} {R : Option Value → S → Prop} {sh : S → List va_W} {cells slots pc : Nat} {lv : List (Nat × Value)} {st : List Value} {q : Nat → Nat} {fr : va_W} {σ : TS} {a1 : Int} {P : Int → Prop} (h : w_wireAt σ a1 P) (hR : 0 + 1 ≤ d ∧ 16 + (3 + 11) + 100 * 0 ≤ 100 * d) (hc : cells ≤ mc ∧ slots ≤ ms) (hst : (st.map fun v => v.category).sum ≤ 16) (hdg : decode cc pc = .ok (.invokevirtual 328, 3)) (k : ∀ r, P r → WW G l cc RX5 nL ret mn d mc ms R sh cells slots [tw G q σ, fr] (pc + 3) lv (vI r :: st)) : WW G l cc RX5 nL ret mn d mc ms R sh cells slots [tw G q σ, fr] pc lv (vI a1 :: .ref (q 100) :: st) := by
  refine tw_call1 (n := 1) (t_wireAt (q := q) h) (lw_V q2550 q2552 qs95 q117 q2553) ⟨rfl, by decide, by decide, by decide +kernel⟩ rfl hR hc rfl hst hdg ?_
  rintro r σ2 ⟨rfl, h2⟩
  exact k r h2
/-! laysOpen -/
def w_laysOpen (σ : TS) (P : TS → Prop) : Prop :=
  ∃ I7 : Nat → Int → TS → Prop, (∀ (n7 : Nat) (v1_7 : Int) (σ7 : TS), I7 n7 v1_7 σ7 →
    rI v1_7 ∧
    rI (tA σ7 16 0) ∧
    (((tA σ7 16 0) ≤ v1_7 →
      P σ7) ∧
    (v1_7 < (tA σ7 16 0) →
      ∃ I19 : Nat → Int → TS → Prop, (∀ (n19 : Nat) (v2_19 : Int) (σ19 : TS), I19 n19 v2_19 σ19 →
        w_legsAt σ19 v1_7 (fun y_3 =>
          rI v2_19 ∧
          rI y_3 ∧
          ((y_3 ≤ v2_19 →
            ∃ m : Nat, m < n7 ∧ I7 m (v1_7 + 1) σ19) ∧
          (v2_19 < y_3 →
            w_wireAt σ19 ((4 * v1_7) + v2_19) (fun y_6 =>
              rI y_6 ∧
              ∃ J67 : TS → Prop, (∀ (σ67 : TS), J67 σ67 →
                ∃ m : Nat, m < n19 ∧ I19 m (v2_19 + 1) σ67) ∧
              ((y_6 < 0 →
                (0 ≤ tF σ19 39 ∧ tF σ19 39 < 24) ∧
                J67 (sF (sA σ19 38 (tF σ19 39) ((4 * v1_7) + v2_19)) 39 ((tF σ19 39) + 1))) ∧
              (0 ≤ y_6 →
                J67 σ19))))))) ∧
      ∃ m : Nat, I19 m 0 σ7))) ∧
  ∃ m : Nat, I7 m 0 (sF σ 39 0)
set_option maxHeartbeats 4000000 in
theorem t_laysOpen {G : g_G} {l : Launch} {q : Nat → Nat} {σ : TS} {P : TS → Prop} (h : w_laysOpen σ P) : CT G l yX5_laysOpen cX5_laysOpen 3 (Option.none : Option Jvm.ClassFile.FieldType) 1 0 0 [.ref (q 100)] [tw G q σ] (tR0 (fun _ s => P s)) (fun u => [tw G q u.2]) := by
  unfold w_laysOpen at h
  refine ww_of (by decide) (Nat.le_of_ble_eq_true rfl) (fun fr => ?_)
  show WW G l cX5_laysOpen RX5 3 (Option.none : Option Jvm.ClassFile.FieldType) "laysOpen" 1 0 0 (tR0 (fun _ s => P s)) (tS G q fr) 0 0 [tw G q σ, fr] 0 [(0, .ref (q 100))] []
  refine ww_aload_n dX5_laysOpen_0 0 rfl ?_
  refine ww_iconst dX5_laysOpen_1 ?_
  refine tp_39 dX5_laysOpen_2 ?_
  refine ww_iconst dX5_laysOpen_5 ?_
  refine ww_istore_n dX5_laysOpen_6 rfl (Nat.le_of_ble_eq_true rfl) rfl ?_
  obtain ⟨I7, hI7, h⟩ := h
  have kI7 : ∀ (n7 : Nat), ∀ (v1_7 : Int), ∀ (σ7 : TS), I7 n7 v1_7 σ7 → WW G l cX5_laysOpen RX5 3 (Option.none : Option Jvm.ClassFile.FieldType) "laysOpen" 1 0 0 (tR0 (fun _ s => P s)) (tS G q fr) 0 0 [tw G q σ7, fr] 7 [(0, .ref (q 100)), (1, vI v1_7)] [] := by
    intro n7
    induction n7 using Nat.strongRecOn with
    | ind n7 ih7 =>
      intro v1_7 σ7 hj
      have h := hI7 n7 v1_7 σ7 hj
      refine ww_iload_n dX5_laysOpen_7 1 rfl ?_
      refine ww_aload_n dX5_laysOpen_8 0 rfl ?_
      refine tg_16 dX5_laysOpen_9 ?_
      refine ww_iconst dX5_laysOpen_12 ?_
      refine ta_16 ⟨by decide, by decide⟩ dX5_laysOpen_13 ?_
      obtain ⟨r_1, r_2, h⟩ := h
      refine ww_icmp_ge (tgt := 79) dX5_laysOpen_14 (by decide) r_1 r_2 (fun c => ?_) (fun c => ?_)
      · replace h := h.1 c
        exact ww_vret (0, σ7) rfl ⟨rfl, h⟩ rfl (Nat.le_refl _) (Nat.le_refl _) dX5_laysOpen_79
      · replace h := h.2 (Int.not_le.mp c)
        refine ww_iconst dX5_laysOpen_17 ?_
        refine ww_istore_n dX5_laysOpen_18 rfl (Nat.le_of_ble_eq_true rfl) rfl ?_
        obtain ⟨I19, hI19, h⟩ := h
        have kI19 : ∀ (n19 : Nat), ∀ (v2_19 : Int), ∀ (σ19 : TS), I19 n19 v2_19 σ19 → WW G l cX5_laysOpen RX5 3 (Option.none : Option Jvm.ClassFile.FieldType) "laysOpen" 1 0 0 (tR0 (fun _ s => P s)) (tS G q fr) 0 0 [tw G q σ19, fr] 19 [(0, .ref (q 100)), (1, vI v1_7), (2, vI v2_19)] [] := by
          intro n19
          induction n19 using Nat.strongRecOn with
          | ind n19 ih19 =>
            intro v2_19 σ19 hj
            have h := hI19 n19 v2_19 σ19 hj
            refine ww_iload_n dX5_laysOpen_19 2 rfl ?_
            refine ww_aload_n dX5_laysOpen_20 0 rfl ?_
            refine ww_iload_n dX5_laysOpen_21 1 rfl ?_
            refine tc_legsAt h ⟨Nat.le_of_ble_eq_true rfl, Nat.le_of_ble_eq_true rfl⟩ ⟨Nat.le_refl _, Nat.le_refl _⟩ (Nat.le_of_ble_eq_true rfl) dX5_laysOpen_22 (fun y_3 h => ?_)
            obtain ⟨r_4, r_5, h⟩ := h
            refine ww_icmp_ge (tgt := 73) dX5_laysOpen_25 (by decide) r_4 r_5 (fun c => ?_) (fun c => ?_)
            · replace h := h.1 c
              refine ww_iinc dX5_laysOpen_73 1 rfl (Nat.le_of_ble_eq_true rfl) rfl ?_
              refine ww_goto (tgt := 7) dX5_laysOpen_76 (by decide) ?_
              refine ww_lv [1, 0] rfl ?_
              obtain ⟨m, hm, h⟩ := h
              exact ih7 m hm _ _ h
            · replace h := h.2 (Int.not_le.mp c)
              refine ww_aload_n dX5_laysOpen_28 0 rfl ?_
              refine ww_iconst dX5_laysOpen_29 ?_
              refine ww_iload_n dX5_laysOpen_30 1 rfl ?_
              refine ww_imul dX5_laysOpen_31 ?_
              refine ww_iload_n dX5_laysOpen_32 2 rfl ?_
              refine ww_iadd dX5_laysOpen_33 ?_
              refine tc_wireAt h ⟨Nat.le_of_ble_eq_true rfl, Nat.le_of_ble_eq_true rfl⟩ ⟨Nat.le_refl _, Nat.le_refl _⟩ (Nat.le_of_ble_eq_true rfl) dX5_laysOpen_34 (fun y_6 h => ?_)
              obtain ⟨r_7, h⟩ := h
              obtain ⟨J67, hJ67, h⟩ := h
              have kJ67 : ∀ (σ67 : TS), J67 σ67 → WW G l cX5_laysOpen RX5 3 (Option.none : Option Jvm.ClassFile.FieldType) "laysOpen" 1 0 0 (tR0 (fun _ s => P s)) (tS G q fr) 0 0 [tw G q σ67, fr] 67 [(0, .ref (q 100)), (1, vI v1_7), (2, vI v2_19)] [] := by
                intro σ67 hj
                have h := hJ67 σ67 hj
                refine ww_iinc dX5_laysOpen_67 2 rfl (Nat.le_of_ble_eq_true rfl) rfl ?_
                refine ww_goto (tgt := 19) dX5_laysOpen_70 (by decide) ?_
                refine ww_lv [1, 2, 0] rfl ?_
                obtain ⟨m, hm, h⟩ := h
                exact ih19 m hm _ _ h
              refine ww_if_lt (tgt := 43) dX5_laysOpen_37 (by decide) r_7 (fun c => ?_) (fun c => ?_)
              · replace h := h.1 c
                refine ww_aload_n dX5_laysOpen_43 0 rfl ?_
                refine tg_38 dX5_laysOpen_44 ?_
                refine ww_aload_n dX5_laysOpen_47 0 rfl ?_
                refine tg_39 dX5_laysOpen_48 ?_
                refine ww_iconst dX5_laysOpen_51 ?_
                refine ww_iload_n dX5_laysOpen_52 1 rfl ?_
                refine ww_imul dX5_laysOpen_53 ?_
                refine ww_iload_n dX5_laysOpen_54 2 rfl ?_
                refine ww_iadd dX5_laysOpen_55 ?_
                obtain ⟨r_8, h⟩ := h
                refine ts_38 r_8 dX5_laysOpen_56 ?_
                refine ww_aload_n dX5_laysOpen_57 0 rfl ?_
                refine ww_dup dX5_laysOpen_58 rfl ?_
                refine tg_39 dX5_laysOpen_59 ?_
                refine ww_iconst dX5_laysOpen_62 ?_
                refine ww_iadd dX5_laysOpen_63 ?_
                refine tp_39 dX5_laysOpen_64 ?_
                exact kJ67 _ h
              · replace h := h.2 (Int.not_lt.mp c)
                refine ww_goto (tgt := 67) dX5_laysOpen_40 (by decide) ?_
                exact kJ67 _ h
        refine ww_lv [1, 2, 0] rfl ?_
        obtain ⟨m, h⟩ := h
        exact kI19 m _ _ h
  refine ww_lv [1, 0] rfl ?_
  obtain ⟨m, h⟩ := h
  exact kI7 m _ _ h
theorem tc_laysOpen {S : Type} {G : g_G} {l : Launch} {cc : ByteArray} {nL : Nat} {ret : Option FieldType} {mn : String} {d mc ms : Nat} {R : Option Value → S → Prop} {sh : S → List va_W} {cells slots pc : Nat} {lv : List (Nat × Value)} {st : List Value} {q : Nat → Nat} {fr : va_W} {σ : TS} {P : TS → Prop} (h : w_laysOpen σ P) (hR : 1 + 1 ≤ d ∧ 16 + (3 + 11) + 100 * 1 ≤ 100 * d) (hc : cells ≤ mc ∧ slots ≤ ms) (hst : (st.map fun v => v.category).sum ≤ 16) (hdg : decode cc pc = .ok (.invokevirtual 331, 3)) (k : ∀ σ2, P σ2 → WW G l cc RX5 nL ret mn d mc ms R sh cells slots [tw G q σ2, fr] (pc + 3) lv (st)) : WW G l cc RX5 nL ret mn d mc ms R sh cells slots [tw G q σ, fr] pc lv (.ref (q 100) :: st) := by
  refine tw_call0 (n := 0) (t_laysOpen (q := q) h) (lw_V q2546 q2548 qs94 q117 q2549) ⟨rfl, by decide, by decide, by decide +kernel⟩ rfl hR hc rfl hst hdg ?_
  exact k
