/-! THE TWIN: weakest preconditions and walks (printed by tools/twin.py) -/
set_option maxRecDepth 100000
/-! isTable -/
def w_isTable (σ : TS) (a1 : Int) (P : Int → Prop) : Prop :=
  rI a1 ∧
  rI ((tA σ 14 0) - 1) ∧
  w_within a1 0 ((tA σ 14 0) - 1) (fun y_3 =>
    P y_3)
set_option maxHeartbeats 4000000 in
theorem t_isTable {G : g_G} {l : Launch} {q : Nat → Nat} {σ : TS} {a1 : Int} {P : Int → Prop} (h : w_isTable σ a1 P) : CT G l yX5_isTable cX5_isTable 2 (Option.some Jvm.ClassFile.FieldType.boolean) 1 0 0 [.ref (q 100), vI a1] [tw G q σ] (tR2 (fun r s => s = σ ∧ P r)) (fun u => [tw G q u.2]) := by
  unfold w_isTable at h
  refine ww_of (by decide) (Nat.le_of_ble_eq_true rfl) (fun fr => ?_)
  show WW G l cX5_isTable RX5 2 (Option.some Jvm.ClassFile.FieldType.boolean) "isTable" 1 0 0 (tR2 (fun r s => s = σ ∧ P r)) (tS G q fr) 0 0 [tw G q σ, fr] 0 [(0, .ref (q 100)), (1, vI a1)] []
  refine ww_iload_n dX5_isTable_0 1 rfl ?_
  obtain ⟨r_1, h⟩ := h
  refine ww_i2l dX5_isTable_1 r_1 ?_
  refine ww_lconst (v := 0) dX5_isTable_2 rfl ?_
  refine ww_aload_n dX5_isTable_3 0 rfl ?_
  refine tg_14 dX5_isTable_4 ?_
  refine ww_iconst dX5_isTable_7 ?_
  refine ta_14 ⟨by decide, by decide⟩ dX5_isTable_8 ?_
  refine ww_iconst dX5_isTable_9 ?_
  refine ww_isub dX5_isTable_10 ?_
  obtain ⟨r_2, h⟩ := h
  refine ww_i2l dX5_isTable_11 r_2 ?_
  refine tc_within h ⟨Nat.le_of_ble_eq_true rfl, Nat.le_of_ble_eq_true rfl⟩ ⟨Nat.le_refl _, Nat.le_refl _⟩ (Nat.le_of_ble_eq_true rfl) dX5_isTable_12 (fun y_3 z_4 h => ?_)
  exact ww_zret (y_3, σ) rfl z_4 ⟨rfl, z_4, ⟨rfl, h⟩⟩ rfl (Nat.le_refl _) (Nat.le_refl _) dX5_isTable_15
theorem tc_isTable {S : Type} {G : g_G} {l : Launch} {cc : ByteArray} {nL : Nat} {ret : Option FieldType} {mn : String} {d mc ms : Nat} {R : Option Value → S → Prop} {sh : S → List va_W} {cells slots pc : Nat} {lv : List (Nat × Value)} {st : List Value} {q : Nat → Nat} {fr : va_W} {σ : TS} {a1 : Int} {P : Int → Prop} (h : w_isTable σ a1 P) (hR : 1 + 1 ≤ d ∧ 16 + (2 + 11) + 100 * 1 ≤ 100 * d) (hc : cells ≤ mc ∧ slots ≤ ms) (hst : (st.map fun v => v.category).sum ≤ 16) (hdg : decode cc pc = .ok (.invokevirtual 260, 3)) (k : ∀ r, (r = 0 ∨ r = 1) → P r → WW G l cc RX5 nL ret mn d mc ms R sh cells slots [tw G q σ, fr] (pc + 3) lv (vI r :: st)) : WW G l cc RX5 nL ret mn d mc ms R sh cells slots [tw G q σ, fr] pc lv (vI a1 :: .ref (q 100) :: st) := by
  refine tw_call2 (n := 1) (t_isTable (q := q) h) (lw_V q2415 q2417 qs77 q117 q2418) ⟨rfl, by decide, by decide, by decide +kernel⟩ rfl hR hc rfl hst hdg ?_
  rintro r σ2 z ⟨rfl, h2⟩
  exact k r z h2
/-! table -/
def w_table (σ : TS) (a1 : Int) (a2 : Int) (P : Int → TS → Prop) : Prop :=
  w_isTable (sF σ 0 0) a1 (fun y_1 =>
    ((¬ y_1 = 0 →
      rI a2 ∧
      ((¬ a2 = (-1) →
        rI a2 ∧
        (0 ≤ a1 ∧ a1 < 16) ∧
        rI ((bL 1 (tA σ 20 a1)) - 1) ∧
        w_within a2 0 ((bL 1 (tA σ 20 a1)) - 1) (fun y_7 =>
          ((y_7 = 0 →
            P (-2) (sF σ 0 0)) ∧
          (¬ y_7 = 0 →
            (0 ≤ (16 * a1) + a2 ∧ (16 * a1) + a2 < 256) ∧
            P (tA σ 21 ((16 * a1) + a2)) (sF σ 0 0))))) ∧
      (a2 = (-1) →
        (0 ≤ a1 ∧ a1 < 16) ∧
        P (tA σ 20 a1) (sF σ 0 0)))) ∧
    (y_1 = 0 →
      P (-2) (sF σ 0 0))))
set_option maxHeartbeats 4000000 in
theorem t_table {G : g_G} {l : Launch} {q : Nat → Nat} {σ : TS} {a1 : Int} {a2 : Int} {P : Int → TS → Prop} (h : w_table σ a1 a2 P) : CT G l yX5_table cX5_table 3 (Option.some Jvm.ClassFile.FieldType.int) 2 0 0 [.ref (q 100), vI a1, vI a2] [tw G q σ] (tR1 (P)) (fun u => [tw G q u.2]) := by
  unfold w_table at h
  refine ww_of (by decide) (Nat.le_of_ble_eq_true rfl) (fun fr => ?_)
  show WW G l cX5_table RX5 3 (Option.some Jvm.ClassFile.FieldType.int) "table" 2 0 0 (tR1 (P)) (tS G q fr) 0 0 [tw G q σ, fr] 0 [(0, .ref (q 100)), (1, vI a1), (2, vI a2)] []
  refine ww_aload_n dX5_table_0 0 rfl ?_
  refine ww_iconst dX5_table_1 ?_
  refine tp_0 dX5_table_2 ?_
  refine ww_aload_n dX5_table_5 0 rfl ?_
  refine ww_iload_n dX5_table_6 1 rfl ?_
  refine tc_isTable h ⟨Nat.le_of_ble_eq_true rfl, Nat.le_of_ble_eq_true rfl⟩ ⟨Nat.le_refl _, Nat.le_refl _⟩ (Nat.le_of_ble_eq_true rfl) dX5_table_7 (fun y_1 z_2 h => ?_)
  refine ww_if_ne (tgt := 16) dX5_table_10 (by decide) (z01 z_2) (fun c => ?_) (fun c => ?_)
  · replace h := h.1 c
    refine ww_iload_n dX5_table_16 2 rfl ?_
    refine ww_iconst dX5_table_17 ?_
    obtain ⟨r_3, h⟩ := h
    refine ww_icmp_ne (tgt := 30) dX5_table_18 (by decide) r_3 (by decide) (fun c => ?_) (fun c => ?_)
    · replace h := h.1 c
      refine ww_iload_n dX5_table_30 2 rfl ?_
      obtain ⟨r_4, h⟩ := h
      refine ww_i2l dX5_table_31 r_4 ?_
      refine ww_lconst (v := 0) dX5_table_32 rfl ?_
      refine ww_iconst dX5_table_33 ?_
      refine ww_aload_n dX5_table_34 0 rfl ?_
      refine tg_20 dX5_table_35 ?_
      refine ww_iload_n dX5_table_38 1 rfl ?_
      obtain ⟨r_5, h⟩ := h
      refine ta_20 r_5 dX5_table_39 ?_
      refine ww_ishl dX5_table_40 ?_
      refine ww_iconst dX5_table_41 ?_
      refine ww_isub dX5_table_42 ?_
      obtain ⟨r_6, h⟩ := h
      refine ww_i2l dX5_table_43 r_6 ?_
      refine tc_within h ⟨Nat.le_of_ble_eq_true rfl, Nat.le_of_ble_eq_true rfl⟩ ⟨Nat.le_refl _, Nat.le_refl _⟩ (Nat.le_of_ble_eq_true rfl) dX5_table_44 (fun y_7 z_8 h => ?_)
      refine ww_if_eq (tgt := 64) dX5_table_47 (by decide) (z01 z_8) (fun c => ?_) (fun c => ?_)
      · replace h := h.1 c
        refine ww_bipush (v := (-2)) dX5_table_64 rfl ?_
        exact ww_iret ((-2), sF σ 0 0) rfl ⟨rfl, h⟩ rfl (Nat.le_refl _) (Nat.le_refl _) dX5_table_66
      · replace h := h.2 c
        refine ww_aload_n dX5_table_50 0 rfl ?_
        refine tg_21 dX5_table_51 ?_
        refine ww_bipush (v := 16) dX5_table_54 rfl ?_
        refine ww_iload_n dX5_table_56 1 rfl ?_
        refine ww_imul dX5_table_57 ?_
        refine ww_iload_n dX5_table_58 2 rfl ?_
        refine ww_iadd dX5_table_59 ?_
        obtain ⟨r_9, h⟩ := h
        refine ta_21 r_9 dX5_table_60 ?_
        refine ww_goto (tgt := 66) dX5_table_61 (by decide) ?_
        exact ww_iret (tA σ 21 ((16 * a1) + a2), sF σ 0 0) rfl ⟨rfl, h⟩ rfl (Nat.le_refl _) (Nat.le_refl _) dX5_table_66
    · replace h := h.2 c
      refine ww_aload_n dX5_table_21 0 rfl ?_
      refine tg_20 dX5_table_22 ?_
      refine ww_iload_n dX5_table_25 1 rfl ?_
      obtain ⟨r_10, h⟩ := h
      refine ta_20 r_10 dX5_table_26 ?_
      refine ww_goto (tgt := 66) dX5_table_27 (by decide) ?_
      exact ww_iret (tA σ 20 a1, sF σ 0 0) rfl ⟨rfl, h⟩ rfl (Nat.le_refl _) (Nat.le_refl _) dX5_table_66
  · replace h := h.2 c
    refine ww_bipush (v := (-2)) dX5_table_13 rfl ?_
    exact ww_iret ((-2), sF σ 0 0) rfl ⟨rfl, h⟩ rfl (Nat.le_refl _) (Nat.le_refl _) dX5_table_15

/-! laysTable -/
def w_laysTable (σ : TS) (a1 : Int) (P : TS → Prop) : Prop :=
  (0 ≤ a1 ∧ a1 < 16) ∧
  ∃ I12 : Nat → Int → TS → Prop, (∀ (n12 : Nat) (v2_12 : Int) (σ12 : TS), I12 n12 v2_12 σ12 →
    rI v2_12 ∧
    (((bL 1 (tF σ12 36)) ≤ v2_12 →
      P σ12) ∧
    (v2_12 < (bL 1 (tF σ12 36)) →
      (0 ≤ (16 * a1) + v2_12 ∧ (16 * a1) + v2_12 < 256) ∧
      (0 ≤ v2_12 ∧ v2_12 < 16) ∧
      ∃ m : Nat, m < n12 ∧ I12 m (v2_12 + 1) (sA σ12 35 v2_12 (tA σ12 21 ((16 * a1) + v2_12)))))) ∧
  ∃ m : Nat, I12 m 0 (sF σ 36 (tA σ 20 a1))
set_option maxHeartbeats 4000000 in
theorem t_laysTable {G : g_G} {l : Launch} {q : Nat → Nat} {σ : TS} {a1 : Int} {P : TS → Prop} (h : w_laysTable σ a1 P) : CT G l yX5_laysTable cX5_laysTable 3 (Option.none : Option Jvm.ClassFile.FieldType) 0 0 0 [.ref (q 100), vI a1] [tw G q σ] (tR0 (fun _ s => P s)) (fun u => [tw G q u.2]) := by
  unfold w_laysTable at h
  refine ww_of (by decide) (Nat.le_of_ble_eq_true rfl) (fun fr => ?_)
  show WW G l cX5_laysTable RX5 3 (Option.none : Option Jvm.ClassFile.FieldType) "laysTable" 0 0 0 (tR0 (fun _ s => P s)) (tS G q fr) 0 0 [tw G q σ, fr] 0 [(0, .ref (q 100)), (1, vI a1)] []
  refine ww_aload_n dX5_laysTable_0 0 rfl ?_
  refine ww_aload_n dX5_laysTable_1 0 rfl ?_
  refine tg_20 dX5_laysTable_2 ?_
  refine ww_iload_n dX5_laysTable_5 1 rfl ?_
  obtain ⟨r_1, h⟩ := h
  refine ta_20 r_1 dX5_laysTable_6 ?_
  refine tp_36 dX5_laysTable_7 ?_
  refine ww_iconst dX5_laysTable_10 ?_
  refine ww_istore_n dX5_laysTable_11 rfl (Nat.le_of_ble_eq_true rfl) rfl ?_
  obtain ⟨I12, hI12, h⟩ := h
  have kI12 : ∀ (n12 : Nat), ∀ (v2_12 : Int), ∀ (σ12 : TS), I12 n12 v2_12 σ12 → WW G l cX5_laysTable RX5 3 (Option.none : Option Jvm.ClassFile.FieldType) "laysTable" 0 0 0 (tR0 (fun _ s => P s)) (tS G q fr) 0 0 [tw G q σ12, fr] 12 [(0, .ref (q 100)), (1, vI a1), (2, vI v2_12)] [] := by
    intro n12
    induction n12 using Nat.strongRecOn with
    | ind n12 ih12 =>
      intro v2_12 σ12 hj
      have h := hI12 n12 v2_12 σ12 hj
      refine ww_iload_n dX5_laysTable_12 2 rfl ?_
      refine ww_iconst dX5_laysTable_13 ?_
      refine ww_aload_n dX5_laysTable_14 0 rfl ?_
      refine tg_36 dX5_laysTable_15 ?_
      refine ww_ishl dX5_laysTable_18 ?_
      obtain ⟨r_2, h⟩ := h
      refine ww_icmp_ge (tgt := 45) dX5_laysTable_19 (by decide) r_2 (rI_bL _ _) (fun c => ?_) (fun c => ?_)
      · replace h := h.1 c
        exact ww_vret (0, σ12) rfl ⟨rfl, h⟩ rfl (Nat.le_refl _) (Nat.le_refl _) dX5_laysTable_45
      · replace h := h.2 (Int.not_le.mp c)
        refine ww_aload_n dX5_laysTable_22 0 rfl ?_
        refine tg_35 dX5_laysTable_23 ?_
        refine ww_iload_n dX5_laysTable_26 2 rfl ?_
        refine ww_aload_n dX5_laysTable_27 0 rfl ?_
        refine tg_21 dX5_laysTable_28 ?_
        refine ww_bipush (v := 16) dX5_laysTable_31 rfl ?_
        refine ww_iload_n dX5_laysTable_33 1 rfl ?_
        refine ww_imul dX5_laysTable_34 ?_
        refine ww_iload_n dX5_laysTable_35 2 rfl ?_
        refine ww_iadd dX5_laysTable_36 ?_
        obtain ⟨r_3, h⟩ := h
        refine ta_21 r_3 dX5_laysTable_37 ?_
        obtain ⟨r_4, h⟩ := h
        refine ts_35 r_4 dX5_laysTable_38 ?_
        refine ww_iinc dX5_laysTable_39 2 rfl (Nat.le_of_ble_eq_true rfl) rfl ?_
        refine ww_goto (tgt := 12) dX5_laysTable_42 (by decide) ?_
        refine ww_lv [1, 2, 0] rfl ?_
        obtain ⟨m, hm, h⟩ := h
        exact ih12 m hm _ _ h
  refine ww_lv [1, 2, 0] rfl ?_
  obtain ⟨m, h⟩ := h
  exact kI12 m _ _ h
theorem tc_laysTable {S : Type} {G : g_G} {l : Launch} {cc : ByteArray} {nL : Nat} {ret : Option FieldType} {mn : String} {d mc ms : Nat} {R : Option Value → S → Prop} {sh : S → List va_W} {cells slots pc : Nat} {lv : List (Nat × Value)} {st : List Value} {q : Nat → Nat} {fr : va_W} {σ : TS} {a1 : Int} {P : TS → Prop} (h : w_laysTable σ a1 P) (hR : 0 + 1 ≤ d ∧ 16 + (3 + 11) + 100 * 0 ≤ 100 * d) (hc : cells ≤ mc ∧ slots ≤ ms) (hst : (st.map fun v => v.category).sum ≤ 16) (hdg : decode cc pc = .ok (.invokevirtual 276, 3)) (k : ∀ σ2, P σ2 → WW G l cc RX5 nL ret mn d mc ms R sh cells slots [tw G q σ2, fr] (pc + 3) lv (st)) : WW G l cc RX5 nL ret mn d mc ms R sh cells slots [tw G q σ, fr] pc lv (vI a1 :: .ref (q 100) :: st) := by
  refine tw_call0 (n := 1) (t_laysTable (q := q) h) (lw_V q2423 q2425 qs78 q117 q2426) ⟨rfl, by decide, by decide, by decide +kernel⟩ rfl hR hc rfl hst hdg ?_
  exact k
/-! bits -/
def w_bits (a1 : Int) (P : Int → Prop) : Prop :=
  ∃ I4 : Nat → Int → Int → Prop, (∀ (n4 : Nat) (v1_4 : Int) (v2_4 : Int), I4 n4 v1_4 v2_4 →
    rI v2_4 ∧
    ((v2_4 = 0 →
      P v1_4) ∧
    (¬ v2_4 = 0 →
      ∀ x_2 : Int, x_2 = bA v2_4 (v2_4 - 1) →
      ∃ m : Nat, m < n4 ∧ I4 m (v1_4 + 1) x_2))) ∧
  ∃ m : Nat, I4 m 0 a1
set_option maxHeartbeats 4000000 in
theorem t_bits {G : g_G} {l : Launch} {a1 : Int} {P : Int → Prop} (h : w_bits a1 P) : CT G l yX5_bits cX5_bits 3 (Option.some Jvm.ClassFile.FieldType.int) 0 0 0 [vI a1] [] (uR1 P) (fun _ => []) := by
  unfold w_bits at h
  refine ww_of (by decide) (Nat.le_of_ble_eq_true rfl) (fun fr => ?_)
  show WW G l cX5_bits RX5 3 (Option.some Jvm.ClassFile.FieldType.int) "bits" 0 0 0 (uR1 P) (fun _ => [fr]) 0 0 [fr] 0 [(0, vI a1)] []
  refine ww_iconst dX5_bits_0 ?_
  refine ww_istore_n dX5_bits_1 rfl (Nat.le_of_ble_eq_true rfl) rfl ?_
  refine ww_iload_n dX5_bits_2 1 rfl ?_
  refine ww_istore_n dX5_bits_3 rfl (Nat.le_of_ble_eq_true rfl) rfl ?_
  obtain ⟨I4, hI4, h⟩ := h
  have kI4 : ∀ (n4 : Nat), ∀ (v1_4 : Int), ∀ (v2_4 : Int), I4 n4 v1_4 v2_4 → WW G l cX5_bits RX5 3 (Option.some Jvm.ClassFile.FieldType.int) "bits" 0 0 0 (uR1 P) (fun _ => [fr]) 0 0 [fr] 4 [(1, vI v1_4), (2, vI v2_4)] [] := by
    intro n4
    induction n4 using Nat.strongRecOn with
    | ind n4 ih4 =>
      intro v1_4 v2_4 hj
      have h := hI4 n4 v1_4 v2_4 hj
      refine ww_iload_n dX5_bits_4 1 rfl ?_
      obtain ⟨r_1, h⟩ := h
      refine ww_if_eq (tgt := 20) dX5_bits_5 (by decide) r_1 (fun c => ?_) (fun c => ?_)
      · replace h := h.1 c
        refine ww_iload_n dX5_bits_20 0 rfl ?_
        exact ww_iret v1_4 rfl ⟨rfl, h⟩ rfl (Nat.le_refl _) (Nat.le_refl _) dX5_bits_21
      · replace h := h.2 c
        refine ww_iinc dX5_bits_8 0 rfl (Nat.le_of_ble_eq_true rfl) rfl ?_
        refine ww_iload_n dX5_bits_11 1 rfl ?_
        refine ww_iload_n dX5_bits_12 1 rfl ?_
        refine ww_iconst dX5_bits_13 ?_
        refine ww_isub dX5_bits_14 ?_
        refine ww_iand dX5_bits_15 ?_
        refine ww_nmI (fun x_2 ex_2 => ?_)
        replace h := h x_2 ex_2
        have rx_2 : rI x_2 := by rw [ex_2]; exact (rI_bA _ _)
        refine ww_istore_n dX5_bits_16 rfl (Nat.le_of_ble_eq_true rfl) rfl ?_
        refine ww_goto (tgt := 4) dX5_bits_17 (by decide) ?_
        refine ww_lv [1, 0] rfl ?_
        obtain ⟨m, hm, h⟩ := h
        exact ih4 m hm _ _ h
  refine ww_lv [1, 0] rfl ?_
  obtain ⟨m, h⟩ := h
  exact kI4 m _ _ h
theorem tc_bits {S : Type} {G : g_G} {l : Launch} {cc : ByteArray} {nL : Nat} {ret : Option FieldType} {mn : String} {d mc ms : Nat} {R : Option Value → S → Prop} {sh : S → List va_W} {cells slots pc : Nat} {lv : List (Nat × Value)} {st : List Value} {Ws : List va_W} {a1 : Int} {P : Int → Prop} (h : w_bits a1 P) (hR : 0 + 1 ≤ d ∧ 16 + (3 + 11) + 100 * 0 ≤ 100 * d) (hc : cells ≤ mc ∧ slots ≤ ms) (hst : (st.map fun v => v.category).sum ≤ 16) (hdg : decode cc pc = .ok (.invokestatic 263, 3)) (k : ∀ r, P r → WW G l cc RX5 nL ret mn d mc ms R sh cells slots Ws (pc + 3) lv (vI r :: st)) : WW G l cc RX5 nL ret mn d mc ms R sh cells slots Ws pc lv (vI a1 :: st) := by
  refine tw_callS1 (n := 1) (t_bits h) (lw_S q2431 q2432 q117 q2433) ⟨by decide, by decide, by decide +kernel⟩ rfl hR hc rfl hst hdg ?_
  exact k
/-! parityHere -/
def w_parityHere (σ : TS) (P : Int → Prop) : Prop :=
  ∃ I6 : Nat → Int → Int → Int → Prop, (∀ (n6 : Nat) (v1_6 : Int) (v2_6 : Int) (v3_6 : Int), I6 n6 v1_6 v2_6 v3_6 →
    rI v3_6 ∧
    (((bL 1 (tF σ 36)) ≤ v3_6 →
      rI v1_6 ∧
      ∃ J62 : Prop, (J62 →
        rI v1_6 ∧
        ((v1_6 = 0 →
          rI v2_6 ∧
          ((v2_6 = 0 →
            P 3) ∧
          (¬ v2_6 = 0 →
            P 1))) ∧
        (¬ v1_6 = 0 →
          P 0))) ∧
      ((v1_6 = 0 →
        J62) ∧
      (¬ v1_6 = 0 →
        rI v2_6 ∧
        ((v2_6 = 0 →
          J62) ∧
        (¬ v2_6 = 0 →
          P 2))))) ∧
    (v3_6 < (bL 1 (tF σ 36)) →
      (0 ≤ v3_6 ∧ v3_6 < 16) ∧
      rI (tA σ 35 v3_6) ∧
      ∃ J44 : Int → Int → Prop, (∀ (v1_44 : Int) (v2_44 : Int), J44 v1_44 v2_44 →
        ∃ m : Nat, m < n6 ∧ I6 m v1_44 v2_44 (v3_6 + 1)) ∧
      ((¬ (tA σ 35 v3_6) = 0 →
        w_bits v3_6 (fun y_8 =>
          (0 ≤ y_8 ∧ y_8 < 2147483648 ∧ (0 : Int) < 2 ∧ (2 : Int) < 2147483648) ∧
          rI (y_8 % 2) ∧
          ((¬ (y_8 % 2) = 0 →
            J44 0 v2_6) ∧
          ((y_8 % 2) = 0 →
            J44 v1_6 0)))) ∧
      ((tA σ 35 v3_6) = 0 →
        J44 v1_6 v2_6))))) ∧
  ∃ m : Nat, I6 m 1 1 0
set_option maxHeartbeats 4000000 in
theorem t_parityHere {G : g_G} {l : Launch} {q : Nat → Nat} {σ : TS} {P : Int → Prop} (h : w_parityHere σ P) : CT G l yX5_parityHere cX5_parityHere 4 (Option.some Jvm.ClassFile.FieldType.int) 1 0 0 [.ref (q 100)] [tw G q σ] (tR1 (fun r s => s = σ ∧ P r)) (fun u => [tw G q u.2]) := by
  unfold w_parityHere at h
  refine ww_of (by decide) (Nat.le_of_ble_eq_true rfl) (fun fr => ?_)
  show WW G l cX5_parityHere RX5 4 (Option.some Jvm.ClassFile.FieldType.int) "parityHere" 1 0 0 (tR1 (fun r s => s = σ ∧ P r)) (tS G q fr) 0 0 [tw G q σ, fr] 0 [(0, .ref (q 100))] []
  refine ww_iconst dX5_parityHere_0 ?_
  refine ww_istore_n dX5_parityHere_1 rfl (Nat.le_of_ble_eq_true rfl) rfl ?_
  refine ww_iconst dX5_parityHere_2 ?_
  refine ww_istore_n dX5_parityHere_3 rfl (Nat.le_of_ble_eq_true rfl) rfl ?_
  refine ww_iconst dX5_parityHere_4 ?_
  refine ww_istore_n dX5_parityHere_5 rfl (Nat.le_of_ble_eq_true rfl) rfl ?_
  obtain ⟨I6, hI6, h⟩ := h
  have kI6 : ∀ (n6 : Nat), ∀ (v1_6 : Int), ∀ (v2_6 : Int), ∀ (v3_6 : Int), I6 n6 v1_6 v2_6 v3_6 → WW G l cX5_parityHere RX5 4 (Option.some Jvm.ClassFile.FieldType.int) "parityHere" 1 0 0 (tR1 (fun r s => s = σ ∧ P r)) (tS G q fr) 0 0 [tw G q σ, fr] 6 [(0, .ref (q 100)), (1, vI v1_6), (2, vI v2_6), (3, vI v3_6)] [] := by
    intro n6
    induction n6 using Nat.strongRecOn with
    | ind n6 ih6 =>
      intro v1_6 v2_6 v3_6 hj
      have h := hI6 n6 v1_6 v2_6 v3_6 hj
      refine ww_iload_n dX5_parityHere_6 3 rfl ?_
      refine ww_iconst dX5_parityHere_7 ?_
      refine ww_aload_n dX5_parityHere_8 0 rfl ?_
      refine tg_36 dX5_parityHere_9 ?_
      refine ww_ishl dX5_parityHere_12 ?_
      obtain ⟨r_1, h⟩ := h
      refine ww_icmp_ge (tgt := 50) dX5_parityHere_13 (by decide) r_1 (rI_bL _ _) (fun c => ?_) (fun c => ?_)
      · replace h := h.1 c
        refine ww_iload_n dX5_parityHere_50 1 rfl ?_
        obtain ⟨r_2, h⟩ := h
        obtain ⟨J62, hJ62, h⟩ := h
        have kJ62 : J62 → WW G l cX5_parityHere RX5 4 (Option.some Jvm.ClassFile.FieldType.int) "parityHere" 1 0 0 (tR1 (fun r s => s = σ ∧ P r)) (tS G q fr) 0 0 [tw G q σ, fr] 62 [(1, vI v1_6), (2, vI v2_6)] [] := by
          intro hj
          have h := hJ62 hj
          refine ww_iload_n dX5_parityHere_62 0 rfl ?_
          obtain ⟨r_3, h⟩ := h
          refine ww_if_eq (tgt := 70) dX5_parityHere_63 (by decide) r_3 (fun c => ?_) (fun c => ?_)
          · replace h := h.1 c
            refine ww_iload_n dX5_parityHere_70 1 rfl ?_
            obtain ⟨r_4, h⟩ := h
            refine ww_if_eq (tgt := 78) dX5_parityHere_71 (by decide) r_4 (fun c => ?_) (fun c => ?_)
            · replace h := h.1 c
              refine ww_iconst dX5_parityHere_78 ?_
              exact ww_iret (3, σ) rfl ⟨rfl, ⟨rfl, h⟩⟩ rfl (Nat.le_refl _) (Nat.le_refl _) dX5_parityHere_79
            · replace h := h.2 c
              refine ww_iconst dX5_parityHere_74 ?_
              refine ww_goto (tgt := 79) dX5_parityHere_75 (by decide) ?_
              exact ww_iret (1, σ) rfl ⟨rfl, ⟨rfl, h⟩⟩ rfl (Nat.le_refl _) (Nat.le_refl _) dX5_parityHere_79
          · replace h := h.2 c
            refine ww_iconst dX5_parityHere_66 ?_
            refine ww_goto (tgt := 79) dX5_parityHere_67 (by decide) ?_
            exact ww_iret (0, σ) rfl ⟨rfl, ⟨rfl, h⟩⟩ rfl (Nat.le_refl _) (Nat.le_refl _) dX5_parityHere_79
        refine ww_if_eq (tgt := 62) dX5_parityHere_51 (by decide) r_2 (fun c => ?_) (fun c => ?_)
        · replace h := h.1 c
          refine ww_lv [1, 2] rfl ?_
          exact kJ62 h
        · replace h := h.2 c
          refine ww_iload_n dX5_parityHere_54 2 rfl ?_
          obtain ⟨r_5, h⟩ := h
          refine ww_if_eq (tgt := 62) dX5_parityHere_55 (by decide) r_5 (fun c => ?_) (fun c => ?_)
          · replace h := h.1 c
            refine ww_lv [1, 2] rfl ?_
            exact kJ62 h
          · replace h := h.2 c
            refine ww_iconst dX5_parityHere_58 ?_
            refine ww_goto (tgt := 79) dX5_parityHere_59 (by decide) ?_
            exact ww_iret (2, σ) rfl ⟨rfl, ⟨rfl, h⟩⟩ rfl (Nat.le_refl _) (Nat.le_refl _) dX5_parityHere_79
      · replace h := h.2 (Int.not_le.mp c)
        refine ww_aload_n dX5_parityHere_16 0 rfl ?_
        refine tg_35 dX5_parityHere_17 ?_
        refine ww_iload_n dX5_parityHere_20 3 rfl ?_
        obtain ⟨r_6, h⟩ := h
        refine ta_35 r_6 dX5_parityHere_21 ?_
        obtain ⟨r_7, h⟩ := h
        obtain ⟨J44, hJ44, h⟩ := h
        have kJ44 : ∀ (v1_44 : Int), ∀ (v2_44 : Int), J44 v1_44 v2_44 → WW G l cX5_parityHere RX5 4 (Option.some Jvm.ClassFile.FieldType.int) "parityHere" 1 0 0 (tR1 (fun r s => s = σ ∧ P r)) (tS G q fr) 0 0 [tw G q σ, fr] 44 [(0, .ref (q 100)), (1, vI v1_44), (2, vI v2_44), (3, vI v3_6)] [] := by
          intro v1_44 v2_44 hj
          have h := hJ44 v1_44 v2_44 hj
          refine ww_iinc dX5_parityHere_44 3 rfl (Nat.le_of_ble_eq_true rfl) rfl ?_
          refine ww_goto (tgt := 6) dX5_parityHere_47 (by decide) ?_
          refine ww_lv [1, 2, 3, 0] rfl ?_
          obtain ⟨m, hm, h⟩ := h
          exact ih6 m hm _ _ _ h
        refine ww_if_ne (tgt := 28) dX5_parityHere_22 (by decide) r_7 (fun c => ?_) (fun c => ?_)
        · replace h := h.1 c
          refine ww_iload_n dX5_parityHere_28 3 rfl ?_
          refine tc_bits h ⟨Nat.le_of_ble_eq_true rfl, Nat.le_of_ble_eq_true rfl⟩ ⟨Nat.le_refl _, Nat.le_refl _⟩ (Nat.le_of_ble_eq_true rfl) dX5_parityHere_29 (fun y_8 h => ?_)
          refine ww_iconst dX5_parityHere_32 ?_
          obtain ⟨r_9, h⟩ := h
          refine ww_irem dX5_parityHere_33 r_9 ?_
          obtain ⟨r_10, h⟩ := h
          refine ww_if_ne (tgt := 42) dX5_parityHere_34 (by decide) r_10 (fun c => ?_) (fun c => ?_)
          · replace h := h.1 c
            refine ww_iconst dX5_parityHere_42 ?_
            refine ww_istore_n dX5_parityHere_43 rfl (Nat.le_of_ble_eq_true rfl) rfl ?_
            refine ww_lv [1, 0, 2, 3] rfl ?_
            exact kJ44 _ _ h
          · replace h := h.2 c
            refine ww_iconst dX5_parityHere_37 ?_
            refine ww_istore_n dX5_parityHere_38 rfl (Nat.le_of_ble_eq_true rfl) rfl ?_
            refine ww_goto (tgt := 44) dX5_parityHere_39 (by decide) ?_
            refine ww_lv [1, 2, 0, 3] rfl ?_
            exact kJ44 _ _ h
        · replace h := h.2 c
          refine ww_goto (tgt := 44) dX5_parityHere_25 (by decide) ?_
          exact kJ44 _ _ h
  refine ww_lv [3, 2, 1, 0] rfl ?_
  obtain ⟨m, h⟩ := h
  exact kI6 m _ _ _ h
theorem tc_parityHere {S : Type} {G : g_G} {l : Launch} {cc : ByteArray} {nL : Nat} {ret : Option FieldType} {mn : String} {d mc ms : Nat} {R : Option Value → S → Prop} {sh : S → List va_W} {cells slots pc : Nat} {lv : List (Nat × Value)} {st : List Value} {q : Nat → Nat} {fr : va_W} {σ : TS} {P : Int → Prop} (h : w_parityHere σ P) (hR : 1 + 1 ≤ d ∧ 16 + (4 + 11) + 100 * 1 ≤ 100 * d) (hc : cells ≤ mc ∧ slots ≤ ms) (hst : (st.map fun v => v.category).sum ≤ 16) (hdg : decode cc pc = .ok (.invokevirtual 269, 3)) (k : ∀ r, P r → WW G l cc RX5 nL ret mn d mc ms R sh cells slots [tw G q σ, fr] (pc + 3) lv (vI r :: st)) : WW G l cc RX5 nL ret mn d mc ms R sh cells slots [tw G q σ, fr] pc lv (.ref (q 100) :: st) := by
  refine tw_call1 (n := 0) (t_parityHere (q := q) h) (lw_V q2427 q2429 qs79 q117 q2430) ⟨rfl, by decide, by decide, by decide +kernel⟩ rfl hR hc rfl hst hdg ?_
  rintro r σ2 ⟨rfl, h2⟩
  exact k r h2
/-! parity -/
def w_parity (σ : TS) (a1 : Int) (P : Int → TS → Prop) : Prop :=
  w_isTable (sF σ 0 0) a1 (fun y_1 =>
    ((¬ y_1 = 0 →
      w_laysTable (sF σ 0 0) a1 (fun σ_3 =>
        w_parityHere σ_3 (fun y_4 =>
          P y_4 σ_3))) ∧
    (y_1 = 0 →
      P (-1) (sF σ 0 0))))
set_option maxHeartbeats 4000000 in
theorem t_parity {G : g_G} {l : Launch} {q : Nat → Nat} {σ : TS} {a1 : Int} {P : Int → TS → Prop} (h : w_parity σ a1 P) : CT G l yX5_parity cX5_parity 2 (Option.some Jvm.ClassFile.FieldType.int) 2 0 0 [.ref (q 100), vI a1] [tw G q σ] (tR1 (P)) (fun u => [tw G q u.2]) := by
  unfold w_parity at h
  refine ww_of (by decide) (Nat.le_of_ble_eq_true rfl) (fun fr => ?_)
  show WW G l cX5_parity RX5 2 (Option.some Jvm.ClassFile.FieldType.int) "parity" 2 0 0 (tR1 (P)) (tS G q fr) 0 0 [tw G q σ, fr] 0 [(0, .ref (q 100)), (1, vI a1)] []
  refine ww_aload_n dX5_parity_0 0 rfl ?_
  refine ww_iconst dX5_parity_1 ?_
  refine tp_0 dX5_parity_2 ?_
  refine ww_aload_n dX5_parity_5 0 rfl ?_
  refine ww_iload_n dX5_parity_6 1 rfl ?_
  refine tc_isTable h ⟨Nat.le_of_ble_eq_true rfl, Nat.le_of_ble_eq_true rfl⟩ ⟨Nat.le_refl _, Nat.le_refl _⟩ (Nat.le_of_ble_eq_true rfl) dX5_parity_7 (fun y_1 z_2 h => ?_)
  refine ww_if_ne (tgt := 15) dX5_parity_10 (by decide) (z01 z_2) (fun c => ?_) (fun c => ?_)
  · replace h := h.1 c
    refine ww_aload_n dX5_parity_15 0 rfl ?_
    refine ww_iload_n dX5_parity_16 1 rfl ?_
    refine tc_laysTable h ⟨Nat.le_of_ble_eq_true rfl, Nat.le_of_ble_eq_true rfl⟩ ⟨Nat.le_refl _, Nat.le_refl _⟩ (Nat.le_of_ble_eq_true rfl) dX5_parity_17 (fun σ_3 h => ?_)
    refine ww_aload_n dX5_parity_20 0 rfl ?_
    refine tc_parityHere h ⟨Nat.le_of_ble_eq_true rfl, Nat.le_of_ble_eq_true rfl⟩ ⟨Nat.le_refl _, Nat.le_refl _⟩ (Nat.le_of_ble_eq_true rfl) dX5_parity_21 (fun y_4 h => ?_)
    exact ww_iret (y_4, σ_3) rfl ⟨rfl, h⟩ rfl (Nat.le_refl _) (Nat.le_refl _) dX5_parity_24
  · replace h := h.2 c
    refine ww_iconst dX5_parity_13 ?_
    exact ww_iret ((-1), sF σ 0 0) rfl ⟨rfl, h⟩ rfl (Nat.le_refl _) (Nat.le_refl _) dX5_parity_14

/-! p -/
def w_p (σ : TS) (P : Int → Prop) : Prop :=
  P (tA σ 13 0)
set_option maxHeartbeats 4000000 in
theorem t_p {G : g_G} {l : Launch} {q : Nat → Nat} {σ : TS} {P : Int → Prop} (h : w_p σ P) : CT G l yX5_p cX5_p 1 (Option.some Jvm.ClassFile.FieldType.int) 0 0 0 [.ref (q 100)] [tw G q σ] (tR1 (fun r s => s = σ ∧ P r)) (fun u => [tw G q u.2]) := by
  unfold w_p at h
  refine ww_of (by decide) (Nat.le_of_ble_eq_true rfl) (fun fr => ?_)
  show WW G l cX5_p RX5 1 (Option.some Jvm.ClassFile.FieldType.int) "p" 0 0 0 (tR1 (fun r s => s = σ ∧ P r)) (tS G q fr) 0 0 [tw G q σ, fr] 0 [(0, .ref (q 100))] []
  refine ww_aload_n dX5_p_0 0 rfl ?_
  refine tg_13 dX5_p_1 ?_
  refine ww_iconst dX5_p_4 ?_
  refine ta_13 ⟨by decide, by decide⟩ dX5_p_5 ?_
  exact ww_iret (tA σ 13 0, σ) rfl ⟨rfl, ⟨rfl, h⟩⟩ rfl (Nat.le_refl _) (Nat.le_refl _) dX5_p_6
theorem tc_p {S : Type} {G : g_G} {l : Launch} {cc : ByteArray} {nL : Nat} {ret : Option FieldType} {mn : String} {d mc ms : Nat} {R : Option Value → S → Prop} {sh : S → List va_W} {cells slots pc : Nat} {lv : List (Nat × Value)} {st : List Value} {q : Nat → Nat} {fr : va_W} {σ : TS} {P : Int → Prop} (h : w_p σ P) (hR : 0 + 1 ≤ d ∧ 16 + (1 + 11) + 100 * 0 ≤ 100 * d) (hc : cells ≤ mc ∧ slots ≤ ms) (hst : (st.map fun v => v.category).sum ≤ 16) (hdg : decode cc pc = .ok (.invokevirtual 266, 3)) (k : ∀ r, P r → WW G l cc RX5 nL ret mn d mc ms R sh cells slots [tw G q σ, fr] (pc + 3) lv (vI r :: st)) : WW G l cc RX5 nL ret mn d mc ms R sh cells slots [tw G q σ, fr] pc lv (.ref (q 100) :: st) := by
  refine tw_call1 (n := 0) (t_p (q := q) h) (lw_V q2442 q2444 qs81 q117 q2445) ⟨rfl, by decide, by decide, by decide +kernel⟩ rfl hR hc rfl hst hdg ?_
  rintro r σ2 ⟨rfl, h2⟩
  exact k r h2
/-! ruleHere -/
def w_ruleHere (σ : TS) (a1 : Int) (P : Int → Prop) : Prop :=
  rI a1 ∧
  ∃ J127 : Int → Prop, (∀ (s0_127 : Int), J127 s0_127 →
    rI s0_127 ∧
    w_p σ (fun y_3 =>
      w_modulo s0_127 y_3 (fun y_4 =>
        P y_4))) ∧
  ((a1 = 0 →
    J127 (((((tA σ 35 0) * (tA σ 35 15)) - ((tA σ 35 3) * (tA σ 35 12))) + ((tA σ 35 5) * (tA σ 35 10))) - ((tA σ 35 6) * (tA σ 35 9)))) ∧
  (¬ a1 = 0 →
    J127 (((((tA σ 35 1) * (tA σ 35 14)) - ((tA σ 35 2) * (tA σ 35 13))) + ((tA σ 35 4) * (tA σ 35 11))) - ((tA σ 35 8) * (tA σ 35 7)))))
set_option maxHeartbeats 4000000 in
theorem t_ruleHere {G : g_G} {l : Launch} {q : Nat → Nat} {σ : TS} {a1 : Int} {P : Int → Prop} (h : w_ruleHere σ a1 P) : CT G l yX5_ruleHere cX5_ruleHere 3 (Option.some Jvm.ClassFile.FieldType.int) 1 0 0 [.ref (q 100), vI a1] [tw G q σ] (tR1 (fun r s => s = σ ∧ P r)) (fun u => [tw G q u.2]) := by
  unfold w_ruleHere at h
  refine ww_of (by decide) (Nat.le_of_ble_eq_true rfl) (fun fr => ?_)
  show WW G l cX5_ruleHere RX5 3 (Option.some Jvm.ClassFile.FieldType.int) "ruleHere" 1 0 0 (tR1 (fun r s => s = σ ∧ P r)) (tS G q fr) 0 0 [tw G q σ, fr] 0 [(0, .ref (q 100)), (1, vI a1)] []
  refine ww_iload_n dX5_ruleHere_0 1 rfl ?_
  obtain ⟨r_1, h⟩ := h
  obtain ⟨J127, hJ127, h⟩ := h
  have kJ127 : ∀ (s0_127 : Int), J127 s0_127 → WW G l cX5_ruleHere RX5 3 (Option.some Jvm.ClassFile.FieldType.int) "ruleHere" 1 0 0 (tR1 (fun r s => s = σ ∧ P r)) (tS G q fr) 0 0 [tw G q σ, fr] 127 [(0, .ref (q 100))] [vI s0_127] := by
    intro s0_127 hj
    have h := hJ127 s0_127 hj
    refine ww_istore_n dX5_ruleHere_127 rfl (Nat.le_of_ble_eq_true rfl) rfl ?_
    refine ww_iload_n dX5_ruleHere_128 0 rfl ?_
    obtain ⟨r_2, h⟩ := h
    refine ww_i2l dX5_ruleHere_129 r_2 ?_
    refine ww_aload_n dX5_ruleHere_130 1 rfl ?_
    refine tc_p h ⟨Nat.le_of_ble_eq_true rfl, Nat.le_of_ble_eq_true rfl⟩ ⟨Nat.le_refl _, Nat.le_refl _⟩ (Nat.le_of_ble_eq_true rfl) dX5_ruleHere_131 (fun y_3 h => ?_)
    refine tc_modulo h ⟨Nat.le_of_ble_eq_true rfl, Nat.le_of_ble_eq_true rfl⟩ ⟨Nat.le_refl _, Nat.le_refl _⟩ (Nat.le_of_ble_eq_true rfl) dX5_ruleHere_134 (fun y_4 h => ?_)
    exact ww_iret (y_4, σ) rfl ⟨rfl, ⟨rfl, h⟩⟩ rfl (Nat.le_refl _) (Nat.le_refl _) dX5_ruleHere_137
  refine ww_if_eq (tgt := 67) dX5_ruleHere_1 (by decide) r_1 (fun c => ?_) (fun c => ?_)
  · replace h := h.1 c
    refine ww_aload_n dX5_ruleHere_67 0 rfl ?_
    refine tg_35 dX5_ruleHere_68 ?_
    refine ww_iconst dX5_ruleHere_71 ?_
    refine ta_35 ⟨by decide, by decide⟩ dX5_ruleHere_72 ?_
    refine ww_aload_n dX5_ruleHere_73 0 rfl ?_
    refine tg_35 dX5_ruleHere_74 ?_
    refine ww_bipush (v := 15) dX5_ruleHere_77 rfl ?_
    refine ta_35 ⟨by decide, by decide⟩ dX5_ruleHere_79 ?_
    refine ww_imul dX5_ruleHere_80 ?_
    refine ww_aload_n dX5_ruleHere_81 0 rfl ?_
    refine tg_35 dX5_ruleHere_82 ?_
    refine ww_iconst dX5_ruleHere_85 ?_
    refine ta_35 ⟨by decide, by decide⟩ dX5_ruleHere_86 ?_
    refine ww_aload_n dX5_ruleHere_87 0 rfl ?_
    refine tg_35 dX5_ruleHere_88 ?_
    refine ww_bipush (v := 12) dX5_ruleHere_91 rfl ?_
    refine ta_35 ⟨by decide, by decide⟩ dX5_ruleHere_93 ?_
    refine ww_imul dX5_ruleHere_94 ?_
    refine ww_isub dX5_ruleHere_95 ?_
    refine ww_aload_n dX5_ruleHere_96 0 rfl ?_
    refine tg_35 dX5_ruleHere_97 ?_
    refine ww_iconst dX5_ruleHere_100 ?_
    refine ta_35 ⟨by decide, by decide⟩ dX5_ruleHere_101 ?_
    refine ww_aload_n dX5_ruleHere_102 0 rfl ?_
    refine tg_35 dX5_ruleHere_103 ?_
    refine ww_bipush (v := 10) dX5_ruleHere_106 rfl ?_
    refine ta_35 ⟨by decide, by decide⟩ dX5_ruleHere_108 ?_
    refine ww_imul dX5_ruleHere_109 ?_
    refine ww_iadd dX5_ruleHere_110 ?_
    refine ww_aload_n dX5_ruleHere_111 0 rfl ?_
    refine tg_35 dX5_ruleHere_112 ?_
    refine ww_bipush (v := 6) dX5_ruleHere_115 rfl ?_
    refine ta_35 ⟨by decide, by decide⟩ dX5_ruleHere_117 ?_
    refine ww_aload_n dX5_ruleHere_118 0 rfl ?_
    refine tg_35 dX5_ruleHere_119 ?_
    refine ww_bipush (v := 9) dX5_ruleHere_122 rfl ?_
    refine ta_35 ⟨by decide, by decide⟩ dX5_ruleHere_124 ?_
    refine ww_imul dX5_ruleHere_125 ?_
    refine ww_isub dX5_ruleHere_126 ?_
    refine ww_lv [0] rfl ?_
    exact kJ127 _ h
  · replace h := h.2 c
    refine ww_aload_n dX5_ruleHere_4 0 rfl ?_
    refine tg_35 dX5_ruleHere_5 ?_
    refine ww_iconst dX5_ruleHere_8 ?_
    refine ta_35 ⟨by decide, by decide⟩ dX5_ruleHere_9 ?_
    refine ww_aload_n dX5_ruleHere_10 0 rfl ?_
    refine tg_35 dX5_ruleHere_11 ?_
    refine ww_bipush (v := 14) dX5_ruleHere_14 rfl ?_
    refine ta_35 ⟨by decide, by decide⟩ dX5_ruleHere_16 ?_
    refine ww_imul dX5_ruleHere_17 ?_
    refine ww_aload_n dX5_ruleHere_18 0 rfl ?_
    refine tg_35 dX5_ruleHere_19 ?_
    refine ww_iconst dX5_ruleHere_22 ?_
    refine ta_35 ⟨by decide, by decide⟩ dX5_ruleHere_23 ?_
    refine ww_aload_n dX5_ruleHere_24 0 rfl ?_
    refine tg_35 dX5_ruleHere_25 ?_
    refine ww_bipush (v := 13) dX5_ruleHere_28 rfl ?_
    refine ta_35 ⟨by decide, by decide⟩ dX5_ruleHere_30 ?_
    refine ww_imul dX5_ruleHere_31 ?_
    refine ww_isub dX5_ruleHere_32 ?_
    refine ww_aload_n dX5_ruleHere_33 0 rfl ?_
    refine tg_35 dX5_ruleHere_34 ?_
    refine ww_iconst dX5_ruleHere_37 ?_
    refine ta_35 ⟨by decide, by decide⟩ dX5_ruleHere_38 ?_
    refine ww_aload_n dX5_ruleHere_39 0 rfl ?_
    refine tg_35 dX5_ruleHere_40 ?_
    refine ww_bipush (v := 11) dX5_ruleHere_43 rfl ?_
    refine ta_35 ⟨by decide, by decide⟩ dX5_ruleHere_45 ?_
    refine ww_imul dX5_ruleHere_46 ?_
    refine ww_iadd dX5_ruleHere_47 ?_
    refine ww_aload_n dX5_ruleHere_48 0 rfl ?_
    refine tg_35 dX5_ruleHere_49 ?_
    refine ww_bipush (v := 8) dX5_ruleHere_52 rfl ?_
    refine ta_35 ⟨by decide, by decide⟩ dX5_ruleHere_54 ?_
    refine ww_aload_n dX5_ruleHere_55 0 rfl ?_
    refine tg_35 dX5_ruleHere_56 ?_
    refine ww_bipush (v := 7) dX5_ruleHere_59 rfl ?_
    refine ta_35 ⟨by decide, by decide⟩ dX5_ruleHere_61 ?_
    refine ww_imul dX5_ruleHere_62 ?_
    refine ww_isub dX5_ruleHere_63 ?_
    refine ww_goto (tgt := 127) dX5_ruleHere_64 (by decide) ?_
    refine ww_lv [0] rfl ?_
    exact kJ127 _ h
theorem tc_ruleHere {S : Type} {G : g_G} {l : Launch} {cc : ByteArray} {nL : Nat} {ret : Option FieldType} {mn : String} {d mc ms : Nat} {R : Option Value → S → Prop} {sh : S → List va_W} {cells slots pc : Nat} {lv : List (Nat × Value)} {st : List Value} {q : Nat → Nat} {fr : va_W} {σ : TS} {a1 : Int} {P : Int → Prop} (h : w_ruleHere σ a1 P) (hR : 1 + 1 ≤ d ∧ 16 + (3 + 11) + 100 * 1 ≤ 100 * d) (hc : cells ≤ mc ∧ slots ≤ ms) (hst : (st.map fun v => v.category).sum ≤ 16) (hdg : decode cc pc = .ok (.invokevirtual 272, 3)) (k : ∀ r, P r → WW G l cc RX5 nL ret mn d mc ms R sh cells slots [tw G q σ, fr] (pc + 3) lv (vI r :: st)) : WW G l cc RX5 nL ret mn d mc ms R sh cells slots [tw G q σ, fr] pc lv (vI a1 :: .ref (q 100) :: st) := by
  refine tw_call1 (n := 1) (t_ruleHere (q := q) h) (lw_V q2438 q2440 qs80 q117 q2441) ⟨rfl, by decide, by decide, by decide +kernel⟩ rfl hR hc rfl hst hdg ?_
  rintro r σ2 ⟨rfl, h2⟩
  exact k r h2
/-! identity -/
def w_identity (σ : TS) (a1 : Int) (a2 : Int) (P : Int → TS → Prop) : Prop :=
  w_isTable (sF σ 0 0) a1 (fun y_1 =>
    ((¬ y_1 = 0 →
      w_laysTable (sF σ 0 0) a1 (fun σ_3 =>
        rI (tF σ_3 36) ∧
        ((4 ≤ (tF σ_3 36) →
          w_ruleHere σ_3 a2 (fun y_5 =>
            P y_5 σ_3)) ∧
        ((tF σ_3 36) < 4 →
          P (-2) σ_3)))) ∧
    (y_1 = 0 →
      P (-1) (sF σ 0 0))))
set_option maxHeartbeats 4000000 in
theorem t_identity {G : g_G} {l : Launch} {q : Nat → Nat} {σ : TS} {a1 : Int} {a2 : Int} {P : Int → TS → Prop} (h : w_identity σ a1 a2 P) : CT G l yX5_identity cX5_identity 3 (Option.some Jvm.ClassFile.FieldType.int) 2 0 0 [.ref (q 100), vI a1, vI a2] [tw G q σ] (tR1 (P)) (fun u => [tw G q u.2]) := by
  unfold w_identity at h
  refine ww_of (by decide) (Nat.le_of_ble_eq_true rfl) (fun fr => ?_)
  show WW G l cX5_identity RX5 3 (Option.some Jvm.ClassFile.FieldType.int) "identity" 2 0 0 (tR1 (P)) (tS G q fr) 0 0 [tw G q σ, fr] 0 [(0, .ref (q 100)), (1, vI a1), (2, vI a2)] []
  refine ww_aload_n dX5_identity_0 0 rfl ?_
  refine ww_iconst dX5_identity_1 ?_
  refine tp_0 dX5_identity_2 ?_
  refine ww_aload_n dX5_identity_5 0 rfl ?_
  refine ww_iload_n dX5_identity_6 1 rfl ?_
  refine tc_isTable h ⟨Nat.le_of_ble_eq_true rfl, Nat.le_of_ble_eq_true rfl⟩ ⟨Nat.le_refl _, Nat.le_refl _⟩ (Nat.le_of_ble_eq_true rfl) dX5_identity_7 (fun y_1 z_2 h => ?_)
  refine ww_if_ne (tgt := 15) dX5_identity_10 (by decide) (z01 z_2) (fun c => ?_) (fun c => ?_)
  · replace h := h.1 c
    refine ww_aload_n dX5_identity_15 0 rfl ?_
    refine ww_iload_n dX5_identity_16 1 rfl ?_
    refine tc_laysTable h ⟨Nat.le_of_ble_eq_true rfl, Nat.le_of_ble_eq_true rfl⟩ ⟨Nat.le_refl _, Nat.le_refl _⟩ (Nat.le_of_ble_eq_true rfl) dX5_identity_17 (fun σ_3 h => ?_)
    refine ww_aload_n dX5_identity_20 0 rfl ?_
    refine tg_36 dX5_identity_21 ?_
    refine ww_iconst dX5_identity_24 ?_
    obtain ⟨r_4, h⟩ := h
    refine ww_icmp_ge (tgt := 33) dX5_identity_25 (by decide) r_4 (by decide) (fun c => ?_) (fun c => ?_)
    · replace h := h.1 c
      refine ww_aload_n dX5_identity_33 0 rfl ?_
      refine ww_iload_n dX5_identity_34 2 rfl ?_
      refine tc_ruleHere h ⟨Nat.le_of_ble_eq_true rfl, Nat.le_of_ble_eq_true rfl⟩ ⟨Nat.le_refl _, Nat.le_refl _⟩ (Nat.le_of_ble_eq_true rfl) dX5_identity_35 (fun y_5 h => ?_)
      exact ww_iret (y_5, σ_3) rfl ⟨rfl, h⟩ rfl (Nat.le_refl _) (Nat.le_refl _) dX5_identity_38
    · replace h := h.2 (Int.not_le.mp c)
      refine ww_bipush (v := (-2)) dX5_identity_28 rfl ?_
      refine ww_goto (tgt := 38) dX5_identity_30 (by decide) ?_
      exact ww_iret ((-2), σ_3) rfl ⟨rfl, h⟩ rfl (Nat.le_refl _) (Nat.le_refl _) dX5_identity_38
  · replace h := h.2 c
    refine ww_iconst dX5_identity_13 ?_
    exact ww_iret ((-1), sF σ 0 0) rfl ⟨rfl, h⟩ rfl (Nat.le_refl _) (Nat.le_refl _) dX5_identity_14

/-! isMadeHere -/
def w_isMadeHere (σ : TS) (P : Int → Prop) : Prop :=
  w_parityHere σ (fun y_1 =>
    rI y_1 ∧
    ((y_1 = 3 →
      P 0) ∧
    (¬ y_1 = 3 →
      rI (tF σ 36) ∧
      (((tF σ 36) < 4 →
        P 1) ∧
      (4 ≤ (tF σ 36) →
        w_ruleHere σ 0 (fun y_4 =>
          rI y_4 ∧
          ((¬ y_4 = 0 →
            P 0) ∧
          (y_4 = 0 →
            w_ruleHere σ 1 (fun y_6 =>
              rI y_6 ∧
              ((¬ y_6 = 0 →
                P 0) ∧
              (y_6 = 0 →
                P 1)))))))))))
set_option maxHeartbeats 4000000 in
theorem t_isMadeHere {G : g_G} {l : Launch} {q : Nat → Nat} {σ : TS} {P : Int → Prop} (h : w_isMadeHere σ P) : CT G l yX5_isMadeHere cX5_isMadeHere 1 (Option.some Jvm.ClassFile.FieldType.boolean) 2 0 0 [.ref (q 100)] [tw G q σ] (tR2 (fun r s => s = σ ∧ P r)) (fun u => [tw G q u.2]) := by
  unfold w_isMadeHere at h
  refine ww_of (by decide) (Nat.le_of_ble_eq_true rfl) (fun fr => ?_)
  show WW G l cX5_isMadeHere RX5 1 (Option.some Jvm.ClassFile.FieldType.boolean) "isMadeHere" 2 0 0 (tR2 (fun r s => s = σ ∧ P r)) (tS G q fr) 0 0 [tw G q σ, fr] 0 [(0, .ref (q 100))] []
  refine ww_aload_n dX5_isMadeHere_0 0 rfl ?_
  refine tc_parityHere h ⟨Nat.le_of_ble_eq_true rfl, Nat.le_of_ble_eq_true rfl⟩ ⟨Nat.le_refl _, Nat.le_refl _⟩ (Nat.le_of_ble_eq_true rfl) dX5_isMadeHere_1 (fun y_1 h => ?_)
  refine ww_iconst dX5_isMadeHere_4 ?_
  obtain ⟨r_2, h⟩ := h
  refine ww_icmp_eq (tgt := 36) dX5_isMadeHere_5 (by decide) r_2 (by decide) (fun c => ?_) (fun c => ?_)
  · replace h := h.1 c
    refine ww_iconst dX5_isMadeHere_36 ?_
    exact ww_zret (0, σ) rfl (Or.inl rfl) ⟨rfl, (Or.inl rfl), ⟨rfl, h⟩⟩ rfl (Nat.le_refl _) (Nat.le_refl _) dX5_isMadeHere_37
  · replace h := h.2 c
    refine ww_aload_n dX5_isMadeHere_8 0 rfl ?_
    refine tg_36 dX5_isMadeHere_9 ?_
    refine ww_iconst dX5_isMadeHere_12 ?_
    obtain ⟨r_3, h⟩ := h
    refine ww_icmp_lt (tgt := 32) dX5_isMadeHere_13 (by decide) r_3 (by decide) (fun c => ?_) (fun c => ?_)
    · replace h := h.1 c
      refine ww_iconst dX5_isMadeHere_32 ?_
      refine ww_goto (tgt := 37) dX5_isMadeHere_33 (by decide) ?_
      exact ww_zret (1, σ) rfl (Or.inr rfl) ⟨rfl, (Or.inr rfl), ⟨rfl, h⟩⟩ rfl (Nat.le_refl _) (Nat.le_refl _) dX5_isMadeHere_37
    · replace h := h.2 (Int.not_lt.mp c)
      refine ww_aload_n dX5_isMadeHere_16 0 rfl ?_
      refine ww_iconst dX5_isMadeHere_17 ?_
      refine tc_ruleHere h ⟨Nat.le_of_ble_eq_true rfl, Nat.le_of_ble_eq_true rfl⟩ ⟨Nat.le_refl _, Nat.le_refl _⟩ (Nat.le_of_ble_eq_true rfl) dX5_isMadeHere_18 (fun y_4 h => ?_)
      obtain ⟨r_5, h⟩ := h
      refine ww_if_ne (tgt := 36) dX5_isMadeHere_21 (by decide) r_5 (fun c => ?_) (fun c => ?_)
      · replace h := h.1 c
        refine ww_iconst dX5_isMadeHere_36 ?_
        exact ww_zret (0, σ) rfl (Or.inl rfl) ⟨rfl, (Or.inl rfl), ⟨rfl, h⟩⟩ rfl (Nat.le_refl _) (Nat.le_refl _) dX5_isMadeHere_37
      · replace h := h.2 c
        refine ww_aload_n dX5_isMadeHere_24 0 rfl ?_
        refine ww_iconst dX5_isMadeHere_25 ?_
        refine tc_ruleHere h ⟨Nat.le_of_ble_eq_true rfl, Nat.le_of_ble_eq_true rfl⟩ ⟨Nat.le_refl _, Nat.le_refl _⟩ (Nat.le_of_ble_eq_true rfl) dX5_isMadeHere_26 (fun y_6 h => ?_)
        obtain ⟨r_7, h⟩ := h
        refine ww_if_ne (tgt := 36) dX5_isMadeHere_29 (by decide) r_7 (fun c => ?_) (fun c => ?_)
        · replace h := h.1 c
          refine ww_iconst dX5_isMadeHere_36 ?_
          exact ww_zret (0, σ) rfl (Or.inl rfl) ⟨rfl, (Or.inl rfl), ⟨rfl, h⟩⟩ rfl (Nat.le_refl _) (Nat.le_refl _) dX5_isMadeHere_37
        · replace h := h.2 c
          refine ww_iconst dX5_isMadeHere_32 ?_
          refine ww_goto (tgt := 37) dX5_isMadeHere_33 (by decide) ?_
          exact ww_zret (1, σ) rfl (Or.inr rfl) ⟨rfl, (Or.inr rfl), ⟨rfl, h⟩⟩ rfl (Nat.le_refl _) (Nat.le_refl _) dX5_isMadeHere_37
theorem tc_isMadeHere {S : Type} {G : g_G} {l : Launch} {cc : ByteArray} {nL : Nat} {ret : Option FieldType} {mn : String} {d mc ms : Nat} {R : Option Value → S → Prop} {sh : S → List va_W} {cells slots pc : Nat} {lv : List (Nat × Value)} {st : List Value} {q : Nat → Nat} {fr : va_W} {σ : TS} {P : Int → Prop} (h : w_isMadeHere σ P) (hR : 2 + 1 ≤ d ∧ 16 + (1 + 11) + 100 * 2 ≤ 100 * d) (hc : cells ≤ mc ∧ slots ≤ ms) (hst : (st.map fun v => v.category).sum ≤ 16) (hdg : decode cc pc = .ok (.invokevirtual 279, 3)) (k : ∀ r, (r = 0 ∨ r = 1) → P r → WW G l cc RX5 nL ret mn d mc ms R sh cells slots [tw G q σ, fr] (pc + 3) lv (vI r :: st)) : WW G l cc RX5 nL ret mn d mc ms R sh cells slots [tw G q σ, fr] pc lv (.ref (q 100) :: st) := by
  refine tw_call2 (n := 0) (t_isMadeHere (q := q) h) (lw_V q2450 q2452 qs82 q117 q2453) ⟨rfl, by decide, by decide, by decide +kernel⟩ rfl hR hc rfl hst hdg ?_
  rintro r σ2 z ⟨rfl, h2⟩
  exact k r z h2
/-! made -/
def w_made (σ : TS) (a1 : Int) (P : Int → TS → Prop) : Prop :=
  w_isTable (sF σ 0 0) a1 (fun y_1 =>
    ((¬ y_1 = 0 →
      w_laysTable (sF σ 0 0) a1 (fun σ_3 =>
        w_isMadeHere σ_3 (fun y_4 =>
          ((y_4 = 0 →
            P 0 σ_3) ∧
          (¬ y_4 = 0 →
            P 1 σ_3))))) ∧
    (y_1 = 0 →
      P (-1) (sF σ 0 0))))
set_option maxHeartbeats 4000000 in
theorem t_made {G : g_G} {l : Launch} {q : Nat → Nat} {σ : TS} {a1 : Int} {P : Int → TS → Prop} (h : w_made σ a1 P) : CT G l yX5_made cX5_made 2 (Option.some Jvm.ClassFile.FieldType.int) 3 0 0 [.ref (q 100), vI a1] [tw G q σ] (tR1 (P)) (fun u => [tw G q u.2]) := by
  unfold w_made at h
  refine ww_of (by decide) (Nat.le_of_ble_eq_true rfl) (fun fr => ?_)
  show WW G l cX5_made RX5 2 (Option.some Jvm.ClassFile.FieldType.int) "made" 3 0 0 (tR1 (P)) (tS G q fr) 0 0 [tw G q σ, fr] 0 [(0, .ref (q 100)), (1, vI a1)] []
  refine ww_aload_n dX5_made_0 0 rfl ?_
  refine ww_iconst dX5_made_1 ?_
  refine tp_0 dX5_made_2 ?_
  refine ww_aload_n dX5_made_5 0 rfl ?_
  refine ww_iload_n dX5_made_6 1 rfl ?_
  refine tc_isTable h ⟨Nat.le_of_ble_eq_true rfl, Nat.le_of_ble_eq_true rfl⟩ ⟨Nat.le_refl _, Nat.le_refl _⟩ (Nat.le_of_ble_eq_true rfl) dX5_made_7 (fun y_1 z_2 h => ?_)
  refine ww_if_ne (tgt := 15) dX5_made_10 (by decide) (z01 z_2) (fun c => ?_) (fun c => ?_)
  · replace h := h.1 c
    refine ww_aload_n dX5_made_15 0 rfl ?_
    refine ww_iload_n dX5_made_16 1 rfl ?_
    refine tc_laysTable h ⟨Nat.le_of_ble_eq_true rfl, Nat.le_of_ble_eq_true rfl⟩ ⟨Nat.le_refl _, Nat.le_refl _⟩ (Nat.le_of_ble_eq_true rfl) dX5_made_17 (fun σ_3 h => ?_)
    refine ww_aload_n dX5_made_20 0 rfl ?_
    refine tc_isMadeHere h ⟨Nat.le_of_ble_eq_true rfl, Nat.le_of_ble_eq_true rfl⟩ ⟨Nat.le_refl _, Nat.le_refl _⟩ (Nat.le_of_ble_eq_true rfl) dX5_made_21 (fun y_4 z_5 h => ?_)
    refine ww_if_eq (tgt := 31) dX5_made_24 (by decide) (z01 z_5) (fun c => ?_) (fun c => ?_)
    · replace h := h.1 c
      refine ww_iconst dX5_made_31 ?_
      exact ww_iret (0, σ_3) rfl ⟨rfl, h⟩ rfl (Nat.le_refl _) (Nat.le_refl _) dX5_made_32
    · replace h := h.2 c
      refine ww_iconst dX5_made_27 ?_
      refine ww_goto (tgt := 32) dX5_made_28 (by decide) ?_
      exact ww_iret (1, σ_3) rfl ⟨rfl, h⟩ rfl (Nat.le_refl _) (Nat.le_refl _) dX5_made_32
  · replace h := h.2 c
    refine ww_iconst dX5_made_13 ?_
    exact ww_iret ((-1), sF σ 0 0) rfl ⟨rfl, h⟩ rfl (Nat.le_refl _) (Nat.le_refl _) dX5_made_14

/-! plain -/
def w_plain (σ : TS) (a1 : Int) (P : Int → TS → Prop) : Prop :=
  w_isTable (sF σ 0 0) a1 (fun y_1 =>
    ((¬ y_1 = 0 →
      w_laysTable (sF σ 0 0) a1 (fun σ_3 =>
        ∃ I22 : Nat → Int → Prop, (∀ (n22 : Nat) (v2_22 : Int), I22 n22 v2_22 →
          rI v2_22 ∧
          (((bL 1 (tF σ_3 36)) ≤ v2_22 →
            P 1 σ_3) ∧
          (v2_22 < (bL 1 (tF σ_3 36)) →
            (0 ≤ v2_22 ∧ v2_22 < 16) ∧
            w_bits v2_22 (fun y_6 =>
              (0 ≤ (bL 1 y_6) - 1 ∧ (bL 1 y_6) - 1 < 16) ∧
              rI (tA σ_3 35 v2_22) ∧
              rI (tA σ_3 35 ((bL 1 y_6) - 1)) ∧
              (((tA σ_3 35 v2_22) = (tA σ_3 35 ((bL 1 y_6) - 1)) →
                ∃ m : Nat, m < n22 ∧ I22 m (v2_22 + 1)) ∧
              (¬ (tA σ_3 35 v2_22) = (tA σ_3 35 ((bL 1 y_6) - 1)) →
                P 0 σ_3)))))) ∧
        ∃ m : Nat, I22 m 0)) ∧
    (y_1 = 0 →
      P (-1) (sF σ 0 0))))
set_option maxHeartbeats 4000000 in
theorem t_plain {G : g_G} {l : Launch} {q : Nat → Nat} {σ : TS} {a1 : Int} {P : Int → TS → Prop} (h : w_plain σ a1 P) : CT G l yX5_plain cX5_plain 3 (Option.some Jvm.ClassFile.FieldType.int) 2 0 0 [.ref (q 100), vI a1] [tw G q σ] (tR1 (P)) (fun u => [tw G q u.2]) := by
  unfold w_plain at h
  refine ww_of (by decide) (Nat.le_of_ble_eq_true rfl) (fun fr => ?_)
  show WW G l cX5_plain RX5 3 (Option.some Jvm.ClassFile.FieldType.int) "plain" 2 0 0 (tR1 (P)) (tS G q fr) 0 0 [tw G q σ, fr] 0 [(0, .ref (q 100)), (1, vI a1)] []
  refine ww_aload_n dX5_plain_0 0 rfl ?_
  refine ww_iconst dX5_plain_1 ?_
  refine tp_0 dX5_plain_2 ?_
  refine ww_aload_n dX5_plain_5 0 rfl ?_
  refine ww_iload_n dX5_plain_6 1 rfl ?_
  refine tc_isTable h ⟨Nat.le_of_ble_eq_true rfl, Nat.le_of_ble_eq_true rfl⟩ ⟨Nat.le_refl _, Nat.le_refl _⟩ (Nat.le_of_ble_eq_true rfl) dX5_plain_7 (fun y_1 z_2 h => ?_)
  refine ww_if_ne (tgt := 15) dX5_plain_10 (by decide) (z01 z_2) (fun c => ?_) (fun c => ?_)
  · replace h := h.1 c
    refine ww_aload_n dX5_plain_15 0 rfl ?_
    refine ww_iload_n dX5_plain_16 1 rfl ?_
    refine tc_laysTable h ⟨Nat.le_of_ble_eq_true rfl, Nat.le_of_ble_eq_true rfl⟩ ⟨Nat.le_refl _, Nat.le_refl _⟩ (Nat.le_of_ble_eq_true rfl) dX5_plain_17 (fun σ_3 h => ?_)
    refine ww_iconst dX5_plain_20 ?_
    refine ww_istore_n dX5_plain_21 rfl (Nat.le_of_ble_eq_true rfl) rfl ?_
    obtain ⟨I22, hI22, h⟩ := h
    have kI22 : ∀ (n22 : Nat), ∀ (v2_22 : Int), I22 n22 v2_22 → WW G l cX5_plain RX5 3 (Option.some Jvm.ClassFile.FieldType.int) "plain" 2 0 0 (tR1 (P)) (tS G q fr) 0 0 [tw G q σ_3, fr] 22 [(0, .ref (q 100)), (2, vI v2_22)] [] := by
      intro n22
      induction n22 using Nat.strongRecOn with
      | ind n22 ih22 =>
        intro v2_22 hj
        have h := hI22 n22 v2_22 hj
        refine ww_iload_n dX5_plain_22 1 rfl ?_
        refine ww_iconst dX5_plain_23 ?_
        refine ww_aload_n dX5_plain_24 0 rfl ?_
        refine tg_36 dX5_plain_25 ?_
        refine ww_ishl dX5_plain_28 ?_
        obtain ⟨r_4, h⟩ := h
        refine ww_icmp_ge (tgt := 62) dX5_plain_29 (by decide) r_4 (rI_bL _ _) (fun c => ?_) (fun c => ?_)
        · replace h := h.1 c
          refine ww_iconst dX5_plain_62 ?_
          exact ww_iret (1, σ_3) rfl ⟨rfl, h⟩ rfl (Nat.le_refl _) (Nat.le_refl _) dX5_plain_63
        · replace h := h.2 (Int.not_le.mp c)
          refine ww_aload_n dX5_plain_32 0 rfl ?_
          refine tg_35 dX5_plain_33 ?_
          refine ww_iload_n dX5_plain_36 1 rfl ?_
          obtain ⟨r_5, h⟩ := h
          refine ta_35 r_5 dX5_plain_37 ?_
          refine ww_aload_n dX5_plain_38 0 rfl ?_
          refine tg_35 dX5_plain_39 ?_
          refine ww_iconst dX5_plain_42 ?_
          refine ww_iload_n dX5_plain_43 1 rfl ?_
          refine tc_bits h ⟨Nat.le_of_ble_eq_true rfl, Nat.le_of_ble_eq_true rfl⟩ ⟨Nat.le_refl _, Nat.le_refl _⟩ (Nat.le_of_ble_eq_true rfl) dX5_plain_44 (fun y_6 h => ?_)
          refine ww_ishl dX5_plain_47 ?_
          refine ww_iconst dX5_plain_48 ?_
          refine ww_isub dX5_plain_49 ?_
          obtain ⟨r_7, h⟩ := h
          refine ta_35 r_7 dX5_plain_50 ?_
          obtain ⟨r_8, r_9, h⟩ := h
          refine ww_icmp_eq (tgt := 56) dX5_plain_51 (by decide) r_8 r_9 (fun c => ?_) (fun c => ?_)
          · replace h := h.1 c
            refine ww_iinc dX5_plain_56 1 rfl (Nat.le_of_ble_eq_true rfl) rfl ?_
            refine ww_goto (tgt := 22) dX5_plain_59 (by decide) ?_
            refine ww_lv [1, 0] rfl ?_
            obtain ⟨m, hm, h⟩ := h
            exact ih22 m hm _ h
          · replace h := h.2 c
            refine ww_iconst dX5_plain_54 ?_
            exact ww_iret (0, σ_3) rfl ⟨rfl, h⟩ rfl (Nat.le_refl _) (Nat.le_refl _) dX5_plain_55
    refine ww_lv [1, 0] rfl ?_
    obtain ⟨m, h⟩ := h
    exact kI22 m _ h
  · replace h := h.2 c
    refine ww_iconst dX5_plain_13 ?_
    exact ww_iret ((-1), sF σ 0 0) rfl ⟨rfl, h⟩ rfl (Nat.le_refl _) (Nat.le_refl _) dX5_plain_14

/-! like -/
def w_like (σ : TS) (a1 : Int) (a2 : Int) (P : Int → TS → Prop) : Prop :=
  w_isTable (sF σ 0 0) a1 (fun y_1 =>
    ((y_1 = 0 →
      P (-1) (sF σ 0 0)) ∧
    (¬ y_1 = 0 →
      w_isTable (sF σ 0 0) a2 (fun y_3 =>
        ((¬ y_3 = 0 →
          (0 ≤ a1 ∧ a1 < 16) ∧
          (0 ≤ a2 ∧ a2 < 16) ∧
          rI (tA σ 20 a1) ∧
          rI (tA σ 20 a2) ∧
          (((tA σ 20 a1) = (tA σ 20 a2) →
            ∃ I42 : Nat → Int → Prop, (∀ (n42 : Nat) (v3_42 : Int), I42 n42 v3_42 →
              w_p (sF σ 0 0) (fun y_9 =>
                rI v3_42 ∧
                rI y_9 ∧
                ((y_9 ≤ v3_42 →
                  P 0 (sF σ 0 0)) ∧
                (v3_42 < y_9 →
                  ∃ I56 : Nat → Int → Int → Prop, (∀ (n56 : Nat) (v4_56 : Int) (v5_56 : Int), I56 n56 v4_56 v5_56 →
                    (0 ≤ a1 ∧ a1 < 16) ∧
                    rI v5_56 ∧
                    (((bL 1 (tA σ 20 a1)) ≤ v5_56 →
                      rI v4_56 ∧
                      ((v4_56 = 0 →
                        ∃ m : Nat, m < n42 ∧ I42 m (v3_42 + 1)) ∧
                      (¬ v4_56 = 0 →
                        P v3_42 (sF σ 0 0)))) ∧
                    (v5_56 < (bL 1 (tA σ 20 a1)) →
                      (0 ≤ (16 * a1) + v5_56 ∧ (16 * a1) + v5_56 < 256) ∧
                      (0 ≤ (16 * a2) + v5_56 ∧ (16 * a2) + v5_56 < 256) ∧
                      w_p (sF σ 0 0) (fun y_17 =>
                        (0 ≤ v3_42 * (tA σ 21 ((16 * a2) + v5_56)) ∧ (v3_42 * (tA σ 21 ((16 * a2) + v5_56))) < 2147483648 ∧ (0 : Int) < y_17 ∧ (y_17 : Int) < 2147483648) ∧
                        rI (tA σ 21 ((16 * a1) + v5_56)) ∧
                        rI ((v3_42 * (tA σ 21 ((16 * a2) + v5_56))) % y_17) ∧
                        ∃ J110 : Int → Prop, (∀ (s1_110 : Int), J110 s1_110 →
                          ∀ x_21 : Int, x_21 = bA v4_56 s1_110 →
                          ∃ m : Nat, m < n56 ∧ I56 m x_21 (v5_56 + 1)) ∧
                        ((¬ (tA σ 21 ((16 * a1) + v5_56)) = ((v3_42 * (tA σ 21 ((16 * a2) + v5_56))) % y_17) →
                          J110 0) ∧
                        ((tA σ 21 ((16 * a1) + v5_56)) = ((v3_42 * (tA σ 21 ((16 * a2) + v5_56))) % y_17) →
                          J110 1)))))) ∧
                  ∃ m : Nat, I56 m 1 0)))) ∧
            ∃ m : Nat, I42 m 1) ∧
          (¬ (tA σ 20 a1) = (tA σ 20 a2) →
            P 0 (sF σ 0 0)))) ∧
        (y_3 = 0 →
          P (-1) (sF σ 0 0)))))))
set_option maxHeartbeats 4000000 in
theorem t_like {G : g_G} {l : Launch} {q : Nat → Nat} {σ : TS} {a1 : Int} {a2 : Int} {P : Int → TS → Prop} (h : w_like σ a1 a2 P) : CT G l yX5_like cX5_like 6 (Option.some Jvm.ClassFile.FieldType.int) 2 0 0 [.ref (q 100), vI a1, vI a2] [tw G q σ] (tR1 (P)) (fun u => [tw G q u.2]) := by
  unfold w_like at h
  refine ww_of (by decide) (Nat.le_of_ble_eq_true rfl) (fun fr => ?_)
  show WW G l cX5_like RX5 6 (Option.some Jvm.ClassFile.FieldType.int) "like" 2 0 0 (tR1 (P)) (tS G q fr) 0 0 [tw G q σ, fr] 0 [(0, .ref (q 100)), (1, vI a1), (2, vI a2)] []
  refine ww_aload_n dX5_like_0 0 rfl ?_
  refine ww_iconst dX5_like_1 ?_
  refine tp_0 dX5_like_2 ?_
  refine ww_aload_n dX5_like_5 0 rfl ?_
  refine ww_iload_n dX5_like_6 1 rfl ?_
  refine tc_isTable h ⟨Nat.le_of_ble_eq_true rfl, Nat.le_of_ble_eq_true rfl⟩ ⟨Nat.le_refl _, Nat.le_refl _⟩ (Nat.le_of_ble_eq_true rfl) dX5_like_7 (fun y_1 z_2 h => ?_)
  refine ww_if_eq (tgt := 21) dX5_like_10 (by decide) (z01 z_2) (fun c => ?_) (fun c => ?_)
  · replace h := h.1 c
    refine ww_iconst dX5_like_21 ?_
    exact ww_iret ((-1), sF σ 0 0) rfl ⟨rfl, h⟩ rfl (Nat.le_refl _) (Nat.le_refl _) dX5_like_22
  · replace h := h.2 c
    refine ww_aload_n dX5_like_13 0 rfl ?_
    refine ww_iload_n dX5_like_14 2 rfl ?_
    refine tc_isTable h ⟨Nat.le_of_ble_eq_true rfl, Nat.le_of_ble_eq_true rfl⟩ ⟨Nat.le_refl _, Nat.le_refl _⟩ (Nat.le_of_ble_eq_true rfl) dX5_like_15 (fun y_3 z_4 h => ?_)
    refine ww_if_ne (tgt := 23) dX5_like_18 (by decide) (z01 z_4) (fun c => ?_) (fun c => ?_)
    · replace h := h.1 c
      refine ww_aload_n dX5_like_23 0 rfl ?_
      refine tg_20 dX5_like_24 ?_
      refine ww_iload_n dX5_like_27 1 rfl ?_
      obtain ⟨r_5, h⟩ := h
      refine ta_20 r_5 dX5_like_28 ?_
      refine ww_aload_n dX5_like_29 0 rfl ?_
      refine tg_20 dX5_like_30 ?_
      refine ww_iload_n dX5_like_33 2 rfl ?_
      obtain ⟨r_6, h⟩ := h
      refine ta_20 r_6 dX5_like_34 ?_
      obtain ⟨r_7, r_8, h⟩ := h
      refine ww_icmp_eq (tgt := 40) dX5_like_35 (by decide) r_7 r_8 (fun c => ?_) (fun c => ?_)
      · replace h := h.1 c
        refine ww_iconst dX5_like_40 ?_
        refine ww_istore_n dX5_like_41 rfl (Nat.le_of_ble_eq_true rfl) rfl ?_
        obtain ⟨I42, hI42, h⟩ := h
        have kI42 : ∀ (n42 : Nat), ∀ (v3_42 : Int), I42 n42 v3_42 → WW G l cX5_like RX5 6 (Option.some Jvm.ClassFile.FieldType.int) "like" 2 0 0 (tR1 (P)) (tS G q fr) 0 0 [tw G q (sF σ 0 0), fr] 42 [(0, .ref (q 100)), (1, vI a1), (2, vI a2), (3, vI v3_42)] [] := by
          intro n42
          induction n42 using Nat.strongRecOn with
          | ind n42 ih42 =>
            intro v3_42 hj
            have h := hI42 n42 v3_42 hj
            refine ww_iload_n dX5_like_42 3 rfl ?_
            refine ww_aload_n dX5_like_43 0 rfl ?_
            refine tc_p h ⟨Nat.le_of_ble_eq_true rfl, Nat.le_of_ble_eq_true rfl⟩ ⟨Nat.le_refl _, Nat.le_refl _⟩ (Nat.le_of_ble_eq_true rfl) dX5_like_44 (fun y_9 h => ?_)
            obtain ⟨r_10, r_11, h⟩ := h
            refine ww_icmp_ge (tgt := 132) dX5_like_47 (by decide) r_10 r_11 (fun c => ?_) (fun c => ?_)
            · replace h := h.1 c
              refine ww_iconst dX5_like_132 ?_
              exact ww_iret (0, sF σ 0 0) rfl ⟨rfl, h⟩ rfl (Nat.le_refl _) (Nat.le_refl _) dX5_like_133
            · replace h := h.2 (Int.not_le.mp c)
              refine ww_iconst dX5_like_50 ?_
              refine ww_istore dX5_like_51 (Nat.le_of_ble_eq_true rfl) rfl ?_
              refine ww_iconst dX5_like_53 ?_
              refine ww_istore dX5_like_54 (Nat.le_of_ble_eq_true rfl) rfl ?_
              obtain ⟨I56, hI56, h⟩ := h
              have kI56 : ∀ (n56 : Nat), ∀ (v4_56 : Int), ∀ (v5_56 : Int), I56 n56 v4_56 v5_56 → WW G l cX5_like RX5 6 (Option.some Jvm.ClassFile.FieldType.int) "like" 2 0 0 (tR1 (P)) (tS G q fr) 0 0 [tw G q (sF σ 0 0), fr] 56 [(0, .ref (q 100)), (1, vI a1), (2, vI a2), (3, vI v3_42), (4, vI v4_56), (5, vI v5_56)] [] := by
                intro n56
                induction n56 using Nat.strongRecOn with
                | ind n56 ih56 =>
                  intro v4_56 v5_56 hj
                  have h := hI56 n56 v4_56 v5_56 hj
                  refine ww_iload dX5_like_56 5 rfl ?_
                  refine ww_iconst dX5_like_58 ?_
                  refine ww_aload_n dX5_like_59 0 rfl ?_
                  refine tg_20 dX5_like_60 ?_
                  refine ww_iload_n dX5_like_63 1 rfl ?_
                  obtain ⟨r_12, h⟩ := h
                  refine ta_20 r_12 dX5_like_64 ?_
                  refine ww_ishl dX5_like_65 ?_
                  obtain ⟨r_13, h⟩ := h
                  refine ww_icmp_ge (tgt := 119) dX5_like_66 (by decide) r_13 (rI_bL _ _) (fun c => ?_) (fun c => ?_)
                  · replace h := h.1 c
                    refine ww_iload dX5_like_119 4 rfl ?_
                    obtain ⟨r_14, h⟩ := h
                    refine ww_if_eq (tgt := 126) dX5_like_121 (by decide) r_14 (fun c => ?_) (fun c => ?_)
                    · replace h := h.1 c
                      refine ww_iinc dX5_like_126 3 rfl (Nat.le_of_ble_eq_true rfl) rfl ?_
                      refine ww_goto (tgt := 42) dX5_like_129 (by decide) ?_
                      refine ww_lv [1, 2, 3, 0] rfl ?_
                      obtain ⟨m, hm, h⟩ := h
                      exact ih42 m hm _ h
                    · replace h := h.2 c
                      refine ww_iload_n dX5_like_124 3 rfl ?_
                      exact ww_iret (v3_42, sF σ 0 0) rfl ⟨rfl, h⟩ rfl (Nat.le_refl _) (Nat.le_refl _) dX5_like_125
                  · replace h := h.2 (Int.not_le.mp c)
                    refine ww_iload dX5_like_69 4 rfl ?_
                    refine ww_aload_n dX5_like_71 0 rfl ?_
                    refine tg_21 dX5_like_72 ?_
                    refine ww_bipush (v := 16) dX5_like_75 rfl ?_
                    refine ww_iload_n dX5_like_77 1 rfl ?_
                    refine ww_imul dX5_like_78 ?_
                    refine ww_iload dX5_like_79 5 rfl ?_
                    refine ww_iadd dX5_like_81 ?_
                    obtain ⟨r_15, h⟩ := h
                    refine ta_21 r_15 dX5_like_82 ?_
                    refine ww_iload_n dX5_like_83 3 rfl ?_
                    refine ww_aload_n dX5_like_84 0 rfl ?_
                    refine tg_21 dX5_like_85 ?_
                    refine ww_bipush (v := 16) dX5_like_88 rfl ?_
                    refine ww_iload_n dX5_like_90 2 rfl ?_
                    refine ww_imul dX5_like_91 ?_
                    refine ww_iload dX5_like_92 5 rfl ?_
                    refine ww_iadd dX5_like_94 ?_
                    obtain ⟨r_16, h⟩ := h
                    refine ta_21 r_16 dX5_like_95 ?_
                    refine ww_imul dX5_like_96 ?_
                    refine ww_aload_n dX5_like_97 0 rfl ?_
                    refine tc_p h ⟨Nat.le_of_ble_eq_true rfl, Nat.le_of_ble_eq_true rfl⟩ ⟨Nat.le_refl _, Nat.le_refl _⟩ (Nat.le_of_ble_eq_true rfl) dX5_like_98 (fun y_17 h => ?_)
                    obtain ⟨r_18, h⟩ := h
                    refine ww_irem dX5_like_101 r_18 ?_
                    obtain ⟨r_19, r_20, h⟩ := h
                    obtain ⟨J110, hJ110, h⟩ := h
                    have kJ110 : ∀ (s1_110 : Int), J110 s1_110 → WW G l cX5_like RX5 6 (Option.some Jvm.ClassFile.FieldType.int) "like" 2 0 0 (tR1 (P)) (tS G q fr) 0 0 [tw G q (sF σ 0 0), fr] 110 [(0, .ref (q 100)), (1, vI a1), (2, vI a2), (3, vI v3_42), (5, vI v5_56)] [vI s1_110, vI v4_56] := by
                      intro s1_110 hj
                      have h := hJ110 s1_110 hj
                      refine ww_iand dX5_like_110 ?_
                      refine ww_nmI (fun x_21 ex_21 => ?_)
                      replace h := h x_21 ex_21
                      have rx_21 : rI x_21 := by rw [ex_21]; exact (rI_bA _ _)
                      refine ww_istore dX5_like_111 (Nat.le_of_ble_eq_true rfl) rfl ?_
                      refine ww_iinc dX5_like_113 5 rfl (Nat.le_of_ble_eq_true rfl) rfl ?_
                      refine ww_goto (tgt := 56) dX5_like_116 (by decide) ?_
                      refine ww_lv [2, 3, 4, 5, 1, 0] rfl ?_
                      obtain ⟨m, hm, h⟩ := h
                      exact ih56 m hm _ _ h
                    refine ww_icmp_ne (tgt := 109) dX5_like_102 (by decide) r_19 r_20 (fun c => ?_) (fun c => ?_)
                    · replace h := h.1 c
                      refine ww_iconst dX5_like_109 ?_
                      refine ww_lv [0, 1, 2, 3, 5] rfl ?_
                      exact kJ110 _ h
                    · replace h := h.2 c
                      refine ww_iconst dX5_like_105 ?_
                      refine ww_goto (tgt := 110) dX5_like_106 (by decide) ?_
                      refine ww_lv [0, 1, 2, 3, 5] rfl ?_
                      exact kJ110 _ h
              refine ww_lv [2, 3, 4, 5, 1, 0] rfl ?_
              obtain ⟨m, h⟩ := h
              exact kI56 m _ _ h
        refine ww_lv [1, 2, 3, 0] rfl ?_
        obtain ⟨m, h⟩ := h
        exact kI42 m _ h
      · replace h := h.2 c
        refine ww_iconst dX5_like_38 ?_
        exact ww_iret (0, sF σ 0 0) rfl ⟨rfl, h⟩ rfl (Nat.le_refl _) (Nat.le_refl _) dX5_like_39
    · replace h := h.2 c
      refine ww_iconst dX5_like_21 ?_
      exact ww_iret ((-1), sF σ 0 0) rfl ⟨rfl, h⟩ rfl (Nat.le_refl _) (Nat.le_refl _) dX5_like_22

