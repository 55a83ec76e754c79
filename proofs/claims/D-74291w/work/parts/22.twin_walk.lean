/-! THE TWIN: weakest preconditions and walks (printed by tools/twin.py) -/
set_option maxRecDepth 100000
/-! thrown -/
def w_thrown (σ : TS) (P : Int → Prop) : Prop :=
  P (tF σ 0)
set_option maxHeartbeats 4000000 in
theorem t_thrown {G : g_G} {l : Launch} {q : Nat → Nat} {σ : TS} {P : Int → Prop} (h : w_thrown σ P) : CT G l yX5_thrown cX5_thrown 1 (Option.some Jvm.ClassFile.FieldType.int) 0 0 0 [.ref (q 100)] [tw G q σ] (tR1 (fun r s => s = σ ∧ P r)) (fun u => [tw G q u.2]) := by
  unfold w_thrown at h
  refine ww_of (by decide) (Nat.le_of_ble_eq_true rfl) (fun fr => ?_)
  show WW G l cX5_thrown RX5 1 (Option.some Jvm.ClassFile.FieldType.int) "thrown" 0 0 0 (tR1 (fun r s => s = σ ∧ P r)) (tS G q fr) 0 0 [tw G q σ, fr] 0 [(0, .ref (q 100))] []
  refine ww_aload_n dX5_thrown_0 0 rfl ?_
  refine tg_0 dX5_thrown_1 ?_
  exact ww_iret (tF σ 0, σ) rfl ⟨rfl, ⟨rfl, h⟩⟩ rfl (Nat.le_refl _) (Nat.le_refl _) dX5_thrown_4

/-! puts -/
def w_puts (σ : TS) (a1 : Int) (P : TS → Prop) : Prop :=
  ∃ I3 : Nat → Int → TS → Prop, (∀ (n3 : Nat) (v2_3 : Int) (σ3 : TS), I3 n3 v2_3 σ3 →
    rI v2_3 ∧
    ((v2_3 < 0 →
      P σ3) ∧
    (0 ≤ v2_3 →
      (0 ≤ tF σ3 2 ∧ tF σ3 2 < 700) ∧
      ∃ m : Nat, m < n3 ∧ I3 m (v2_3 + (-8)) (sF (sA σ3 1 (tF σ3 2) ((bR a1 v2_3).bmod 256)) 2 ((tF σ3 2) + 1))))) ∧
  ∃ m : Nat, I3 m 24 σ
set_option maxHeartbeats 4000000 in
theorem t_puts {G : g_G} {l : Launch} {q : Nat → Nat} {σ : TS} {a1 : Int} {P : TS → Prop} (h : w_puts σ a1 P) : CT G l yX5_puts cX5_puts 3 (Option.none : Option Jvm.ClassFile.FieldType) 0 0 0 [.ref (q 100), vI a1] [tw G q σ] (tR0 (fun _ s => P s)) (fun u => [tw G q u.2]) := by
  unfold w_puts at h
  refine ww_of (by decide) (Nat.le_of_ble_eq_true rfl) (fun fr => ?_)
  show WW G l cX5_puts RX5 3 (Option.none : Option Jvm.ClassFile.FieldType) "puts" 0 0 0 (tR0 (fun _ s => P s)) (tS G q fr) 0 0 [tw G q σ, fr] 0 [(0, .ref (q 100)), (1, vI a1)] []
  refine ww_bipush (v := 24) dX5_puts_0 rfl ?_
  refine ww_istore_n dX5_puts_2 rfl (Nat.le_of_ble_eq_true rfl) rfl ?_
  obtain ⟨I3, hI3, h⟩ := h
  have kI3 : ∀ (n3 : Nat), ∀ (v2_3 : Int), ∀ (σ3 : TS), I3 n3 v2_3 σ3 → WW G l cX5_puts RX5 3 (Option.none : Option Jvm.ClassFile.FieldType) "puts" 0 0 0 (tR0 (fun _ s => P s)) (tS G q fr) 0 0 [tw G q σ3, fr] 3 [(0, .ref (q 100)), (1, vI a1), (2, vI v2_3)] [] := by
    intro n3
    induction n3 using Nat.strongRecOn with
    | ind n3 ih3 =>
      intro v2_3 σ3 hj
      have h := hI3 n3 v2_3 σ3 hj
      refine ww_iload_n dX5_puts_3 2 rfl ?_
      obtain ⟨r_1, h⟩ := h
      refine ww_if_lt (tgt := 36) dX5_puts_4 (by decide) r_1 (fun c => ?_) (fun c => ?_)
      · replace h := h.1 c
        exact ww_vret (0, σ3) rfl ⟨rfl, h⟩ rfl (Nat.le_refl _) (Nat.le_refl _) dX5_puts_36
      · replace h := h.2 (Int.not_lt.mp c)
        refine ww_aload_n dX5_puts_7 0 rfl ?_
        refine tg_1 dX5_puts_8 ?_
        refine ww_aload_n dX5_puts_11 0 rfl ?_
        refine tg_2 dX5_puts_12 ?_
        refine ww_iload_n dX5_puts_15 1 rfl ?_
        refine ww_iload_n dX5_puts_16 2 rfl ?_
        refine ww_ishr dX5_puts_17 ?_
        refine ww_i2b dX5_puts_18 ?_
        obtain ⟨r_2, h⟩ := h
        refine ts_1 r_2 (b8 _) dX5_puts_19 ?_
        refine ww_aload_n dX5_puts_20 0 rfl ?_
        refine ww_dup dX5_puts_21 rfl ?_
        refine tg_2 dX5_puts_22 ?_
        refine ww_iconst dX5_puts_25 ?_
        refine ww_iadd dX5_puts_26 ?_
        refine tp_2 dX5_puts_27 ?_
        refine ww_iinc dX5_puts_30 2 rfl (Nat.le_of_ble_eq_true rfl) rfl ?_
        refine ww_goto (tgt := 3) dX5_puts_33 (by decide) ?_
        refine ww_lv [1, 2, 0] rfl ?_
        obtain ⟨m, hm, h⟩ := h
        exact ih3 m hm _ _ h
  refine ww_lv [1, 2, 0] rfl ?_
  obtain ⟨m, h⟩ := h
  exact kI3 m _ _ h
theorem tc_puts {S : Type} {G : g_G} {l : Launch} {cc : ByteArray} {nL : Nat} {ret : Option FieldType} {mn : String} {d mc ms : Nat} {R : Option Value → S → Prop} {sh : S → List va_W} {cells slots pc : Nat} {lv : List (Nat × Value)} {st : List Value} {q : Nat → Nat} {fr : va_W} {σ : TS} {a1 : Int} {P : TS → Prop} (h : w_puts σ a1 P) (hR : 0 + 1 ≤ d ∧ 16 + (3 + 11) + 100 * 0 ≤ 100 * d) (hc : cells ≤ mc ∧ slots ≤ ms) (hst : (st.map fun v => v.category).sum ≤ 16) (hdg : decode cc pc = .ok (.invokevirtual 95, 3)) (k : ∀ σ2, P σ2 → WW G l cc RX5 nL ret mn d mc ms R sh cells slots [tw G q σ2, fr] (pc + 3) lv (st)) : WW G l cc RX5 nL ret mn d mc ms R sh cells slots [tw G q σ, fr] pc lv (vI a1 :: .ref (q 100) :: st) := by
  refine tw_call0 (n := 1) (t_puts (q := q) h) (lw_V q2297 q2299 qs56 q117 q2300) ⟨rfl, by decide, by decide, by decide +kernel⟩ rfl hR hc rfl hst hdg ?_
  exact k
/-! feed -/
def w_feed (σ : TS) (a1 : Int) (a2 : Int) (a3 : Int) (a4 : Int) (a5 : Int) (P : Int → TS → Prop) : Prop :=
  rI ((tF σ 2) + 20) ∧
  ((((tF σ 2) + 20) ≤ 700 →
    w_puts (sF σ 0 0) a1 (fun σ_2 =>
      w_puts σ_2 a2 (fun σ_3 =>
        w_puts σ_3 a3 (fun σ_4 =>
          w_puts σ_4 a4 (fun σ_5 =>
            w_puts σ_5 a5 (fun σ_6 =>
              P (tF σ_6 2) σ_6)))))) ∧
  (700 < ((tF σ 2) + 20) →
    P (-1) (sF σ 0 0)))
set_option maxHeartbeats 4000000 in
theorem t_feed {G : g_G} {l : Launch} {q : Nat → Nat} {σ : TS} {a1 : Int} {a2 : Int} {a3 : Int} {a4 : Int} {a5 : Int} {P : Int → TS → Prop} (h : w_feed σ a1 a2 a3 a4 a5 P) : CT G l yX5_feed cX5_feed 6 (Option.some Jvm.ClassFile.FieldType.int) 1 0 0 [.ref (q 100), vI a1, vI a2, vI a3, vI a4, vI a5] [tw G q σ] (tR1 (P)) (fun u => [tw G q u.2]) := by
  unfold w_feed at h
  refine ww_of (by decide) (Nat.le_of_ble_eq_true rfl) (fun fr => ?_)
  show WW G l cX5_feed RX5 6 (Option.some Jvm.ClassFile.FieldType.int) "feed" 1 0 0 (tR1 (P)) (tS G q fr) 0 0 [tw G q σ, fr] 0 [(0, .ref (q 100)), (1, vI a1), (2, vI a2), (3, vI a3), (4, vI a4), (5, vI a5)] []
  refine ww_aload_n dX5_feed_0 0 rfl ?_
  refine ww_iconst dX5_feed_1 ?_
  refine tp_0 dX5_feed_2 ?_
  refine ww_aload_n dX5_feed_5 0 rfl ?_
  refine tg_2 dX5_feed_6 ?_
  refine ww_bipush (v := 20) dX5_feed_9 rfl ?_
  refine ww_iadd dX5_feed_11 ?_
  refine ww_sipush (v := 700) dX5_feed_12 rfl ?_
  obtain ⟨r_1, h⟩ := h
  refine ww_icmp_le (tgt := 20) dX5_feed_15 (by decide) r_1 (by decide) (fun c => ?_) (fun c => ?_)
  · replace h := h.1 c
    refine ww_aload_n dX5_feed_20 0 rfl ?_
    refine ww_iload_n dX5_feed_21 1 rfl ?_
    refine tc_puts h ⟨Nat.le_of_ble_eq_true rfl, Nat.le_of_ble_eq_true rfl⟩ ⟨Nat.le_refl _, Nat.le_refl _⟩ (Nat.le_of_ble_eq_true rfl) dX5_feed_22 (fun σ_2 h => ?_)
    refine ww_aload_n dX5_feed_25 0 rfl ?_
    refine ww_iload_n dX5_feed_26 2 rfl ?_
    refine tc_puts h ⟨Nat.le_of_ble_eq_true rfl, Nat.le_of_ble_eq_true rfl⟩ ⟨Nat.le_refl _, Nat.le_refl _⟩ (Nat.le_of_ble_eq_true rfl) dX5_feed_27 (fun σ_3 h => ?_)
    refine ww_aload_n dX5_feed_30 0 rfl ?_
    refine ww_iload_n dX5_feed_31 3 rfl ?_
    refine tc_puts h ⟨Nat.le_of_ble_eq_true rfl, Nat.le_of_ble_eq_true rfl⟩ ⟨Nat.le_refl _, Nat.le_refl _⟩ (Nat.le_of_ble_eq_true rfl) dX5_feed_32 (fun σ_4 h => ?_)
    refine ww_aload_n dX5_feed_35 0 rfl ?_
    refine ww_iload dX5_feed_36 4 rfl ?_
    refine tc_puts h ⟨Nat.le_of_ble_eq_true rfl, Nat.le_of_ble_eq_true rfl⟩ ⟨Nat.le_refl _, Nat.le_refl _⟩ (Nat.le_of_ble_eq_true rfl) dX5_feed_38 (fun σ_5 h => ?_)
    refine ww_aload_n dX5_feed_41 0 rfl ?_
    refine ww_iload dX5_feed_42 5 rfl ?_
    refine tc_puts h ⟨Nat.le_of_ble_eq_true rfl, Nat.le_of_ble_eq_true rfl⟩ ⟨Nat.le_refl _, Nat.le_refl _⟩ (Nat.le_of_ble_eq_true rfl) dX5_feed_44 (fun σ_6 h => ?_)
    refine ww_aload_n dX5_feed_47 0 rfl ?_
    refine tg_2 dX5_feed_48 ?_
    exact ww_iret (tF σ_6 2, σ_6) rfl ⟨rfl, h⟩ rfl (Nat.le_refl _) (Nat.le_refl _) dX5_feed_51
  · replace h := h.2 (Int.not_le.mp c)
    refine ww_iconst dX5_feed_18 ?_
    exact ww_iret ((-1), sF σ 0 0) rfl ⟨rfl, h⟩ rfl (Nat.le_refl _) (Nat.le_refl _) dX5_feed_19

/-! copies -/
def w_copies (σ : TS) (P : TS → Prop) : Prop :=
  ∃ I50 : Nat → Int → TS → Prop, (∀ (n50 : Nat) (v1_50 : Int) (σ50 : TS), I50 n50 v1_50 σ50 →
    rI v1_50 ∧
    ((8 ≤ v1_50 →
      ∃ I94 : Nat → Int → TS → Prop, (∀ (n94 : Nat) (v1_94 : Int) (σ94 : TS), I94 n94 v1_94 σ94 →
        rI v1_94 ∧
        ((128 ≤ v1_94 →
          ∃ I125 : Nat → Int → TS → Prop, (∀ (n125 : Nat) (v1_125 : Int) (σ125 : TS), I125 n125 v1_125 σ125 →
            rI v1_125 ∧
            ((5 ≤ v1_125 →
              ∃ I152 : Nat → Int → TS → Prop, (∀ (n152 : Nat) (v1_152 : Int) (σ152 : TS), I152 n152 v1_152 σ152 →
                rI v1_152 ∧
                ((20 ≤ v1_152 →
                  ∃ I181 : Nat → Int → TS → Prop, (∀ (n181 : Nat) (v1_181 : Int) (σ181 : TS), I181 n181 v1_181 σ181 →
                    rI v1_181 ∧
                    ((117 ≤ v1_181 →
                      ∃ I202 : Nat → Int → TS → Prop, (∀ (n202 : Nat) (v1_202 : Int) (σ202 : TS), I202 n202 v1_202 σ202 →
                        rI v1_202 ∧
                        rI (tA σ202 16 0) ∧
                        (((tA σ202 16 0) ≤ v1_202 →
                          ∃ I291 : Nat → Int → TS → Prop, (∀ (n291 : Nat) (v1_291 : Int) (σ291 : TS), I291 n291 v1_291 σ291 →
                            rI v1_291 ∧
                            rI (2 * (tF σ291 24)) ∧
                            (((2 * (tF σ291 24)) ≤ v1_291 →
                              P (sA σ291 30 116 (tF σ291 24))) ∧
                            (v1_291 < (2 * (tF σ291 24)) →
                              (0 ≤ v1_291 ∧ v1_291 < 20) ∧
                              (0 ≤ 96 + v1_291 ∧ 96 + v1_291 < 117) ∧
                              ∃ m : Nat, m < n291 ∧ I291 m (v1_291 + 1) (sA σ291 30 (96 + v1_291) (tA σ291 25 v1_291))))) ∧
                          ∃ m : Nat, I291 m 0 σ202) ∧
                        (v1_202 < (tA σ202 16 0) →
                          (0 ≤ 6 + v1_202 ∧ 6 + v1_202 < 12) ∧
                          (0 ≤ v1_202 ∧ v1_202 < 12) ∧
                          (0 ≤ 6 + v1_202 ∧ 6 + v1_202 < 12) ∧
                          (0 ≤ v1_202 ∧ v1_202 < 12) ∧
                          ∃ I244 : Nat → Int → TS → Prop, (∀ (n244 : Nat) (v2_244 : Int) (σ244 : TS), I244 n244 v2_244 σ244 →
                            rI v2_244 ∧
                            ((16 ≤ v2_244 →
                              ∃ m : Nat, m < n202 ∧ I202 m (v1_202 + 1) σ244) ∧
                            (v2_244 < 16 →
                              (0 ≤ v1_202 ∧ v1_202 < 12) ∧
                              (0 ≤ (16 * (tA σ244 23 v1_202)) + v2_244 ∧ (16 * (tA σ244 23 v1_202)) + v2_244 < 256) ∧
                              (0 ≤ (16 * v1_202) + v2_244 ∧ (16 * v1_202) + v2_244 < 117) ∧
                              ∃ m : Nat, m < n244 ∧ I244 m (v2_244 + 1) (sA σ244 30 ((16 * v1_202) + v2_244) (tA σ244 21 ((16 * (tA σ244 23 v1_202)) + v2_244)))))) ∧
                          ∃ m : Nat, I244 m 0 (sA (sA σ202 19 v1_202 (tA σ202 19 (6 + v1_202))) 23 v1_202 (tA σ202 23 (6 + v1_202)))))) ∧
                      ∃ m : Nat, I202 m 0 σ181) ∧
                    (v1_181 < 117 →
                      (0 ≤ v1_181 ∧ v1_181 < 117) ∧
                      ∃ m : Nat, m < n181 ∧ I181 m (v1_181 + 1) (sA σ181 30 v1_181 0)))) ∧
                  ∃ m : Nat, I181 m 0 σ152) ∧
                (v1_152 < 20 →
                  (0 ≤ 20 + v1_152 ∧ 20 + v1_152 < 40) ∧
                  (0 ≤ v1_152 ∧ v1_152 < 40) ∧
                  ∃ m : Nat, m < n152 ∧ I152 m (v1_152 + 1) (sA σ152 22 v1_152 (tA σ152 22 (20 + v1_152)))))) ∧
              ∃ m : Nat, I152 m 0 σ125) ∧
            (v1_125 < 5 →
              (0 ≤ 5 + v1_125 ∧ 5 + v1_125 < 10) ∧
              (0 ≤ v1_125 ∧ v1_125 < 10) ∧
              ∃ m : Nat, m < n125 ∧ I125 m (v1_125 + 1) (sA σ125 18 v1_125 (tA σ125 18 (5 + v1_125)))))) ∧
          ∃ m : Nat, I125 m 0 σ94) ∧
        (v1_94 < 128 →
          (0 ≤ 128 + v1_94 ∧ 128 + v1_94 < 256) ∧
          (0 ≤ v1_94 ∧ v1_94 < 256) ∧
          ∃ m : Nat, m < n94 ∧ I94 m (v1_94 + 1) (sA σ94 21 v1_94 (tA σ94 21 (128 + v1_94)))))) ∧
      ∃ m : Nat, I94 m 0 σ50) ∧
    (v1_50 < 8 →
      (0 ≤ 8 + v1_50 ∧ 8 + v1_50 < 16) ∧
      (0 ≤ v1_50 ∧ v1_50 < 16) ∧
      (0 ≤ 8 + v1_50 ∧ 8 + v1_50 < 16) ∧
      (0 ≤ v1_50 ∧ v1_50 < 16) ∧
      ∃ m : Nat, m < n50 ∧ I50 m (v1_50 + 1) (sA (sA σ50 17 v1_50 (tA σ50 17 (8 + v1_50))) 20 v1_50 (tA σ50 20 (8 + v1_50)))))) ∧
  ∃ m : Nat, I50 m 0 (sA (sA (sA (sA σ 13 0 (tA σ 13 1)) 14 0 (tA σ 14 1)) 15 0 (tA σ 15 1)) 16 0 (tA σ 16 1))
set_option maxHeartbeats 4000000 in
theorem t_copies {G : g_G} {l : Launch} {q : Nat → Nat} {σ : TS} {P : TS → Prop} (h : w_copies σ P) : CT G l yX5_copies cX5_copies 3 (Option.none : Option Jvm.ClassFile.FieldType) 0 0 0 [.ref (q 100)] [tw G q σ] (tR0 (fun _ s => P s)) (fun u => [tw G q u.2]) := by
  unfold w_copies at h
  refine ww_of (by decide) (Nat.le_of_ble_eq_true rfl) (fun fr => ?_)
  show WW G l cX5_copies RX5 3 (Option.none : Option Jvm.ClassFile.FieldType) "copies" 0 0 0 (tR0 (fun _ s => P s)) (tS G q fr) 0 0 [tw G q σ, fr] 0 [(0, .ref (q 100))] []
  refine ww_aload_n dX5_copies_0 0 rfl ?_
  refine tg_13 dX5_copies_1 ?_
  refine ww_iconst dX5_copies_4 ?_
  refine ww_aload_n dX5_copies_5 0 rfl ?_
  refine tg_13 dX5_copies_6 ?_
  refine ww_iconst dX5_copies_9 ?_
  refine ta_13 ⟨by decide, by decide⟩ dX5_copies_10 ?_
  refine ts_13 ⟨by decide, by decide⟩ dX5_copies_11 ?_
  refine ww_aload_n dX5_copies_12 0 rfl ?_
  refine tg_14 dX5_copies_13 ?_
  refine ww_iconst dX5_copies_16 ?_
  refine ww_aload_n dX5_copies_17 0 rfl ?_
  refine tg_14 dX5_copies_18 ?_
  refine ww_iconst dX5_copies_21 ?_
  refine ta_14 ⟨by decide, by decide⟩ dX5_copies_22 ?_
  refine ts_14 ⟨by decide, by decide⟩ dX5_copies_23 ?_
  refine ww_aload_n dX5_copies_24 0 rfl ?_
  refine tg_15 dX5_copies_25 ?_
  refine ww_iconst dX5_copies_28 ?_
  refine ww_aload_n dX5_copies_29 0 rfl ?_
  refine tg_15 dX5_copies_30 ?_
  refine ww_iconst dX5_copies_33 ?_
  refine ta_15 ⟨by decide, by decide⟩ dX5_copies_34 ?_
  refine ts_15 ⟨by decide, by decide⟩ dX5_copies_35 ?_
  refine ww_aload_n dX5_copies_36 0 rfl ?_
  refine tg_16 dX5_copies_37 ?_
  refine ww_iconst dX5_copies_40 ?_
  refine ww_aload_n dX5_copies_41 0 rfl ?_
  refine tg_16 dX5_copies_42 ?_
  refine ww_iconst dX5_copies_45 ?_
  refine ta_16 ⟨by decide, by decide⟩ dX5_copies_46 ?_
  refine ts_16 ⟨by decide, by decide⟩ dX5_copies_47 ?_
  refine ww_iconst dX5_copies_48 ?_
  refine ww_istore_n dX5_copies_49 rfl (Nat.le_of_ble_eq_true rfl) rfl ?_
  obtain ⟨I50, hI50, h⟩ := h
  have kI50 : ∀ (n50 : Nat), ∀ (v1_50 : Int), ∀ (σ50 : TS), I50 n50 v1_50 σ50 → WW G l cX5_copies RX5 3 (Option.none : Option Jvm.ClassFile.FieldType) "copies" 0 0 0 (tR0 (fun _ s => P s)) (tS G q fr) 0 0 [tw G q σ50, fr] 50 [(0, .ref (q 100)), (1, vI v1_50)] [] := by
    intro n50
    induction n50 using Nat.strongRecOn with
    | ind n50 ih50 =>
      intro v1_50 σ50 hj
      have h := hI50 n50 v1_50 σ50 hj
      refine ww_iload_n dX5_copies_50 1 rfl ?_
      refine ww_bipush (v := 8) dX5_copies_51 rfl ?_
      obtain ⟨r_1, h⟩ := h
      refine ww_icmp_ge (tgt := 92) dX5_copies_53 (by decide) r_1 (by decide) (fun c => ?_) (fun c => ?_)
      · replace h := h.1 c
        refine ww_iconst dX5_copies_92 ?_
        refine ww_istore_n dX5_copies_93 rfl (Nat.le_of_ble_eq_true rfl) rfl ?_
        obtain ⟨I94, hI94, h⟩ := h
        have kI94 : ∀ (n94 : Nat), ∀ (v1_94 : Int), ∀ (σ94 : TS), I94 n94 v1_94 σ94 → WW G l cX5_copies RX5 3 (Option.none : Option Jvm.ClassFile.FieldType) "copies" 0 0 0 (tR0 (fun _ s => P s)) (tS G q fr) 0 0 [tw G q σ94, fr] 94 [(0, .ref (q 100)), (1, vI v1_94)] [] := by
          intro n94
          induction n94 using Nat.strongRecOn with
          | ind n94 ih94 =>
            intro v1_94 σ94 hj
            have h := hI94 n94 v1_94 σ94 hj
            refine ww_iload_n dX5_copies_94 1 rfl ?_
            refine ww_sipush (v := 128) dX5_copies_95 rfl ?_
            obtain ⟨r_2, h⟩ := h
            refine ww_icmp_ge (tgt := 123) dX5_copies_98 (by decide) r_2 (by decide) (fun c => ?_) (fun c => ?_)
            · replace h := h.1 c
              refine ww_iconst dX5_copies_123 ?_
              refine ww_istore_n dX5_copies_124 rfl (Nat.le_of_ble_eq_true rfl) rfl ?_
              obtain ⟨I125, hI125, h⟩ := h
              have kI125 : ∀ (n125 : Nat), ∀ (v1_125 : Int), ∀ (σ125 : TS), I125 n125 v1_125 σ125 → WW G l cX5_copies RX5 3 (Option.none : Option Jvm.ClassFile.FieldType) "copies" 0 0 0 (tR0 (fun _ s => P s)) (tS G q fr) 0 0 [tw G q σ125, fr] 125 [(0, .ref (q 100)), (1, vI v1_125)] [] := by
                intro n125
                induction n125 using Nat.strongRecOn with
                | ind n125 ih125 =>
                  intro v1_125 σ125 hj
                  have h := hI125 n125 v1_125 σ125 hj
                  refine ww_iload_n dX5_copies_125 1 rfl ?_
                  refine ww_iconst dX5_copies_126 ?_
                  obtain ⟨r_3, h⟩ := h
                  refine ww_icmp_ge (tgt := 150) dX5_copies_127 (by decide) r_3 (by decide) (fun c => ?_) (fun c => ?_)
                  · replace h := h.1 c
                    refine ww_iconst dX5_copies_150 ?_
                    refine ww_istore_n dX5_copies_151 rfl (Nat.le_of_ble_eq_true rfl) rfl ?_
                    obtain ⟨I152, hI152, h⟩ := h
                    have kI152 : ∀ (n152 : Nat), ∀ (v1_152 : Int), ∀ (σ152 : TS), I152 n152 v1_152 σ152 → WW G l cX5_copies RX5 3 (Option.none : Option Jvm.ClassFile.FieldType) "copies" 0 0 0 (tR0 (fun _ s => P s)) (tS G q fr) 0 0 [tw G q σ152, fr] 152 [(0, .ref (q 100)), (1, vI v1_152)] [] := by
                      intro n152
                      induction n152 using Nat.strongRecOn with
                      | ind n152 ih152 =>
                        intro v1_152 σ152 hj
                        have h := hI152 n152 v1_152 σ152 hj
                        refine ww_iload_n dX5_copies_152 1 rfl ?_
                        refine ww_bipush (v := 20) dX5_copies_153 rfl ?_
                        obtain ⟨r_4, h⟩ := h
                        refine ww_icmp_ge (tgt := 179) dX5_copies_155 (by decide) r_4 (by decide) (fun c => ?_) (fun c => ?_)
                        · replace h := h.1 c
                          refine ww_iconst dX5_copies_179 ?_
                          refine ww_istore_n dX5_copies_180 rfl (Nat.le_of_ble_eq_true rfl) rfl ?_
                          obtain ⟨I181, hI181, h⟩ := h
                          have kI181 : ∀ (n181 : Nat), ∀ (v1_181 : Int), ∀ (σ181 : TS), I181 n181 v1_181 σ181 → WW G l cX5_copies RX5 3 (Option.none : Option Jvm.ClassFile.FieldType) "copies" 0 0 0 (tR0 (fun _ s => P s)) (tS G q fr) 0 0 [tw G q σ181, fr] 181 [(0, .ref (q 100)), (1, vI v1_181)] [] := by
                            intro n181
                            induction n181 using Nat.strongRecOn with
                            | ind n181 ih181 =>
                              intro v1_181 σ181 hj
                              have h := hI181 n181 v1_181 σ181 hj
                              refine ww_iload_n dX5_copies_181 1 rfl ?_
                              refine ww_bipush (v := 117) dX5_copies_182 rfl ?_
                              obtain ⟨r_5, h⟩ := h
                              refine ww_icmp_ge (tgt := 200) dX5_copies_184 (by decide) r_5 (by decide) (fun c => ?_) (fun c => ?_)
                              · replace h := h.1 c
                                refine ww_iconst dX5_copies_200 ?_
                                refine ww_istore_n dX5_copies_201 rfl (Nat.le_of_ble_eq_true rfl) rfl ?_
                                obtain ⟨I202, hI202, h⟩ := h
                                have kI202 : ∀ (n202 : Nat), ∀ (v1_202 : Int), ∀ (σ202 : TS), I202 n202 v1_202 σ202 → WW G l cX5_copies RX5 3 (Option.none : Option Jvm.ClassFile.FieldType) "copies" 0 0 0 (tR0 (fun _ s => P s)) (tS G q fr) 0 0 [tw G q σ202, fr] 202 [(0, .ref (q 100)), (1, vI v1_202)] [] := by
                                  intro n202
                                  induction n202 using Nat.strongRecOn with
                                  | ind n202 ih202 =>
                                    intro v1_202 σ202 hj
                                    have h := hI202 n202 v1_202 σ202 hj
                                    refine ww_iload_n dX5_copies_202 1 rfl ?_
                                    refine ww_aload_n dX5_copies_203 0 rfl ?_
                                    refine tg_16 dX5_copies_204 ?_
                                    refine ww_iconst dX5_copies_207 ?_
                                    refine ta_16 ⟨by decide, by decide⟩ dX5_copies_208 ?_
                                    obtain ⟨r_6, r_7, h⟩ := h
                                    refine ww_icmp_ge (tgt := 289) dX5_copies_209 (by decide) r_6 r_7 (fun c => ?_) (fun c => ?_)
                                    · replace h := h.1 c
                                      refine ww_iconst dX5_copies_289 ?_
                                      refine ww_istore_n dX5_copies_290 rfl (Nat.le_of_ble_eq_true rfl) rfl ?_
                                      obtain ⟨I291, hI291, h⟩ := h
                                      have kI291 : ∀ (n291 : Nat), ∀ (v1_291 : Int), ∀ (σ291 : TS), I291 n291 v1_291 σ291 → WW G l cX5_copies RX5 3 (Option.none : Option Jvm.ClassFile.FieldType) "copies" 0 0 0 (tR0 (fun _ s => P s)) (tS G q fr) 0 0 [tw G q σ291, fr] 291 [(0, .ref (q 100)), (1, vI v1_291)] [] := by
                                        intro n291
                                        induction n291 using Nat.strongRecOn with
                                        | ind n291 ih291 =>
                                          intro v1_291 σ291 hj
                                          have h := hI291 n291 v1_291 σ291 hj
                                          refine ww_iload_n dX5_copies_291 1 rfl ?_
                                          refine ww_iconst dX5_copies_292 ?_
                                          refine ww_aload_n dX5_copies_293 0 rfl ?_
                                          refine tg_24 dX5_copies_294 ?_
                                          refine ww_imul dX5_copies_297 ?_
                                          obtain ⟨r_8, r_9, h⟩ := h
                                          refine ww_icmp_ge (tgt := 322) dX5_copies_298 (by decide) r_8 r_9 (fun c => ?_) (fun c => ?_)
                                          · replace h := h.1 c
                                            refine ww_aload_n dX5_copies_322 0 rfl ?_
                                            refine tg_30 dX5_copies_323 ?_
                                            refine ww_bipush (v := 116) dX5_copies_326 rfl ?_
                                            refine ww_aload_n dX5_copies_328 0 rfl ?_
                                            refine tg_24 dX5_copies_329 ?_
                                            refine ts_30 ⟨by decide, by decide⟩ dX5_copies_332 ?_
                                            exact ww_vret (0, sA σ291 30 116 (tF σ291 24)) rfl ⟨rfl, h⟩ rfl (Nat.le_refl _) (Nat.le_refl _) dX5_copies_333
                                          · replace h := h.2 (Int.not_le.mp c)
                                            refine ww_aload_n dX5_copies_301 0 rfl ?_
                                            refine tg_30 dX5_copies_302 ?_
                                            refine ww_bipush (v := 96) dX5_copies_305 rfl ?_
                                            refine ww_iload_n dX5_copies_307 1 rfl ?_
                                            refine ww_iadd dX5_copies_308 ?_
                                            refine ww_aload_n dX5_copies_309 0 rfl ?_
                                            refine tg_25 dX5_copies_310 ?_
                                            refine ww_iload_n dX5_copies_313 1 rfl ?_
                                            obtain ⟨r_10, h⟩ := h
                                            refine ta_25 r_10 dX5_copies_314 ?_
                                            obtain ⟨r_11, h⟩ := h
                                            refine ts_30 r_11 dX5_copies_315 ?_
                                            refine ww_iinc dX5_copies_316 1 rfl (Nat.le_of_ble_eq_true rfl) rfl ?_
                                            refine ww_goto (tgt := 291) dX5_copies_319 (by decide) ?_
                                            refine ww_lv [1, 0] rfl ?_
                                            obtain ⟨m, hm, h⟩ := h
                                            exact ih291 m hm _ _ h
                                      refine ww_lv [1, 0] rfl ?_
                                      obtain ⟨m, h⟩ := h
                                      exact kI291 m _ _ h
                                    · replace h := h.2 (Int.not_le.mp c)
                                      refine ww_aload_n dX5_copies_212 0 rfl ?_
                                      refine tg_19 dX5_copies_213 ?_
                                      refine ww_iload_n dX5_copies_216 1 rfl ?_
                                      refine ww_aload_n dX5_copies_217 0 rfl ?_
                                      refine tg_19 dX5_copies_218 ?_
                                      refine ww_bipush (v := 6) dX5_copies_221 rfl ?_
                                      refine ww_iload_n dX5_copies_223 1 rfl ?_
                                      refine ww_iadd dX5_copies_224 ?_
                                      obtain ⟨r_12, h⟩ := h
                                      refine ta_19 r_12 dX5_copies_225 ?_
                                      obtain ⟨r_13, h⟩ := h
                                      refine ts_19 r_13 dX5_copies_226 ?_
                                      refine ww_aload_n dX5_copies_227 0 rfl ?_
                                      refine tg_23 dX5_copies_228 ?_
                                      refine ww_iload_n dX5_copies_231 1 rfl ?_
                                      refine ww_aload_n dX5_copies_232 0 rfl ?_
                                      refine tg_23 dX5_copies_233 ?_
                                      refine ww_bipush (v := 6) dX5_copies_236 rfl ?_
                                      refine ww_iload_n dX5_copies_238 1 rfl ?_
                                      refine ww_iadd dX5_copies_239 ?_
                                      obtain ⟨r_14, h⟩ := h
                                      refine ta_23 r_14 dX5_copies_240 ?_
                                      obtain ⟨r_15, h⟩ := h
                                      refine ts_23 r_15 dX5_copies_241 ?_
                                      refine ww_iconst dX5_copies_242 ?_
                                      refine ww_istore_n dX5_copies_243 rfl (Nat.le_of_ble_eq_true rfl) rfl ?_
                                      obtain ⟨I244, hI244, h⟩ := h
                                      have kI244 : ∀ (n244 : Nat), ∀ (v2_244 : Int), ∀ (σ244 : TS), I244 n244 v2_244 σ244 → WW G l cX5_copies RX5 3 (Option.none : Option Jvm.ClassFile.FieldType) "copies" 0 0 0 (tR0 (fun _ s => P s)) (tS G q fr) 0 0 [tw G q σ244, fr] 244 [(0, .ref (q 100)), (1, vI v1_202), (2, vI v2_244)] [] := by
                                        intro n244
                                        induction n244 using Nat.strongRecOn with
                                        | ind n244 ih244 =>
                                          intro v2_244 σ244 hj
                                          have h := hI244 n244 v2_244 σ244 hj
                                          refine ww_iload_n dX5_copies_244 2 rfl ?_
                                          refine ww_bipush (v := 16) dX5_copies_245 rfl ?_
                                          obtain ⟨r_16, h⟩ := h
                                          refine ww_icmp_ge (tgt := 283) dX5_copies_247 (by decide) r_16 (by decide) (fun c => ?_) (fun c => ?_)
                                          · replace h := h.1 c
                                            refine ww_iinc dX5_copies_283 1 rfl (Nat.le_of_ble_eq_true rfl) rfl ?_
                                            refine ww_goto (tgt := 202) dX5_copies_286 (by decide) ?_
                                            refine ww_lv [1, 0] rfl ?_
                                            obtain ⟨m, hm, h⟩ := h
                                            exact ih202 m hm _ _ h
                                          · replace h := h.2 (Int.not_le.mp c)
                                            refine ww_aload_n dX5_copies_250 0 rfl ?_
                                            refine tg_30 dX5_copies_251 ?_
                                            refine ww_bipush (v := 16) dX5_copies_254 rfl ?_
                                            refine ww_iload_n dX5_copies_256 1 rfl ?_
                                            refine ww_imul dX5_copies_257 ?_
                                            refine ww_iload_n dX5_copies_258 2 rfl ?_
                                            refine ww_iadd dX5_copies_259 ?_
                                            refine ww_aload_n dX5_copies_260 0 rfl ?_
                                            refine tg_21 dX5_copies_261 ?_
                                            refine ww_bipush (v := 16) dX5_copies_264 rfl ?_
                                            refine ww_aload_n dX5_copies_266 0 rfl ?_
                                            refine tg_23 dX5_copies_267 ?_
                                            refine ww_iload_n dX5_copies_270 1 rfl ?_
                                            obtain ⟨r_17, h⟩ := h
                                            refine ta_23 r_17 dX5_copies_271 ?_
                                            refine ww_imul dX5_copies_272 ?_
                                            refine ww_iload_n dX5_copies_273 2 rfl ?_
                                            refine ww_iadd dX5_copies_274 ?_
                                            obtain ⟨r_18, h⟩ := h
                                            refine ta_21 r_18 dX5_copies_275 ?_
                                            obtain ⟨r_19, h⟩ := h
                                            refine ts_30 r_19 dX5_copies_276 ?_
                                            refine ww_iinc dX5_copies_277 2 rfl (Nat.le_of_ble_eq_true rfl) rfl ?_
                                            refine ww_goto (tgt := 244) dX5_copies_280 (by decide) ?_
                                            refine ww_lv [1, 2, 0] rfl ?_
                                            obtain ⟨m, hm, h⟩ := h
                                            exact ih244 m hm _ _ h
                                      refine ww_lv [1, 2, 0] rfl ?_
                                      obtain ⟨m, h⟩ := h
                                      exact kI244 m _ _ h
                                refine ww_lv [1, 0] rfl ?_
                                obtain ⟨m, h⟩ := h
                                exact kI202 m _ _ h
                              · replace h := h.2 (Int.not_le.mp c)
                                refine ww_aload_n dX5_copies_187 0 rfl ?_
                                refine tg_30 dX5_copies_188 ?_
                                refine ww_iload_n dX5_copies_191 1 rfl ?_
                                refine ww_iconst dX5_copies_192 ?_
                                obtain ⟨r_20, h⟩ := h
                                refine ts_30 r_20 dX5_copies_193 ?_
                                refine ww_iinc dX5_copies_194 1 rfl (Nat.le_of_ble_eq_true rfl) rfl ?_
                                refine ww_goto (tgt := 181) dX5_copies_197 (by decide) ?_
                                refine ww_lv [1, 0] rfl ?_
                                obtain ⟨m, hm, h⟩ := h
                                exact ih181 m hm _ _ h
                          refine ww_lv [1, 0] rfl ?_
                          obtain ⟨m, h⟩ := h
                          exact kI181 m _ _ h
                        · replace h := h.2 (Int.not_le.mp c)
                          refine ww_aload_n dX5_copies_158 0 rfl ?_
                          refine tg_22 dX5_copies_159 ?_
                          refine ww_iload_n dX5_copies_162 1 rfl ?_
                          refine ww_aload_n dX5_copies_163 0 rfl ?_
                          refine tg_22 dX5_copies_164 ?_
                          refine ww_bipush (v := 20) dX5_copies_167 rfl ?_
                          refine ww_iload_n dX5_copies_169 1 rfl ?_
                          refine ww_iadd dX5_copies_170 ?_
                          obtain ⟨r_21, h⟩ := h
                          refine ta_22 r_21 dX5_copies_171 ?_
                          obtain ⟨r_22, h⟩ := h
                          refine ts_22 r_22 dX5_copies_172 ?_
                          refine ww_iinc dX5_copies_173 1 rfl (Nat.le_of_ble_eq_true rfl) rfl ?_
                          refine ww_goto (tgt := 152) dX5_copies_176 (by decide) ?_
                          refine ww_lv [1, 0] rfl ?_
                          obtain ⟨m, hm, h⟩ := h
                          exact ih152 m hm _ _ h
                    refine ww_lv [1, 0] rfl ?_
                    obtain ⟨m, h⟩ := h
                    exact kI152 m _ _ h
                  · replace h := h.2 (Int.not_le.mp c)
                    refine ww_aload_n dX5_copies_130 0 rfl ?_
                    refine tg_18 dX5_copies_131 ?_
                    refine ww_iload_n dX5_copies_134 1 rfl ?_
                    refine ww_aload_n dX5_copies_135 0 rfl ?_
                    refine tg_18 dX5_copies_136 ?_
                    refine ww_iconst dX5_copies_139 ?_
                    refine ww_iload_n dX5_copies_140 1 rfl ?_
                    refine ww_iadd dX5_copies_141 ?_
                    obtain ⟨r_23, h⟩ := h
                    refine ta_18 r_23 dX5_copies_142 ?_
                    obtain ⟨r_24, h⟩ := h
                    refine ts_18 r_24 dX5_copies_143 ?_
                    refine ww_iinc dX5_copies_144 1 rfl (Nat.le_of_ble_eq_true rfl) rfl ?_
                    refine ww_goto (tgt := 125) dX5_copies_147 (by decide) ?_
                    refine ww_lv [1, 0] rfl ?_
                    obtain ⟨m, hm, h⟩ := h
                    exact ih125 m hm _ _ h
              refine ww_lv [1, 0] rfl ?_
              obtain ⟨m, h⟩ := h
              exact kI125 m _ _ h
            · replace h := h.2 (Int.not_le.mp c)
              refine ww_aload_n dX5_copies_101 0 rfl ?_
              refine tg_21 dX5_copies_102 ?_
              refine ww_iload_n dX5_copies_105 1 rfl ?_
              refine ww_aload_n dX5_copies_106 0 rfl ?_
              refine tg_21 dX5_copies_107 ?_
              refine ww_sipush (v := 128) dX5_copies_110 rfl ?_
              refine ww_iload_n dX5_copies_113 1 rfl ?_
              refine ww_iadd dX5_copies_114 ?_
              obtain ⟨r_25, h⟩ := h
              refine ta_21 r_25 dX5_copies_115 ?_
              obtain ⟨r_26, h⟩ := h
              refine ts_21 r_26 dX5_copies_116 ?_
              refine ww_iinc dX5_copies_117 1 rfl (Nat.le_of_ble_eq_true rfl) rfl ?_
              refine ww_goto (tgt := 94) dX5_copies_120 (by decide) ?_
              refine ww_lv [1, 0] rfl ?_
              obtain ⟨m, hm, h⟩ := h
              exact ih94 m hm _ _ h
        refine ww_lv [1, 0] rfl ?_
        obtain ⟨m, h⟩ := h
        exact kI94 m _ _ h
      · replace h := h.2 (Int.not_le.mp c)
        refine ww_aload_n dX5_copies_56 0 rfl ?_
        refine tg_17 dX5_copies_57 ?_
        refine ww_iload_n dX5_copies_60 1 rfl ?_
        refine ww_aload_n dX5_copies_61 0 rfl ?_
        refine tg_17 dX5_copies_62 ?_
        refine ww_bipush (v := 8) dX5_copies_65 rfl ?_
        refine ww_iload_n dX5_copies_67 1 rfl ?_
        refine ww_iadd dX5_copies_68 ?_
        obtain ⟨r_27, h⟩ := h
        refine ta_17 r_27 dX5_copies_69 ?_
        obtain ⟨r_28, h⟩ := h
        refine ts_17 r_28 dX5_copies_70 ?_
        refine ww_aload_n dX5_copies_71 0 rfl ?_
        refine tg_20 dX5_copies_72 ?_
        refine ww_iload_n dX5_copies_75 1 rfl ?_
        refine ww_aload_n dX5_copies_76 0 rfl ?_
        refine tg_20 dX5_copies_77 ?_
        refine ww_bipush (v := 8) dX5_copies_80 rfl ?_
        refine ww_iload_n dX5_copies_82 1 rfl ?_
        refine ww_iadd dX5_copies_83 ?_
        obtain ⟨r_29, h⟩ := h
        refine ta_20 r_29 dX5_copies_84 ?_
        obtain ⟨r_30, h⟩ := h
        refine ts_20 r_30 dX5_copies_85 ?_
        refine ww_iinc dX5_copies_86 1 rfl (Nat.le_of_ble_eq_true rfl) rfl ?_
        refine ww_goto (tgt := 50) dX5_copies_89 (by decide) ?_
        refine ww_lv [1, 0] rfl ?_
        obtain ⟨m, hm, h⟩ := h
        exact ih50 m hm _ _ h
  refine ww_lv [1, 0] rfl ?_
  obtain ⟨m, h⟩ := h
  exact kI50 m _ _ h
theorem tc_copies {S : Type} {G : g_G} {l : Launch} {cc : ByteArray} {nL : Nat} {ret : Option FieldType} {mn : String} {d mc ms : Nat} {R : Option Value → S → Prop} {sh : S → List va_W} {cells slots pc : Nat} {lv : List (Nat × Value)} {st : List Value} {q : Nat → Nat} {fr : va_W} {σ : TS} {P : TS → Prop} (h : w_copies σ P) (hR : 0 + 1 ≤ d ∧ 16 + (3 + 11) + 100 * 0 ≤ 100 * d) (hc : cells ≤ mc ∧ slots ≤ ms) (hst : (st.map fun v => v.category).sum ≤ 16) (hdg : decode cc pc = .ok (.invokevirtual 251, 3)) (k : ∀ σ2, P σ2 → WW G l cc RX5 nL ret mn d mc ms R sh cells slots [tw G q σ2, fr] (pc + 3) lv (st)) : WW G l cc RX5 nL ret mn d mc ms R sh cells slots [tw G q σ, fr] pc lv (.ref (q 100) :: st) := by
  refine tw_call0 (n := 0) (t_copies (q := q) h) (lw_V q2407 q2409 qs76 q117 q2410) ⟨rfl, by decide, by decide, by decide +kernel⟩ rfl hR hc rfl hst hdg ?_
  exact k
/-! isPrime -/
def w_isPrime (a1 : Int) (P : Int → Prop) : Prop :=
  ∃ I2 : Nat → Int → Prop, (∀ (n2 : Nat) (v1_2 : Int), I2 n2 v1_2 →
    rI (v1_2 * v1_2) ∧
    rI a1 ∧
    ((a1 < (v1_2 * v1_2) →
      P 1) ∧
    ((v1_2 * v1_2) ≤ a1 →
      (0 ≤ a1 ∧ a1 < 2147483648 ∧ (0 : Int) < v1_2 ∧ (v1_2 : Int) < 2147483648) ∧
      rI (a1 % v1_2) ∧
      ((¬ (a1 % v1_2) = 0 →
        ∃ m : Nat, m < n2 ∧ I2 m (v1_2 + 1)) ∧
      ((a1 % v1_2) = 0 →
        P 0))))) ∧
  ∃ m : Nat, I2 m 2
set_option maxHeartbeats 4000000 in
theorem t_isPrime {G : g_G} {l : Launch} {a1 : Int} {P : Int → Prop} (h : w_isPrime a1 P) : CT G l yX5_isPrime cX5_isPrime 2 (Option.some Jvm.ClassFile.FieldType.boolean) 0 0 0 [vI a1] [] (uR2 P) (fun _ => []) := by
  unfold w_isPrime at h
  refine ww_of (by decide) (Nat.le_of_ble_eq_true rfl) (fun fr => ?_)
  show WW G l cX5_isPrime RX5 2 (Option.some Jvm.ClassFile.FieldType.boolean) "isPrime" 0 0 0 (uR2 P) (fun _ => [fr]) 0 0 [fr] 0 [(0, vI a1)] []
  refine ww_iconst dX5_isPrime_0 ?_
  refine ww_istore_n dX5_isPrime_1 rfl (Nat.le_of_ble_eq_true rfl) rfl ?_
  obtain ⟨I2, hI2, h⟩ := h
  have kI2 : ∀ (n2 : Nat), ∀ (v1_2 : Int), I2 n2 v1_2 → WW G l cX5_isPrime RX5 2 (Option.some Jvm.ClassFile.FieldType.boolean) "isPrime" 0 0 0 (uR2 P) (fun _ => [fr]) 0 0 [fr] 2 [(0, vI a1), (1, vI v1_2)] [] := by
    intro n2
    induction n2 using Nat.strongRecOn with
    | ind n2 ih2 =>
      intro v1_2 hj
      have h := hI2 n2 v1_2 hj
      refine ww_iload_n dX5_isPrime_2 1 rfl ?_
      refine ww_iload_n dX5_isPrime_3 1 rfl ?_
      refine ww_imul dX5_isPrime_4 ?_
      refine ww_iload_n dX5_isPrime_5 0 rfl ?_
      obtain ⟨r_1, r_2, h⟩ := h
      refine ww_icmp_gt (tgt := 23) dX5_isPrime_6 (by decide) r_1 r_2 (fun c => ?_) (fun c => ?_)
      · replace h := h.1 c
        refine ww_iconst dX5_isPrime_23 ?_
        exact ww_zret 1 rfl (Or.inr rfl) ⟨rfl, (Or.inr rfl), h⟩ rfl (Nat.le_refl _) (Nat.le_refl _) dX5_isPrime_24
      · replace h := h.2 (Int.not_lt.mp c)
        refine ww_iload_n dX5_isPrime_9 0 rfl ?_
        refine ww_iload_n dX5_isPrime_10 1 rfl ?_
        obtain ⟨r_3, h⟩ := h
        refine ww_irem dX5_isPrime_11 r_3 ?_
        obtain ⟨r_4, h⟩ := h
        refine ww_if_ne (tgt := 17) dX5_isPrime_12 (by decide) r_4 (fun c => ?_) (fun c => ?_)
        · replace h := h.1 c
          refine ww_iinc dX5_isPrime_17 1 rfl (Nat.le_of_ble_eq_true rfl) rfl ?_
          refine ww_goto (tgt := 2) dX5_isPrime_20 (by decide) ?_
          refine ww_lv [1, 0] rfl ?_
          obtain ⟨m, hm, h⟩ := h
          exact ih2 m hm _ h
        · replace h := h.2 c
          refine ww_iconst dX5_isPrime_15 ?_
          exact ww_zret 0 rfl (Or.inl rfl) ⟨rfl, (Or.inl rfl), h⟩ rfl (Nat.le_refl _) (Nat.le_refl _) dX5_isPrime_16
  refine ww_lv [1, 0] rfl ?_
  obtain ⟨m, h⟩ := h
  exact kI2 m _ h
theorem tc_isPrime {S : Type} {G : g_G} {l : Launch} {cc : ByteArray} {nL : Nat} {ret : Option FieldType} {mn : String} {d mc ms : Nat} {R : Option Value → S → Prop} {sh : S → List va_W} {cells slots pc : Nat} {lv : List (Nat × Value)} {st : List Value} {Ws : List va_W} {a1 : Int} {P : Int → Prop} (h : w_isPrime a1 P) (hR : 0 + 1 ≤ d ∧ 16 + (2 + 11) + 100 * 0 ≤ 100 * d) (hc : cells ≤ mc ∧ slots ≤ ms) (hst : (st.map fun v => v.category).sum ≤ 16) (hdg : decode cc pc = .ok (.invokestatic 242, 3)) (k : ∀ r, (r = 0 ∨ r = 1) → P r → WW G l cc RX5 nL ret mn d mc ms R sh cells slots Ws (pc + 3) lv (vI r :: st)) : WW G l cc RX5 nL ret mn d mc ms R sh cells slots Ws pc lv (vI a1 :: st) := by
  refine tw_callS2 (n := 1) (t_isPrime h) (lw_S q2340 q2341 q117 q2342) ⟨by decide, by decide, by decide +kernel⟩ rfl hR hc rfl hst hdg ?_
  exact k
/-! must -/
def w_must (σ : TS) (a1 : Int) (a2 : Int) (P : Int → TS → Prop) : Prop :=
  rI (tF σ 9) ∧
  ∃ J24 : TS → Prop, (∀ (σ24 : TS), J24 σ24 →
    rI (tF σ24 9) ∧
    ((¬ (tF σ24 9) = 0 →
      P 0 σ24) ∧
    ((tF σ24 9) = 0 →
      P 1 σ24))) ∧
  ((¬ (tF σ 9) = 0 →
    J24 σ) ∧
  ((tF σ 9) = 0 →
    rI a1 ∧
    ((¬ a1 = 0 →
      J24 σ) ∧
    (a1 = 0 →
      J24 (sF (sF σ 9 a2) 10 (tF σ 4))))))
set_option maxHeartbeats 4000000 in
theorem t_must {G : g_G} {l : Launch} {q : Nat → Nat} {σ : TS} {a1 : Int} {a2 : Int} {P : Int → TS → Prop} (h : w_must σ a1 a2 P) : CT G l yX5_must cX5_must 3 (Option.some Jvm.ClassFile.FieldType.boolean) 0 0 0 [.ref (q 100), vI a1, vI a2] [tw G q σ] (tR2 (P)) (fun u => [tw G q u.2]) := by
  unfold w_must at h
  refine ww_of (by decide) (Nat.le_of_ble_eq_true rfl) (fun fr => ?_)
  show WW G l cX5_must RX5 3 (Option.some Jvm.ClassFile.FieldType.boolean) "must" 0 0 0 (tR2 (P)) (tS G q fr) 0 0 [tw G q σ, fr] 0 [(0, .ref (q 100)), (1, vI a1), (2, vI a2)] []
  refine ww_aload_n dX5_must_0 0 rfl ?_
  refine tg_9 dX5_must_1 ?_
  obtain ⟨r_1, h⟩ := h
  obtain ⟨J24, hJ24, h⟩ := h
  have kJ24 : ∀ (σ24 : TS), J24 σ24 → WW G l cX5_must RX5 3 (Option.some Jvm.ClassFile.FieldType.boolean) "must" 0 0 0 (tR2 (P)) (tS G q fr) 0 0 [tw G q σ24, fr] 24 [(0, .ref (q 100))] [] := by
    intro σ24 hj
    have h := hJ24 σ24 hj
    refine ww_aload_n dX5_must_24 0 rfl ?_
    refine tg_9 dX5_must_25 ?_
    obtain ⟨r_2, h⟩ := h
    refine ww_if_ne (tgt := 35) dX5_must_28 (by decide) r_2 (fun c => ?_) (fun c => ?_)
    · replace h := h.1 c
      refine ww_iconst dX5_must_35 ?_
      exact ww_zret (0, σ24) rfl (Or.inl rfl) ⟨rfl, (Or.inl rfl), h⟩ rfl (Nat.le_refl _) (Nat.le_refl _) dX5_must_36
    · replace h := h.2 c
      refine ww_iconst dX5_must_31 ?_
      refine ww_goto (tgt := 36) dX5_must_32 (by decide) ?_
      exact ww_zret (1, σ24) rfl (Or.inr rfl) ⟨rfl, (Or.inr rfl), h⟩ rfl (Nat.le_refl _) (Nat.le_refl _) dX5_must_36
  refine ww_if_ne (tgt := 24) dX5_must_4 (by decide) r_1 (fun c => ?_) (fun c => ?_)
  · replace h := h.1 c
    refine ww_lv [0] rfl ?_
    exact kJ24 _ h
  · replace h := h.2 c
    refine ww_iload_n dX5_must_7 1 rfl ?_
    obtain ⟨r_3, h⟩ := h
    refine ww_if_ne (tgt := 24) dX5_must_8 (by decide) r_3 (fun c => ?_) (fun c => ?_)
    · replace h := h.1 c
      refine ww_lv [0] rfl ?_
      exact kJ24 _ h
    · replace h := h.2 c
      refine ww_aload_n dX5_must_11 0 rfl ?_
      refine ww_iload_n dX5_must_12 2 rfl ?_
      refine tp_9 dX5_must_13 ?_
      refine ww_aload_n dX5_must_16 0 rfl ?_
      refine ww_aload_n dX5_must_17 0 rfl ?_
      refine tg_4 dX5_must_18 ?_
      refine tp_10 dX5_must_21 ?_
      refine ww_lv [0] rfl ?_
      exact kJ24 _ h
theorem tc_must {S : Type} {G : g_G} {l : Launch} {cc : ByteArray} {nL : Nat} {ret : Option FieldType} {mn : String} {d mc ms : Nat} {R : Option Value → S → Prop} {sh : S → List va_W} {cells slots pc : Nat} {lv : List (Nat × Value)} {st : List Value} {q : Nat → Nat} {fr : va_W} {σ : TS} {a1 : Int} {a2 : Int} {P : Int → TS → Prop} (h : w_must σ a1 a2 P) (hR : 0 + 1 ≤ d ∧ 16 + (3 + 11) + 100 * 0 ≤ 100 * d) (hc : cells ≤ mc ∧ slots ≤ ms) (hst : (st.map fun v => v.category).sum ≤ 16) (hdg : decode cc pc = .ok (.invokevirtual 171, 3)) (k : ∀ r, ∀ σ2, (r = 0 ∨ r = 1) → P r σ2 → WW G l cc RX5 nL ret mn d mc ms R sh cells slots [tw G q σ2, fr] (pc + 3) lv (vI r :: st)) : WW G l cc RX5 nL ret mn d mc ms R sh cells slots [tw G q σ, fr] pc lv (vI a2 :: vI a1 :: .ref (q 100) :: st) := by
  refine tw_call2 (n := 2) (t_must (q := q) h) (lw_V q2335 q2337 qs61 q117 q2338) ⟨rfl, by decide, by decide, by decide +kernel⟩ rfl hR hc rfl hst hdg ?_
  exact fun r σ2 z h => k r σ2 z h
/-! see -/
def w_see (σ : TS) (a1 : Int) (P : Int → Prop) : Prop :=
  rI a1 ∧
  rI (tF σ 3) ∧
  (((tF σ 3) ≤ a1 →
    P (-1)) ∧
  (a1 < (tF σ 3) →
    (0 ≤ a1 ∧ a1 < 700) ∧
    P (bA (tA σ 1 a1) 255)))
set_option maxHeartbeats 4000000 in
theorem t_see {G : g_G} {l : Launch} {q : Nat → Nat} {σ : TS} {a1 : Int} {P : Int → Prop} (h : w_see σ a1 P) : CT G l yX5_see cX5_see 2 (Option.some Jvm.ClassFile.FieldType.int) 0 0 0 [.ref (q 100), vI a1] [tw G q σ] (tR1 (fun r s => s = σ ∧ P r)) (fun u => [tw G q u.2]) := by
  unfold w_see at h
  refine ww_of (by decide) (Nat.le_of_ble_eq_true rfl) (fun fr => ?_)
  show WW G l cX5_see RX5 2 (Option.some Jvm.ClassFile.FieldType.int) "see" 0 0 0 (tR1 (fun r s => s = σ ∧ P r)) (tS G q fr) 0 0 [tw G q σ, fr] 0 [(0, .ref (q 100)), (1, vI a1)] []
  refine ww_iload_n dX5_see_0 1 rfl ?_
  refine ww_aload_n dX5_see_1 0 rfl ?_
  refine tg_3 dX5_see_2 ?_
  obtain ⟨r_1, r_2, h⟩ := h
  refine ww_icmp_ge (tgt := 21) dX5_see_5 (by decide) r_1 r_2 (fun c => ?_) (fun c => ?_)
  · replace h := h.1 c
    refine ww_iconst dX5_see_21 ?_
    exact ww_iret ((-1), σ) rfl ⟨rfl, ⟨rfl, h⟩⟩ rfl (Nat.le_refl _) (Nat.le_refl _) dX5_see_22
  · replace h := h.2 (Int.not_le.mp c)
    refine ww_aload_n dX5_see_8 0 rfl ?_
    refine tg_1 dX5_see_9 ?_
    refine ww_iload_n dX5_see_12 1 rfl ?_
    obtain ⟨r_3, h⟩ := h
    refine ta_1 r_3 dX5_see_13 ?_
    refine ww_sipush (v := 255) dX5_see_14 rfl ?_
    refine ww_iand dX5_see_17 ?_
    refine ww_goto (tgt := 22) dX5_see_18 (by decide) ?_
    exact ww_iret (bA (tA σ 1 a1) 255, σ) rfl ⟨rfl, ⟨rfl, h⟩⟩ rfl (Nat.le_refl _) (Nat.le_refl _) dX5_see_22
theorem tc_see {S : Type} {G : g_G} {l : Launch} {cc : ByteArray} {nL : Nat} {ret : Option FieldType} {mn : String} {d mc ms : Nat} {R : Option Value → S → Prop} {sh : S → List va_W} {cells slots pc : Nat} {lv : List (Nat × Value)} {st : List Value} {q : Nat → Nat} {fr : va_W} {σ : TS} {a1 : Int} {P : Int → Prop} (h : w_see σ a1 P) (hR : 0 + 1 ≤ d ∧ 16 + (2 + 11) + 100 * 0 ≤ 100 * d) (hc : cells ≤ mc ∧ slots ≤ ms) (hst : (st.map fun v => v.category).sum ≤ 16) (hdg : decode cc pc = .ok (.invokevirtual 108, 3)) (k : ∀ r, P r → WW G l cc RX5 nL ret mn d mc ms R sh cells slots [tw G q σ, fr] (pc + 3) lv (vI r :: st)) : WW G l cc RX5 nL ret mn d mc ms R sh cells slots [tw G q σ, fr] pc lv (vI a1 :: .ref (q 100) :: st) := by
  refine tw_call1 (n := 1) (t_see (q := q) h) (lw_V q2312 q2314 qs58 q117 q2315) ⟨rfl, by decide, by decide, by decide +kernel⟩ rfl hR hc rfl hst hdg ?_
  rintro r σ2 ⟨rfl, h2⟩
  exact k r h2
/-! within -/
def w_within (a1 : Int) (a2 : Int) (a3 : Int) (P : Int → Prop) : Prop :=
  rL a1 ∧
  rL a2 ∧
  ((a1 < a2 →
    P 0) ∧
  (a2 ≤ a1 →
    rL a1 ∧
    rL a3 ∧
    ((a3 < a1 →
      P 0) ∧
    (a1 ≤ a3 →
      P 1))))
set_option maxHeartbeats 4000000 in
theorem t_within {G : g_G} {l : Launch} {a1 : Int} {a2 : Int} {a3 : Int} {P : Int → Prop} (h : w_within a1 a2 a3 P) : CT G l yX5_within cX5_within 6 (Option.some Jvm.ClassFile.FieldType.boolean) 0 0 0 [vL a1, vL a2, vL a3] [] (uR2 P) (fun _ => []) := by
  unfold w_within at h
  refine ww_of (by decide) (Nat.le_of_ble_eq_true rfl) (fun fr => ?_)
  show WW G l cX5_within RX5 6 (Option.some Jvm.ClassFile.FieldType.boolean) "within" 0 0 0 (uR2 P) (fun _ => [fr]) 0 0 [fr] 0 [(0, vL a1), (2, vL a2), (4, vL a3)] []
  refine ww_lload_n dX5_within_0 0 rfl ?_
  refine ww_lload_n dX5_within_1 1 rfl ?_
  obtain ⟨r_1, r_2, h⟩ := h
  refine ww_lcmp dX5_within_2 r_1 r_2 ?_
  refine ww_if_lt (tgt := 17) dX5_within_3 (by decide) r_cmp (fun c => ?_) (fun c => ?_)
  · replace h := h.1 (cmp_lt.mp c)
    refine ww_iconst dX5_within_17 ?_
    exact ww_zret 0 rfl (Or.inl rfl) ⟨rfl, (Or.inl rfl), h⟩ rfl (Nat.le_refl _) (Nat.le_refl _) dX5_within_18
  · replace h := h.2 (cmp_ltn.mp c)
    refine ww_lload_n dX5_within_6 0 rfl ?_
    refine ww_lload dX5_within_7 2 rfl ?_
    obtain ⟨r_3, r_4, h⟩ := h
    refine ww_lcmp dX5_within_9 r_3 r_4 ?_
    refine ww_if_gt (tgt := 17) dX5_within_10 (by decide) r_cmp (fun c => ?_) (fun c => ?_)
    · replace h := h.1 (cmp_gt.mp c)
      refine ww_iconst dX5_within_17 ?_
      exact ww_zret 0 rfl (Or.inl rfl) ⟨rfl, (Or.inl rfl), h⟩ rfl (Nat.le_refl _) (Nat.le_refl _) dX5_within_18
    · replace h := h.2 (cmp_gtn.mp c)
      refine ww_iconst dX5_within_13 ?_
      refine ww_goto (tgt := 18) dX5_within_14 (by decide) ?_
      exact ww_zret 1 rfl (Or.inr rfl) ⟨rfl, (Or.inr rfl), h⟩ rfl (Nat.le_refl _) (Nat.le_refl _) dX5_within_18
theorem tc_within {S : Type} {G : g_G} {l : Launch} {cc : ByteArray} {nL : Nat} {ret : Option FieldType} {mn : String} {d mc ms : Nat} {R : Option Value → S → Prop} {sh : S → List va_W} {cells slots pc : Nat} {lv : List (Nat × Value)} {st : List Value} {Ws : List va_W} {a1 : Int} {a2 : Int} {a3 : Int} {P : Int → Prop} (h : w_within a1 a2 a3 P) (hR : 0 + 1 ≤ d ∧ 16 + (6 + 11) + 100 * 0 ≤ 100 * d) (hc : cells ≤ mc ∧ slots ≤ ms) (hst : (st.map fun v => v.category).sum ≤ 16) (hdg : decode cc pc = .ok (.invokestatic 126, 3)) (k : ∀ r, (r = 0 ∨ r = 1) → P r → WW G l cc RX5 nL ret mn d mc ms R sh cells slots Ws (pc + 3) lv (vI r :: st)) : WW G l cc RX5 nL ret mn d mc ms R sh cells slots Ws pc lv (vL a3 :: vL a2 :: vL a1 :: st) := by
  refine tw_callS2 (n := 3) (t_within h) (lw_S q2305 q2306 q117 q2307) ⟨by decide, by decide, by decide +kernel⟩ rfl hR hc rfl hst hdg ?_
  exact k
/-! steps -/
def w_steps (σ : TS) (P : TS → Prop) : Prop :=
  ∃ I8 : Nat → TS → Prop, (∀ (n8 : Nat) (σ8 : TS), I8 n8 σ8 →
    w_see σ8 (tF σ8 4) (fun y_1 =>
      rI y_1 ∧
      ∃ J34 : Prop, (J34 →
        ∃ m : Nat, m < n8 ∧ I8 m (sF σ8 4 ((tF σ8 4) + 1))) ∧
      ((y_1 = 32 →
        J34) ∧
      (¬ y_1 = 32 →
        w_see σ8 (tF σ8 4) (fun y_3 =>
          rI y_3 ∧
          ((¬ y_3 = 10 →
            w_see σ8 (tF σ8 4) (fun y_5 =>
              rI y_5 ∧
              ((¬ y_5 = (-1) →
                rI y_5 ∧
                ((¬ y_5 = 59 →
                  rI y_5 ∧
                  w_within y_5 97 122 (fun y_9 =>
                    ((y_9 = 0 →
                      rI y_5 ∧
                      w_within y_5 48 57 (fun y_12 =>
                        ((y_12 = 0 →
                          P (sF (sF (sF (sF σ8 5 ((tF σ8 4) + 1)) 6 4) 7 0) 8 0)) ∧
                        (¬ y_12 = 0 →
                          ∃ I265 : Nat → TS → Prop, (∀ (n265 : Nat) (σ265 : TS), I265 n265 σ265 →
                            w_see σ265 (tF σ265 5) (fun y_14 =>
                              rI y_14 ∧
                              w_within y_14 48 57 (fun y_16 =>
                                ((y_16 = 0 →
                                  rI ((tF σ265 5) - (tF σ265 4)) ∧
                                  ((3 ≤ ((tF σ265 5) - (tF σ265 4)) →
                                    P (sF σ265 6 4)) ∧
                                  (((tF σ265 5) - (tF σ265 4)) < 3 →
                                    P (sF σ265 6 2)))) ∧
                                (¬ y_16 = 0 →
                                  rI ((tF σ265 5) - (tF σ265 4)) ∧
                                  ∃ J326 : Int → Prop, (∀ (s1_326 : Int), J326 s1_326 →
                                    ∃ m : Nat, m < n265 ∧ I265 m (sF (sF σ265 7 s1_326) 5 ((tF σ265 5) + 1))) ∧
                                  ((2 ≤ ((tF σ265 5) - (tF σ265 4)) →
                                    J326 (tF σ265 7)) ∧
                                  (((tF σ265 5) - (tF σ265 4)) < 2 →
                                    w_see σ265 (tF σ265 5) (fun y_20 =>
                                      J326 (((10 * (tF σ265 7)) + y_20) - 48))))))))) ∧
                          ∃ m : Nat, I265 m (sF (sF (sF (sF (sF σ8 5 ((tF σ8 4) + 1)) 6 4) 7 0) 8 0) 5 (tF σ8 4)))))) ∧
                    (¬ y_9 = 0 →
                      ∃ I138 : Nat → TS → Prop, (∀ (n138 : Nat) (σ138 : TS), I138 n138 σ138 →
                        w_see σ138 (tF σ138 5) (fun y_21 =>
                          rI y_21 ∧
                          w_within y_21 97 122 (fun y_23 =>
                            ((y_23 = 0 →
                              rI ((tF σ138 5) - (tF σ138 4)) ∧
                              ((7 ≤ ((tF σ138 5) - (tF σ138 4)) →
                                P (sF σ138 6 4)) ∧
                              (((tF σ138 5) - (tF σ138 4)) < 7 →
                                P (sF σ138 6 1)))) ∧
                            (¬ y_23 = 0 →
                              rI ((tF σ138 5) - (tF σ138 4)) ∧
                              ∃ J201 : Int → Prop, (∀ (s1_201 : Int), J201 s1_201 →
                                ∃ m : Nat, m < n138 ∧ I138 m (sF (sF σ138 8 s1_201) 5 ((tF σ138 5) + 1))) ∧
                              ((6 ≤ ((tF σ138 5) - (tF σ138 4)) →
                                J201 (tF σ138 8)) ∧
                              (((tF σ138 5) - (tF σ138 4)) < 6 →
                                w_see σ138 (tF σ138 5) (fun y_27 =>
                                  rI y_27 ∧
                                  J201 (lbO (lbL (tF σ138 8) 5) (y_27 - 96)))))))))) ∧
                      ∃ m : Nat, I138 m (sF (sF (sF (sF (sF σ8 5 ((tF σ8 4) + 1)) 6 4) 7 0) 8 0) 5 (tF σ8 4)))))) ∧
                (y_5 = 59 →
                  P (sF (sF (sF (sF (sF σ8 5 ((tF σ8 4) + 1)) 6 4) 7 0) 8 0) 6 3)))) ∧
              (y_5 = (-1) →
                P (sF (sF (sF (sF (sF (sF σ8 5 ((tF σ8 4) + 1)) 6 4) 7 0) 8 0) 5 (tF σ8 4)) 6 0))))) ∧
          (y_3 = 10 →
            J34))))))) ∧
  ∃ m : Nat, I8 m (sF σ 4 (tF σ 5))
set_option maxHeartbeats 4000000 in
theorem t_steps {G : g_G} {l : Launch} {q : Nat → Nat} {σ : TS} {P : TS → Prop} (h : w_steps σ P) : CT G l yX5_steps cX5_steps 2 (Option.none : Option Jvm.ClassFile.FieldType) 1 0 0 [.ref (q 100)] [tw G q σ] (tR0 (fun _ s => P s)) (fun u => [tw G q u.2]) := by
  unfold w_steps at h
  refine ww_of (by decide) (Nat.le_of_ble_eq_true rfl) (fun fr => ?_)
  show WW G l cX5_steps RX5 2 (Option.none : Option Jvm.ClassFile.FieldType) "steps" 1 0 0 (tR0 (fun _ s => P s)) (tS G q fr) 0 0 [tw G q σ, fr] 0 [(0, .ref (q 100))] []
  refine ww_aload_n dX5_steps_0 0 rfl ?_
  refine ww_aload_n dX5_steps_1 0 rfl ?_
  refine tg_5 dX5_steps_2 ?_
  refine tp_4 dX5_steps_5 ?_
  obtain ⟨I8, hI8, h⟩ := h
  have kI8 : ∀ (n8 : Nat), ∀ (σ8 : TS), I8 n8 σ8 → WW G l cX5_steps RX5 2 (Option.none : Option Jvm.ClassFile.FieldType) "steps" 1 0 0 (tR0 (fun _ s => P s)) (tS G q fr) 0 0 [tw G q σ8, fr] 8 [(0, .ref (q 100))] [] := by
    intro n8
    induction n8 using Nat.strongRecOn with
    | ind n8 ih8 =>
      intro σ8 hj
      have h := hI8 n8 σ8 hj
      refine ww_aload_n dX5_steps_8 0 rfl ?_
      refine ww_aload_n dX5_steps_9 0 rfl ?_
      refine tg_4 dX5_steps_10 ?_
      refine tc_see h ⟨Nat.le_of_ble_eq_true rfl, Nat.le_of_ble_eq_true rfl⟩ ⟨Nat.le_refl _, Nat.le_refl _⟩ (Nat.le_of_ble_eq_true rfl) dX5_steps_13 (fun y_1 h => ?_)
      refine ww_bipush (v := 32) dX5_steps_16 rfl ?_
      obtain ⟨r_2, h⟩ := h
      obtain ⟨J34, hJ34, h⟩ := h
      have kJ34 : J34 → WW G l cX5_steps RX5 2 (Option.none : Option Jvm.ClassFile.FieldType) "steps" 1 0 0 (tR0 (fun _ s => P s)) (tS G q fr) 0 0 [tw G q σ8, fr] 34 [(0, .ref (q 100))] [] := by
        intro hj
        have h := hJ34 hj
        refine ww_aload_n dX5_steps_34 0 rfl ?_
        refine ww_dup dX5_steps_35 rfl ?_
        refine tg_4 dX5_steps_36 ?_
        refine ww_iconst dX5_steps_39 ?_
        refine ww_iadd dX5_steps_40 ?_
        refine tp_4 dX5_steps_41 ?_
        refine ww_goto (tgt := 8) dX5_steps_44 (by decide) ?_
        obtain ⟨m, hm, h⟩ := h
        exact ih8 m hm _ h
      refine ww_icmp_eq (tgt := 34) dX5_steps_18 (by decide) r_2 (by decide) (fun c => ?_) (fun c => ?_)
      · replace h := h.1 c
        exact kJ34 h
      · replace h := h.2 c
        refine ww_aload_n dX5_steps_21 0 rfl ?_
        refine ww_aload_n dX5_steps_22 0 rfl ?_
        refine tg_4 dX5_steps_23 ?_
        refine tc_see h ⟨Nat.le_of_ble_eq_true rfl, Nat.le_of_ble_eq_true rfl⟩ ⟨Nat.le_refl _, Nat.le_refl _⟩ (Nat.le_of_ble_eq_true rfl) dX5_steps_26 (fun y_3 h => ?_)
        refine ww_bipush (v := 10) dX5_steps_29 rfl ?_
        obtain ⟨r_4, h⟩ := h
        refine ww_icmp_ne (tgt := 47) dX5_steps_31 (by decide) r_4 (by decide) (fun c => ?_) (fun c => ?_)
        · replace h := h.1 c
          refine ww_aload_n dX5_steps_47 0 rfl ?_
          refine ww_aload_n dX5_steps_48 0 rfl ?_
          refine tg_4 dX5_steps_49 ?_
          refine tc_see h ⟨Nat.le_of_ble_eq_true rfl, Nat.le_of_ble_eq_true rfl⟩ ⟨Nat.le_refl _, Nat.le_refl _⟩ (Nat.le_of_ble_eq_true rfl) dX5_steps_52 (fun y_5 h => ?_)
          refine ww_istore_n dX5_steps_55 rfl (Nat.le_of_ble_eq_true rfl) rfl ?_
          refine ww_aload_n dX5_steps_56 1 rfl ?_
          refine ww_aload_n dX5_steps_57 1 rfl ?_
          refine tg_4 dX5_steps_58 ?_
          refine ww_iconst dX5_steps_61 ?_
          refine ww_iadd dX5_steps_62 ?_
          refine tp_5 dX5_steps_63 ?_
          refine ww_aload_n dX5_steps_66 1 rfl ?_
          refine ww_iconst dX5_steps_67 ?_
          refine tp_6 dX5_steps_68 ?_
          refine ww_aload_n dX5_steps_71 1 rfl ?_
          refine ww_iconst dX5_steps_72 ?_
          refine tp_7 dX5_steps_73 ?_
          refine ww_aload_n dX5_steps_76 1 rfl ?_
          refine ww_lconst (v := 0) dX5_steps_77 rfl ?_
          refine tp_8 dX5_steps_78 ?_
          refine ww_iload_n dX5_steps_81 0 rfl ?_
          refine ww_iconst dX5_steps_82 ?_
          obtain ⟨r_6, h⟩ := h
          refine ww_icmp_ne (tgt := 102) dX5_steps_83 (by decide) r_6 (by decide) (fun c => ?_) (fun c => ?_)
          · replace h := h.1 c
            refine ww_iload_n dX5_steps_102 0 rfl ?_
            refine ww_bipush (v := 59) dX5_steps_103 rfl ?_
            obtain ⟨r_7, h⟩ := h
            refine ww_icmp_ne (tgt := 116) dX5_steps_105 (by decide) r_7 (by decide) (fun c => ?_) (fun c => ?_)
            · replace h := h.1 c
              refine ww_iload_n dX5_steps_116 0 rfl ?_
              obtain ⟨r_8, h⟩ := h
              refine ww_i2l dX5_steps_117 r_8 ?_
              refine ww_ldc2 (x := 97) dX5_steps_118 q2316 rfl ?_
              refine ww_ldc2 (x := 122) dX5_steps_121 q2317 rfl ?_
              refine tc_within h ⟨Nat.le_of_ble_eq_true rfl, Nat.le_of_ble_eq_true rfl⟩ ⟨Nat.le_refl _, Nat.le_refl _⟩ (Nat.le_of_ble_eq_true rfl) dX5_steps_124 (fun y_9 z_10 h => ?_)
              refine ww_if_eq (tgt := 243) dX5_steps_127 (by decide) (z01 z_10) (fun c => ?_) (fun c => ?_)
              · replace h := h.1 c
                refine ww_iload_n dX5_steps_243 0 rfl ?_
                obtain ⟨r_11, h⟩ := h
                refine ww_i2l dX5_steps_244 r_11 ?_
                refine ww_ldc2 (x := 48) dX5_steps_245 q2319 rfl ?_
                refine ww_ldc2 (x := 57) dX5_steps_248 q2320 rfl ?_
                refine tc_within h ⟨Nat.le_of_ble_eq_true rfl, Nat.le_of_ble_eq_true rfl⟩ ⟨Nat.le_refl _, Nat.le_refl _⟩ (Nat.le_of_ble_eq_true rfl) dX5_steps_251 (fun y_12 z_13 h => ?_)
                refine ww_if_eq (tgt := 364) dX5_steps_254 (by decide) (z01 z_13) (fun c => ?_) (fun c => ?_)
                · replace h := h.1 c
                  exact ww_vret (0, sF (sF (sF (sF σ8 5 ((tF σ8 4) + 1)) 6 4) 7 0) 8 0) rfl ⟨rfl, h⟩ rfl (Nat.le_refl _) (Nat.le_refl _) dX5_steps_364
                · replace h := h.2 c
                  refine ww_aload_n dX5_steps_257 1 rfl ?_
                  refine ww_aload_n dX5_steps_258 1 rfl ?_
                  refine tg_4 dX5_steps_259 ?_
                  refine tp_5 dX5_steps_262 ?_
                  obtain ⟨I265, hI265, h⟩ := h
                  have kI265 : ∀ (n265 : Nat), ∀ (σ265 : TS), I265 n265 σ265 → WW G l cX5_steps RX5 2 (Option.none : Option Jvm.ClassFile.FieldType) "steps" 1 0 0 (tR0 (fun _ s => P s)) (tS G q fr) 0 0 [tw G q σ265, fr] 265 [(0, .ref (q 100))] [] := by
                    intro n265
                    induction n265 using Nat.strongRecOn with
                    | ind n265 ih265 =>
                      intro σ265 hj
                      have h := hI265 n265 σ265 hj
                      refine ww_aload_n dX5_steps_265 0 rfl ?_
                      refine ww_aload_n dX5_steps_266 0 rfl ?_
                      refine tg_5 dX5_steps_267 ?_
                      refine tc_see h ⟨Nat.le_of_ble_eq_true rfl, Nat.le_of_ble_eq_true rfl⟩ ⟨Nat.le_refl _, Nat.le_refl _⟩ (Nat.le_of_ble_eq_true rfl) dX5_steps_270 (fun y_14 h => ?_)
                      obtain ⟨r_15, h⟩ := h
                      refine ww_i2l dX5_steps_273 r_15 ?_
                      refine ww_ldc2 (x := 48) dX5_steps_274 q2319 rfl ?_
                      refine ww_ldc2 (x := 57) dX5_steps_277 q2320 rfl ?_
                      refine tc_within h ⟨Nat.le_of_ble_eq_true rfl, Nat.le_of_ble_eq_true rfl⟩ ⟨Nat.le_refl _, Nat.le_refl _⟩ (Nat.le_of_ble_eq_true rfl) dX5_steps_280 (fun y_16 z_17 h => ?_)
                      refine ww_if_eq (tgt := 342) dX5_steps_283 (by decide) (z01 z_17) (fun c => ?_) (fun c => ?_)
                      · replace h := h.1 c
                        refine ww_aload_n dX5_steps_342 0 rfl ?_
                        refine ww_aload_n dX5_steps_343 0 rfl ?_
                        refine tg_5 dX5_steps_344 ?_
                        refine ww_aload_n dX5_steps_347 0 rfl ?_
                        refine tg_4 dX5_steps_348 ?_
                        refine ww_isub dX5_steps_351 ?_
                        refine ww_iconst dX5_steps_352 ?_
                        obtain ⟨r_18, h⟩ := h
                        refine ww_icmp_ge (tgt := 360) dX5_steps_353 (by decide) r_18 (by decide) (fun c => ?_) (fun c => ?_)
                        · replace h := h.1 c
                          refine ww_iconst dX5_steps_360 ?_
                          refine tp_6 dX5_steps_361 ?_
                          exact ww_vret (0, sF σ265 6 4) rfl ⟨rfl, h⟩ rfl (Nat.le_refl _) (Nat.le_refl _) dX5_steps_364
                        · replace h := h.2 (Int.not_le.mp c)
                          refine ww_iconst dX5_steps_356 ?_
                          refine ww_goto (tgt := 361) dX5_steps_357 (by decide) ?_
                          refine tp_6 dX5_steps_361 ?_
                          exact ww_vret (0, sF σ265 6 2) rfl ⟨rfl, h⟩ rfl (Nat.le_refl _) (Nat.le_refl _) dX5_steps_364
                      · replace h := h.2 c
                        refine ww_aload_n dX5_steps_286 0 rfl ?_
                        refine ww_aload_n dX5_steps_287 0 rfl ?_
                        refine tg_5 dX5_steps_288 ?_
                        refine ww_aload_n dX5_steps_291 0 rfl ?_
                        refine tg_4 dX5_steps_292 ?_
                        refine ww_isub dX5_steps_295 ?_
                        refine ww_iconst dX5_steps_296 ?_
                        obtain ⟨r_19, h⟩ := h
                        obtain ⟨J326, hJ326, h⟩ := h
                        have kJ326 : ∀ (s1_326 : Int), J326 s1_326 → WW G l cX5_steps RX5 2 (Option.none : Option Jvm.ClassFile.FieldType) "steps" 1 0 0 (tR0 (fun _ s => P s)) (tS G q fr) 0 0 [tw G q σ265, fr] 326 [(0, .ref (q 100))] [vI s1_326, .ref (q 100)] := by
                          intro s1_326 hj
                          have h := hJ326 s1_326 hj
                          refine tp_7 dX5_steps_326 ?_
                          refine ww_aload_n dX5_steps_329 0 rfl ?_
                          refine ww_dup dX5_steps_330 rfl ?_
                          refine tg_5 dX5_steps_331 ?_
                          refine ww_iconst dX5_steps_334 ?_
                          refine ww_iadd dX5_steps_335 ?_
                          refine tp_5 dX5_steps_336 ?_
                          refine ww_goto (tgt := 265) dX5_steps_339 (by decide) ?_
                          obtain ⟨m, hm, h⟩ := h
                          exact ih265 m hm _ h
                        refine ww_icmp_ge (tgt := 322) dX5_steps_297 (by decide) r_19 (by decide) (fun c => ?_) (fun c => ?_)
                        · replace h := h.1 c
                          refine ww_aload_n dX5_steps_322 0 rfl ?_
                          refine tg_7 dX5_steps_323 ?_
                          exact kJ326 _ h
                        · replace h := h.2 (Int.not_le.mp c)
                          refine ww_bipush (v := 10) dX5_steps_300 rfl ?_
                          refine ww_aload_n dX5_steps_302 0 rfl ?_
                          refine tg_7 dX5_steps_303 ?_
                          refine ww_imul dX5_steps_306 ?_
                          refine ww_aload_n dX5_steps_307 0 rfl ?_
                          refine ww_aload_n dX5_steps_308 0 rfl ?_
                          refine tg_5 dX5_steps_309 ?_
                          refine tc_see h ⟨Nat.le_of_ble_eq_true rfl, Nat.le_of_ble_eq_true rfl⟩ ⟨Nat.le_refl _, Nat.le_refl _⟩ (Nat.le_of_ble_eq_true rfl) dX5_steps_312 (fun y_20 h => ?_)
                          refine ww_iadd dX5_steps_315 ?_
                          refine ww_bipush (v := 48) dX5_steps_316 rfl ?_
                          refine ww_isub dX5_steps_318 ?_
                          refine ww_goto (tgt := 326) dX5_steps_319 (by decide) ?_
                          exact kJ326 _ h
                  refine ww_lv [1] rfl ?_
                  obtain ⟨m, h⟩ := h
                  exact kI265 m _ h
              · replace h := h.2 c
                refine ww_aload_n dX5_steps_130 1 rfl ?_
                refine ww_aload_n dX5_steps_131 1 rfl ?_
                refine tg_4 dX5_steps_132 ?_
                refine tp_5 dX5_steps_135 ?_
                obtain ⟨I138, hI138, h⟩ := h
                have kI138 : ∀ (n138 : Nat), ∀ (σ138 : TS), I138 n138 σ138 → WW G l cX5_steps RX5 2 (Option.none : Option Jvm.ClassFile.FieldType) "steps" 1 0 0 (tR0 (fun _ s => P s)) (tS G q fr) 0 0 [tw G q σ138, fr] 138 [(0, .ref (q 100))] [] := by
                  intro n138
                  induction n138 using Nat.strongRecOn with
                  | ind n138 ih138 =>
                    intro σ138 hj
                    have h := hI138 n138 σ138 hj
                    refine ww_aload_n dX5_steps_138 0 rfl ?_
                    refine ww_aload_n dX5_steps_139 0 rfl ?_
                    refine tg_5 dX5_steps_140 ?_
                    refine tc_see h ⟨Nat.le_of_ble_eq_true rfl, Nat.le_of_ble_eq_true rfl⟩ ⟨Nat.le_refl _, Nat.le_refl _⟩ (Nat.le_of_ble_eq_true rfl) dX5_steps_143 (fun y_21 h => ?_)
                    obtain ⟨r_22, h⟩ := h
                    refine ww_i2l dX5_steps_146 r_22 ?_
                    refine ww_ldc2 (x := 97) dX5_steps_147 q2316 rfl ?_
                    refine ww_ldc2 (x := 122) dX5_steps_150 q2317 rfl ?_
                    refine tc_within h ⟨Nat.le_of_ble_eq_true rfl, Nat.le_of_ble_eq_true rfl⟩ ⟨Nat.le_refl _, Nat.le_refl _⟩ (Nat.le_of_ble_eq_true rfl) dX5_steps_153 (fun y_23 z_24 h => ?_)
                    refine ww_if_eq (tgt := 217) dX5_steps_156 (by decide) (z01 z_24) (fun c => ?_) (fun c => ?_)
                    · replace h := h.1 c
                      refine ww_aload_n dX5_steps_217 0 rfl ?_
                      refine ww_aload_n dX5_steps_218 0 rfl ?_
                      refine tg_5 dX5_steps_219 ?_
                      refine ww_aload_n dX5_steps_222 0 rfl ?_
                      refine tg_4 dX5_steps_223 ?_
                      refine ww_isub dX5_steps_226 ?_
                      refine ww_bipush (v := 7) dX5_steps_227 rfl ?_
                      obtain ⟨r_25, h⟩ := h
                      refine ww_icmp_ge (tgt := 236) dX5_steps_229 (by decide) r_25 (by decide) (fun c => ?_) (fun c => ?_)
                      · replace h := h.1 c
                        refine ww_iconst dX5_steps_236 ?_
                        refine tp_6 dX5_steps_237 ?_
                        refine ww_goto (tgt := 364) dX5_steps_240 (by decide) ?_
                        exact ww_vret (0, sF σ138 6 4) rfl ⟨rfl, h⟩ rfl (Nat.le_refl _) (Nat.le_refl _) dX5_steps_364
                      · replace h := h.2 (Int.not_le.mp c)
                        refine ww_iconst dX5_steps_232 ?_
                        refine ww_goto (tgt := 237) dX5_steps_233 (by decide) ?_
                        refine tp_6 dX5_steps_237 ?_
                        refine ww_goto (tgt := 364) dX5_steps_240 (by decide) ?_
                        exact ww_vret (0, sF σ138 6 1) rfl ⟨rfl, h⟩ rfl (Nat.le_refl _) (Nat.le_refl _) dX5_steps_364
                    · replace h := h.2 c
                      refine ww_aload_n dX5_steps_159 0 rfl ?_
                      refine ww_aload_n dX5_steps_160 0 rfl ?_
                      refine tg_5 dX5_steps_161 ?_
                      refine ww_aload_n dX5_steps_164 0 rfl ?_
                      refine tg_4 dX5_steps_165 ?_
                      refine ww_isub dX5_steps_168 ?_
                      refine ww_bipush (v := 6) dX5_steps_169 rfl ?_
                      obtain ⟨r_26, h⟩ := h
                      obtain ⟨J201, hJ201, h⟩ := h
                      have kJ201 : ∀ (s1_201 : Int), J201 s1_201 → WW G l cX5_steps RX5 2 (Option.none : Option Jvm.ClassFile.FieldType) "steps" 1 0 0 (tR0 (fun _ s => P s)) (tS G q fr) 0 0 [tw G q σ138, fr] 201 [(0, .ref (q 100))] [vL s1_201, .ref (q 100)] := by
                        intro s1_201 hj
                        have h := hJ201 s1_201 hj
                        refine tp_8 dX5_steps_201 ?_
                        refine ww_aload_n dX5_steps_204 0 rfl ?_
                        refine ww_dup dX5_steps_205 rfl ?_
                        refine tg_5 dX5_steps_206 ?_
                        refine ww_iconst dX5_steps_209 ?_
                        refine ww_iadd dX5_steps_210 ?_
                        refine tp_5 dX5_steps_211 ?_
                        refine ww_goto (tgt := 138) dX5_steps_214 (by decide) ?_
                        obtain ⟨m, hm, h⟩ := h
                        exact ih138 m hm _ h
                      refine ww_icmp_ge (tgt := 197) dX5_steps_171 (by decide) r_26 (by decide) (fun c => ?_) (fun c => ?_)
                      · replace h := h.1 c
                        refine ww_aload_n dX5_steps_197 0 rfl ?_
                        refine tg_8 dX5_steps_198 ?_
                        exact kJ201 _ h
                      · replace h := h.2 (Int.not_le.mp c)
                        refine ww_aload_n dX5_steps_174 0 rfl ?_
                        refine tg_8 dX5_steps_175 ?_
                        refine ww_iconst dX5_steps_178 ?_
                        refine ww_lshl dX5_steps_179 ?_
                        refine ww_aload_n dX5_steps_180 0 rfl ?_
                        refine ww_aload_n dX5_steps_181 0 rfl ?_
                        refine tg_5 dX5_steps_182 ?_
                        refine tc_see h ⟨Nat.le_of_ble_eq_true rfl, Nat.le_of_ble_eq_true rfl⟩ ⟨Nat.le_refl _, Nat.le_refl _⟩ (Nat.le_of_ble_eq_true rfl) dX5_steps_185 (fun y_27 h => ?_)
                        obtain ⟨r_28, h⟩ := h
                        refine ww_i2l dX5_steps_188 r_28 ?_
                        refine ww_ldc2 (x := 96) dX5_steps_189 q2318 rfl ?_
                        refine ww_lsub dX5_steps_192 ?_
                        refine ww_lor dX5_steps_193 ?_
                        refine ww_goto (tgt := 201) dX5_steps_194 (by decide) ?_
                        exact kJ201 _ h
                refine ww_lv [1] rfl ?_
                obtain ⟨m, h⟩ := h
                exact kI138 m _ h
            · replace h := h.2 c
              refine ww_aload_n dX5_steps_108 1 rfl ?_
              refine ww_iconst dX5_steps_109 ?_
              refine tp_6 dX5_steps_110 ?_
              refine ww_goto (tgt := 364) dX5_steps_113 (by decide) ?_
              exact ww_vret (0, sF (sF (sF (sF (sF σ8 5 ((tF σ8 4) + 1)) 6 4) 7 0) 8 0) 6 3) rfl ⟨rfl, h⟩ rfl (Nat.le_refl _) (Nat.le_refl _) dX5_steps_364
          · replace h := h.2 c
            refine ww_aload_n dX5_steps_86 1 rfl ?_
            refine ww_aload_n dX5_steps_87 1 rfl ?_
            refine tg_4 dX5_steps_88 ?_
            refine tp_5 dX5_steps_91 ?_
            refine ww_aload_n dX5_steps_94 1 rfl ?_
            refine ww_iconst dX5_steps_95 ?_
            refine tp_6 dX5_steps_96 ?_
            refine ww_goto (tgt := 364) dX5_steps_99 (by decide) ?_
            exact ww_vret (0, sF (sF (sF (sF (sF (sF σ8 5 ((tF σ8 4) + 1)) 6 4) 7 0) 8 0) 5 (tF σ8 4)) 6 0) rfl ⟨rfl, h⟩ rfl (Nat.le_refl _) (Nat.le_refl _) dX5_steps_364
        · replace h := h.2 c
          exact kJ34 h
  obtain ⟨m, h⟩ := h
  exact kI8 m _ h
theorem tc_steps {S : Type} {G : g_G} {l : Launch} {cc : ByteArray} {nL : Nat} {ret : Option FieldType} {mn : String} {d mc ms : Nat} {R : Option Value → S → Prop} {sh : S → List va_W} {cells slots pc : Nat} {lv : List (Nat × Value)} {st : List Value} {q : Nat → Nat} {fr : va_W} {σ : TS} {P : TS → Prop} (h : w_steps σ P) (hR : 1 + 1 ≤ d ∧ 16 + (2 + 11) + 100 * 1 ≤ 100 * d) (hc : cells ≤ mc ∧ slots ≤ ms) (hst : (st.map fun v => v.category).sum ≤ 16) (hdg : decode cc pc = .ok (.invokevirtual 178, 3)) (k : ∀ σ2, P σ2 → WW G l cc RX5 nL ret mn d mc ms R sh cells slots [tw G q σ2, fr] (pc + 3) lv (st)) : WW G l cc RX5 nL ret mn d mc ms R sh cells slots [tw G q σ, fr] pc lv (.ref (q 100) :: st) := by
  refine tw_call0 (n := 0) (t_steps (q := q) h) (lw_V q2308 q2310 qs57 q117 q2311) ⟨rfl, by decide, by decide, by decide +kernel⟩ rfl hR hc rfl hst hdg ?_
  exact k
