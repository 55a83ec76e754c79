/-! NEW CELLS, CASTS, STATICS, TEXTS, STORED AND COPIED REFERENCES over the moving heap (printed by tools/mu2.py) -/
set_option maxRecDepth 100000
theorem dfl_1 : ∀ j, j < 8 → defaultValue (tyX1 j) = vp_V (ofs 1 (fun _ => 0) (fun _ => none)) j := by
  intro j hj
  match j, hj with
  | 0, _ => rfl
  | 1, _ => rfl
  | 2, _ => rfl
  | 3, _ => rfl
  | 4, _ => rfl
  | 5, _ => rfl
  | 6, _ => rfl
  | 7, _ => rfl
theorem dfl_2 : ∀ j, j < 5 → defaultValue (tyX2 j) = vp_V (ofs 2 (fun _ => 0) (fun _ => none)) j := by
  intro j hj
  match j, hj with
  | 0, _ => rfl
  | 1, _ => rfl
  | 2, _ => rfl
  | 3, _ => rfl
  | 4, _ => rfl
theorem dfl_3 : ∀ j, j < 3 → defaultValue (tyX3 j) = vp_V (ofs 3 (fun _ => 0) (fun _ => none)) j := by
  intro j hj
  match j, hj with
  | 0, _ => rfl
  | 1, _ => rfl
  | 2, _ => rfl
theorem dfl_4 : ∀ j, j < 3 → defaultValue (tyX4 j) = vp_V (ofs 4 (fun _ => 0) (fun _ => none)) j := by
  intro j hj
  match j, hj with
  | 0, _ => rfl
  | 1, _ => rfl
  | 2, _ => rfl
theorem dfl_5 : ∀ j, j < 11 → defaultValue (tyX6 j) = vp_V (ofs 5 (fun _ => 0) (fun _ => none)) j := by
  intro j hj
  match j, hj with
  | 0, _ => rfl
  | 1, _ => rfl
  | 2, _ => rfl
  | 3, _ => rfl
  | 4, _ => rfl
  | 5, _ => rfl
  | 6, _ => rfl
  | 7, _ => rfl
  | 8, _ => rfl
  | 9, _ => rfl
  | 10, _ => rfl
theorem dfl_6 : ∀ j, j < 7 → defaultValue (tyX7 j) = vp_V (ofs 6 (fun _ => 0) (fun _ => none)) j := by
  intro j hj
  match j, hj with
  | 0, _ => rfl
  | 1, _ => rfl
  | 2, _ => rfl
  | 3, _ => rfl
  | 4, _ => rfl
  | 5, _ => rfl
  | 6, _ => rfl
theorem dfl_7 : ∀ j, j < 4 → defaultValue (tyX9 j) = vp_V (ofs 7 (fun _ => 0) (fun _ => none)) j := by
  intro j hj
  match j, hj with
  | 0, _ => rfl
  | 1, _ => rfl
  | 2, _ => rfl
  | 3, _ => rfl
theorem dfl_8 : ∀ j, j < 3 → defaultValue (tyX11 j) = vp_V (ofs 8 (fun _ => 0) (fun _ => none)) j := by
  intro j hj
  match j, hj with
  | 0, _ => rfl
  | 1, _ => rfl
  | 2, _ => rfl
theorem dfl_9 : ∀ j, j < 3 → defaultValue (tyX12 j) = vp_V (ofs 9 (fun _ => 0) (fun _ => none)) j := by
  intro j hj
  match j, hj with
  | 0, _ => rfl
  | 1, _ => rfl
  | 2, _ => rfl
theorem dfl_10 : ∀ j, j < 4 → defaultValue (tyX13 j) = vp_V (ofs 10 (fun _ => 0) (fun _ => none)) j := by
  intro j hj
  match j, hj with
  | 0, _ => rfl
  | 1, _ => rfl
  | 2, _ => rfl
  | 3, _ => rfl
theorem dfl_11 : ∀ j, j < 3 → defaultValue (tyX10 j) = vp_V (ofs 11 (fun _ => 0) (fun _ => none)) j := by
  intro j hj
  match j, hj with
  | 0, _ => rfl
  | 1, _ => rfl
  | 2, _ => rfl
theorem dfl_12 : ∀ j, j < 3 → defaultValue (tyX14 j) = vp_V (ofs 12 (fun _ => 0) (fun _ => none)) j := by
  intro j hj
  match j, hj with
  | 0, _ => rfl
  | 1, _ => rfl
  | 2, _ => rfl
theorem dfl_13 : ∀ j, j < 4 → defaultValue (tyX16 j) = vp_V (ofs 13 (fun _ => 0) (fun _ => none)) j := by
  intro j hj
  match j, hj with
  | 0, _ => rfl
  | 1, _ => rfl
  | 2, _ => rfl
  | 3, _ => rfl
theorem dfl_14 : ∀ j, j < 4 → defaultValue (tyX17 j) = vp_V (ofs 14 (fun _ => 0) (fun _ => none)) j := by
  intro j hj
  match j, hj with
  | 0, _ => rfl
  | 1, _ => rfl
  | 2, _ => rfl
  | 3, _ => rfl
theorem dfl_15 : ∀ j, j < 4 → defaultValue (tyX18 j) = vp_V (ofs 15 (fun _ => 0) (fun _ => none)) j := by
  intro j hj
  match j, hj with
  | 0, _ => rfl
  | 1, _ => rfl
  | 2, _ => rfl
  | 3, _ => rfl
theorem dfl_16 : ∀ j, j < 5 → defaultValue (tyX19 j) = vp_V (ofs 16 (fun _ => 0) (fun _ => none)) j := by
  intro j hj
  match j, hj with
  | 0, _ => rfl
  | 1, _ => rfl
  | 2, _ => rfl
  | 3, _ => rfl
  | 4, _ => rfl
theorem dfl_17 : ∀ j, j < 3 → defaultValue (tyX20 j) = vp_V (ofs 17 (fun _ => 0) (fun _ => none)) j := by
  intro j hj
  match j, hj with
  | 0, _ => rfl
  | 1, _ => rfl
  | 2, _ => rfl
theorem dfl_18 : ∀ j, j < 3 → defaultValue (tyJ2 j) = vp_V (ofs 18 (fun _ => 0) (fun _ => none)) j := by
  intro j hj
  match j, hj with
  | 0, _ => rfl
  | 1, _ => rfl
  | 2, _ => rfl
theorem dfl_19 : ∀ j, j < 9 → defaultValue (tyJ4 j) = vp_V (ofs 19 (fun _ => 0) (fun _ => none)) j := by
  intro j hj
  match j, hj with
  | 0, _ => rfl
  | 1, _ => rfl
  | 2, _ => rfl
  | 3, _ => rfl
  | 4, _ => rfl
  | 5, _ => rfl
  | 6, _ => rfl
  | 7, _ => rfl
  | 8, _ => rfl
theorem dfl_20 : ∀ j, j < 6 → defaultValue (tyJ22 j) = vp_V (ofs 20 (fun _ => 0) (fun _ => none)) j := by
  intro j hj
  match j, hj with
  | 0, _ => rfl
  | 1, _ => rfl
  | 2, _ => rfl
  | 3, _ => rfl
  | 4, _ => rfl
  | 5, _ => rfl
theorem dfl_21 : ∀ j, j < 4 → defaultValue (tyJ6 j) = vp_V (ofs 21 (fun _ => 0) (fun _ => none)) j := by
  intro j hj
  match j, hj with
  | 0, _ => rfl
  | 1, _ => rfl
  | 2, _ => rfl
  | 3, _ => rfl
theorem dfl_22 : ∀ j, j < 4 → defaultValue (tyJ7 j) = vp_V (ofs 22 (fun _ => 0) (fun _ => none)) j := by
  intro j hj
  match j, hj with
  | 0, _ => rfl
  | 1, _ => rfl
  | 2, _ => rfl
  | 3, _ => rfl
theorem dfl_23 : ∀ j, j < 4 → defaultValue (tyJ25 j) = vp_V (ofs 23 (fun _ => 0) (fun _ => none)) j := by
  intro j hj
  match j, hj with
  | 0, _ => rfl
  | 1, _ => rfl
  | 2, _ => rfl
  | 3, _ => rfl
theorem dfl_24 : ∀ j, j < 4 → defaultValue (tyJ27 j) = vp_V (ofs 24 (fun _ => 0) (fun _ => none)) j := by
  intro j hj
  match j, hj with
  | 0, _ => rfl
  | 1, _ => rfl
  | 2, _ => rfl
  | 3, _ => rfl
theorem dfl_25 : ∀ j, j < 6 → defaultValue (tyJ24 j) = vp_V (ofs 25 (fun _ => 0) (fun _ => none)) j := by
  intro j hj
  match j, hj with
  | 0, _ => rfl
  | 1, _ => rfl
  | 2, _ => rfl
  | 3, _ => rfl
  | 4, _ => rfl
  | 5, _ => rfl
theorem dfl_26 : ∀ j, j < 8 → defaultValue (tyJ18 j) = vp_V (ofs 26 (fun _ => 0) (fun _ => none)) j := by
  intro j hj
  match j, hj with
  | 0, _ => rfl
  | 1, _ => rfl
  | 2, _ => rfl
  | 3, _ => rfl
  | 4, _ => rfl
  | 5, _ => rfl
  | 6, _ => rfl
  | 7, _ => rfl
section NROWS
variable {S : Type} {G : g_G} {l : Launch} {cc : ByteArray} {own : String} {nL : Nat} {ret : Option FieldType} {mn : String} {d mc ms : Nat} {R : Option Value → S → Prop} {sh : S → List va_W} {F : g_F} {cells slots : Nat} {pc : Nat} {lv : List (Nat × Value)} {st : List Value} {ws fr : va_W} {μ : HM}
/-- a cell just made stands nowhere yet -/
theorem g_fresh {q : Nat} {e : va_E} {H : Heap} (hM : Mrep G ws μ) (hP : g_P G ([ws, fr] ++ [[(q, e)]]) H) (hb : ∀ i, i < 27 → q ≠ g_ad G i) : μ q = none := by
  cases h : μ q with
  | none => rfl
  | some c =>
    have hk := hM q c h
    have hmem : ∀ e2, (q, e2) ∈ ws → False := by
      intro e2 he2
      have h2 := (va_D_iff.mp hP.2).1
      simp only [List.cons_append, List.nil_append, List.flatten_cons, List.flatten_nil, List.append_nil, List.map_append, List.map_cons, List.map_nil] at h2
      have h3 : q ∈ ws.map Prod.fst := List.mem_map.mpr ⟨_, he2, rfl⟩
      rw [List.nodup_append] at h2
      exact h2.2.2 q h3 q (List.mem_append_right _ (List.mem_cons_self)) rfl
    rcases c with p | p | p | p
    · exact (hmem _ hk).elim
    · exact (hmem _ hk).elim
    · exact (hmem _ hk).elim
    · exact (hb p.1 (by have := hk.2; omega) hk.1).elim
theorem g_adlow {s : State} {H : Heap} {q : Nat} (hX : g_X (g_ad G) (g_A G) s H) (hq : g_A G q) : ∀ i, (i < 3 ∨ (10 ≤ i ∧ i < 17) ∨ (20 ≤ i ∧ i < 27)) → q ≠ g_ad G i := by
  intro i hi he
  subst he
  rcases hi with hi | hi | hi
  · rcases (show i = 0 ∨ i = 1 ∨ i = 2 by omega) with rfl | rfl | rfl
    · obtain ⟨_, _, _, _, _, _, _, h⟩ := hX.2.2.1.2; exact h hq
    · obtain ⟨_, _, _, _, _, _, _, h⟩ := hX.2.2.2.1.2; exact h hq
    · obtain ⟨_, _, _, _, _, _, _, h⟩ := hX.2.2.2.2.1.2; exact h hq
  · obtain ⟨i, rfl⟩ : ∃ z, i = 10 + z := ⟨i - 10, by omega⟩
    obtain ⟨_, _, _, _, h⟩ := (hX.2.2.2.2.2.1.1 i (by omega)).1
    exact h hq
  · obtain ⟨i, rfl⟩ : ∃ z, i = 20 + z := ⟨i - 20, by omega⟩
    obtain ⟨_, _, _, _, _, _, _, h⟩ := (hX.2.2.2.2.2.1.1 i (by omega)).2.2.2
    exact h hq
theorem g_fresh2 {q : Nat} {e : va_E} {s : State} {H H0 : Heap} (hM : Mrep G ws μ) (hP : g_P G ([ws, fr] ++ [[(q, e)]]) H) (hX : g_X (g_ad G) (g_A G) s H0) : μ q = none := by
  cases h : μ q with
  | none => rfl
  | some c =>
    have hk := hM q c h
    have hA : g_A G q := (va_D_iff.mp hP.2).2 (q, e) (by simp)
    have hmem : ∀ e2, (q, e2) ∈ ws → False := by
      intro e2 he2
      have h2 := (va_D_iff.mp hP.2).1
      simp only [List.cons_append, List.nil_append, List.flatten_cons, List.flatten_nil, List.append_nil, List.map_append, List.map_cons, List.map_nil] at h2
      have h3 : q ∈ ws.map Prod.fst := List.mem_map.mpr ⟨_, he2, rfl⟩
      rw [List.nodup_append] at h2
      exact h2.2.2 q h3 q (List.mem_append_right _ (List.mem_cons_self)) rfl
    rcases c with p | p | p | p
    · exact (hmem _ hk).elim
    · exact (hmem _ hk).elim
    · exact (hmem _ hk).elim
    · exact (g_adlow hX hA p.1 (by have := hk.2; omega) hk.1).elim
theorem wm_new {C : String} {T : u_T} {Nf ci index : Nat} {ty0 : Nat → FieldType} (hM : Mrep G ws μ) (hin : ∀ w ∈ u_ws C T Nf, w ∈ lw_all) (hty : ∀ k, k < Nf → parseFieldDescriptor (T k).2.2.1 = some (ty0 k)) (hcl : Cond.classLink own index C ∈ lw_all) (hinst : Cond.instantiable C Nf ∈ lw_all) (hini : Cond.initialized C ∈ lw_all) (hc : vwCl[ci]? = some (C, T, Nf)) (hfs : ∀ j, j < Nf → defaultValue (ty0 j) = vp_V (ofs ci (fun _ => 0) (fun _ => none)) j) (hcells : cells + 1 ≤ mc) (hslots : slots + Nf ≤ ms) (hdg : decode cc pc = .ok (.new index, 3)) (k : ∀ (q : Nat) (ws2 : va_W), μ q = none → Mrep G ws2 (hs μ q (hO ci (fun _ => 0) (fun _ => none))) → WF G l cc own nL ret mn d mc ms F (cells + 1) (slots + Nf) [ws2, fr] (pc + 3) lv (va_rf (some q) :: st)) : WF G l cc own nL ret mn d mc ms F cells slots [ws, fr] pc lv st := by
  refine ww_new hin hty hcl hinst hini hc hfs hcells hslots hdg (fun q => ?_)
  intro p e s m args below meth c H locs ls N hS hP hl
  exact wm_push (k q _ (g_fresh2 hM hP N.2.2.2.2.2.2.2.2.2.2.2.1) (hM.push (c := hO ci (fun _ => 0) (fun _ => none)) trivial)) p e s m args below meth c H locs ls N hS hP hl
theorem wm_new0 {x : Int} (hM : Mrep G ws μ) (harr : Cond.arrayClass .int ∈ lw_all) (h0 : 0 ≤ x) (h1 : x < 100000000) (hcells : cells + 1 ≤ mc) (hslots : slots + x.toNat ≤ ms) (hdg : decode cc pc = .ok (.newarray .int, 2)) (k : ∀ (q : Nat) (ws2 : va_W), μ q = none → Mrep G ws2 (hs μ q (hA 0 x.toNat (fun _ => 0))) → WF G l cc own nL ret mn d mc ms F (cells + 1) (slots + x.toNat) [ws2, fr] (pc + 2) lv (va_rf (some q) :: st)) : WF G l cc own nL ret mn d mc ms F cells slots [ws, fr] pc lv (vI x :: st) := by
  refine ww_newI (atype := .int) (ty := .int) 0 rfl (fun C h => by cases h) rfl harr rfl h0 (by omega) (Nat.le_trans (Nat.mul_le_mul_left x.toNat (show componentBytes .int ≤ 4 by decide)) (by omega)) hcells hslots hdg (fun q => ?_)
  intro p e s m args below meth c H locs ls N hS hP hl
  exact wm_push (k q _ (g_fresh2 hM hP N.2.2.2.2.2.2.2.2.2.2.2.1) (hM.push (c := hA 0 x.toNat (fun _ => 0)) trivial)) p e s m args below meth c H locs ls N hS hP hl
theorem wm_new2 {x : Int} (hM : Mrep G ws μ) (harr : Cond.arrayClass .byte ∈ lw_all) (h0 : 0 ≤ x) (h1 : x < 100000000) (hcells : cells + 1 ≤ mc) (hslots : slots + x.toNat ≤ ms) (hdg : decode cc pc = .ok (.newarray .byte, 2)) (k : ∀ (q : Nat) (ws2 : va_W), μ q = none → Mrep G ws2 (hs μ q (hA 2 x.toNat (fun _ => 0))) → WF G l cc own nL ret mn d mc ms F (cells + 1) (slots + x.toNat) [ws2, fr] (pc + 2) lv (va_rf (some q) :: st)) : WF G l cc own nL ret mn d mc ms F cells slots [ws, fr] pc lv (vI x :: st) := by
  refine ww_newI (atype := .byte) (ty := .byte) 2 rfl (fun C h => by cases h) rfl harr rfl h0 (by omega) (Nat.le_trans (Nat.mul_le_mul_left x.toNat (show componentBytes .byte ≤ 4 by decide)) (by omega)) hcells hslots hdg (fun q => ?_)
  intro p e s m args below meth c H locs ls N hS hP hl
  exact wm_push (k q _ (g_fresh2 hM hP N.2.2.2.2.2.2.2.2.2.2.2.1) (hM.push (c := hA 2 x.toNat (fun _ => 0)) trivial)) p e s m args below meth c H locs ls N hS hP hl
theorem wm_new3 {x : Int} (hM : Mrep G ws μ) (harr : Cond.arrayClass .boolean ∈ lw_all) (h0 : 0 ≤ x) (h1 : x < 100000000) (hcells : cells + 1 ≤ mc) (hslots : slots + x.toNat ≤ ms) (hdg : decode cc pc = .ok (.newarray .boolean, 2)) (k : ∀ (q : Nat) (ws2 : va_W), μ q = none → Mrep G ws2 (hs μ q (hA 3 x.toNat (fun _ => 0))) → WF G l cc own nL ret mn d mc ms F (cells + 1) (slots + x.toNat) [ws2, fr] (pc + 2) lv (va_rf (some q) :: st)) : WF G l cc own nL ret mn d mc ms F cells slots [ws, fr] pc lv (vI x :: st) := by
  refine ww_newI (atype := .boolean) (ty := .boolean) 3 rfl (fun C h => by cases h) rfl harr rfl h0 (by omega) (Nat.le_trans (Nat.mul_le_mul_left x.toNat (show componentBytes .boolean ≤ 4 by decide)) (by omega)) hcells hslots hdg (fun q => ?_)
  intro p e s m args below meth c H locs ls N hS hP hl
  exact wm_push (k q _ (g_fresh2 hM hP N.2.2.2.2.2.2.2.2.2.2.2.1) (hM.push (c := hA 3 x.toNat (fun _ => 0)) trivial)) p e s m args below meth c H locs ls N hS hP hl
theorem wm_new1 {x : Int} (hM : Mrep G ws μ) (harr : Cond.arrayClass .long ∈ lw_all) (h0 : 0 ≤ x) (h1 : x < 60000000) (hcells : cells + 1 ≤ mc) (hslots : slots + x.toNat ≤ ms) (hdg : decode cc pc = .ok (.newarray .long, 2)) (k : ∀ (q : Nat) (ws2 : va_W), μ q = none → Mrep G ws2 (hs μ q (hA 1 x.toNat (fun _ => 0))) → WF G l cc own nL ret mn d mc ms F (cells + 1) (slots + x.toNat) [ws2, fr] (pc + 2) lv (va_rf (some q) :: st)) : WF G l cc own nL ret mn d mc ms F cells slots [ws, fr] pc lv (vI x :: st) := by
  refine ww_newL harr h0 (by omega) (Nat.le_trans (Nat.mul_le_mul_left x.toNat (show componentBytes .long ≤ 8 by decide)) (by omega)) hcells hslots hdg (fun q => ?_)
  intro p e s m args below meth c H locs ls N hS hP hl
  exact wm_push (k q _ (g_fresh2 hM hP N.2.2.2.2.2.2.2.2.2.2.2.1) (hM.push (c := hA 1 x.toNat (fun _ => 0)) trivial)) p e s m args below meth c H locs ls N hS hP hl
theorem g_tys_obj {s : State} {cA : ClassId} {C : String} {t0 : Nat} {c0 : ClassId} (h : va_K (g_D G) vwCl (g_tys G ++ [(cA, .object C)]) s) (ht : (g_tys G)[t0]? = some (c0, .object C)) : cA = c0 := by
  obtain ⟨_, _, _, _, _, e1⟩ := (h.2 (g_tys G).length (cA, .object C) (by simp)).2
  obtain ⟨_, _, _, _, _, e2⟩ := (h.2 t0 (c0, .object C) (by rw [List.getElem?_append_left (List.getElem?_eq_some_iff.mp ht).1]; exact ht)).2
  exact Option.some.inj (e1.symm.trans e2)
theorem wm_anew {C : String} {index : Nat} {x : Int} (t : Nat) (hM : Mrep G ws μ) (hao : ∀ s, g_ao s → va_AO C s) (ht : (g_tys G)[t]? = some (g_k G t, .object C)) (hcl : Cond.classLink own index C ∈ lw_all) (h0 : 0 ≤ x) (h1 : x < 100000000) (hcells : cells + 1 ≤ mc) (hslots : slots + x.toNat ≤ ms) (hdg : decode cc pc = .ok (.anewarray index, 3)) (k : ∀ (q : Nat) (ws2 : va_W), μ q = none → Mrep G ws2 (hs μ q (hQ t x.toNat (fun _ => none))) → WF G l cc own nL ret mn d mc ms F (cells + 1) (slots + x.toNat) [ws2, fr] (pc + 3) lv (va_rf (some q) :: st)) : WF G l cc own nL ret mn d mc ms F cells slots [ws, fr] pc lv (vI x :: st) := by
  intro p e s m args below meth c H locs ls N hS hP hl
  have hK := N.2.2.2.2.2.2.2.2
  refine va_newq (N' := x.toNat) N.1 N.2.1 N.2.2.2.1 (N.2.2.1 _ hcl) (hao s hK.2.2.2.1.2.2.2.2.2.2.2.2.2.1) hK.1 hP.1 hP.2 hS (fun q hq => Nat.le_trans hK.2.1 hq) (by rw [iI_0, iI_lt ⟨by omega, by omega⟩ r0]; omega) (iI_clamp h0 (by omega)) (by omega) hcells hslots hdg (fun q cA H1 hK1 hP1 hD1 hS1 => ?_)
  have e0 : cA = g_k G t := g_tys_obj hK1 ht
  subst e0
  have e1 : ([ws, fr] ++ [[(q, aQ (g_k G t) x.toNat (fun _ => none))]]).flatten = [ws, fr].flatten ++ [(q, aQ (g_k G t) x.toNat (fun _ => none))] := by simp
  have hP2 : g_P G ([ws, fr] ++ [[(q, aQ (g_k G t) x.toNat (fun _ => none))]]) H1 := ⟨by rw [e1]; exact hP1, by rw [e1]; exact hD1⟩
  exact wm_push (k q _ (g_fresh2 hM hP2 hK.2.2.2.1) (hM.push (c := hQ t x.toNat (fun _ => none)) trivial)) p e s m args below meth c H1 locs ls N hS1 hP2 hl
theorem wm_anew6 {index : Nat} {x : Int} (hM : Mrep G ws μ) (hcl : Cond.classLink own index "[I" ∈ lw_all) (h0 : 0 ≤ x) (h1 : x < 100000000) (hcells : cells + 1 ≤ mc) (hslots : slots + x.toNat ≤ ms) (hdg : decode cc pc = .ok (.anewarray index, 3)) (k : ∀ (q : Nat) (ws2 : va_W), μ q = none → Mrep G ws2 (hs μ q (hQ 6 x.toNat (fun _ => none))) → WF G l cc own nL ret mn d mc ms F (cells + 1) (slots + x.toNat) [ws2, fr] (pc + 3) lv (va_rf (some q) :: st)) : WF G l cc own nL ret mn d mc ms F cells slots [ws, fr] pc lv (vI x :: st) := by
  intro p e s m args below meth c H locs ls N hS hP hl
  have hK := N.2.2.2.2.2.2.2.2
  have hcl2 := N.2.2.1 _ hcl
  have hao : (Cond.arrayOver (.array .int)).before args s = true := hK.2.2.2.1.2.2.2.2.2.2.2.2.2.1.2.2
  have ex : (Int32.ofInt x).toNatClampNeg = x.toNat := iI_clamp h0 (by omega)
  refine W.anewA (t := .int) (n := Int32.ofInt x) (rest := st) N.1 N.2.1 N.2.2.2.1 hcl2 hao (g := F0 m pc ls (vI x :: st)) rfl hdg rfl (by rw [iI_0, iI_lt ⟨by omega, by omega⟩ r0]; omega) (by rw [ex]; omega) hcells (by rw [ex]; exact hslots) (fun cA kA comp f1 f2 f3 f4 => ?_)
  rw [ex]
  have e0 : cA = g_k G 6 := by
    have h6 := (hK.1.2 6 (g_k G 6, .array .int) rfl).2
    exact Option.some.inj (f1.symm.trans h6)
  subst e0
  generalize hH1 : H.push ({ cls := g_k G 6, slots := Array.replicate x.toNat .null, vm := .none } : Cell) = H1
  have z1 : H1.size = H.size + 1 := by rw [← hH1, Array.size_push]
  have e1 : H1[H.size]? = some (arrV (g_k G 6) x.toNat (fun _ => .null)) := by rw [← hH1, Array.getElem?_push_size, ← arrV_new]
  have oq : ∀ q : Nat, q < H.size → H1[q]? = H[q]? := fun q hq => by rw [← hH1, Array.getElem?_push_lt hq, Array.getElem?_eq_getElem hq]
  have e2 : ([ws, fr] ++ [[(H.size, aQ (g_k G 6) x.toNat (fun _ => none))]]).flatten = [ws, fr].flatten ++ [(H.size, aQ (g_k G 6) x.toNat (fun _ => none))] := by simp
  have hA : g_A G H.size := Nat.le_trans hK.2.1 hS.1
  have hP2 : g_P G ([ws, fr] ++ [[(H.size, aQ (g_k G 6) x.toNat (fun _ => none))]]) H1 := by
    refine ⟨?_, ?_⟩
    · rw [e2]
      refine va_P.app (fun k q hk => (hP.1 k q hk).kept (oq _ (hP.1 k q hk).lt)) (fun k q hk => ?_)
      have hk0 : k = 0 := by
        have := (List.getElem?_eq_some_iff.mp hk).1
        simpa using this
      subst hk0
      cases hk
      exact e1
    · rw [e2]
      exact va_D.push hP.2 hP.1 rfl hA
  have hS2 : va_S (g_A G) s.heap H1 locs := ⟨by rw [z1]; exact Nat.le_succ_of_le hS.1, fun q h1 h2 => by rw [oq q (Nat.lt_of_lt_of_le h1 hS.1)]; exact hS.2.1 q h1 h2, hS.2.2⟩
  exact wm_push (k H.size _ (g_fresh2 hM hP2 hK.2.2.2.1) (hM.push (c := hQ 6 x.toNat (fun _ => none)) trivial)) p e s m args below meth c H1 locs ls N hS2 hP2 hl
/-- casts -/
theorem wm_castN {index : Nat} {Ws : List va_W} (hdg : decode cc pc = .ok (.checkcast index, 3)) (k : WF G l cc own nL ret mn d mc ms F cells slots Ws (pc + 3) lv (va_rf none :: st)) : WF G l cc own nL ret mn d mc ms F cells slots Ws pc lv (va_rf none :: st) := by
  intro p e s m args below meth c H locs ls N hS hP hl
  exact lv_castN N.1 N.2.1 hdg (k p e s m args below meth c H locs ls N hS hP hl)
/-- to a class above its own -/
theorem wm_castY {a ci index : Nat} {C nm : String} {T : u_T} {Nf : Nat} (hM : Mrep G ws μ) (hg : gC μ a = some ci) (hc : vwCl[ci]? = some (C, T, Nf)) (hlink : Cond.classLink own index nm ∈ lw_all) (hca : Cond.castable C nm ∈ lw_tbl) (hdg : decode cc pc = .ok (.checkcast index, 3)) (k : WF G l cc own nL ret mn d mc ms F cells slots [ws, fr] (pc + 3) lv (va_rf (some a) :: st)) : WF G l cc own nL ret mn d mc ms F cells slots [ws, fr] pc lv (va_rf (some a) :: st) := by
  intro p e s m args below meth c H locs ls N hS hP hl
  have hK := N.2.2.2.2.2.2.2.2
  exact va_castY N.1 N.2.1 N.2.2.2.1 (N.2.2.1 _ hlink) (hK.2.2.1 _ hca rfl) (wm_rc hM hg hc s H locs hK hS hP) hdg (k p e s m args below meth c H locs ls N hS hP hl)
/-- to its own class -/
theorem wm_castS {a ci index : Nat} {C : String} {T : u_T} {Nf : Nat} (hM : Mrep G ws μ) (hg : gC μ a = some ci) (hc : vwCl[ci]? = some (C, T, Nf)) (hlink : Cond.classLink own index C ∈ lw_all) (hdg : decode cc pc = .ok (.checkcast index, 3)) (k : WF G l cc own nL ret mn d mc ms F cells slots [ws, fr] (pc + 3) lv (va_rf (some a) :: st)) : WF G l cc own nL ret mn d mc ms F cells slots [ws, fr] pc lv (va_rf (some a) :: st) := by
  intro p e s m args below meth c H locs ls N hS hP hl
  have hK := N.2.2.2.2.2.2.2.2
  exact va_castS N.1 N.2.1 N.2.2.2.1 (N.2.2.1 _ hlink) (hK.1.1 ci _ hc).2 (wm_rc hM hg hc s H locs hK hS hP) hdg (k p e s m args below meth c H locs ls N hS hP hl)
theorem wm_castArr {a n t index : Nat} {f : Int → Int} {nm : String} (hM : Mrep G ws μ) (hμ : μ a = some (hA t n f)) (h1 : t = 0 ∨ t = 2) (hnm : ∀ s, va_K (g_D G) vwCl (g_tys G) s → s.vm.findClass nm = some (g_k G t)) (hlink : Cond.classLink own index nm ∈ lw_all) (hdg : decode cc pc = .ok (.checkcast index, 3)) (k : WF G l cc own nL ret mn d mc ms F cells slots [ws, fr] (pc + 3) lv (va_rf (some a) :: st)) : WF G l cc own nL ret mn d mc ms F cells slots [ws, fr] pc lv (va_rf (some a) :: st) := by
  intro p e s m args below meth c H locs ls N hS hP hl
  have hK := N.2.2.2.2.2.2.2.2
  obtain ⟨j, hj⟩ := hM.at hμ trivial
  have ej : hcE G (hA t n f) = aI (g_k G t) n f := by rcases h1 with rfl | rfl <;> rfl
  rw [ej] at hj
  obtain ⟨q0, g1, -⟩ := flat_at (Ws := [ws, fr]) (k := 0) rfl hj
  exact va_castA N.1 N.2.1 N.2.2.2.1 (N.2.2.1 _ hlink) hP.1 q0 g1 (hnm s hK.1) hdg (k p e s m args below meth c H locs ls N hS hP hl)
theorem wm_castArrQ {a n t index : Nat} {f : Int → Option Nat} {nm : String} (hM : Mrep G ws μ) (hμ : μ a = some (hQ t n f)) (hnm : ∀ s, va_K (g_D G) vwCl (g_tys G) s → s.vm.findClass nm = some (g_k G t)) (hlink : Cond.classLink own index nm ∈ lw_all) (hdg : decode cc pc = .ok (.checkcast index, 3)) (k : WF G l cc own nL ret mn d mc ms F cells slots [ws, fr] (pc + 3) lv (va_rf (some a) :: st)) : WF G l cc own nL ret mn d mc ms F cells slots [ws, fr] pc lv (va_rf (some a) :: st) := by
  intro p e s m args below meth c H locs ls N hS hP hl
  have hK := N.2.2.2.2.2.2.2.2
  obtain ⟨j, hj⟩ := hM.at hμ trivial
  obtain ⟨q0, g1, -⟩ := flat_at (Ws := [ws, fr]) (k := 0) rfl hj
  exact va_castA N.1 N.2.1 N.2.2.2.1 (N.2.2.1 _ hlink) hP.1 q0 g1 (hnm s hK.1) hdg (k p e s m args below meth c H locs ls N hS hP hl)
theorem nm_I (s : State) (h : va_K (g_D G) vwCl (g_tys G) s) : s.vm.findClass "[I" = some (g_k G 0) := (h.2 0 _ rfl).2
theorem nm_B (s : State) (h : va_K (g_D G) vwCl (g_tys G) s) : s.vm.findClass "[B" = some (g_k G 2) := (h.2 2 _ rfl).2
theorem nm_O (s : State) (h : va_K (g_D G) vwCl (g_tys G) s) : s.vm.findClass "[Ljava/lang/Object;" = some (g_k G 4) := va_nmO (h.2 4 _ rfl).2 rfl
/-- statics -/
theorem wm_getsI {C n dd ref : String} {index : Nat} {x : Int32} {Ws : List va_W} (hm : (C, n, dd, x) ∈ g_sti) (hlink : Cond.fieldLink own index ref n dd ∈ lw_all) (hsame : ∀ (s : State) x, s.fieldFound? C n dd = some x → s.fieldFound? ref n dd = some x) (hdg : decode cc pc = .ok (.getstatic index, 3)) (k : WF G l cc own nL ret mn d mc ms F cells slots Ws (pc + 3) lv (.int x :: st)) : WF G l cc own nL ret mn d mc ms F cells slots Ws pc lv st := by
  intro p e s m args below meth c H locs ls N hS hP hl
  have hX := N.2.2.2.2.2.2.2.2.2.2.2.1
  exact va_gets (v := .int x) N.1 N.2.1 (hX.1 _ hm) hS N.2.2.2.1 (N.2.2.1 _ hlink) (hsame s) hdg (k p e s m args below meth c H locs ls N hS hP hl)
/-- a static reference, nobody asks which -/
theorem wm_getsZ {C n dd ref : String} {index : Nat} {Ws : List va_W} (hm : (C, n, dd) ∈ g_stq) (hlink : Cond.fieldLink own index ref n dd ∈ lw_all) (hsame : ∀ (s : State) x, s.fieldFound? C n dd = some x → s.fieldFound? ref n dd = some x) (hdg : decode cc pc = .ok (.getstatic index, 3)) (k : ∀ x : Option Nat, WF G l cc own nL ret mn d mc ms F cells slots Ws (pc + 3) lv (va_rf x :: st)) : WF G l cc own nL ret mn d mc ms F cells slots Ws pc lv st := by
  intro p e s m args below meth c H locs ls N hS hP hl
  have hX := N.2.2.2.2.2.2.2.2.2.2.2.1
  rcases (hX.2.1 _ hm).1 with h | ⟨t, h⟩
  · exact va_gets (v := .null) N.1 N.2.1 h hS N.2.2.2.1 (N.2.2.1 _ hlink) (hsame s) hdg (k none p e s m args below meth c H locs ls N hS hP hl)
  · exact va_gets (v := .ref t) N.1 N.2.1 h hS N.2.2.2.1 (N.2.2.1 _ hlink) (hsame s) hdg (k (some t) p e s m args below meth c H locs ls N hS hP hl)
/-- a static array that is known: i = 0 the empty one, 1 ONES, 2 TENS -/
theorem wm_getsC {C n dd ref : String} {index : Nat} (i : Nat) (hZ : ∀ (s : State) (H : Heap), g_X (g_ad G) (g_A G) s H → va_Z C n dd (.ref (g_ad G i)) (g_A G) s H) (hi : i < 3) (hM : Mrep G ws μ) (hlink : Cond.fieldLink own index ref n dd ∈ lw_all) (hsame : ∀ (s : State) x, s.fieldFound? C n dd = some x → s.fieldFound? ref n dd = some x) (hdg : decode cc pc = .ok (.getstatic index, 3)) (k : WF G l cc own nL ret mn d mc ms F cells slots [ws, fr] (pc + 3) lv (va_rf (some (g_ad G i)) :: st)) : WF G l cc own nL ret mn d mc ms F cells slots [ws, fr] pc lv st := by
  intro p e s m args below meth c H locs ls N hS hP hl
  have hX := N.2.2.2.2.2.2.2.2.2.2.2.1
  exact va_gets (v := .ref (g_ad G i)) N.1 N.2.1 (hZ s _ hX) hS N.2.2.2.1 (N.2.2.1 _ hlink) (hsame s) hdg (k p e s m args below meth c H locs ls N hS hP hl)
theorem wm_getsCN {C n dd ref host : String} {index : Nat} (i : Nat) (hZ : ∀ (s : State) (H : Heap), g_X (g_ad G) (g_A G) s H → va_Z C n dd (.ref (g_ad G i)) (g_A G) s H) (hi : i < 3) (hM : Mrep G ws μ) (hlink : Cond.fieldLinkNest own index ref n dd host ∈ lw_tbl) (hsame : ∀ (s : State) x, s.fieldFound? C n dd = some x → s.fieldFound? ref n dd = some x) (hdg : decode cc pc = .ok (.getstatic index, 3)) (k : WF G l cc own nL ret mn d mc ms F cells slots [ws, fr] (pc + 3) lv (va_rf (some (g_ad G i)) :: st)) : WF G l cc own nL ret mn d mc ms F cells slots [ws, fr] pc lv st := by
  intro p e s m args below meth c H locs ls N hS hP hl
  have hK := N.2.2.2.2.2.2.2.2
  exact va_getsN (v := .ref (g_ad G i)) N.1 N.2.1 (hZ s _ hK.2.2.2.1) hS N.2.2.2.1 (va_Nw.use rfl (hK.2.2.1 _ hlink rfl)) (hsame s) hdg (k p e s m args below meth c H locs ls N hS hP hl)
theorem hZ_0 (s : State) (H : Heap) (h : g_X (g_ad G) (g_A G) s H) : va_Z "java/util/ArrayList" "DEFAULTCAPACITY_EMPTY_ELEMENTDATA" "[Ljava/lang/Object;" (.ref (g_ad G 0)) (g_A G) s H := h.2.2.1.1
theorem hZ_1 (s : State) (H : Heap) (h : g_X (g_ad G) (g_A G) s H) : va_Z "HoloNet" "ONES" "[I" (.ref (g_ad G 1)) (g_A G) s H := h.2.2.2.1.1
theorem hZ_2 (s : State) (H : Heap) (h : g_X (g_ad G) (g_A G) s H) : va_Z "HoloNet" "TENS" "[I" (.ref (g_ad G 2)) (g_A G) s H := h.2.2.2.2.1.1
/-- a class constant: Object[].class -/
theorem wm_ldcM {index : Nat} {Ws : List va_W} (hlink : Cond.classLink own index "[Ljava/lang/Object;" ∈ lw_all) (hdg : decode cc pc = .ok (.ldc index, 2)) (k : WF G l cc own nL ret mn d mc ms F cells slots Ws (pc + 2) lv (va_rf (some (g_ad G 3)) :: st)) : WF G l cc own nL ret mn d mc ms F cells slots Ws pc lv st := by
  intro p e s m args below meth c H locs ls N hS hP hl
  have hX := N.2.2.2.2.2.2.2.2.2.2.2.1
  exact va_ldcM N.1 N.2.1 N.2.2.2.1 (N.2.2.1 _ hlink) hX.2.2.2.2.2.2.2.2.1.1 hdg (k p e s m args below meth c H locs ls N hS hP hl)
/-- a String's fields -/
theorem wm_strQ {ref : String} {index a : Nat} {o x : Option Nat} (hM : Mrep G ws μ) (ho : o = some a) (hg : gQ μ a 22 0 = some x) (hlink : Cond.fieldLink own index ref "value" "[B" ∈ lw_all) (hsame : ∀ (s : State) x, s.fieldFound? "java/lang/String" "value" "[B" = some x → s.fieldFound? ref "value" "[B" = some x) (hdg : decode cc pc = .ok (.getfield index, 3)) (k : WF G l cc own nL ret mn d mc ms F cells slots [ws, fr] (pc + 3) lv (va_rf x :: st)) : WF G l cc own nL ret mn d mc ms F cells slots [ws, fr] pc lv (va_rf o :: st) := by
  subst ho
  unfold gQ at hg
  split at hg
  · rename_i c fi fq he
    split at hg
    · rename_i hc
      subst hc
      cases hg
      obtain ⟨j, hj⟩ := hM.at (c := hO 22 fi fq) he trivial
      exact ww_get (ci := 22) (fs := ofs 22 fi fq) in_J7 0 j rfl hj rfl 0 (by decide) hlink hsame rfl hdg k
    · cases hg
  · rename_i i x2 he
    split at hg
    · rename_i hi
      cases hg
      obtain ⟨ha, hx⟩ := hM _ _ he
      subst ha
      intro p e s m args below meth c H locs ls N hS hP hl
      have hX := N.2.2.2.2.2.2.2.2.2.2.2.1
      obtain ⟨i, rfl⟩ : ∃ z, i = 10 + z := ⟨i - 10, by omega⟩
      have hx2 : x2 = g_ad G (20 + i) := by
        have : x2 = g_ad G (10 + i + 10) := by rcases hx with h | h | h <;> omega
        rw [this]; congr 1; omega
      subst hx2
      exact vk_getf (v := .ref (g_ad G (20 + i))) N.1 N.2.1 (hX.2.2.2.2.2.1.1 i (by omega)).2.2.1 hS N.2.2.2.1 (N.2.2.1 _ hlink) (hsame s) hdg (k p e s m args below meth c H locs ls N hS hP hl)
    · cases hg
  · cases hg
theorem wm_strI1 {ref : String} {index a : Nat} {o : Option Nat} {x : Int} (hM : Mrep G ws μ) (ho : o = some a) (hg : gI μ a 22 1 = some x) (hlink : Cond.fieldLink own index ref "coder" "B" ∈ lw_all) (hsame : ∀ (s : State) x, s.fieldFound? "java/lang/String" "coder" "B" = some x → s.fieldFound? ref "coder" "B" = some x) (hdg : decode cc pc = .ok (.getfield index, 3)) (k : WF G l cc own nL ret mn d mc ms F cells slots [ws, fr] (pc + 3) lv (vI x :: st)) : WF G l cc own nL ret mn d mc ms F cells slots [ws, fr] pc lv (va_rf o :: st) := by
  subst ho
  unfold gI at hg
  split at hg
  · rename_i c fi fq he
    split at hg
    · rename_i hc
      subst hc
      cases hg
      obtain ⟨j, hj⟩ := hM.at (c := hO 22 fi fq) he trivial
      exact ww_get (ci := 22) (fs := ofs 22 fi fq) in_J7 0 j rfl hj rfl 1 (by decide) hlink hsame rfl hdg k
    · cases hg
  · rename_i i x2 he
    have hr : 10 ≤ i ∧ i < 17 := by
      rw [if_pos rfl] at hg
      unfold strI at hg
      split at hg
      · assumption
      · cases hg
    obtain ⟨ha, hx⟩ := hM _ _ he
    subst ha
    intro p e s m args below meth c H locs ls N hS hP hl
    have hX := N.2.2.2.2.2.2.2.2.2.2.2.1
    have hh := k p e s m args below meth c H locs ls N hS hP hl
    obtain ⟨i, rfl⟩ : ∃ z, i = 10 + z := ⟨i - 10, by omega⟩
    have go := vk_getf (v := .int 0) (pc := pc) (cc := cc) (own := own) (ref := ref) (index := index) (rest := st) (ls := ls) (below := below) (e := e) (R := g_rm d mc ms) (l := l) (p := p) (m := m) (meth := meth) (args := args) (cells := cells) (slots := slots) (Q := F.1 below args s) N.1 N.2.1 (hX.2.2.2.2.2.1.1 i (by omega)).2.1 hS N.2.2.2.1 (N.2.2.1 _ hlink) (hsame s) hdg
    have e9 : x = 0 := by
      unfold strI at hg
      rw [if_pos rfl] at hg
      split at hg
      · cases hg; rfl
      · rename_i hnr; exact absurd hr hnr
    subst e9
    exact go hh
  · cases hg
theorem wm_strI2 {ref : String} {index a : Nat} {o : Option Nat} {x : Int} (hM : Mrep G ws μ) (ho : o = some a) (hg : gI μ a 22 2 = some x) (hlink : Cond.fieldLink own index ref "hash" "I" ∈ lw_all) (hsame : ∀ (s : State) x, s.fieldFound? "java/lang/String" "hash" "I" = some x → s.fieldFound? ref "hash" "I" = some x) (hdg : decode cc pc = .ok (.getfield index, 3)) (k : WF G l cc own nL ret mn d mc ms F cells slots [ws, fr] (pc + 3) lv (vI x :: st)) : WF G l cc own nL ret mn d mc ms F cells slots [ws, fr] pc lv (va_rf o :: st) := by
  subst ho
  unfold gI at hg
  split at hg
  · rename_i c fi fq he
    split at hg
    · rename_i hc
      subst hc
      cases hg
      obtain ⟨j, hj⟩ := hM.at (c := hO 22 fi fq) he trivial
      exact ww_get (ci := 22) (fs := ofs 22 fi fq) in_J7 0 j rfl hj rfl 2 (by decide) hlink hsame rfl hdg k
    · cases hg
  · rename_i i x2 he
    have hr : 10 ≤ i ∧ i < 17 := by
      rw [if_pos rfl] at hg
      unfold strI at hg
      split at hg
      · assumption
      · cases hg
    obtain ⟨ha, hx⟩ := hM _ _ he
    subst ha
    intro p e s m args below meth c H locs ls N hS hP hl
    have hX := N.2.2.2.2.2.2.2.2.2.2.2.1
    have hh := k p e s m args below meth c H locs ls N hS hP hl
    obtain ⟨i, rfl⟩ : ∃ z, i = 10 + z := ⟨i - 10, by omega⟩
    have go := vk_getf (v := .int (g_hash.getD i 0)) (pc := pc) (cc := cc) (own := own) (ref := ref) (index := index) (rest := st) (ls := ls) (below := below) (e := e) (R := g_rm d mc ms) (l := l) (p := p) (m := m) (meth := meth) (args := args) (cells := cells) (slots := slots) (Q := F.1 below args s) N.1 N.2.1 (hX.2.2.2.2.2.2.1 i (by omega)).1 hS N.2.2.2.1 (N.2.2.1 _ hlink) (hsame s) hdg
    have e9 : vI x = .int (g_hash.getD i 0) := by
      unfold strI at hg
      rw [if_pos rfl] at hg
      split at hg
      · rw [if_neg (by decide), if_pos rfl, Nat.add_sub_cancel_left] at hg
        cases hg
        rw [← vI_toInt]
      · rename_i hnr; exact absurd hr hnr
    rw [e9] at hh
    exact go hh
  · cases hg
theorem wm_strI3 {ref : String} {index a : Nat} {o : Option Nat} {x : Int} (hM : Mrep G ws μ) (ho : o = some a) (hg : gI μ a 22 3 = some x) (hlink : Cond.fieldLink own index ref "hashIsZero" "Z" ∈ lw_all) (hsame : ∀ (s : State) x, s.fieldFound? "java/lang/String" "hashIsZero" "Z" = some x → s.fieldFound? ref "hashIsZero" "Z" = some x) (hdg : decode cc pc = .ok (.getfield index, 3)) (k : WF G l cc own nL ret mn d mc ms F cells slots [ws, fr] (pc + 3) lv (vI x :: st)) : WF G l cc own nL ret mn d mc ms F cells slots [ws, fr] pc lv (va_rf o :: st) := by
  subst ho
  unfold gI at hg
  split at hg
  · rename_i c fi fq he
    split at hg
    · rename_i hc
      subst hc
      cases hg
      obtain ⟨j, hj⟩ := hM.at (c := hO 22 fi fq) he trivial
      exact ww_get (ci := 22) (fs := ofs 22 fi fq) in_J7 0 j rfl hj rfl 3 (by decide) hlink hsame rfl hdg k
    · cases hg
  · rename_i i x2 he
    have hr : 10 ≤ i ∧ i < 17 := by
      rw [if_pos rfl] at hg
      unfold strI at hg
      split at hg
      · assumption
      · cases hg
    obtain ⟨ha, hx⟩ := hM _ _ he
    subst ha
    intro p e s m args below meth c H locs ls N hS hP hl
    have hX := N.2.2.2.2.2.2.2.2.2.2.2.1
    have hh := k p e s m args below meth c H locs ls N hS hP hl
    obtain ⟨i, rfl⟩ : ∃ z, i = 10 + z := ⟨i - 10, by omega⟩
    have go := vk_getf (v := .int (if i = 0 then 1 else 0)) (pc := pc) (cc := cc) (own := own) (ref := ref) (index := index) (rest := st) (ls := ls) (below := below) (e := e) (R := g_rm d mc ms) (l := l) (p := p) (m := m) (meth := meth) (args := args) (cells := cells) (slots := slots) (Q := F.1 below args s) N.1 N.2.1 (hX.2.2.2.2.2.2.1 i (by omega)).2 hS N.2.2.2.1 (N.2.2.1 _ hlink) (hsame s) hdg
    have e9 : vI x = .int (if i = 0 then 1 else 0) := by
      unfold strI at hg
      rw [if_pos rfl] at hg
      split at hg
      · rw [if_neg (by decide), if_neg (by decide), if_pos rfl] at hg
        cases hg
        by_cases hi : i = 0
        · subst hi; rfl
        · rw [if_neg (show ¬ 10 + i = 10 by omega), if_neg hi]; rfl
      · rename_i hnr; exact absurd hr hnr
    rw [e9] at hh
    exact go hh
  · cases hg
end NROWS
