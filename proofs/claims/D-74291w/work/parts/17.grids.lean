/-! GRIDS: a new int[x][y] over the moving heap -/
set_option maxRecDepth 100000
/-- a grid's cells: the outer array at q, its rows behind it -/
def hgrid (μ : HM) (q N M : Nat) : HM := fun a => if a = q then some (hQ 6 N (fun i => if i < N then some (q + 1 + i.toNat) else none)) else if q < a ∧ a ≤ q + N then some (hA 0 M (fun _ => 0)) else μ a
theorem outer_arr (c : ClassId) (N h0 : Nat) : Jvm.Free.Multi.outerC c N h0 N = arrV c N (fun j : Nat => va_rf (if (j : Int) < N then some (h0 + 1 + (j : Int).toNat) else none)) := by
  have key : ∀ i, i ≤ N → Jvm.Free.Multi.outerC c N h0 i = arrV c N (fun j : Nat => va_rf (if j < i then some (h0 + 1 + j) else none)) := by
    intro i
    induction i with
    | zero =>
      intro _
      show ({ cls := c, slots := Array.replicate N .null, vm := .none } : Cell) = _
      rw [arrV_new]
      congr 1
    | succ i ih =>
      intro hi
      show (Jvm.Free.Multi.outerC c N h0 i).setSlot i (.ref (h0 + 1 + i)) = _
      rw [ih (by omega), arrV_store]
      congr 1
      funext j
      unfold updV
      by_cases h : j = i
      · subst h
        rw [if_pos rfl, if_pos (Nat.lt_succ_self j)]
        rfl
      · rw [if_neg h]
        show va_rf (if j < i then some (h0 + 1 + j) else none) = _
        by_cases h2 : j < i
        · rw [if_pos h2, if_pos (by omega)]
        · rw [if_neg h2, if_neg (by omega)]
  rw [key N (Nat.le_refl N)]
  congr 1
  funext j
  by_cases h : j < N
  · rw [if_pos h, if_pos (by omega), Int.toNat_natCast]
  · rw [if_neg h, if_neg (by omega)]
section GROWS
variable {S : Type} {G : g_G} {l : Launch} {cc : ByteArray} {own : String} {nL : Nat} {ret : Option FieldType} {mn : String} {d mc ms : Nat} {R : Option Value → S → Prop} {sh : S → List va_W} {F : g_F} {cells slots : Nat} {pc : Nat} {lv : List (Nat × Value)} {st : List Value} {ws fr : va_W} {μ : HM}
theorem wm_multi {index : Nat} {x y : Int} (hM : Mrep G ws μ) (hcl : Cond.classLink own index "[[I" ∈ lw_all) (harr : Cond.arrayClass .int ∈ lw_all) (h0 : 0 ≤ x) (h1 : x < 100000) (h2 : 0 ≤ y) (h3 : y < 100000) (hcells : cells + (1 + x.toNat) ≤ mc) (hslots : slots + (x.toNat + x.toNat * y.toNat) ≤ ms) (hdg : decode cc pc = .ok (.multianewarray index 2, 4))
    (k : ∀ (q : Nat) (ws2 : va_W), (∀ i, i ≤ x.toNat → μ (q + i) = none) → Mrep G ws2 (hgrid μ q x.toNat y.toNat) → WF G l cc own nL ret mn d mc ms F (cells + 1 + x.toNat) (slots + x.toNat + x.toNat * y.toNat) [ws2, fr] (pc + 4) lv (va_rf (some q) :: st)) : WF G l cc own nL ret mn d mc ms F cells slots [ws, fr] pc lv (vI y :: vI x :: st) := by
  intro p e s m args below meth c H locs ls N hS hP hl
  have hK := N.2.2.2.2.2.2.2.2
  have cx : (Int32.ofInt x).toNatClampNeg = x.toNat := iI_clamp h0 (by omega)
  have cy : (Int32.ofInt y).toNatClampNeg = y.toNat := iI_clamp h2 (by omega)
  have nn : ∀ z : Int, 0 ≤ z → z < 2147483648 → ¬ Int32.ofInt z < 0 := fun z z0 z1 => by rw [iI_0, iI_lt ⟨by omega, z1⟩ r0]; omega
  generalize hN : x.toNat = n at *
  generalize hM9 : y.toNat = k9 at *
  intro T hT X
  obtain ⟨vm₁, cA, comp, hW, hfA, hfC, -, -, X1, step⟩ := X.multianewarray2F (ty := .int) (n := Int32.ofInt x) (k := Int32.ofInt y) N.1 N.2.2.2.1 (N.2.2.1 _ hcl) hK.2.2.2.1.2.2.2.2.2.2.2.2.2.1.2.2 (N.2.2.1 _ harr) (g := F0 m pc ls (vI y :: vI x :: st)) rfl (by rw [N.2.1]; exact hdg) rfl (nn x h0 (by omega)) (nn y h2 (by omega)) (by rw [cx]; omega) (by rw [cy]; exact Nat.le_trans (Nat.mul_le_mul_left k9 (show componentBytes .int ≤ 4 by decide)) (by omega)) (by rw [cy]; omega) rfl rfl (by rw [cx]; exact hcells) (by rw [cx, cy]; exact hslots)
  rw [cx, cy] at X1 step
  have ecA : cA = g_k G 6 := by
    have h6 : s.vm.findClass ("[" ++ (FieldType.array .int).toString) = some (g_k G 6) := (hK.1.2 6 (g_k G 6, .array .int) rfl).2
    exact Option.some.inj (hfA.symm.trans h6)
  have ecC : comp = g_k G 0 := by
    have h00 : s.vm.findClass (FieldType.array .int).toString = some (g_k G 0) := (hK.1.2 0 (g_k G 0, .int) rfl).2
    exact Option.some.inj (hfC.symm.trans h00)
  subst ecA; subst ecC
  generalize hT2 : Jvm.Free.Multi.fill (T.setVm vm₁) (g_k G 6) (g_k G 0) n k9 (defaultValue .int) n = T2 at X1 step
  have hsz : (T.setVm vm₁).heap.size = H.size := by rw [← hT]; rfl
  obtain ⟨f1, f2, -, -⟩ := Jvm.Free.Multi.fill_facts (T.setVm vm₁) (g_k G 6) (g_k G 0) n k9 (defaultValue .int) n
  have f3 : ∀ j, j < n → _ := fun j hj => Jvm.Free.Multi.fill_inner (T.setVm vm₁) (g_k G 6) (g_k G 0) n k9 (defaultValue .int) n j hj
  have f4 : ∀ a, a < H.size → _ := fun a ha => Jvm.Free.Multi.fill_old (T.setVm vm₁) (g_k G 6) (g_k G 0) n k9 (defaultValue .int) (a := a) (by rw [hsz]; exact ha) n
  rw [hT2, hsz] at f1 f2
  simp only [hT2, hsz] at f3 f4
  generalize hH2 : T2.heap = H2 at f1 f2 f3 f4
  have old : ∀ a, a < H.size → H2[a]? = H[a]? := fun a ha => by rw [f4 a ha, ← hT]; rfl
  have hb : g_b G ≤ H.size := Nat.le_trans hK.2.1 hS.1
  let rows : va_W := (List.range n).map (fun j => (H.size + 1 + j, hcE G (hA 0 k9 (fun _ => 0))))
  let nw : va_W := (H.size, hcE G (hQ 6 n (fun i => if i < n then some (H.size + 1 + i.toNat) else none))) :: rows
  have hnw : ∀ q ∈ nw, va_at (g_D G) vwCl q H2 ∧ H.size ≤ q.1 := by
    intro q hq
    rcases List.mem_cons.mp hq with h | h
    · subst h
      refine ⟨?_, Nat.le_refl _⟩
      show H2[H.size]? = some (arrV (g_k G 6) n (fun j : Nat => va_rf (if (j : Int) < n then some (H.size + 1 + (j : Int).toNat) else none)))
      rw [f2, outer_arr]
    · obtain ⟨j, hj, rfl⟩ := List.mem_map.mp h
      have hj2 := List.mem_range.mp hj
      refine ⟨?_, by show H.size ≤ H.size + 1 + j; omega⟩
      show H2[H.size + 1 + j]? = some (arrV (g_k G 0) k9 (fun _ : Nat => .int (Int32.ofInt 0)))
      rw [f3 j hj2, ← arrV_new]
      rfl
  have hnd : (nw.map Prod.fst).Nodup := by
    show (H.size :: rows.map Prod.fst).Nodup
    have er : rows.map Prod.fst = (List.range n).map (fun j => H.size + 1 + j) := by simp [rows, List.map_map, Function.comp_def]
    rw [er, List.nodup_cons]
    refine ⟨fun hm => ?_, ?_⟩
    · obtain ⟨j, -, hj⟩ := List.mem_map.mp hm
      omega
    · show List.Pairwise _ _
      rw [List.pairwise_map]
      exact List.Pairwise.imp (fun {a b} (h : a ≠ b) => by omega) (List.nodup_range (n := n))
  have hPw : g_P G [ws ++ nw, fr] H2 := by
    have hP3 : g_P G [ws, fr, nw] H2 := by
      have ef : [ws, fr, nw].flatten = [ws, fr].flatten ++ nw := by simp
      refine ⟨?_, ?_⟩
      · rw [ef]
        refine va_P.app (fun i q hq => (hP.1 i q hq).kept (old _ (hP.1 i q hq).lt)) (fun i q hq => (hnw q (List.mem_of_getElem? hq)).1)
      · rw [ef, va_D_iff]
        have h9 := va_D_iff.mp hP.2
        refine ⟨?_, fun q hq => ?_⟩
        · rw [List.map_append, List.nodup_append]
          refine ⟨h9.1, hnd, fun a ha b hb2 hab => ?_⟩
          obtain ⟨qa, hqa, rfl⟩ := List.mem_map.mp ha
          obtain ⟨qb, hqb, rfl⟩ := List.mem_map.mp hb2
          obtain ⟨i, hi⟩ := List.getElem?_of_mem hqa
          have l1 := (hP.1 i qa hi).lt
          have l2 := (hnw qb hqb).2
          omega
        · rcases List.mem_append.mp hq with h | h
          · exact h9.2 q h
          · exact Nat.le_trans hb (hnw q h).2
    refine hP3.perm ?_
    simp only [List.flatten_cons, List.flatten_nil, List.append_nil, List.append_assoc]
    exact List.Perm.append_left _ List.perm_append_comm
  have hM2 : Mrep G (ws ++ nw) (hgrid μ H.size n k9) := by
    intro a c2 ha
    unfold hgrid at ha
    by_cases e1 : a = H.size
    · rw [if_pos e1] at ha
      cases ha
      subst e1
      exact hcK_mem trivial (List.mem_append_right _ List.mem_cons_self)
    · rw [if_neg e1] at ha
      by_cases e2 : H.size < a ∧ a ≤ H.size + n
      · rw [if_pos e2] at ha
        cases ha
        refine hcK_mem trivial (List.mem_append_right _ (List.mem_cons_of_mem _ (List.mem_map.mpr ⟨a - H.size - 1, List.mem_range.mpr (by omega), ?_⟩)))
        rw [show H.size + 1 + (a - H.size - 1) = a by omega]
      · rw [if_neg e2] at ha
        exact hcK_mono (hM a c2 ha) (fun e9 he => List.mem_append_left _ he)
  have hfr : ∀ i, i ≤ n → μ (H.size + i) = none := by
    intro i hi
    cases h : μ (H.size + i) with
    | none => rfl
    | some c2 =>
      have hk := hM _ c2 h
      have hmem : ∀ e2, (H.size + i, e2) ∈ ws → False := by
        intro e2 he2
        obtain ⟨z, hz⟩ := List.getElem?_of_mem (l := [ws, fr].flatten) (a := (H.size + i, e2)) (by simp [he2])
        have := (hP.1 z _ hz).lt
        simp at this
        omega
      rcases c2 with p2 | p2 | p2 | p2
      · exact (hmem _ hk).elim
      · exact (hmem _ hk).elim
      · exact (hmem _ hk).elim
      · exact (g_adlow hK.2.2.2.1 (show g_A G (H.size + i) from Nat.le_trans hb (Nat.le_add_right _ _)) p2.1 (by have := hk.2; omega) hk.1).elim
  have hS2 : va_S (g_A G) s.heap H2 locs := ⟨by rw [f1]; have := hS.1; omega, fun q g1 g2 => by rw [old q (Nat.lt_of_lt_of_le g1 hS.1)]; exact hS.2.1 q g1 g2, hS.2.2⟩
  obtain ⟨t9, a9, b9⟩ := k H.size _ hfr hM2 p e s m args below meth c H2 locs ls N hS2 hPw hl T2 hH2 X1
  refine ⟨t9, step t9 ?_, b9⟩
  rw [hT]
  exact a9
end GROWS
