/-! THE MOVING HEAP: one function from addresses to cells; a world's item stands for it (printed by tools/mu.py) -/
set_option maxRecDepth 100000
/-- a cell: an object (class, numbers, references), an array of numbers (kind, length, contents), an array of references, a constant -/
abbrev HC : Type := (Nat × (Nat → Int) × (Nat → Option Nat)) ⊕ ((Nat × Nat × (Int → Int)) ⊕ ((Nat × Nat × (Int → Option Nat)) ⊕ (Nat × Nat)))
abbrev HM : Type := Nat → Option HC
def hO (ci : Nat) (fi : Nat → Int) (fr : Nat → Option Nat) : HC := .inl (ci, fi, fr)
def hA (t n : Nat) (f : Int → Int) : HC := .inr (.inl (t, n, f))
def hQ (t n : Nat) (f : Int → Option Nat) : HC := .inr (.inr (.inl (t, n, f)))
def hC (i x : Nat) : HC := .inr (.inr (.inr (i, x)))
def hs (μ : HM) (a : Nat) (c : HC) : HM := fun x => if x = a then some c else μ x
theorem hs_s (μ : HM) (a : Nat) (c : HC) : hs μ a c a = some c := if_pos rfl
theorem hs_n (μ : HM) {a b : Nat} (c : HC) (h : b ≠ a) : hs μ a c b = μ b := if_neg h
def upF {α : Type} (f : Nat → α) (k : Nat) (v : α) : Nat → α := fun j => bif Nat.beq j k then v else f j
def ofs (ci : Nat) (fi : Nat → Int) (fr : Nat → Option Nat) : List Value := match ci with
  | 1 => [va_rf (fr 0), vI (fi 1), va_rf (fr 2), va_rf (fr 3), va_rf (fr 4), va_rf (fr 5), va_rf (fr 6), vL (fi 7)]
  | 2 => [vI (fi 0), va_rf (fr 1), va_rf (fr 2), va_rf (fr 3), vI (fi 4)]
  | 3 => [va_rf (fr 0), va_rf (fr 1), vI (fi 2)]
  | 4 => [va_rf (fr 0), va_rf (fr 1), va_rf (fr 2)]
  | 5 => [vI (fi 0), va_rf (fr 1), va_rf (fr 2), va_rf (fr 3), vI (fi 4), vI (fi 5), va_rf (fr 6), vI (fi 7), vI (fi 8), vI (fi 9), va_rf (fr 10)]
  | 6 => [va_rf (fr 0), va_rf (fr 1), va_rf (fr 2), va_rf (fr 3), va_rf (fr 4), vI (fi 5), vI (fi 6)]
  | 7 => [va_rf (fr 0), vI (fi 1), vI (fi 2), va_rf (fr 3)]
  | 8 => [va_rf (fr 0), vI (fi 1), va_rf (fr 2)]
  | 9 => [va_rf (fr 0), vI (fi 1), va_rf (fr 2)]
  | 10 => [vI (fi 0), vI (fi 1), vI (fi 2), vI (fi 3)]
  | 11 => [va_rf (fr 0), vI (fi 1), va_rf (fr 2)]
  | 12 => [va_rf (fr 0), vI (fi 1), va_rf (fr 2)]
  | 13 => [va_rf (fr 0), va_rf (fr 1), va_rf (fr 2), va_rf (fr 3)]
  | 14 => [va_rf (fr 0), va_rf (fr 1), va_rf (fr 2), va_rf (fr 3)]
  | 15 => [va_rf (fr 0), va_rf (fr 1), va_rf (fr 2), va_rf (fr 3)]
  | 16 => [va_rf (fr 0), va_rf (fr 1), va_rf (fr 2), vI (fi 3), va_rf (fr 4)]
  | 17 => [vI (fi 0), vI (fi 1), vI (fi 2)]
  | 18 => [vI (fi 0), va_rf (fr 1), vI (fi 2)]
  | 19 => [va_rf (fr 0), va_rf (fr 1), va_rf (fr 2), va_rf (fr 3), vI (fi 4), vI (fi 5), va_rf (fr 6), va_rf (fr 7), va_rf (fr 8)]
  | 20 => [va_rf (fr 0), va_rf (fr 1), va_rf (fr 2), va_rf (fr 3), va_rf (fr 4), vI (fi 5)]
  | 21 => [va_rf (fr 0), vI (fi 1), vI (fi 2), vI (fi 3)]
  | 22 => [va_rf (fr 0), vI (fi 1), vI (fi 2), vI (fi 3)]
  | 23 => [vI (fi 0), vI (fi 1), vI (fi 2), va_rf (fr 3)]
  | 24 => [va_rf (fr 0), vI (fi 1), va_rf (fr 2), vI (fi 3)]
  | 25 => [va_rf (fr 0), va_rf (fr 1), va_rf (fr 2), va_rf (fr 3), va_rf (fr 4), vI (fi 5)]
  | 26 => [va_rf (fr 0), va_rf (fr 1), va_rf (fr 2), va_rf (fr 3), va_rf (fr 4), vI (fi 5), vI (fi 6), va_rf (fr 7)]
  | _ => []
def hcE (G : g_G) (c : HC) : va_E := match c with
  | .inl (ci, fi, fr) => oB ci (ofs ci fi fr)
  | .inr (.inl (t, n, f)) => bif Nat.beq t 1 then aL (g_k G 1) n f else aI (g_k G t) n f
  | .inr (.inr (.inl (t, n, f))) => aQ (g_k G t) n f
  | .inr (.inr (.inr _)) => oB 0 []
def hcK (G : g_G) (ws : va_W) (a : Nat) (c : HC) : Prop := match c with
  | .inl p => (a, hcE G (.inl p)) ∈ ws
  | .inr (.inl p) => (a, hcE G (.inr (.inl p))) ∈ ws
  | .inr (.inr (.inl p)) => (a, hcE G (.inr (.inr (.inl p)))) ∈ ws
  | .inr (.inr (.inr (i, x))) => a = g_ad G i ∧ (i < 3 ∨ (10 ≤ i ∧ i < 17 ∧ x = g_ad G (i + 10)) ∨ (20 ≤ i ∧ i < 27))
def Mrep (G : g_G) (ws : va_W) (μ : HM) : Prop := ∀ a c, μ a = some c → hcK G ws a c
def hmv (c : HC) : Prop := match c with
  | .inr (.inr (.inr _)) => False
  | _ => True
theorem hcK_mono {G : g_G} {ws ws2 : va_W} {a : Nat} {c : HC} (h : hcK G ws a c) (hm : ∀ e, (a, e) ∈ ws → (a, e) ∈ ws2) : hcK G ws2 a c := by
  rcases c with p | p | p | p
  · exact hm _ h
  · exact hm _ h
  · exact hm _ h
  · exact h
theorem hcK_mem {G : g_G} {ws : va_W} {a : Nat} {c : HC} (hc : hmv c) (h : (a, hcE G c) ∈ ws) : hcK G ws a c := by
  rcases c with p | p | p | p
  · exact h
  · exact h
  · exact h
  · exact hc.elim
theorem Mrep.set {G : g_G} {ws : va_W} {μ : HM} {a j : Nat} {e0 : va_E} {c : HC} (h : Mrep G ws μ) (hj : ws[j]? = some (a, e0)) (hc : hmv c) : Mrep G (ws.set j (a, hcE G c)) (hs μ a c) := by
  intro b c2 hb
  have hl := (List.getElem?_eq_some_iff.mp hj).1
  unfold hs at hb
  by_cases hba : b = a
  · rw [if_pos hba] at hb
    cases hb
    subst hba
    exact hcK_mem hc (List.mem_of_getElem? (List.getElem?_set_self hl))
  · rw [if_neg hba] at hb
    refine hcK_mono (h b c2 hb) (fun e he => ?_)
    obtain ⟨i, hi⟩ := List.getElem?_of_mem he
    have hij : j ≠ i := by
      intro q
      subst q
      rw [hj] at hi
      cases hi
      exact hba rfl
    exact List.mem_of_getElem? (i := i) (by rw [List.getElem?_set_ne hij]; exact hi)
theorem Mrep.push {G : g_G} {ws : va_W} {μ : HM} {a : Nat} {c : HC} (h : Mrep G ws μ) (hc : hmv c) : Mrep G (ws ++ [(a, hcE G c)]) (hs μ a c) := by
  intro b c2 hb
  unfold hs at hb
  by_cases hba : b = a
  · rw [if_pos hba] at hb
    cases hb
    subst hba
    exact hcK_mem hc (List.mem_append_right _ List.mem_cons_self)
  · rw [if_neg hba] at hb
    exact hcK_mono (h b c2 hb) (fun e he => List.mem_append_left _ he)
theorem Mrep.at {G : g_G} {ws : va_W} {μ : HM} {a : Nat} {c : HC} (h : Mrep G ws μ) (ha : μ a = some c) (hc : hmv c) : ∃ j : Nat, ws[j]? = some (a, hcE G c) := by
  have h1 := h a c ha
  rcases c with p | p | p | p
  · exact List.getElem?_of_mem h1
  · exact List.getElem?_of_mem h1
  · exact List.getElem?_of_mem h1
  · exact hc.elim
/-- the world, its items in another order -/
theorem va_D_iff {A : Nat → Prop} {ws : va_W} : va_D A ws ↔ (ws.map Prod.fst).Nodup ∧ ∀ q ∈ ws, A q.1 := by
  constructor
  · intro h
    refine ⟨?_, fun q hq => ?_⟩
    · show List.Pairwise _ _
      rw [List.pairwise_iff_getElem]
      intro i j hi hj hij he
      have hi2 : i < ws.length := by simpa using hi
      have hj2 : j < ws.length := by simpa using hj
      have := h.1 i j ws[i] ws[j] (List.getElem?_eq_getElem hi2) (List.getElem?_eq_getElem hj2) (by simpa using he)
      omega
    · obtain ⟨k, hk⟩ := List.getElem?_of_mem hq
      exact h.2 k q hk
  · intro h
    refine ⟨fun i j p q hi hj hpq => ?_, fun k q hk => h.2 q (List.mem_of_getElem? hk)⟩
    have h1 : List.Pairwise (fun x y : Nat => x ≠ y) (ws.map Prod.fst) := h.1
    rw [List.pairwise_iff_getElem] at h1
    obtain ⟨hi2, hi3⟩ := List.getElem?_eq_some_iff.mp hi
    obtain ⟨hj2, hj3⟩ := List.getElem?_eq_some_iff.mp hj
    rcases Nat.lt_trichotomy i j with hh | hh | hh
    · refine (h1 i j (by simpa using hi2) (by simpa using hj2) hh ?_).elim
      simp [hi3, hj3, hpq]
    · exact hh
    · refine (h1 j i (by simpa using hj2) (by simpa using hi2) hh ?_).elim
      simp [hi3, hj3, hpq]
theorem g_P.perm {G : g_G} {Ws Ws2 : List va_W} {H : Heap} (h : g_P G Ws H) (hp : Ws.flatten.Perm Ws2.flatten) : g_P G Ws2 H := by
  refine ⟨fun k q hk => ?_, ?_⟩
  · obtain ⟨i, hi⟩ := List.getElem?_of_mem (hp.mem_iff.mpr (List.mem_of_getElem? hk))
    exact h.1 i q hi
  · rw [va_D_iff]
    have h2 := va_D_iff.mp h.2
    exact ⟨(hp.map Prod.fst).nodup_iff.mp h2.1, fun q hq => h2.2 q (hp.mem_iff.mpr hq)⟩
/-- what stands at an address: a number, a reference of an object of class ci -/
def strI (i k : Nat) : Option Int := if 10 ≤ i ∧ i < 17 then (if k = 1 then some 0 else if k = 2 then some (g_hash.getD (i - 10) 0).toInt else if k = 3 then some (if i = 10 then 1 else 0) else none) else none
def gI (μ : HM) (a ci k : Nat) : Option Int := match μ a with
  | some (.inl (c, fi, _)) => if c = ci then some (fi k) else none
  | some (.inr (.inr (.inr (i, _)))) => if ci = 22 then strI i k else none
  | _ => none
def gQ (μ : HM) (a ci k : Nat) : Option (Option Nat) := match μ a with
  | some (.inl (c, _, fr)) => if c = ci then some (fr k) else none
  | some (.inr (.inr (.inr (i, x)))) => if ci = 22 ∧ k = 0 ∧ 10 ≤ i ∧ i < 17 then some (some x) else none
  | _ => none
def gC (μ : HM) (a : Nat) : Option Nat := match μ a with
  | some (.inl (c, _, _)) => some c
  | some (.inr (.inr (.inr (i, _)))) => if 10 ≤ i ∧ i < 17 then some 22 else none
  | _ => none
def gL (μ : HM) (a : Nat) : Option Nat := match μ a with
  | some (.inr (.inl (t, n, _))) => if t < 4 then some n else none
  | some (.inr (.inr (.inl (t, n, _)))) => if 4 ≤ t ∧ t < 7 then some n else none
  | some (.inr (.inr (.inr (i, _)))) => if i = 0 then some 0 else if i = 1 then some 16 else if i = 2 then some 6 else if 20 ≤ i ∧ i < 27 then some (g_len.getD (i - 20) 0) else none
  | _ => none
def gA (μ : HM) (a t : Nat) (i : Int) : Option Int := match μ a with
  | some (.inr (.inl (t2, n, f))) => if t2 = t ∧ 0 ≤ i ∧ i < n ∧ n < 2147483648 then some (f i) else none
  | some (.inr (.inr (.inr (j, _)))) => if j = 1 ∧ t = 0 ∧ 0 ≤ i ∧ i < 16 then some (g_ones i.toNat).toInt else if j = 2 ∧ t = 0 ∧ 0 ≤ i ∧ i < 6 then some (g_tens i.toNat).toInt else if 20 ≤ j ∧ j < 27 ∧ t = 2 ∧ 0 ≤ i ∧ i < g_len.getD (j - 20) 0 then some ((g_byt.getD (j - 20) []).getD i.toNat 0).toInt else none
  | _ => none
def gR (μ : HM) (a t : Nat) (i : Int) : Option (Option Nat) := match μ a with
  | some (.inr (.inr (.inl (t2, n, f)))) => if t2 = t ∧ 0 ≤ i ∧ i < n ∧ n < 2147483648 then some (f i) else none
  | _ => none
theorem gI_own {μ : HM} {a ci k : Nat} {x : Int} (hn : ci ≠ 22) (h : gI μ a ci k = some x) : ∃ fi fr, μ a = some (hO ci fi fr) ∧ x = fi k := by
  unfold gI at h
  split at h
  · rename_i c fi fr he
    split at h
    · rename_i hc
      subst hc
      exact ⟨fi, fr, he, (Option.some.inj h).symm⟩
    · cases h
  · rw [if_neg hn] at h; cases h
  · cases h
theorem gQ_own {μ : HM} {a ci k : Nat} {x : Option Nat} (hn : ci ≠ 22) (h : gQ μ a ci k = some x) : ∃ fi fr, μ a = some (hO ci fi fr) ∧ x = fr k := by
  unfold gQ at h
  split at h
  · rename_i c fi fr he
    split at h
    · rename_i hc
      subst hc
      exact ⟨fi, fr, he, (Option.some.inj h).symm⟩
    · cases h
  · rw [if_neg (fun q => hn q.1)] at h; cases h
  · cases h
section MROWS
variable {S : Type} {G : g_G} {l : Launch} {cc : ByteArray} {own : String} {nL : Nat} {ret : Option FieldType} {mn : String} {d mc ms : Nat} {R : Option Value → S → Prop} {sh : S → List va_W} {F : g_F} {cells slots : Nat} {pc : Nat} {lv : List (Nat × Value)} {st : List Value} {ws fr : va_W} {μ : HM}
theorem ww_perm {Ws Ws2 : List va_W} (hp : Ws.flatten.Perm Ws2.flatten) (k : WF G l cc own nL ret mn d mc ms F cells slots Ws2 pc lv st) : WF G l cc own nL ret mn d mc ms F cells slots Ws pc lv st := by
  intro p e s m args below meth c H locs ls N hS hP hl
  exact k p e s m args below meth c H locs ls N hS (hP.perm hp) hl
theorem wm_push {q : Nat} {e : va_E} (k : WF G l cc own nL ret mn d mc ms F cells slots [ws ++ [(q, e)], fr] pc lv st) : WF G l cc own nL ret mn d mc ms F cells slots ([ws, fr] ++ [[(q, e)]]) pc lv st := by
  refine ww_perm ?_ k
  simp only [List.cons_append, List.nil_append, List.flatten_cons, List.flatten_nil, List.append_nil, List.append_assoc]
  exact List.Perm.append_left _ (List.perm_append_comm)
/-- references on the stack and in locals -/
theorem ww_aloadQ_n {j : Fin 4} {x : Option Nat} (hdg : decode cc pc = .ok (.aload_n j, 1)) (q : Nat) {Ws : List va_W} (hq : lv[q]? = some ((j : Nat), va_rf x)) (k : WF G l cc own nL ret mn d mc ms F cells slots Ws (pc + 1) lv (va_rf x :: st)) : WF G l cc own nL ret mn d mc ms F cells slots Ws pc lv st := by
  cases x with
  | none => exact ww_aload_nN hdg q hq k
  | some a => exact ww_aload_n hdg q hq k
theorem ww_aloadQ {i : Nat} {x : Option Nat} {Ws : List va_W} (hdg : decode cc pc = .ok (.aload i, 2)) (q : Nat) (hq : lv[q]? = some (i, va_rf x)) (k : WF G l cc own nL ret mn d mc ms F cells slots Ws (pc + 2) lv (va_rf x :: st)) : WF G l cc own nL ret mn d mc ms F cells slots Ws pc lv st := by
  cases x with
  | none => exact ww_aloadN hdg q hq k
  | some a => exact ww_aload hdg q hq k
theorem ww_astoreQ_n {j : Fin 4} {i : Nat} {x : Option Nat} {lv2 : List (Nat × Value)} {Ws : List va_W} (hdg : decode cc pc = .ok (.astore_n j, 1)) (hj : (j : Nat) = i) (hn : i < nL) (hv : (i, va_rf x) :: lv.filter (fun q => !(q.1 == i) && !(q.1 + 1 == i && q.2.category == 2)) = lv2) (k : WF G l cc own nL ret mn d mc ms F cells slots Ws (pc + 1) lv2 st) : WF G l cc own nL ret mn d mc ms F cells slots Ws pc lv (va_rf x :: st) := by
  cases x with
  | none => exact ww_astore_nN hdg hj hn hv k
  | some a => exact ww_astore_n hdg hj hn hv k
theorem ww_astoreQ {i : Nat} {x : Option Nat} {lv2 : List (Nat × Value)} {Ws : List va_W} (hdg : decode cc pc = .ok (.astore i, 2)) (hn : i < nL) (hv : (i, va_rf x) :: lv.filter (fun q => !(q.1 == i) && !(q.1 + 1 == i && q.2.category == 2)) = lv2) (k : WF G l cc own nL ret mn d mc ms F cells slots Ws (pc + 2) lv2 st) : WF G l cc own nL ret mn d mc ms F cells slots Ws pc lv (va_rf x :: st) := by
  cases x with
  | none => exact ww_astoreN hdg hn hv k
  | some a => exact ww_astore hdg hn hv k
theorem ww_ifnullQ {x : Option Nat} {off : Int} {tgt : Nat} {Ws : List va_W} (hdg : decode cc pc = .ok (.ifnull off, 3)) (ht : (pc : Int) + off = (tgt : Int)) (kt : x = none → WF G l cc own nL ret mn d mc ms F cells slots Ws tgt lv st) (kf : ∀ a, x = some a → WF G l cc own nL ret mn d mc ms F cells slots Ws (pc + 3) lv st) : WF G l cc own nL ret mn d mc ms F cells slots Ws pc lv (va_rf x :: st) := by
  cases x with
  | none => exact ww_ifnullN hdg ht (kt rfl)
  | some a => exact ww_ifnull hdg ht (kf a rfl)
theorem ww_ifnonnullQ {x : Option Nat} {off : Int} {tgt : Nat} {Ws : List va_W} (hdg : decode cc pc = .ok (.ifnonnull off, 3)) (ht : (pc : Int) + off = (tgt : Int)) (kt : ∀ a, x = some a → WF G l cc own nL ret mn d mc ms F cells slots Ws tgt lv st) (kf : x = none → WF G l cc own nL ret mn d mc ms F cells slots Ws (pc + 3) lv st) : WF G l cc own nL ret mn d mc ms F cells slots Ws pc lv (va_rf x :: st) := by
  cases x with
  | none => exact ww_ifnonnullN hdg ht (kf rfl)
  | some a => exact ww_ifnonnull hdg ht (kt a rfl)
theorem rf_cat (x : Option Nat) : (va_rf x).category = 1 := by cases x <;> rfl
theorem rf_or (x : Option Nat) : va_rf x = .null ∨ ∃ a, va_rf x = .ref a := by
  cases x with
  | none => exact Or.inl rfl
  | some a => exact Or.inr ⟨a, rfl⟩
/-- fields -/
theorem wm_getI {ref C : String} {T : u_T} {Nf ci index a : Nat} {o : Option Nat} {x : Int} (hM : Mrep G ws μ) (ho : o = some a) (hin : ∀ w ∈ u_ws C T Nf, w ∈ lw_all) (hc : vwCl[ci]? = some (C, T, Nf)) (hn : ci ≠ 22) (f : Nat) (hf : f < Nf) (hg : gI μ a ci f = some x) (he : ∀ fi fr, (ofs ci fi fr)[f]? = some (vI (fi f))) (hlink : Cond.fieldLink own index ref (T f).2.1 (T f).2.2.1 ∈ lw_all) (hsame : ∀ (s : State) x, s.fieldFound? (T f).1 (T f).2.1 (T f).2.2.1 = some x → s.fieldFound? ref (T f).2.1 (T f).2.2.1 = some x) (hdg : decode cc pc = .ok (.getfield index, 3)) (k : WF G l cc own nL ret mn d mc ms F cells slots [ws, fr] (pc + 3) lv (vI x :: st)) : WF G l cc own nL ret mn d mc ms F cells slots [ws, fr] pc lv (va_rf o :: st) := by
  subst ho
  obtain ⟨fi, fq, hμ, rfl⟩ := gI_own hn hg
  obtain ⟨j, hj⟩ := hM.at hμ trivial
  exact ww_get hin 0 j rfl hj hc f hf hlink hsame (he fi fq) hdg k
theorem wm_getL {ref C : String} {T : u_T} {Nf ci index a : Nat} {o : Option Nat} {x : Int} (hM : Mrep G ws μ) (ho : o = some a) (hin : ∀ w ∈ u_ws C T Nf, w ∈ lw_all) (hc : vwCl[ci]? = some (C, T, Nf)) (hn : ci ≠ 22) (f : Nat) (hf : f < Nf) (hg : gI μ a ci f = some x) (he : ∀ fi fr, (ofs ci fi fr)[f]? = some (vL (fi f))) (hlink : Cond.fieldLink own index ref (T f).2.1 (T f).2.2.1 ∈ lw_all) (hsame : ∀ (s : State) x, s.fieldFound? (T f).1 (T f).2.1 (T f).2.2.1 = some x → s.fieldFound? ref (T f).2.1 (T f).2.2.1 = some x) (hdg : decode cc pc = .ok (.getfield index, 3)) (k : WF G l cc own nL ret mn d mc ms F cells slots [ws, fr] (pc + 3) lv (vL x :: st)) : WF G l cc own nL ret mn d mc ms F cells slots [ws, fr] pc lv (va_rf o :: st) := by
  subst ho
  obtain ⟨fi, fq, hμ, rfl⟩ := gI_own hn hg
  obtain ⟨j, hj⟩ := hM.at hμ trivial
  exact ww_get hin 0 j rfl hj hc f hf hlink hsame (he fi fq) hdg k
theorem wm_getQ {ref C : String} {T : u_T} {Nf ci index a : Nat} {o x : Option Nat} (hM : Mrep G ws μ) (ho : o = some a) (hin : ∀ w ∈ u_ws C T Nf, w ∈ lw_all) (hc : vwCl[ci]? = some (C, T, Nf)) (hn : ci ≠ 22) (f : Nat) (hf : f < Nf) (hg : gQ μ a ci f = some x) (he : ∀ fi fr, (ofs ci fi fr)[f]? = some (va_rf (fr f))) (hlink : Cond.fieldLink own index ref (T f).2.1 (T f).2.2.1 ∈ lw_all) (hsame : ∀ (s : State) x, s.fieldFound? (T f).1 (T f).2.1 (T f).2.2.1 = some x → s.fieldFound? ref (T f).2.1 (T f).2.2.1 = some x) (hdg : decode cc pc = .ok (.getfield index, 3)) (k : WF G l cc own nL ret mn d mc ms F cells slots [ws, fr] (pc + 3) lv (va_rf x :: st)) : WF G l cc own nL ret mn d mc ms F cells slots [ws, fr] pc lv (va_rf o :: st) := by
  subst ho
  obtain ⟨fi, fq, hμ, rfl⟩ := gQ_own hn hg
  obtain ⟨j, hj⟩ := hM.at hμ trivial
  exact ww_get hin 0 j rfl hj hc f hf hlink hsame (he fi fq) hdg k
theorem wm_getIN {ref C host : String} {T : u_T} {Nf ci index a : Nat} {o : Option Nat} {x : Int} (hM : Mrep G ws μ) (ho : o = some a) (hin : ∀ w ∈ u_ws C T Nf, w ∈ lw_all) (hc : vwCl[ci]? = some (C, T, Nf)) (hn : ci ≠ 22) (f : Nat) (hf : f < Nf) (hg : gI μ a ci f = some x) (he : ∀ fi fr, (ofs ci fi fr)[f]? = some (vI (fi f))) (hlink : Cond.fieldLinkNest own index ref (T f).2.1 (T f).2.2.1 host ∈ lw_tbl) (hsame : ∀ (s : State) x, s.fieldFound? (T f).1 (T f).2.1 (T f).2.2.1 = some x → s.fieldFound? ref (T f).2.1 (T f).2.2.1 = some x) (hdg : decode cc pc = .ok (.getfield index, 3)) (k : WF G l cc own nL ret mn d mc ms F cells slots [ws, fr] (pc + 3) lv (vI x :: st)) : WF G l cc own nL ret mn d mc ms F cells slots [ws, fr] pc lv (va_rf o :: st) := by
  subst ho
  obtain ⟨fi, fq, hμ, rfl⟩ := gI_own hn hg
  obtain ⟨j, hj⟩ := hM.at hμ trivial
  exact ww_getN hin 0 j rfl hj hc f hf hlink hsame (he fi fq) hdg k
theorem wm_getLN {ref C host : String} {T : u_T} {Nf ci index a : Nat} {o : Option Nat} {x : Int} (hM : Mrep G ws μ) (ho : o = some a) (hin : ∀ w ∈ u_ws C T Nf, w ∈ lw_all) (hc : vwCl[ci]? = some (C, T, Nf)) (hn : ci ≠ 22) (f : Nat) (hf : f < Nf) (hg : gI μ a ci f = some x) (he : ∀ fi fr, (ofs ci fi fr)[f]? = some (vL (fi f))) (hlink : Cond.fieldLinkNest own index ref (T f).2.1 (T f).2.2.1 host ∈ lw_tbl) (hsame : ∀ (s : State) x, s.fieldFound? (T f).1 (T f).2.1 (T f).2.2.1 = some x → s.fieldFound? ref (T f).2.1 (T f).2.2.1 = some x) (hdg : decode cc pc = .ok (.getfield index, 3)) (k : WF G l cc own nL ret mn d mc ms F cells slots [ws, fr] (pc + 3) lv (vL x :: st)) : WF G l cc own nL ret mn d mc ms F cells slots [ws, fr] pc lv (va_rf o :: st) := by
  subst ho
  obtain ⟨fi, fq, hμ, rfl⟩ := gI_own hn hg
  obtain ⟨j, hj⟩ := hM.at hμ trivial
  exact ww_getN hin 0 j rfl hj hc f hf hlink hsame (he fi fq) hdg k
theorem wm_getQN {ref C host : String} {T : u_T} {Nf ci index a : Nat} {o x : Option Nat} (hM : Mrep G ws μ) (ho : o = some a) (hin : ∀ w ∈ u_ws C T Nf, w ∈ lw_all) (hc : vwCl[ci]? = some (C, T, Nf)) (hn : ci ≠ 22) (f : Nat) (hf : f < Nf) (hg : gQ μ a ci f = some x) (he : ∀ fi fr, (ofs ci fi fr)[f]? = some (va_rf (fr f))) (hlink : Cond.fieldLinkNest own index ref (T f).2.1 (T f).2.2.1 host ∈ lw_tbl) (hsame : ∀ (s : State) x, s.fieldFound? (T f).1 (T f).2.1 (T f).2.2.1 = some x → s.fieldFound? ref (T f).2.1 (T f).2.2.1 = some x) (hdg : decode cc pc = .ok (.getfield index, 3)) (k : WF G l cc own nL ret mn d mc ms F cells slots [ws, fr] (pc + 3) lv (va_rf x :: st)) : WF G l cc own nL ret mn d mc ms F cells slots [ws, fr] pc lv (va_rf o :: st) := by
  subst ho
  obtain ⟨fi, fq, hμ, rfl⟩ := gQ_own hn hg
  obtain ⟨j, hj⟩ := hM.at hμ trivial
  exact ww_getN hin 0 j rfl hj hc f hf hlink hsame (he fi fq) hdg k
theorem wm_putI {ref C : String} {T : u_T} {Nf ci index a : Nat} {ty0 : Nat → FieldType} {o : Option Nat} {x : Int} {fi : Nat → Int} {fq : Nat → Option Nat} (hM : Mrep G ws μ) (ho : o = some a) (hin : ∀ w ∈ u_ws C T Nf, w ∈ lw_all) (hty : ∀ k, k < Nf → parseFieldDescriptor (T k).2.2.1 = some (ty0 k)) (hnm : ∀ a, a < Nf → ∀ b, b < Nf → a ≠ b → (T a).2.1 ≠ (T b).2.1) (hc : vwCl[ci]? = some (C, T, Nf)) (f : Nat) (hf : f < Nf) (hμ : μ a = some (hO ci fi fq)) (he : ∀ fi fr, (ofs ci fi fr).set f (vI x) = ofs ci (upF fi f x) fr) (hlen : ∀ fi fr, f < (ofs ci fi fr).length) (hlink : Cond.fieldLink own index ref (T f).2.1 (T f).2.2.1 ∈ lw_all) (hsame : ∀ (s : State) x, s.fieldFound? (T f).1 (T f).2.1 (T f).2.2.1 = some x → s.fieldFound? ref (T f).2.1 (T f).2.2.1 = some x) (hfin : (T f).2.2.2 = false) (hn : narrow (ty0 f) (vI x) = vI x) (hfit : fits (ty0 f) (vI x) = true) (hdg : decode cc pc = .ok (.putfield index, 3)) (k : ∀ ws2, Mrep G ws2 (hs μ a (hO ci (upF fi f x) fq)) → WF G l cc own nL ret mn d mc ms F cells slots [ws2, fr] (pc + 3) lv st) : WF G l cc own nL ret mn d mc ms F cells slots [ws, fr] pc lv (vI x :: va_rf o :: st) := by
  subst ho
  obtain ⟨j, hj⟩ := hM.at hμ trivial
  refine ww_put (Ws2 := [ws.set j (a, oB ci ((ofs ci fi fq).set f (vI x))), fr]) hin hty hnm 0 j rfl hj hc f hf hlink hsame hfin hn hfit (hlen fi fq) rfl hdg ?_
  refine k _ ?_
  rw [he]
  exact hM.set (c := hO ci (upF fi f x) fq) hj trivial
theorem wm_putL {ref C : String} {T : u_T} {Nf ci index a : Nat} {ty0 : Nat → FieldType} {o : Option Nat} {x : Int} {fi : Nat → Int} {fq : Nat → Option Nat} (hM : Mrep G ws μ) (ho : o = some a) (hin : ∀ w ∈ u_ws C T Nf, w ∈ lw_all) (hty : ∀ k, k < Nf → parseFieldDescriptor (T k).2.2.1 = some (ty0 k)) (hnm : ∀ a, a < Nf → ∀ b, b < Nf → a ≠ b → (T a).2.1 ≠ (T b).2.1) (hc : vwCl[ci]? = some (C, T, Nf)) (f : Nat) (hf : f < Nf) (hμ : μ a = some (hO ci fi fq)) (he : ∀ fi fr, (ofs ci fi fr).set f (vL x) = ofs ci (upF fi f x) fr) (hlen : ∀ fi fr, f < (ofs ci fi fr).length) (hlink : Cond.fieldLink own index ref (T f).2.1 (T f).2.2.1 ∈ lw_all) (hsame : ∀ (s : State) x, s.fieldFound? (T f).1 (T f).2.1 (T f).2.2.1 = some x → s.fieldFound? ref (T f).2.1 (T f).2.2.1 = some x) (hfin : (T f).2.2.2 = false) (hn : narrow (ty0 f) (vL x) = vL x) (hfit : fits (ty0 f) (vL x) = true) (hdg : decode cc pc = .ok (.putfield index, 3)) (k : ∀ ws2, Mrep G ws2 (hs μ a (hO ci (upF fi f x) fq)) → WF G l cc own nL ret mn d mc ms F cells slots [ws2, fr] (pc + 3) lv st) : WF G l cc own nL ret mn d mc ms F cells slots [ws, fr] pc lv (vL x :: va_rf o :: st) := by
  subst ho
  obtain ⟨j, hj⟩ := hM.at hμ trivial
  refine ww_put (Ws2 := [ws.set j (a, oB ci ((ofs ci fi fq).set f (vL x))), fr]) hin hty hnm 0 j rfl hj hc f hf hlink hsame hfin hn hfit (hlen fi fq) rfl hdg ?_
  refine k _ ?_
  rw [he]
  exact hM.set (c := hO ci (upF fi f x) fq) hj trivial
theorem wm_putQ {ref C : String} {T : u_T} {Nf ci index a : Nat} {ty0 : Nat → FieldType} {o : Option Nat} {x : Option Nat} {fi : Nat → Int} {fq : Nat → Option Nat} (hM : Mrep G ws μ) (ho : o = some a) (hin : ∀ w ∈ u_ws C T Nf, w ∈ lw_all) (hty : ∀ k, k < Nf → parseFieldDescriptor (T k).2.2.1 = some (ty0 k)) (hnm : ∀ a, a < Nf → ∀ b, b < Nf → a ≠ b → (T a).2.1 ≠ (T b).2.1) (hc : vwCl[ci]? = some (C, T, Nf)) (f : Nat) (hf : f < Nf) (hμ : μ a = some (hO ci fi fq)) (he : ∀ fi fr, (ofs ci fi fr).set f (va_rf x) = ofs ci fi (upF fr f x)) (hlen : ∀ fi fr, f < (ofs ci fi fr).length) (hlink : Cond.fieldLink own index ref (T f).2.1 (T f).2.2.1 ∈ lw_all) (hsame : ∀ (s : State) x, s.fieldFound? (T f).1 (T f).2.1 (T f).2.2.1 = some x → s.fieldFound? ref (T f).2.1 (T f).2.2.1 = some x) (hfin : (T f).2.2.2 = false) (hn : narrow (ty0 f) (va_rf x) = va_rf x) (hfit : fits (ty0 f) (va_rf x) = true) (hdg : decode cc pc = .ok (.putfield index, 3)) (k : ∀ ws2, Mrep G ws2 (hs μ a (hO ci fi (upF fq f x))) → WF G l cc own nL ret mn d mc ms F cells slots [ws2, fr] (pc + 3) lv st) : WF G l cc own nL ret mn d mc ms F cells slots [ws, fr] pc lv (va_rf x :: va_rf o :: st) := by
  subst ho
  obtain ⟨j, hj⟩ := hM.at hμ trivial
  refine ww_put (Ws2 := [ws.set j (a, oB ci ((ofs ci fi fq).set f (va_rf x))), fr]) hin hty hnm 0 j rfl hj hc f hf hlink hsame hfin hn hfit (hlen fi fq) rfl hdg ?_
  refine k _ ?_
  rw [he]
  exact hM.set (c := hO ci fi (upF fq f x)) hj trivial
theorem wm_putIN {ref C host : String} {T : u_T} {Nf ci index a : Nat} {ty0 : Nat → FieldType} {o : Option Nat} {x : Int} {fi : Nat → Int} {fq : Nat → Option Nat} (hM : Mrep G ws μ) (ho : o = some a) (hin : ∀ w ∈ u_ws C T Nf, w ∈ lw_all) (hty : ∀ k, k < Nf → parseFieldDescriptor (T k).2.2.1 = some (ty0 k)) (hnm : ∀ a, a < Nf → ∀ b, b < Nf → a ≠ b → (T a).2.1 ≠ (T b).2.1) (hc : vwCl[ci]? = some (C, T, Nf)) (f : Nat) (hf : f < Nf) (hμ : μ a = some (hO ci fi fq)) (he : ∀ fi fr, (ofs ci fi fr).set f (vI x) = ofs ci (upF fi f x) fr) (hlen : ∀ fi fr, f < (ofs ci fi fr).length) (hlink : Cond.fieldLinkNest own index ref (T f).2.1 (T f).2.2.1 host ∈ lw_tbl) (hsame : ∀ (s : State) x, s.fieldFound? (T f).1 (T f).2.1 (T f).2.2.1 = some x → s.fieldFound? ref (T f).2.1 (T f).2.2.1 = some x) (hfin : (T f).2.2.2 = false) (hn : narrow (ty0 f) (vI x) = vI x) (hfit : fits (ty0 f) (vI x) = true) (hdg : decode cc pc = .ok (.putfield index, 3)) (k : ∀ ws2, Mrep G ws2 (hs μ a (hO ci (upF fi f x) fq)) → WF G l cc own nL ret mn d mc ms F cells slots [ws2, fr] (pc + 3) lv st) : WF G l cc own nL ret mn d mc ms F cells slots [ws, fr] pc lv (vI x :: va_rf o :: st) := by
  subst ho
  obtain ⟨j, hj⟩ := hM.at hμ trivial
  refine ww_putN (Ws2 := [ws.set j (a, oB ci ((ofs ci fi fq).set f (vI x))), fr]) hin hty hnm 0 j rfl hj hc f hf hlink hsame hfin hn hfit (hlen fi fq) rfl hdg ?_
  refine k _ ?_
  rw [he]
  exact hM.set (c := hO ci (upF fi f x) fq) hj trivial
theorem wm_putLN {ref C host : String} {T : u_T} {Nf ci index a : Nat} {ty0 : Nat → FieldType} {o : Option Nat} {x : Int} {fi : Nat → Int} {fq : Nat → Option Nat} (hM : Mrep G ws μ) (ho : o = some a) (hin : ∀ w ∈ u_ws C T Nf, w ∈ lw_all) (hty : ∀ k, k < Nf → parseFieldDescriptor (T k).2.2.1 = some (ty0 k)) (hnm : ∀ a, a < Nf → ∀ b, b < Nf → a ≠ b → (T a).2.1 ≠ (T b).2.1) (hc : vwCl[ci]? = some (C, T, Nf)) (f : Nat) (hf : f < Nf) (hμ : μ a = some (hO ci fi fq)) (he : ∀ fi fr, (ofs ci fi fr).set f (vL x) = ofs ci (upF fi f x) fr) (hlen : ∀ fi fr, f < (ofs ci fi fr).length) (hlink : Cond.fieldLinkNest own index ref (T f).2.1 (T f).2.2.1 host ∈ lw_tbl) (hsame : ∀ (s : State) x, s.fieldFound? (T f).1 (T f).2.1 (T f).2.2.1 = some x → s.fieldFound? ref (T f).2.1 (T f).2.2.1 = some x) (hfin : (T f).2.2.2 = false) (hn : narrow (ty0 f) (vL x) = vL x) (hfit : fits (ty0 f) (vL x) = true) (hdg : decode cc pc = .ok (.putfield index, 3)) (k : ∀ ws2, Mrep G ws2 (hs μ a (hO ci (upF fi f x) fq)) → WF G l cc own nL ret mn d mc ms F cells slots [ws2, fr] (pc + 3) lv st) : WF G l cc own nL ret mn d mc ms F cells slots [ws, fr] pc lv (vL x :: va_rf o :: st) := by
  subst ho
  obtain ⟨j, hj⟩ := hM.at hμ trivial
  refine ww_putN (Ws2 := [ws.set j (a, oB ci ((ofs ci fi fq).set f (vL x))), fr]) hin hty hnm 0 j rfl hj hc f hf hlink hsame hfin hn hfit (hlen fi fq) rfl hdg ?_
  refine k _ ?_
  rw [he]
  exact hM.set (c := hO ci (upF fi f x) fq) hj trivial
theorem wm_putQN {ref C host : String} {T : u_T} {Nf ci index a : Nat} {ty0 : Nat → FieldType} {o : Option Nat} {x : Option Nat} {fi : Nat → Int} {fq : Nat → Option Nat} (hM : Mrep G ws μ) (ho : o = some a) (hin : ∀ w ∈ u_ws C T Nf, w ∈ lw_all) (hty : ∀ k, k < Nf → parseFieldDescriptor (T k).2.2.1 = some (ty0 k)) (hnm : ∀ a, a < Nf → ∀ b, b < Nf → a ≠ b → (T a).2.1 ≠ (T b).2.1) (hc : vwCl[ci]? = some (C, T, Nf)) (f : Nat) (hf : f < Nf) (hμ : μ a = some (hO ci fi fq)) (he : ∀ fi fr, (ofs ci fi fr).set f (va_rf x) = ofs ci fi (upF fr f x)) (hlen : ∀ fi fr, f < (ofs ci fi fr).length) (hlink : Cond.fieldLinkNest own index ref (T f).2.1 (T f).2.2.1 host ∈ lw_tbl) (hsame : ∀ (s : State) x, s.fieldFound? (T f).1 (T f).2.1 (T f).2.2.1 = some x → s.fieldFound? ref (T f).2.1 (T f).2.2.1 = some x) (hfin : (T f).2.2.2 = false) (hn : narrow (ty0 f) (va_rf x) = va_rf x) (hfit : fits (ty0 f) (va_rf x) = true) (hdg : decode cc pc = .ok (.putfield index, 3)) (k : ∀ ws2, Mrep G ws2 (hs μ a (hO ci fi (upF fq f x))) → WF G l cc own nL ret mn d mc ms F cells slots [ws2, fr] (pc + 3) lv st) : WF G l cc own nL ret mn d mc ms F cells slots [ws, fr] pc lv (va_rf x :: va_rf o :: st) := by
  subst ho
  obtain ⟨j, hj⟩ := hM.at hμ trivial
  refine ww_putN (Ws2 := [ws.set j (a, oB ci ((ofs ci fi fq).set f (va_rf x))), fr]) hin hty hnm 0 j rfl hj hc f hf hlink hsame hfin hn hfit (hlen fi fq) rfl hdg ?_
  refine k _ ?_
  rw [he]
  exact hM.set (c := hO ci fi (upF fq f x)) hj trivial
theorem wm_putIF {ref C : String} {T : u_T} {Nf ci index a : Nat} {ty0 : Nat → FieldType} {o : Option Nat} {x : Int} {fi : Nat → Int} {fq : Nat → Option Nat} (hM : Mrep G ws μ) (ho : o = some a) (hin : ∀ w ∈ u_ws C T Nf, w ∈ lw_all) (hty : ∀ k, k < Nf → parseFieldDescriptor (T k).2.2.1 = some (ty0 k)) (hnm : ∀ a, a < Nf → ∀ b, b < Nf → a ≠ b → (T a).2.1 ≠ (T b).2.1) (hc : vwCl[ci]? = some (C, T, Nf)) (f : Nat) (hf : f < Nf) (hμ : μ a = some (hO ci fi fq)) (he : ∀ fi fr, (ofs ci fi fr).set f (vI x) = ofs ci (upF fi f x) fr) (hlen : ∀ fi fr, f < (ofs ci fi fr).length) (hlink : Cond.fieldLink own index ref (T f).2.1 (T f).2.2.1 ∈ lw_all) (hsame : ∀ (s : State) x, s.fieldFound? (T f).1 (T f).2.1 (T f).2.2.1 = some x → s.fieldFound? ref (T f).2.1 (T f).2.2.1 = some x) (hfin : (T f).2.2.2 = true) (hmn : mn = "<init>") (hdecl : (T f).1 = own) (hn : narrow (ty0 f) (vI x) = vI x) (hfit : fits (ty0 f) (vI x) = true) (hdg : decode cc pc = .ok (.putfield index, 3)) (k : ∀ ws2, Mrep G ws2 (hs μ a (hO ci (upF fi f x) fq)) → WF G l cc own nL ret mn d mc ms F cells slots [ws2, fr] (pc + 3) lv st) : WF G l cc own nL ret mn d mc ms F cells slots [ws, fr] pc lv (vI x :: va_rf o :: st) := by
  subst ho
  obtain ⟨j, hj⟩ := hM.at hμ trivial
  refine ww_putF (Ws2 := [ws.set j (a, oB ci ((ofs ci fi fq).set f (vI x))), fr]) hin hty hnm 0 j rfl hj hc f hf hlink hsame hfin hmn hdecl hn hfit (hlen fi fq) rfl hdg ?_
  refine k _ ?_
  rw [he]
  exact hM.set (c := hO ci (upF fi f x) fq) hj trivial
theorem wm_putLF {ref C : String} {T : u_T} {Nf ci index a : Nat} {ty0 : Nat → FieldType} {o : Option Nat} {x : Int} {fi : Nat → Int} {fq : Nat → Option Nat} (hM : Mrep G ws μ) (ho : o = some a) (hin : ∀ w ∈ u_ws C T Nf, w ∈ lw_all) (hty : ∀ k, k < Nf → parseFieldDescriptor (T k).2.2.1 = some (ty0 k)) (hnm : ∀ a, a < Nf → ∀ b, b < Nf → a ≠ b → (T a).2.1 ≠ (T b).2.1) (hc : vwCl[ci]? = some (C, T, Nf)) (f : Nat) (hf : f < Nf) (hμ : μ a = some (hO ci fi fq)) (he : ∀ fi fr, (ofs ci fi fr).set f (vL x) = ofs ci (upF fi f x) fr) (hlen : ∀ fi fr, f < (ofs ci fi fr).length) (hlink : Cond.fieldLink own index ref (T f).2.1 (T f).2.2.1 ∈ lw_all) (hsame : ∀ (s : State) x, s.fieldFound? (T f).1 (T f).2.1 (T f).2.2.1 = some x → s.fieldFound? ref (T f).2.1 (T f).2.2.1 = some x) (hfin : (T f).2.2.2 = true) (hmn : mn = "<init>") (hdecl : (T f).1 = own) (hn : narrow (ty0 f) (vL x) = vL x) (hfit : fits (ty0 f) (vL x) = true) (hdg : decode cc pc = .ok (.putfield index, 3)) (k : ∀ ws2, Mrep G ws2 (hs μ a (hO ci (upF fi f x) fq)) → WF G l cc own nL ret mn d mc ms F cells slots [ws2, fr] (pc + 3) lv st) : WF G l cc own nL ret mn d mc ms F cells slots [ws, fr] pc lv (vL x :: va_rf o :: st) := by
  subst ho
  obtain ⟨j, hj⟩ := hM.at hμ trivial
  refine ww_putF (Ws2 := [ws.set j (a, oB ci ((ofs ci fi fq).set f (vL x))), fr]) hin hty hnm 0 j rfl hj hc f hf hlink hsame hfin hmn hdecl hn hfit (hlen fi fq) rfl hdg ?_
  refine k _ ?_
  rw [he]
  exact hM.set (c := hO ci (upF fi f x) fq) hj trivial
theorem wm_putQF {ref C : String} {T : u_T} {Nf ci index a : Nat} {ty0 : Nat → FieldType} {o : Option Nat} {x : Option Nat} {fi : Nat → Int} {fq : Nat → Option Nat} (hM : Mrep G ws μ) (ho : o = some a) (hin : ∀ w ∈ u_ws C T Nf, w ∈ lw_all) (hty : ∀ k, k < Nf → parseFieldDescriptor (T k).2.2.1 = some (ty0 k)) (hnm : ∀ a, a < Nf → ∀ b, b < Nf → a ≠ b → (T a).2.1 ≠ (T b).2.1) (hc : vwCl[ci]? = some (C, T, Nf)) (f : Nat) (hf : f < Nf) (hμ : μ a = some (hO ci fi fq)) (he : ∀ fi fr, (ofs ci fi fr).set f (va_rf x) = ofs ci fi (upF fr f x)) (hlen : ∀ fi fr, f < (ofs ci fi fr).length) (hlink : Cond.fieldLink own index ref (T f).2.1 (T f).2.2.1 ∈ lw_all) (hsame : ∀ (s : State) x, s.fieldFound? (T f).1 (T f).2.1 (T f).2.2.1 = some x → s.fieldFound? ref (T f).2.1 (T f).2.2.1 = some x) (hfin : (T f).2.2.2 = true) (hmn : mn = "<init>") (hdecl : (T f).1 = own) (hn : narrow (ty0 f) (va_rf x) = va_rf x) (hfit : fits (ty0 f) (va_rf x) = true) (hdg : decode cc pc = .ok (.putfield index, 3)) (k : ∀ ws2, Mrep G ws2 (hs μ a (hO ci fi (upF fq f x))) → WF G l cc own nL ret mn d mc ms F cells slots [ws2, fr] (pc + 3) lv st) : WF G l cc own nL ret mn d mc ms F cells slots [ws, fr] pc lv (va_rf x :: va_rf o :: st) := by
  subst ho
  obtain ⟨j, hj⟩ := hM.at hμ trivial
  refine ww_putF (Ws2 := [ws.set j (a, oB ci ((ofs ci fi fq).set f (va_rf x))), fr]) hin hty hnm 0 j rfl hj hc f hf hlink hsame hfin hmn hdecl hn hfit (hlen fi fq) rfl hdg ?_
  refine k _ ?_
  rw [he]
  exact hM.set (c := hO ci fi (upF fq f x)) hj trivial
/-- arrays -/
theorem wm_alen {a n : Nat} {o : Option Nat} (hM : Mrep G ws μ) (ho : o = some a) (hg : gL μ a = some n) (hdg : decode cc pc = .ok (.arraylength, 1)) (k : WF G l cc own nL ret mn d mc ms F cells slots [ws, fr] (pc + 1) lv (vI n :: st)) : WF G l cc own nL ret mn d mc ms F cells slots [ws, fr] pc lv (va_rf o :: st) := by
  subst ho
  unfold gL at hg
  split at hg
  · rename_i t n2 f he
    split at hg
    · rename_i ht
      cases hg
      obtain ⟨j, hj⟩ := hM.at (c := hA t n f) he trivial
      by_cases h1 : t = 1
      · subst h1
        exact ww_alen (kk := 0) (jj := j) 1 rfl hj rfl hdg k
      · have e : hcE G (hA t n f) = aI (g_k G t) n f := by
          show (bif Nat.beq t 1 then _ else _) = _
          rw [show Nat.beq t 1 = false from by cases h : Nat.beq t 1 with | false => rfl | true => exact absurd (Nat.eq_of_beq_eq_true h) h1]
          rfl
        rw [e] at hj
        have ht4 : t = 0 ∨ t = 2 ∨ t = 3 := by omega
        rcases ht4 with rfl | rfl | rfl
        · exact ww_alen (kk := 0) (jj := j) 0 rfl hj rfl hdg k
        · exact ww_alen (kk := 0) (jj := j) 2 rfl hj rfl hdg k
        · exact ww_alen (kk := 0) (jj := j) 3 rfl hj rfl hdg k
    · cases hg
  · rename_i t n2 f he
    split at hg
    · rename_i ht
      cases hg
      obtain ⟨j, hj⟩ := hM.at (c := hQ t n f) he trivial
      have ht4 : t = 4 ∨ t = 5 ∨ t = 6 := by omega
      rcases ht4 with rfl | rfl | rfl
      · exact ww_alen (kk := 0) (jj := j) 4 rfl hj rfl hdg k
      · exact ww_alen (kk := 0) (jj := j) 5 rfl hj rfl hdg k
      · exact ww_alen (kk := 0) (jj := j) 6 rfl hj rfl hdg k
    · cases hg
  · rename_i i x he
    have hk := hM _ _ he
    obtain ⟨ha, hi⟩ := hk
    subst ha
    intro p e s m args below meth c H locs ls N hS hP hl
    have hX := N.2.2.2.2.2.2.2.2.2.2.2.1
    have h := k p e s m args below meth c H locs ls N hS hP hl
    have e9 : ∀ z : Nat, Value.int (Int32.ofNat z) = vI (z : Int) := fun z => rfl
    split at hg
    · rename_i h0
      subst h0
      cases hg
      exact va_tlen N.1 N.2.1 hX.2.2.1.2 hS rfl hdg h
    · split at hg
      · rename_i h0
        subst h0
        cases hg
        exact va_tlen N.1 N.2.1 hX.2.2.2.1.2 hS rfl hdg h
      · split at hg
        · rename_i h0
          subst h0
          cases hg
          exact va_tlen N.1 N.2.1 hX.2.2.2.2.1.2 hS rfl hdg h
        · split at hg
          · rename_i h0
            cases hg
            obtain ⟨i, rfl⟩ : ∃ z, i = 20 + z := ⟨i - 20, by omega⟩
            have hv := (hX.2.2.2.2.2.1.1 i (by omega)).2.2.2
            rw [Nat.add_sub_cancel_left] at h
            exact va_tlen N.1 N.2.1 hv hS rfl hdg h
          · cases hg
  · cases hg
theorem wm_iald {a : Nat} {o : Option Nat} {i x : Int} (hM : Mrep G ws μ) (ho : o = some a) (hg : gA μ a 0 i = some x) (hdg : decode cc pc = .ok (.iaload, 1)) (k : WF G l cc own nL ret mn d mc ms F cells slots [ws, fr] (pc + 1) lv (vI x :: st)) : WF G l cc own nL ret mn d mc ms F cells slots [ws, fr] pc lv (vI i :: va_rf o :: st) := by
  subst ho
  unfold gA at hg
  split at hg
  · rename_i t2 n f he
    split at hg
    · rename_i h0
      obtain ⟨rfl, q0, q1, q2⟩ := h0
      cases hg
      obtain ⟨j, hj⟩ := hM.at (c := hA 0 n f) he trivial
      exact ww_iald (kk := 0) (jj := j) rfl hj q0 q1 (by omega) hdg k
    · cases hg
  · rename_i j2 x2 he
    have hk := hM _ _ he
    obtain ⟨ha, hi⟩ := hk
    subst ha
    intro p e s m args below meth c H locs ls N hS hP hl
    have hX := N.2.2.2.2.2.2.2.2.2.2.2.1
    have h := k p e s m args below meth c H locs ls N hS hP hl
    split at hg
    · rename_i h0
      obtain ⟨rfl, -, q0, q1⟩ := h0
      cases hg
      refine va_ti N.1 N.2.1 hX.2.2.2.1.2 hS (iI_in q0 q1 (by decide)) (v := .int (g_ones i.toNat)) (by rw [iI_clamp q0 (by omega)]) hdg ?_
      rw [vI_toInt]
      exact h
    · split at hg
      · rename_i h0
        obtain ⟨rfl, -, q0, q1⟩ := h0
        cases hg
        refine va_ti N.1 N.2.1 hX.2.2.2.2.1.2 hS (iI_in q0 q1 (by decide)) (v := .int (g_tens i.toNat)) (by rw [iI_clamp q0 (by omega)]) hdg ?_
        rw [vI_toInt]
        exact h
      · split at hg
        · rename_i h0; exact absurd h0.2.2.1 (by decide)
        · cases hg
  · cases hg
theorem wm_iast {a n : Nat} {o : Option Nat} {i x : Int} {f : Int → Int} (hM : Mrep G ws μ) (ho : o = some a) (hμ : μ a = some (hA 0 n f)) (h0 : 0 ≤ i) (h1 : i < n) (hn : (n : Int) < 2147483648) (hdg : decode cc pc = .ok (.iastore, 1)) (k : ∀ ws2, Mrep G ws2 (hs μ a (hA 0 n (updI f i x))) → WF G l cc own nL ret mn d mc ms F cells slots [ws2, fr] (pc + 1) lv st) : WF G l cc own nL ret mn d mc ms F cells slots [ws, fr] pc lv (vI x :: vI i :: va_rf o :: st) := by
  subst ho
  obtain ⟨j, hj⟩ := hM.at hμ trivial
  exact ww_iast (kk := 0) (jj := j) rfl hj h0 h1 hn rfl hdg (k _ (hM.set (c := hA 0 n (updI f i x)) hj trivial))
theorem wm_lald {a : Nat} {o : Option Nat} {i x : Int} (hM : Mrep G ws μ) (ho : o = some a) (hg : gA μ a 1 i = some x) (hdg : decode cc pc = .ok (.laload, 1)) (k : WF G l cc own nL ret mn d mc ms F cells slots [ws, fr] (pc + 1) lv (vL x :: st)) : WF G l cc own nL ret mn d mc ms F cells slots [ws, fr] pc lv (vI i :: va_rf o :: st) := by
  subst ho
  unfold gA at hg
  split at hg
  · rename_i t2 n f he
    split at hg
    · rename_i h0
      obtain ⟨rfl, q0, q1, q2⟩ := h0
      cases hg
      obtain ⟨j, hj⟩ := hM.at (c := hA 1 n f) he trivial
      exact ww_lald (kk := 0) (jj := j) rfl hj q0 q1 (by omega) hdg k
    · cases hg
  · rename_i j2 x2 he
    have hk := hM _ _ he
    obtain ⟨ha, hi⟩ := hk
    subst ha
    intro p e s m args below meth c H locs ls N hS hP hl
    have hX := N.2.2.2.2.2.2.2.2.2.2.2.1
    have h := k p e s m args below meth c H locs ls N hS hP hl
    split at hg
    · rename_i h0; exact absurd h0.2.1 (by decide)
    · split at hg
      · rename_i h0; exact absurd h0.2.1 (by decide)
      · split at hg
        · rename_i h0; exact absurd h0.2.2.1 (by decide)
        · cases hg
  · cases hg
theorem wm_last {a n : Nat} {o : Option Nat} {i x : Int} {f : Int → Int} (hM : Mrep G ws μ) (ho : o = some a) (hμ : μ a = some (hA 1 n f)) (h0 : 0 ≤ i) (h1 : i < n) (hn : (n : Int) < 2147483648) (hdg : decode cc pc = .ok (.lastore, 1)) (k : ∀ ws2, Mrep G ws2 (hs μ a (hA 1 n (updI f i x))) → WF G l cc own nL ret mn d mc ms F cells slots [ws2, fr] (pc + 1) lv st) : WF G l cc own nL ret mn d mc ms F cells slots [ws, fr] pc lv (vL x :: vI i :: va_rf o :: st) := by
  subst ho
  obtain ⟨j, hj⟩ := hM.at hμ trivial
  exact ww_last (kk := 0) (jj := j) rfl hj h0 h1 hn rfl hdg (k _ (hM.set (c := hA 1 n (updI f i x)) hj trivial))
theorem wm_bald {a : Nat} {o : Option Nat} {i x : Int} (hM : Mrep G ws μ) (ho : o = some a) (hg : gA μ a 2 i = some x) (hdg : decode cc pc = .ok (.baload, 1)) (k : WF G l cc own nL ret mn d mc ms F cells slots [ws, fr] (pc + 1) lv (vI x :: st)) : WF G l cc own nL ret mn d mc ms F cells slots [ws, fr] pc lv (vI i :: va_rf o :: st) := by
  subst ho
  unfold gA at hg
  split at hg
  · rename_i t2 n f he
    split at hg
    · rename_i h0
      obtain ⟨rfl, q0, q1, q2⟩ := h0
      cases hg
      obtain ⟨j, hj⟩ := hM.at (c := hA 2 n f) he trivial
      exact ww_bald (kk := 0) (jj := j) rfl hj q0 q1 (by omega) hdg k
    · cases hg
  · rename_i j2 x2 he
    have hk := hM _ _ he
    obtain ⟨ha, hi⟩ := hk
    subst ha
    intro p e s m args below meth c H locs ls N hS hP hl
    have hX := N.2.2.2.2.2.2.2.2.2.2.2.1
    have h := k p e s m args below meth c H locs ls N hS hP hl
    split at hg
    · rename_i h0; exact absurd h0.2.1 (by decide)
    · split at hg
      · rename_i h0; exact absurd h0.2.1 (by decide)
      · split at hg
        · rename_i h0
          obtain ⟨q2, q3, -, q0, q1⟩ := h0
          cases hg
          obtain ⟨j2, rfl⟩ : ∃ z, j2 = 20 + z := ⟨j2 - 20, by omega⟩
          rw [Nat.add_sub_cancel_left] at q1 h
          have hv := (hX.2.2.2.2.2.1.1 j2 (by omega)).2.2.2
          have hn : ((g_len.getD j2 0 : Nat) : Int) < 2147483648 := by
            have : j2 < 7 := by omega
            rcases (show j2 = 0 ∨ j2 = 1 ∨ j2 = 2 ∨ j2 = 3 ∨ j2 = 4 ∨ j2 = 5 ∨ j2 = 6 by omega) with rfl | rfl | rfl | rfl | rfl | rfl | rfl <;> decide
          refine va_tb N.1 N.2.1 hv hS (iI_in q0 q1 hn) (v := .int ((g_byt.getD j2 []).getD i.toNat 0)) (by rw [iI_clamp q0 (by omega)]) hdg ?_
          rw [vI_toInt]
          exact h
        · cases hg
  · cases hg
theorem wm_bast {a n : Nat} {o : Option Nat} {i x : Int} {f : Int → Int} (hM : Mrep G ws μ) (ho : o = some a) (hμ : μ a = some (hA 2 n f)) (h0 : 0 ≤ i) (h1 : i < n) (hn : (n : Int) < 2147483648) (hx : -128 ≤ x ∧ x < 128) (hdg : decode cc pc = .ok (.bastore, 1)) (k : ∀ ws2, Mrep G ws2 (hs μ a (hA 2 n (updI f i x))) → WF G l cc own nL ret mn d mc ms F cells slots [ws2, fr] (pc + 1) lv st) : WF G l cc own nL ret mn d mc ms F cells slots [ws, fr] pc lv (vI x :: vI i :: va_rf o :: st) := by
  subst ho
  obtain ⟨j, hj⟩ := hM.at hμ trivial
  exact ww_bast (kk := 0) (jj := j) rfl hj h0 h1 hn hx rfl hdg (k _ (hM.set (c := hA 2 n (updI f i x)) hj trivial))
theorem wm_zald {a : Nat} {o : Option Nat} {i x : Int} (hM : Mrep G ws μ) (ho : o = some a) (hg : gA μ a 3 i = some x) (hdg : decode cc pc = .ok (.baload, 1)) (k : WF G l cc own nL ret mn d mc ms F cells slots [ws, fr] (pc + 1) lv (vI x :: st)) : WF G l cc own nL ret mn d mc ms F cells slots [ws, fr] pc lv (vI i :: va_rf o :: st) := by
  subst ho
  unfold gA at hg
  split at hg
  · rename_i t2 n f he
    split at hg
    · rename_i h0
      obtain ⟨rfl, q0, q1, q2⟩ := h0
      cases hg
      obtain ⟨j, hj⟩ := hM.at (c := hA 3 n f) he trivial
      exact ww_zald (kk := 0) (jj := j) rfl hj q0 q1 (by omega) hdg k
    · cases hg
  · rename_i j2 x2 he
    have hk := hM _ _ he
    obtain ⟨ha, hi⟩ := hk
    subst ha
    intro p e s m args below meth c H locs ls N hS hP hl
    have hX := N.2.2.2.2.2.2.2.2.2.2.2.1
    have h := k p e s m args below meth c H locs ls N hS hP hl
    split at hg
    · rename_i h0; exact absurd h0.2.1 (by decide)
    · split at hg
      · rename_i h0; exact absurd h0.2.1 (by decide)
      · split at hg
        · rename_i h0; exact absurd h0.2.2.1 (by decide)
        · cases hg
  · cases hg
theorem wm_zast {a n : Nat} {o : Option Nat} {i x : Int} {f : Int → Int} (hM : Mrep G ws μ) (ho : o = some a) (hμ : μ a = some (hA 3 n f)) (h0 : 0 ≤ i) (h1 : i < n) (hn : (n : Int) < 2147483648) (hx : x = 0 ∨ x = 1) (hdg : decode cc pc = .ok (.bastore, 1)) (k : ∀ ws2, Mrep G ws2 (hs μ a (hA 3 n (updI f i x))) → WF G l cc own nL ret mn d mc ms F cells slots [ws2, fr] (pc + 1) lv st) : WF G l cc own nL ret mn d mc ms F cells slots [ws, fr] pc lv (vI x :: vI i :: va_rf o :: st) := by
  subst ho
  obtain ⟨j, hj⟩ := hM.at hμ trivial
  exact ww_zast (kk := 0) (jj := j) rfl hj h0 h1 hn hx rfl hdg (k _ (hM.set (c := hA 3 n (updI f i x)) hj trivial))
theorem wm_aald {a t : Nat} {o x : Option Nat} {i : Int} (hM : Mrep G ws μ) (ho : o = some a) (ht : t = 4 ∨ t = 5 ∨ t = 6) (hg : gR μ a t i = some x) (hdg : decode cc pc = .ok (.aaload, 1)) (k : WF G l cc own nL ret mn d mc ms F cells slots [ws, fr] (pc + 1) lv (va_rf x :: st)) : WF G l cc own nL ret mn d mc ms F cells slots [ws, fr] pc lv (vI i :: va_rf o :: st) := by
  subst ho
  unfold gR at hg
  split at hg
  · rename_i t2 n f he
    split at hg
    · rename_i h0
      obtain ⟨rfl, q0, q1, q2⟩ := h0
      cases hg
      obtain ⟨j, hj⟩ := hM.at (c := hQ t2 n f) he trivial
      intro p e s m args below meth c H locs ls N hS hP hl
      have h := k p e s m args below meth c H locs ls N hS hP hl
      obtain ⟨q9, e1, -⟩ := flat_at (Ws := [ws, fr]) (k := 0) rfl hj
      have hK := N.2.2.2.2.2.2.2.2.1
      have hlt : i.toNat < n := by omega
      have ei : ((i.toNat : Nat) : Int) = i := by omega
      have hn9 : ((n : Nat) : Int) < 2147483648 := by omega
      have go : ∀ ty : FieldType, refKind ty = true → (g_tys G)[t2]? = some (g_k G t2, ty) → _ := fun ty hr hty =>
        W.aald (p := p) (l := l) (e := e) (R := g_rm d mc ms) (s := s) (m := m) (args := args) (below := below) (meth := meth) (c := c) (H := H) (locs := locs) (cells := cells) (slots := slots) (Q := F.1 below args s) (v := va_rf (f i)) (ty := ty) (g := F0 m pc ls (vI i :: .ref a :: st)) (j := Int32.ofInt i) (rest := st) N.1 N.2.1 (hP.1 q9 _ e1) ((hK.2 t2 _ hty).1 n (fun j => va_rf (f j))) hr (fun q => by cases q) (by show ¬ (_ ∨ (arrV _ _ _).slots.size ≤ _); rw [arrV_size]; exact iI_in q0 q1 hn9) (by show (arrV _ _ _).slots[_]? = _; rw [iI_clamp q0 (by omega), arrV_read _ _ hlt]; show some (va_rf (f ((i.toNat : Nat) : Int))) = _; rw [ei]) rfl rfl hdg h
      rcases ht with rfl | rfl | rfl
      · exact go _ rfl rfl
      · exact go _ rfl rfl
      · exact go _ rfl rfl
    · cases hg
  · cases hg
end MROWS
