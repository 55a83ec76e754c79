/-! COMPONENT AND JDK: calls that ask more -/
set_option maxRecDepth 100000
section PCROWS
variable {G : g_G} {l : Launch} {cc : ByteArray} {own : String} {nL : Nat} {ret : Option FieldType} {mn : String} {d mc ms : Nat} {F : g_F} {cells slots : Nat} {pc : Nat} {lv : List (Nat × Value)} {st : List Value} {ws fr : va_W} {Ws : List va_W} {μ : HM}
theorem ww_callUK {S2 : Type} {R2 : Option Value → S2 → Prop} {sh2 : S2 → List va_W} {mc2 ms2 d2 maxL2 n index b : Nat} {Wc Wr : List va_W} {st0 as : List Value} {x y : MethodName} {C owner : String} {bytes : ByteArray} {ret2 : Option FieldType} (hM : CT G l y bytes maxL2 ret2 d2 mc2 ms2 (.ref b :: as) Wc R2 sh2)
    (hcw : ∀ (s : State) (args : Array Value), (∀ w ∈ lw_all, w.before args s = true) → g_K G l s → va_CU (g_rm d mc ms) s args own C owner index x y bytes maxL2 ret2 (ws_ y bytes maxL2 ret2) (g_rm d2 mc2 ms2) mc2 ms2 n) (hn : as.length = n) (hw : Ws.flatten = (Wc ++ Wr).flatten)
    (hrc : g_rc G l Ws b C) (hst0 : st0 = as.reverse ++ .ref b :: st) (hst : (st.map fun v => v.category).sum ≤ 8) (hdg : decode cc pc = .ok (.invokevirtual index, 3)) (hf : cells + mc2 ≤ mc ∧ slots + ms2 ≤ ms)
    (k : ∀ (r : Option Value) (u : S2), R2 r u → WF G l cc own nL ret mn d mc ms F (cells + mc2) (slots + ms2) (sh2 u ++ Wr) (pc + 3) lv (r.toList ++ st)) : WF G l cc own nL ret mn d mc ms F cells slots Ws pc lv st0 := by
  refine ww_run (R2 := R2) (Wr := Wr) (a := (Value.ref b :: as).toArray) ?_ k
  intro p e s m args below meth c H locs ls N hS hP hl
  have hK := N.2.2.2.2.2.2.2.2
  exact va_runU (nL := nL) (As := as) (rest := st) ⟨N.1, N.2.1, N.2.2.2.2.1, N.2.2.2.1, N.2.2.1⟩ (hM Wr.flatten) (hcw s args N.2.2.1 hK) ⟨g_blind, hrc s H locs hK hS hP, fun U hU hW => ⟨rfl, g_pre hK hS hU hW, by rw [hU]; exact hP.of (by rw [hw]; simp)⟩⟩ rfl hn hl.1 hst0 (lv_room hst) hdg hf
/-- the named method is hidden (of one class), the object's class is below it -/
theorem g_selP {s : State} {args : Array Value} {C : String} {y : MethodName} {nI : Nat} (hy : y.cls ≠ "java/lang/invoke/MethodHandle" ∧ y.cls ≠ "java/lang/invoke/VarHandle")
    (hins : (Cond.instantiable C nI).before args s = true) (hpriv : (Cond.privateMethod y).before args s = true) (hinst : (Cond.instanceMethod y).before args s = true) (hsame : (Cond.sameMethod y.cls y.cls y.name y.desc).before args s = true) : (Cond.selects C y y).before args s = true := by
  obtain ⟨c, k, hc, hk, -, hniab, -, -⟩ := Cond.instantiable_spec hins
  obtain ⟨cn, ck, r1, hcn, hck, hni, -, -⟩ := Cond.sameMethod_found hsame
  obtain ⟨mk, methM, hnamed, hmethM, -, -⟩ := Cond.instanceMethod_spec hinst
  have hfound : s.methodFound? y.cls y.name y.desc = some mk := State.methodFound?_of_named hnamed hy
  have hsel : selectMethod {} s.vm c mk = .method mk := selectMethod_private hmethM (Cond.privateMethod_at hpriv mk methM hnamed hmethM)
  have hcls : mk.cls = cn := Option.some.inj ((findClass_of_methodNamed hnamed).symm.trans hcn)
  simp only [Cond.before, Cond.holds, Cond.value, hc, hfound, hnamed, hsel, hcls, hck]
  simp; exact hni
theorem wm_callP {y : MethodName} {bytes : ByteArray} {ret2 : Option FieldType} {as : List Value} {mc2 ms2 d2 maxL2 n index : Nat} {R2 : Option Value → HM → Prop} {b ci : Nat} {o : Option Nat} {C : String} {T : u_T} {Nf : Nat} {st0 : List Value} {nI : Nat} (hM : Mrep G ws μ) (hC : CM G l y bytes maxL2 ret2 d2 mc2 ms2 (.ref b :: as) μ R2) (ho : o = some b) (hgC : gC μ b = some ci) (hci : vwCl[ci]? = some (C, T, Nf))
    (q1 : Cond.instantiable C nI ∈ lw_all) (q2 : Cond.privateMethod y ∈ lw_tbl) (q3 : Cond.methodLink own index y ∈ lw_all) (q4 : Cond.sameMethod y.cls y.cls y.name y.desc ∈ lw_all) (q5 : Cond.instanceMethod y ∈ lw_all) (q6 : Cond.initialized y.cls ∈ lw_all) (q7 : Cond.code y bytes maxL2 ret2 ∈ lw_all)
    (hd : y.cls ≠ "java/lang/invoke/MethodHandle" ∧ y.cls ≠ "java/lang/invoke/VarHandle" ∧ (parseMethodDescriptor y.desc).map (fun d => d.parameters.length) = some n) (hn : as.length = n) (hR : d2 + 1 ≤ d ∧ 16 + (maxL2 + 11) + 100 * d2 ≤ 100 * d) (hst0 : st0 = as.reverse ++ va_rf o :: st) (hst : (st.map fun v => v.category).sum ≤ 8) (hdg : decode cc pc = .ok (.invokevirtual index, 3)) (hf : cells + mc2 ≤ mc ∧ slots + ms2 ≤ ms)
    (k : ∀ (r : Option Value) (μ2 : HM) (ws2 : va_W), R2 r μ2 → Mrep G ws2 μ2 → WF G l cc own nL ret mn d mc ms F (cells + mc2) (slots + ms2) [ws2, fr] (pc + 3) lv (r.toList ++ st)) : WF G l cc own nL ret mn d mc ms F cells slots [ws, fr] pc lv st0 := by
  subst ho
  refine ww_callUK (C := C) (owner := y.cls) (x := y) (Wr := [fr]) (hC ws hM) (fun s args hts hK => ?_) hn rfl (wm_rc hM hgC hci) hst0 hst hdg hf (fun r u h => k r u.2 u.1 h.2 h.1)
  have hG : GoodIn lw_all (ws_ y bytes maxL2 ret2) := lw_meth q7
  have hsel := g_selP ⟨hd.1, hd.2.1⟩ (hts _ q1) (va_Nw.use (A := args) rfl (hK.2.2.1 _ q2 rfl)) (hts _ q5) (hts _ q4)
  refine ⟨⟨rfl, rfl, hR.1, (show 8 + (maxL2 + 11) + 100 * d2 ≤ 100 * d by omega), pay_in hts hG, List.mem_cons_self⟩, hts _ q7, hts _ q6, ⟨hd.1, hd.2.1⟩, fun sig h => ?_, hts _ q3, hts _ q4, va_Decl.of (hts _ q5) (hts _ q7), hsel, hts _ q5⟩
  have h2 := hd.2.2
  rw [h] at h2
  exact (Option.some.inj h2).symm
/-- the named method has no code -/
theorem wm_callA {y : MethodName} {bytes : ByteArray} {ret2 : Option FieldType} {as : List Value} {mc2 ms2 d2 maxL2 n index : Nat} {R2 : Option Value → HM → Prop} {b ci : Nat} {o : Option Nat} {x : MethodName} {C owner : String} {T : u_T} {Nf : Nat} {st0 : List Value} (hM : Mrep G ws μ) (hC : CM G l y bytes maxL2 ret2 d2 mc2 ms2 (.ref b :: as) μ R2) (ho : o = some b) (hgC : gC μ b = some ci) (hci : vwCl[ci]? = some (C, T, Nf)) (hg : GoodIn lw_all (va_wsU own index C owner x y (ws_ y bytes maxL2 ret2))) (hz : Cond.declares ⟨owner, x.name, x.desc⟩ ∈ lw_tbl)
    (hd : owner ≠ "java/lang/invoke/MethodHandle" ∧ owner ≠ "java/lang/invoke/VarHandle" ∧ (parseMethodDescriptor x.desc).map (fun d => d.parameters.length) = some n) (hn : as.length = n) (hR : d2 + 1 ≤ d ∧ 16 + (maxL2 + 11) + 100 * d2 ≤ 100 * d) (hst0 : st0 = as.reverse ++ va_rf o :: st) (hst : (st.map fun v => v.category).sum ≤ 8) (hdg : decode cc pc = .ok (.invokevirtual index, 3)) (hf : cells + mc2 ≤ mc ∧ slots + ms2 ≤ ms)
    (k : ∀ (r : Option Value) (μ2 : HM) (ws2 : va_W), R2 r μ2 → Mrep G ws2 μ2 → WF G l cc own nL ret mn d mc ms F (cells + mc2) (slots + ms2) [ws2, fr] (pc + 3) lv (r.toList ++ st)) : WF G l cc own nL ret mn d mc ms F cells slots [ws, fr] pc lv st0 := by
  subst ho
  exact ww_callUK (Wr := [fr]) (hC ws hM) (fun s args hts hK => va_cwA (n := n) hts hg rfl rfl rfl (hK.2.2.1 _ hz rfl) hd ⟨hR.1, (show 8 + (maxL2 + 11) + 100 * d2 ≤ 100 * d by omega)⟩) hn rfl (wm_rc hM hgC hci) hst0 hst hdg hf (fun r u h => k r u.2 u.1 h.2 h.1)
/-- out of an array, or out of the empty constant -/
theorem wm_copyQ {a a1 index : Nat} {o o1 : Option Nat} {sp dp n : Int} {μ3 : HM} {ty : FieldType} (hM : Mrep G ws μ) (ho : o = some a) (ho1 : o1 = some a1)
    (hc : (∃ (n0 n1 : Nat) (f g : Int → Option Nat), μ a = some (hQ 4 n0 f) ∧ μ a1 = some (hQ 4 n1 g) ∧ (0 ≤ sp ∧ 0 ≤ dp ∧ 0 ≤ n ∧ sp + n ≤ (n0 : Int) ∧ dp + n ≤ (n1 : Int) ∧ (n0 : Int) < 2147483648 ∧ (n1 : Int) < 2147483648) ∧ (∀ (j : Int) (y : Nat), sp ≤ j → j < sp + n → f j = some y → hst μ 4 y) ∧ μ3 = hs μ a1 (hQ 4 n1 (cpyI f g sp dp n)))
      ∨ (∃ (n1 : Nat) (g : Int → Option Nat), a = g_ad G 0 ∧ μ a1 = some (hQ 4 n1 g) ∧ sp = 0 ∧ 0 ≤ dp ∧ n = 0 ∧ dp ≤ (n1 : Int) ∧ (n1 : Int) < 2147483648 ∧ μ3 = hs μ a1 (hQ 4 n1 g)))
    (hq1 : Cond.methodLink own index arraycopyName ∈ lw_all) (hq2 : Cond.native arraycopyName ∈ lw_all) (hq3 : Cond.static arraycopyName ∈ lw_all) (hq4 : Cond.initialized "java/lang/System" ∈ lw_all) (hd : 1 ≤ d) (hst9 : (st.map fun v => v.category).sum ≤ 16) (hdg : decode cc pc = .ok (.invokestatic index, 3)) (k : ∀ ws2, Mrep G ws2 μ3 → WF G l cc own nL ret mn d mc ms F cells slots [ws2, fr] (pc + 3) lv st) : WF G l cc own nL ret mn d mc ms F cells slots [ws, fr] pc lv (vI n :: vI dp :: va_rf o1 :: vI sp :: va_rf o :: st) := by
  rcases hc with ⟨n0, n1, f, g, h0, h1, hi, hx, rfl⟩ | ⟨n1, g, h0, h1, e1, h2, e2, h3, h4, rfl⟩
  · exact wm_copyR 4 (ty := .object "java/lang/Object") hM ho ho1 h0 h1 rfl rfl (fun o => fits_rf rfl o) hi.1 hi.2.1 hi.2.2.1 hi.2.2.2.1 hi.2.2.2.2.1 hi.2.2.2.2.2.1 hi.2.2.2.2.2.2 hx hq1 hq2 hq3 hq4 hd hst9 hdg k
  · subst h0
    exact wm_copyE (x := 0) hM ho ho1 h1 e1 h2 e2 h3 h4 hq1 hq2 hq3 hq4 hd hst9 hdg k
theorem ww_getS {ref C : String} {T : u_T} {Nf ci index : Nat} (hin : ∀ w ∈ u_ws C T Nf, w ∈ lw_all) (kk jj : Nat) {seg : va_W} {a : Nat} {fs : List Value} (hk : Ws[kk]? = some seg) (hj : seg[jj]? = some (a, oB ci fs)) (hc : vwCl[ci]? = some (C, T, Nf)) (f : Nat) (hf : f < Nf) (hlink : Cond.fieldLink own index ref (T f).2.1 (T f).2.2.1 ∈ lw_all) (hsame : ∀ (s : State) (args : Array Value), (∀ w ∈ lw_all, w.before args s = true) → ∀ x, s.fieldFound? (T f).1 (T f).2.1 (T f).2.2.1 = some x → s.fieldFound? ref (T f).2.1 (T f).2.2.1 = some x) {v : Value} (hv : fs[f]? = some v) (hdg : decode cc pc = .ok (.getfield index, 3)) (k : WF G l cc own nL ret mn d mc ms F cells slots Ws (pc + 3) lv (v :: st)) : WF G l cc own nL ret mn d mc ms F cells slots Ws pc lv (.ref a :: st) := by
  intro p e s m args below meth c H locs ls N hS hP hl
  obtain ⟨q0, h1, -⟩ := flat_at hk hj
  exact va_get (v := v) N.1 N.2.1 N.2.2.1 hin N.2.2.2.1 N.2.2.2.2.2.2.2.2.1 hP.1 q0 h1 hc f hf (N.2.2.1 _ hlink) (hsame s _ N.2.2.1) hv hdg (k p e s m args below meth c H locs ls N hS hP hl)
theorem ww_putS {ref C : String} {T : u_T} {Nf ci index : Nat} {ty0 : Nat → FieldType} (hin : ∀ w ∈ u_ws C T Nf, w ∈ lw_all) (hty : ∀ k, k < Nf → parseFieldDescriptor (T k).2.2.1 = some (ty0 k)) (hnm : ∀ a, a < Nf → ∀ b, b < Nf → a ≠ b → (T a).2.1 ≠ (T b).2.1) (kk jj : Nat) {seg : va_W} {a : Nat} {fs : List Value} {Ws2 : List va_W} (hk : Ws[kk]? = some seg) (hj : seg[jj]? = some (a, oB ci fs)) (hc : vwCl[ci]? = some (C, T, Nf)) (f : Nat) (hf : f < Nf) (hlink : Cond.fieldLink own index ref (T f).2.1 (T f).2.2.1 ∈ lw_all) (hsame : ∀ (s : State) (args : Array Value), (∀ w ∈ lw_all, w.before args s = true) → ∀ x, s.fieldFound? (T f).1 (T f).2.1 (T f).2.2.1 = some x → s.fieldFound? ref (T f).2.1 (T f).2.2.1 = some x) (hfin : (T f).2.2.2 = false) {v : Value} (hn : narrow (ty0 f) v = v) (hfit : fits (ty0 f) v = true) (hl2 : f < fs.length) (hw : Ws.set kk (seg.set jj (a, oB ci (fs.set f v))) = Ws2) (hdg : decode cc pc = .ok (.putfield index, 3)) (k : WF G l cc own nL ret mn d mc ms F cells slots Ws2 (pc + 3) lv st) : WF G l cc own nL ret mn d mc ms F cells slots Ws pc lv (v :: .ref a :: st) := by
  intro p e s m args below meth c H locs ls N hS hP hl
  obtain ⟨q0, h1, h2⟩ := flat_at hk hj
  subst hw
  refine va_put (v := v) (ty := ty0 f) N.1 N.2.1 N.2.2.1 hin ty0 hty hnm N.2.2.2.1 N.2.2.2.2.2.2.2.2.1 hP.1 hP.2 hS q0 h1 hc f hf (N.2.2.1 _ hlink) (hsame s _ N.2.2.1) hfin (hty f hf) hn hfit hl2 hdg (fun H1 locs1 hP1 hD1 hS1 => ?_)
  have e1 := h2 (a, oB ci (fs.set f v))
  exact k p e s m args below meth c H1 locs1 ls N hS1 ⟨by rw [← e1]; exact hP1, by rw [← e1]; exact hD1⟩ hl
theorem wm_getIS {ref C : String} {T : u_T} {Nf ci index a : Nat} {o : Option Nat} {x : Int} (hM : Mrep G ws μ) (ho : o = some a) (hin : ∀ w ∈ u_ws C T Nf, w ∈ lw_all) (hc : vwCl[ci]? = some (C, T, Nf)) (hn : ci ≠ 22) (f : Nat) (hf : f < Nf) (hg : gI μ a ci f = some x) (he : ∀ fi fr, (ofs ci fi fr)[f]? = some (vI (fi f))) (hlink : Cond.fieldLink own index ref (T f).2.1 (T f).2.2.1 ∈ lw_all) (hsame : ∀ (s : State) (args : Array Value), (∀ w ∈ lw_all, w.before args s = true) → ∀ x, s.fieldFound? (T f).1 (T f).2.1 (T f).2.2.1 = some x → s.fieldFound? ref (T f).2.1 (T f).2.2.1 = some x) (hdg : decode cc pc = .ok (.getfield index, 3)) (k : WF G l cc own nL ret mn d mc ms F cells slots [ws, fr] (pc + 3) lv (vI x :: st)) : WF G l cc own nL ret mn d mc ms F cells slots [ws, fr] pc lv (va_rf o :: st) := by
  subst ho
  obtain ⟨fi, fq, hμ, rfl⟩ := gI_own hn hg
  obtain ⟨j, hj⟩ := hM.at hμ trivial
  exact ww_getS hin 0 j rfl hj hc f hf hlink hsame (he fi fq) hdg k
theorem wm_getQS {ref C : String} {T : u_T} {Nf ci index a : Nat} {o x : Option Nat} (hM : Mrep G ws μ) (ho : o = some a) (hin : ∀ w ∈ u_ws C T Nf, w ∈ lw_all) (hc : vwCl[ci]? = some (C, T, Nf)) (hn : ci ≠ 22) (f : Nat) (hf : f < Nf) (hg : gQ μ a ci f = some x) (he : ∀ fi fr, (ofs ci fi fr)[f]? = some (va_rf (fr f))) (hlink : Cond.fieldLink own index ref (T f).2.1 (T f).2.2.1 ∈ lw_all) (hsame : ∀ (s : State) (args : Array Value), (∀ w ∈ lw_all, w.before args s = true) → ∀ x, s.fieldFound? (T f).1 (T f).2.1 (T f).2.2.1 = some x → s.fieldFound? ref (T f).2.1 (T f).2.2.1 = some x) (hdg : decode cc pc = .ok (.getfield index, 3)) (k : WF G l cc own nL ret mn d mc ms F cells slots [ws, fr] (pc + 3) lv (va_rf x :: st)) : WF G l cc own nL ret mn d mc ms F cells slots [ws, fr] pc lv (va_rf o :: st) := by
  subst ho
  obtain ⟨fi, fq, hμ, rfl⟩ := gQ_own hn hg
  obtain ⟨j, hj⟩ := hM.at hμ trivial
  exact ww_getS hin 0 j rfl hj hc f hf hlink hsame (he fi fq) hdg k
theorem wm_putIS {ref C : String} {T : u_T} {Nf ci index a : Nat} {ty0 : Nat → FieldType} {o : Option Nat} {x : Int} {fi : Nat → Int} {fq : Nat → Option Nat} (hM : Mrep G ws μ) (ho : o = some a) (hin : ∀ w ∈ u_ws C T Nf, w ∈ lw_all) (hty : ∀ k, k < Nf → parseFieldDescriptor (T k).2.2.1 = some (ty0 k)) (hnm : ∀ a, a < Nf → ∀ b, b < Nf → a ≠ b → (T a).2.1 ≠ (T b).2.1) (hc : vwCl[ci]? = some (C, T, Nf)) (f : Nat) (hf : f < Nf) (hμ : μ a = some (hO ci fi fq)) (he : ∀ fi fr, (ofs ci fi fr).set f (vI x) = ofs ci (upF fi f x) fr) (hlen : ∀ fi fr, f < (ofs ci fi fr).length) (hlink : Cond.fieldLink own index ref (T f).2.1 (T f).2.2.1 ∈ lw_all) (hsame : ∀ (s : State) (args : Array Value), (∀ w ∈ lw_all, w.before args s = true) → ∀ x, s.fieldFound? (T f).1 (T f).2.1 (T f).2.2.1 = some x → s.fieldFound? ref (T f).2.1 (T f).2.2.1 = some x) (hfin : (T f).2.2.2 = false) (hn : narrow (ty0 f) (vI x) = vI x) (hfit : fits (ty0 f) (vI x) = true) (hdg : decode cc pc = .ok (.putfield index, 3)) (k : ∀ ws2, Mrep G ws2 (hs μ a (hO ci (upF fi f x) fq)) → WF G l cc own nL ret mn d mc ms F cells slots [ws2, fr] (pc + 3) lv st) : WF G l cc own nL ret mn d mc ms F cells slots [ws, fr] pc lv (vI x :: va_rf o :: st) := by
  subst ho
  obtain ⟨j, hj⟩ := hM.at hμ trivial
  refine ww_putS (Ws2 := [ws.set j (a, oB ci ((ofs ci fi fq).set f (vI x))), fr]) hin hty hnm 0 j rfl hj hc f hf hlink hsame hfin hn hfit (hlen fi fq) rfl hdg ?_
  refine k _ ?_
  rw [he]
  exact hM.set (c := hO ci (upF fi f x) fq) hj trivial
theorem g_sameF {R0 O n d : String} (w : Cond.sameField R0 O n d ∈ lw_all) (s : State) (args : Array Value) (hts : ∀ w ∈ lw_all, w.before args s = true) (x) (hx : s.fieldFound? O n d = some x) : s.fieldFound? R0 n d = some x := by
  have w := hts _ w
  cases hr : s.fieldFound? R0 n d with
  | none => simp [Cond.before, Cond.holds, Cond.value, hr] at w
  | some y => obtain ⟨c1, k1, i1, f1⟩ := y; rw [Cond.sameField_spec hr w] at hx; exact hx
/-- the words that are taken, not tied: of the queue's poll -/
def g_YQ (G : g_G) : Prop := ∀ s, g_Y G s → ∀ w ∈ defaultWords_1, ∀ a, w.before a s = true
theorem wm_callPQ {mc2 ms2 d2 : Nat} {R2 : Option Value → HM → Prop} {b : Nat} {o : Option Nat} {st0 : List Value} (hGY : g_YQ G) (hown : own = "java/util/AbstractQueue") (hM : Mrep G ws μ) (hC : CM G l yJ27_poll cJ27_poll 6 (Option.some (Jvm.ClassFile.FieldType.object "java/lang/Object")) d2 mc2 ms2 [.ref b] μ R2) (ho : o = some b) (hgC : gC μ b = some 24)
    (hR : d2 + 1 ≤ d ∧ 16 + (6 + 11) + 100 * d2 ≤ 100 * d) (hst0 : st0 = va_rf o :: st) (hst : (st.map fun v => v.category).sum ≤ 8) (hdg : decode cc pc = .ok (.invokevirtual 20, 3)) (hf : cells + mc2 ≤ mc ∧ slots + ms2 ≤ ms)
    (k : ∀ (r : Option Value) (μ2 : HM) (ws2 : va_W), R2 r μ2 → Mrep G ws2 μ2 → WF G l cc own nL ret mn d mc ms F (cells + mc2) (slots + ms2) [ws2, fr] (pc + 3) lv (r.toList ++ st)) : WF G l cc own nL ret mn d mc ms F cells slots [ws, fr] pc lv st0 := by
  subst ho; subst hown
  refine ww_callUK (C := RJ27) (owner := "java/util/Queue") (x := ⟨"java/util/AbstractQueue", "poll", "()Ljava/lang/Object;"⟩) (n := 0) (as := []) (Wr := [fr]) (hC ws hM) (fun s args hts hK => ?_) rfl rfl (wm_rc hM hgC rfl) hst0 hst hdg hf (fun r u h => k r u.2 u.1 h.2 h.1)
  have hY := hGY s hK.2.2.2.2.2.1
  have hG : GoodIn lw_all (ws_ yJ27_poll cJ27_poll 6 (Option.some (Jvm.ClassFile.FieldType.object "java/lang/Object"))) := lw_meth q1985
  have hlink := hY _ List.mem_cons_self args
  have hsame := hY _ (List.mem_cons_of_mem _ List.mem_cons_self) args
  have hs1 := hts _ q1983
  obtain ⟨cn, ck, r1, hcn, hck, hni, hf1, hn1⟩ := Cond.sameMethod_found hsame
  obtain ⟨c2, r2, m2, e1, e2, e3, e4, kP, hkP, hkPi⟩ := Cond.selects_spec hs1
  have hf2 : s.methodFound? "java/util/Queue" "poll" "()Ljava/lang/Object;" = some r1 := State.methodFound?_of_named hn1 ⟨by decide, by decide⟩
  have hsel : (Cond.selects RJ27 ⟨"java/util/AbstractQueue", "poll", "()Ljava/lang/Object;"⟩ yJ27_poll).before args s = true := by
    simp only [Cond.before, Cond.holds, Cond.value] at hs1 ⊢
    rw [hf1]
    rw [hf2] at hs1
    exact hs1
  exact ⟨⟨rfl, rfl, hR.1, (show 8 + (6 + 11) + 100 * d2 ≤ 100 * d by omega), pay_in hts hG, List.mem_cons_self⟩, hts _ q1985, hts _ q157, ⟨by decide, by decide⟩, fun sig h => by
      have h2 : parseMethodDescriptor "()Ljava/lang/Object;" = some sig := h
      have h3 : (parseMethodDescriptor "()Ljava/lang/Object;").map (fun d => d.parameters.length) = some 0 := by decide +kernel
      rw [h2] at h3
      exact (Option.some.inj h3).symm, hlink, hsame, va_Decl.abs (hK.2.2.1 _ q1982 rfl), hsel, hts _ q1984⟩
/-- a made NoSuchElementException -/
theorem g_nseW : ∀ w ∈ vx_at0 "HoloNet" 172 "java/util/NoSuchElementException" ["java/lang/RuntimeException", "java/lang/Exception"], w ∈ lw_tbl ∧ vx_ot w = true ∧ (goodWord w = true ∨ (g_nwK w = true ∧ w.onTables = true)) := by
  have h : (vx_at0 "HoloNet" 172 "java/util/NoSuchElementException" ["java/lang/RuntimeException", "java/lang/Exception"]).all (fun w => decide (w ∈ lw_tbl) && (vx_ot w && (goodWord w || (g_nwK w && w.onTables)))) = true := by decide +kernel
  intro w hw
  have := List.all_eq_true.mp h w hw
  simpa [Bool.or_eq_true, Bool.and_eq_true] using this
theorem wm_newNSE (hM : Mrep G ws μ) (hown0 : own = "HoloNet") (hst : (st.map fun v => v.category).sum ≤ 8) (hd : 8 ≤ d) (hcl : cells + 1 ≤ mc) (hsl : slots + 6 ≤ ms) (d0 : decode cc pc = .ok (.new 170, 3)) (d3 : decode cc (pc + 3) = .ok (.dup, 1)) (d4 : decode cc (pc + 4) = .ok (.invokespecial 172, 3))
    (k : ∀ (q : Nat) (ws2 : va_W), μ q = none → Mrep G ws2 (hs μ q (hO 27 (fun _ => 0) (fun _ => none))) → WF G l cc own nL ret mn d mc ms F (cells + 1) (slots + 6) [ws2, fr] (pc + 7) lv (va_rf (some q) :: st)) : WF G l cc own nL ret mn d mc ms F cells slots [ws, fr] pc lv st := by
  subst hown0
  intro p e s m args below meth c H locs ls N hS hP hl
  have hK := N.2.2.2.2.2.2.2.2
  have hfl : l.stackTraces = false := by
    unfold Launch.stackTraces
    rw [hK.2.2.2.2.1]
    decide +kernel
  have hX := hK.2.2.2.1
  have hw := fun w h => g_word (G := G) (l := l) (args := args) N.2.2.1 hK.2.2.1 (g_nseW w h).1 (g_nseW w h).2.2
  refine vx_make0 (names := ["java/lang/RuntimeException", "java/lang/Exception"]) (ci := 27) (T0 := TJ24) N.1 N.2.1 hfl N.2.2.2.1 (by decide +kernel) (by decide +kernel) (N.2.2.1 _ q2140) (N.2.2.1 _ q149) hw ?_ (hX.2.1 ("java/lang/Throwable", "UNASSIGNED_STACK", "[Ljava/lang/StackTraceElement;") (by decide)) (hX.2.1 ("java/lang/Throwable", "SUPPRESSED_SENTINEL", "Ljava/util/List;") (by decide)) hS (hl.1.trans N.2.2.2.2.1.symm) d0 d3 d4 hK.1 hP.1 hP.2 ?_ rfl (show 2 + 3 < d by omega) (show (st.map fun v => v.category).sum + (13 * (2 + 1) + 42) ≤ 100 * d by omega) hcl hsl (fun q H1 hP1 hD1 hS1 => ?_)
  · intro w hw
    rcases List.mem_cons.mp hw with e1 | hw
    · rw [e1]; rfl
    · rcases List.mem_cons.mp hw with e1 | hw
      · rw [e1]; rfl
      · exact (g_nseW w hw).2.1
  · exact fun q hq => Nat.le_trans hK.2.1 hq
  · have e1 : [ws, fr].flatten ++ [(q, (.inr (27, []) : va_E))] = ([ws, fr] ++ [[(q, oB 27 [])]]).flatten := by simp [oB]
    rw [e1] at hP1 hD1
    have hP2 : g_P G ([ws, fr] ++ [[(q, oB 27 [])]]) H1 := ⟨hP1, hD1⟩
    have hq : μ q = none := g_fresh2 hM hP2 hX
    have hM2 : Mrep G (ws ++ [(q, hcE G (hO 27 (fun _ => 0) (fun _ => none)))]) (hs μ q (hO 27 (fun _ => 0) (fun _ => none))) := hM.push trivial
    exact (wm_push (e := oB 27 []) (k q _ hq hM2)) p e s m args below meth c H1 locs ls N hS1 hP2 hl
/-- fields of one name, of two classes: they lie apart -/
theorem g_apartF {s : State} {args : Array Value} {D : va_G} {cl : List vw_C} {tys : List (ClassId × FieldType)} {C : String} {T : u_T} {N ci : Nat} {Ts : List Cond} {ty : Nat → FieldType} (hts : ∀ w ∈ Ts, w.before args s = true) (hin : ∀ w ∈ u_ws C T N, w ∈ Ts) (hfa : ∀ k, k < N → (T k).2.2.2 = true) (hty : ∀ k, k < N → parseFieldDescriptor (T k).2.2.1 = some (ty k)) (hnm : ∀ a, a < N → ∀ b, b < N → a ≠ b → (T a).2.1 ≠ (T b).2.1 ∨ (T a).1 ≠ (T b).1) (hK : va_K D cl tys s) (hc : cl[ci]? = some (C, T, N)) : ∀ x y, x < N → y < N → x ≠ y → (D.2 ci) x ≠ (D.2 ci) y := by
  intro x y hx hy hne
  obtain ⟨hS, -⟩ := hK.1 ci _ hc
  obtain ⟨cx, kx, ix, fa, hia, ea⟩ := hS x hx
  obtain ⟨cy, ky, iy, fb, hib, eb⟩ := hS y hy
  rw [← ea, ← eb]
  rcases hnm x hx y hy hne with h | h
  · refine u_apart (u_lays hts hin hx) (u_lays hts hin hy) hia hib ?_
    rw [(State.fieldFound?_type hia (hty x hx)).1, (State.fieldFound?_type hib (hty y hy)).1]
    exact h
  · intro hs
    have h1 := hts _ (hin _ (u_in_lay hx))
    unfold u_lay at h1
    rw [if_pos (hfa x hx)] at h1
    have h2 := hts _ (hin _ (u_in_lay hy))
    unfold u_lay at h2
    rw [if_pos (hfa y hy)] at h2
    obtain ⟨c1, k1, c1', k1', i1, f1, a1, a2, a3, -, -, -, a4, -, d1, a5, a6, -⟩ := Cond.laysFinal_spec h1
    obtain ⟨c2, k2, c2', k2', i2, f2, b1, b2, b3, -, -, -, b4, -, d2, b5, b6, -⟩ := Cond.laysFinal_spec h2
    cases hia.symm.trans a3
    cases hib.symm.trans b3
    cases a1.symm.trans b1
    rw [hs] at a5
    cases a5.symm.trans b5
    obtain ⟨z1, e1, e2⟩ := Vm.findClass_spec a4
    obtain ⟨z2, e3, e4⟩ := Vm.findClass_spec b4
    cases e1.symm.trans (State.fieldFound?_spec hia).1
    cases e3.symm.trans (State.fieldFound?_spec hib).1
    exact h (e2.symm.trans (a6.symm.trans (b6.trans e4)))
theorem g_putFD {p : Program} {e : Env} {R : Room} {s : State} {m : MethodId} {args : Array Value} {below : List Frame} {meth : Method} {c : Code} {H H0 : Heap} {locs : List Loc} {Q : State → Prop} {A : Nat → Prop} {a : Nat} {D : va_G} {cl : List vw_C} {tys : List (ClassId × FieldType)} {ws : va_W} {ls : Array Slot} {rest : List Value} {ref C : String} {T : u_T} {N ci index : Nat} {Ts : List Cond} {ty0 : Nat → FieldType} (hexec : p.tables.exec = Jvm.exec) (hb : c.code = cc) (hts : ∀ w ∈ Ts, w.before args s = true) (hin : ∀ w ∈ u_ws C T N, w ∈ Ts) (hfa : ∀ k, k < N → (T k).2.2.2 = true) (hty : ∀ k, k < N → parseFieldDescriptor (T k).2.2.1 = some (ty0 k)) (hnm : ∀ a, a < N → ∀ b, b < N → a ≠ b → (T a).2.1 ≠ (T b).2.1 ∨ (T a).1 ≠ (T b).1) (hown : s.vm.findClass own = some m.cls) (hK : va_K D cl tys s) (hP : va_P D cl ws H) (hD : va_D A ws) (hS0 : va_S A H0 H locs) (q0 : Nat) {fs : List Value} (he : ws[q0]? = some (a, .inr (ci, fs))) (hc : cl[ci]? = some (C, T, N)) (k : Nat) (hk : k < N) (hlink : (Cond.fieldLink own index ref (T k).2.1 (T k).2.2.1).before args s = true) (hsame : ∀ x, s.fieldFound? (T k).1 (T k).2.1 (T k).2.2.1 = some x → s.fieldFound? ref (T k).2.1 (T k).2.2.1 = some x) (hfin : (T k).2.2.2 = true) (hin2 : meth.name = "<init>") (hdecl : (T k).1 = own) {ty : FieldType} {v : Value} (hd : parseFieldDescriptor (T k).2.2.1 = some ty) (hn : narrow ty v = v) (hfit : fits ty v = true) (hl : k < fs.length)
    (hdg : decode cc pc = .ok (.putfield index, 3)) (kk : ∀ (H1 : Heap) (locs1 : List Loc), va_P D cl (ws.set q0 (a, .inr (ci, fs.set k v))) H1 → va_D A (ws.set q0 (a, .inr (ci, fs.set k v))) → va_S A H0 H1 locs1 → W p l e R s m args below meth c H1 locs1 cells slots Q (F0 m (pc + 3) ls rest)) : W p l e R s m args below meth c H locs cells slots Q (F0 m pc ls (v :: .ref a :: rest)) := by
  have hap := g_apartF hts hin hfa hty hnm hK hc
  obtain ⟨r, h1, cell, q1, q2, q3, q4⟩ := hP q0 _ he
  have hr : r = (C, T, N) := Option.some.inj (h1.symm.trans hc)
  subst hr
  obtain ⟨hS, hfc, kC, hkC, hkind⟩ := hK.1 ci _ hc
  obtain ⟨cf, kf, fi, f, hi, hsl⟩ := hS k hk
  have hlay := hts _ (hin _ (u_in_lay hk))
  unfold u_lay at hlay
  rw [if_pos hfin] at hlay
  have hst := (u_facts hfc hkC (u_lays hts hin hk) hi).1
  have hcf : m.cls = cf := by
    obtain ⟨_, _, c', _, _, _, -, -, hf', -, -, -, hown2, -⟩ := Cond.laysFinal_spec hlay
    have e1 : c' = cf := by have := hi.symm.trans hf'; simp at this; exact this.1.symm
    rw [hdecl] at hown2
    rw [← e1]; exact Option.some.inj (hown.symm.trans hown2)
  have h6 := u_fits hfc hkC hkind (Or.inr hlay) hi hd hn hfit
  refine W.putFinK hexec hb hown hlink (hsame _ hi) hst hcf hin2 (by rw [q2]; exact h6) q1 q3 (by rw [hsl]; exact k2_hasslot (q4 k hk)) rfl rfl hdg fun H' e1 e2 e3 => ?_
  rw [hsl] at e1 ⊢
  exact kk H' _ (hP.set hD he ⟨_, hc, t_OB.to (V := updV (vp_V fs) k v) ⟨_, e1, q2, q3, t_set q4 hap hk v⟩ (fun j _ => vp_updV_set hl v j)⟩ e3) (hD.set he) (hS0.put e2 e3 (hD.2 q0 _ he))
theorem ww_putFD {ref C : String} {T : u_T} {Nf ci index : Nat} {ty0 : Nat → FieldType} (hin : ∀ w ∈ u_ws C T Nf, w ∈ lw_all) (hty : ∀ k, k < Nf → parseFieldDescriptor (T k).2.2.1 = some (ty0 k)) (hfa : ∀ k, k < Nf → (T k).2.2.2 = true) (hnm : ∀ a, a < Nf → ∀ b, b < Nf → a ≠ b → (T a).2.1 ≠ (T b).2.1 ∨ (T a).1 ≠ (T b).1) (kk jj : Nat) {seg : va_W} {a : Nat} {fs : List Value} {Ws2 : List va_W} (hk : Ws[kk]? = some seg) (hj : seg[jj]? = some (a, oB ci fs)) (hc : vwCl[ci]? = some (C, T, Nf)) (f : Nat) (hf : f < Nf) (hlink : Cond.fieldLink own index ref (T f).2.1 (T f).2.2.1 ∈ lw_all) (hsame : ∀ (s : State) x, s.fieldFound? (T f).1 (T f).2.1 (T f).2.2.1 = some x → s.fieldFound? ref (T f).2.1 (T f).2.2.1 = some x) (hfin : (T f).2.2.2 = true) (hmn : mn = "<init>") (hdecl : (T f).1 = own) {v : Value} (hn : narrow (ty0 f) v = v) (hfit : fits (ty0 f) v = true) (hl2 : f < fs.length) (hw : Ws.set kk (seg.set jj (a, oB ci (fs.set f v))) = Ws2) (hdg : decode cc pc = .ok (.putfield index, 3)) (k : WF G l cc own nL ret mn d mc ms F cells slots Ws2 (pc + 3) lv st) : WF G l cc own nL ret mn d mc ms F cells slots Ws pc lv (v :: .ref a :: st) := by
  intro p e s m args below meth c H locs ls N hS hP hl
  obtain ⟨q0, h1, h2⟩ := flat_at hk hj
  subst hw
  refine g_putFD (v := v) (ty := ty0 f) N.1 N.2.1 N.2.2.1 hin hfa hty hnm N.2.2.2.1 N.2.2.2.2.2.2.2.2.1 hP.1 hP.2 hS q0 h1 hc f hf (N.2.2.1 _ hlink) (hsame s) hfin (N.2.2.2.2.2.2.2.1.1.trans hmn) hdecl (hty f hf) hn hfit hl2 hdg (fun H1 locs1 hP1 hD1 hS1 => ?_)
  have e1 := h2 (a, oB ci (fs.set f v))
  exact k p e s m args below meth c H1 locs1 ls N hS1 ⟨by rw [← e1]; exact hP1, by rw [← e1]; exact hD1⟩ hl
theorem wm_putQFD {ref C : String} {T : u_T} {Nf ci index a : Nat} {ty0 : Nat → FieldType} {o : Option Nat} {x : Option Nat} {fi : Nat → Int} {fq : Nat → Option Nat} (hM : Mrep G ws μ) (ho : o = some a) (hin : ∀ w ∈ u_ws C T Nf, w ∈ lw_all) (hty : ∀ k, k < Nf → parseFieldDescriptor (T k).2.2.1 = some (ty0 k)) (hfa : ∀ k, k < Nf → (T k).2.2.2 = true) (hnm : ∀ a, a < Nf → ∀ b, b < Nf → a ≠ b → (T a).2.1 ≠ (T b).2.1 ∨ (T a).1 ≠ (T b).1) (hc : vwCl[ci]? = some (C, T, Nf)) (f : Nat) (hf : f < Nf) (hμ : μ a = some (hO ci fi fq)) (he : ∀ fi fr, (ofs ci fi fr).set f (va_rf x) = ofs ci fi (upF fr f x)) (hlen : ∀ fi fr, f < (ofs ci fi fr).length) (hlink : Cond.fieldLink own index ref (T f).2.1 (T f).2.2.1 ∈ lw_all) (hsame : ∀ (s : State) x, s.fieldFound? (T f).1 (T f).2.1 (T f).2.2.1 = some x → s.fieldFound? ref (T f).2.1 (T f).2.2.1 = some x) (hfin : (T f).2.2.2 = true) (hmn : mn = "<init>") (hdecl : (T f).1 = own) (hn : narrow (ty0 f) (va_rf x) = va_rf x) (hfit : fits (ty0 f) (va_rf x) = true) (hdg : decode cc pc = .ok (.putfield index, 3)) (k : ∀ ws2, Mrep G ws2 (hs μ a (hO ci fi (upF fq f x))) → WF G l cc own nL ret mn d mc ms F cells slots [ws2, fr] (pc + 3) lv st) : WF G l cc own nL ret mn d mc ms F cells slots [ws, fr] pc lv (va_rf x :: va_rf o :: st) := by
  subst ho
  obtain ⟨j, hj⟩ := hM.at hμ trivial
  refine ww_putFD (Ws2 := [ws.set j (a, oB ci ((ofs ci fi fq).set f (va_rf x))), fr]) hin hty hfa hnm 0 j rfl hj hc f hf hlink hsame hfin hmn hdecl hn hfit (hlen fi fq) rfl hdg ?_
  refine k _ ?_
  rw [he]
  exact hM.set (c := hO ci fi (upF fq f x)) hj trivial
theorem wm_putIFD {ref C : String} {T : u_T} {Nf ci index a : Nat} {ty0 : Nat → FieldType} {o : Option Nat} {x : Int} {fi : Nat → Int} {fq : Nat → Option Nat} (hM : Mrep G ws μ) (ho : o = some a) (hin : ∀ w ∈ u_ws C T Nf, w ∈ lw_all) (hty : ∀ k, k < Nf → parseFieldDescriptor (T k).2.2.1 = some (ty0 k)) (hfa : ∀ k, k < Nf → (T k).2.2.2 = true) (hnm : ∀ a, a < Nf → ∀ b, b < Nf → a ≠ b → (T a).2.1 ≠ (T b).2.1 ∨ (T a).1 ≠ (T b).1) (hc : vwCl[ci]? = some (C, T, Nf)) (f : Nat) (hf : f < Nf) (hμ : μ a = some (hO ci fi fq)) (he : ∀ fi fr, (ofs ci fi fr).set f (vI x) = ofs ci (upF fi f x) fr) (hlen : ∀ fi fr, f < (ofs ci fi fr).length) (hlink : Cond.fieldLink own index ref (T f).2.1 (T f).2.2.1 ∈ lw_all) (hsame : ∀ (s : State) x, s.fieldFound? (T f).1 (T f).2.1 (T f).2.2.1 = some x → s.fieldFound? ref (T f).2.1 (T f).2.2.1 = some x) (hfin : (T f).2.2.2 = true) (hmn : mn = "<init>") (hdecl : (T f).1 = own) (hn : narrow (ty0 f) (vI x) = vI x) (hfit : fits (ty0 f) (vI x) = true) (hdg : decode cc pc = .ok (.putfield index, 3)) (k : ∀ ws2, Mrep G ws2 (hs μ a (hO ci (upF fi f x) fq)) → WF G l cc own nL ret mn d mc ms F cells slots [ws2, fr] (pc + 3) lv st) : WF G l cc own nL ret mn d mc ms F cells slots [ws, fr] pc lv (vI x :: va_rf o :: st) := by
  subst ho
  obtain ⟨j, hj⟩ := hM.at hμ trivial
  refine ww_putFD (Ws2 := [ws.set j (a, oB ci ((ofs ci fi fq).set f (vI x))), fr]) hin hty hfa hnm 0 j rfl hj hc f hf hlink hsame hfin hmn hdecl hn hfit (hlen fi fq) rfl hdg ?_
  refine k _ ?_
  rw [he]
  exact hM.set (c := hO ci (upF fi f x) fq) hj trivial
end PCROWS
theorem faX16 : ∀ k, k < 4 → (TX16 k).2.2.2 = true := by decide
theorem ndX16 : ∀ a, a < 4 → ∀ b, b < 4 → a ≠ b → (TX16 a).2.1 ≠ (TX16 b).2.1 ∨ (TX16 a).1 ≠ (TX16 b).1 := by decide
theorem faX17 : ∀ k, k < 4 → (TX17 k).2.2.2 = true := by decide
theorem ndX17 : ∀ a, a < 4 → ∀ b, b < 4 → a ≠ b → (TX17 a).2.1 ≠ (TX17 b).2.1 ∨ (TX17 a).1 ≠ (TX17 b).1 := by decide
theorem faX18 : ∀ k, k < 4 → (TX18 k).2.2.2 = true := by decide
theorem ndX18 : ∀ a, a < 4 → ∀ b, b < 4 → a ≠ b → (TX18 a).2.1 ≠ (TX18 b).2.1 ∨ (TX18 a).1 ≠ (TX18 b).1 := by decide
theorem faX19 : ∀ k, k < 5 → (TX19 k).2.2.2 = true := by decide
theorem ndX19 : ∀ a, a < 5 → ∀ b, b < 5 → a ≠ b → (TX19 a).2.1 ≠ (TX19 b).2.1 ∨ (TX19 a).1 ≠ (TX19 b).1 := by decide
