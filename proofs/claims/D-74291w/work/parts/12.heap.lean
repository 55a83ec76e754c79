/-! ROWS OF THE CLEAN LAYER: fields, arrays, new cells, ends, calls -/
set_option maxRecDepth 100000
theorem g_tys_same {G : g_G} {s : State} {cA : ClassId} {ty : FieldType} {t0 : Nat} {c0 : ClassId} (hp : ∀ C, ty ≠ .object C) (h : va_K (g_D G) vwCl (g_tys G ++ [(cA, ty)]) s) (ht : (g_tys G)[t0]? = some (c0, ty)) : cA = c0 := by
  have h1 := (h.2 (g_tys G).length (cA, ty) (by simp)).2
  have h2 := (h.2 t0 (c0, ty) (by rw [List.getElem?_append_left (List.getElem?_eq_some_iff.mp ht).1]; exact ht)).2
  cases ty with
  | object C => exact absurd rfl (hp C)
  | _ =>
    have e1 : s.vm.findClass _ = some cA := h1
    have e2 : s.vm.findClass _ = some c0 := h2
    exact Option.some.inj (e1.symm.trans e2)
section GRUN
variable {p : Program} {l : Launch} {e : Env} {R : Room} {s : State} {m : MethodId} {args : Array Value} {below : List Frame} {meth : Method} {c : Code} {H : Heap} {locs : List Loc} {cells slots : Nat} {Q : State → Prop}
variable {y : MethodName} {bytes cc : ByteArray} {maxL nL mc ms n index : Nat} {ret : Option FieldType} {ws : List Cond} {rm : Room} {Pc : Array Value → State → Prop} {Qc : Array Value → State → Outcome → State → Prop} {free : Addr → Prop} {Ts : List Cond} {own C : String} {b : Addr} {As rest : List Value} {g : JFrame}
/-- the kit's va_runV, va_runS, va_runI with 16 words below the arguments -/
theorem g_runV (S : CallFix p m c cc nL s args Ts own) (hM : Met l y ws rm Pc Qc mc ms free) (cw : CallW R s args own C index y bytes maxL ret ws rm mc ms n) (h16 : 16 + (maxL + 11) + rm.locals ≤ R.locals) (hp : PreV s H C b Pc As)
    (hg : g.method = m) (hn : As.length = n) (hsize : g.locals.size = nL) (hstack : g.stack = As.reverse ++ .ref b :: rest) (hW : 2 * g.monitorRoom + (rest.map fun v => v.category).sum ≤ 16) (hdg : decode cc g.pc = .ok (.invokevirtual index, 3)) (hf : cells + mc ≤ R.cells ∧ slots + ms ≤ R.slots) :
    va_Run p l e R s m args below meth c H locs cells slots mc ms g rest (Qc (Value.ref b :: As).toArray) (free) := by
  obtain ⟨⟨hrc, hrs, hfr, -, hws, hcw, hcode, hini, hy, hlen, hl⟩, hin, hse⟩ := cw
  have hK : Back l R p e below s args y 3 16 (PreOf R mc ms Pc) (PostOf Qc mc ms free) := back_of (bytes := bytes) (maxL := maxL) (ret := ret) hM hp.1 hrc hrs hfr h16 hws hcw (fun a' U hW => word_at hW (Or.inl (by first | rfl | simp [Cond.onTables, Cond.keeps, Cond.steady])) hini)
  obtain ⟨hx, hb, hml, ho, -⟩ := S
  obtain ⟨-, ⟨cellB, hcB, hoB, hclB⟩, hPc⟩ := hp
  intro T hT X
  obtain ⟨v, vm₁, ⟨U', l2, c2, s2⟩, hW₁, X', ⟨g', mk, t, L, e1, e2, hq, h1, hL, h2, h3⟩, st⟩ := callV X hx (C := C) (bytes := bytes) (maxL := maxL) (ret := ret) ho hl hin hse hcode hy hK (by rw [hT]; exact hcB) hoB hclB hg (hsize.trans hml.symm) (argsL := As) (rest := rest) (fun sig h => hn.trans (hlen sig h)) hstack hW (by rw [hb]; exact hdg)
    (fun vm₁ hW₁ => ⟨hf.1, hf.2, hPc (T.setVm vm₁) hT hW₁⟩)
  dsimp only [Pt.U, Pt.locs, Pt.cells, Pt.slots] at X' e1 e2 h1 h2 h3 st
  subst h1; subst h2; subst h3
  exact ⟨v, (T.setVm vm₁).calling g' mk (Value.ref b :: As).toArray, t, U', L, hT, X', hL, e1, e2, hq, st⟩
theorem g_runS (S : CallFix p m c cc nL s args Ts own) (hM : Met l y ws rm Pc Qc mc ms free) (cw : CallB R s args own index y bytes maxL ret ws rm mc ms n ∧ (Cond.static y).before args s = true) (h16 : 16 + (maxL + 11) + rm.locals ≤ R.locals) (hp : PreS s H Pc As)
    (hg : g.method = m) (hn : As.length = n) (hsize : g.locals.size = nL) (hstack : g.stack = As.reverse ++ rest) (hW : 2 * g.monitorRoom + (rest.map fun v => v.category).sum ≤ 16) (hdg : decode cc g.pc = .ok (.invokestatic index, 3)) (hf : cells + mc ≤ R.cells ∧ slots + ms ≤ R.slots) :
    va_Run p l e R s m args below meth c H locs cells slots mc ms g rest (Qc As.toArray) (free) := by
  obtain ⟨⟨hrc, hrs, hfr, -, hws, hcw, hcode, hini, hy, hlen, hl⟩, hstt⟩ := cw
  have hK : Back l R p e below s args y 3 16 (PreOf R mc ms Pc) (PostOf Qc mc ms free) := back_of (bytes := bytes) (maxL := maxL) (ret := ret) hM hp.1 hrc hrs hfr h16 hws hcw (fun a' U hW => word_at hW (Or.inl (by first | rfl | simp [Cond.onTables, Cond.keeps, Cond.steady])) hini)
  obtain ⟨hx, hb, hml, ho, -⟩ := S
  intro T hT X
  obtain ⟨v, vm₁, ⟨U', l2, c2, s2⟩, hW₁, X', ⟨g', mk, t, L, e1, e2, hq, h1, hL, h2, h3⟩, st⟩ := callS X hx (bytes := bytes) (maxL := maxL) (ret := ret) ho hl hstt hini hcode hy hK hg (hsize.trans hml.symm) (argsL := As) (rest := rest) (fun sig h => hn.trans (hlen sig h)) hstack hW (by rw [hb]; exact hdg)
    (fun vm₁ hW₁ => ⟨hf.1, hf.2, hp.2 (T.setVm vm₁) hT hW₁⟩)
  dsimp only [Pt.U, Pt.locs, Pt.cells, Pt.slots] at X' e1 e2 h1 h2 h3 st
  subst h1; subst h2; subst h3
  exact ⟨v, (T.setVm vm₁).calling g' mk As.toArray, t, U', L, hT, X', hL, e1, e2, hq, st⟩
theorem g_runI (S : CallFix p m c cc nL s args Ts own) (hM : Met l y ws rm Pc Qc mc ms free) (cw : CallB R s args own index y bytes maxL none ws rm mc ms n ∧ y.name = "<init>" ∧ (Cond.instanceMethod y).before args s = true) (h16 : 16 + (maxL + 11) + rm.locals ≤ R.locals) (hp : PreS s H Pc (.ref b :: As))
    (hg : g.method = m) (hn : As.length = n) (hsize : g.locals.size = nL) (hstack : g.stack = As.reverse ++ .ref b :: rest) (hW : 2 * g.monitorRoom + (rest.map fun v => v.category).sum ≤ 16) (hdg : decode cc g.pc = .ok (.invokespecial index, 3)) (hf : cells + mc ≤ R.cells ∧ slots + ms ≤ R.slots) :
    va_Run p l e R s m args below meth c H locs cells slots mc ms g rest (Qc (Value.ref b :: As).toArray) (free) := by
  obtain ⟨⟨hrc, hrs, hfr, -, hws, hcw, hcode, hini, hy, hlen, hl⟩, hy1, hin⟩ := cw
  have hK : Back l R p e below s args y 3 16 (PreOf R mc ms Pc) (PostOf Qc mc ms free) := back_of (bytes := bytes) (maxL := maxL) (ret := none) hM hp.1 hrc hrs hfr h16 hws hcw (fun a' U hW => word_at hW (Or.inl (by first | rfl | simp [Cond.onTables, Cond.keeps, Cond.steady])) hini)
  obtain ⟨hx, hb, hml, ho, -⟩ := S
  intro T hT X
  obtain ⟨v, vm₁, ⟨U', l2, c2, s2⟩, hW₁, X', ⟨g', mk, t, L, e1, e2, hq, h1, hL, h2, h3⟩, st⟩ := callI X hx (bytes := bytes) (maxL := maxL) ho hy1 hl hin hcode hy hK hg (hsize.trans hml.symm) (a := b) (argsL := As) (rest := rest) (fun sig h => hn.trans (hlen sig h)) hstack hW (by rw [hb]; exact hdg)
    (fun vm₁ hW₁ => ⟨hf.1, hf.2, hp.2 (T.setVm vm₁) hT hW₁⟩)
  dsimp only [Pt.U, Pt.locs, Pt.cells, Pt.slots] at X' e1 e2 h1 h2 h3 st
  subst h1; subst h2; subst h3
  exact ⟨v, (T.setVm vm₁).calling g' mk (Value.ref b :: As).toArray, t, U', L, hT, X', hL, e1, e2, hq, st⟩
theorem g_room16 {pc : Nat} {ls : Array Slot} {rest st : List Value} (h : (st.map fun v => v.category).sum ≤ 16) : 2 * (F0 m pc ls rest).monitorRoom + (st.map fun v => v.category).sum ≤ 16 := by
  have e : (F0 m pc ls rest).monitorRoom = 0 := by
    have := lv_room (m := m) (pc := pc) (ls := ls) (rest := rest) (st := [.int 0, .int 0, .int 0, .int 0, .int 0, .int 0, .int 0, .int 0]) (Nat.le_of_ble_eq_true rfl)
    have e8 : (([.int 0, .int 0, .int 0, .int 0, .int 0, .int 0, .int 0, .int 0] : List Value).map fun v => v.category).sum = 8 := rfl
    omega
  omega
end GRUN
section HROWS
variable {S : Type} {G : g_G} {l : Launch} {cc : ByteArray} {own : String} {nL : Nat} {ret : Option FieldType} {mn : String} {d mc ms : Nat} {R : Option Value → S → Prop} {sh : S → List va_W} {F : g_F} {cells slots : Nat} {Ws : List va_W} {pc : Nat} {lv : List (Nat × Value)} {st : List Value}
theorem ww_get {ref C : String} {T : u_T} {Nf ci index : Nat} (hin : ∀ w ∈ u_ws C T Nf, w ∈ lw_all) (kk jj : Nat) {seg : va_W} {a : Nat} {fs : List Value} (hk : Ws[kk]? = some seg) (hj : seg[jj]? = some (a, oB ci fs)) (hc : vwCl[ci]? = some (C, T, Nf)) (f : Nat) (hf : f < Nf) (hlink : Cond.fieldLink own index ref (T f).2.1 (T f).2.2.1 ∈ lw_all) (hsame : ∀ (s : State) x, s.fieldFound? (T f).1 (T f).2.1 (T f).2.2.1 = some x → s.fieldFound? ref (T f).2.1 (T f).2.2.1 = some x) {v : Value} (hv : fs[f]? = some v) (hdg : decode cc pc = .ok (.getfield index, 3)) (k : WF G l cc own nL ret mn d mc ms F cells slots Ws (pc + 3) lv (v :: st)) : WF G l cc own nL ret mn d mc ms F cells slots Ws pc lv (.ref a :: st) := by
  intro p e s m args below meth c H locs ls N hS hP hl
  obtain ⟨q0, h1, -⟩ := flat_at hk hj
  exact va_get (v := v) N.1 N.2.1 N.2.2.1 hin N.2.2.2.1 N.2.2.2.2.2.2.2.2.1 hP.1 q0 h1 hc f hf (N.2.2.1 _ hlink) (hsame s) hv hdg (k p e s m args below meth c H locs ls N hS hP hl)
theorem ww_getN {ref C host : String} {T : u_T} {Nf ci index : Nat} (hin : ∀ w ∈ u_ws C T Nf, w ∈ lw_all) (kk jj : Nat) {seg : va_W} {a : Nat} {fs : List Value} (hk : Ws[kk]? = some seg) (hj : seg[jj]? = some (a, oB ci fs)) (hc : vwCl[ci]? = some (C, T, Nf)) (f : Nat) (hf : f < Nf) (hlink : Cond.fieldLinkNest own index ref (T f).2.1 (T f).2.2.1 host ∈ lw_tbl) (hsame : ∀ (s : State) x, s.fieldFound? (T f).1 (T f).2.1 (T f).2.2.1 = some x → s.fieldFound? ref (T f).2.1 (T f).2.2.1 = some x) {v : Value} (hv : fs[f]? = some v) (hdg : decode cc pc = .ok (.getfield index, 3)) (k : WF G l cc own nL ret mn d mc ms F cells slots Ws (pc + 3) lv (v :: st)) : WF G l cc own nL ret mn d mc ms F cells slots Ws pc lv (.ref a :: st) := by
  intro p e s m args below meth c H locs ls N hS hP hl
  obtain ⟨q0, h1, -⟩ := flat_at hk hj
  exact va_getN (v := v) N.1 N.2.1 N.2.2.1 hin N.2.2.2.1 N.2.2.2.2.2.2.2.2.1 hP.1 q0 h1 hc f hf (va_Nw.use rfl (N.2.2.2.2.2.2.2.2.2.2.1 _ hlink rfl)) (hsame s) hv hdg (k p e s m args below meth c H locs ls N hS hP hl)
theorem ww_put {ref C : String} {T : u_T} {Nf ci index : Nat} {ty0 : Nat → FieldType} (hin : ∀ w ∈ u_ws C T Nf, w ∈ lw_all) (hty : ∀ k, k < Nf → parseFieldDescriptor (T k).2.2.1 = some (ty0 k)) (hnm : ∀ a, a < Nf → ∀ b, b < Nf → a ≠ b → (T a).2.1 ≠ (T b).2.1) (kk jj : Nat) {seg : va_W} {a : Nat} {fs : List Value} {Ws2 : List va_W} (hk : Ws[kk]? = some seg) (hj : seg[jj]? = some (a, oB ci fs)) (hc : vwCl[ci]? = some (C, T, Nf)) (f : Nat) (hf : f < Nf) (hlink : Cond.fieldLink own index ref (T f).2.1 (T f).2.2.1 ∈ lw_all) (hsame : ∀ (s : State) x, s.fieldFound? (T f).1 (T f).2.1 (T f).2.2.1 = some x → s.fieldFound? ref (T f).2.1 (T f).2.2.1 = some x) (hfin : (T f).2.2.2 = false) {v : Value} (hn : narrow (ty0 f) v = v) (hfit : fits (ty0 f) v = true) (hl2 : f < fs.length) (hw : Ws.set kk (seg.set jj (a, oB ci (fs.set f v))) = Ws2) (hdg : decode cc pc = .ok (.putfield index, 3)) (k : WF G l cc own nL ret mn d mc ms F cells slots Ws2 (pc + 3) lv st) : WF G l cc own nL ret mn d mc ms F cells slots Ws pc lv (v :: .ref a :: st) := by
  intro p e s m args below meth c H locs ls N hS hP hl
  obtain ⟨q0, h1, h2⟩ := flat_at hk hj
  subst hw
  refine va_put (v := v) (ty := ty0 f) N.1 N.2.1 N.2.2.1 hin ty0 hty hnm N.2.2.2.1 N.2.2.2.2.2.2.2.2.1 hP.1 hP.2 hS q0 h1 hc f hf (N.2.2.1 _ hlink) (hsame s) hfin (hty f hf) hn hfit hl2 hdg (fun H1 locs1 hP1 hD1 hS1 => ?_)
  have e1 := h2 (a, oB ci (fs.set f v))
  exact k p e s m args below meth c H1 locs1 ls N hS1 ⟨by rw [← e1]; exact hP1, by rw [← e1]; exact hD1⟩ hl
theorem ww_putN {ref C host : String} {T : u_T} {Nf ci index : Nat} {ty0 : Nat → FieldType} (hin : ∀ w ∈ u_ws C T Nf, w ∈ lw_all) (hty : ∀ k, k < Nf → parseFieldDescriptor (T k).2.2.1 = some (ty0 k)) (hnm : ∀ a, a < Nf → ∀ b, b < Nf → a ≠ b → (T a).2.1 ≠ (T b).2.1) (kk jj : Nat) {seg : va_W} {a : Nat} {fs : List Value} {Ws2 : List va_W} (hk : Ws[kk]? = some seg) (hj : seg[jj]? = some (a, oB ci fs)) (hc : vwCl[ci]? = some (C, T, Nf)) (f : Nat) (hf : f < Nf) (hlink : Cond.fieldLinkNest own index ref (T f).2.1 (T f).2.2.1 host ∈ lw_tbl) (hsame : ∀ (s : State) x, s.fieldFound? (T f).1 (T f).2.1 (T f).2.2.1 = some x → s.fieldFound? ref (T f).2.1 (T f).2.2.1 = some x) (hfin : (T f).2.2.2 = false) {v : Value} (hn : narrow (ty0 f) v = v) (hfit : fits (ty0 f) v = true) (hl2 : f < fs.length) (hw : Ws.set kk (seg.set jj (a, oB ci (fs.set f v))) = Ws2) (hdg : decode cc pc = .ok (.putfield index, 3)) (k : WF G l cc own nL ret mn d mc ms F cells slots Ws2 (pc + 3) lv st) : WF G l cc own nL ret mn d mc ms F cells slots Ws pc lv (v :: .ref a :: st) := by
  intro p e s m args below meth c H locs ls N hS hP hl
  obtain ⟨q0, h1, h2⟩ := flat_at hk hj
  subst hw
  refine va_putN (v := v) (ty := ty0 f) N.1 N.2.1 N.2.2.1 hin ty0 hty hnm N.2.2.2.1 N.2.2.2.2.2.2.2.2.1 hP.1 hP.2 hS q0 h1 hc f hf (va_Nw.use rfl (N.2.2.2.2.2.2.2.2.2.2.1 _ hlink rfl)) (hsame s) hfin (hty f hf) hn hfit hl2 hdg (fun H1 locs1 hP1 hD1 hS1 => ?_)
  have e1 := h2 (a, oB ci (fs.set f v))
  exact k p e s m args below meth c H1 locs1 ls N hS1 ⟨by rw [← e1]; exact hP1, by rw [← e1]; exact hD1⟩ hl
theorem ww_putF {ref C : String} {T : u_T} {Nf ci index : Nat} {ty0 : Nat → FieldType} (hin : ∀ w ∈ u_ws C T Nf, w ∈ lw_all) (hty : ∀ k, k < Nf → parseFieldDescriptor (T k).2.2.1 = some (ty0 k)) (hnm : ∀ a, a < Nf → ∀ b, b < Nf → a ≠ b → (T a).2.1 ≠ (T b).2.1) (kk jj : Nat) {seg : va_W} {a : Nat} {fs : List Value} {Ws2 : List va_W} (hk : Ws[kk]? = some seg) (hj : seg[jj]? = some (a, oB ci fs)) (hc : vwCl[ci]? = some (C, T, Nf)) (f : Nat) (hf : f < Nf) (hlink : Cond.fieldLink own index ref (T f).2.1 (T f).2.2.1 ∈ lw_all) (hsame : ∀ (s : State) x, s.fieldFound? (T f).1 (T f).2.1 (T f).2.2.1 = some x → s.fieldFound? ref (T f).2.1 (T f).2.2.1 = some x) (hfin : (T f).2.2.2 = true) (hmn : mn = "<init>") (hdecl : (T f).1 = own) {v : Value} (hn : narrow (ty0 f) v = v) (hfit : fits (ty0 f) v = true) (hl2 : f < fs.length) (hw : Ws.set kk (seg.set jj (a, oB ci (fs.set f v))) = Ws2) (hdg : decode cc pc = .ok (.putfield index, 3)) (k : WF G l cc own nL ret mn d mc ms F cells slots Ws2 (pc + 3) lv st) : WF G l cc own nL ret mn d mc ms F cells slots Ws pc lv (v :: .ref a :: st) := by
  intro p e s m args below meth c H locs ls N hS hP hl
  obtain ⟨q0, h1, h2⟩ := flat_at hk hj
  subst hw
  refine va_putF (v := v) (ty := ty0 f) N.1 N.2.1 N.2.2.1 hin ty0 hty hnm N.2.2.2.1 N.2.2.2.2.2.2.2.2.1 hP.1 hP.2 hS q0 h1 hc f hf (N.2.2.1 _ hlink) (hsame s) hfin (N.2.2.2.2.2.2.2.1.1.trans hmn) hdecl (hty f hf) hn hfit hl2 hdg (fun H1 locs1 hP1 hD1 hS1 => ?_)
  have e1 := h2 (a, oB ci (fs.set f v))
  exact k p e s m args below meth c H1 locs1 ls N hS1 ⟨by rw [← e1]; exact hP1, by rw [← e1]; exact hD1⟩ hl
/-- arrays -/
theorem ww_iald {kk jj : Nat} {seg : va_W} {a n : Nat} {f : Int → Int} {i : Int} (hk : Ws[kk]? = some seg) (hj : seg[jj]? = some (a, aI (g_k G 0) n f)) (h0 : 0 ≤ i) (h1 : i < n) (hn : (n : Int) < 2147483648) (hdg : decode cc pc = .ok (.iaload, 1)) (k : WF G l cc own nL ret mn d mc ms F cells slots Ws (pc + 1) lv (vI (f i) :: st)) : WF G l cc own nL ret mn d mc ms F cells slots Ws pc lv (vI i :: .ref a :: st) := by
  intro p e s m args below meth c H locs ls N hS hP hl
  obtain ⟨q0, e1, -⟩ := flat_at hk hj
  refine va_iald N.1 N.2.1 N.2.2.2.2.2.2.2.2.1 hP.1 q0 0 e1 rfl (iI_in h0 h1 hn) hdg ?_
  have h := k p e s m args below meth c H locs ls N hS hP hl
  rw [iI_clamp h0 (by omega), show ((i.toNat : Nat) : Int) = i by omega]
  exact h
theorem ww_bald {kk jj : Nat} {seg : va_W} {a n : Nat} {f : Int → Int} {i : Int} (hk : Ws[kk]? = some seg) (hj : seg[jj]? = some (a, aI (g_k G 2) n f)) (h0 : 0 ≤ i) (h1 : i < n) (hn : (n : Int) < 2147483648) (hdg : decode cc pc = .ok (.baload, 1)) (k : WF G l cc own nL ret mn d mc ms F cells slots Ws (pc + 1) lv (vI (f i) :: st)) : WF G l cc own nL ret mn d mc ms F cells slots Ws pc lv (vI i :: .ref a :: st) := by
  intro p e s m args below meth c H locs ls N hS hP hl
  obtain ⟨q0, e1, -⟩ := flat_at hk hj
  refine va_bald N.1 N.2.1 N.2.2.2.2.2.2.2.2.1 hP.1 q0 2 e1 rfl (iI_in h0 h1 hn) hdg ?_
  have h := k p e s m args below meth c H locs ls N hS hP hl
  rw [iI_clamp h0 (by omega), show ((i.toNat : Nat) : Int) = i by omega]
  exact h
theorem ww_zald {kk jj : Nat} {seg : va_W} {a n : Nat} {f : Int → Int} {i : Int} (hk : Ws[kk]? = some seg) (hj : seg[jj]? = some (a, aI (g_k G 3) n f)) (h0 : 0 ≤ i) (h1 : i < n) (hn : (n : Int) < 2147483648) (hdg : decode cc pc = .ok (.baload, 1)) (k : WF G l cc own nL ret mn d mc ms F cells slots Ws (pc + 1) lv (vI (f i) :: st)) : WF G l cc own nL ret mn d mc ms F cells slots Ws pc lv (vI i :: .ref a :: st) := by
  intro p e s m args below meth c H locs ls N hS hP hl
  obtain ⟨q0, e1, -⟩ := flat_at hk hj
  refine va_zald N.1 N.2.1 N.2.2.2.2.2.2.2.2.1 hP.1 q0 3 e1 rfl (iI_in h0 h1 hn) hdg ?_
  have h := k p e s m args below meth c H locs ls N hS hP hl
  rw [iI_clamp h0 (by omega), show ((i.toNat : Nat) : Int) = i by omega]
  exact h
theorem ww_lald {kk jj : Nat} {seg : va_W} {a n : Nat} {f : Int → Int} {i : Int} (hk : Ws[kk]? = some seg) (hj : seg[jj]? = some (a, aL (g_k G 1) n f)) (h0 : 0 ≤ i) (h1 : i < n) (hn : (n : Int) < 2147483648) (hdg : decode cc pc = .ok (.laload, 1)) (k : WF G l cc own nL ret mn d mc ms F cells slots Ws (pc + 1) lv (vL (f i) :: st)) : WF G l cc own nL ret mn d mc ms F cells slots Ws pc lv (vI i :: .ref a :: st) := by
  intro p e s m args below meth c H locs ls N hS hP hl
  obtain ⟨q0, e1, -⟩ := flat_at hk hj
  refine va_lald N.1 N.2.1 N.2.2.2.2.2.2.2.2.1 hP.1 q0 1 e1 rfl (iI_in h0 h1 hn) hdg ?_
  have h := k p e s m args below meth c H locs ls N hS hP hl
  rw [iI_clamp h0 (by omega), show ((i.toNat : Nat) : Int) = i by omega]
  exact h
theorem ww_iast {kk jj : Nat} {seg : va_W} {a n : Nat} {f : Int → Int} {i x : Int} {Ws2 : List va_W} (hk : Ws[kk]? = some seg) (hj : seg[jj]? = some (a, aI (g_k G 0) n f)) (h0 : 0 ≤ i) (h1 : i < n) (hn : (n : Int) < 2147483648) (hw : Ws.set kk (seg.set jj (a, aI (g_k G 0) n (updI f i x))) = Ws2) (hdg : decode cc pc = .ok (.iastore, 1)) (k : WF G l cc own nL ret mn d mc ms F cells slots Ws2 (pc + 1) lv st) : WF G l cc own nL ret mn d mc ms F cells slots Ws pc lv (vI x :: vI i :: .ref a :: st) := by
  intro p e s m args below meth c H locs ls N hS hP hl
  obtain ⟨q0, e1, e2⟩ := flat_at hk hj
  subst hw
  refine va_iast N.1 N.2.1 N.2.2.2.2.2.2.2.2.1 hP.1 hP.2 hS q0 0 e1 rfl (iI_in h0 h1 hn) hdg (fun H1 locs1 hP1 hD1 hS1 => ?_)
  rw [iI_clamp h0 (by omega), upd_I f h0 x] at hP1 hD1
  have e3 := e2 (a, aI (g_k G 0) n (updI f i x))
  exact k p e s m args below meth c H1 locs1 ls N hS1 ⟨by rw [← e3]; exact hP1, by rw [← e3]; exact hD1⟩ hl
theorem ww_bast {kk jj : Nat} {seg : va_W} {a n : Nat} {f : Int → Int} {i x : Int} {Ws2 : List va_W} (hk : Ws[kk]? = some seg) (hj : seg[jj]? = some (a, aI (g_k G 2) n f)) (h0 : 0 ≤ i) (h1 : i < n) (hn : (n : Int) < 2147483648) (hx : -128 ≤ x ∧ x < 128) (hw : Ws.set kk (seg.set jj (a, aI (g_k G 2) n (updI f i x))) = Ws2) (hdg : decode cc pc = .ok (.bastore, 1)) (k : WF G l cc own nL ret mn d mc ms F cells slots Ws2 (pc + 1) lv st) : WF G l cc own nL ret mn d mc ms F cells slots Ws pc lv (vI x :: vI i :: .ref a :: st) := by
  intro p e s m args below meth c H locs ls N hS hP hl
  obtain ⟨q0, e1, e2⟩ := flat_at hk hj
  subst hw
  refine va_bast N.1 N.2.1 N.2.2.2.2.2.2.2.2.1 hP.1 hP.2 hS q0 2 e1 rfl (iI_in h0 h1 hn) hdg (fun H1 locs1 hP1 hD1 hS1 => ?_)
  rw [vp_nar_byte, iI_byte, Int.bmod_eq_of_le (by omega) (by omega), iI_clamp h0 (by omega), upd_I f h0 x] at hP1 hD1
  have e3 := e2 (a, aI (g_k G 2) n (updI f i x))
  exact k p e s m args below meth c H1 locs1 ls N hS1 ⟨by rw [← e3]; exact hP1, by rw [← e3]; exact hD1⟩ hl
theorem ww_zast {kk jj : Nat} {seg : va_W} {a n : Nat} {f : Int → Int} {i x : Int} {Ws2 : List va_W} (hk : Ws[kk]? = some seg) (hj : seg[jj]? = some (a, aI (g_k G 3) n f)) (h0 : 0 ≤ i) (h1 : i < n) (hn : (n : Int) < 2147483648) (hx : x = 0 ∨ x = 1) (hw : Ws.set kk (seg.set jj (a, aI (g_k G 3) n (updI f i x))) = Ws2) (hdg : decode cc pc = .ok (.bastore, 1)) (k : WF G l cc own nL ret mn d mc ms F cells slots Ws2 (pc + 1) lv st) : WF G l cc own nL ret mn d mc ms F cells slots Ws pc lv (vI x :: vI i :: .ref a :: st) := by
  intro p e s m args below meth c H locs ls N hS hP hl
  obtain ⟨q0, e1, e2⟩ := flat_at hk hj
  subst hw
  refine va_zast N.1 N.2.1 N.2.2.2.2.2.2.2.2.1 hP.1 hP.2 hS q0 3 e1 rfl (iI_in h0 h1 hn) hdg (fun H1 locs1 hP1 hD1 hS1 => ?_)
  have ez : vp_nar .boolean (Int32.ofInt x) = Int32.ofInt x := by rcases hx with rfl | rfl <;> rfl
  rw [ez, iI_clamp h0 (by omega), upd_I f h0 x] at hP1 hD1
  have e3 := e2 (a, aI (g_k G 3) n (updI f i x))
  exact k p e s m args below meth c H1 locs1 ls N hS1 ⟨by rw [← e3]; exact hP1, by rw [← e3]; exact hD1⟩ hl
theorem ww_last {kk jj : Nat} {seg : va_W} {a n : Nat} {f : Int → Int} {i x : Int} {Ws2 : List va_W} (hk : Ws[kk]? = some seg) (hj : seg[jj]? = some (a, aL (g_k G 1) n f)) (h0 : 0 ≤ i) (h1 : i < n) (hn : (n : Int) < 2147483648) (hw : Ws.set kk (seg.set jj (a, aL (g_k G 1) n (updI f i x))) = Ws2) (hdg : decode cc pc = .ok (.lastore, 1)) (k : WF G l cc own nL ret mn d mc ms F cells slots Ws2 (pc + 1) lv st) : WF G l cc own nL ret mn d mc ms F cells slots Ws pc lv (vL x :: vI i :: .ref a :: st) := by
  intro p e s m args below meth c H locs ls N hS hP hl
  obtain ⟨q0, e1, e2⟩ := flat_at hk hj
  subst hw
  refine va_last N.1 N.2.1 N.2.2.2.2.2.2.2.2.1 hP.1 hP.2 hS q0 1 e1 rfl (iI_in h0 h1 hn) hdg (fun H1 locs1 hP1 hD1 hS1 => ?_)
  rw [iI_clamp h0 (by omega), upd_L f h0 x] at hP1 hD1
  have e3 := e2 (a, aL (g_k G 1) n (updI f i x))
  exact k p e s m args below meth c H1 locs1 ls N hS1 ⟨by rw [← e3]; exact hP1, by rw [← e3]; exact hD1⟩ hl
theorem ww_alen {kk jj : Nat} {seg : va_W} {a : Nat} {cA : ClassId} {x : vp_A} {ty : FieldType} (t0 : Nat) (hk : Ws[kk]? = some seg) (hj : seg[jj]? = some (a, .inl (cA, x))) (ht : (g_tys G)[t0]? = some (cA, ty)) (hdg : decode cc pc = .ok (.arraylength, 1)) (k : WF G l cc own nL ret mn d mc ms F cells slots Ws (pc + 1) lv (vI x.1 :: st)) : WF G l cc own nL ret mn d mc ms F cells slots Ws pc lv (.ref a :: st) := by
  intro p e s m args below meth c H locs ls N hS hP hl
  obtain ⟨q0, e1, -⟩ := flat_at hk hj
  exact va_alen N.1 N.2.1 N.2.2.2.2.2.2.2.2.1 hP.1 q0 t0 e1 ht rfl hdg (k p e s m args below meth c H locs ls N hS hP hl)
/-- new cells -/
theorem ww_new {C : String} {T : u_T} {Nf ci index : Nat} {ty0 : Nat → FieldType} {fs : List Value} (hin : ∀ w ∈ u_ws C T Nf, w ∈ lw_all) (hty : ∀ k, k < Nf → parseFieldDescriptor (T k).2.2.1 = some (ty0 k)) (hcl : Cond.classLink own index C ∈ lw_all) (hinst : Cond.instantiable C Nf ∈ lw_all) (hini : Cond.initialized C ∈ lw_all) (hc : vwCl[ci]? = some (C, T, Nf)) (hfs : ∀ j, j < Nf → defaultValue (ty0 j) = vp_V fs j) (hcells : cells + 1 ≤ mc) (hslots : slots + Nf ≤ ms) (hdg : decode cc pc = .ok (.new index, 3)) (k : ∀ q : Nat, WF G l cc own nL ret mn d mc ms F (cells + 1) (slots + Nf) (Ws ++ [[(q, oB ci fs)]]) (pc + 3) lv (.ref q :: st)) : WF G l cc own nL ret mn d mc ms F cells slots Ws pc lv st := by
  intro p e s m args below meth c H locs ls N hS hP hl
  have hK := N.2.2.2.2.2.2.2.2
  refine va_new N.1 N.2.1 N.2.2.1 hin ty0 hty N.2.2.2.1 (N.2.2.1 _ hcl) (N.2.2.1 _ hinst) (N.2.2.1 _ hini) hK.1 hP.1 hP.2 hS (fun q hq => Nat.le_trans hK.2.1 hq) hc hfs hcells hslots hdg (fun q H1 hP1 hD1 hS1 => ?_)
  have e1 : (Ws ++ [[(q, oB ci fs)]]).flatten = Ws.flatten ++ [(q, oB ci fs)] := by simp
  exact k q p e s m args below meth c H1 locs ls N hS1 ⟨by rw [e1]; exact hP1, by rw [e1]; exact hD1⟩ hl
theorem ww_newI {atype : ArrayType} {ty : FieldType} {x : Int} (t0 : Nat) (hat : newarray.typeOf atype = ty) (hp : ∀ C, ty ≠ .object C) (hz : defaultValue ty = .int 0) (harr : Cond.arrayClass ty ∈ lw_all) (ht : (g_tys G)[t0]? = some (g_k G t0, ty)) (h0 : 0 ≤ x) (h1 : x < 2147483648) (hb : x.toNat * componentBytes ty ≤ 536870912) (hcells : cells + 1 ≤ mc) (hslots : slots + x.toNat ≤ ms) (hdg : decode cc pc = .ok (.newarray atype, 2)) (k : ∀ q : Nat, WF G l cc own nL ret mn d mc ms F (cells + 1) (slots + x.toNat) (Ws ++ [[(q, aI (g_k G t0) x.toNat (fun _ => 0))]]) (pc + 2) lv (.ref q :: st)) : WF G l cc own nL ret mn d mc ms F cells slots Ws pc lv (vI x :: st) := by
  intro p e s m args below meth c H locs ls N hS hP hl
  have hK := N.2.2.2.2.2.2.2.2
  subst hat
  refine va_newa (ty := newarray.typeOf atype) (N' := x.toNat) (a0 := (x.toNat, .inl (fun _ => Int32.ofInt 0))) N.1 N.2.1 (N.2.2.1 _ harr) rfl hK.1 hP.1 hP.2 hS (fun q hq => Nat.le_trans hK.2.1 hq) (fun cA => by rw [vp_cell_i, hz]; rfl) (by rw [iI_0, iI_lt ⟨by omega, h1⟩ r0]; omega) (iI_clamp h0 h1) hb hcells hslots hdg (fun q cA H1 hK1 hP1 hD1 hS1 => ?_)
  have e0 : cA = g_k G t0 := g_tys_same hp hK1 ht
  subst e0
  have e1 : (Ws ++ [[(q, aI (g_k G t0) x.toNat (fun _ => 0))]]).flatten = Ws.flatten ++ [(q, aI (g_k G t0) x.toNat (fun _ => 0))] := by simp
  exact k q p e s m args below meth c H1 locs ls N hS1 ⟨by rw [e1]; exact hP1, by rw [e1]; exact hD1⟩ hl
theorem ww_newL {x : Int} (harr : Cond.arrayClass .long ∈ lw_all) (h0 : 0 ≤ x) (h1 : x < 2147483648) (hb : x.toNat * componentBytes .long ≤ 536870912) (hcells : cells + 1 ≤ mc) (hslots : slots + x.toNat ≤ ms) (hdg : decode cc pc = .ok (.newarray .long, 2)) (k : ∀ q : Nat, WF G l cc own nL ret mn d mc ms F (cells + 1) (slots + x.toNat) (Ws ++ [[(q, aL (g_k G 1) x.toNat (fun _ => 0))]]) (pc + 2) lv (.ref q :: st)) : WF G l cc own nL ret mn d mc ms F cells slots Ws pc lv (vI x :: st) := by
  intro p e s m args below meth c H locs ls N hS hP hl
  have hK := N.2.2.2.2.2.2.2.2
  refine va_newa (atype := .long) (ty := .long) (N' := x.toNat) (a0 := (x.toNat, .inr (.inl (fun _ => Int64.ofInt 0)))) N.1 N.2.1 (N.2.2.1 _ harr) rfl hK.1 hP.1 hP.2 hS (fun q hq => Nat.le_trans hK.2.1 hq) (fun cA => by rw [vp_cell_l]; rfl) (by rw [iI_0, iI_lt ⟨by omega, h1⟩ r0]; omega) (iI_clamp h0 h1) hb hcells hslots hdg (fun q cA H1 hK1 hP1 hD1 hS1 => ?_)
  have e0 : cA = g_k G 1 := g_tys_same (t0 := 1) (fun C h => by cases h) hK1 rfl
  subst e0
  have e1 : (Ws ++ [[(q, aL (g_k G 1) x.toNat (fun _ => 0))]]).flatten = Ws.flatten ++ [(q, aL (g_k G 1) x.toNat (fun _ => 0))] := by simp
  exact k q p e s m args below meth c H1 locs ls N hS1 ⟨by rw [e1]; exact hP1, by rw [e1]; exact hD1⟩ hl
/-- ends -/
theorem ww_iret {x : Int} (u : S) (hr : ret = some .int) (hR : R (some (vI x)) u) (hw : Ws.flatten = (sh u).flatten) (hc : cells ≤ mc) (hs : slots ≤ ms) (hdg : decode cc pc = .ok (.ireturn, 1)) : WW G l cc own nL ret mn d mc ms R sh cells slots Ws pc lv [vI x] := by
  intro p e s m args below meth c H locs ls N hS hP hl
  refine W.widen hc hs ?_
  exact W.iret N.1 N.2.1 (N.2.2.2.2.2.1.trans hr) (fun t ht hW => ⟨⟨_, u, rfl, hR, by rw [ht]; exact hP.of hw⟩, hS.F ht⟩) hS.2.2 hdg (hlocks := N.2.2.2.2.2.2.1)
theorem ww_zret {x : Int} (u : S) (hr : ret = some .boolean) (hx : x = 0 ∨ x = 1) (hR : R (some (vI x)) u) (hw : Ws.flatten = (sh u).flatten) (hc : cells ≤ mc) (hs : slots ≤ ms) (hdg : decode cc pc = .ok (.ireturn, 1)) : WW G l cc own nL ret mn d mc ms R sh cells slots Ws pc lv [vI x] := by
  intro p e s m args below meth c H locs ls N hS hP hl
  refine W.widen hc hs ?_
  exact W.zret N.1 N.2.1 (N.2.2.2.2.2.1.trans hr) (by rcases hx with rfl | rfl <;> rfl) (fun t ht hW => ⟨⟨_, u, rfl, hR, by rw [ht]; exact hP.of hw⟩, hS.F ht⟩) hS.2.2 hdg (hlocks := N.2.2.2.2.2.2.1)
theorem ww_lret {x : Int} (u : S) (hr : ret = some .long) (hR : R (some (vL x)) u) (hw : Ws.flatten = (sh u).flatten) (hc : cells ≤ mc) (hs : slots ≤ ms) (hdg : decode cc pc = .ok (.lreturn, 1)) : WW G l cc own nL ret mn d mc ms R sh cells slots Ws pc lv [vL x] := by
  intro p e s m args below meth c H locs ls N hS hP hl
  refine W.widen hc hs ?_
  exact W.lret N.1 N.2.1 (N.2.2.2.2.2.1.trans hr) (fun t ht hW => ⟨⟨_, u, rfl, hR, by rw [ht]; exact hP.of hw⟩, hS.F ht⟩) hS.2.2 hdg (hlocks := N.2.2.2.2.2.2.1)
theorem ww_vret (u : S) (hr : ret = none) (hR : R none u) (hw : Ws.flatten = (sh u).flatten) (hc : cells ≤ mc) (hs : slots ≤ ms) (hdg : decode cc pc = .ok (.return_, 1)) : WW G l cc own nL ret mn d mc ms R sh cells slots Ws pc lv [] := by
  intro p e s m args below meth c H locs ls N hS hP hl
  refine W.widen hc hs ?_
  exact W.vret N.1 N.2.1 (N.2.2.2.2.2.1.trans hr) (fun t ht hW => ⟨⟨_, u, rfl, hR, by rw [ht]; exact hP.of hw⟩, hS.F ht⟩) hS.2.2 hdg (hlocks := N.2.2.2.2.2.2.1)
theorem ww_aret {v : Value} {rt : FieldType} (u : S) (hr : ret = some rt) (hrt : (∃ n, rt = .object n) ∨ ∃ t, rt = .array t) (hv : v = .null ∨ ∃ a, v = .ref a) (hR : R (some v) u) (hw : Ws.flatten = (sh u).flatten) (hc : cells ≤ mc) (hs : slots ≤ ms) (hdg : decode cc pc = .ok (.areturn, 1)) : WW G l cc own nL ret mn d mc ms R sh cells slots Ws pc lv [v] := by
  intro p e s m args below meth c H locs ls N hS hP hl
  refine W.widen hc hs ?_
  exact W.aret N.1 N.2.1 (N.2.2.2.2.2.1.trans hr) hrt hv (fun t ht hW => ⟨⟨_, u, rfl, hR, by rw [ht]; exact hP.of hw⟩, hS.F ht⟩) hS.2.2 hdg (hlocks := N.2.2.2.2.2.2.1)
/-- a contract out of a walk -/
theorem ww_of {y : MethodName} {as : List Value} (hy : plainName y.cls = true) (hlen : (lg_sl as).length ≤ nL) (body : ∀ fr : va_W, WW G l cc y.cls nL ret y.name d mc ms R (fun u => sh u ++ [fr]) 0 0 (Ws ++ [fr]) 0 (lv_args 0 as) []) : CT G l y cc nL ret d mc ms as Ws R sh := by
  intro fr
  refine Met.ofW (cc := cc) (maxL := nL) (ret := ret) hy rfl ?_
  intro p e s m args below meth c s₁ B hml hv
  obtain ⟨rfl, hK, hP⟩ := hv
  have hts := atoms_spec (ws := ws_ y cc nL ret) B.pre
  have hts : ∀ w ∈ lw_all, w.before _ s = true := fun w h => hts w (List.mem_cons_of_mem _ h)
  have hown : s.vm.findClass y.cls = some m.cls := findClass_of_methodNamed B.named
  have hl := lv_entry as hlen
  rw [lg_entry_eq]
  exact body fr p e s m _ below meth c s.heap [] _ ⟨B.exec, B.bytes, hts, hown, hml, B.returns, B.notSynchronized, ⟨(name_of_methodNamed B.named B.method).1, trivial⟩, hK⟩ va_S.rf hP hl
/-- calls -/
theorem ww_run {S2 : Type} {R2 : Option Value → S2 → Prop} {sh2 : S2 → List va_W} {mc2 ms2 : Nat} {Wr : List va_W} {st0 : List Value} {a : Array Value}
    (hr : ∀ (p : Program) (e : Env) (s : State) (m : MethodId) (args : Array Value) (below : List Frame) (meth : Method) (c : Code) (H : Heap) (locs : List Loc) (ls : Array Slot), g_N G l cc own nL ret mn F.2 p s m args meth c → va_S (g_A G) s.heap H locs → g_P G Ws H → lv_has ls nL lv →
      va_Run p l e (g_rm d mc ms) s m args below meth c H locs cells slots mc2 ms2 (F0 m pc ls st0) st (g_Q G R2 (fun u => sh2 u ++ [Wr.flatten]) a) (g_A G))
    (k : ∀ (r : Option Value) (u : S2), R2 r u → WF G l cc own nL ret mn d mc ms F (cells + mc2) (slots + ms2) (sh2 u ++ Wr) (pc + 3) lv (r.toList ++ st)) : WF G l cc own nL ret mn d mc ms F cells slots Ws pc lv st0 := by
  intro p e s m args below meth c H locs ls N hS hP hl
  intro T hT X
  obtain ⟨v, st₀, t, T', L, h0, X', hL, e1, e2, ⟨⟨r, u, hv, hR, hP1⟩, hz, hk⟩, go⟩ := hr p e s m args below meth c H locs ls N hS hP hl T hT X
  cases hv
  rw [h0] at hz hk
  have hP2 : g_P G (sh2 u ++ Wr) T'.heap := by
    rw [e1]
    exact hP1.of (by simp)
  have hS2 : va_S (g_A G) s.heap T'.heap (locs ++ L) := ⟨Nat.le_trans hS.1 (by rw [e1]; exact hz), fun q h1 h2 => by rw [e1, hk q (Nat.lt_of_lt_of_le h1 hS.1) h2]; exact hS.2.1 q h1 h2, fun q hq => by
    rcases List.mem_append.mp hq with h | h
    · exact hS.2.2 q h
    · exact hL q h⟩
  obtain ⟨t2, a1, b1⟩ := k v u hR p e s m args below meth c T'.heap (locs ++ L) ls N hS2 hP2 hl T' rfl X'
  exact ⟨t2, go t2 a1, b1⟩
theorem g_blind {G : g_G} {l : Launch} {as : List Value} {Ws : List va_W} : FrameBlind (va_Pc as (fun U => g_K G l U ∧ g_P G Ws U.heap)) := by
  intro a U g mk q
  obtain ⟨h1, h2, h3⟩ := q
  exact ⟨h1, g_K.moved (s := U) (U := U.calling g mk a) (State.WarmedH.refl U) (Nat.le_refl _) (fun _ _ _ => rfl) h2, h3⟩
theorem g_pre {s U : State} {H : Heap} {locs : List Loc} (hK : g_K G l s) (hS : va_S (g_A G) s.heap H locs) (hU : U.heap = H) (hW : s.WarmedH U.vm) : g_K G l U := g_K.moved hW (by rw [hU]; exact hS.1) (fun a h1 h2 => by rw [hU]; exact hS.2.1 a h1 h2) hK
theorem ww_callV {S2 : Type} {R2 : Option Value → S2 → Prop} {sh2 : S2 → List va_W} {mc2 ms2 d2 maxL2 n index ci kk jj b : Nat} {Wc Wr : List va_W} {st0 as fs : List Value} {y : MethodName} {bytes : ByteArray} {ret2 : Option FieldType} {T : u_T} {Nf : Nat} {seg : va_W} (hM : CT G l y bytes maxL2 ret2 d2 mc2 ms2 (.ref b :: as) Wc R2 sh2) (hg : GoodIn lw_all (wsV own index y.cls y (ws_ y bytes maxL2 ret2)))
    (hd : y.cls ≠ "java/lang/invoke/MethodHandle" ∧ y.cls ≠ "java/lang/invoke/VarHandle" ∧ (parseMethodDescriptor y.desc).map (fun d => d.parameters.length) = some n) (hn : as.length = n) (hR : d2 + 1 ≤ d ∧ 16 + (maxL2 + 11) + 100 * d2 ≤ 100 * d) (hw : Ws.flatten = (Wc ++ Wr).flatten)
    (hk : Ws[kk]? = some seg) (hj : seg[jj]? = some (b, oB ci fs)) (hci : vwCl[ci]? = some (y.cls, T, Nf)) (hst0 : st0 = as.reverse ++ .ref b :: st) (hst : (st.map fun v => v.category).sum ≤ 16) (hdg : decode cc pc = .ok (.invokevirtual index, 3)) (hf : cells + mc2 ≤ mc ∧ slots + ms2 ≤ ms)
    (k : ∀ (r : Option Value) (u : S2), R2 r u → WF G l cc own nL ret mn d mc ms F (cells + mc2) (slots + ms2) (sh2 u ++ Wr) (pc + 3) lv (r.toList ++ st)) : WF G l cc own nL ret mn d mc ms F cells slots Ws pc lv st0 := by
  refine ww_run (R2 := R2) (Wr := Wr) (a := (Value.ref b :: as).toArray) ?_ k
  intro p e s m args below meth c H locs ls N hS hP hl
  have hK := N.2.2.2.2.2.2.2.2
  obtain ⟨q0, h1, -⟩ := flat_at hk hj
  refine g_runV (nL := nL) (As := as) (rest := st) ⟨N.1, N.2.1, N.2.2.2.2.1, N.2.2.2.1, N.2.2.1⟩ (hM Wr.flatten) (cwV n N.2.2.1 hg rfl rfl rfl ⟨rfl, hd⟩ ⟨hR.1, (show 8 + (maxL2 + 11) + 100 * d2 ≤ 100 * d by omega)⟩) hR.2 ⟨g_blind, va_recv hK.1 hP.1 hci h1, fun U hU hW => ⟨rfl, g_pre hK hS hU hW, by rw [hU]; exact hP.of (by rw [hw]; simp)⟩⟩ rfl hn hl.1 hst0 (g_room16 hst) hdg hf
theorem ww_callS {S2 : Type} {R2 : Option Value → S2 → Prop} {sh2 : S2 → List va_W} {mc2 ms2 d2 maxL2 n index : Nat} {Wc Wr : List va_W} {st0 as : List Value} {y : MethodName} {bytes : ByteArray} {ret2 : Option FieldType} (hM : CT G l y bytes maxL2 ret2 d2 mc2 ms2 as Wc R2 sh2) (hg : GoodIn lw_all (va_wsS own index y (ws_ y bytes maxL2 ret2)))
    (hd : y.cls ≠ "java/lang/invoke/MethodHandle" ∧ y.cls ≠ "java/lang/invoke/VarHandle" ∧ (parseMethodDescriptor y.desc).map (fun d => d.parameters.length) = some n) (hn : as.length = n) (hR : d2 + 1 ≤ d ∧ 16 + (maxL2 + 11) + 100 * d2 ≤ 100 * d) (hw : Ws.flatten = (Wc ++ Wr).flatten)
    (hst0 : st0 = as.reverse ++ st) (hst : (st.map fun v => v.category).sum ≤ 16) (hdg : decode cc pc = .ok (.invokestatic index, 3)) (hf : cells + mc2 ≤ mc ∧ slots + ms2 ≤ ms)
    (k : ∀ (r : Option Value) (u : S2), R2 r u → WF G l cc own nL ret mn d mc ms F (cells + mc2) (slots + ms2) (sh2 u ++ Wr) (pc + 3) lv (r.toList ++ st)) : WF G l cc own nL ret mn d mc ms F cells slots Ws pc lv st0 := by
  refine ww_run (R2 := R2) (Wr := Wr) (a := as.toArray) ?_ k
  intro p e s m args below meth c H locs ls N hS hP hl
  have hK := N.2.2.2.2.2.2.2.2
  refine g_runS (nL := nL) (As := as) (rest := st) ⟨N.1, N.2.1, N.2.2.2.2.1, N.2.2.2.1, N.2.2.1⟩ (hM Wr.flatten) (va_cwS n N.2.2.1 hg rfl rfl rfl hd ⟨hR.1, (show 8 + (maxL2 + 11) + 100 * d2 ≤ 100 * d by omega)⟩) hR.2 ⟨g_blind, fun U hU hW => ⟨rfl, g_pre hK hS hU hW, by rw [hU]; exact hP.of (by rw [hw]; simp)⟩⟩ rfl hn hl.1 hst0 (g_room16 hst) hdg hf
theorem ww_callI {S2 : Type} {R2 : Option Value → S2 → Prop} {sh2 : S2 → List va_W} {mc2 ms2 d2 maxL2 n index b : Nat} {Wc Wr : List va_W} {st0 as : List Value} {y : MethodName} {bytes : ByteArray} (hM : CT G l y bytes maxL2 none d2 mc2 ms2 (.ref b :: as) Wc R2 sh2) (hg : Cond.code y bytes maxL2 none ∈ lw_all) (hq1 : Cond.initialized y.cls ∈ lw_all) (hq2 : Cond.methodLink own index y ∈ lw_all) (hq3 : Cond.instanceMethod y ∈ lw_all) (hy : y.name = "<init>")
    (hd : y.cls ≠ "java/lang/invoke/MethodHandle" ∧ y.cls ≠ "java/lang/invoke/VarHandle" ∧ (parseMethodDescriptor y.desc).map (fun d => d.parameters.length) = some n) (hn : as.length = n) (hR : d2 + 1 ≤ d ∧ 16 + (maxL2 + 11) + 100 * d2 ≤ 100 * d) (hw : Ws.flatten = (Wc ++ Wr).flatten)
    (hst0 : st0 = as.reverse ++ .ref b :: st) (hst : (st.map fun v => v.category).sum ≤ 16) (hdg : decode cc pc = .ok (.invokespecial index, 3)) (hf : cells + mc2 ≤ mc ∧ slots + ms2 ≤ ms)
    (k : ∀ (r : Option Value) (u : S2), R2 r u → WF G l cc own nL ret mn d mc ms F (cells + mc2) (slots + ms2) (sh2 u ++ Wr) (pc + 3) lv (r.toList ++ st)) : WF G l cc own nL ret mn d mc ms F cells slots Ws pc lv st0 := by
  refine ww_run (R2 := R2) (Wr := Wr) (a := (Value.ref b :: as).toArray) ?_ k
  intro p e s m args below meth c H locs ls N hS hP hl
  have hK := N.2.2.2.2.2.2.2.2
  refine g_runI (nL := nL) (As := as) (rest := st) ⟨N.1, N.2.1, N.2.2.2.2.1, N.2.2.2.1, N.2.2.1⟩ (hM Wr.flatten) (cwI n N.2.2.1 (lw_meth hg) rfl rfl rfl (N.2.2.1 _ hq1) (N.2.2.1 _ hq2) (N.2.2.1 _ hq3) hy hd ⟨hR.1, (show 8 + (maxL2 + 11) + 100 * d2 ≤ 100 * d by omega)⟩) hR.2 ⟨g_blind, fun U hU hW => ⟨rfl, g_pre hK hS hU hW, by rw [hU]; exact hP.of (by rw [hw]; simp)⟩⟩ rfl hn hl.1 hst0 (g_room16 hst) hdg hf
end HROWS
