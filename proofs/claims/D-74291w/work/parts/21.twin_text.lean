/-! THE TWIN: texts of the code, spelled -/
set_option maxRecDepth 100000
def spellI (i : Nat) : Int := [0, 6591876, 21006725, 231045, 67173, 474245, 763461].getD i 0
def w_spelled (i : Nat) (P : Int → Prop) : Prop := i < 7 ∧ P (spellI i)
theorem t_spelled {G : g_G} {l : Launch} {i : Nat} {P : Int → Prop} (h : w_spelled i P) : CT G l yX5_spelled cX5_spelled 4 (Option.some Jvm.ClassFile.FieldType.long) 7 0 0 [.ref (g_ad G (10 + i))] [] (uR3 P) (fun _ => []) := by
  sorry
theorem tc_spelled {S : Type} {G : g_G} {l : Launch} {cc : ByteArray} {nL : Nat} {ret : Option FieldType} {mn : String} {d mc ms : Nat} {R : Option Value → S → Prop} {sh : S → List va_W} {cells slots pc : Nat} {lv : List (Nat × Value)} {st : List Value} {Ws : List va_W} {i1 : Nat} {P : Int → Prop} (h : w_spelled i1 P) (hR : 7 + 1 ≤ d ∧ 16 + (4 + 11) + 100 * 7 ≤ 100 * d) (hc : cells ≤ mc ∧ slots ≤ ms) (hst : (st.map fun v => v.category).sum ≤ 16) (hdg : decode cc pc = .ok (.invokestatic 152, 3)) (k : ∀ r, P r → WW G l cc RX5 nL ret mn d mc ms R sh cells slots Ws (pc + 3) lv (vL r :: st)) : WW G l cc RX5 nL ret mn d mc ms R sh cells slots Ws pc lv (.ref (g_ad G (10 + i1)) :: st) := by
  refine tw_callS3 (n := 1) (t_spelled h) (lw_S q2326 q2327 q117 q2328) ⟨by decide, by decide, by decide +kernel⟩ rfl hR hc rfl hst hdg ?_
  exact k
