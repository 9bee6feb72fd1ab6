/-! ===== super.y(..) where the superclass has y from above ===== -/
set_option maxRecDepth 100000
theorem isSub1 {vm : Vm} {c p : Nat} {k : Class} (h1 : vm.classes[c]? = some k) (h2 : k.super = some p) : vm.isSubclass c p = true := by
  have hl : c < vm.classes.size := (Array.getElem?_eq_some_iff.mp h1).1
  obtain ⟨n, hn⟩ : ∃ n, vm.classes.size = n + 1 := ⟨vm.classes.size - 1, by omega⟩
  unfold Vm.isSubclass
  rw [hn]
  simp [Vm.isSubclassAux, h1, h2]
theorem isSub2 {vm : Vm} {c p t : Nat} {k k2 : Class} (h1 : vm.classes[c]? = some k) (h2 : k.super = some p) (h3 : vm.classes[p]? = some k2) (h4 : k2.super = some t) (h5 : t < vm.classes.size) : vm.isSubclass c t = true := by
  have hl : p < vm.classes.size := (Array.getElem?_eq_some_iff.mp h3).1
  by_cases e : p = t
  · subst e; exact isSub1 h1 h2
  · have hp : p = p + 0 := rfl
    obtain ⟨n, hn⟩ : ∃ n, vm.classes.size = n + 2 := ⟨vm.classes.size - 2, by
      have h6 : (p : Nat) ≠ t := e
      omega⟩
    unfold Vm.isSubclass
    rw [hn]
    simp [Vm.isSubclassAux, h1, h2, h3, h4]
section XSUP
variable {p : Program} {l : Launch} {e : Env} {R : Room} {s : State} {m : MethodId} {args : Array Value} {below : List Frame} {meth : Method} {c : Code} {H : Heap} {locs : List Loc} {cells slots : Nat} {pc : Nat} {ls : Array Slot} {rest st0 As : List Value} {cc : ByteArray} {Ψ : Option Value → Heap → Prop} {A1 : Addr → Prop}
variable {g : GX} {nL : Nat} {y0 y : MethodName} {ret0 rety : Option FieldType} {cy : ByteArray} {ny k idx : Nat} {rm : Room} {b : Addr}
theorem runSUP {x : MethodName} {Cn owner : String} {cC : ClassId} (C : CX g p s m args meth c cc nL y0 ret0) (hat : ClassAt s Cn cC) (hM : Ct l g y cy ny rety rm (.ref b :: As) H A1 Ψ) (D : Cal y cy ny rety k) (h1 : Cond.methodLink y0.cls idx x ∈ lw_all) (h2 : Cond.sameMethod x.cls owner x.name x.desc ∈ lw_all) (h3 : Cond.superclass y0.cls x.cls ∈ lw_all) (h4 : Cond.instanceMethod y ∈ lw_all) (hn : x.name ≠ "<init>") (hy : y = ⟨owner, x.name, x.desc⟩)
    (hsub : ∀ cn : ClassId, s.vm.findClass x.cls = some cn → ∀ r0 : MethodId, s.vm.findClass y.cls = some r0.cls → s.vm.isSubclass cn r0.cls = true) (hv : Recv s H Cn b)
    (hk : As.length = k) (hR : rm.frames + 1 ≤ R.frames ∧ 8 + (ny + 11) + rm.locals ≤ R.locals) (hf : cells + rm.cells ≤ R.cells ∧ slots + rm.slots ≤ R.slots) (hsz : ls.size = nL) (hst : (rest.map fun v => v.category).sum ≤ 8) (d : decode cc pc = .ok (.invokespecial idx, 3)) (hstk : st0 = As.reverse ++ .ref b :: rest) :
    va_Run p l e R s m args below meth c H locs cells slots rm.cells rm.slots (F0 m pc ls st0) rest (QV Ψ (Value.ref b :: As).toArray) A1 := by
  have hts := C.2.2.2.2.1
  have hws : ∀ w ∈ ws_ y cy ny rety, ∀ (a' : Array Value) (U : State), s.WarmedH U.vm → w.before a' U = true := pay_in hts (lw_meth D.1)
  have hcode := hts _ D.1
  have hini := hts _ D.2.1
  have hK : Back l R p e below s args y 3 8 (PreOf R rm.cells rm.slots (PcX g (.ref b :: As) H)) (PostOf (QV Ψ) rm.cells rm.slots A1) := back_of (bytes := cy) (maxL := ny) (ret := rety) hM PcX.blind rfl rfl hR.1 hR.2 hws List.mem_cons_self (fun a' U hW => word_at hW (Or.inl (by first | rfl | simp [Cond.onTables, Cond.keeps, Cond.steady])) hini)
  obtain ⟨hx, hb, hml, ho, -⟩ := C.fix
  obtain ⟨cellB, hcB, hoB, hclB⟩ := hv
  obtain ⟨hfc, kB, hkB, -⟩ := hat
  cases hfc.symm.trans hclB
  intro T hT X
  obtain ⟨mk, methM, hnamed, hmethM, hstM, habM⟩ := Cond.instanceMethod_spec (hts _ h4)
  obtain ⟨methM', cM, hmethM', -, -, -, -, -, -, hsigM⟩ := Cond.code_spec hnamed hcode
  cases hmethM.symm.trans hmethM'
  obtain ⟨ps, dk, kp, hps, hdk, hkp, hsuper, -, -, hnid⟩ := Cond.superclass_spec ho (hts _ h3)
  have hn0 : s.methodNamed? ⟨owner, x.name, x.desc⟩ = some mk := by rw [← hy]; exact hnamed
  have hlen : As.length = methM.sig.parameters.length := by
    have h5 := D.2.2.2
    rw [hsigM] at h5
    exact hk.trans (Option.some.inj h5).symm
  obtain ⟨vm₁, X₁, hstep₁⟩ := X.invokespecialUp hx ho (hts _ h1) (hts _ h2) hn0 hmethM hstM habM hn hdk hnid hps hsuper (hsub ps hps mk (findClass_of_methodNamed hnamed)) (a := b) (cell := cellB) (by rw [hT]; exact hcB)
    (fun z h => by rw [h] at hoB; cases hoB) hkB (g := F0 m pc ls st0) rfl (argsL := As) (rest := rest) hlen hstk (by rw [hb]; exact d)
  obtain ⟨v, B, X', hpost, hsteps⟩ := hK m meth c ⟨T.setVm vm₁, locs, cells, slots⟩ { (F0 m pc ls st0) with stack := rest } (.invokespecial idx) mk (Value.ref b :: As).toArray X₁ rfl (hsz.trans hml.symm) (by rw [hb]; exact d) (lv_room hst) (X₁.named hnamed) ⟨hf.1, hf.2, (CX.pre C).2 (T.setVm vm₁) hT X₁.warmed⟩
  obtain ⟨U', l2, c2, s2⟩ := B
  obtain ⟨g', mk', t, L, e1, e2, hq, q1, hL, q2, q3⟩ := hpost
  dsimp only [Pt.U, Pt.locs, Pt.cells, Pt.slots] at X' e1 e2 q1 q2 q3
  subst q1; subst q2; subst q3
  exact ⟨v, (T.setVm vm₁).calling g' mk' (Value.ref b :: As).toArray, t, U', L, hT, X', hL, e1, e2, hq, fun target h => hstep₁ _ (by rw [doInvoke_state]; exact hsteps.trans h)⟩
end XSUP
