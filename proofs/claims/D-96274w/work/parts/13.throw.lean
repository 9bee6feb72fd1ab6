/-! ===== a Refused's own constructor: super() up to Throwable, no traces kept ===== -/
set_option maxRecDepth 100000
def ZX (g : GX) (U : State) : Prop := vx_Zq Bundle.tN "UNASSIGNED_STACK" Bundle.steD (fun q => g.2.2 ≤ q) U U.heap ∧ vx_Zq Bundle.tN "SUPPRESSED_SENTINEL" Bundle.listD (fun q => g.2.2 ≤ q) U U.heap
theorem vx_Zq.at {C n d : String} {A : Nat → Prop} {U V : State} {H : Heap} (h : vx_Zq C n d A U H) (e : V.heap = H) (hvm : U.vm.Alike V.vm) : vx_Zq C n d A V V.heap := by
  rw [e]
  exact vx_Zq.moved hvm h
theorem ZX.at {g : GX} {s U : State} (h : ZX g s) (hvm : s.vm.Alike U.vm) (hk : ∀ q : Nat, q < s.heap.size → ¬ g.2.2 ≤ q → U.heap[q]? = s.heap[q]?) : ZX g U :=
  ⟨vx_Zq.moved hvm (vx_Zq.kept h.1 hk), vx_Zq.moved hvm (vx_Zq.kept h.2 hk)⟩
def seW (X : String) : List Cond := Bundle.throwableAtoms ++ (Bundle.chain0Atoms "WithoutThem$Refusal" ["java/lang/RuntimeException", "java/lang/Exception"] ++
  [.instantiable X 7, .selects X Bundle.tFill0 Bundle.tFill0, .selects X Bundle.tFill Bundle.tFill, .lays X Bundle.tN "cause" "Ljava/lang/Throwable;", .lays X Bundle.tN "stackTrace" Bundle.steD, .lays X Bundle.tN "suppressedExceptions" Bundle.listD,
   .isRef (.static Bundle.tN "UNASSIGNED_STACK" Bundle.steD), .isRef (.static Bundle.tN "SUPPRESSED_SENTINEL" Bundle.listD), .fieldLink Bundle.tN 198 Bundle.tN "backtrace" "Ljava/lang/Object;", .lays Bundle.tN Bundle.tN "backtrace" "Ljava/lang/Object;", .lays X Bundle.tN "backtrace" "Ljava/lang/Object;"])
theorem seW_r {g : GX} {args : Array Value} {s : State} (hts : ∀ w ∈ lw_all, w.before args s = true) (hN0 : KN s) (hZ : ZX g s) : ∀ w ∈ seW "WithoutThem$Refused", w.before args s = true := by
  have hN : ∀ w, w ∈ lw_tbl → lw_isN w = true → w.before args s = true := by
    intro w hw hn
    have h1 := hN0 w hw hn
    cases w
    case fieldLinkNest => exact va_Nw.use rfl h1
    case methodLinkNest => exact va_Nw.use rfl h1
    case castable => exact va_Nw.use rfl h1
    case declares => exact va_Nw.use rfl h1
    all_goals cases hn
  exact
    (List.forall_mem_cons.mpr ⟨hts _ q98, 
    (List.forall_mem_cons.mpr ⟨hts _ q384, 
    (List.forall_mem_cons.mpr ⟨hts _ q393, 
    (List.forall_mem_cons.mpr ⟨hts _ q396, 
    (List.forall_mem_cons.mpr ⟨hts _ q399, 
    (List.forall_mem_cons.mpr ⟨hts _ q401, 
    (List.forall_mem_cons.mpr ⟨hts _ q385, 
    (List.forall_mem_cons.mpr ⟨hts _ q386, 
    (List.forall_mem_cons.mpr ⟨hts _ q119, 
    (List.forall_mem_cons.mpr ⟨hts _ q120, 
    (List.forall_mem_cons.mpr ⟨hts _ q387, 
    (List.forall_mem_cons.mpr ⟨hts _ q392, 
    (List.forall_mem_cons.mpr ⟨hts _ q397, 
    (List.forall_mem_cons.mpr ⟨hts _ q417, 
    (List.forall_mem_cons.mpr ⟨hts _ q374, 
    (List.forall_mem_cons.mpr ⟨hts _ q418, 
    (List.forall_mem_cons.mpr ⟨hts _ q376, 
    (List.forall_mem_cons.mpr ⟨hts _ q419, 
    (List.forall_mem_cons.mpr ⟨hts _ q378, 
    (List.forall_mem_cons.mpr ⟨hts _ q388, 
    (List.forall_mem_cons.mpr ⟨hZ.1.2.word, 
    (List.forall_mem_cons.mpr ⟨hts _ q390, 
    (List.forall_mem_cons.mpr ⟨hZ.2.2.word, 
    (List.forall_mem_cons.mpr ⟨hts _ q380, 
    (List.forall_mem_cons.mpr ⟨hts _ q406, 
    (List.forall_mem_cons.mpr ⟨hts _ q407, 
    (List.forall_mem_cons.mpr ⟨hts _ q408, 
    (List.forall_mem_cons.mpr ⟨hts _ q409, 
    (List.forall_mem_cons.mpr ⟨hN _ q365 rfl, 
    (List.forall_mem_cons.mpr ⟨hts _ q409, 
    (List.forall_mem_cons.mpr ⟨hts _ q410, 
    (List.forall_mem_cons.mpr ⟨hts _ q411, 
    (List.forall_mem_cons.mpr ⟨hts _ q412, 
    (List.forall_mem_cons.mpr ⟨hN _ q367 rfl, 
    (List.forall_mem_cons.mpr ⟨hts _ q412, 
    (List.forall_mem_cons.mpr ⟨hts _ q413, 
    (List.forall_mem_cons.mpr ⟨hts _ q414, 
    (List.forall_mem_cons.mpr ⟨hts _ q385, 
    (List.forall_mem_cons.mpr ⟨hN _ q369 rfl, 
    (List.forall_mem_cons.mpr ⟨hts _ q362, 
    (List.forall_mem_cons.mpr ⟨hts _ q371, 
    (List.forall_mem_cons.mpr ⟨hts _ q372, 
    (List.forall_mem_cons.mpr ⟨hts _ q373, 
    (List.forall_mem_cons.mpr ⟨hts _ q375, 
    (List.forall_mem_cons.mpr ⟨hts _ q377, 
    (List.forall_mem_cons.mpr ⟨vx_isRefq hZ.1.1, 
    (List.forall_mem_cons.mpr ⟨vx_isRefq hZ.2.1, 
    (List.forall_mem_cons.mpr ⟨hts _ q383, 
    (List.forall_mem_cons.mpr ⟨hts _ q382, 
    (List.forall_mem_cons.mpr ⟨hts _ q381, fun _ h => absurd h List.not_mem_nil⟩)⟩)⟩)⟩)⟩)⟩)⟩)⟩)⟩)⟩)⟩)⟩)⟩)⟩)⟩)⟩)⟩)⟩)⟩)⟩)⟩)⟩)⟩)⟩)⟩)⟩)⟩)⟩)⟩)⟩)⟩)⟩)⟩)⟩)⟩)⟩)⟩)⟩)⟩)⟩)⟩)⟩)⟩)⟩)⟩)⟩)⟩)⟩)⟩)⟩)
theorem seW_f {g : GX} {args : Array Value} {s : State} (hts : ∀ w ∈ lw_all, w.before args s = true) (hN0 : KN s) (hZ : ZX g s) : ∀ w ∈ seW "WithoutThem$Fault", w.before args s = true := by
  have hN : ∀ w, w ∈ lw_tbl → lw_isN w = true → w.before args s = true := by
    intro w hw hn
    have h1 := hN0 w hw hn
    cases w
    case fieldLinkNest => exact va_Nw.use rfl h1
    case methodLinkNest => exact va_Nw.use rfl h1
    case castable => exact va_Nw.use rfl h1
    case declares => exact va_Nw.use rfl h1
    all_goals cases hn
  exact
    (List.forall_mem_cons.mpr ⟨hts _ q98, 
    (List.forall_mem_cons.mpr ⟨hts _ q384, 
    (List.forall_mem_cons.mpr ⟨hts _ q393, 
    (List.forall_mem_cons.mpr ⟨hts _ q396, 
    (List.forall_mem_cons.mpr ⟨hts _ q399, 
    (List.forall_mem_cons.mpr ⟨hts _ q401, 
    (List.forall_mem_cons.mpr ⟨hts _ q385, 
    (List.forall_mem_cons.mpr ⟨hts _ q386, 
    (List.forall_mem_cons.mpr ⟨hts _ q119, 
    (List.forall_mem_cons.mpr ⟨hts _ q120, 
    (List.forall_mem_cons.mpr ⟨hts _ q387, 
    (List.forall_mem_cons.mpr ⟨hts _ q392, 
    (List.forall_mem_cons.mpr ⟨hts _ q397, 
    (List.forall_mem_cons.mpr ⟨hts _ q417, 
    (List.forall_mem_cons.mpr ⟨hts _ q374, 
    (List.forall_mem_cons.mpr ⟨hts _ q418, 
    (List.forall_mem_cons.mpr ⟨hts _ q376, 
    (List.forall_mem_cons.mpr ⟨hts _ q419, 
    (List.forall_mem_cons.mpr ⟨hts _ q378, 
    (List.forall_mem_cons.mpr ⟨hts _ q388, 
    (List.forall_mem_cons.mpr ⟨hZ.1.2.word, 
    (List.forall_mem_cons.mpr ⟨hts _ q390, 
    (List.forall_mem_cons.mpr ⟨hZ.2.2.word, 
    (List.forall_mem_cons.mpr ⟨hts _ q380, 
    (List.forall_mem_cons.mpr ⟨hts _ q406, 
    (List.forall_mem_cons.mpr ⟨hts _ q407, 
    (List.forall_mem_cons.mpr ⟨hts _ q408, 
    (List.forall_mem_cons.mpr ⟨hts _ q409, 
    (List.forall_mem_cons.mpr ⟨hN _ q365 rfl, 
    (List.forall_mem_cons.mpr ⟨hts _ q409, 
    (List.forall_mem_cons.mpr ⟨hts _ q410, 
    (List.forall_mem_cons.mpr ⟨hts _ q411, 
    (List.forall_mem_cons.mpr ⟨hts _ q412, 
    (List.forall_mem_cons.mpr ⟨hN _ q367 rfl, 
    (List.forall_mem_cons.mpr ⟨hts _ q412, 
    (List.forall_mem_cons.mpr ⟨hts _ q413, 
    (List.forall_mem_cons.mpr ⟨hts _ q414, 
    (List.forall_mem_cons.mpr ⟨hts _ q385, 
    (List.forall_mem_cons.mpr ⟨hN _ q369 rfl, 
    (List.forall_mem_cons.mpr ⟨hts _ q467, 
    (List.forall_mem_cons.mpr ⟨hts _ q469, 
    (List.forall_mem_cons.mpr ⟨hts _ q395, 
    (List.forall_mem_cons.mpr ⟨hts _ q470, 
    (List.forall_mem_cons.mpr ⟨hts _ q471, 
    (List.forall_mem_cons.mpr ⟨hts _ q472, 
    (List.forall_mem_cons.mpr ⟨vx_isRefq hZ.1.1, 
    (List.forall_mem_cons.mpr ⟨vx_isRefq hZ.2.1, 
    (List.forall_mem_cons.mpr ⟨hts _ q383, 
    (List.forall_mem_cons.mpr ⟨hts _ q382, 
    (List.forall_mem_cons.mpr ⟨hts _ q474, fun _ h => absurd h List.not_mem_nil⟩)⟩)⟩)⟩)⟩)⟩)⟩)⟩)⟩)⟩)⟩)⟩)⟩)⟩)⟩)⟩)⟩)⟩)⟩)⟩)⟩)⟩)⟩)⟩)⟩)⟩)⟩)⟩)⟩)⟩)⟩)⟩)⟩)⟩)⟩)⟩)⟩)⟩)⟩)⟩)⟩)⟩)⟩)⟩)⟩)⟩)⟩)⟩)⟩)⟩)
section XSE
variable {p : Program} {l : Launch} {e : Env} {R : Room} {s : State} {m : MethodId} {args : Array Value} {below : List Frame} {meth : Method} {c : Code} {H : Heap} {cells slots : Nat} {Q : State → Prop} {pc : Nat} {ls : Array Slot} {rest : List Value} {cc : ByteArray}
set_option maxHeartbeats 4000000 in
theorem x_superE {X nm : String} {g : GX} {nL idx ci : Nat} {T1 : u_T} {b : Addr} (hx : p.tables.exec = Jvm.exec) (hb : c.code = cc) (hml : c.maxLocals = nL) (hown : s.vm.findClass X = some m.cls) (hX : KX g s) (hl : l.stackTraces = false)
    (h : ∀ w ∈ seW X, w.before args s = true) (hlink : (Cond.methodLinkNest X idx (Bundle.init0 "WithoutThem$Refusal") "WithoutThem").before args s = true) (hlayN : (Cond.laysFinal X (T1 0).1 (T1 0).2.1 (T1 0).2.2.1).before args s = true)
    (hc : cl[ci]? = some (X, T1, 1)) (hd : (T1 0).2.2.1 = "I") (hnm : (T1 0).2.1 = nm) (hne : nm ≠ "cause" ∧ nm ≠ "stackTrace" ∧ nm ≠ "suppressedExceptions")
    {cX : ClassId} {kX : Class} (hfX : s.vm.findClass X = some cX) (hkX : s.vm.classes[cX]? = some kX) (hcell : H[b]? = some (freshCell cX kX)) (hsz : ls.size = nL) (hdg : decode cc pc = .ok (.invokespecial idx, 3))
    (hR : 6 ≤ R.frames ∧ (rest.map fun v => v.category).sum + 80 ≤ R.locals)
    (kk : ∀ (H1 : Heap) (L : List Loc), (∀ z ∈ L, z.base = b) → H1.size = H.size → (∀ q : Nat, q ≠ b → H1[q]? = H[q]?) → va_P g.1 cl [(b, .inr (ci, [.int 0]))] H1 → W p l e R s m args below meth c H1 L cells slots Q (F0 m (pc + 3) ls rest)) :
    W p l e R s m args below meth c H [] cells slots Q (F0 m pc ls (.ref b :: rest)) := by
  intro W hT X0
  subst hT
  have htr : e.platform.stackTraces = false := (show e.platform.stackTraces = l.stackTraces by rw [X0.admits.platform]).trans hl
  have howns : e.platform.frameOwnsMonitors = true := by rw [X0.admits.platform]
  have hfin : e.platform.finalization = false := by rw [X0.admits.platform]
  have hpl : e.platform.magicAccessors = ({} : Platform).magicAccessors := by rw [X0.admits.platform]
  have a' : ∀ x, x ∈ seW X → x.holds args s none s [] = true := fun x hx => h x hx
  have hchain : ∀ x ∈ Bundle.chain0Atoms "WithoutThem$Refusal" ["java/lang/RuntimeException", "java/lang/Exception"], x.before args s = true := fun x hx => h x (List.mem_append_right _ (List.mem_append_left _ hx))
  obtain ⟨T, Z, L, LZ, Y⟩ := ThrowableC.of_atoms (args := args) howns hfin hpl (fun x hx => h x (List.mem_append_left _ hx))
  obtain ⟨P1, Ps, hlen, L1, hL, hP1m, hlink1, hlinkP⟩ := Bundle.chain0 (args := args) hpl Y.init0 ["java/lang/RuntimeException", "java/lang/Exception"] "WithoutThem$Refusal" (by decide) (by decide) hchain
  obtain ⟨c1, kX', hc1, hk, hord, -, -, hn6⟩ := Cond.instantiable_spec (a' (.instantiable X 7) (by simp [seW]))
  cases Option.some.inj (hc1.symm.trans hfX)
  cases Option.some.inj (hkX.symm.trans hk)
  have hsel0 : selectMethod e.platform s.vm cX T.fill0 = .method T.fill0 := by
    obtain ⟨c2, r2, m2, q1, q2, q3, q4, -⟩ := Cond.selects_spec (a' (.selects X Bundle.tFill0 Bundle.tFill0) (by simp [seW]))
    cases Option.some.inj (q1.symm.trans hfX)
    cases Option.some.inj (q2.symm.trans (State.methodFound?_of_named Y.fill0 (by decide)))
    cases Option.some.inj (q3.symm.trans Y.fill0)
    rw [Launch.admits_selectMethod X0.admits]; exact q4
  have hselF : selectMethod e.platform s.vm cX T.fill = .method T.fill := by
    obtain ⟨c2, r2, m2, q1, q2, q3, q4, -⟩ := Cond.selects_spec (a' (.selects X Bundle.tFill Bundle.tFill) (by simp [seW]))
    cases Option.some.inj (q1.symm.trans hfX)
    cases Option.some.inj (q2.symm.trans (State.methodFound?_of_named Y.fill (by decide)))
    cases Option.some.inj (q3.symm.trans Y.fill)
    rw [Launch.admits_selectMethod X0.admits]; exact q4
  obtain ⟨cellS0, hcS0, hiss⟩ := Y.statics
  obtain ⟨u0, hu0⟩ := Cond.staticRefV Y.unassigned L.unassignedStatic L.statics hcS0 hiss (a' (.isRef (.static Bundle.tN "UNASSIGNED_STACK" Bundle.steD)) (by simp [seW]))
  obtain ⟨sen, hsen⟩ := Cond.staticRefV Y.sentinel L.sentinelStatic L.statics hcS0 hiss (a' (.isRef (.static Bundle.tN "SUPPRESSED_SENTINEL" Bundle.listD)) (by simp [seW]))
  obtain ⟨ci198, i198, fB, hk198, hg198, ha198, hsB, -, hnB, htB, hffB⟩ := Cond.ownField (t := .object "java/lang/Object") Y.found L.cls (by decide +kernel) (a' (.fieldLink Bundle.tN 198 Bundle.tN "backtrace" "Ljava/lang/Object;") (by simp [seW])) (a' (.lays Bundle.tN Bundle.tN "backtrace" "Ljava/lang/Object;") (by simp [seW])) e.platform hpl
  obtain ⟨cellS, hcS', heS, -, hkeep⟩ := X0.same.2.2.2.2.2 T.aS cellS0 hcS0
  have hcellS : W.heap[T.aS]? = some cellS := hcS'
  have hout' : ∀ i, (⟨T.aS, i⟩ : Loc) ∉ ([] : List Loc) := fun i hmem => nomatch hmem
  have hknownS : cellS.vm ≠ .unknown := by
    rw [heS]; intro hu
    rw [show cellS0.vm = .unknown from hu] at hiss
    cases hiss
  have hneS : T.aS ≠ b := by
    intro e
    rw [e] at hcellS
    have e2 : cellS = freshCell cX kX := Option.some.inj (hcellS.symm.trans hcell)
    have e3 : cellS0.vm = .none := by rw [← show cellS.vm = cellS0.vm from by rw [heS], e2]
    rw [e3] at hiss
    cases hiss
  obtain ⟨tyC, dC, hdC, hdnC⟩ := Cond.laysAt hfX hk Y.cause (a' (.lays X Bundle.tN "cause" "Ljava/lang/Throwable;") (by simp [seW]))
  obtain ⟨tyS, dS, hdS, hdnS⟩ := Cond.laysAt hfX hk Y.stack (a' (.lays X Bundle.tN "stackTrace" Bundle.steD) (by simp [seW]))
  obtain ⟨tyP, dP, hdP, hdnP⟩ := Cond.laysAt hfX hk Y.supp (a' (.lays X Bundle.tN "suppressedExceptions" Bundle.listD) (by simp [seW]))
  obtain ⟨tyB, dB, hdB, hdnB⟩ := Cond.laysAt hfX hk hffB (a' (.lays X Bundle.tN "backtrace" "Ljava/lang/Object;") (by simp [seW]))
  have bC := Cond.laysApart hdB hdC hdnB hdnC (by rw [hnB, Y.causeName]; decide)
  have bS := Cond.laysApart hdB hdS hdnB hdnS (by rw [hnB, Y.stackName]; decide)
  have bP := Cond.laysApart hdB hdP hdnB hdnP (by rw [hnB, Y.suppName]; decide)
  have hskip : SkipFacts T e.platform s (fun u => u) u0 ((preparedCellV T.toThrowableT (freshCell cX kX) b u0 sen).withEntry W.cur) :=
    ⟨{ ci198 := ci198, i198 := i198, fBack := fB }, ⟨hk198, hg198, ha198, hsB⟩, by
      have := fresh_default (c := cX) tyB
      rw [htB] at this
      simpa [preparedCellV, Cell.setSlot, Cell.withEntry, Array.getElem?_setIfInBounds, bC, bS, bP, bC.symm, bS.symm, bP.symm, defaultValue] using this, fun _ _ => rfl⟩
  obtain ⟨mk, methM, cM, kP, vm₁, hnamed, hmethM, hcodeM, -, hlocalsM, -, hkP, -, hW₁, hstep₁⟩ := Steps.initColdArgsNest (tb := p.tables) (e := e) X0.here hx X0.warmed hpl hown (show (Bundle.init0 "WithoutThem$Refusal").name = "<init>" from rfl) (by decide) hlink (hchain (.instanceMethod (Bundle.init0 "WithoutThem$Refusal")) (by simp [Bundle.chain0Atoms, Bundle.passAtoms])) (hchain (.code (Bundle.init0 "WithoutThem$Refusal") Bundle.five 1 none) (by simp [Bundle.chain0Atoms, Bundle.passAtoms])) (f := F0 m pc ls (.ref b :: rest)) rfl (a := b) (rest := rest) (argsL := []) (fun sig h9 => by rw [show parseMethodDescriptor (Bundle.init0 "WithoutThem$Refusal").desc = some ⟨[], none⟩ from by decide +kernel] at h9; cases h9; rfl) rfl (by rw [hb]; exact hdg)
  cases Option.some.inj (hnamed.symm.trans hP1m)
  have X₁ := X0.noted hW₁
  obtain ⟨vm₂, X₂, st2⟩ := X₁.ctorPlainOffV hx (g := F0 m pc ls rest) rfl (hsz.trans hml.symm) T L Z LZ (P1 :: Ps)
    (fun P hP => by rcases List.mem_cons.mp hP with rfl | hP; exact L1; exact hL P hP) ⟨hlink1, hlinkP⟩ (u0 := u0) (sen := sen) (self := b) (cell := freshCell cX kX) (cellS := cellS)
    hcell (fun _ => by simp) (by simp) rfl rfl hsel0 hselF hcellS hneS hknownS (by rw [hkeep _ (hout' _)]; exact hu0) (by rw [hkeep _ (hout' _)]; exact hsen)
    (Takes.of_laid hk hord tyC (by rw [Y.causeType]; rfl)) (Takes.of_laid hk hord tyS (by rw [Y.stackType]; exact fits_refV_array _ u0)) (Takes.of_laid hk hord tyP (by rw [Y.suppType]; exact fits_refV_object _ sen)) Y.objLocals hskip htr [] (by rw [hb]; exact hdg)
    (by simp only [List.length_cons, hlen, List.length_nil]; omega) (by simp only [List.length_cons, hlen, List.length_nil]; show 2 * 0 + _ + _ ≤ _; omega)
  have hlt : b < ((W.setVm vm₁).setVm vm₂).heap.size := (Array.getElem?_eq_some_iff.mp hcell).1
  generalize hce : (preparedCellV T.toThrowableT (freshCell cX kX) b u0 sen).setSlot T.fStack.slot u0.v = ce at X₂ st2
  have hKc := hX.1.1 ci _ hc
  have hcX : cX = g.1.1 ci := Option.some.inj (hfX.symm.trans hKc.2.1)
  have hat : (((W.setVm vm₁).setVm vm₂).setCell b ce).heap[b]? = some ce := heapAt_setCell_self (s := (W.setVm vm₁).setVm vm₂) ce hlt
  obtain ⟨t, a1, b1⟩ := kk (((W.setVm vm₁).setVm vm₂).setCell b ce).heap _ (fun z hz => by
      simp only [List.nil_append, List.mem_cons, List.not_mem_nil, or_false] at hz
      rcases hz with rfl | rfl | rfl | rfl <;> rfl) (by rw [size_setCell]; rfl) (fun q hq => heapAt_setCell_ne _ (Ne.symm hq)) (fun k x hx => by
      have hz : k < 1 := (List.getElem?_eq_some_iff.mp hx).1
      rw [show k = 0 by omega] at hx
      cases hx
      refine ⟨_, hc, ce, hat, by rw [← hce]; exact hcX, by rw [← hce]; rfl, fun j hj => ?_⟩
      have hj : j < 1 := hj
      rw [show j = 0 by omega]
      obtain ⟨cf, kf, fi, fd, hi, hsl⟩ := hKc.1 0 (show 0 < 1 by decide)
      have hfacts := (u_facts hfX hk (Or.inr hlayN) hi).2.2
      have hft := State.fieldFound?_type hi (show parseFieldDescriptor (T1 0).2.2.1 = some .int by rw [hd]; decide)
      have nC := u_apart (Or.inr hlayN) (Or.inl (a' (.lays X Bundle.tN "cause" "Ljava/lang/Throwable;") (by simp [seW]))) hi Y.cause (by rw [hft.1, Y.causeName, hnm]; exact hne.1)
      have nS := u_apart (Or.inr hlayN) (Or.inl (a' (.lays X Bundle.tN "stackTrace" Bundle.steD) (by simp [seW]))) hi Y.stack (by rw [hft.1, Y.stackName, hnm]; exact hne.2.1)
      have nP := u_apart (Or.inr hlayN) (Or.inl (a' (.lays X Bundle.tN "suppressedExceptions" Bundle.listD) (by simp [seW]))) hi Y.supp (by rw [hft.1, Y.suppName, hnm]; exact hne.2.2)
      have hdef := fresh_default (c := cX) hfacts
      rw [hft.2] at hdef
      rw [← hsl, ← hce]
      simpa [preparedCellV, Cell.setSlot, Array.getElem?_setIfInBounds, nC, nS, nP, nC.symm, nS.symm, nP.symm, defaultValue, vp_V] using hdef) _ rfl X₂
  refine ⟨t, hstep₁ _ (fun acts => ?_), b1⟩
  rw [doInvoke_state]
  exact st2 _ a1
end XSE

