/-! ===== contracts of methods that may throw a Refused or a Fault ===== -/
set_option maxRecDepth 100000
/-- what isn't in A stays -/
def FRA (A : Nat → Prop) (H H1 : Heap) : Prop := H.size ≤ H1.size ∧ ∀ q : Nat, q < H.size → ¬ A q → H1[q]? = H[q]?
theorem FRA.rf {A : Nat → Prop} {H : Heap} : FRA A H H := ⟨Nat.le_refl _, fun _ _ _ => rfl⟩
theorem FRA.tr {A B : Nat → Prop} {H H1 H2 : Heap} (h : FRA A H H1) (k : FRA B H1 H2) (hB : ∀ q, q < H.size → B q → A q) : FRA A H H2 :=
  ⟨Nat.le_trans h.1 k.1, fun q h1 h2 => (k.2 q (Nat.lt_of_lt_of_le h1 h.1) (fun z => h2 (hB q h1 z))).trans (h.2 q h1 h2)⟩
theorem va_S.fra {A : Nat → Prop} {H0 H : Heap} {locs : List Loc} (h : va_S A H0 H locs) : FRA A H0 H := ⟨h.1, h.2.1⟩
theorem va_P.fra {D : va_G} {cl : List vw_C} {ws : va_W} {A : Nat → Prop} {H H1 : Heap} (h : va_P D cl ws H) (k : FRA A H H1) (hA : ∀ (i : Nat) (q : Nat × va_E), ws[i]? = some q → ¬ A q.1) : va_P D cl ws H1 :=
  h.kept (fun i q hq => k.2 q.1 (h i q hq).lt (hA i q hq))
/-- behind a call that writes but A1, and locs L -/
theorem va_S.step {A A1 : Nat → Prop} {H0 H H1 : Heap} {locs L : List Loc} (h : va_S A H0 H locs) (k : FRA A1 H H1) (hA : ∀ q, A1 q → A q) (hL : ∀ z ∈ L, A1 z.base) : va_S A H0 H1 (locs ++ L) :=
  ⟨Nat.le_trans h.1 k.1, fun q h1 h2 => (k.2 q (Nat.lt_of_lt_of_le h1 h.1) (fun z => h2 (hA q z))).trans (h.2.1 q h1 h2), fun z hz => (List.mem_append.mp hz).elim (h.2.2 z) (fun hz => hA _ (hL z hz))⟩
theorem va_S.locs {A A1 : Nat → Prop} {H0 H : Heap} {locs L : List Loc} (h : va_S A H0 H locs) (hA : ∀ q, A1 q → A q) (hL : ∀ z ∈ L, A1 z.base) : va_S A H0 H (locs ++ L) := h.step FRA.rf hA hL
/-- the thrown cell: a Refused (15) or a Fault (16), its number -/
def Exn (g : GX) (E : String) (q : Addr) (nn : Int32) (H : Heap) : Prop := (E = "WithoutThem$Refused" ∧ va_P g.1 cl [(q, .inr (15, [.int nn]))] H) ∨ (E = "WithoutThem$Fault" ∧ va_P g.1 cl [(q, .inr (16, [.int nn]))] H)
def XZ (g : GX) (Ξ : Int32 → Heap → Prop) : String → Addr → State → State → Prop := fun E q _ t => ∃ nn, Exn g E q nn t.heap ∧ Ξ nn t.heap
def PcZ (g : GX) (av : List Value) (H : Heap) : Array Value → State → Prop := va_Pc av (fun U => KX g U ∧ ZX g U ∧ U.heap = H)
theorem PcZ.blind {g : GX} {av : List Value} {H : Heap} : FrameBlind (PcZ g av H) := by
  intro a U f mk q
  obtain ⟨q0, q1, q2, q3⟩ := q
  exact ⟨q0, KX.warm (U := U.calling f mk a) (State.WarmedH.refl U) q1, ZX.at q2 (Vm.Alike.refl U.vm) (fun _ _ _ => rfl), q3⟩
/-- from the heap H with the arguments av: the method returns v with Ψ v H1, or throws a number with Ξ number H1 -/
def CZ (l : Launch) (g : GX) (y : MethodName) (cc : ByteArray) (nL : Nat) (ret : Option FieldType) (rm : Room) (av : List Value) (H : Heap) (A : Addr → Prop) (Ψ : Option Value → Heap → Prop) (Ξ : Int32 → Heap → Prop) : Prop :=
  vx_Met l y (ws_ y cc nL ret) rm (PcZ g av H) (QV Ψ) (XZ g Ξ) rm.cells rm.slots A
abbrev rmZ (f c s n : Nat) : Room := { frames := f, cells := c, slots := s, locals := n }
theorem CZ.of {l : Launch} {g : GX} {y : MethodName} {cc : ByteArray} {nL : Nat} {ret : Option FieldType} {rm : Room} {av : List Value} {H : Heap} {A : Addr → Prop} {Ψ : Option Value → Heap → Prop} {Ξ : Int32 → Heap → Prop} (hy : plainName y.cls = true) (hlen : (lg_sl av).length ≤ nL)
    (body : ∀ (p : Program) (e : Env) (s : State) (m : MethodId) (args : Array Value) (below : List Frame) (meth : Method) (c : Code), CX g p s m args meth c cc nL y ret → ZX g s → (∀ x ∈ c.exceptionTable.toList, False) → (∀ B : Nat → Prop, va_S B s.heap H []) → s.heap = H → ∀ ls : Array Slot, lv_has ls nL (lv_args 0 av) →
      W p l e rm s m args below meth c H [] 0 0 (vx_MQ below (QV Ψ) (XZ g Ξ) args s rm.cells rm.slots A) (F0 m 0 ls [])) : CZ l g y cc nL ret rm av H A Ψ Ξ := by
  refine vx_ofW (cc := cc) (maxL := nL) (ret := ret) hy rfl ?_
  intro p e s m args below meth c s₁ B hml htab hv
  obtain ⟨rfl, hK, hZ, hH⟩ := hv
  have hts := atoms_spec (ws := ws_ y cc nL ret) B.pre
  have hl := lv_entry av (n := nL) hlen
  rw [lg_entry_eq, hH]
  exact body p e s m _ below meth c ⟨B.exec, B.bytes, hml, findClass_of_methodNamed B.named, fun w h => hts w (List.mem_cons_of_mem _ h), hK, B.notSynchronized, B.returns, (name_of_methodNamed B.named B.method).1⟩ hZ htab (fun _ => by rw [hH]; exact va_S.rf) hH _ hl
section ZR
variable {p : Program} {l : Launch} {e : Env} {R : Room} {s : State} {m : MethodId} {args : Array Value} {below : List Frame} {meth : Method} {c : Code} {H : Heap} {locs : List Loc} {cells slots : Nat} {Q : State → Prop} {pc : Nat} {ls : Array Slot} {rest st0 : List Value} {cc : ByteArray} {Ψ Ψ1 : Option Value → Heap → Prop} {Ξ Ξ1 : Int32 → Heap → Prop} {A A1 : Addr → Prop} {mc ms k1 k2 : Nat} {g : GX} {a : Array Value}
theorem z_iret (hx : p.tables.exec = Jvm.exec) (hb : c.code = cc) (hr : meth.sig.returnType = some .int) (hlk : meth.locks = false) {v : Int32} (hc : cells ≤ mc) (hs : slots ≤ ms) (hf : ∀ q ∈ locs, A q.base) (d : decode cc pc = .ok (.ireturn, 1)) (h : Ψ (some (.int v)) H) :
    W p l e R s m args below meth c H locs cells slots (vx_MQ below (QV Ψ) (XZ g Ξ) args s mc ms A) (F0 m pc ls [.int v]) := vx_ret (x_iret hx hb hr hlk hc hs hf d h)
theorem z_zret (hx : p.tables.exec = Jvm.exec) (hb : c.code = cc) (hr : meth.sig.returnType = some .boolean) (hlk : meth.locks = false) {v : Int32} (hn : v = 0 ∨ v = 1) (hc : cells ≤ mc) (hs : slots ≤ ms) (hf : ∀ q ∈ locs, A q.base) (d : decode cc pc = .ok (.ireturn, 1)) (h : Ψ (some (.int v)) H) :
    W p l e R s m args below meth c H locs cells slots (vx_MQ below (QV Ψ) (XZ g Ξ) args s mc ms A) (F0 m pc ls [.int v]) := vx_ret (x_zret hx hb hr hlk hn hc hs hf d h)
theorem z_lret (hx : p.tables.exec = Jvm.exec) (hb : c.code = cc) (hr : meth.sig.returnType = some .long) (hlk : meth.locks = false) {v : Int64} (hc : cells ≤ mc) (hs : slots ≤ ms) (hf : ∀ q ∈ locs, A q.base) (d : decode cc pc = .ok (.lreturn, 1)) (h : Ψ (some (.long v)) H) :
    W p l e R s m args below meth c H locs cells slots (vx_MQ below (QV Ψ) (XZ g Ξ) args s mc ms A) (F0 m pc ls [.long v]) := vx_ret (x_lret hx hb hr hlk hc hs hf d h)
theorem z_vret (hx : p.tables.exec = Jvm.exec) (hb : c.code = cc) (hr : meth.sig.returnType = none) (hlk : meth.locks = false) (hc : cells ≤ mc) (hs : slots ≤ ms) (hf : ∀ q ∈ locs, A q.base) (d : decode cc pc = .ok (.return_, 1)) (h : Ψ none H) :
    W p l e R s m args below meth c H locs cells slots (vx_MQ below (QV Ψ) (XZ g Ξ) args s mc ms A) (F0 m pc ls []) := vx_ret (x_vret hx hb hr hlk hc hs hf d h)
theorem z_go (hr : vx_Run p l e R s m args below meth c H locs cells slots k1 k2 (F0 m pc ls st0) rest (QV Ψ1 a) (XZ g Ξ1) A1)
    (kx : ∀ (nn : Int32) (E : String) (q : Addr) (ce : Cell) (H1 : Heap) (L : List Loc), Exn g E q nn H1 → Ξ1 nn H1 → (∀ z ∈ L, A1 z.base) → H1[q]? = some ce → ce.vm = .none → s.vm.findClass E = some ce.cls → vx_W p l e R s m args below meth c H1 (locs ++ L) (cells + k1) (slots + k2) Q (F0 m pc ls rest) q)
    (kk : ∀ (v : Option Value) (H1 : Heap) (L : List Loc), Ψ1 v H1 → (∀ q ∈ L, A1 q.base) → W p l e R s m args below meth c H1 (locs ++ L) (cells + k1) (slots + k2) Q (F0 m (pc + 3) ls (v.toList ++ rest))) : W p l e R s m args below meth c H locs cells slots Q (F0 m pc ls st0) := by
  intro T hT X
  rcases hr T hT X with ⟨v, st₀, t, T', L, h0, X', hL, e1, e2, ⟨v', hv, hΨ⟩, st⟩ | ⟨q, st₀, t, T', L, E, ce, h0, X', hL, e1, e2, ⟨nn, hE, hΞ⟩, hce, hcv, hcl, st⟩
  · cases hv
    obtain ⟨t2, a1, b1⟩ := kk v T'.heap L (by rw [e1]; exact hΨ) hL T' rfl X'
    exact ⟨t2, st t2 a1, b1⟩
  · obtain ⟨t2, a1, b1⟩ := kx nn E q ce T'.heap L (by rw [e1]; exact hE) (by rw [e1]; exact hΞ) hL (by rw [e1]; exact hce) hcv hcl T' rfl X'
    exact ⟨t2, st.trans a1, b1⟩
/-- a call in a method without handlers: what the callee throws goes on -/
theorem z_goP (hr : vx_Run p l e R s m args below meth c H locs cells slots k1 k2 (F0 m pc ls st0) rest (QV Ψ1 a) (XZ g Ξ1) A1) (hout : ∀ x ∈ c.exceptionTable.toList, False) (hlk : meth.locks = false) (hΞ : ∀ nn H1, Ξ1 nn H1 → Ξ nn H1) (hA : ∀ z, A1 z → A z) (hf : ∀ z ∈ locs, A z.base) (hc : cells + k1 ≤ mc) (hs : slots + k2 ≤ ms)
    (kk : ∀ (v : Option Value) (H1 : Heap) (L : List Loc), Ψ1 v H1 → (∀ q ∈ L, A1 q.base) → W p l e R s m args below meth c H1 (locs ++ L) (cells + k1) (slots + k2) (vx_MQ below (QV Ψ) (XZ g Ξ) args s mc ms A) (F0 m (pc + 3) ls (v.toList ++ rest))) :
    W p l e R s m args below meth c H locs cells slots (vx_MQ below (QV Ψ) (XZ g Ξ) args s mc ms A) (F0 m pc ls st0) :=
  z_go hr (fun nn E q ce H1 L hE h1 hL h2 h3 h4 => vx_out (fun x hx => (hout x hx).elim) hlk h2 h3 h4 (fun t ht _ => ⟨nn, by rw [ht]; exact hE, by rw [ht]; exact hΞ nn H1 h1⟩) (fun z hz => (List.mem_append.mp hz).elim (hf z) (fun hz => hA _ (hL z hz))) hc hs) kk
/-- .. of a callee that changes nothing: 'bad' says what it refuses -/
theorem z_goR {bad : Option Int32} {r : Option Value} (hr : vx_Run p l e R s m args below meth c H locs cells slots k1 k2 (F0 m pc ls st0) rest (QV (fun v H1 => bad = none ∧ v = r ∧ H1 = H) a) (XZ g (fun nn H1 => bad = some nn ∧ FRA (fun q => H.size ≤ q) H H1)) (fun q => H.size ≤ q)) (hout : ∀ x ∈ c.exceptionTable.toList, False) (hlk : meth.locks = false)
    (hΞ : ∀ nn H1, bad = some nn → FRA (fun q => H.size ≤ q) H H1 → Ξ nn H1) (hA : ∀ z, H.size ≤ z → A z) (hf : ∀ z ∈ locs, A z.base) (hc : cells + k1 ≤ mc) (hs : slots + k2 ≤ ms)
    (kk : ∀ (locs1 : List Loc), bad = none → (∀ q ∈ locs1, A q.base) → W p l e R s m args below meth c H locs1 (cells + k1) (slots + k2) (vx_MQ below (QV Ψ) (XZ g Ξ) args s mc ms A) (F0 m (pc + 3) ls (r.toList ++ rest))) :
    W p l e R s m args below meth c H locs cells slots (vx_MQ below (QV Ψ) (XZ g Ξ) args s mc ms A) (F0 m pc ls st0) :=
  z_goP hr hout hlk (fun nn H1 h => hΞ nn H1 h.1 h.2) hA hf hc hs (fun v H1 L h hL => by
    obtain ⟨h1, rfl, rfl⟩ := h
    exact kk _ h1 (fun z hz => (List.mem_append.mp hz).elim (hf z) (fun hz => hA _ (hL z hz))))
end ZR
section ZCALL
variable {p : Program} {l : Launch} {e : Env} {R : Room} {s : State} {m : MethodId} {args : Array Value} {below : List Frame} {meth : Method} {c : Code} {H : Heap} {locs : List Loc} {cells slots : Nat} {pc : Nat} {ls : Array Slot} {rest st0 As : List Value} {cc : ByteArray} {Ψ : Option Value → Heap → Prop} {Ξ : Int32 → Heap → Prop} {A A1 : Addr → Prop}
variable {g : GX} {nL : Nat} {y0 y : MethodName} {ret0 rety : Option FieldType} {cy : ByteArray} {ny k idx : Nat} {rm : Room} {b : Addr}
theorem CX.preZ {av : List Value} (C : CX g p s m args meth c cc nL y0 ret0) (hZ : ZX g s) (hS : va_S A s.heap H locs) (hAlo : ∀ q, A q → g.2.2 ≤ q) : PreS s H (PcZ g av H) av :=
  ⟨PcZ.blind, fun U hU hW => ⟨rfl, KX.warm hW C.2.2.2.2.2.1, ZX.at hZ hW.alike (fun q h1 h2 => by rw [hU]; exact hS.2.1 q h1 (fun z => h2 (hAlo q z))), hU⟩⟩
theorem runVZ (C : CX g p s m args meth c cc nL y0 ret0) (hZ : ZX g s) (hS : va_S A s.heap H locs) (hAlo : ∀ q, A q → g.2.2 ≤ q) (hM : CZ l g y cy ny rety rm (.ref b :: As) H A1 Ψ Ξ) (D : Cal y cy ny rety k) (h1 : Cond.methodLink y0.cls idx y ∈ lw_all) (h2 : Cond.instanceMethod y ∈ lw_all) (h3 : Cond.selects y.cls y y ∈ lw_all) (hv : Recv s H y.cls b)
    (hk : As.length = k) (hR : rm.frames + 1 ≤ R.frames ∧ 8 + (ny + 11) + rm.locals ≤ R.locals) (hf : cells + rm.cells ≤ R.cells ∧ slots + rm.slots ≤ R.slots) (hsz : ls.size = nL) (hst : (rest.map fun v => v.category).sum ≤ 8) (d : decode cc pc = .ok (.invokevirtual idx, 3)) (hstk : st0 = As.reverse ++ .ref b :: rest) :
    vx_Run p l e R s m args below meth c H locs cells slots rm.cells rm.slots (F0 m pc ls st0) rest (QV Ψ (Value.ref b :: As).toArray) (XZ g Ξ) A1 :=
  vx_runV C.fix hM (cwV k C.2.2.2.2.1 (lw_V h1 h2 h3 D.2.1 D.1) rfl rfl rfl ⟨rfl, D.2.2.1.1, D.2.2.1.2, D.2.2.2⟩ hR) ⟨PcZ.blind, hv, (CX.preZ C hZ hS hAlo).2⟩ rfl hk hsz hstk (lv_room hst) d hf
theorem runSZ (C : CX g p s m args meth c cc nL y0 ret0) (hZ : ZX g s) (hS : va_S A s.heap H locs) (hAlo : ∀ q, A q → g.2.2 ≤ q) (hM : CZ l g y cy ny rety rm As H A1 Ψ Ξ) (D : Cal y cy ny rety k) (h1 : Cond.methodLink y0.cls idx y ∈ lw_all) (h2 : Cond.static y ∈ lw_all)
    (hk : As.length = k) (hR : rm.frames + 1 ≤ R.frames ∧ 8 + (ny + 11) + rm.locals ≤ R.locals) (hf : cells + rm.cells ≤ R.cells ∧ slots + rm.slots ≤ R.slots) (hsz : ls.size = nL) (hst : (rest.map fun v => v.category).sum ≤ 8) (d : decode cc pc = .ok (.invokestatic idx, 3)) (hstk : st0 = As.reverse ++ rest) :
    vx_Run p l e R s m args below meth c H locs cells slots rm.cells rm.slots (F0 m pc ls st0) rest (QV Ψ As.toArray) (XZ g Ξ) A1 :=
  vx_runS C.fix hM (va_cwS k C.2.2.2.2.1 (lw_S h1 h2 D.2.1 D.1) rfl rfl rfl ⟨D.2.2.1.1, D.2.2.1.2, D.2.2.2⟩ hR) (CX.preZ C hZ hS hAlo) rfl hk hsz hstk (lv_room hst) d hf
end ZCALL
/-! a Refused's, a Fault's own constructor -/
def PcF (g : GX) (ci b : Nat) (av : List Value) (H : Heap) : Array Value → State → Prop := va_Pc av (fun U => KX g U ∧ ZX g U ∧ (∃ kX : Class, U.vm.classes[g.1.1 ci]? = some kX ∧ H[b]? = some (freshCell (g.1.1 ci) kX)) ∧ U.heap = H)
theorem PcF.blind {g : GX} {ci b : Nat} {av : List Value} {H : Heap} : FrameBlind (PcF g ci b av H) := by
  intro a U f mk q
  obtain ⟨q0, q1, q2, q3, q4⟩ := q
  exact ⟨q0, KX.warm (U := U.calling f mk a) (State.WarmedH.refl U) q1, ZX.at q2 (Vm.Alike.refl U.vm) (fun _ _ _ => rfl), q3, q4⟩
def ExnI (g : GX) (ci b : Nat) (n : Int32) (H : Heap) : Option Value → Heap → Prop := fun v H1 => v = none ∧ va_P g.1 cl [(b, .inr (ci, [.int n]))] H1 ∧ FRA (fun q => q = b) H H1
theorem in_Xr : ∀ w ∈ u_ws RX18 TXr 1, w ∈ lw_all := lw_in _ [420] (by decide +kernel) (by decide +kernel)
theorem in_Xf : ∀ w ∈ u_ws RX20 TXf 1, w ∈ lw_all := lw_in _ [480] (by decide +kernel) (by decide +kernel)
set_option maxHeartbeats 4000000 in
theorem ct_X18_init (l : Launch) (hl0 : l.stackTraces = false) {g : GX} {H : Heap} (b : Nat) (n : Int32) : Met l yX18_init (ws_ yX18_init cX18_init 2 none) (rmZ 6 0 0 80) (PcF g 15 b [.ref b, .int n] H) (QV (ExnI g 15 b n H)) 0 0 (fun q => q = b) := by
  refine Met.ofW (cc := cX18_init) (maxL := 2) (ret := none) (by decide) rfl ?_
  intro p e s m args below meth c s₁ B hml hv
  obtain ⟨rfl, hX, hZ, ⟨kX, hkX, hcell⟩, hH⟩ := hv
  have hts0 := atoms_spec (ws := ws_ yX18_init cX18_init 2 none) B.pre
  have hts : ∀ w ∈ lw_all, w.before _ s = true := fun w h => hts0 w (List.mem_cons_of_mem _ h)
  have hx := B.exec
  have hb := B.bytes
  have hr := B.returns
  have hlk := B.notSynchronized
  have hown : s.vm.findClass "WithoutThem$Refused" = some m.cls := findClass_of_methodNamed B.named
  have hin2 : meth.name = "<init>" := (name_of_methodNamed B.named B.method).1
  have hfX : s.vm.findClass "WithoutThem$Refused" = some (g.1.1 15) := (hX.1.1 15 _ rfl).2.1
  have hl := lv_entry [.ref b, .int n] (n := 2) (Nat.le_of_ble_eq_true rfl)
  rw [lg_entry_eq, hH]
  generalize (lg_sl [.ref b, .int n] ++ List.replicate (2 - (lg_sl [.ref b, .int n]).length) Slot.unset).toArray = ls at hl ⊢
  have hl : lv_has ls 2 [(0, .ref b), (1, .int n)] := hl
  refine lv_aload_n hx hb dX18_init_0 rfl (lv_at hl 0 rfl) ?_
  refine x_superE (g := g) (ci := 15) (T1 := TXr) (nm := "number") hx hb hml hown hX hl0 (seW_r hts hX.2.1 hZ) (va_Nw.use rfl (hX.2.1 _ q405 rfl)) (hts _ q420) rfl rfl rfl ⟨by decide, by decide, by decide⟩ hfX hkX hcell hl.1 dX18_init_1 ⟨Nat.le_of_ble_eq_true rfl, Nat.le_of_ble_eq_true rfl⟩ (fun H1 L hL z1 o1 hP => ?_)
  refine lv_aload_n hx hb dX18_init_4 rfl (lv_at hl 0 rfl) ?_
  refine lv_iload_n hx hb dX18_init_5 rfl (lv_at hl 1 rfl) ?_
  have hD : va_D (fun q => q = b) [(b, .inr (15, [.int 0]))] := ⟨fun i j p q hi hj _ => by
      have h1 : i < 1 := (List.getElem?_eq_some_iff.mp hi).1
      have h2 : j < 1 := (List.getElem?_eq_some_iff.mp hj).1
      omega, fun k q hk => by
      have h1 : k < 1 := (List.getElem?_eq_some_iff.mp hk).1
      rw [show k = 0 by omega] at hk
      cases hk
      rfl⟩
  have hS : va_S (fun q => q = b) H H1 L := ⟨Nat.le_of_eq z1.symm, fun q _ h2 => o1 q h2, hL⟩
  refine va_putF (ty := .int) hx hb hts in_Xr (fun _ => .int) (fun _ _ => (by decide : parseFieldDescriptor "I" = some .int)) (fun a ha b hb h => absurd (show a = b by omega) h) hown hX.1 hP hD hS 0 rfl rfl 0 (by decide) (hts _ q415) (fun _ h => h) rfl hin2 rfl (by decide) rfl rfl (by decide) dX18_init_6 (fun H2 locs2 hP2 hD2 hS2 => ?_)
  exact W.vret hx hb hr (fun t ht _ => ⟨none, rfl, rfl, by rw [ht]; exact hP2, by rw [ht]; exact hS2.fra⟩) hS2.2.2 dX18_init_9 hlk
set_option maxHeartbeats 4000000 in
theorem ct_X20_init (l : Launch) (hl0 : l.stackTraces = false) {g : GX} {H : Heap} (b : Nat) (n : Int32) : Met l yX20_init (ws_ yX20_init cX20_init 2 none) (rmZ 6 0 0 80) (PcF g 16 b [.ref b, .int n] H) (QV (ExnI g 16 b n H)) 0 0 (fun q => q = b) := by
  refine Met.ofW (cc := cX20_init) (maxL := 2) (ret := none) (by decide) rfl ?_
  intro p e s m args below meth c s₁ B hml hv
  obtain ⟨rfl, hX, hZ, ⟨kX, hkX, hcell⟩, hH⟩ := hv
  have hts0 := atoms_spec (ws := ws_ yX20_init cX20_init 2 none) B.pre
  have hts : ∀ w ∈ lw_all, w.before _ s = true := fun w h => hts0 w (List.mem_cons_of_mem _ h)
  have hx := B.exec
  have hb := B.bytes
  have hr := B.returns
  have hlk := B.notSynchronized
  have hown : s.vm.findClass "WithoutThem$Fault" = some m.cls := findClass_of_methodNamed B.named
  have hin2 : meth.name = "<init>" := (name_of_methodNamed B.named B.method).1
  have hfX : s.vm.findClass "WithoutThem$Fault" = some (g.1.1 16) := (hX.1.1 16 _ rfl).2.1
  have hl := lv_entry [.ref b, .int n] (n := 2) (Nat.le_of_ble_eq_true rfl)
  rw [lg_entry_eq, hH]
  generalize (lg_sl [.ref b, .int n] ++ List.replicate (2 - (lg_sl [.ref b, .int n]).length) Slot.unset).toArray = ls at hl ⊢
  have hl : lv_has ls 2 [(0, .ref b), (1, .int n)] := hl
  refine lv_aload_n hx hb dX20_init_0 rfl (lv_at hl 0 rfl) ?_
  refine x_superE (g := g) (ci := 16) (T1 := TXf) (nm := "told") hx hb hml hown hX hl0 (seW_f hts hX.2.1 hZ) (va_Nw.use rfl (hX.2.1 _ q478 rfl)) (hts _ q480) rfl rfl rfl ⟨by decide, by decide, by decide⟩ hfX hkX hcell hl.1 dX20_init_1 ⟨Nat.le_of_ble_eq_true rfl, Nat.le_of_ble_eq_true rfl⟩ (fun H1 L hL z1 o1 hP => ?_)
  refine lv_aload_n hx hb dX20_init_4 rfl (lv_at hl 0 rfl) ?_
  refine lv_iload_n hx hb dX20_init_5 rfl (lv_at hl 1 rfl) ?_
  have hD : va_D (fun q => q = b) [(b, .inr (16, [.int 0]))] := ⟨fun i j p q hi hj _ => by
      have h1 : i < 1 := (List.getElem?_eq_some_iff.mp hi).1
      have h2 : j < 1 := (List.getElem?_eq_some_iff.mp hj).1
      omega, fun k q hk => by
      have h1 : k < 1 := (List.getElem?_eq_some_iff.mp hk).1
      rw [show k = 0 by omega] at hk
      cases hk
      rfl⟩
  have hS : va_S (fun q => q = b) H H1 L := ⟨Nat.le_of_eq z1.symm, fun q _ h2 => o1 q h2, hL⟩
  refine va_putF (ty := .int) hx hb hts in_Xf (fun _ => .int) (fun _ _ => (by decide : parseFieldDescriptor "I" = some .int)) (fun a ha b hb h => absurd (show a = b by omega) h) hown hX.1 hP hD hS 0 rfl rfl 0 (by decide) (hts _ q479) (fun _ h => h) rfl hin2 rfl (by decide) rfl rfl (by decide) dX20_init_6 (fun H2 locs2 hP2 hD2 hS2 => ?_)
  exact W.vret hx hb hr (fun t ht _ => ⟨none, rfl, rfl, by rw [ht]; exact hP2, by rw [ht]; exact hS2.fra⟩) hS2.2.2 dX20_init_9 hlk

section ZTH
variable {p : Program} {l : Launch} {e : Env} {R : Room} {s : State} {m : MethodId} {args : Array Value} {below : List Frame} {meth : Method} {c : Code} {H : Heap} {locs : List Loc} {cells slots : Nat} {Q : State → Prop} {pc : Nat} {ls : Array Slot} {rest : List Value} {cc : ByteArray} {g : GX} {nL : Nat} {y0 : MethodName} {ret0 : Option FieldType}
set_option maxHeartbeats 4000000 in
theorem x_newR (C : CX g p s m args meth c cc nL y0 ret0) {idx : Nat} (h1 : Cond.classLink y0.cls idx "WithoutThem$Refused" ∈ lw_all) (hf : cells + 1 ≤ R.cells ∧ slots + 7 ≤ R.slots) (d : decode cc pc = .ok (.new idx, 3))
    (kk : ∀ (H1 : Heap), FRA (fun _ => False) H H1 → H.size < H1.size → (∃ kX : Class, s.vm.classes[g.1.1 15]? = some kX ∧ H1[H.size]? = some (freshCell (g.1.1 15) kX)) → W p l e R s m args below meth c H1 locs (cells + 1) (slots + 7) Q (F0 m (pc + 3) ls (.ref H.size :: rest))) : W p l e R s m args below meth c H locs cells slots Q (F0 m pc ls rest) :=
  W.newcK C.1 C.2.1 C.2.2.2.1 (C.2.2.2.2.1 _ h1) (C.2.2.2.2.1 _ q362) (C.2.2.2.2.1 _ q102) rfl d hf.1 hf.2 (C.2.2.2.2.2.1.1.1 15 _ rfl).2.1 rfl (fun H1 kC hkC e1 z1 o1 => kk H1 ⟨by omega, fun q h1 _ => o1 q h1⟩ (by omega) ⟨kC, hkC, e1⟩)
set_option maxHeartbeats 4000000 in
theorem x_iniR (C : CX g p s m args meth c cc nL y0 ret0) (hl0 : l.stackTraces = false) (hZ : ZX g s) {b : Nat} {n : Int32} {idx : Nat} (h1 : Cond.methodLink y0.cls idx yX18_init ∈ lw_all) (hfr : ∃ kX : Class, s.vm.classes[g.1.1 15]? = some kX ∧ H[b]? = some (freshCell (g.1.1 15) kX)) (hkeep : ∀ q : Nat, q < s.heap.size → ¬ g.2.2 ≤ q → H[q]? = s.heap[q]?) (hR : 7 ≤ R.frames ∧ 101 ≤ R.locals) (hf : cells ≤ R.cells ∧ slots ≤ R.slots) (hsz : ls.size = nL) (hst : ((Value.ref b :: rest).map fun v => v.category).sum ≤ 8) (d : decode cc pc = .ok (.invokespecial idx, 3))
    (kk : ∀ (H1 : Heap) (L : List Loc), va_P g.1 cl [(b, .inr (15, [.int n]))] H1 → FRA (fun q => q = b) H H1 → (∀ z ∈ L, z.base = b) → W p l e R s m args below meth c H1 (locs ++ L) cells slots Q (F0 m (pc + 3) ls (.ref b :: rest))) : W p l e R s m args below meth c H locs cells slots Q (F0 m pc ls (.int n :: .ref b :: .ref b :: rest)) := by
  have hts := C.2.2.2.2.1
  obtain ⟨kX, hkX, hcX⟩ := hfr
  refine x_go (mc := 0) (ms := 0) (va_runI (As := [.int n]) (rest := .ref b :: rest) C.fix (ct_X18_init l hl0 b n) (cwI 1 hts (lw_meth q404) rfl rfl rfl (hts _ q102) (hts _ h1) (hts _ q403) rfl ⟨by decide, by decide, by decide +kernel⟩ hR) ⟨PcF.blind, fun U hU hW => ⟨rfl, KX.warm hW C.2.2.2.2.2.1, ZX.at hZ hW.alike (fun q a1 a2 => by rw [hU]; exact hkeep q a1 a2), by
      obtain ⟨k', hk', he⟩ := hW.alike.2.2 _ _ hkX
      exact ⟨k', hk', by rw [he]; exact hcX⟩, hU⟩⟩ rfl rfl hsz rfl (lv_room hst) d hf) (fun v H1 L h hL => ?_)
  obtain ⟨rfl, hP, hF⟩ := h
  exact kk H1 L hP hF hL
set_option maxHeartbeats 4000000 in
theorem x_newF (C : CX g p s m args meth c cc nL y0 ret0) {idx : Nat} (h1 : Cond.classLink y0.cls idx "WithoutThem$Fault" ∈ lw_all) (hf : cells + 1 ≤ R.cells ∧ slots + 7 ≤ R.slots) (d : decode cc pc = .ok (.new idx, 3))
    (kk : ∀ (H1 : Heap), FRA (fun _ => False) H H1 → H.size < H1.size → (∃ kX : Class, s.vm.classes[g.1.1 16]? = some kX ∧ H1[H.size]? = some (freshCell (g.1.1 16) kX)) → W p l e R s m args below meth c H1 locs (cells + 1) (slots + 7) Q (F0 m (pc + 3) ls (.ref H.size :: rest))) : W p l e R s m args below meth c H locs cells slots Q (F0 m pc ls rest) :=
  W.newcK C.1 C.2.1 C.2.2.2.1 (C.2.2.2.2.1 _ h1) (C.2.2.2.2.1 _ q467) (C.2.2.2.2.1 _ q104) rfl d hf.1 hf.2 (C.2.2.2.2.2.1.1.1 16 _ rfl).2.1 rfl (fun H1 kC hkC e1 z1 o1 => kk H1 ⟨by omega, fun q h1 _ => o1 q h1⟩ (by omega) ⟨kC, hkC, e1⟩)
set_option maxHeartbeats 4000000 in
theorem x_iniF (C : CX g p s m args meth c cc nL y0 ret0) (hl0 : l.stackTraces = false) (hZ : ZX g s) {b : Nat} {n : Int32} {idx : Nat} (h1 : Cond.methodLink y0.cls idx yX20_init ∈ lw_all) (hfr : ∃ kX : Class, s.vm.classes[g.1.1 16]? = some kX ∧ H[b]? = some (freshCell (g.1.1 16) kX)) (hkeep : ∀ q : Nat, q < s.heap.size → ¬ g.2.2 ≤ q → H[q]? = s.heap[q]?) (hR : 7 ≤ R.frames ∧ 101 ≤ R.locals) (hf : cells ≤ R.cells ∧ slots ≤ R.slots) (hsz : ls.size = nL) (hst : ((Value.ref b :: rest).map fun v => v.category).sum ≤ 8) (d : decode cc pc = .ok (.invokespecial idx, 3))
    (kk : ∀ (H1 : Heap) (L : List Loc), va_P g.1 cl [(b, .inr (16, [.int n]))] H1 → FRA (fun q => q = b) H H1 → (∀ z ∈ L, z.base = b) → W p l e R s m args below meth c H1 (locs ++ L) cells slots Q (F0 m (pc + 3) ls (.ref b :: rest))) : W p l e R s m args below meth c H locs cells slots Q (F0 m pc ls (.int n :: .ref b :: .ref b :: rest)) := by
  have hts := C.2.2.2.2.1
  obtain ⟨kX, hkX, hcX⟩ := hfr
  refine x_go (mc := 0) (ms := 0) (va_runI (As := [.int n]) (rest := .ref b :: rest) C.fix (ct_X20_init l hl0 b n) (cwI 1 hts (lw_meth q477) rfl rfl rfl (hts _ q104) (hts _ h1) (hts _ q476) rfl ⟨by decide, by decide, by decide +kernel⟩ hR) ⟨PcF.blind, fun U hU hW => ⟨rfl, KX.warm hW C.2.2.2.2.2.1, ZX.at hZ hW.alike (fun q a1 a2 => by rw [hU]; exact hkeep q a1 a2), by
      obtain ⟨k', hk', he⟩ := hW.alike.2.2 _ _ hkX
      exact ⟨k', hk', by rw [he]; exact hcX⟩, hU⟩⟩ rfl rfl hsz rfl (lv_room hst) d hf) (fun v H1 L h hL => ?_)
  obtain ⟨rfl, hP, hF⟩ := h
  exact kk H1 L hP hF hL
theorem z_throw {Ψ : Option Value → Heap → Prop} {Ξ : Int32 → Heap → Prop} {A : Addr → Prop} {mc ms ci : Nat} {q : Nat} {n : Int32} (C : CX g p s m args meth c cc nL y0 ret0) (hout : ∀ x ∈ c.exceptionTable.toList, False) (hlk : meth.locks = false) (hci : ci = 15 ∨ ci = 16) (hP : va_P g.1 cl [(q, .inr (ci, [.int n]))] H) (hΞ : Ξ n H) (hf : ∀ z ∈ locs, A z.base) (hc : cells ≤ mc) (hs : slots ≤ ms) (d : decode cc pc = .ok (.athrow, 1)) :
    W p l e R s m args below meth c H locs cells slots (vx_MQ below (QV Ψ) (XZ g Ξ) args s mc ms A) (F0 m pc ls (.ref q :: rest)) := by
  obtain ⟨r, h1, cell, q1, q2, q3, -⟩ := hP 0 _ rfl
  refine vx_athrow C.1 C.2.1 d ?_
  rcases hci with rfl | rfl
  · exact vx_out (E := "WithoutThem$Refused") (fun x hx => (hout x hx).elim) hlk q1 q3 (by rw [q2]; exact (C.2.2.2.2.2.1.1.1 15 _ rfl).2.1) (fun t ht _ => ⟨n, by rw [ht]; exact Or.inl ⟨rfl, hP⟩, by rw [ht]; exact hΞ⟩) hf hc hs
  · exact vx_out (E := "WithoutThem$Fault") (fun x hx => (hout x hx).elim) hlk q1 q3 (by rw [q2]; exact (C.2.2.2.2.2.1.1.1 16 _ rfl).2.1) (fun t ht _ => ⟨n, by rw [ht]; exact Or.inr ⟨rfl, hP⟩, by rw [ht]; exact hΞ⟩) hf hc hs
end ZTH
/-! what is refused, as a value -/
def badB (b : Bool) (o : Int32) : Option Int32 := if b = true then none else some o
theorem badB_none {b : Bool} {o : Int32} (h : badB b o = none) : b = true := by
  cases b with
  | true => rfl
  | false => cases h
theorem badB_t {b : Bool} {o : Int32} (h : b = true) : badB b o = none := by rw [h]; rfl
theorem badB_f {b : Bool} {o : Int32} (h : b = false) : badB b o = some o := by rw [h]; rfl
def inR (x : Int32) (n : Nat) : Bool := decide (0 ≤ x.toInt ∧ x.toInt < n)
theorem inR_ex {x : Int32} {n : Nat} (h : inR x n = true) : ∃ j, j < n ∧ j < 2 ^ 31 ∧ x = nI j := by
  have h1 := of_decide_eq_true h
  have h2 : ¬ x < 0 := fun z => by
    have h3 := Int32.lt_iff_toInt_lt.mp z
    have h4 : (0 : Int32).toInt = 0 := by decide
    omega
  obtain ⟨j, hj, e⟩ := nI_of h2
  subst e
  have h5 := nI_toInt hj
  exact ⟨j, by omega, hj, rfl⟩
theorem inR_nI {j n : Nat} (hj : j < 2 ^ 31) : inR (nI j) n = decide (j < n) := by
  unfold inR
  rw [nI_toInt hj]
  by_cases h : j < n
  · rw [decide_eq_true h, decide_eq_true]; omega
  · rw [decide_eq_false h, decide_eq_false]; omega
theorem lN_toI {k : Nat} (h : k < 2 ^ 31) : (lN k).toInt = (k : Int) := lN_toInt h
/-! written under its own ints -/
theorem inL_k (x : Int32) {k : Nat} (hk : k < 2 ^ 31) : (decide (lN 0 ≤ x.toInt64) && decide (x.toInt64 ≤ lN k)) = inR x (k + 1) := by
  unfold inR
  have e0 : (lN 0).toInt = 0 := lN_toInt (by decide)
  have ek := lN_toInt hk
  by_cases h1 : lN 0 ≤ x.toInt64 <;> by_cases h2 : x.toInt64 ≤ lN k
  all_goals
    have g1 := h1; have g2 := h2
    rw [Int64.le_iff_toInt_le, Int32.toInt_toInt64] at g1 g2
    simp only [h1, h2, decide_true, decide_false, Bool.and_true, Bool.and_false]
    symm
    first | (apply decide_eq_true; omega) | (apply decide_eq_false; omega)
theorem inL_m (x : Int32) {n : Nat} (hn : n < 2 ^ 30) : (decide (lN 0 ≤ x.toInt64) && decide (x.toInt64 ≤ (nI n - nI 1).toInt64)) = inR x n := by
  unfold inR
  have e0 : (lN 0).toInt = 0 := lN_toInt (by decide)
  have ek : (nI n - nI 1).toInt64.toInt = (n : Int) - 1 := by
    rw [Int32.toInt_toInt64, pk_sub_toInt hn (by decide)]
    rfl
  by_cases h1 : lN 0 ≤ x.toInt64 <;> by_cases h2 : x.toInt64 ≤ (nI n - nI 1).toInt64
  all_goals
    have g1 := h1; have g2 := h2
    rw [Int64.le_iff_toInt_le, Int32.toInt_toInt64] at g1 g2
    simp only [h1, h2, decide_true, decide_false, Bool.and_true, Bool.and_false]
    symm
    first | (apply decide_eq_true; omega) | (apply decide_eq_false; omega)
