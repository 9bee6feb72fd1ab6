/-! ===== BASE: classes of the run, words that ride along, contracts, calls ===== -/
set_option maxRecDepth 100000
/-- class data, array classes, where the run's own cells begin -/
abbrev GX : Type := va_G × (Nat → ClassId) × Nat
def TE : u_T := fun _ => ("", "", "", false)
def TXr : u_T := fun _ => (RX18, "number", "I", true)
def TXf : u_T := fun _ => (RX20, "told", "I", true)
def cl : List vw_C := [(RX0, TX0, 18), (RX15, TX15, 9), (RX2, TE, 0), (RX3, TE, 0), (RX4, TE, 0), (RX5, TE, 0), (RX6, TE, 0), (RX7, TE, 0), (RX9, TE, 0), (RX10, TE, 0), (RX11, TE, 0), (RX12, TE, 0), (RX13, TE, 0), (RX14, TE, 0), (RX16, TX16, 26), (RX18, TXr, 1), (RX20, TXf, 1), (RX19, TX19, 3), (RX22, TX22, 4), (RX24, TX24, 3), (RX25, TX25, 3), (RX23, TX23, 3), (RX26, TX26, 3)]
def tys (g : GX) : List (ClassId × FieldType) := [(g.2.1 0, .int), (g.2.1 1, .byte), (g.2.1 2, .char), (g.2.1 3, .long), (g.2.1 4, .object "WithoutThem$Kind"), (g.2.1 5, .object "WithoutThem$Seeker"), (g.2.1 6, .object "WithoutThem$Told")]
/-- words that don't ride in the list, but hold all through -/
def lw_isN (w : Cond) : Bool := match w with
  | .fieldLinkNest _ _ _ _ _ _ => true
  | .methodLinkNest _ _ _ _ => true
  | .castable _ _ => true
  | .declares _ => true
  | _ => false
def KN (U : State) : Prop := ∀ w, w ∈ lw_tbl → lw_isN w = true → va_Nw w U
theorem KN.warm {s U : State} (hW : s.WarmedH U.vm) (h : KN s) : KN U := by
  intro w hw hn
  have h1 := h w hw hn
  cases w
  case fieldLinkNest => exact va_Nw.warmF hW h1
  case methodLinkNest => exact va_Nw.warmM hW h1
  case castable => exact va_Nw.warmC hW h1
  case declares => exact va_Nw.warmD hW h1
  all_goals cases hn
theorem KN.of {args : Array Value} {s : State} (h : ∀ w ∈ lw_tbl, w.before args s = true) : KN s := by
  intro w hw hn
  have h1 := h w hw
  cases w
  case fieldLinkNest => exact va_Nw.of rfl h1
  case methodLinkNest => exact va_Nw.of rfl h1
  case castable => exact va_Nw.of rfl h1
  case declares => exact va_Nw.of rfl h1
  all_goals cases hn
def KA (U : State) : Prop := va_AO "WithoutThem$Kind" U ∧ va_AO "WithoutThem$Seeker" U ∧ va_AO "WithoutThem$Told" U
def KX (g : GX) (U : State) : Prop := va_K g.1 cl (tys g) U ∧ KN U ∧ KA U
theorem KX.warm {g : GX} {s U : State} (hW : s.WarmedH U.vm) (h : KX g s) : KX g U := ⟨va_K.moved hW.alike h.1, KN.warm hW h.2.1, va_AO.moved hW.alike h.2.2.1, va_AO.moved hW.alike h.2.2.2.1, va_AO.moved hW.alike h.2.2.2.2⟩
/-- what a method is called with: these arguments, in this heap -/
def PcX (g : GX) (av : List Value) (H : Heap) : Array Value → State → Prop := va_Pc av (fun U => KX g U ∧ U.heap = H)
theorem PcX.blind {g : GX} {av : List Value} {H : Heap} : FrameBlind (PcX g av H) := by
  intro a U f mk q
  obtain ⟨q0, q1, q2⟩ := q
  exact ⟨q0, KX.warm (U := U.calling f mk a) (State.WarmedH.refl U) q1, q2⟩
def QV (Ψ : Option Value → Heap → Prop) : Array Value → State → Outcome → State → Prop := fun _ _ o t => ∃ v, o = .returned v ∧ Ψ v t.heap
/-- a contract: from the heap H with the arguments av: the method returns v and leaves the heap H1 with Ψ v H1; of what was there it writes but A -/
def Ct (l : Launch) (g : GX) (y : MethodName) (cc : ByteArray) (nL : Nat) (ret : Option FieldType) (rm : Room) (av : List Value) (H : Heap) (A : Addr → Prop) (Ψ : Option Value → Heap → Prop) : Prop :=
  Met l y (ws_ y cc nL ret) rm (PcX g av H) (QV Ψ) rm.cells rm.slots A
abbrev rmR (f n : Nat) : Room := { frames := f, cells := 0, slots := 0, locals := n }
/-- a contract of a method that only reads: its answer -/
def CtR (l : Launch) (g : GX) (y : MethodName) (cc : ByteArray) (nL : Nat) (ret : Option FieldType) (f n : Nat) (av : List Value) (H : Heap) (r : Option Value) : Prop :=
  Ct l g y cc nL ret (rmR f n) av H (fun _ => False) (fun v H1 => v = r ∧ H1 = H)
/-- what stands through a method's body -/
def CX (g : GX) (p : Program) (s : State) (m : MethodId) (args : Array Value) (meth : Method) (c : Code) (cc : ByteArray) (nL : Nat) (y : MethodName) (ret : Option FieldType) : Prop :=
  p.tables.exec = Jvm.exec ∧ c.code = cc ∧ c.maxLocals = nL ∧ s.vm.findClass y.cls = some m.cls ∧ (∀ w ∈ lw_all, w.before args s = true) ∧ KX g s ∧ meth.locks = false ∧ meth.sig.returnType = ret ∧ meth.name = y.name
theorem Ct.of {l : Launch} {g : GX} {y : MethodName} {cc : ByteArray} {nL : Nat} {ret : Option FieldType} {rm : Room} {av : List Value} {H : Heap} {A : Addr → Prop} {Ψ : Option Value → Heap → Prop} (hy : plainName y.cls = true) (hlen : (lg_sl av).length ≤ nL)
    (body : ∀ (p : Program) (e : Env) (s : State) (m : MethodId) (args : Array Value) (below : List Frame) (meth : Method) (c : Code), CX g p s m args meth c cc nL y ret → s.heap = H → ∀ ls : Array Slot, lv_has ls nL (lv_args 0 av) →
      W p l e rm s m args below meth c H [] 0 0 (MQ below (QV Ψ) args s rm.cells rm.slots A) (F0 m 0 ls [])) : Ct l g y cc nL ret rm av H A Ψ := by
  refine Met.ofW (cc := cc) (maxL := nL) (ret := ret) hy rfl ?_
  intro p e s m args below meth c s₁ B hml hv
  obtain ⟨rfl, hK, hH⟩ := hv
  have hts := atoms_spec (ws := ws_ y cc nL ret) B.pre
  have hl := lv_entry av (n := nL) hlen
  rw [lg_entry_eq, hH]
  exact body p e s m _ below meth c ⟨B.exec, B.bytes, hml, findClass_of_methodNamed B.named, fun w h => hts w (List.mem_cons_of_mem _ h), hK, B.notSynchronized, B.returns, (name_of_methodNamed B.named B.method).1⟩ hH _ hl
theorem CtR.of {l : Launch} {g : GX} {y : MethodName} {cc : ByteArray} {nL : Nat} {ret : Option FieldType} {f n : Nat} {av : List Value} {H : Heap} {r : Option Value} (hy : plainName y.cls = true) (hlen : (lg_sl av).length ≤ nL)
    (body : ∀ (p : Program) (e : Env) (s : State) (m : MethodId) (args : Array Value) (below : List Frame) (meth : Method) (c : Code), CX g p s m args meth c cc nL y ret → s.heap = H → ∀ ls : Array Slot, lv_has ls nL (lv_args 0 av) →
      W p l e (rmR f n) s m args below meth c H [] 0 0 (MQ below (QV (fun v H1 => v = r ∧ H1 = H)) args s 0 0 (fun _ => False)) (F0 m 0 ls [])) : CtR l g y cc nL ret f n av H r := Ct.of hy hlen body
section XR
variable {p : Program} {l : Launch} {e : Env} {R : Room} {s : State} {m : MethodId} {args : Array Value} {below : List Frame} {meth : Method} {c : Code} {H : Heap} {locs : List Loc} {cells slots : Nat} {Q : State → Prop} {pc : Nat} {ls : Array Slot} {rest st0 : List Value} {cc : ByteArray} {Ψ : Option Value → Heap → Prop} {A : Addr → Prop} {mc ms : Nat}
/-! ends -/
theorem x_iret (hx : p.tables.exec = Jvm.exec) (hb : c.code = cc) (hr : meth.sig.returnType = some .int) (hlk : meth.locks = false) {v : Int32} (hc : cells ≤ mc) (hs : slots ≤ ms) (hf : ∀ q ∈ locs, A q.base) (d : decode cc pc = .ok (.ireturn, 1)) (h : Ψ (some (.int v)) H) :
    W p l e R s m args below meth c H locs cells slots (MQ below (QV Ψ) args s mc ms A) (F0 m pc ls [.int v]) :=
  W.widen hc hs (W.iret hx hb hr (fun t ht _ => ⟨_, rfl, by rw [ht]; exact h⟩) hf d hlk)
theorem x_zret (hx : p.tables.exec = Jvm.exec) (hb : c.code = cc) (hr : meth.sig.returnType = some .boolean) (hlk : meth.locks = false) {v : Int32} (hn : v = 0 ∨ v = 1) (hc : cells ≤ mc) (hs : slots ≤ ms) (hf : ∀ q ∈ locs, A q.base) (d : decode cc pc = .ok (.ireturn, 1)) (h : Ψ (some (.int v)) H) :
    W p l e R s m args below meth c H locs cells slots (MQ below (QV Ψ) args s mc ms A) (F0 m pc ls [.int v]) :=
  W.widen hc hs (W.zret hx hb hr (by rcases hn with rfl | rfl <;> rfl) (fun t ht _ => ⟨_, rfl, by rw [ht]; exact h⟩) hf d hlk)
theorem x_lret (hx : p.tables.exec = Jvm.exec) (hb : c.code = cc) (hr : meth.sig.returnType = some .long) (hlk : meth.locks = false) {v : Int64} (hc : cells ≤ mc) (hs : slots ≤ ms) (hf : ∀ q ∈ locs, A q.base) (d : decode cc pc = .ok (.lreturn, 1)) (h : Ψ (some (.long v)) H) :
    W p l e R s m args below meth c H locs cells slots (MQ below (QV Ψ) args s mc ms A) (F0 m pc ls [.long v]) :=
  W.widen hc hs (W.lret hx hb hr (fun t ht _ => ⟨_, rfl, by rw [ht]; exact h⟩) hf d hlk)
theorem x_vret (hx : p.tables.exec = Jvm.exec) (hb : c.code = cc) (hr : meth.sig.returnType = none) (hlk : meth.locks = false) (hc : cells ≤ mc) (hs : slots ≤ ms) (hf : ∀ q ∈ locs, A q.base) (d : decode cc pc = .ok (.return_, 1)) (h : Ψ none H) :
    W p l e R s m args below meth c H locs cells slots (MQ below (QV Ψ) args s mc ms A) (F0 m pc ls []) :=
  W.widen hc hs (W.vret hx hb hr (fun t ht _ => ⟨_, rfl, by rw [ht]; exact h⟩) hf d hlk)
/-! numbers on the stack under another name -/
theorem x_ni {x y : Int32} (h : x = y) (k : W p l e R s m args below meth c H locs cells slots Q (F0 m pc ls (.int y :: rest))) : W p l e R s m args below meth c H locs cells slots Q (F0 m pc ls (.int x :: rest)) := by
  rw [h]; exact k
theorem x_nl {x y : Int64} (h : x = y) (k : W p l e R s m args below meth c H locs cells slots Q (F0 m pc ls (.long y :: rest))) : W p l e R s m args below meth c H locs cells slots Q (F0 m pc ls (.long x :: rest)) := by
  rw [h]; exact k
theorem x_nv {x y : Value} (h : x = y) (k : W p l e R s m args below meth c H locs cells slots Q (F0 m pc ls (y :: rest))) : W p l e R s m args below meth c H locs cells slots Q (F0 m pc ls (x :: rest)) := by
  rw [h]; exact k
/-! behind a call -/
theorem x_go {a : Array Value} {A1 : Addr → Prop} (hr : va_Run p l e R s m args below meth c H locs cells slots mc ms (F0 m pc ls st0) rest (QV Ψ a) A1)
    (kk : ∀ (v : Option Value) (H1 : Heap) (L : List Loc), Ψ v H1 → (∀ q ∈ L, A1 q.base) → W p l e R s m args below meth c H1 (locs ++ L) (cells + mc) (slots + ms) Q (F0 m (pc + 3) ls (v.toList ++ rest))) : W p l e R s m args below meth c H locs cells slots Q (F0 m pc ls st0) := by
  intro T hT X
  obtain ⟨v, st₀, t, T', L, h0, X', hL, e1, e2, ⟨v', hv, hΨ⟩, st⟩ := hr T hT X
  cases hv
  obtain ⟨t2, a1, b1⟩ := kk v T'.heap L (by rw [e1]; exact hΨ) hL T' rfl X'
  exact ⟨t2, st t2 a1, b1⟩
theorem x_goR {a : Array Value} {r : Value} (hr : va_Run p l e R s m args below meth c H locs cells slots 0 0 (F0 m pc ls st0) rest (QV (fun v H1 => v = some r ∧ H1 = H) a) (fun _ => False))
    (kk : W p l e R s m args below meth c H locs cells slots Q (F0 m (pc + 3) ls (r :: rest))) : W p l e R s m args below meth c H locs cells slots Q (F0 m pc ls st0) := by
  refine x_go hr (fun v H1 L hΨ hL => ?_)
  obtain ⟨rfl, rfl⟩ := hΨ
  have hL0 : L = [] := by
    cases L with
    | nil => rfl
    | cons q L => exact (hL q List.mem_cons_self).elim
  rw [hL0, List.append_nil]
  exact kk
theorem x_goR0 {a : Array Value} (hr : va_Run p l e R s m args below meth c H locs cells slots 0 0 (F0 m pc ls st0) rest (QV (fun v H1 => v = none ∧ H1 = H) a) (fun _ => False))
    (kk : W p l e R s m args below meth c H locs cells slots Q (F0 m (pc + 3) ls rest)) : W p l e R s m args below meth c H locs cells slots Q (F0 m pc ls st0) := by
  refine x_go hr (fun v H1 L hΨ hL => ?_)
  obtain ⟨rfl, rfl⟩ := hΨ
  have hL0 : L = [] := by
    cases L with
    | nil => rfl
    | cons q L => exact (hL q List.mem_cons_self).elim
  rw [hL0, List.append_nil]
  exact kk
end XR
/-! ===== calls ===== -/
/-- what is known of a callee once for all: its code, its class, how many arguments -/
def Cal (y : MethodName) (cy : ByteArray) (ny : Nat) (rety : Option FieldType) (k : Nat) : Prop := Cond.code y cy ny rety ∈ lw_all ∧ Cond.initialized y.cls ∈ lw_all ∧ (y.cls ≠ "java/lang/invoke/MethodHandle" ∧ y.cls ≠ "java/lang/invoke/VarHandle") ∧ (parseMethodDescriptor y.desc).map (fun d => d.parameters.length) = some k
def Recv (s : State) (H : Heap) (C : String) (b : Addr) : Prop := ∃ cellB : Cell, H[b]? = some cellB ∧ cellB.vm.isStatics = false ∧ s.vm.findClass C = some cellB.cls
theorem lw_U {own : String} {idx : Nat} {C owner : String} {x y : MethodName} {b : ByteArray} {L : Nat} {r : Option FieldType} (h1 : Cond.methodLink own idx x ∈ lw_all) (h2 : Cond.sameMethod x.cls owner x.name x.desc ∈ lw_all) (h3 : Cond.selects C x y ∈ lw_all) (h4 : Cond.instanceMethod y ∈ lw_all) (h5 : Cond.initialized y.cls ∈ lw_all) (h6 : Cond.code y b L r ∈ lw_all) : GoodIn lw_all (va_wsU own idx C owner x y (ws_ y b L r)) := by
  refine lw_app ?_ (lw_meth h6)
  intro w hw
  simp only [List.mem_cons, List.not_mem_nil, or_false] at hw
  rcases hw with e | e | e | e | e
  · rw [e]; exact h1
  · rw [e]; exact h2
  · rw [e]; exact h3
  · rw [e]; exact h4
  · rw [e]; exact h5
theorem lw_SU {own : String} {idx : Nat} {y : MethodName} {b : ByteArray} {L : Nat} {r : Option FieldType} (h1 : Cond.methodLink own idx y ∈ lw_all) (h2 : Cond.sameMethod y.cls y.cls y.name y.desc ∈ lw_all) (h3 : Cond.superclass own y.cls ∈ lw_all) (h4 : Cond.instanceMethod y ∈ lw_all) (h5 : Cond.initialized y.cls ∈ lw_all) (h6 : Cond.code y b L r ∈ lw_all) : GoodIn lw_all (va_wsSU own idx y (ws_ y b L r)) := by
  refine lw_app ?_ (lw_meth h6)
  intro w hw
  simp only [List.mem_cons, List.not_mem_nil, or_false] at hw
  rcases hw with e | e | e | e | e
  · rw [e]; exact h1
  · rw [e]; exact h2
  · rw [e]; exact h3
  · rw [e]; exact h4
  · rw [e]; exact h5
section XCALL
variable {p : Program} {l : Launch} {e : Env} {R : Room} {s : State} {m : MethodId} {args : Array Value} {below : List Frame} {meth : Method} {c : Code} {H : Heap} {locs : List Loc} {cells slots : Nat} {pc : Nat} {ls : Array Slot} {rest st0 As : List Value} {cc : ByteArray} {Ψ : Option Value → Heap → Prop} {A1 : Addr → Prop}
variable {g : GX} {nL : Nat} {y0 y : MethodName} {ret0 rety : Option FieldType} {cy : ByteArray} {ny k idx : Nat} {rm : Room} {b : Addr}
theorem CX.fix (C : CX g p s m args meth c cc nL y0 ret0) : CallFix p m c cc nL s args lw_all y0.cls := ⟨C.1, C.2.1, C.2.2.1, C.2.2.2.1, C.2.2.2.2.1⟩
theorem CX.pre {av : List Value} (C : CX g p s m args meth c cc nL y0 ret0) : PreS s H (PcX g av H) av := ⟨PcX.blind, fun _ hU hW => ⟨rfl, KX.warm hW C.2.2.2.2.2.1, hU⟩⟩
/-- a call through an object of the class itself -/
theorem runV (C : CX g p s m args meth c cc nL y0 ret0) (hM : Ct l g y cy ny rety rm (.ref b :: As) H A1 Ψ) (D : Cal y cy ny rety k) (h1 : Cond.methodLink y0.cls idx y ∈ lw_all) (h2 : Cond.instanceMethod y ∈ lw_all) (h3 : Cond.selects y.cls y y ∈ lw_all) (hv : Recv s H y.cls b)
    (hk : As.length = k) (hR : rm.frames + 1 ≤ R.frames ∧ 8 + (ny + 11) + rm.locals ≤ R.locals) (hf : cells + rm.cells ≤ R.cells ∧ slots + rm.slots ≤ R.slots) (hsz : ls.size = nL) (hst : (rest.map fun v => v.category).sum ≤ 8) (d : decode cc pc = .ok (.invokevirtual idx, 3)) (hstk : st0 = As.reverse ++ .ref b :: rest) :
    va_Run p l e R s m args below meth c H locs cells slots rm.cells rm.slots (F0 m pc ls st0) rest (QV Ψ (Value.ref b :: As).toArray) A1 :=
  va_runV C.fix hM (cwV k C.2.2.2.2.1 (lw_V h1 h2 h3 D.2.1 D.1) rfl rfl rfl ⟨rfl, D.2.2.1.1, D.2.2.1.2, D.2.2.2⟩ hR) ⟨PcX.blind, hv, (CX.pre C).2⟩ rfl hk hsz hstk (lv_room hst) d hf
/-- a static call -/
theorem runS (C : CX g p s m args meth c cc nL y0 ret0) (hM : Ct l g y cy ny rety rm As H A1 Ψ) (D : Cal y cy ny rety k) (h1 : Cond.methodLink y0.cls idx y ∈ lw_all) (h2 : Cond.static y ∈ lw_all)
    (hk : As.length = k) (hR : rm.frames + 1 ≤ R.frames ∧ 8 + (ny + 11) + rm.locals ≤ R.locals) (hf : cells + rm.cells ≤ R.cells ∧ slots + rm.slots ≤ R.slots) (hsz : ls.size = nL) (hst : (rest.map fun v => v.category).sum ≤ 8) (d : decode cc pc = .ok (.invokestatic idx, 3)) (hstk : st0 = As.reverse ++ rest) :
    va_Run p l e R s m args below meth c H locs cells slots rm.cells rm.slots (F0 m pc ls st0) rest (QV Ψ As.toArray) A1 :=
  va_runS C.fix hM (va_cwS k C.2.2.2.2.1 (lw_S h1 h2 D.2.1 D.1) rfl rfl rfl ⟨D.2.2.1.1, D.2.2.1.2, D.2.2.2⟩ hR) (CX.pre C) rfl hk hsz hstk (lv_room hst) d hf
/-- a static call of a nest mate's private method -/
theorem runSN {host : String} (C : CX g p s m args meth c cc nL y0 ret0) (hM : Ct l g y cy ny rety rm As H A1 Ψ) (D : Cal y cy ny rety k) (h1 : Cond.methodLinkNest y0.cls idx y host ∈ lw_tbl) (h2 : Cond.static y ∈ lw_all)
    (hk : As.length = k) (hR : rm.frames + 1 ≤ R.frames ∧ 8 + (ny + 11) + rm.locals ≤ R.locals) (hf : cells + rm.cells ≤ R.cells ∧ slots + rm.slots ≤ R.slots) (hsz : ls.size = nL) (hst : (rest.map fun v => v.category).sum ≤ 8) (d : decode cc pc = .ok (.invokestatic idx, 3)) (hstk : st0 = As.reverse ++ rest) :
    va_Run p l e R s m args below meth c H locs cells slots rm.cells rm.slots (F0 m pc ls st0) rest (QV Ψ As.toArray) A1 :=
  va_runSN C.fix hM ⟨va_cnB (host := host) k C.2.2.2.2.1 (lw_meth D.1) rfl rfl rfl (C.2.2.2.2.2.1.2.1 _ h1 rfl) (C.2.2.2.2.1 _ D.2.1) ⟨D.2.2.1.1, D.2.2.1.2, D.2.2.2⟩ hR, C.2.2.2.2.1 _ h2, trivial⟩ (CX.pre C) rfl hk hsz hstk (lv_room hst) d hf
/-- a constructor -/
theorem runI (C : CX g p s m args meth c cc nL y0 ret0) (hM : Ct l g y cy ny none rm (.ref b :: As) H A1 Ψ) (D : Cal y cy ny none k) (h1 : Cond.methodLink y0.cls idx y ∈ lw_all) (h2 : Cond.instanceMethod y ∈ lw_all) (hy1 : y.name = "<init>")
    (hk : As.length = k) (hR : rm.frames + 1 ≤ R.frames ∧ 8 + (ny + 11) + rm.locals ≤ R.locals) (hf : cells + rm.cells ≤ R.cells ∧ slots + rm.slots ≤ R.slots) (hsz : ls.size = nL) (hst : (rest.map fun v => v.category).sum ≤ 8) (d : decode cc pc = .ok (.invokespecial idx, 3)) (hstk : st0 = As.reverse ++ .ref b :: rest) :
    va_Run p l e R s m args below meth c H locs cells slots rm.cells rm.slots (F0 m pc ls st0) rest (QV Ψ (Value.ref b :: As).toArray) A1 :=
  va_runI C.fix hM (cwI k C.2.2.2.2.1 (lw_meth D.1) rfl rfl rfl (C.2.2.2.2.1 _ D.2.1) (C.2.2.2.2.1 _ h1) (C.2.2.2.2.1 _ h2) hy1 ⟨D.2.2.1.1, D.2.2.1.2, D.2.2.2⟩ hR) (CX.pre C) rfl hk hsz hstk (lv_room hst) d hf
/-- a nest mate's private constructor -/
theorem runIN {host : String} (C : CX g p s m args meth c cc nL y0 ret0) (hM : Ct l g y cy ny none rm (.ref b :: As) H A1 Ψ) (D : Cal y cy ny none k) (h1 : Cond.methodLinkNest y0.cls idx y host ∈ lw_tbl) (h2 : Cond.instanceMethod y ∈ lw_all) (hy1 : y.name = "<init>")
    (hk : As.length = k) (hR : rm.frames + 1 ≤ R.frames ∧ 8 + (ny + 11) + rm.locals ≤ R.locals) (hf : cells + rm.cells ≤ R.cells ∧ slots + rm.slots ≤ R.slots) (hsz : ls.size = nL) (hst : (rest.map fun v => v.category).sum ≤ 8) (d : decode cc pc = .ok (.invokespecial idx, 3)) (hstk : st0 = As.reverse ++ .ref b :: rest) :
    va_Run p l e R s m args below meth c H locs cells slots rm.cells rm.slots (F0 m pc ls st0) rest (QV Ψ (Value.ref b :: As).toArray) A1 :=
  va_runIN C.fix hM ⟨va_cnB (host := host) k C.2.2.2.2.1 (lw_meth D.1) rfl rfl rfl (C.2.2.2.2.2.1.2.1 _ h1 rfl) (C.2.2.2.2.1 _ D.2.1) ⟨D.2.2.1.1, D.2.2.1.2, D.2.2.2⟩ hR, hy1, C.2.2.2.2.1 _ h2⟩ (CX.pre C) rfl hk hsz hstk (lv_room hst) d hf
/-- a call that names x, on an object of the class Cn, which has y for it -/
theorem runU {x : MethodName} {Cn : String} (C : CX g p s m args meth c cc nL y0 ret0) (hM : Ct l g y cy ny rety rm (.ref b :: As) H A1 Ψ) (D : Cal y cy ny rety k) (h1 : Cond.methodLink y0.cls idx x ∈ lw_all) (h2 : Cond.sameMethod x.cls x.cls x.name x.desc ∈ lw_all) (h3 : Cond.selects Cn x y ∈ lw_all) (h4 : Cond.instanceMethod y ∈ lw_all) (h5 : Cond.declares x ∈ lw_tbl)
    (hd : x.cls ≠ "java/lang/invoke/MethodHandle" ∧ x.cls ≠ "java/lang/invoke/VarHandle" ∧ (parseMethodDescriptor x.desc).map (fun d => d.parameters.length) = some k) (hv : Recv s H Cn b)
    (hk : As.length = k) (hR : rm.frames + 1 ≤ R.frames ∧ 8 + (ny + 11) + rm.locals ≤ R.locals) (hf : cells + rm.cells ≤ R.cells ∧ slots + rm.slots ≤ R.slots) (hsz : ls.size = nL) (hst : (rest.map fun v => v.category).sum ≤ 8) (d : decode cc pc = .ok (.invokevirtual idx, 3)) (hstk : st0 = As.reverse ++ .ref b :: rest) :
    va_Run p l e R s m args below meth c H locs cells slots rm.cells rm.slots (F0 m pc ls st0) rest (QV Ψ (Value.ref b :: As).toArray) A1 :=
  va_runU C.fix hM (va_cwA (owner := x.cls) k C.2.2.2.2.1 (lw_U h1 h2 h3 h4 D.2.1 D.1) rfl rfl rfl (C.2.2.2.2.2.1.2.1 _ h5 rfl) hd hR) ⟨PcX.blind, hv, (CX.pre C).2⟩ rfl hk hsz hstk (lv_room hst) d hf
/-- super.y(..) on an object of the class Cn -/
theorem runSU {Cn : String} {cC : ClassId} (C : CX g p s m args meth c cc nL y0 ret0) (hat : ClassAt s Cn cC) (hM : Ct l g y cy ny rety rm (.ref b :: As) H A1 Ψ) (D : Cal y cy ny rety k) (h1 : Cond.methodLink y0.cls idx y ∈ lw_all) (h2 : Cond.sameMethod y.cls y.cls y.name y.desc ∈ lw_all) (h3 : Cond.superclass y0.cls y.cls ∈ lw_all) (h4 : Cond.instanceMethod y ∈ lw_all) (hn : y.name ≠ "<init>") (hv : Recv s H Cn b)
    (hk : As.length = k) (hR : rm.frames + 1 ≤ R.frames ∧ 8 + (ny + 11) + rm.locals ≤ R.locals) (hf : cells + rm.cells ≤ R.cells ∧ slots + rm.slots ≤ R.slots) (hsz : ls.size = nL) (hst : (rest.map fun v => v.category).sum ≤ 8) (d : decode cc pc = .ok (.invokespecial idx, 3)) (hstk : st0 = As.reverse ++ .ref b :: rest) :
    va_Run p l e R s m args below meth c H locs cells slots rm.cells rm.slots (F0 m pc ls st0) rest (QV Ψ (Value.ref b :: As).toArray) A1 :=
  va_runSU hat C.fix hM (va_cwSU k C.2.2.2.2.1 (lw_SU h1 h2 h3 h4 D.2.1 D.1) rfl rfl rfl ⟨hn, D.2.2.2⟩ hR) ⟨PcX.blind, hv, (CX.pre C).2⟩ rfl hk hsz hstk (lv_room hst) d hf
end XCALL
