/-! ===== methods that write: how the world goes on behind a call; what is refused, one check after another ===== -/
set_option maxRecDepth 100000
theorem Wd.start {g : GX} {A : Nat → Prop} {H : Heap} {ws : va_W} (hP : va_P g.1 cl ws H) (hD : va_D A ws) : Wd g A H ws H [] := ⟨hP, hD, va_S.rf⟩
theorem Wd.call {g : GX} {A : Nat → Prop} {H0 H H1 : Heap} {ws ws1 : va_W} {locs L : List Loc} (hW : Wd g A H0 ws H locs) (h : Wd g A H ws1 H1 []) (hL : ∀ q ∈ L, A q.base) : Wd g A H0 ws1 H1 (locs ++ L) := ⟨h.1, h.2.1, hW.2.2.step h.2.2.fra (fun _ z => z) hL⟩
theorem Wd.locs {g : GX} {A : Nat → Prop} {H0 H : Heap} {ws : va_W} {locs L : List Loc} (hW : Wd g A H0 ws H locs) (hL : ∀ q ∈ L, A q.base) : Wd g A H0 ws H L := ⟨hW.1, hW.2.1, hW.2.2.1, hW.2.2.2.1, hL⟩
theorem Wd.nil {g : GX} {A : Nat → Prop} {H0 H : Heap} {ws : va_W} {locs : List Loc} (hW : Wd g A H0 ws H locs) : Wd g A H0 ws H [] := hW.locs (fun _ h => nomatch h)
theorem Wd.lt {g : GX} {A : Nat → Prop} {H0 H : Heap} {ws : va_W} {locs : List Loc} (hW : Wd g A H0 ws H locs) {i : Nat} {q : Nat × va_E} (h : ws[i]? = some q) : q.1 < H.size := (hW.1 i q h).lt
theorem Wd.bad {g : GX} {A : Nat → Prop} {H0 H H1 : Heap} {ws : va_W} {locs : List Loc} (hW : Wd g A H0 ws H locs) (hA : ∀ q, H0.size ≤ q → A q) (hF : FRA (fun q => H.size ≤ q) H H1) : Wd g A H0 ws H1 [] :=
  ⟨hW.1.fra hF (fun i q hq z => absurd (hW.lt hq) (Nat.not_lt.mpr z)), hW.2.1, Nat.le_trans hW.2.2.1 hF.1, fun q h1 h2 => (hF.2 q (Nat.lt_of_lt_of_le h1 hW.2.2.1) (fun z => h2 (hA q (Nat.le_trans hW.2.2.1 z)))).trans (hW.2.2.2.1 q h1 h2), fun _ h => nomatch h⟩
theorem Wd.up {g : GX} {A : Nat → Prop} {H0 H : Heap} {ws : va_W} {locs : List Loc} (hW : Wd g A H0 ws H locs) (hA : ∀ q, H0.size ≤ q → A q) : ∀ q, H.size ≤ q → A q := fun q h => hA q (Nat.le_trans hW.2.2.1 h)
/-- what a callee left behind, when it threw -/
theorem Wd.then {g : GX} {A : Nat → Prop} {H0 H H1 : Heap} {ws ws1 : va_W} {locs : List Loc} (hW : Wd g A H0 ws H locs) (h : Wd g A H ws1 H1 []) : Wd g A H0 ws1 H1 [] := (hW.call (L := []) h (fun _ h => nomatch h)).nil
theorem Wd.lo {g : GX} {A : Nat → Prop} {H0 H : Heap} {ws : va_W} {locs : List Loc} (hW : Wd g A H0 ws H locs) (hlo : ∀ q, A q → g.2.2 ≤ q) (hA : ∀ q, H0.size ≤ q → A q) : g.2.2 ≤ H.size := hlo _ (hW.up hA _ (Nat.le_refl _))
theorem va_S.locs2 {A : Nat → Prop} {H0 H : Heap} {locs L : List Loc} (h : va_S A H0 H locs) (hL : ∀ z ∈ L, A z.base) : va_S A H0 H L := ⟨h.1, h.2.1, hL⟩
/-- a thing to throw is new: nothing else has changed -/
theorem FRA.thrown {H H1 H2 : Heap} (h : FRA (fun _ => False) H H1) (k : FRA (fun q => q = H.size) H1 H2) : FRA (fun q => H.size ≤ q) H H2 :=
  ⟨Nat.le_trans h.1 k.1, fun q h1 h2 => (k.2 q (Nat.lt_of_lt_of_le h1 h.1) (fun z => by omega)).trans (h.2 q h1 (fun z => z))⟩
theorem va_S.fresh {A : Nat → Prop} {s : State} {H H1 : Heap} {locs : List Loc} {lo : Nat} (k : va_S A s.heap H locs) (h : FRA (fun _ => False) H H1) (hlo : ∀ q, A q → lo ≤ q) : ∀ q : Nat, q < s.heap.size → ¬ lo ≤ q → H1[q]? = s.heap[q]? := fun q h1 h2 => (h.2 q (Nat.lt_of_lt_of_le h1 k.1) (fun z => z)).trans (k.2.1 q h1 (fun z => h2 (hlo q z)))
theorem locs_more {A : Nat → Prop} {b : Nat} {locs L : List Loc} (h : ∀ z ∈ locs, A z.base) (hL : ∀ z ∈ L, z.base = b) (hb : A b) : ∀ z ∈ locs ++ L, A z.base := fun z hz => (List.mem_append.mp hz).elim (h z) (fun hz => by rw [hL z hz]; exact hb)
theorem va_S.of0 {A : Nat → Prop} {s : State} {H0 H : Heap} {locs : List Loc} (h : s.heap = H0) (k : va_S A H0 H locs) : va_S A s.heap H locs := h ▸ k
theorem va_S.keep0 {A : Nat → Prop} {s : State} {H : Heap} {locs : List Loc} {lo : Nat} (k : va_S A s.heap H locs) (hlo : ∀ q, A q → lo ≤ q) : ∀ q : Nat, q < s.heap.size → ¬ lo ≤ q → H[q]? = s.heap[q]? := fun q h1 h2 => k.2.1 q h1 (fun z => h2 (hlo q z))
/-- one check after another -/
def bor (a b : Option Int32) : Option Int32 := match a with
  | some x => some x
  | none => b
theorem bor_none {a b : Option Int32} (h : a = none) : bor a b = b := by rw [h]; rfl
theorem bor_some {a b : Option Int32} {x : Int32} (h : a = some x) : bor a b = some x := by rw [h]; rfl
def tN (x : Int32) : Nat := x.toBitVec.toNat
theorem tN_nI {j : Nat} (h : j < 2 ^ 31) : tN (nI j) = j := by
  show (BitVec.ofNat 32 j).toNat = j
  rw [BitVec.toNat_ofNat]
  omega
section RWG
variable {p : Program} {l : Launch} {e : Env} {R : Room} {s : State} {m : MethodId} {args : Array Value} {below : List Frame} {meth : Method} {c : Code} {H : Heap} {locs : List Loc} {cells slots : Nat} {Q : State → Prop} {pc : Nat} {ls : Array Slot} {rest st0 : List Value} {cc : ByteArray} {Ψ : Option Value → Heap → Prop} {Ξ Ξ1 : Int32 → Heap → Prop} {A A1 : Addr → Prop} {mc ms k1 k2 : Nat} {g : GX} {a : Array Value} {Φ : Heap → Prop}
theorem x_goW {r : Value} (hr : va_Run p l e R s m args below meth c H locs cells slots k1 k2 (F0 m pc ls st0) rest (QV (fun v H1 => v = some r ∧ Φ H1) a) A1)
    (kk : ∀ (H1 : Heap) (L : List Loc), Φ H1 → (∀ q ∈ L, A1 q.base) → W p l e R s m args below meth c H1 (locs ++ L) (cells + k1) (slots + k2) Q (F0 m (pc + 3) ls (r :: rest))) : W p l e R s m args below meth c H locs cells slots Q (F0 m pc ls st0) :=
  x_go hr (fun v H1 L hΨ hL => by
    obtain ⟨rfl, h⟩ := hΨ
    exact kk H1 L h hL)
theorem x_goW0 (hr : va_Run p l e R s m args below meth c H locs cells slots k1 k2 (F0 m pc ls st0) rest (QV (fun v H1 => v = none ∧ Φ H1) a) A1)
    (kk : ∀ (H1 : Heap) (L : List Loc), Φ H1 → (∀ q ∈ L, A1 q.base) → W p l e R s m args below meth c H1 (locs ++ L) (cells + k1) (slots + k2) Q (F0 m (pc + 3) ls rest)) : W p l e R s m args below meth c H locs cells slots Q (F0 m pc ls st0) :=
  x_go hr (fun v H1 L hΨ hL => by
    obtain ⟨rfl, h⟩ := hΨ
    exact kk H1 L h hL)
theorem z_goW {r : Value} (hr : vx_Run p l e R s m args below meth c H locs cells slots k1 k2 (F0 m pc ls st0) rest (QV (fun v H1 => v = some r ∧ Φ H1) a) (XZ g Ξ1) A1) (hout : ∀ x ∈ c.exceptionTable.toList, False) (hlk : meth.locks = false) (hΞ : ∀ nn H1, Ξ1 nn H1 → Ξ nn H1) (hA : ∀ z, A1 z → A z) (hf : ∀ z ∈ locs, A z.base) (hc : cells + k1 ≤ mc) (hs : slots + k2 ≤ ms)
    (kk : ∀ (H1 : Heap) (L : List Loc), Φ H1 → (∀ q ∈ L, A1 q.base) → W p l e R s m args below meth c H1 (locs ++ L) (cells + k1) (slots + k2) (vx_MQ below (QV Ψ) (XZ g Ξ) args s mc ms A) (F0 m (pc + 3) ls (r :: rest))) :
    W p l e R s m args below meth c H locs cells slots (vx_MQ below (QV Ψ) (XZ g Ξ) args s mc ms A) (F0 m pc ls st0) :=
  z_goP hr hout hlk hΞ hA hf hc hs (fun v H1 L hΨ hL => by
    obtain ⟨rfl, h⟩ := hΨ
    exact kk H1 L h hL)
theorem z_goW0 (hr : vx_Run p l e R s m args below meth c H locs cells slots k1 k2 (F0 m pc ls st0) rest (QV (fun v H1 => v = none ∧ Φ H1) a) (XZ g Ξ1) A1) (hout : ∀ x ∈ c.exceptionTable.toList, False) (hlk : meth.locks = false) (hΞ : ∀ nn H1, Ξ1 nn H1 → Ξ nn H1) (hA : ∀ z, A1 z → A z) (hf : ∀ z ∈ locs, A z.base) (hc : cells + k1 ≤ mc) (hs : slots + k2 ≤ ms)
    (kk : ∀ (H1 : Heap) (L : List Loc), Φ H1 → (∀ q ∈ L, A1 q.base) → W p l e R s m args below meth c H1 (locs ++ L) (cells + k1) (slots + k2) (vx_MQ below (QV Ψ) (XZ g Ξ) args s mc ms A) (F0 m (pc + 3) ls rest)) :
    W p l e R s m args below meth c H locs cells slots (vx_MQ below (QV Ψ) (XZ g Ξ) args s mc ms A) (F0 m pc ls st0) :=
  z_goP hr hout hlk hΞ hA hf hc hs (fun v H1 L hΨ hL => by
    obtain ⟨rfl, h⟩ := hΨ
    exact kk H1 L h hL)
end RWG
theorem bor_nn {a b : Option Int32} (h : bor a b = none) : a = none ∧ b = none := by
  cases a with
  | none => exact ⟨rfl, h⟩
  | some x => cases h
theorem jb1 {b : Bool} (h : b = true) : nI 1 = b2 b := by rw [h]; rfl
theorem jb0 {b : Bool} (h : b = false) : nI 0 = b2 b := by rw [h]; rfl
