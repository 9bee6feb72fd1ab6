/-! ===== rows and laws for the walks over the orders ===== -/
set_option maxRecDepth 100000
theorem upd_lN (f : Nat → Nat) (k v : Nat) : vp_updL (fun j => lN (f j)) k (lN v) = fun j => lN (fu f k v j) := by
  funext j
  by_cases h : j = k <;> simp [vp_updL, fu, h]
theorem lift_nI (f : Nat → Int32) : f = fun j => nI (tN (f j)) := by
  funext j
  show f j = Int32.ofNat _
  apply Int32.toBitVec_inj.mp
  show (f j).toBitVec = BitVec.ofNat 32 ((f j).toBitVec.toNat)
  rw [BitVec.ofNat_toNat, BitVec.setWidth_eq]
def tL (x : Int64) : Nat := x.toBitVec.toNat
theorem lift_lN (f : Nat → Int64) : f = fun j => lN (tL (f j)) := by
  funext j
  apply Int64.toBitVec_inj.mp
  show (f j).toBitVec = BitVec.ofNat 64 ((f j).toBitVec.toNat)
  rw [BitVec.ofNat_toNat, BitVec.setWidth_eq]
theorem minLN {a b : Nat} (ha : a < 2 ^ 63) (hb : b < 2 ^ 63) : (if lN b < lN a then lN b else lN a) = lN (min a b) := by
  by_cases h : b < a
  · rw [if_pos ((pk_lLT hb ha).mpr h), Nat.min_eq_right (Nat.le_of_lt h)]
  · rw [if_neg (fun z => h ((pk_lLT hb ha).mp z)), Nat.min_eq_left (Nat.le_of_not_lt h)]
section
variable {p : Program} {l : Launch} {e : Env} {R : Room} {s : State} {m : MethodId} {args : Array Value} {below : List Frame} {meth : Method} {c : Code} {H : Heap} {locs : List Loc} {cells slots : Nat} {Q : State → Prop} {pc : Nat} {ls : Array Slot} {rest : List Value} {cc : ByteArray} {off : Int} {tgt : Nat}
theorem nI_le0 {n : Nat} (hn : n < 2 ^ 31) : nI n ≤ 0 ↔ n = 0 := by
  rw [← nI_0, nI_leI hn (by decide)]
  omega
theorem xz_le (hx : p.tables.exec = Jvm.exec) (hb : c.code = cc) {n : Nat} (d : decode cc pc = .ok (.ifCond .le off, 3)) (ht : (pc : Int) + off = (tgt : Int)) (hn : n < 2 ^ 31) (kt : n = 0 → W p l e R s m args below meth c H locs cells slots Q (F0 m tgt ls (rest))) (kf : n ≠ 0 → W p l e R s m args below meth c H locs cells slots Q (F0 m (pc + 3) ls (rest))) : W p l e R s m args below meth c H locs cells slots Q (F0 m pc ls (.int (nI n) :: rest)) := lv_if_le hx hb d ht (fun z => kt ((nI_le0 hn).mp z)) (fun z => kf (fun z2 => absurd ((nI_le0 hn).mpr z2) (by simpa using z)))
theorem nI_gt0 {n : Nat} (hn : n < 2 ^ 31) : 0 < nI n ↔ n ≠ 0 := by
  rw [← nI_0, nI_ltI (by decide) hn]
  omega
theorem xz_gt (hx : p.tables.exec = Jvm.exec) (hb : c.code = cc) {n : Nat} (d : decode cc pc = .ok (.ifCond .gt off, 3)) (ht : (pc : Int) + off = (tgt : Int)) (hn : n < 2 ^ 31) (kt : n ≠ 0 → W p l e R s m args below meth c H locs cells slots Q (F0 m tgt ls (rest))) (kf : n = 0 → W p l e R s m args below meth c H locs cells slots Q (F0 m (pc + 3) ls (rest))) : W p l e R s m args below meth c H locs cells slots Q (F0 m pc ls (.int (nI n) :: rest)) := lv_if_gt hx hb d ht (fun z => kt ((nI_gt0 hn).mp z)) (fun z => kf (Classical.byContradiction fun z2 => absurd ((nI_gt0 hn).mpr z2) (by simpa using z)))
theorem xz_ge (hx : p.tables.exec = Jvm.exec) (hb : c.code = cc) {n : Nat} (d : decode cc pc = .ok (.ifCond .ge off, 3)) (ht : (pc : Int) + off = (tgt : Int)) (hn : n < 2 ^ 31) (kt : W p l e R s m args below meth c H locs cells slots Q (F0 m tgt ls (rest))) : W p l e R s m args below meth c H locs cells slots Q (F0 m pc ls (.int (nI n) :: rest)) := lv_if_ge hx hb d ht (fun _ => kt) (fun z => absurd ((nI_leI (by decide) hn).mpr (Nat.zero_le n)) (by rw [nI_0]; exact z))
theorem xz_lt (hx : p.tables.exec = Jvm.exec) (hb : c.code = cc) {n : Nat} (d : decode cc pc = .ok (.ifCond .lt off, 3)) (ht : (pc : Int) + off = (tgt : Int)) (hn : n < 2 ^ 31) (kf : W p l e R s m args below meth c H locs cells slots Q (F0 m (pc + 3) ls (rest))) : W p l e R s m args below meth c H locs cells slots Q (F0 m pc ls (.int (nI n) :: rest)) := lv_if_lt hx hb d ht (fun z => absurd ((nI_leI (by decide) hn).mpr (Nat.zero_le n)) (by rw [nI_0]; simpa using z)) (fun _ => kf)
end
theorem FO_f {h : HS} (G : Gh h) {s i : Nat} {f m w : Nat → Nat} (F : FOI h s i f m w) {X : Nat} (hX : X < 2 ^ h.th) : f X ≤ 1000000 ∧ m X ≤ 1000000000000 := by
  have hp := G.p
  by_cases h0 : w X = 0
  · have := F.2.1 X hX h0; omega
  · have := F.2.2.1 X hX (Nat.pos_of_ne_zero h0); omega
/-- what the first loop has laid -/
def FI (h : HS) (i : Nat) (f m w : Nat → Nat) : Prop := ∀ X, X < i → f X = (if X = h.ha then 0 else 1000000) ∧ m X = (if X = h.ha then 0 else 1000000000000) ∧ w X = (if X = h.ha then 1 else 0)
theorem FI_step {h : HS} {i : Nat} {f m w : Nat → Nat} (F : FI h i f m w) {a b c : Nat} (ha : a = if i = h.ha then 0 else 1000000) (hb : b = if i = h.ha then 0 else 1000000000000) (hc : c = if i = h.ha then 1 else 0) : FI h (i + 1) (fu f i a) (fu m i b) (fu w i c) := by
  intro X hX
  by_cases e : X = i
  · subst e
    refine ⟨?_, ?_, ?_⟩
    · show (if X = X then a else _) = _; rw [if_pos rfl, ha]
    · show (if X = X then b else _) = _; rw [if_pos rfl, hb]
    · show (if X = X then c else _) = _; rw [if_pos rfl, hc]
  · have := F X (by omega)
    refine ⟨?_, ?_, ?_⟩
    · show (if X = i then a else _) = _; rw [if_neg e]; exact this.1
    · show (if X = i then b else _) = _; rw [if_neg e]; exact this.2.1
    · show (if X = i then c else _) = _; rw [if_neg e]; exact this.2.2
theorem FI_end {h : HS} (G : Gh h) {i : Nat} {f m w : Nat → Nat} (F : FI h i f m w) (hi : 2 ^ h.th ≤ i) : FOI h h.ha 0 f m w := FO_init G (fun X hX => (F X (by omega)).1) (fun X hX => (F X (by omega)).2.1) (fun X hX => (F X (by omega)).2.2)
