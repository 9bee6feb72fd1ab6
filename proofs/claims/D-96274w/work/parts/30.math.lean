/-! ===== NUMBERS: bits of ints as bits of Nats; what a house answers ===== -/
set_option maxRecDepth 100000
def sdf (a b : Nat) : Nat := a ^^^ (a &&& b)
def popN : Nat → Nat → Nat
  | 0, _ => 0
  | k + 1, n => popN k n + n / 2 ^ k % 2
def pop (n : Nat) : Nat := popN 31 n
theorem nw_and (a b : Nat) : nI a &&& nI b = nI (a &&& b) := by
  apply Int32.toBitVec_inj.1
  show BitVec.ofNat 32 a &&& BitVec.ofNat 32 b = BitVec.ofNat 32 (a &&& b)
  apply BitVec.eq_of_getLsbD_eq
  intro i hi
  simp [hi]
theorem nw_or (a b : Nat) : nI a ||| nI b = nI (a ||| b) := by
  apply Int32.toBitVec_inj.1
  show BitVec.ofNat 32 a ||| BitVec.ofNat 32 b = BitVec.ofNat 32 (a ||| b)
  apply BitVec.eq_of_getLsbD_eq
  intro i hi
  simp [hi]
theorem nw_xor (a b : Nat) : nI a ^^^ nI b = nI (a ^^^ b) := by
  apply Int32.toBitVec_inj.1
  show BitVec.ofNat 32 a ^^^ BitVec.ofNat 32 b = BitVec.ofNat 32 (a ^^^ b)
  apply BitVec.eq_of_getLsbD_eq
  intro i hi
  simp [hi]
theorem nw_m1 : (-1 : Int32).toBitVec = BitVec.allOnes 32 := by decide
/-- a & ~b -/
theorem nw_dif (a b : Nat) : nI a &&& (nI b ^^^ (-1)) = nI (sdf a b) := by
  apply Int32.toBitVec_inj.1
  show BitVec.ofNat 32 a &&& (BitVec.ofNat 32 b ^^^ (-1 : Int32).toBitVec) = BitVec.ofNat 32 (sdf a b)
  rw [nw_m1]
  apply BitVec.eq_of_getLsbD_eq
  intro i hi
  simp only [sdf, BitVec.getLsbD_and, BitVec.getLsbD_xor, BitVec.getLsbD_ofNat, BitVec.getLsbD_allOnes, hi, decide_true, Bool.true_and, Nat.testBit_xor, Nat.testBit_and]
  cases a.testBit i <;> cases b.testBit i <;> rfl
/-- ~a | b -/
theorem nw_nor (a b : Nat) : (nI a ^^^ (-1)) ||| nI b = nI (sdf a b) ^^^ (-1) := by
  apply Int32.toBitVec_inj.1
  show (BitVec.ofNat 32 a ^^^ (-1 : Int32).toBitVec) ||| BitVec.ofNat 32 b = BitVec.ofNat 32 (sdf a b) ^^^ (-1 : Int32).toBitVec
  rw [nw_m1]
  apply BitVec.eq_of_getLsbD_eq
  intro i hi
  simp only [sdf, BitVec.getLsbD_or, BitVec.getLsbD_xor, BitVec.getLsbD_ofNat, BitVec.getLsbD_allOnes, hi, decide_true, Bool.true_and, Nat.testBit_xor, Nat.testBit_and]
  cases a.testBit i <;> cases b.testBit i <;> rfl
theorem nw_nn (a : Nat) : (nI a ^^^ (-1)) ^^^ (-1) = nI a := by
  apply Int32.toBitVec_inj.1
  show (BitVec.ofNat 32 a ^^^ (-1 : Int32).toBitVec) ^^^ (-1 : Int32).toBitVec = BitVec.ofNat 32 a
  rw [nw_m1]
  apply BitVec.eq_of_getLsbD_eq
  intro i hi
  simp [hi]
theorem nw_sm : ∀ k, k < 32 → ((nI k &&& 31).toBitVec.smod 32).toNat = k := by decide +kernel
theorem nw_shl1 {k : Nat} (h : k < 31) : nI 1 <<< (nI k &&& 31) = nI (2 ^ k) := by
  have h2 : 2 ^ k ≤ 2 ^ 30 := Nat.pow_le_pow_right (by decide) (by omega)
  rw [pk_shlN (nI k &&& 31) k (nw_sm k (by omega)) (by omega), Nat.one_mul]
theorem nw_shr {n k : Nat} (hn : n < 2 ^ 31) (h : k < 32) : nI n >>> (nI k &&& 31) = nI (n / 2 ^ k) := pk_shrN hn _ k (nw_sm k h)
theorem nw_and1 (n : Nat) : nI n &&& nI 1 = nI (n % 2) := by
  rw [nw_and]
  congr 1
  exact Nat.and_one_is_mod n
theorem tb_div (n k : Nat) : n / 2 ^ k % 2 = if n.testBit k = true then 1 else 0 := by
  rw [Nat.testBit_eq_decide_div_mod_eq]
  by_cases h : n / 2 ^ k % 2 = 1
  · simp [h]
  · have : n / 2 ^ k % 2 = 0 := by omega
    simp [this]
theorem b2_01 (b : Bool) : b2 b = 0 ∨ b2 b = 1 := by cases b <;> simp [b2]
theorem b2_nI (b : Bool) : b2 b = nI (if b = true then 1 else 0) := by cases b <;> rfl
theorem sdf_tb (a b i : Nat) : (sdf a b).testBit i = (a.testBit i && !b.testBit i) := by
  simp only [sdf, Nat.testBit_xor, Nat.testBit_and]
  cases a.testBit i <;> cases b.testBit i <;> rfl
theorem sdf_le (a b : Nat) : sdf a b ≤ a := by
  refine Nat.le_of_testBit fun i h => ?_
  rw [sdf_tb] at h
  simp only [Bool.and_eq_true] at h
  exact h.1
theorem or_ge (a b : Nat) : a ≤ a ||| b := by
  refine Nat.le_of_testBit fun i h => ?_
  rw [Nat.testBit_or, h, Bool.true_or]
theorem pop_step : ∀ b, b < 1024 → b ≠ 0 → pop (b &&& (b - 1)) + 1 = pop b ∧ b &&& (b - 1) < b := by decide +kernel
def inL (x lo hi : Int64) : Bool := decide (lo ≤ x) && decide (x ≤ hi)
def partN (A B p : Nat) : Nat := if A = 0 then p else if p = 0 then A / Nat.gcd A B else B / Nat.gcd A B
theorem mminN {a b : Nat} (ha : a < 2 ^ 31) (hb : b < 2 ^ 31) : (if nI b < nI a then nI b else nI a) = nI (min a b) := by
  by_cases h : b < a
  · rw [if_pos ((nI_ltI hb ha).mpr h), Nat.min_eq_right (Nat.le_of_lt h)]
  · rw [if_neg (fun z => h ((nI_ltI hb ha).mp z)), Nat.min_eq_left (by omega)]
theorem mmaxN {a b : Nat} (ha : a < 2 ^ 31) (hb : b < 2 ^ 31) : (if nI a < nI b then nI b else nI a) = nI (max a b) := by
  by_cases h : a < b
  · rw [if_pos ((nI_ltI ha hb).mpr h), Nat.max_eq_right (Nat.le_of_lt h)]
  · rw [if_neg (fun z => h ((nI_ltI ha hb).mp z)), Nat.max_eq_left (by omega)]
theorem rtI {a b : Nat} (h : a = b) : some (Value.int (nI a)) = some (.int (nI b)) := by rw [h]
theorem rtL {a b : Nat} (h : a = b) : some (Value.long (lN a)) = some (.long (lN b)) := by rw [h]
theorem rtF {b : Bool} (h : b = false) : some (Value.int (nI 0)) = some (.int (b2 b)) := by rw [h]; rfl
theorem rtT {b : Bool} (h : b = true) : some (Value.int (nI 1)) = some (.int (b2 b)) := by rw [h]; rfl
theorem pop_le : ∀ b, b < 1024 → pop b ≤ 10 := by decide +kernel
/-! what a house answers -/
def mayT (any all S : Nat) : Bool := (any == 0 || any &&& S != 0) && sdf all S == 0
def mayK (k any all S : Nat) : Bool :=
  match k with
  | 1 => mayT any all S && decide (min 2 (pop any) ≤ pop (any &&& S))
  | 4 => mayT any all S && decide (min 2 (pop any) ≤ pop (any &&& S))
  | 3 => mayT any 0 S || mayT 0 all S
  | _ => mayT any all S
def goK (k ms S : Nat) : Nat :=
  match k with
  | 2 => if S.testBit 0 = true then (ms + 1) / 2 else ms
  | 4 => ms + pop S
  | 5 => (if S.testBit 0 = true then (ms + 1) / 2 else ms) * (if S.testBit 1 = true then 1 else 2)
  | _ => ms
def hk (h : HS) (t : Nat) : Nat := (h.ki t).getD 0
theorem hkv {h : HS} {t k : Nat} (e : h.ki t = some k) : hk h t = k := by
  unfold hk
  rw [e]
  rfl
def hMay (h : HS) (t S : Nat) : Bool := !S.testBit t && mayK (hk h t) (h.an t) (h.al t) S
def hGo (h : HS) (t S : Nat) : Nat := goK (hk h t) (h.ms t) S
def mayUp (h : HS) (S : Nat) : Nat → Nat
  | 0 => 0
  | t + 1 => mayUp h S t ||| (if hMay h t S = true then 2 ^ t else 0)
def mayN (h : HS) (S : Nat) : Nat := mayUp h S h.th
def rchF (h : HS) (K : Nat) : Nat → Nat → Nat
  | 0, S => S
  | f + 1, S => if mayN h S &&& K = 0 then S else rchF h K f (S ||| (mayN h S &&& K))
def rch (h : HS) (K S : Nat) : Nat := rchF h K 1024 S
def hReach (h : HS) (S : Nat) : Nat := rch h 1023 S
def whole (h : HS) : Nat := 2 ^ h.th - 1
/-- a house as it can be -/
def Gh (h : HS) : Prop := h.th ≤ 10 ∧ h.ha < 2 ^ h.th ∧ h.mi ≤ 9999 ∧ ∀ j, j < h.th → (∃ k, k < 6 ∧ h.ki j = some k) ∧ (1 ≤ h.ms j ∧ h.ms j ≤ 30) ∧ (1 ≤ h.su j ∧ h.su j ≤ 10) ∧ h.co j ≤ 9 ∧ h.an j < 2 ^ h.th ∧ h.al j < 2 ^ h.th
theorem p2le {t : Nat} (h : t ≤ 10) : 2 ^ t ≤ 1024 := Nat.pow_le_pow_right (by decide) h
theorem Gh.p {h : HS} (G : Gh h) : 2 ^ h.th ≤ 1024 := p2le G.1
theorem Gh.ha {h : HS} (G : Gh h) : h.ha < 1024 := Nat.lt_of_lt_of_le G.2.1 G.p
theorem Gh.an {h : HS} (G : Gh h) {j : Nat} (hj : j < h.th) : h.an j < 1024 := Nat.lt_of_lt_of_le (G.2.2.2 j hj).2.2.2.2.1 G.p
theorem Gh.al {h : HS} (G : Gh h) {j : Nat} (hj : j < h.th) : h.al j < 1024 := Nat.lt_of_lt_of_le (G.2.2.2 j hj).2.2.2.2.2 G.p
theorem Gh.w {h : HS} (G : Gh h) : whole h < 1024 := by
  have h1 := G.p
  have h2 : 0 < 2 ^ h.th := Nat.two_pow_pos _
  unfold whole
  omega
theorem mayUp_lt (h : HS) (S n : Nat) : mayUp h S n < 2 ^ n := by
  induction n with
  | zero => simp [mayUp]
  | succ n ih =>
    have h2 : 2 ^ n < 2 ^ (n + 1) := Nat.pow_lt_pow_right (by decide) (by omega)
    unfold mayUp
    refine Nat.or_lt_two_pow (by omega) ?_
    split <;> omega
theorem mayUp_tb (h : HS) (S n i : Nat) : (mayUp h S n).testBit i = (decide (i < n) && hMay h i S) := by
  induction n with
  | zero => simp [mayUp]
  | succ n ih =>
    unfold mayUp
    rw [Nat.testBit_or, ih]
    by_cases hi : i = n
    · subst hi
      by_cases hm : hMay h i S = true
      · simp [hm, Nat.testBit_two_pow]
      · simp [hm]
    · have e1 : (if hMay h n S = true then 2 ^ n else 0).testBit i = false := by
        split
        · exact Nat.testBit_two_pow_of_ne (fun e => hi e.symm)
        · exact Nat.zero_testBit i
      rw [e1, Bool.or_false]
      by_cases h2 : i < n
      · simp [h2, Nat.lt_succ_of_lt h2]
      · have : ¬ i < n + 1 := by omega
        simp [h2, this]
theorem mayN_lt {h : HS} (G : Gh h) (S : Nat) : mayN h S < 1024 := Nat.lt_of_lt_of_le (mayUp_lt h S h.th) G.p
/-- what may be had isn't there yet -/
theorem mayN_new (h : HS) (S : Nat) : mayN h S &&& S = 0 := by
  refine Nat.eq_of_testBit_eq fun i => ?_
  rw [Nat.testBit_and, Nat.zero_testBit, mayN, mayUp_tb]
  unfold hMay
  cases S.testBit i <;> simp
theorem or_grows {S m : Nat} (h0 : m &&& S = 0) (h : m ≠ 0) : S < S ||| m := by
  refine Nat.lt_of_le_of_ne (or_ge S m) fun e => h ?_
  refine Nat.eq_of_testBit_eq fun i => ?_
  have e1 := congrArg (fun n => n.testBit i) e
  have e2 := congrArg (fun n => n.testBit i) h0
  simp only [Nat.testBit_or, Nat.testBit_and, Nat.zero_testBit] at e1 e2 ⊢
  cases hm : m.testBit i
  · rfl
  · cases hs : S.testBit i
    · rw [hm, hs] at e1
      exact absurd e1 (by decide)
    · rw [hm, hs] at e2
      exact absurd e2 (by decide)
theorem rch_new (h : HS) (S K : Nat) : (mayN h S &&& K) &&& S = 0 := by
  rw [Nat.and_assoc, Nat.and_comm K S, ← Nat.and_assoc, mayN_new, Nat.zero_and]
theorem rch_grows {h : HS} {S K : Nat} (hm : mayN h S &&& K ≠ 0) : S < S ||| (mayN h S &&& K) := or_grows (rch_new h S K) hm
theorem rch_lt {h : HS} (G : Gh h) {S K : Nat} (hS : S < 1024) : S ||| (mayN h S &&& K) < 1024 :=
  Nat.or_lt_two_pow (n := 10) hS (Nat.lt_of_le_of_lt Nat.and_le_left (mayN_lt G S))
/-- more rounds change nothing -/
theorem rchF_more {h : HS} (G : Gh h) (K : Nat) : ∀ (f f2 S : Nat), S < 1024 → 1024 - S ≤ f → 1024 - S ≤ f2 → rchF h K f S = rchF h K f2 S := by
  intro f
  induction f with
  | zero => intro f2 S h1 h2; omega
  | succ f ih =>
    intro f2 S h1 h2 h3
    cases f2 with
    | zero => omega
    | succ f2 =>
      unfold rchF
      by_cases hm : mayN h S &&& K = 0
      · rw [if_pos hm, if_pos hm]
      · rw [if_neg hm, if_neg hm]
        have g1 := rch_grows hm
        have g2 := rch_lt G (K := K) h1
        exact ih f2 _ g2 (by omega) (by omega)
theorem rch_step {h : HS} (G : Gh h) {K S : Nat} (hS : S < 1024) (hm : mayN h S &&& K ≠ 0) : rch h K S = rch h K (S ||| (mayN h S &&& K)) := by
  have g1 := rch_grows hm
  have g2 := rch_lt G (K := K) hS
  have e : rch h K S = rchF h K 1023 (S ||| (mayN h S &&& K)) := by
    show (if mayN h S &&& K = 0 then S else rchF h K 1023 (S ||| (mayN h S &&& K))) = _
    rw [if_neg hm]
  rw [e]
  exact rchF_more G K 1023 1024 _ g2 (by omega) (by omega)
theorem rch_end {h : HS} {K S : Nat} (hm : mayN h S &&& K = 0) : rch h K S = S := by
  show (if mayN h S &&& K = 0 then S else rchF h K 1023 (S ||| (mayN h S &&& K))) = _
  rw [if_pos hm]
theorem rch_lt1 {h : HS} (G : Gh h) (K : Nat) : ∀ (n S : Nat), S < 1024 → 1024 - S ≤ n → rch h K S < 1024 := by
  intro n
  induction n with
  | zero => intro S h1 h2; omega
  | succ n ih =>
    intro S h1 h2
    by_cases hm : mayN h S &&& K = 0
    · rw [rch_end hm]; exact h1
    · rw [rch_step G h1 hm]
      have g1 := rch_grows hm
      exact ih _ (rch_lt G h1) (by omega)
theorem rch_b {h : HS} (G : Gh h) (K : Nat) {S : Nat} (hS : S < 1024) : rch h K S < 1024 := rch_lt1 G K 1024 S hS (by omega)
theorem goK_le {k ms S : Nat} (hm : ms ≤ 30) (hS : S < 1024) : goK k ms S ≤ 60 := by
  have h := pop_le S hS
  unfold goK
  split
  · split <;> omega
  · omega
  · split <;> split <;> omega
  · omega
theorem hGo_le {h : HS} (G : Gh h) {t S : Nat} (ht : t < h.th) (hS : S < 1024) : hGo h t S ≤ 60 := goK_le (G.2.2.2 t ht).2.1.2 hS
theorem ltn {a b : Nat} (h : a < 2 ^ b) (hb : b ≤ 31) : a < 2 ^ 31 := Nat.lt_of_lt_of_le h (Nat.pow_le_pow_right (by decide) hb)
section XBR
variable {p : Program} {l : Launch} {e : Env} {R : Room} {s : State} {m : MethodId} {args : Array Value} {below : List Frame} {meth : Method} {c : Code} {H : Heap} {locs : List Loc} {cells slots : Nat} {Q : State → Prop} {pc : Nat} {ls : Array Slot} {rest : List Value} {cc : ByteArray} {off : Int} {tgt : Nat}
theorem xn_eq (hx : p.tables.exec = Jvm.exec) (hb0 : c.code = cc) {a b : Nat} (d : decode cc pc = .ok (.if_icmp .eq off, 3)) (ht : (pc : Int) + off = (tgt : Int)) (ha : a < 2 ^ 31) (hb : b < 2 ^ 31) (kt : a = b → W p l e R s m args below meth c H locs cells slots Q (F0 m tgt ls (rest))) (kf : a ≠ b → W p l e R s m args below meth c H locs cells slots Q (F0 m (pc + 3) ls (rest))) : W p l e R s m args below meth c H locs cells slots Q (F0 m pc ls (.int (nI b) :: .int (nI a) :: rest)) := lv_icmp_eq hx hb0 d ht (fun z => kt ((nI_eq ha hb).mp z)) (fun z => kf (by have z2 := mt (nI_eq ha hb).mpr z; omega))
theorem xn_ne (hx : p.tables.exec = Jvm.exec) (hb0 : c.code = cc) {a b : Nat} (d : decode cc pc = .ok (.if_icmp .ne off, 3)) (ht : (pc : Int) + off = (tgt : Int)) (ha : a < 2 ^ 31) (hb : b < 2 ^ 31) (kt : a ≠ b → W p l e R s m args below meth c H locs cells slots Q (F0 m tgt ls (rest))) (kf : a = b → W p l e R s m args below meth c H locs cells slots Q (F0 m (pc + 3) ls (rest))) : W p l e R s m args below meth c H locs cells slots Q (F0 m pc ls (.int (nI b) :: .int (nI a) :: rest)) := lv_icmp_ne hx hb0 d ht (fun z => kt (fun z2 => z ((nI_eq ha hb).mpr z2))) (fun z => kf ((nI_eq ha hb).mp z))
theorem xn_lt (hx : p.tables.exec = Jvm.exec) (hb0 : c.code = cc) {a b : Nat} (d : decode cc pc = .ok (.if_icmp .lt off, 3)) (ht : (pc : Int) + off = (tgt : Int)) (ha : a < 2 ^ 31) (hb : b < 2 ^ 31) (kt : a < b → W p l e R s m args below meth c H locs cells slots Q (F0 m tgt ls (rest))) (kf : b ≤ a → W p l e R s m args below meth c H locs cells slots Q (F0 m (pc + 3) ls (rest))) : W p l e R s m args below meth c H locs cells slots Q (F0 m pc ls (.int (nI b) :: .int (nI a) :: rest)) := lv_icmp_lt hx hb0 d ht (fun z => kt ((nI_ltI ha hb).mp z)) (fun z => kf (by have z2 := mt (nI_ltI ha hb).mpr z; omega))
theorem xn_ge (hx : p.tables.exec = Jvm.exec) (hb0 : c.code = cc) {a b : Nat} (d : decode cc pc = .ok (.if_icmp .ge off, 3)) (ht : (pc : Int) + off = (tgt : Int)) (ha : a < 2 ^ 31) (hb : b < 2 ^ 31) (kt : b ≤ a → W p l e R s m args below meth c H locs cells slots Q (F0 m tgt ls (rest))) (kf : a < b → W p l e R s m args below meth c H locs cells slots Q (F0 m (pc + 3) ls (rest))) : W p l e R s m args below meth c H locs cells slots Q (F0 m pc ls (.int (nI b) :: .int (nI a) :: rest)) := lv_icmp_ge hx hb0 d ht (fun z => kt ((nI_leI hb ha).mp z)) (fun z => kf (by have z2 := mt (nI_leI hb ha).mpr z; omega))
theorem xn_gt (hx : p.tables.exec = Jvm.exec) (hb0 : c.code = cc) {a b : Nat} (d : decode cc pc = .ok (.if_icmp .gt off, 3)) (ht : (pc : Int) + off = (tgt : Int)) (ha : a < 2 ^ 31) (hb : b < 2 ^ 31) (kt : b < a → W p l e R s m args below meth c H locs cells slots Q (F0 m tgt ls (rest))) (kf : a ≤ b → W p l e R s m args below meth c H locs cells slots Q (F0 m (pc + 3) ls (rest))) : W p l e R s m args below meth c H locs cells slots Q (F0 m pc ls (.int (nI b) :: .int (nI a) :: rest)) := lv_icmp_gt hx hb0 d ht (fun z => kt ((nI_ltI hb ha).mp z)) (fun z => kf (by have z2 := mt (nI_ltI hb ha).mpr z; omega))
theorem xn_le (hx : p.tables.exec = Jvm.exec) (hb0 : c.code = cc) {a b : Nat} (d : decode cc pc = .ok (.if_icmp .le off, 3)) (ht : (pc : Int) + off = (tgt : Int)) (ha : a < 2 ^ 31) (hb : b < 2 ^ 31) (kt : a ≤ b → W p l e R s m args below meth c H locs cells slots Q (F0 m tgt ls (rest))) (kf : b < a → W p l e R s m args below meth c H locs cells slots Q (F0 m (pc + 3) ls (rest))) : W p l e R s m args below meth c H locs cells slots Q (F0 m pc ls (.int (nI b) :: .int (nI a) :: rest)) := lv_icmp_le hx hb0 d ht (fun z => kt ((nI_leI ha hb).mp z)) (fun z => kf (by have z2 := mt (nI_leI ha hb).mpr z; omega))
theorem xb_eq (hx : p.tables.exec = Jvm.exec) (hb : c.code = cc) {b : Bool} (d : decode cc pc = .ok (.ifCond .eq off, 3)) (ht : (pc : Int) + off = (tgt : Int)) (kt : b = false → W p l e R s m args below meth c H locs cells slots Q (F0 m tgt ls (rest))) (kf : b = true → W p l e R s m args below meth c H locs cells slots Q (F0 m (pc + 3) ls (rest))) : W p l e R s m args below meth c H locs cells slots Q (F0 m pc ls (.int (b2 b) :: rest)) := lv_if_eq hx hb d ht (fun z => kt (by cases b <;> simp_all [b2])) (fun z => kf (by cases b <;> simp_all [b2]))
theorem xz_eq (hx : p.tables.exec = Jvm.exec) (hb : c.code = cc) {n : Nat} (d : decode cc pc = .ok (.ifCond .eq off, 3)) (ht : (pc : Int) + off = (tgt : Int)) (hn : n < 2 ^ 31) (kt : n = 0 → W p l e R s m args below meth c H locs cells slots Q (F0 m tgt ls (rest))) (kf : n ≠ 0 → W p l e R s m args below meth c H locs cells slots Q (F0 m (pc + 3) ls (rest))) : W p l e R s m args below meth c H locs cells slots Q (F0 m pc ls (.int (nI n) :: rest)) := lv_if_eq hx hb d ht (fun z => kt ((show nI n = 0 ↔ n = 0 from by rw [← nI_0]; exact nI_eq hn (by decide)).mp z)) (fun z => kf (fun z2 => z ((show nI n = 0 ↔ n = 0 from by rw [← nI_0]; exact nI_eq hn (by decide)).mpr z2)))
theorem xb_ne (hx : p.tables.exec = Jvm.exec) (hb : c.code = cc) {b : Bool} (d : decode cc pc = .ok (.ifCond .ne off, 3)) (ht : (pc : Int) + off = (tgt : Int)) (kt : b = true → W p l e R s m args below meth c H locs cells slots Q (F0 m tgt ls (rest))) (kf : b = false → W p l e R s m args below meth c H locs cells slots Q (F0 m (pc + 3) ls (rest))) : W p l e R s m args below meth c H locs cells slots Q (F0 m pc ls (.int (b2 b) :: rest)) := lv_if_ne hx hb d ht (fun z => kt (by cases b <;> simp_all [b2])) (fun z => kf (by cases b <;> simp_all [b2]))
theorem xz_ne (hx : p.tables.exec = Jvm.exec) (hb : c.code = cc) {n : Nat} (d : decode cc pc = .ok (.ifCond .ne off, 3)) (ht : (pc : Int) + off = (tgt : Int)) (hn : n < 2 ^ 31) (kt : n ≠ 0 → W p l e R s m args below meth c H locs cells slots Q (F0 m tgt ls (rest))) (kf : n = 0 → W p l e R s m args below meth c H locs cells slots Q (F0 m (pc + 3) ls (rest))) : W p l e R s m args below meth c H locs cells slots Q (F0 m pc ls (.int (nI n) :: rest)) := lv_if_ne hx hb d ht (fun z => kt (fun z2 => z ((show nI n = 0 ↔ n = 0 from by rw [← nI_0]; exact nI_eq hn (by decide)).mpr z2))) (fun z => kf ((show nI n = 0 ↔ n = 0 from by rw [← nI_0]; exact nI_eq hn (by decide)).mp z))
theorem xc_eq (hx : p.tables.exec = Jvm.exec) (hb : c.code = cc) {x y : Int64} (d : decode cc pc = .ok (.ifCond .eq off, 3)) (ht : (pc : Int) + off = (tgt : Int)) (kt : x = y → W p l e R s m args below meth c H locs cells slots Q (F0 m tgt ls (rest))) (kf : ¬ x = y → W p l e R s m args below meth c H locs cells slots Q (F0 m (pc + 3) ls (rest))) : W p l e R s m args below meth c H locs cells slots Q (F0 m pc ls (.int (lg_cmp x y) :: rest)) := lv_if_eq hx hb d ht (fun z => kt ((lg_cmp_eq x y).mp z)) (fun z => kf (fun z2 => z ((lg_cmp_eq x y).mpr z2)))
theorem xc_ne (hx : p.tables.exec = Jvm.exec) (hb : c.code = cc) {x y : Int64} (d : decode cc pc = .ok (.ifCond .ne off, 3)) (ht : (pc : Int) + off = (tgt : Int)) (kt : ¬ x = y → W p l e R s m args below meth c H locs cells slots Q (F0 m tgt ls (rest))) (kf : x = y → W p l e R s m args below meth c H locs cells slots Q (F0 m (pc + 3) ls (rest))) : W p l e R s m args below meth c H locs cells slots Q (F0 m pc ls (.int (lg_cmp x y) :: rest)) := lv_if_ne hx hb d ht (fun z => kt (fun z2 => z ((lg_cmp_eq x y).mpr z2))) (fun z => kf ((lg_cmp_eq x y).mp z))
theorem xc_lt (hx : p.tables.exec = Jvm.exec) (hb : c.code = cc) {x y : Int64} (d : decode cc pc = .ok (.ifCond .lt off, 3)) (ht : (pc : Int) + off = (tgt : Int)) (kt : x < y → W p l e R s m args below meth c H locs cells slots Q (F0 m tgt ls (rest))) (kf : ¬ x < y → W p l e R s m args below meth c H locs cells slots Q (F0 m (pc + 3) ls (rest))) : W p l e R s m args below meth c H locs cells slots Q (F0 m pc ls (.int (lg_cmp x y) :: rest)) := lv_if_lt hx hb d ht (fun z => kt ((lg_cmp_lt x y).mp z)) (fun z => kf (fun z2 => z ((lg_cmp_lt x y).mpr z2)))
theorem xc_ge (hx : p.tables.exec = Jvm.exec) (hb : c.code = cc) {x y : Int64} (d : decode cc pc = .ok (.ifCond .ge off, 3)) (ht : (pc : Int) + off = (tgt : Int)) (kt : y ≤ x → W p l e R s m args below meth c H locs cells slots Q (F0 m tgt ls (rest))) (kf : ¬ y ≤ x → W p l e R s m args below meth c H locs cells slots Q (F0 m (pc + 3) ls (rest))) : W p l e R s m args below meth c H locs cells slots Q (F0 m pc ls (.int (lg_cmp x y) :: rest)) := lv_if_ge hx hb d ht (fun z => kt ((lg_cmp_ge x y).mp z)) (fun z => kf (fun z2 => z ((lg_cmp_ge x y).mpr z2)))
theorem xc_gt (hx : p.tables.exec = Jvm.exec) (hb : c.code = cc) {x y : Int64} (d : decode cc pc = .ok (.ifCond .gt off, 3)) (ht : (pc : Int) + off = (tgt : Int)) (kt : y < x → W p l e R s m args below meth c H locs cells slots Q (F0 m tgt ls (rest))) (kf : ¬ y < x → W p l e R s m args below meth c H locs cells slots Q (F0 m (pc + 3) ls (rest))) : W p l e R s m args below meth c H locs cells slots Q (F0 m pc ls (.int (lg_cmp x y) :: rest)) := lv_if_gt hx hb d ht (fun z => kt ((lg_cmp_gt x y).mp z)) (fun z => kf (fun z2 => z ((lg_cmp_gt x y).mpr z2)))
theorem xc_le (hx : p.tables.exec = Jvm.exec) (hb : c.code = cc) {x y : Int64} (d : decode cc pc = .ok (.ifCond .le off, 3)) (ht : (pc : Int) + off = (tgt : Int)) (kt : x ≤ y → W p l e R s m args below meth c H locs cells slots Q (F0 m tgt ls (rest))) (kf : ¬ x ≤ y → W p l e R s m args below meth c H locs cells slots Q (F0 m (pc + 3) ls (rest))) : W p l e R s m args below meth c H locs cells slots Q (F0 m pc ls (.int (lg_cmp x y) :: rest)) := lv_if_le hx hb d ht (fun z => kt ((lg_cmp_le x y).mp z)) (fun z => kf (fun z2 => z ((lg_cmp_le x y).mpr z2)))
end XBR
