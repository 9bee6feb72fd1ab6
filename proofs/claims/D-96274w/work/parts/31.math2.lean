/-! ===== what is asked of a house, in Nats ===== -/
set_option maxRecDepth 100000
def oI (o : Option Nat) : Int32 := match o with
  | some k => nI k
  | none => -9
theorem oI_some {o : Option Nat} (h : ¬ oI o = (-9)) : ∃ k, o = some k := by
  cases o with
  | none => exact absurd rfl h
  | some k => exact ⟨k, rfl⟩
theorem nI_n9 {k : Nat} (h : k < 2 ^ 31) : ¬ nI k = (-9) := fun e => by
  have h1 := nI_toInt h
  rw [e] at h1
  have h2 : (-9 : Int32).toInt = -9 := by decide
  omega
theorem oI_none {o : Option Nat} (hb : ∀ k, o = some k → k < 2 ^ 31) (h : oI o = (-9)) : o = none := by
  cases o with
  | none => rfl
  | some k => exact absurd h (nI_n9 (hb k rfl))
def anyUp (f : Nat → Bool) : Nat → Bool
  | 0 => false
  | n + 1 => anyUp f n || f n
def sumUp (f : Nat → Nat) : Nat → Nat
  | 0 => 0
  | n + 1 => sumUp f n + f n
def orUp (f : Nat → Nat) : Nat → Nat
  | 0 => 0
  | n + 1 => orUp f n ||| f n
def prUp (f : Nat → Nat) : Nat → Nat
  | 0 => 1
  | n + 1 => prUp f n * f n
/-- the first of the least of c among those with o -/
def amin (c : Nat → Nat) (o : Nat → Bool) : Nat → Option Nat
  | 0 => none
  | n + 1 => match amin c o n with
    | none => if o n = true then some n else none
    | some k => if o n = true ∧ c n < c k then some n else some k
theorem amin_lt {c : Nat → Nat} {o : Nat → Bool} : ∀ {n k : Nat}, amin c o n = some k → k < n := by
  intro n
  induction n with
  | zero => intro k h; simp [amin] at h
  | succ n ih =>
    intro k h
    unfold amin at h
    split at h
    · split at h
      · cases h; omega
      · cases h
    · next k2 e =>
      split at h
      · cases h; omega
      · cases h; have := ih e; omega
theorem amin_o {c : Nat → Nat} {o : Nat → Bool} : ∀ {n k : Nat}, amin c o n = some k → o k = true := by
  intro n
  induction n with
  | zero => intro k h; simp [amin] at h
  | succ n ih =>
    intro k h
    unfold amin at h
    split at h
    · split at h
      · next h1 => cases h; exact h1
      · cases h
    · next k2 e =>
      split at h
      · next h1 => cases h; exact h1.1
      · cases h; exact ih e
theorem amin_t0 {c : Nat → Nat} {o : Nat → Bool} {n : Nat} (ho : o n = true) (h : amin c o n = none) : amin c o (n + 1) = some n := by
  unfold amin
  rw [h]
  exact if_pos ho
theorem amin_t1 {c : Nat → Nat} {o : Nat → Bool} {n k : Nat} (ho : o n = true) (h : amin c o n = some k) (hc : c n < c k) : amin c o (n + 1) = some n := by
  unfold amin
  rw [h]
  exact if_pos ⟨ho, hc⟩
theorem amin_f0 {c : Nat → Nat} {o : Nat → Bool} {n : Nat} (ho : o n = false) : amin c o (n + 1) = amin c o n := by
  rw [amin]
  split
  · next e => rw [e, ho]; rfl
  · next k e => rw [e, ho]; exact if_neg (fun z => Bool.noConfusion z.1)
theorem amin_f1 {c : Nat → Nat} {o : Nat → Bool} {n k : Nat} (h : amin c o n = some k) (hc : ¬ c n < c k) : amin c o (n + 1) = amin c o n := by
  rw [amin, h]
  exact if_neg (fun z => hc z.2)
def costS (h : HS) (S n : Nat) : Nat := sumUp (fun t => if S.testBit t = true then h.co t else 0) n
def hCost (h : HS) (S : Nat) : Nat := costS h S h.th
def hBar (h : HS) : Nat := sdf (whole h) (hReach h h.ha)
/-- what rings a by b -/
def rg (h : HS) (a b : Nat) : Bool := (decide (a ≠ b) && (hBar h).testBit a && (hBar h).testBit b) && (hReach h (h.ha ||| 2 ^ a)).testBit b && (hReach h (h.ha ||| 2 ^ b)).testBit a
def ringN (h : HS) (n : Nat) : Nat := orUp (fun a => if anyUp (rg h a) h.th = true then 2 ^ a else 0) n
def opn (h : HS) (s : Nat) : Bool := decide (hReach h (h.ha ||| s) = whole h)
def opr (h : HS) (s : Nat) : Bool := decide (hReach h s = whole h)
def spV (h : HS) (t : Nat) : Nat := if h.ha.testBit t = true then 0 else pop (hReach h (h.ha ||| 2 ^ t))
def spM (h : HS) : Nat → Nat
  | 0 => 0
  | n + 1 => max (spM h n) (spV h n)
def spB (h : HS) : Nat → Option Nat
  | 0 => none
  | n + 1 => if spM h n < spV h n then some n else spB h n
theorem spB_lt {h : HS} : ∀ {n k : Nat}, spB h n = some k → k < n := by
  intro n
  induction n with
  | zero => intro k e; simp [spB] at e
  | succ n ih =>
    intro k e
    unfold spB at e
    split at e
    · cases e; omega
    · have := ih e; omega
def doesN (h : HS) (t : Nat) : Nat := sdf (sdf (hReach h h.ha) h.ha) (rch h (sdf 1023 (2 ^ t)) (h.ha &&& sdf 1023 (2 ^ t)))
def wayB (h : HS) (T t : Nat) : Bool := decide (sdf (sdf T (2 ^ t)) (rch h (sdf T (2 ^ t)) (h.ha &&& sdf T (2 ^ t))) = 0)
def mustN (h : HS) (T n : Nat) : Nat := orUp (fun t => if (sdf T h.ha).testBit t = true ∧ wayB h T t = false then 2 ^ t else 0) n
def leftN (h : HS) : Nat := sdf (hReach h h.ha) h.ha
def suP (h : HS) (n : Nat) : Nat := prUp (fun t => if (leftN h).testBit t = true then h.su t else 1) n
def teP (h : HS) (n : Nat) : Nat := prUp (fun t => if (leftN h).testBit t = true then 10 else 1) n
theorem suP_le {h : HS} (G : Gh h) : ∀ n, n ≤ h.th → 1 ≤ suP h n ∧ suP h n ≤ 10 ^ n := by
  intro n
  induction n with
  | zero => intro _; exact ⟨Nat.le_refl _, Nat.le_refl _⟩
  | succ n ih =>
    intro hn
    obtain ⟨h1, h2⟩ := ih (by omega)
    have h3 := (G.2.2.2 n (by omega)).2.2.1
    show 1 ≤ suP h n * (if (leftN h).testBit n = true then h.su n else 1) ∧ suP h n * (if (leftN h).testBit n = true then h.su n else 1) ≤ 10 ^ (n + 1)
    rw [Nat.pow_succ]
    split
    · exact ⟨Nat.mul_pos h1 h3.1, Nat.mul_le_mul h2 h3.2⟩
    · exact ⟨by omega, by omega⟩
theorem teP_le (h : HS) : ∀ n, 1 ≤ teP h n ∧ teP h n ≤ 10 ^ n := by
  intro n
  induction n with
  | zero => exact ⟨Nat.le_refl _, Nat.le_refl _⟩
  | succ n ih =>
    obtain ⟨h1, h2⟩ := ih
    show 1 ≤ teP h n * (if (leftN h).testBit n = true then 10 else 1) ∧ teP h n * (if (leftN h).testBit n = true then 10 else 1) ≤ 10 ^ (n + 1)
    rw [Nat.pow_succ]
    split
    · exact ⟨Nat.mul_pos h1 (by decide), Nat.mul_le_mul h2 (Nat.le_refl _)⟩
    · exact ⟨by omega, by omega⟩
theorem p10 {n : Nat} (h : n ≤ 10) : 10 ^ n ≤ 10000000000 := Nat.le_trans (Nat.pow_le_pow_right (by decide) h) (by decide)
/-- how much a seeker of the kind K is against t -/
def agn (h : HS) (K t S : Nat) : Nat :=
  match K with
  | 0 => 0
  | 1 => hGo h t S
  | 2 => 10 - h.su t
  | 3 => 10 - pop (mayN h (S ||| 2 ^ t))
  | 4 => h.su t
  | _ => h.co t
theorem agn_le {h : HS} (G : Gh h) {K t S : Nat} (ht : t < h.th) (hS : S < 1024) : agn h K t S ≤ 60 := by
  have h1 := G.2.2.2 t ht
  have h2 := hGo_le G ht hS
  unfold agn
  split <;> omega
def rath (h : HS) (K S : Nat) : Option Nat := amin (fun t => agn h K t S) (fun t => hMay h t S) h.th
theorem rath_lt {h : HS} {K S k : Nat} (e : rath h K S = some k) : k < h.th := amin_lt e
def lotZ (z : Int32) : Int32 := z * nI 1664525 + nI 1013904223
def lotR (z : Int32) : Nat := z.toBitVec.toNat % 2 ^ 31 / 256 % 10
def lotF (h : HS) (K : Nat) : Nat → Int32 → Nat → Nat
  | 0, _, _ => 0
  | f + 1, z, S => match rath h K S with
    | none => 0
    | some t => hGo h t S + lotF h K f (lotZ z) (if lotR (lotZ z) < h.su t then S ||| 2 ^ t else S)
theorem t2lt {t : Nat} (h : t < 10) : 2 ^ t < 1024 := show 2 ^ t < 2 ^ 10 from Nat.pow_lt_pow_right (by decide) h
theorem or2 {S t : Nat} (hS : S < 1024) (ht : t < 10) : S ||| 2 ^ t < 1024 := Nat.or_lt_two_pow (n := 10) hS (t2lt ht)
theorem hReach_lt {h : HS} (G : Gh h) {S : Nat} (hS : S < 1024) : hReach h S < 1024 := rch_b G 1023 hS
theorem or_lt1 {a b : Nat} (ha : a < 1024) (hb : b < 1024) : a ||| b < 1024 := Nat.or_lt_two_pow (n := 10) ha hb
theorem sumUp_le {f : Nat → Nat} {c : Nat} : ∀ n, (∀ i, i < n → f i ≤ c) → sumUp f n ≤ n * c := by
  intro n
  induction n with
  | zero => intro _; simp [sumUp]
  | succ n ih =>
    intro h
    have h1 := ih (fun i hi => h i (by omega))
    have h2 := h n (by omega)
    show sumUp f n + f n ≤ _
    rw [Nat.succ_mul]
    omega
theorem costS_le {h : HS} (G : Gh h) (S : Nat) {n : Nat} (hn : n ≤ h.th) : costS h S n ≤ 90 := by
  have h1 : costS h S n ≤ n * 9 := sumUp_le n (fun i hi => by
    have h2 := (G.2.2.2 i (by omega)).2.2.2.1
    split <;> omega)
  have := G.1
  omega
theorem hCost_le {h : HS} (G : Gh h) (S : Nat) : hCost h S ≤ 90 := costS_le G S (Nat.le_refl _)
theorem spV_le {h : HS} (G : Gh h) {t : Nat} (ht : t < h.th) : spV h t ≤ 10 := by
  have h0 := G.1
  unfold spV
  split
  · omega
  · exact pop_le _ (hReach_lt G (or2 G.ha (by omega)))
theorem spM_le {h : HS} (G : Gh h) : ∀ n, n ≤ h.th → spM h n ≤ 10 := by
  intro n
  induction n with
  | zero => intro _; exact Nat.zero_le _
  | succ n ih =>
    intro hn
    have h1 := ih (by omega)
    have h2 := spV_le G (t := n) (by omega)
    show max (spM h n) (spV h n) ≤ 10
    omega
theorem lotF_some {h : HS} {K f S t : Nat} {z : Int32} (e : rath h K S = some t) : lotF h K (f + 1) z S = hGo h t S + lotF h K f (lotZ z) (if lotR (lotZ z) < h.su t then S ||| 2 ^ t else S) := by
  rw [lotF, e]
theorem lotF_none {h : HS} {K f S : Nat} {z : Int32} (e : rath h K S = none) : lotF h K f z S = 0 := by
  cases f with
  | zero => rfl
  | succ f => rw [lotF, e]
theorem ring_in {h : HS} {i : Nat} : ringN h i ||| (if anyUp (rg h i) 0 = true then 2 ^ i else 0) = ringN h i := by simp [anyUp]
theorem ring_out (h : HS) (i : Nat) : ringN h i ||| (if anyUp (rg h i) h.th = true then 2 ^ i else 0) = ringN h (i + 1) := rfl
theorem whole_p (h : HS) : whole h + 1 = 2 ^ h.th := by
  have := Nat.two_pow_pos h.th
  unfold whole
  omega
