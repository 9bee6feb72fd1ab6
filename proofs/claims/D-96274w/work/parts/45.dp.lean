/-! ===== orders by sets: what is found going up, in plain Lean ===== -/
set_option maxRecDepth 100000
theorem xor_x (S t : Nat) : (S ^^^ 2 ^ t) ^^^ 2 ^ t = S := by rw [Nat.xor_assoc, Nat.xor_self, Nat.xor_zero]
theorem or_xor {S t : Nat} (h : S.testBit t = false) : S ||| 2 ^ t = S ^^^ 2 ^ t := by
  apply Nat.eq_of_testBit_eq
  intro i
  rw [Nat.testBit_or, Nat.testBit_xor, Nat.testBit_two_pow]
  by_cases e : t = i
  · subst e; simp [h]
  · simp [e]
theorem or_add {S t : Nat} (h : S.testBit t = false) : S < S ||| 2 ^ t := by
  have h1 : S &&& 2 ^ t = 0 := by
    apply Nat.eq_of_testBit_eq
    intro i
    rw [Nat.testBit_and, Nat.testBit_two_pow, Nat.zero_testBit]
    by_cases e : t = i
    · subst e; simp [h]
    · simp [e]
  have h2 : S ≤ S ||| 2 ^ t := Nat.left_le_or
  rcases Nat.lt_or_ge S (S ||| 2 ^ t) with h3 | h3
  · exact h3
  · exfalso
    have e : S ||| 2 ^ t = S := Nat.le_antisymm h3 h2
    have h4 : (S ||| 2 ^ t).testBit t = true := by rw [Nat.testBit_or, Nat.testBit_two_pow]; simp
    rw [e, h] at h4
    cases h4
theorem or_bit (S t : Nat) : (S ||| 2 ^ t).testBit t = true := by rw [Nat.testBit_or, Nat.testBit_two_pow]; simp
theorem xor_lt {X t : Nat} (h : X.testBit t = true) : X ^^^ 2 ^ t < X := by
  have h1 : (X ^^^ 2 ^ t).testBit t = false := by rw [Nat.testBit_xor, Nat.testBit_two_pow, h]; simp
  have h2 := or_add h1
  rw [or_xor h1, xor_x] at h2
  exact h2
theorem xor_or {X t : Nat} (h : X.testBit t = true) : (X ^^^ 2 ^ t) ||| 2 ^ t = X := by
  have h1 : (X ^^^ 2 ^ t).testBit t = false := by rw [Nat.testBit_xor, Nat.testBit_two_pow, h]; simp
  rw [or_xor h1, xor_x]
theorem or_ltp {S t n : Nat} (hS : S < 2 ^ n) (ht : t < n) : S ||| 2 ^ t < 2 ^ n := Nat.or_lt_two_pow hS (Nat.pow_lt_pow_right (by decide) ht)
theorem hMay_nb {h : HS} {t S : Nat} (e : hMay h t S = true) : S.testBit t = false := by
  unfold hMay at e
  cases hb : S.testBit t
  · rfl
  · rw [hb] at e; cases e
def gM (h : HS) (t S : Nat) : Nat := hGo h t S * (25200 / h.su t)
theorem gM_le {h : HS} (G : Gh h) {t S : Nat} (ht : t < h.th) (hS : S < 1024) : gM h t S ≤ 1512000 := Nat.mul_le_mul (hGo_le G ht hS) (Nat.div_le_self 25200 (h.su t))
theorem sumUp_congr {f f' : Nat → Nat} : ∀ {n : Nat}, (∀ i, i < n → f i = f' i) → sumUp f n = sumUp f' n
  | 0, _ => rfl
  | n + 1, h => by
    show sumUp f n + f n = sumUp f' n + f' n
    rw [sumUp_congr (fun i hi => h i (Nat.lt_succ_of_lt hi)), h n (Nat.lt_succ_self n)]
theorem sumUp_one {f f' : Nat → Nat} {t d : Nat} : ∀ {n : Nat}, t < n → f' t = f t + d → (∀ i, i < n → i ≠ t → f' i = f i) → sumUp f' n = sumUp f n + d
  | 0, h, _, _ => absurd h (Nat.not_lt_zero _)
  | n + 1, h, e, k => by
    show sumUp f' n + f' n = sumUp f n + f n + d
    by_cases hn : t = n
    · subst hn
      rw [sumUp_congr (f := f') (f' := f) (fun i hi => k i (Nat.lt_succ_of_lt hi) (Nat.ne_of_lt hi)), e]
      omega
    · rw [sumUp_one (n := n) (by omega) e (fun i hi => k i (Nat.lt_succ_of_lt hi)), k n (Nat.lt_succ_self n) (Ne.symm hn)]
      omega
theorem sumUp_0 {f : Nat → Nat} : ∀ {n : Nat}, (∀ i, i < n → f i = 0) → sumUp f n = 0
  | 0, _ => rfl
  | n + 1, h => by
    show sumUp f n + f n = 0
    rw [sumUp_0 (fun i hi => h i (Nat.lt_succ_of_lt hi)), h n (Nat.lt_succ_self n)]
/-- the pair (S, t) lies behind -/
def dn (s i S t : Nat) : Bool := decide (S < s ∨ (S = s ∧ t < i))
theorem dn_le {s i S t : Nat} (h : dn s i S t = true) : S ≤ s := by
  have := of_decide_eq_true h
  omega
theorem dn_step {s i S t : Nat} : dn s (i + 1) S t = (dn s i S t || decide (S = s ∧ t = i)) := by
  unfold dn
  by_cases h1 : S < s
  · simp [h1]
  · by_cases h2 : S = s
    · subst h2
      by_cases h3 : t < i
      · simp [h3, Nat.lt_succ_of_lt h3]
      · by_cases h4 : t = i
        · subst h4; simp
        · have : ¬ t < i + 1 := by omega
          simp [h3, h4, this]
    · simp [h1, h2]
theorem dn_mono {s i S t : Nat} (h : dn s i S t = true) : dn s (i + 1) S t = true := by rw [dn_step, h]; rfl
theorem dn_next {h : HS} {s S t : Nat} (ht : t < h.th) : dn (s + 1) 0 S t = dn s h.th S t := by
  unfold dn
  congr 1
  apply propext
  omega
def wSum (h : HS) (s i : Nat) (w : Nat → Nat) (X : Nat) : Nat := sumUp (fun t => if X.testBit t = true ∧ dn s i (X ^^^ 2 ^ t) t = true ∧ hMay h t (X ^^^ 2 ^ t) = true then w (X ^^^ 2 ^ t) else 0) h.th
/-- orders found so far: of the sets ahead of s, and of s the things ahead of i -/
def FOI (h : HS) (s i : Nat) (f m w : Nat → Nat) : Prop :=
  (f h.ha = 0 ∧ m h.ha = 0 ∧ w h.ha = 1) ∧
  (∀ X, X < 2 ^ h.th → w X = 0 → f X = 1000000 ∧ m X = 1000000000000) ∧
  (∀ X, X < 2 ^ h.th → 0 < w X → f X ≤ 60 * X ∧ m X ≤ 1512000 * X) ∧
  (∀ X, X < 2 ^ h.th → 0 < w X → X ≠ h.ha → (∃ S t, t < h.th ∧ dn s i S t = true ∧ 0 < w S ∧ hMay h t S = true ∧ S ||| 2 ^ t = X ∧ f X = f S + hGo h t S) ∧ (∃ S t, t < h.th ∧ dn s i S t = true ∧ 0 < w S ∧ hMay h t S = true ∧ S ||| 2 ^ t = X ∧ m X = m S + gM h t S)) ∧
  (∀ S t, t < h.th → S < 2 ^ h.th → dn s i S t = true → 0 < w S → hMay h t S = true → 0 < w (S ||| 2 ^ t) ∧ f (S ||| 2 ^ t) ≤ f S + hGo h t S ∧ m (S ||| 2 ^ t) ≤ m S + gM h t S) ∧
  (∀ X, X < 2 ^ h.th → w X = (if X = h.ha then 1 else 0) + wSum h s i w X) ∧
  (∀ X, X < h.ha → w X = 0)
theorem FO_init {h : HS} (G : Gh h) {f m w : Nat → Nat} (hf : ∀ X, X < 2 ^ h.th → f X = if X = h.ha then 0 else 1000000) (hm : ∀ X, X < 2 ^ h.th → m X = if X = h.ha then 0 else 1000000000000) (hw : ∀ X, X < 2 ^ h.th → w X = if X = h.ha then 1 else 0) : FOI h h.ha 0 f m w := by
  have hha := G.2.1
  have w0 : ∀ X, X < 2 ^ h.th → X ≠ h.ha → w X = 0 := fun X hX ne => by rw [hw X hX, if_neg ne]
  refine ⟨⟨?_, ?_, ?_⟩, ?_, ?_, ?_, ?_, ?_, ?_⟩
  · rw [hf _ hha, if_pos rfl]
  · rw [hm _ hha, if_pos rfl]
  · rw [hw _ hha, if_pos rfl]
  · intro X hX h0
    have ne : X ≠ h.ha := fun e => by rw [hw X hX, if_pos e] at h0; cases h0
    rw [hf X hX, hm X hX, if_neg ne, if_neg ne]
    exact ⟨rfl, rfl⟩
  · intro X hX h0
    have e : X = h.ha := Classical.byContradiction fun ne => by rw [w0 X hX ne] at h0; exact absurd h0 (Nat.lt_irrefl _)
    rw [hf X hX, hm X hX, if_pos e, if_pos e]
    exact ⟨Nat.zero_le _, Nat.zero_le _⟩
  · intro X hX h0 ne
    rw [w0 X hX ne] at h0
    exact absurd h0 (Nat.lt_irrefl _)
  · intro S t ht hS hd h0
    have hd1 := of_decide_eq_true hd
    have : S ≠ h.ha := by omega
    rw [w0 S hS this] at h0
    exact absurd h0 (Nat.lt_irrefl _)
  · intro X hX
    have z : wSum h h.ha 0 w X = 0 := sumUp_0 (fun t ht => by
      by_cases c : X.testBit t = true ∧ dn h.ha 0 (X ^^^ 2 ^ t) t = true ∧ hMay h t (X ^^^ 2 ^ t) = true
      · rw [if_pos c]
        have hd1 := of_decide_eq_true c.2.1
        exact w0 _ (Nat.lt_trans (xor_lt c.1) hX) (by omega)
      · rw [if_neg c])
    rw [z, hw X hX]
    rfl
  · intro X hX
    exact w0 X (Nat.lt_trans hX hha) (Nat.ne_of_lt hX)
theorem FO_next {h : HS} {s t : Nat} {f m w : Nat → Nat} (et : t = h.th) (F : FOI h s t f m w) : FOI h (s + 1) 0 f m w := by
  subst et
  obtain ⟨a, b, c, d, e, k, z⟩ := F
  refine ⟨a, b, c, ?_, ?_, ?_, z⟩
  · intro X hX h0 ne
    obtain ⟨⟨S, t, ht, h1, h2⟩, ⟨S', t', ht', h1', h2'⟩⟩ := d X hX h0 ne
    exact ⟨⟨S, t, ht, by rw [dn_next ht]; exact h1, h2⟩, ⟨S', t', ht', by rw [dn_next ht']; exact h1', h2'⟩⟩
  · intro S t ht hS hd
    rw [dn_next ht] at hd
    exact e S t ht hS hd
  · intro X hX
    rw [k X hX]
    congr 1
    exact sumUp_congr (fun t ht => by rw [dn_next ht])
theorem FO_skip {h : HS} {s t : Nat} {f m w : Nat → Nat} (F : FOI h s t f m w) (hn : w s = 0 ∨ hMay h t s = false) : FOI h s (t + 1) f m w := by
  obtain ⟨a, b, c, d, e, k, z⟩ := F
  refine ⟨a, b, c, ?_, ?_, ?_, z⟩
  · intro X hX h0 ne
    obtain ⟨⟨S, t, ht, h1, h2⟩, ⟨S', t', ht', h1', h2'⟩⟩ := d X hX h0 ne
    exact ⟨⟨S, t, ht, dn_mono h1, h2⟩, ⟨S', t', ht', dn_mono h1', h2'⟩⟩
  · intro S t' ht hS hd h0 hm
    rw [dn_step] at hd
    rcases Bool.or_eq_true_iff.mp hd with h1 | h1
    · exact e S t' ht hS h1 h0 hm
    · obtain ⟨rfl, rfl⟩ := of_decide_eq_true h1
      rcases hn with h2 | h2
      · rw [h2] at h0; exact absurd h0 (Nat.lt_irrefl _)
      · rw [h2] at hm; cases hm
  · intro X hX
    rw [k X hX]
    congr 1
    refine sumUp_congr (fun t' ht => ?_)
    rw [dn_step]
    by_cases h1 : X ^^^ 2 ^ t' = s ∧ t' = t
    · have e1 : (if X.testBit t' = true ∧ dn s t (X ^^^ 2 ^ t') t' = true ∧ hMay h t' (X ^^^ 2 ^ t') = true then w (X ^^^ 2 ^ t') else 0) = 0 := by
        obtain ⟨e1, e2⟩ := h1
        rw [e1, e2, if_neg]
        intro z2
        have := of_decide_eq_true z2.2.1
        omega
      rw [e1]
      obtain ⟨e1, e2⟩ := h1
      rw [e1, e2]
      rcases hn with h2 | h2
      · rw [h2]; split <;> rfl
      · rw [h2]; simp
    · rw [decide_eq_false h1, Bool.or_false]
theorem FO_take {h : HS} (G : Gh h) {s t : Nat} {f m w : Nat → Nat} (F : FOI h s t f m w) (hs : s < 2 ^ h.th) (ht : t < h.th) (hw : 0 < w s) (hm : hMay h t s = true) :
    FOI h s (t + 1) (fu f (s ||| 2 ^ t) (min (f (s ||| 2 ^ t)) (f s + hGo h t s))) (fu m (s ||| 2 ^ t) (min (m (s ||| 2 ^ t)) (m s + gM h t s))) (fu w (s ||| 2 ^ t) (w (s ||| 2 ^ t) + w s)) := by
  obtain ⟨a, b, c, d, e, k, z⟩ := F
  have hp := G.p
  have nb := hMay_nb hm
  have hX0 := or_ltp hs ht
  have gt := or_add nb
  have xo := or_xor nb
  generalize hX : s ||| 2 ^ t = X0 at *
  have ls : ∀ {S : Nat}, S ≤ s → S ≠ X0 := fun h1 => by omega
  have sha : h.ha ≤ s := Nat.le_of_not_lt fun h1 => by rw [z s h1] at hw; exact absurd hw (Nat.lt_irrefl _)
  have fo : ∀ {g : Nat → Nat} {v S : Nat}, S ≠ X0 → fu g X0 v S = g S := fun h1 => if_neg h1
  have fs : ∀ {g : Nat → Nat} {v : Nat}, fu g X0 v X0 = v := if_pos rfl
  have hgo := hGo_le G ht (Nat.lt_of_lt_of_le hs hp)
  have hgm := gM_le G ht (Nat.lt_of_lt_of_le hs hp)
  have cs := c s hs hw
  have hwm : ∀ S, w S ≤ fu w X0 (w X0 + w s) S := fun S => by
    by_cases h1 : S = X0
    · subst h1; rw [fs]; omega
    · rw [fo h1]; exact Nat.le_refl _
  refine ⟨?_, ?_, ?_, ?_, ?_, ?_, ?_⟩
  · rw [fo (ls sha), fo (ls sha), fo (ls sha)]; exact a
  · intro X hXl h0
    have h1 : X ≠ X0 := fun h1 => by subst h1; rw [fs] at h0; omega
    rw [fo h1] at h0
    rw [fo h1, fo h1]
    exact b X hXl h0
  · intro X hXl h0
    by_cases h1 : X = X0
    · subst h1
      rw [fs, fs]
      exact ⟨Nat.le_trans (Nat.min_le_right _ _) (by omega), Nat.le_trans (Nat.min_le_right _ _) (by omega)⟩
    · rw [fo h1] at h0
      rw [fo h1, fo h1]
      exact c X hXl h0
  · intro X hXl h0 ne
    by_cases h1 : X = X0
    · subst h1
      rw [fs, fs]
      have nw : dn s (t + 1) s t = true := decide_eq_true (Or.inr ⟨rfl, Nat.lt_succ_self t⟩)
      have hws : 0 < fu w X (w X + w s) s := Nat.lt_of_lt_of_le hw (hwm s)
      by_cases hw0 : w X = 0
      · obtain ⟨b1, b2⟩ := b X hXl hw0
        rw [b1, b2]
        refine ⟨⟨s, t, ht, nw, hws, hm, hX, ?_⟩, ⟨s, t, ht, nw, hws, hm, hX, ?_⟩⟩
        · rw [fo (ls (Nat.le_refl s))]; omega
        · rw [fo (ls (Nat.le_refl s))]; omega
      · obtain ⟨⟨S, t1, q1, q2, q3, q4, q5, q6⟩, ⟨S', t1', r1, r2, r3, r4, r5, r6⟩⟩ := d X hXl (Nat.pos_of_ne_zero hw0) ne
        constructor
        · rcases Nat.le_total (f X) (f s + hGo h t s) with h2 | h2
          · exact ⟨S, t1, q1, dn_mono q2, Nat.lt_of_lt_of_le q3 (hwm S), q4, q5, by rw [Nat.min_eq_left h2, fo (ls (dn_le q2))]; exact q6⟩
          · exact ⟨s, t, ht, nw, hws, hm, hX, by rw [Nat.min_eq_right h2, fo (ls (Nat.le_refl s))]⟩
        · rcases Nat.le_total (m X) (m s + gM h t s) with h2 | h2
          · exact ⟨S', t1', r1, dn_mono r2, Nat.lt_of_lt_of_le r3 (hwm S'), r4, r5, by rw [Nat.min_eq_left h2, fo (ls (dn_le r2))]; exact r6⟩
          · exact ⟨s, t, ht, nw, hws, hm, hX, by rw [Nat.min_eq_right h2, fo (ls (Nat.le_refl s))]⟩
    · rw [fo h1] at h0
      rw [fo h1, fo h1]
      obtain ⟨⟨S, t1, q1, q2, q3, q4, q5, q6⟩, ⟨S', t1', r1, r2, r3, r4, r5, r6⟩⟩ := d X hXl h0 ne
      exact ⟨⟨S, t1, q1, dn_mono q2, Nat.lt_of_lt_of_le q3 (hwm S), q4, q5, by rw [fo (ls (dn_le q2))]; exact q6⟩, ⟨S', t1', r1, dn_mono r2, Nat.lt_of_lt_of_le r3 (hwm S'), r4, r5, by rw [fo (ls (dn_le r2))]; exact r6⟩⟩
  · intro S t1 ht1 hS hd h0 hm1
    have hle := dn_le hd
    rw [fo (ls hle)] at h0
    rw [fo (ls hle), fo (ls hle)]
    have key : 0 < fu w X0 (w X0 + w s) (S ||| 2 ^ t1) ∧ fu f X0 (min (f X0) (f s + hGo h t s)) (S ||| 2 ^ t1) ≤ f (S ||| 2 ^ t1) ∧ fu m X0 (min (m X0) (m s + gM h t s)) (S ||| 2 ^ t1) ≤ m (S ||| 2 ^ t1) ∨ ¬ 0 < w (S ||| 2 ^ t1) := by
      by_cases h2 : 0 < w (S ||| 2 ^ t1)
      · left
        refine ⟨Nat.lt_of_lt_of_le h2 (hwm _), ?_, ?_⟩
        all_goals
          by_cases h1 : S ||| 2 ^ t1 = X0
          · rw [h1, fs]; exact Nat.min_le_left _ _
          · rw [fo h1]; exact Nat.le_refl _
      · right; exact h2
    rw [dn_step] at hd
    rcases Bool.or_eq_true_iff.mp hd with h1 | h1
    · obtain ⟨e1, e2, e3⟩ := e S t1 ht1 hS h1 h0 hm1
      rcases key with key | key
      · exact ⟨key.1, Nat.le_trans key.2.1 e2, Nat.le_trans key.2.2 e3⟩
      · exact absurd e1 key
    · obtain ⟨rfl, rfl⟩ := of_decide_eq_true h1
      rw [hX, fs, fs, fs]
      exact ⟨by omega, Nat.min_le_right _ _, Nat.min_le_right _ _⟩
  · intro X hXl
    have same : ∀ t', dn s (t + 1) (X ^^^ 2 ^ t') t' = true → fu w X0 (w X0 + w s) (X ^^^ 2 ^ t') = w (X ^^^ 2 ^ t') := fun t' h1 => fo (ls (dn_le h1))
    by_cases h1 : X = X0
    · have ne : X ≠ h.ha := by omega
      have kk := k X hXl
      rw [if_neg ne] at kk ⊢
      have e1 : fu w X0 (w X0 + w s) X = w X + w s := by rw [h1, fs]
      rw [e1, kk]
      show 0 + wSum h s t w X + w s = 0 + wSum h s (t + 1) (fu w X0 (w X0 + w s)) X
      have xs : X ^^^ 2 ^ t = s := by rw [h1, xo, xor_x]
      have bt : X.testBit t = true := by rw [h1, ← hX]; exact or_bit s t
      have := sumUp_one (f := fun t' => if X.testBit t' = true ∧ dn s t (X ^^^ 2 ^ t') t' = true ∧ hMay h t' (X ^^^ 2 ^ t') = true then w (X ^^^ 2 ^ t') else 0) (f' := fun t' => if X.testBit t' = true ∧ dn s (t + 1) (X ^^^ 2 ^ t') t' = true ∧ hMay h t' (X ^^^ 2 ^ t') = true then fu w X0 (w X0 + w s) (X ^^^ 2 ^ t') else 0) (t := t) (d := w s) ht ?_ ?_
      · unfold wSum
        omega
      · simp only [xs]
        rw [if_pos ⟨bt, decide_eq_true (Or.inr ⟨rfl, Nat.lt_succ_self t⟩), hm⟩, if_neg (fun z2 => by have := of_decide_eq_true z2.2.1; omega), fo (ls (Nat.le_refl s))]
        omega
      · intro i hi hne
        by_cases c1 : X.testBit i = true ∧ dn s (t + 1) (X ^^^ 2 ^ i) i = true ∧ hMay h i (X ^^^ 2 ^ i) = true
        · rw [if_pos c1, same i c1.2.1, if_pos]
          refine ⟨c1.1, ?_, c1.2.2⟩
          have c2 := c1.2.1
          rw [dn_step, decide_eq_false (fun z2 => hne z2.2), Bool.or_false] at c2
          exact c2
        · rw [if_neg c1, if_neg]
          exact fun z2 => c1 ⟨z2.1, dn_mono z2.2.1, z2.2.2⟩
    · rw [fo h1, k X hXl]
      congr 1
      refine sumUp_congr (fun i hi => ?_)
      by_cases c1 : X.testBit i = true ∧ dn s (t + 1) (X ^^^ 2 ^ i) i = true ∧ hMay h i (X ^^^ 2 ^ i) = true
      · rw [if_pos c1, same i c1.2.1, if_pos]
        refine ⟨c1.1, ?_, c1.2.2⟩
        have c2 := c1.2.1
        rw [dn_step, decide_eq_false, Bool.or_false] at c2
        · exact c2
        · intro z2
          obtain ⟨z3, z4⟩ := z2
          apply h1
          rw [← xor_x X i, z3, z4, xo]
      · rw [if_neg c1, if_neg]
        exact fun z2 => c1 ⟨z2.1, dn_mono z2.2.1, z2.2.2⟩
  · intro X hXl
    rw [fo (show X ≠ X0 by omega)]
    exact z X hXl
/-! ways: how many at most -/
def fac : Nat → Nat
  | 0 => 1
  | n + 1 => (n + 1) * fac n
theorem pop_sum : ∀ X, X < 1024 → sumUp (fun t => if X.testBit t = true then 1 else 0) 10 = pop X := by decide +kernel
theorem pop_xor : ∀ t, t < 10 → ∀ X, X < 1024 → X.testBit t = true → pop (X ^^^ 2 ^ t) + 1 = pop X := by decide +kernel
theorem sumUp_mul {f : Nat → Nat} {c : Nat} {b : Nat → Bool} : ∀ {n : Nat}, (∀ i, i < n → f i ≤ if b i = true then c else 0) → sumUp f n ≤ sumUp (fun i => if b i = true then 1 else 0) n * c
  | 0, _ => Nat.zero_le _
  | n + 1, h => by
    show sumUp f n + f n ≤ (sumUp (fun i => if b i = true then 1 else 0) n + (if b n = true then 1 else 0)) * c
    have h1 := sumUp_mul (n := n) (fun i hi => h i (Nat.lt_succ_of_lt hi))
    have h2 := h n (Nat.lt_succ_self n)
    rw [Nat.add_mul]
    cases hb : b n <;> rw [hb] at h2 <;> simp at h2 ⊢ <;> omega
theorem sumUp_ext {f : Nat → Nat} {n : Nat} : ∀ {k : Nat}, n ≤ k → (∀ i, n ≤ i → i < k → f i = 0) → sumUp f k = sumUp f n
  | 0, h, _ => by rw [Nat.le_zero.mp h]
  | k + 1, h, e => by
    by_cases hk : n = k + 1
    · rw [hk]
    · show sumUp f k + f k = sumUp f n
      rw [sumUp_ext (k := k) (by omega) (fun i h1 h2 => e i h1 (by omega)), e k (by omega) (Nat.lt_succ_self k), Nat.add_zero]
theorem pop_n {n X : Nat} (hn : n ≤ 10) (hX : X < 2 ^ n) : sumUp (fun t => if X.testBit t = true then 1 else 0) n = pop X := by
  rw [← pop_sum X (Nat.lt_of_lt_of_le hX (p2le hn))]
  symm
  refine sumUp_ext hn (fun i h1 h2 => ?_)
  rw [Nat.testBit_lt_two_pow (Nat.lt_of_lt_of_le hX (Nat.pow_le_pow_right (by decide) h1))]
  rfl
theorem fac_pos : ∀ n, 1 ≤ fac n
  | 0 => Nat.le_refl _
  | n + 1 => Nat.mul_pos (Nat.succ_pos n) (fac_pos n)
/-- a count that goes by one thing less is at most a factorial -/
theorem fac_bound {h : HS} (G : Gh h) {w : Nat → Nat} {c : Nat → Nat → Bool} {b : Nat → Bool} (hw : ∀ X, X < 2 ^ h.th → w X ≤ (if b X = true then 1 else 0) + sumUp (fun t => if X.testBit t = true ∧ c X t = true then w (X ^^^ 2 ^ t) else 0) h.th) (hb : ∀ X, X < 2 ^ h.th → b X = true → sumUp (fun t => if X.testBit t = true ∧ c X t = true then w (X ^^^ 2 ^ t) else 0) h.th = 0) : ∀ X, X < 2 ^ h.th → w X ≤ fac (pop X) := by
  intro X
  induction X using Nat.strongRecOn with
  | _ X ih =>
    intro hX
    have h1 := hw X hX
    cases hbX : b X
    · rw [hbX] at h1
      simp only [Bool.false_eq_true, if_false, Nat.zero_add] at h1
      refine Nat.le_trans h1 ?_
      have h10 : X < 1024 := Nat.lt_of_lt_of_le hX G.p
      have h2 := sumUp_mul (f := fun t => if X.testBit t = true ∧ c X t = true then w (X ^^^ 2 ^ t) else 0) (c := fac (pop X - 1)) (b := fun t => X.testBit t) (n := h.th) (fun t ht => by
        by_cases c1 : X.testBit t = true ∧ c X t = true
        · simp only [c1, and_self, if_true]
          have h3 := ih _ (xor_lt c1.1) (Nat.lt_trans (xor_lt c1.1) hX)
          have h4 := pop_xor t (Nat.lt_of_lt_of_le ht G.1) X h10 c1.1
          rw [show pop (X ^^^ 2 ^ t) = pop X - 1 by omega] at h3
          exact h3
        · rw [if_neg c1]; exact Nat.zero_le _)
      rw [pop_n G.1 hX] at h2
      refine Nat.le_trans h2 ?_
      cases hp : pop X with
      | zero => rw [Nat.zero_mul]; exact Nat.zero_le _
      | succ k => exact Nat.le_refl _
    · rw [hb X hX hbX, hbX] at h1
      exact Nat.le_trans h1 (fac_pos _)
theorem fac_mono : ∀ {a b : Nat}, a ≤ b → fac a ≤ fac b
  | a, 0, h => by rw [Nat.le_zero.mp h]; exact Nat.le_refl _
  | a, b + 1, h => by
    by_cases e : a = b + 1
    · rw [e]; exact Nat.le_refl _
    · exact Nat.le_trans (fac_mono (show a ≤ b by omega)) (Nat.le_mul_of_pos_left _ (Nat.succ_pos b))
theorem fac10 {n : Nat} (h : n ≤ 10) : fac n ≤ 3628800 := Nat.le_trans (fac_mono h) (by decide)
theorem FO_w {h : HS} (G : Gh h) {s i : Nat} {f m w : Nat → Nat} (F : FOI h s i f m w) {X : Nat} (hX : X < 2 ^ h.th) : w X ≤ 3628800 := by
  obtain ⟨a, b, c, d, e, k, z⟩ := F
  have key := fac_bound G (w := w) (c := fun X t => dn s i (X ^^^ 2 ^ t) t && hMay h t (X ^^^ 2 ^ t)) (b := fun X => decide (X = h.ha)) (fun X hX => by
    rw [k X hX]
    simp only [decide_eq_true_eq, Bool.and_eq_true]
    exact Nat.le_refl _) (fun X hX hb => by
    have e1 := of_decide_eq_true hb
    refine sumUp_0 (fun t ht => ?_)
    by_cases c1 : X.testBit t = true ∧ (dn s i (X ^^^ 2 ^ t) t && hMay h t (X ^^^ 2 ^ t)) = true
    · rw [if_pos c1]
      exact z _ (by have := xor_lt c1.1; omega)
    · rw [if_neg c1])
  exact Nat.le_trans (key X hX) (fac10 (pop_le X (Nat.lt_of_lt_of_le hX G.p)))
