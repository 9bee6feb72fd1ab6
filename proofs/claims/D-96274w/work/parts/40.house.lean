/-! ===== small static methods, kinds, a house that is read (printed by gen/p40.py) ===== -/
set_option maxRecDepth 100000
set_option maxHeartbeats 4000000 in
theorem ct_X0_has (l : Launch) {g : GX} {H : Heap} (S t : Nat) (hS : S < 2 ^ 31) (ht : t < 31) : CtR l g yX0_has cX0_has 2 (some .boolean) 0 0 [.int (nI S), .int (nI t)] H (some (.int (b2 (S.testBit t)))) := by
  refine CtR.of (by decide) (Nat.le_of_ble_eq_true rfl) ?_
  intro p e s m args below meth c C hH ls hl
  obtain ⟨hx, hb, hml, hown, hts, hX, hlk, hr, -⟩ := id C
  have hl : lv_has ls 2 [(0, .int (nI S)), (1, .int (nI t))] := hl
  refine lv_iload_n hx hb dX0_has_0 rfl (lv_at hl 0 rfl) ?_
  refine lv_iload_n hx hb dX0_has_1 rfl (lv_at hl 1 rfl) ?_
  refine lv_ishr hx hb dX0_has_2 ?_
  refine x_ni (y := nI (S / 2 ^ t)) (nw_shr (by omega) (by omega)) ?_
  refine lv_iconst (v := nI 1) hx hb dX0_has_3 (by decide) ?_
  refine lv_iand hx hb dX0_has_4 ?_
  refine x_ni (y := nI ((S / 2 ^ t) % 2)) (nw_and1 _) ?_
  refine lv_iconst (v := nI 1) hx hb dX0_has_5 (by decide) ?_
  refine xn_ne (a := (S / 2 ^ t) % 2) (b := 1) (tgt := 13) hx hb dX0_has_6 (by decide) (by omega) (by omega) (fun c_6 => ?_) (fun c_6 => ?_)
  · skip
    refine lv_iconst (v := nI 0) hx hb dX0_has_13 (by decide) ?_
    exact x_zret hx hb hr hlk (Or.inl rfl) (Nat.le_refl _) (Nat.le_refl _) (fun _ h => nomatch h) dX0_has_14 (⟨rtF (by rw [Nat.testBit_eq_decide_div_mod_eq]; simp only [decide_eq_false_iff_not]; exact c_6), rfl⟩)
  · skip
    refine lv_iconst (v := nI 1) hx hb dX0_has_9 (by decide) ?_
    refine lv_goto (tgt := 14) hx hb dX0_has_10 (by decide) ?_
    exact x_zret hx hb hr hlk (Or.inr rfl) (Nat.le_refl _) (Nat.le_refl _) (fun _ h => nomatch h) dX0_has_14 (⟨rtT (by rw [Nat.testBit_eq_decide_div_mod_eq]; simp only [decide_eq_true_eq]; exact c_6), rfl⟩)
theorem kX0_has : Cal yX0_has cX0_has 2 (some .boolean) 2 := ⟨q699, q81, by decide, by decide +kernel⟩
set_option maxHeartbeats 4000000 in
theorem ct_X0_ones (l : Launch) {g : GX} {H : Heap} (S : Nat) (hS : S < 1024) : CtR l g yX0_ones cX0_ones 3 (some .int) 0 0 [.int (nI S)] H (some (.int (nI (pop S)))) := by
  refine CtR.of (by decide) (Nat.le_of_ble_eq_true rfl) ?_
  intro p e s m args below meth c C hH ls hl
  obtain ⟨hx, hb, hml, hown, hts, hX, hlk, hr, -⟩ := id C
  have hl : lv_has ls 3 [(0, .int (nI S))] := hl
  have L : ∀ (n : Nat) (k : Nat) (b : Nat) (ls : Array Slot), b < n → (b < 1024) → (k + pop b = pop S) → lv_has ls 3 [(0, .int (nI S)), (1, .int (nI k)), (2, .int (nI b))] → W p l e (rmR 0 0) s m args below meth c H [] 0 0 (MQ below (QV (fun v H1 => v = (some (.int (nI (pop S)))) ∧ H1 = H)) args s 0 0 (fun _ => False)) (F0 m 4 ls []) := by
    intro n
    induction n with
    | zero =>
      intro k b ls hm
      exact absurd hm (Nat.not_lt_zero _)
    | succ n ih_L =>
      intro k b ls hm_L hb2 hi hl
      refine lv_iload_n hx hb dX0_ones_4 rfl (lv_at hl 2 rfl) ?_
      refine xz_eq (n := b) (tgt := 20) hx hb dX0_ones_5 (by decide) (by omega) (fun c_5 => ?_) (fun c_5 => ?_)
      · skip
        refine lv_iload_n hx hb dX0_ones_20 rfl (lv_at hl 1 rfl) ?_
        exact x_iret hx hb hr hlk (Nat.le_refl _) (Nat.le_refl _) (fun _ h => nomatch h) dX0_ones_21 (⟨rtI (by rw [c_5] at hi; exact hi), rfl⟩)
      · skip
        refine lv_iinc (v := nI (k + 1)) (lv' := [(1, .int (nI (k + 1))), (0, .int (nI S)), (2, .int (nI b))]) hx hb dX0_ones_8 hl (k := 1) rfl (nI_add _ 1) (by decide) rfl (fun ls hl => ?_)
        refine lv_iload_n hx hb dX0_ones_11 rfl (lv_at hl 2 rfl) ?_
        refine lv_iload_n hx hb dX0_ones_12 rfl (lv_at hl 2 rfl) ?_
        refine lv_iconst (v := nI 1) hx hb dX0_ones_13 (by decide) ?_
        refine lv_isub hx hb dX0_ones_14 ?_
        refine x_ni (y := nI (b - 1)) (pk_sub (by omega)) ?_
        refine lv_iand hx hb dX0_ones_15 ?_
        refine x_ni (y := nI (b &&& (b - 1))) (nw_and _ _) ?_
        refine lv_istore_n (lv' := [(2, .int (nI (b &&& (b - 1)))), (1, .int (nI (k + 1))), (0, .int (nI S))]) hx hb dX0_ones_16 rfl hl (by decide) rfl (fun ls hl => ?_)
        refine lv_goto (tgt := 4) hx hb dX0_ones_17 (by decide) ?_
        have g1 := pop_step b hb2 c_5
        exact ih_L (k + 1) (b &&& (b - 1)) _ (by first | omega | (simp only []; omega)) (by omega) (by omega) (lv_sub hl [2, 1, 0] rfl)
  refine lv_iconst (v := nI 0) hx hb dX0_ones_0 (by decide) ?_
  refine lv_istore_n (lv' := [(1, .int (nI 0)), (0, .int (nI S))]) hx hb dX0_ones_1 rfl hl (by decide) rfl (fun ls hl => ?_)
  refine lv_iload_n hx hb dX0_ones_2 rfl (lv_at hl 1 rfl) ?_
  refine lv_istore_n (lv' := [(2, .int (nI S)), (1, .int (nI 0)), (0, .int (nI S))]) hx hb dX0_ones_3 rfl hl (by decide) rfl (fun ls hl => ?_)
  exact L _ 0 S _ (Nat.lt_succ_self _) hS (by omega) (lv_sub hl [2, 1, 0] rfl)
theorem kX0_ones : Cal yX0_ones cX0_ones 3 (some .int) 1 := ⟨q713, q81, by decide, by decide +kernel⟩
set_option maxHeartbeats 4000000 in
theorem ct_X0_in (l : Launch) {g : GX} {H : Heap} (x lo hi : Int64) : CtR l g yX0_in cX0_in 6 (some .boolean) 0 0 [.long x, .long lo, .long hi] H (some (.int (b2 (inL x lo hi)))) := by
  refine CtR.of (by decide) (Nat.le_of_ble_eq_true rfl) ?_
  intro p e s m args below meth c C hH ls hl
  obtain ⟨hx, hb, hml, hown, hts, hX, hlk, hr, -⟩ := id C
  have hl : lv_has ls 6 [(0, .long x), (2, .long lo), (4, .long hi)] := hl
  refine lv_lload_n hx hb dX0_in_0 rfl (lv_at hl 0 rfl) ?_
  refine lv_lload_n hx hb dX0_in_1 rfl (lv_at hl 1 rfl) ?_
  refine W.lcmp hx hb dX0_in_2 ?_
  refine xc_lt (x := x) (y := lo) (tgt := 17) hx hb dX0_in_3 (by decide) (fun c_3 => ?_) (fun c_3 => ?_)
  · skip
    refine lv_iconst (v := nI 0) hx hb dX0_in_17 (by decide) ?_
    exact x_zret hx hb hr hlk (Or.inl rfl) (Nat.le_refl _) (Nat.le_refl _) (fun _ h => nomatch h) dX0_in_18 (⟨rtF (by first | (rw [inL, decide_eq_false (Int64.not_le.mpr c_3), Bool.false_and]) | (rw [inL, decide_eq_false (Int64.not_le.mpr c_10), Bool.and_false]) | (rw [inL, decide_eq_true (Int64.not_lt.mp c_3), decide_eq_true (Int64.not_lt.mp c_10)]; rfl)), rfl⟩)
  · skip
    refine lv_lload_n hx hb dX0_in_6 rfl (lv_at hl 0 rfl) ?_
    refine lv_lload hx hb dX0_in_7 (lv_at hl 2 rfl) ?_
    refine W.lcmp hx hb dX0_in_9 ?_
    refine xc_gt (x := x) (y := hi) (tgt := 17) hx hb dX0_in_10 (by decide) (fun c_10 => ?_) (fun c_10 => ?_)
    · skip
      refine lv_iconst (v := nI 0) hx hb dX0_in_17 (by decide) ?_
      exact x_zret hx hb hr hlk (Or.inl rfl) (Nat.le_refl _) (Nat.le_refl _) (fun _ h => nomatch h) dX0_in_18 (⟨rtF (by first | (rw [inL, decide_eq_false (Int64.not_le.mpr c_3), Bool.false_and]) | (rw [inL, decide_eq_false (Int64.not_le.mpr c_10), Bool.and_false]) | (rw [inL, decide_eq_true (Int64.not_lt.mp c_3), decide_eq_true (Int64.not_lt.mp c_10)]; rfl)), rfl⟩)
    · skip
      refine lv_iconst (v := nI 1) hx hb dX0_in_13 (by decide) ?_
      refine lv_goto (tgt := 18) hx hb dX0_in_14 (by decide) ?_
      exact x_zret hx hb hr hlk (Or.inr rfl) (Nat.le_refl _) (Nat.le_refl _) (fun _ h => nomatch h) dX0_in_18 (⟨rtT (by first | (rw [inL, decide_eq_false (Int64.not_le.mpr c_3), Bool.false_and]) | (rw [inL, decide_eq_false (Int64.not_le.mpr c_10), Bool.and_false]) | (rw [inL, decide_eq_true (Int64.not_lt.mp c_3), decide_eq_true (Int64.not_lt.mp c_10)]; rfl)), rfl⟩)
theorem kX0_in : Cal yX0_in cX0_in 6 (some .boolean) 3 := ⟨q504, q81, by decide, by decide +kernel⟩
set_option maxHeartbeats 4000000 in
theorem ct_X0_divisor (l : Launch) {g : GX} {H : Heap} (A B : Nat) (hA : A < 2 ^ 63) (hB : B < 2 ^ 63) : CtR l g yX0_divisor cX0_divisor 10 (some .long) 0 0 [.long (lN A), .long (lN B)] H (some (.long (lN (Nat.gcd A B)))) := by
  refine CtR.of (by decide) (Nat.le_of_ble_eq_true rfl) ?_
  intro p e s m args below meth c C hH ls hl
  obtain ⟨hx, hb, hml, hown, hts, hX, hlk, hr, -⟩ := id C
  have hl : lv_has ls 10 [(0, .long (lN A)), (2, .long (lN B))] := hl
  have L : ∀ (n : Nat) (a : Nat) (b : Nat) (ls : Array Slot), b < n → (a < 2 ^ 63) → (b < 2 ^ 63) → (Nat.gcd a b = Nat.gcd A B) → lv_has ls 10 [(4, .long (lN a)), (6, .long (lN b))] → W p l e (rmR 0 0) s m args below meth c H [] 0 0 (MQ below (QV (fun v H1 => v = (some (.long (lN (Nat.gcd A B)))) ∧ H1 = H)) args s 0 0 (fun _ => False)) (F0 m 6 ls []) := by
    intro n
    induction n with
    | zero =>
      intro a b ls hm
      exact absurd hm (Nat.not_lt_zero _)
    | succ n ih_L =>
      intro a b ls hm_L ha hb2 hi hl
      refine lv_lload hx hb dX0_divisor_6 (lv_at hl 1 rfl) ?_
      refine lv_lconst (v := lN 0) hx hb dX0_divisor_8 (by decide) ?_
      refine W.lcmp hx hb dX0_divisor_9 ?_
      refine xc_eq (x := lN b) (y := lN 0) (tgt := 31) hx hb dX0_divisor_10 (by decide) (fun c_10 => ?_) (fun c_10 => ?_)
      · skip
        refine lv_lload hx hb dX0_divisor_31 (lv_at hl 0 rfl) ?_
        exact x_lret hx hb hr hlk (Nat.le_refl _) (Nat.le_refl _) (fun _ h => nomatch h) dX0_divisor_33 (⟨rtL (by have g := (pk_lEQ hb2 (by decide)).mp c_10; rw [← hi, g, Nat.gcd_zero_right]), rfl⟩)
      · skip
        refine lv_lload hx hb dX0_divisor_13 (lv_at hl 0 rfl) ?_
        refine lv_lload hx hb dX0_divisor_15 (lv_at hl 1 rfl) ?_
        refine lv_lrem hx hb dX0_divisor_17 c_10 ?_
        refine x_nl (y := lN (a % b)) (pk_lRem ha (Nat.pos_of_ne_zero (fun z => c_10 (by rw [z]))) hb2) ?_
        refine lv_lstore (lv' := [(8, .long (lN (a % b))), (4, .long (lN a)), (6, .long (lN b))]) hx hb dX0_divisor_18 hl (by decide) rfl (fun ls hl => ?_)
        refine lv_lload hx hb dX0_divisor_20 (lv_at hl 2 rfl) ?_
        refine lv_lstore (lv' := [(4, .long (lN b)), (8, .long (lN (a % b))), (6, .long (lN b))]) hx hb dX0_divisor_22 hl (by decide) rfl (fun ls hl => ?_)
        refine lv_lload hx hb dX0_divisor_24 (lv_at hl 1 rfl) ?_
        refine lv_lstore (lv' := [(6, .long (lN (a % b))), (4, .long (lN b)), (8, .long (lN (a % b)))]) hx hb dX0_divisor_26 hl (by decide) rfl (fun ls hl => ?_)
        refine lv_goto (tgt := 6) hx hb dX0_divisor_28 (by decide) ?_
        have g0 : b ≠ 0 := fun z => c_10 (by rw [z])
        have g1 : a % b < b := Nat.mod_lt _ (by omega)
        exact ih_L b (a % b) _ (by first | omega | (simp only []; omega)) (by omega) (by omega) (by rw [← hi, Nat.gcd_comm b, ← Nat.gcd_rec, Nat.gcd_comm]) (lv_sub hl [1, 0] rfl)
  refine lv_lload_n hx hb dX0_divisor_0 rfl (lv_at hl 0 rfl) ?_
  refine lv_lstore (lv' := [(4, .long (lN A)), (0, .long (lN A)), (2, .long (lN B))]) hx hb dX0_divisor_1 hl (by decide) rfl (fun ls hl => ?_)
  refine lv_lload_n hx hb dX0_divisor_3 rfl (lv_at hl 2 rfl) ?_
  refine lv_lstore (lv' := [(6, .long (lN B)), (4, .long (lN A)), (0, .long (lN A)), (2, .long (lN B))]) hx hb dX0_divisor_4 hl (by decide) rfl (fun ls hl => ?_)
  exact L _ A B _ (Nat.lt_succ_self _) hA hB rfl (lv_sub hl [1, 0] rfl)
theorem kX0_divisor : Cal yX0_divisor cX0_divisor 10 (some .long) 2 := ⟨q999, q81, by decide, by decide +kernel⟩
set_option maxHeartbeats 4000000 in
theorem ct_X0_partOf (l : Launch) {g : GX} {H : Heap} (A B q : Nat) (hA : A < 2 ^ 63) (hB : B < 2 ^ 63) (hq : q < 2 ^ 31) : CtR l g yX0_partOf cX0_partOf 7 (some .long) 1 29 [.long (lN A), .long (lN B), .int (nI q)] H (some (.long (lN (partN A B q)))) := by
  refine CtR.of (by decide) (Nat.le_of_ble_eq_true rfl) ?_
  intro p e s m args below meth c C hH ls hl
  obtain ⟨hx, hb, hml, hown, hts, hX, hlk, hr, -⟩ := id C
  have hl : lv_has ls 7 [(0, .long (lN A)), (2, .long (lN B)), (4, .int (nI q))] := hl
  refine lv_lload_n hx hb dX0_partOf_0 rfl (lv_at hl 0 rfl) ?_
  refine lv_lconst (v := lN 0) hx hb dX0_partOf_1 (by decide) ?_
  refine W.lcmp hx hb dX0_partOf_2 ?_
  refine xc_ne (x := lN A) (y := lN 0) (tgt := 10) hx hb dX0_partOf_3 (by decide) (fun c_3 => ?_) (fun c_3 => ?_)
  · skip
    have g0 : A ≠ 0 := fun z => c_3 (by rw [z])
    have g1 : 0 < Nat.gcd A B := Nat.gcd_pos_of_pos_left B (Nat.pos_of_ne_zero g0)
    have g2 : Nat.gcd A B ≤ A := Nat.gcd_le_left B (Nat.pos_of_ne_zero g0)
    have g3 : ¬ lN (Nat.gcd A B) = 0 := fun z => by have z2 := (pk_lEQ (a := Nat.gcd A B) (b := 0) (by omega) (by decide)).mp z; omega
    refine lv_lload_n hx hb dX0_partOf_10 rfl (lv_at hl 0 rfl) ?_
    refine lv_lload_n hx hb dX0_partOf_11 rfl (lv_at hl 1 rfl) ?_
    refine x_goR (runS (As := [.long (lN A), .long (lN B)]) (rest := []) C (ct_X0_divisor l A B (by omega) (by omega)) kX0_divisor q997 q998 rfl ⟨Nat.le_of_ble_eq_true rfl, Nat.le_of_ble_eq_true rfl⟩ ⟨Nat.le_of_ble_eq_true rfl, Nat.le_of_ble_eq_true rfl⟩ hl.1 (Nat.le_of_ble_eq_true rfl) dX0_partOf_12 rfl) ?_
    refine lv_lstore (lv' := [(5, .long (lN (Nat.gcd A B))), (0, .long (lN A)), (2, .long (lN B)), (4, .int (nI q))]) hx hb dX0_partOf_15 hl (by decide) rfl (fun ls hl => ?_)
    refine lv_iload hx hb dX0_partOf_17 (lv_at hl 3 rfl) ?_
    refine xz_ne (n := q) (tgt := 29) hx hb dX0_partOf_19 (by decide) (by omega) (fun c_19 => ?_) (fun c_19 => ?_)
    · skip
      refine lv_lload_n hx hb dX0_partOf_29 rfl (lv_at hl 2 rfl) ?_
      refine lv_lload hx hb dX0_partOf_30 (lv_at hl 0 rfl) ?_
      refine lv_ldiv hx hb dX0_partOf_32 g3 ?_
      refine x_nl (y := lN (B / Nat.gcd A B)) (pk_lDiv hB g1 (by omega)) ?_
      exact x_lret hx hb hr hlk (Nat.le_refl _) (Nat.le_refl _) (fun _ h => nomatch h) dX0_partOf_33 (⟨rtL (by first | (rw [partN, if_pos g0]) | (rw [partN, if_neg g0, if_pos c_19]) | (rw [partN, if_neg g0, if_neg c_19])), rfl⟩)
    · skip
      refine lv_lload_n hx hb dX0_partOf_22 rfl (lv_at hl 1 rfl) ?_
      refine lv_lload hx hb dX0_partOf_23 (lv_at hl 0 rfl) ?_
      refine lv_ldiv hx hb dX0_partOf_25 g3 ?_
      refine x_nl (y := lN (A / Nat.gcd A B)) (pk_lDiv hA g1 (by omega)) ?_
      refine lv_goto (tgt := 33) hx hb dX0_partOf_26 (by decide) ?_
      exact x_lret hx hb hr hlk (Nat.le_refl _) (Nat.le_refl _) (fun _ h => nomatch h) dX0_partOf_33 (⟨rtL (by first | (rw [partN, if_pos g0]) | (rw [partN, if_neg g0, if_pos c_19]) | (rw [partN, if_neg g0, if_neg c_19])), rfl⟩)
  · skip
    have g0 : A = 0 := (pk_lEQ hA (by decide)).mp c_3
    refine lv_iload hx hb dX0_partOf_6 (lv_at hl 2 rfl) ?_
    refine lv_i2l (v := lN q) hx hb dX0_partOf_8 (nI_l (by omega)) ?_
    exact x_lret hx hb hr hlk (Nat.le_refl _) (Nat.le_refl _) (fun _ h => nomatch h) dX0_partOf_9 (⟨rtL (by first | (rw [partN, if_pos g0]) | (rw [partN, if_neg g0, if_pos c_19]) | (rw [partN, if_neg g0, if_neg c_19])), rfl⟩)
theorem kX0_partOf : Cal yX0_partOf cX0_partOf 7 (some .long) 3 := ⟨q996, q81, by decide, by decide +kernel⟩
set_option maxHeartbeats 4000000 in
theorem ct_X1_minutes (l : Launch) {g : GX} {H : Heap} (b a S : Nat) : CtR l g yX1_minutes cX1_minutes 3 (some .int) 0 0 [.ref b, .int (nI a), .int (nI S)] H (some (.int (nI a))) := by
  refine CtR.of (by decide) (Nat.le_of_ble_eq_true rfl) ?_
  intro p e s m args below meth c C hH ls hl
  obtain ⟨hx, hb, hml, hown, hts, hX, hlk, hr, -⟩ := id C
  have hl : lv_has ls 3 [(0, .ref b), (1, .int (nI a)), (2, .int (nI S))] := hl
  refine lv_iload_n hx hb dX1_minutes_0 rfl (lv_at hl 1 rfl) ?_
  exact x_iret hx hb hr hlk (Nat.le_refl _) (Nat.le_refl _) (fun _ h => nomatch h) dX1_minutes_1 (⟨rfl, rfl⟩)
theorem kX1_minutes : Cal yX1_minutes cX1_minutes 3 (some .int) 2 := ⟨q696, q82, by decide, by decide +kernel⟩
set_option maxHeartbeats 4000000 in
theorem ct_X2_kind (l : Launch) {g : GX} {H : Heap} (b : Nat) : CtR l g yX2_kind cX2_kind 1 (some .int) 0 0 [.ref b] H (some (.int (nI 0))) := by
  refine CtR.of (by decide) (Nat.le_of_ble_eq_true rfl) ?_
  intro p e s m args below meth c C hH ls hl
  obtain ⟨hx, hb, hml, hown, hts, hX, hlk, hr, -⟩ := id C
  have hl : lv_has ls 1 [(0, .ref b)] := hl
  refine lv_iconst (v := nI 0) hx hb dX2_kind_0 (by decide) ?_
  exact x_iret hx hb hr hlk (Nat.le_refl _) (Nat.le_refl _) (fun _ h => nomatch h) dX2_kind_1 (⟨rfl, rfl⟩)
theorem kX2_kind : Cal yX2_kind cX2_kind 1 (some .int) 0 := ⟨q677, q83, by decide, by decide +kernel⟩
set_option maxHeartbeats 4000000 in
theorem ct_X3_kind (l : Launch) {g : GX} {H : Heap} (b : Nat) : CtR l g yX3_kind cX3_kind 1 (some .int) 0 0 [.ref b] H (some (.int (nI 1))) := by
  refine CtR.of (by decide) (Nat.le_of_ble_eq_true rfl) ?_
  intro p e s m args below meth c C hH ls hl
  obtain ⟨hx, hb, hml, hown, hts, hX, hlk, hr, -⟩ := id C
  have hl : lv_has ls 1 [(0, .ref b)] := hl
  refine lv_iconst (v := nI 1) hx hb dX3_kind_0 (by decide) ?_
  exact x_iret hx hb hr hlk (Nat.le_refl _) (Nat.le_refl _) (fun _ h => nomatch h) dX3_kind_1 (⟨rfl, rfl⟩)
theorem kX3_kind : Cal yX3_kind cX3_kind 1 (some .int) 0 := ⟨q665, q84, by decide, by decide +kernel⟩
set_option maxHeartbeats 4000000 in
theorem ct_X4_kind (l : Launch) {g : GX} {H : Heap} (b : Nat) : CtR l g yX4_kind cX4_kind 1 (some .int) 0 0 [.ref b] H (some (.int (nI 2))) := by
  refine CtR.of (by decide) (Nat.le_of_ble_eq_true rfl) ?_
  intro p e s m args below meth c C hH ls hl
  obtain ⟨hx, hb, hml, hown, hts, hX, hlk, hr, -⟩ := id C
  have hl : lv_has ls 1 [(0, .ref b)] := hl
  refine lv_iconst (v := nI 2) hx hb dX4_kind_0 (by decide) ?_
  exact x_iret hx hb hr hlk (Nat.le_refl _) (Nat.le_refl _) (fun _ h => nomatch h) dX4_kind_1 (⟨rfl, rfl⟩)
theorem kX4_kind : Cal yX4_kind cX4_kind 1 (some .int) 0 := ⟨q671, q85, by decide, by decide +kernel⟩
set_option maxHeartbeats 4000000 in
theorem ct_X5_kind (l : Launch) {g : GX} {H : Heap} (b : Nat) : CtR l g yX5_kind cX5_kind 1 (some .int) 0 0 [.ref b] H (some (.int (nI 3))) := by
  refine CtR.of (by decide) (Nat.le_of_ble_eq_true rfl) ?_
  intro p e s m args below meth c C hH ls hl
  obtain ⟨hx, hb, hml, hown, hts, hX, hlk, hr, -⟩ := id C
  have hl : lv_has ls 1 [(0, .ref b)] := hl
  refine lv_iconst (v := nI 3) hx hb dX5_kind_0 (by decide) ?_
  exact x_iret hx hb hr hlk (Nat.le_refl _) (Nat.le_refl _) (fun _ h => nomatch h) dX5_kind_1 (⟨rfl, rfl⟩)
theorem kX5_kind : Cal yX5_kind cX5_kind 1 (some .int) 0 := ⟨q668, q86, by decide, by decide +kernel⟩
set_option maxHeartbeats 4000000 in
theorem ct_X6_kind (l : Launch) {g : GX} {H : Heap} (b : Nat) : CtR l g yX6_kind cX6_kind 1 (some .int) 0 0 [.ref b] H (some (.int (nI 4))) := by
  refine CtR.of (by decide) (Nat.le_of_ble_eq_true rfl) ?_
  intro p e s m args below meth c C hH ls hl
  obtain ⟨hx, hb, hml, hown, hts, hX, hlk, hr, -⟩ := id C
  have hl : lv_has ls 1 [(0, .ref b)] := hl
  refine lv_iconst (v := nI 4) hx hb dX6_kind_0 (by decide) ?_
  exact x_iret hx hb hr hlk (Nat.le_refl _) (Nat.le_refl _) (fun _ h => nomatch h) dX6_kind_1 (⟨rfl, rfl⟩)
theorem kX6_kind : Cal yX6_kind cX6_kind 1 (some .int) 0 := ⟨q680, q87, by decide, by decide +kernel⟩
set_option maxHeartbeats 4000000 in
theorem ct_X7_kind (l : Launch) {g : GX} {H : Heap} (b : Nat) : CtR l g yX7_kind cX7_kind 1 (some .int) 0 0 [.ref b] H (some (.int (nI 5))) := by
  refine CtR.of (by decide) (Nat.le_of_ble_eq_true rfl) ?_
  intro p e s m args below meth c C hH ls hl
  obtain ⟨hx, hb, hml, hown, hts, hX, hlk, hr, -⟩ := id C
  have hl : lv_has ls 1 [(0, .ref b)] := hl
  refine lv_iconst (v := nI 5) hx hb dX7_kind_0 (by decide) ?_
  exact x_iret hx hb hr hlk (Nat.le_refl _) (Nat.le_refl _) (fun _ h => nomatch h) dX7_kind_1 (⟨rfl, rfl⟩)
theorem kX7_kind : Cal yX7_kind cX7_kind 1 (some .int) 0 := ⟨q674, q88, by decide, by decide +kernel⟩
set_option maxHeartbeats 4000000 in
theorem ct_X2_may (l : Launch) {g : GX} {H : Heap} (b a z S : Nat) (ha : a < 1024) (hz : z < 1024) (hS : S < 1024) : CtR l g yX2_may cX2_may 4 (some .boolean) 0 0 [.ref b, .int (nI a), .int (nI z), .int (nI S)] H (some (.int (b2 (mayT a z S)))) := by
  refine CtR.of (by decide) (Nat.le_of_ble_eq_true rfl) ?_
  intro p e s m args below meth c C hH ls hl
  obtain ⟨hx, hb, hml, hown, hts, hX, hlk, hr, -⟩ := id C
  have hl : lv_has ls 4 [(0, .ref b), (1, .int (nI a)), (2, .int (nI z)), (3, .int (nI S))] := hl
  refine lv_iload_n hx hb dX2_may_0 rfl (lv_at hl 1 rfl) ?_
  refine xz_eq (n := a) (tgt := 10) hx hb dX2_may_1 (by decide) (by omega) (fun c_1 => ?_) (fun c_1 => ?_)
  · skip
    refine lv_iload_n hx hb dX2_may_10 rfl (lv_at hl 2 rfl) ?_
    refine lv_iload_n hx hb dX2_may_11 rfl (lv_at hl 3 rfl) ?_
    refine lv_iconst (v := -1) hx hb dX2_may_12 (by decide) ?_
    refine lv_ixor hx hb dX2_may_13 ?_
    refine x_ni (y := nI S ^^^ (-1)) rfl ?_
    refine lv_iand hx hb dX2_may_14 ?_
    refine x_ni (y := nI (sdf z S)) (nw_dif _ _) ?_
    refine xz_ne (n := sdf z S) (tgt := 22) hx hb dX2_may_15 (by decide) (Nat.lt_of_le_of_lt (sdf_le _ _) (by omega)) (fun c_15 => ?_) (fun c_15 => ?_)
    · skip
      refine lv_iconst (v := nI 0) hx hb dX2_may_22 (by decide) ?_
      exact x_zret hx hb hr hlk (Or.inl rfl) (Nat.le_refl _) (Nat.le_refl _) (fun _ h => nomatch h) dX2_may_23 (⟨rtF (by simp_all [mayT]), rfl⟩)
    · skip
      refine lv_iconst (v := nI 1) hx hb dX2_may_18 (by decide) ?_
      refine lv_goto (tgt := 23) hx hb dX2_may_19 (by decide) ?_
      exact x_zret hx hb hr hlk (Or.inr rfl) (Nat.le_refl _) (Nat.le_refl _) (fun _ h => nomatch h) dX2_may_23 (⟨rtT (by simp_all [mayT]), rfl⟩)
  · skip
    refine lv_iload_n hx hb dX2_may_4 rfl (lv_at hl 1 rfl) ?_
    refine lv_iload_n hx hb dX2_may_5 rfl (lv_at hl 3 rfl) ?_
    refine lv_iand hx hb dX2_may_6 ?_
    refine x_ni (y := nI (a &&& S)) (nw_and _ _) ?_
    refine xz_eq (n := a &&& S) (tgt := 22) hx hb dX2_may_7 (by decide) (Nat.lt_of_le_of_lt Nat.and_le_left (by omega)) (fun c_7 => ?_) (fun c_7 => ?_)
    · skip
      refine lv_iconst (v := nI 0) hx hb dX2_may_22 (by decide) ?_
      exact x_zret hx hb hr hlk (Or.inl rfl) (Nat.le_refl _) (Nat.le_refl _) (fun _ h => nomatch h) dX2_may_23 (⟨rtF (by simp_all [mayT]), rfl⟩)
    · skip
      refine lv_iload_n hx hb dX2_may_10 rfl (lv_at hl 2 rfl) ?_
      refine lv_iload_n hx hb dX2_may_11 rfl (lv_at hl 3 rfl) ?_
      refine lv_iconst (v := -1) hx hb dX2_may_12 (by decide) ?_
      refine lv_ixor hx hb dX2_may_13 ?_
      refine x_ni (y := nI S ^^^ (-1)) rfl ?_
      refine lv_iand hx hb dX2_may_14 ?_
      refine x_ni (y := nI (sdf z S)) (nw_dif _ _) ?_
      refine xz_ne (n := sdf z S) (tgt := 22) hx hb dX2_may_15 (by decide) (Nat.lt_of_le_of_lt (sdf_le _ _) (by omega)) (fun c_15 => ?_) (fun c_15 => ?_)
      · skip
        refine lv_iconst (v := nI 0) hx hb dX2_may_22 (by decide) ?_
        exact x_zret hx hb hr hlk (Or.inl rfl) (Nat.le_refl _) (Nat.le_refl _) (fun _ h => nomatch h) dX2_may_23 (⟨rtF (by simp_all [mayT]), rfl⟩)
      · skip
        refine lv_iconst (v := nI 1) hx hb dX2_may_18 (by decide) ?_
        refine lv_goto (tgt := 23) hx hb dX2_may_19 (by decide) ?_
        exact x_zret hx hb hr hlk (Or.inr rfl) (Nat.le_refl _) (Nat.le_refl _) (fun _ h => nomatch h) dX2_may_23 (⟨rtT (by simp_all [mayT]), rfl⟩)
theorem kX2_may : Cal yX2_may cX2_may 4 (some .boolean) 3 := ⟨q738, q83, by decide, by decide +kernel⟩
section
variable {g : GX} {ad : Nat → Nat} {h0 : HS} {h1 : HS} {h2 : HS} {hi : Bool} {ro : Nat → Int32} {rn : Nat} {lt : Nat → Int32} {ln : Nat} {rf : Nat → Int32} {fw : Nat → Int32} {mn : Nat → Int64} {wy : Nat → Int32} {tg : Nat → Int32} {od : Nat → Int32} {tk : Int32} {mt : Int32} {H : Heap}
theorem kat {k : Nat} (hk : k < 6) : (cw g ad h0 h1 h2 hi ro rn lt ln rf fw mn wy tg od tk mt)[2 + k]? = some (ad (2 + k), .inr (2 + k, [])) := by
  match k, hk with
  | 0, _ => rfl
  | 1, _ => rfl
  | 2, _ => rfl
  | 3, _ => rfl
  | 4, _ => rfl
  | 5, _ => rfl
  | k + 6, h => exact absurd h (by omega)
theorem kRecv {s : State} (hX : KX g s) (hP : va_P g.1 cl (cw g ad h0 h1 h2 hi ro rn lt ln rf fw mn wy tg od tk mt) H) {k : Nat} (hk : k < 6) : ∃ (Cn : String) (cC : ClassId), ClassAt s Cn cC ∧ Recv s H Cn (ad (2 + k)) := by
  match k, hk with
  | 0, _ => exact ⟨_, _, (hX.1.1 2 _ rfl).2, va_recv hX.1 hP (ci := 2) (q0 := 2) rfl cw_at2⟩
  | 1, _ => exact ⟨_, _, (hX.1.1 3 _ rfl).2, va_recv hX.1 hP (ci := 3) (q0 := 3) rfl cw_at3⟩
  | 2, _ => exact ⟨_, _, (hX.1.1 4 _ rfl).2, va_recv hX.1 hP (ci := 4) (q0 := 4) rfl cw_at4⟩
  | 3, _ => exact ⟨_, _, (hX.1.1 5 _ rfl).2, va_recv hX.1 hP (ci := 5) (q0 := 5) rfl cw_at5⟩
  | 4, _ => exact ⟨_, _, (hX.1.1 6 _ rfl).2, va_recv hX.1 hP (ci := 6) (q0 := 6) rfl cw_at6⟩
  | 5, _ => exact ⟨_, _, (hX.1.1 7 _ rfl).2, va_recv hX.1 hP (ci := 7) (q0 := 7) rfl cw_at7⟩
  | k + 6, h => exact absurd h (by omega)
end
theorem sub_TK {s : State} {args : Array Value} (hts : ∀ w ∈ lw_all, w.before args s = true) : ∀ cn : ClassId, s.vm.findClass "WithoutThem$Thing" = some cn → ∀ r0 : MethodId, s.vm.findClass "WithoutThem$Kind" = some r0.cls → s.vm.isSubclass cn r0.cls = true := by
  intro cn hc r0 h0
  obtain ⟨p1, k1, kp, h1, h2, h3, h4, -⟩ := Cond.superclass_spec hc (hts _ q132)
  have e : p1 = r0.cls := Option.some.inj (h1.symm.trans h0)
  rw [← e]
  exact isSub1 h2 h4
theorem sub_BK {s : State} {args : Array Value} (hts : ∀ w ∈ lw_all, w.before args s = true) : ∀ cn : ClassId, s.vm.findClass "WithoutThem$Both" = some cn → ∀ r0 : MethodId, s.vm.findClass "WithoutThem$Kind" = some r0.cls → s.vm.isSubclass cn r0.cls = true := by
  intro cn hc r0 h0
  obtain ⟨p1, k1, kp, h1, h2, h3, h4, -⟩ := Cond.superclass_spec hc (hts _ q139)
  obtain ⟨p2, k2, kp2, g1, g2, g3, g4, -⟩ := Cond.superclass_spec h1 (hts _ q132)
  have e : p2 = r0.cls := Option.some.inj (g1.symm.trans h0)
  rw [← e]
  exact isSub2 h2 h4 g2 g4 (Array.getElem?_eq_some_iff.mp g3).1
set_option maxHeartbeats 4000000 in
theorem ct_X3_may (l : Launch) {g : GX} {ad : Nat → Nat} {h0 : HS} {h1 : HS} {h2 : HS} {hi : Bool} {ro : Nat → Int32} {rn : Nat} {lt : Nat → Int32} {ln : Nat} {rf : Nat → Int32} {fw : Nat → Int32} {mn : Nat → Int64} {wy : Nat → Int32} {tg : Nat → Int32} {od : Nat → Int32} {tk : Int32} {mt : Int32} {H : Heap} (hP : va_P g.1 cl (cw g ad h0 h1 h2 hi ro rn lt ln rf fw mn wy tg od tk mt) H) (k a z S : Nat) (hk : k < 6) (ha : a < 1024) (hz : z < 1024) (hS : S < 1024) : CtR l g yX3_may cX3_may 4 (some .boolean) 1 23 [.ref (ad (2 + k)), .int (nI a), .int (nI z), .int (nI S)] H (some (.int (b2 (mayT a z S && decide (min 2 (pop a) ≤ pop (a &&& S)))))) := by
  refine CtR.of (by decide) (Nat.le_of_ble_eq_true rfl) ?_
  intro p e s m args below meth c C hH ls hl
  obtain ⟨hx, hb, hml, hown, hts, hX, hlk, hr, -⟩ := id C
  have hl : lv_has ls 4 [(0, .ref (ad (2 + k))), (1, .int (nI a)), (2, .int (nI z)), (3, .int (nI S))] := hl
  obtain ⟨Cn, cC, hat, hrv⟩ := kRecv hX hP hk
  refine lv_aload_n hx hb dX3_may_0 rfl (lv_at hl 0 rfl) ?_
  refine lv_iload_n hx hb dX3_may_1 rfl (lv_at hl 1 rfl) ?_
  refine lv_iload_n hx hb dX3_may_2 rfl (lv_at hl 2 rfl) ?_
  refine lv_iload_n hx hb dX3_may_3 rfl (lv_at hl 3 rfl) ?_
  refine x_goR (runSU (As := [.int (nI a), .int (nI z), .int (nI S)]) (rest := []) C hat (ct_X2_may l (ad (2 + k)) a z S (by omega) (by omega) (by omega)) kX2_may q736 q1437 q139 q737 (by decide) hrv rfl ⟨Nat.le_of_ble_eq_true rfl, Nat.le_of_ble_eq_true rfl⟩ ⟨Nat.le_of_ble_eq_true rfl, Nat.le_of_ble_eq_true rfl⟩ hl.1 (Nat.le_of_ble_eq_true rfl) dX3_may_4 rfl) ?_
  refine xb_eq (b := mayT a z S) (tgt := 31) hx hb dX3_may_7 (by decide) (fun c_7 => ?_) (fun c_7 => ?_)
  · skip
    refine lv_iconst (v := nI 0) hx hb dX3_may_31 (by decide) ?_
    exact x_zret hx hb hr hlk (Or.inl rfl) (Nat.le_refl _) (Nat.le_refl _) (fun _ h => nomatch h) dX3_may_32 (⟨rtF (by simp_all), rfl⟩)
  · skip
    refine lv_iload_n hx hb dX3_may_10 rfl (lv_at hl 1 rfl) ?_
    refine lv_iload_n hx hb dX3_may_11 rfl (lv_at hl 3 rfl) ?_
    refine lv_iand hx hb dX3_may_12 ?_
    refine x_ni (y := nI (a &&& S)) (nw_and _ _) ?_
    refine x_goR (runSN (As := [.int (nI (a &&& S))]) (rest := []) C (ct_X0_ones l (a &&& S) (Nat.lt_of_le_of_lt Nat.and_le_left (by omega))) kX0_ones q739 q712 rfl ⟨Nat.le_of_ble_eq_true rfl, Nat.le_of_ble_eq_true rfl⟩ ⟨Nat.le_of_ble_eq_true rfl, Nat.le_of_ble_eq_true rfl⟩ hl.1 (Nat.le_of_ble_eq_true rfl) dX3_may_13 rfl) ?_
    refine lv_iconst (v := nI 2) hx hb dX3_may_16 (by decide) ?_
    refine lv_iload_n hx hb dX3_may_17 rfl (lv_at hl 1 rfl) ?_
    refine x_goR (runSN (As := [.int (nI a)]) (rest := [.int (nI 2), .int (nI (pop (a &&& S)))]) C (ct_X0_ones l a (by omega)) kX0_ones q739 q712 rfl ⟨Nat.le_of_ble_eq_true rfl, Nat.le_of_ble_eq_true rfl⟩ ⟨Nat.le_of_ble_eq_true rfl, Nat.le_of_ble_eq_true rfl⟩ hl.1 (Nat.le_of_ble_eq_true rfl) dX3_may_18 rfl) ?_
    refine va_mmin hx hb (hml.trans hl.1.symm) hown (hts _ q740) (hts _ q741) (hts _ q112) (hts _ q742) (Nat.le_of_ble_eq_true rfl) (Nat.le_of_ble_eq_true rfl) (Nat.zero_le _) (Nat.zero_le _) dX3_may_21 ?_
    refine x_ni (y := nI (min 2 (pop a))) (mminN (by omega) (by have := pop_le a ha; omega)) ?_
    refine xn_lt (a := pop (a &&& S)) (b := min 2 (pop a)) (tgt := 31) hx hb dX3_may_24 (by decide) (by have := pop_le (a &&& S) (Nat.lt_of_le_of_lt Nat.and_le_left ha); omega) (by omega) (fun c_24 => ?_) (fun c_24 => ?_)
    · skip
      refine lv_iconst (v := nI 0) hx hb dX3_may_31 (by decide) ?_
      exact x_zret hx hb hr hlk (Or.inl rfl) (Nat.le_refl _) (Nat.le_refl _) (fun _ h => nomatch h) dX3_may_32 (⟨rtF (by simp_all), rfl⟩)
    · skip
      refine lv_iconst (v := nI 1) hx hb dX3_may_27 (by decide) ?_
      refine lv_goto (tgt := 32) hx hb dX3_may_28 (by decide) ?_
      exact x_zret hx hb hr hlk (Or.inr rfl) (Nat.le_refl _) (Nat.le_refl _) (fun _ h => nomatch h) dX3_may_32 (⟨rtT (by simp_all), rfl⟩)
theorem kX3_may : Cal yX3_may cX3_may 4 (some .boolean) 3 := ⟨q735, q84, by decide, by decide +kernel⟩
set_option maxHeartbeats 4000000 in
theorem ct_X5_may (l : Launch) {g : GX} {ad : Nat → Nat} {h0 : HS} {h1 : HS} {h2 : HS} {hi : Bool} {ro : Nat → Int32} {rn : Nat} {lt : Nat → Int32} {ln : Nat} {rf : Nat → Int32} {fw : Nat → Int32} {mn : Nat → Int64} {wy : Nat → Int32} {tg : Nat → Int32} {od : Nat → Int32} {tk : Int32} {mt : Int32} {H : Heap} (hP : va_P g.1 cl (cw g ad h0 h1 h2 hi ro rn lt ln rf fw mn wy tg od tk mt) H) (k a z S : Nat) (hk : k < 6) (ha : a < 1024) (hz : z < 1024) (hS : S < 1024) : CtR l g yX5_may cX5_may 4 (some .boolean) 1 23 [.ref (ad (2 + k)), .int (nI a), .int (nI z), .int (nI S)] H (some (.int (b2 (mayT a 0 S || mayT 0 z S)))) := by
  refine CtR.of (by decide) (Nat.le_of_ble_eq_true rfl) ?_
  intro p e s m args below meth c C hH ls hl
  obtain ⟨hx, hb, hml, hown, hts, hX, hlk, hr, -⟩ := id C
  have hl : lv_has ls 4 [(0, .ref (ad (2 + k))), (1, .int (nI a)), (2, .int (nI z)), (3, .int (nI S))] := hl
  obtain ⟨Cn, cC, hat, hrv⟩ := kRecv hX hP hk
  refine lv_aload_n hx hb dX5_may_0 rfl (lv_at hl 0 rfl) ?_
  refine lv_iload_n hx hb dX5_may_1 rfl (lv_at hl 1 rfl) ?_
  refine lv_iconst (v := nI 0) hx hb dX5_may_2 (by decide) ?_
  refine lv_iload_n hx hb dX5_may_3 rfl (lv_at hl 3 rfl) ?_
  refine x_goR (runSU (As := [.int (nI a), .int (nI 0), .int (nI S)]) (rest := []) C hat (ct_X2_may l (ad (2 + k)) a 0 S (by omega) (by omega) (by omega)) kX2_may q746 q1437 q153 q737 (by decide) hrv rfl ⟨Nat.le_of_ble_eq_true rfl, Nat.le_of_ble_eq_true rfl⟩ ⟨Nat.le_of_ble_eq_true rfl, Nat.le_of_ble_eq_true rfl⟩ hl.1 (Nat.le_of_ble_eq_true rfl) dX5_may_4 rfl) ?_
  refine xb_ne (b := mayT a 0 S) (tgt := 20) hx hb dX5_may_7 (by decide) (fun c_7 => ?_) (fun c_7 => ?_)
  · skip
    refine lv_iconst (v := nI 1) hx hb dX5_may_20 (by decide) ?_
    refine lv_goto (tgt := 25) hx hb dX5_may_21 (by decide) ?_
    exact x_zret hx hb hr hlk (Or.inr rfl) (Nat.le_refl _) (Nat.le_refl _) (fun _ h => nomatch h) dX5_may_25 (⟨rtT (by simp_all), rfl⟩)
  · skip
    refine lv_aload_n hx hb dX5_may_10 rfl (lv_at hl 0 rfl) ?_
    refine lv_iconst (v := nI 0) hx hb dX5_may_11 (by decide) ?_
    refine lv_iload_n hx hb dX5_may_12 rfl (lv_at hl 2 rfl) ?_
    refine lv_iload_n hx hb dX5_may_13 rfl (lv_at hl 3 rfl) ?_
    refine x_goR (runSU (As := [.int (nI 0), .int (nI z), .int (nI S)]) (rest := []) C hat (ct_X2_may l (ad (2 + k)) 0 z S (by omega) (by omega) (by omega)) kX2_may q746 q1437 q153 q737 (by decide) hrv rfl ⟨Nat.le_of_ble_eq_true rfl, Nat.le_of_ble_eq_true rfl⟩ ⟨Nat.le_of_ble_eq_true rfl, Nat.le_of_ble_eq_true rfl⟩ hl.1 (Nat.le_of_ble_eq_true rfl) dX5_may_14 rfl) ?_
    refine xb_eq (b := mayT 0 z S) (tgt := 24) hx hb dX5_may_17 (by decide) (fun c_17 => ?_) (fun c_17 => ?_)
    · skip
      refine lv_iconst (v := nI 0) hx hb dX5_may_24 (by decide) ?_
      exact x_zret hx hb hr hlk (Or.inl rfl) (Nat.le_refl _) (Nat.le_refl _) (fun _ h => nomatch h) dX5_may_25 (⟨rtF (by simp_all), rfl⟩)
    · skip
      refine lv_iconst (v := nI 1) hx hb dX5_may_20 (by decide) ?_
      refine lv_goto (tgt := 25) hx hb dX5_may_21 (by decide) ?_
      exact x_zret hx hb hr hlk (Or.inr rfl) (Nat.le_refl _) (Nat.le_refl _) (fun _ h => nomatch h) dX5_may_25 (⟨rtT (by simp_all), rfl⟩)
theorem kX5_may : Cal yX5_may cX5_may 4 (some .boolean) 3 := ⟨q745, q86, by decide, by decide +kernel⟩
set_option maxHeartbeats 4000000 in
theorem ct_X4_minutes (l : Launch) {g : GX} {ad : Nat → Nat} {h0 : HS} {h1 : HS} {h2 : HS} {hi : Bool} {ro : Nat → Int32} {rn : Nat} {lt : Nat → Int32} {ln : Nat} {rf : Nat → Int32} {fw : Nat → Int32} {mn : Nat → Int64} {wy : Nat → Int32} {tg : Nat → Int32} {od : Nat → Int32} {tk : Int32} {mt : Int32} {H : Heap} (hP : va_P g.1 cl (cw g ad h0 h1 h2 hi ro rn lt ln rf fw mn wy tg od tk mt) H) (k a S : Nat) (hk : k < 6) (ha : a < 1024) (hS : S < 1024) : CtR l g yX4_minutes cX4_minutes 4 (some .int) 1 22 [.ref (ad (2 + k)), .int (nI a), .int (nI S)] H (some (.int (nI (goK 2 a S)))) := by
  refine CtR.of (by decide) (Nat.le_of_ble_eq_true rfl) ?_
  intro p e s m args below meth c C hH ls hl
  obtain ⟨hx, hb, hml, hown, hts, hX, hlk, hr, -⟩ := id C
  have hl : lv_has ls 4 [(0, .ref (ad (2 + k))), (1, .int (nI a)), (2, .int (nI S))] := hl
  obtain ⟨Cn, cC, hat, hrv⟩ := kRecv hX hP hk
  refine lv_aload_n hx hb dX4_minutes_0 rfl (lv_at hl 0 rfl) ?_
  refine lv_iload_n hx hb dX4_minutes_1 rfl (lv_at hl 1 rfl) ?_
  refine lv_iload_n hx hb dX4_minutes_2 rfl (lv_at hl 2 rfl) ?_
  refine x_goR (runSUP (x := ⟨"WithoutThem$Thing", "minutes", "(II)I"⟩) (As := [.int (nI a), .int (nI S)]) (rest := []) C hat (ct_X1_minutes l (ad (2 + k)) a S) kX1_minutes q693 q694 q146 q686 (by decide) rfl (sub_TK hts) hrv rfl ⟨Nat.le_of_ble_eq_true rfl, Nat.le_of_ble_eq_true rfl⟩ ⟨Nat.le_of_ble_eq_true rfl, Nat.le_of_ble_eq_true rfl⟩ hl.1 (Nat.le_of_ble_eq_true rfl) dX4_minutes_3 rfl) ?_
  refine lv_istore_n (lv' := [(3, .int (nI a)), (0, .ref (ad (2 + k))), (1, .int (nI a)), (2, .int (nI S))]) hx hb dX4_minutes_6 rfl hl (by decide) rfl (fun ls hl => ?_)
  refine lv_iload_n hx hb dX4_minutes_7 rfl (lv_at hl 3 rfl) ?_
  refine lv_iconst (v := nI 0) hx hb dX4_minutes_8 (by decide) ?_
  refine x_goR (runSN (As := [.int (nI S), .int (nI 0)]) (rest := []) C (ct_X0_has l S 0 (by omega) (by omega)) kX0_has q697 q698 rfl ⟨Nat.le_of_ble_eq_true rfl, Nat.le_of_ble_eq_true rfl⟩ ⟨Nat.le_of_ble_eq_true rfl, Nat.le_of_ble_eq_true rfl⟩ hl.1 (Nat.le_of_ble_eq_true rfl) dX4_minutes_9 rfl) ?_
  refine xb_eq (b := S.testBit 0) (tgt := 23) hx hb dX4_minutes_12 (by decide) (fun c_12 => ?_) (fun c_12 => ?_)
  · skip
    refine lv_iload_n hx hb dX4_minutes_23 rfl (lv_at hl 0 rfl) ?_
    exact x_iret hx hb hr hlk (Nat.le_refl _) (Nat.le_refl _) (fun _ h => nomatch h) dX4_minutes_24 (⟨rtI (by simp [goK, c_12]), rfl⟩)
  · skip
    refine lv_iload_n hx hb dX4_minutes_15 rfl (lv_at hl 0 rfl) ?_
    refine lv_iconst (v := nI 1) hx hb dX4_minutes_16 (by decide) ?_
    refine lv_iadd hx hb dX4_minutes_17 ?_
    refine x_ni (y := nI (a + 1)) (nI_add _ _) ?_
    refine lv_iconst (v := nI 2) hx hb dX4_minutes_18 (by decide) ?_
    refine lv_idiv hx hb dX4_minutes_19 (by decide) ?_
    refine x_ni (y := nI ((a + 1) / 2)) (pk_div (by omega) (by omega) (by omega)) ?_
    refine lv_goto (tgt := 24) hx hb dX4_minutes_20 (by decide) ?_
    exact x_iret hx hb hr hlk (Nat.le_refl _) (Nat.le_refl _) (fun _ h => nomatch h) dX4_minutes_24 (⟨rtI (by simp [goK, c_12]), rfl⟩)
theorem kX4_minutes : Cal yX4_minutes cX4_minutes 4 (some .int) 2 := ⟨q692, q85, by decide, by decide +kernel⟩
set_option maxHeartbeats 4000000 in
theorem ct_X6_minutes (l : Launch) {g : GX} {ad : Nat → Nat} {h0 : HS} {h1 : HS} {h2 : HS} {hi : Bool} {ro : Nat → Int32} {rn : Nat} {lt : Nat → Int32} {ln : Nat} {rf : Nat → Int32} {fw : Nat → Int32} {mn : Nat → Int64} {wy : Nat → Int32} {tg : Nat → Int32} {od : Nat → Int32} {tk : Int32} {mt : Int32} {H : Heap} (hP : va_P g.1 cl (cw g ad h0 h1 h2 hi ro rn lt ln rf fw mn wy tg od tk mt) H) (k a S : Nat) (hk : k < 6) (ha : a < 1024) (hS : S < 1024) : CtR l g yX6_minutes cX6_minutes 3 (some .int) 1 22 [.ref (ad (2 + k)), .int (nI a), .int (nI S)] H (some (.int (nI (goK 4 a S)))) := by
  refine CtR.of (by decide) (Nat.le_of_ble_eq_true rfl) ?_
  intro p e s m args below meth c C hH ls hl
  obtain ⟨hx, hb, hml, hown, hts, hX, hlk, hr, -⟩ := id C
  have hl : lv_has ls 3 [(0, .ref (ad (2 + k))), (1, .int (nI a)), (2, .int (nI S))] := hl
  obtain ⟨Cn, cC, hat, hrv⟩ := kRecv hX hP hk
  refine lv_aload_n hx hb dX6_minutes_0 rfl (lv_at hl 0 rfl) ?_
  refine lv_iload_n hx hb dX6_minutes_1 rfl (lv_at hl 1 rfl) ?_
  refine lv_iload_n hx hb dX6_minutes_2 rfl (lv_at hl 2 rfl) ?_
  refine x_goR (runSUP (x := ⟨"WithoutThem$Both", "minutes", "(II)I"⟩) (As := [.int (nI a), .int (nI S)]) (rest := []) C hat (ct_X1_minutes l (ad (2 + k)) a S) kX1_minutes q709 q710 q160 q686 (by decide) rfl (sub_BK hts) hrv rfl ⟨Nat.le_of_ble_eq_true rfl, Nat.le_of_ble_eq_true rfl⟩ ⟨Nat.le_of_ble_eq_true rfl, Nat.le_of_ble_eq_true rfl⟩ hl.1 (Nat.le_of_ble_eq_true rfl) dX6_minutes_3 rfl) ?_
  refine lv_iload_n hx hb dX6_minutes_6 rfl (lv_at hl 2 rfl) ?_
  refine x_goR (runSN (As := [.int (nI S)]) (rest := [.int (nI a)]) C (ct_X0_ones l S (by omega)) kX0_ones q711 q712 rfl ⟨Nat.le_of_ble_eq_true rfl, Nat.le_of_ble_eq_true rfl⟩ ⟨Nat.le_of_ble_eq_true rfl, Nat.le_of_ble_eq_true rfl⟩ hl.1 (Nat.le_of_ble_eq_true rfl) dX6_minutes_7 rfl) ?_
  refine lv_iadd hx hb dX6_minutes_10 ?_
  refine x_ni (y := nI (a + (pop S))) (nI_add _ _) ?_
  exact x_iret hx hb hr hlk (Nat.le_refl _) (Nat.le_refl _) (fun _ h => nomatch h) dX6_minutes_11 (⟨rfl, rfl⟩)
theorem kX6_minutes : Cal yX6_minutes cX6_minutes 3 (some .int) 2 := ⟨q708, q87, by decide, by decide +kernel⟩
set_option maxHeartbeats 4000000 in
theorem ct_X7_minutes (l : Launch) {g : GX} {ad : Nat → Nat} {h0 : HS} {h1 : HS} {h2 : HS} {hi : Bool} {ro : Nat → Int32} {rn : Nat} {lt : Nat → Int32} {ln : Nat} {rf : Nat → Int32} {fw : Nat → Int32} {mn : Nat → Int64} {wy : Nat → Int32} {tg : Nat → Int32} {od : Nat → Int32} {tk : Int32} {mt : Int32} {H : Heap} (hP : va_P g.1 cl (cw g ad h0 h1 h2 hi ro rn lt ln rf fw mn wy tg od tk mt) H) (k a S : Nat) (hk : k < 6) (ha : a < 1024) (hS : S < 1024) : CtR l g yX7_minutes cX7_minutes 3 (some .int) 2 45 [.ref (ad (2 + k)), .int (nI a), .int (nI S)] H (some (.int (nI (goK 5 a S)))) := by
  refine CtR.of (by decide) (Nat.le_of_ble_eq_true rfl) ?_
  intro p e s m args below meth c C hH ls hl
  obtain ⟨hx, hb, hml, hown, hts, hX, hlk, hr, -⟩ := id C
  have hl : lv_has ls 3 [(0, .ref (ad (2 + k))), (1, .int (nI a)), (2, .int (nI S))] := hl
  obtain ⟨Cn, cC, hat, hrv⟩ := kRecv hX hP hk
  refine lv_aload_n hx hb dX7_minutes_0 rfl (lv_at hl 0 rfl) ?_
  refine lv_iload_n hx hb dX7_minutes_1 rfl (lv_at hl 1 rfl) ?_
  refine lv_iload_n hx hb dX7_minutes_2 rfl (lv_at hl 2 rfl) ?_
  refine x_goR (runSU (As := [.int (nI a), .int (nI S)]) (rest := []) C hat (ct_X4_minutes l hP k a S hk ha hS) kX4_minutes q703 q1436 q167 q691 (by decide) hrv rfl ⟨Nat.le_of_ble_eq_true rfl, Nat.le_of_ble_eq_true rfl⟩ ⟨Nat.le_of_ble_eq_true rfl, Nat.le_of_ble_eq_true rfl⟩ hl.1 (Nat.le_of_ble_eq_true rfl) dX7_minutes_3 rfl) ?_
  refine lv_iload_n hx hb dX7_minutes_6 rfl (lv_at hl 2 rfl) ?_
  refine lv_iconst (v := nI 1) hx hb dX7_minutes_7 (by decide) ?_
  refine x_goR (runSN (As := [.int (nI S), .int (nI 1)]) (rest := [.int (nI (goK 2 a S))]) C (ct_X0_has l S 1 (by omega) (by omega)) kX0_has q704 q698 rfl ⟨Nat.le_of_ble_eq_true rfl, Nat.le_of_ble_eq_true rfl⟩ ⟨Nat.le_of_ble_eq_true rfl, Nat.le_of_ble_eq_true rfl⟩ hl.1 (Nat.le_of_ble_eq_true rfl) dX7_minutes_8 rfl) ?_
  refine xb_eq (b := S.testBit 1) (tgt := 18) hx hb dX7_minutes_11 (by decide) (fun c_11 => ?_) (fun c_11 => ?_)
  · skip
    refine lv_iconst (v := nI 2) hx hb dX7_minutes_18 (by decide) ?_
    refine lv_imul hx hb dX7_minutes_19 ?_
    refine x_ni (y := nI ((goK 2 a S) * 2)) (pk_mul _ _) ?_
    exact x_iret hx hb hr hlk (Nat.le_refl _) (Nat.le_refl _) (fun _ h => nomatch h) dX7_minutes_20 (⟨rtI (by simp [goK, c_11]), rfl⟩)
  · skip
    refine lv_iconst (v := nI 1) hx hb dX7_minutes_14 (by decide) ?_
    refine lv_goto (tgt := 19) hx hb dX7_minutes_15 (by decide) ?_
    refine lv_imul hx hb dX7_minutes_19 ?_
    refine x_ni (y := nI ((goK 2 a S) * 1)) (pk_mul _ _) ?_
    exact x_iret hx hb hr hlk (Nat.le_refl _) (Nat.le_refl _) (fun _ h => nomatch h) dX7_minutes_20 (⟨rtI (by simp [goK, c_11]), rfl⟩)
theorem kX7_minutes : Cal yX7_minutes cX7_minutes 3 (some .int) 2 := ⟨q702, q88, by decide, by decide +kernel⟩
theorem kc_may {p : Program} {l : Launch} {e : Env} {R : Room} {s : State} {m : MethodId} {args : Array Value} {below : List Frame} {meth : Method} {c : Code} {H : Heap} {locs : List Loc} {cells slots : Nat} {Q : State → Prop} {pc : Nat} {ls : Array Slot} {rest : List Value} {cc : ByteArray} {nL : Nat} {y0 : MethodName} {ret0 : Option FieldType} {g : GX} {ad : Nat → Nat} {h0 : HS} {h1 : HS} {h2 : HS} {hi : Bool} {ro : Nat → Int32} {rn : Nat} {lt : Nat → Int32} {ln : Nat} {rf : Nat → Int32} {fw : Nat → Int32} {mn : Nat → Int64} {wy : Nat → Int32} {tg : Nat → Int32} {od : Nat → Int32} {tk : Int32} {mt : Int32} (C : CX g p s m args meth c cc nL y0 ret0) (hP : va_P g.1 cl (cw g ad h0 h1 h2 hi ro rn lt ln rf fw mn wy tg od tk mt) H) {k idx : Nat} (hk : k < 6) {a z S : Nat} (ha : a < 1024) (hz : z < 1024) (hS : S < 1024) (h1 : Cond.methodLink y0.cls idx ⟨"WithoutThem$Kind", "may", "(III)Z"⟩ ∈ lw_all) (hR : 2 ≤ R.frames ∧ 46 ≤ R.locals) (hf : cells ≤ R.cells ∧ slots ≤ R.slots) (hsz : ls.size = nL) (hst : (rest.map fun v => v.category).sum ≤ 8) (d : decode cc pc = .ok (.invokevirtual idx, 3))
    (kk : W p l e R s m args below meth c H locs cells slots Q (F0 m (pc + 3) ls (.int (b2 (mayK k a z S)) :: rest))) : W p l e R s m args below meth c H locs cells slots Q (F0 m pc ls (.int (nI S) :: .int (nI z) :: .int (nI a) :: .ref (ad (2 + k)) :: rest)) := by
  have hX := C.2.2.2.2.2.1
  match k, hk with
  | 0, hk => exact x_goR (runU (x := ⟨"WithoutThem$Kind", "may", "(III)Z"⟩) (Cn := "WithoutThem$Thing") (As := [.int (nI a), .int (nI z), .int (nI S)]) (rest := rest) C (ct_X2_may l (ad 2) a z S ha hz hS) kX2_may h1 q732 q749 q737 q731 ⟨by decide, by decide, by decide +kernel⟩ (va_recv hX.1 hP (ci := 2) (q0 := 2) rfl cw_at2) rfl ⟨Nat.le_trans (Nat.le_of_ble_eq_true rfl) hR.1, Nat.le_trans (Nat.le_of_ble_eq_true rfl) hR.2⟩ hf hsz hst d rfl) kk
  | 1, hk => exact x_goR (runU (x := ⟨"WithoutThem$Kind", "may", "(III)Z"⟩) (Cn := "WithoutThem$Both") (As := [.int (nI a), .int (nI z), .int (nI S)]) (rest := rest) C (ct_X3_may l hP 1 a z S hk ha hz hS) kX3_may h1 q732 q733 q734 q731 ⟨by decide, by decide, by decide +kernel⟩ (va_recv hX.1 hP (ci := 3) (q0 := 3) rfl cw_at3) rfl ⟨Nat.le_trans (Nat.le_of_ble_eq_true rfl) hR.1, Nat.le_trans (Nat.le_of_ble_eq_true rfl) hR.2⟩ hf hsz hst d rfl) kk
  | 2, hk => exact x_goR (runU (x := ⟨"WithoutThem$Kind", "may", "(III)Z"⟩) (Cn := "WithoutThem$Lit") (As := [.int (nI a), .int (nI z), .int (nI S)]) (rest := rest) C (ct_X2_may l (ad 4) a z S ha hz hS) kX2_may h1 q732 q747 q737 q731 ⟨by decide, by decide, by decide +kernel⟩ (va_recv hX.1 hP (ci := 4) (q0 := 4) rfl cw_at4) rfl ⟨Nat.le_trans (Nat.le_of_ble_eq_true rfl) hR.1, Nat.le_trans (Nat.le_of_ble_eq_true rfl) hR.2⟩ hf hsz hst d rfl) kk
  | 3, hk => exact x_goR (runU (x := ⟨"WithoutThem$Kind", "may", "(III)Z"⟩) (Cn := "WithoutThem$Felt") (As := [.int (nI a), .int (nI z), .int (nI S)]) (rest := rest) C (ct_X5_may l hP 3 a z S hk ha hz hS) kX5_may h1 q732 q743 q744 q731 ⟨by decide, by decide, by decide +kernel⟩ (va_recv hX.1 hP (ci := 5) (q0 := 5) rfl cw_at5) rfl ⟨Nat.le_trans (Nat.le_of_ble_eq_true rfl) hR.1, Nat.le_trans (Nat.le_of_ble_eq_true rfl) hR.2⟩ hf hsz hst d rfl) kk
  | 4, hk => exact x_goR (runU (x := ⟨"WithoutThem$Kind", "may", "(III)Z"⟩) (Cn := "WithoutThem$Wide") (As := [.int (nI a), .int (nI z), .int (nI S)]) (rest := rest) C (ct_X3_may l hP 4 a z S hk ha hz hS) kX3_may h1 q732 q750 q734 q731 ⟨by decide, by decide, by decide +kernel⟩ (va_recv hX.1 hP (ci := 6) (q0 := 6) rfl cw_at6) rfl ⟨Nat.le_trans (Nat.le_of_ble_eq_true rfl) hR.1, Nat.le_trans (Nat.le_of_ble_eq_true rfl) hR.2⟩ hf hsz hst d rfl) kk
  | 5, hk => exact x_goR (runU (x := ⟨"WithoutThem$Kind", "may", "(III)Z"⟩) (Cn := "WithoutThem$Pair") (As := [.int (nI a), .int (nI z), .int (nI S)]) (rest := rest) C (ct_X2_may l (ad 7) a z S ha hz hS) kX2_may h1 q732 q748 q737 q731 ⟨by decide, by decide, by decide +kernel⟩ (va_recv hX.1 hP (ci := 7) (q0 := 7) rfl cw_at7) rfl ⟨Nat.le_trans (Nat.le_of_ble_eq_true rfl) hR.1, Nat.le_trans (Nat.le_of_ble_eq_true rfl) hR.2⟩ hf hsz hst d rfl) kk
  | k + 6, h => exact absurd h (by omega)
theorem kc_minutes {p : Program} {l : Launch} {e : Env} {R : Room} {s : State} {m : MethodId} {args : Array Value} {below : List Frame} {meth : Method} {c : Code} {H : Heap} {locs : List Loc} {cells slots : Nat} {Q : State → Prop} {pc : Nat} {ls : Array Slot} {rest : List Value} {cc : ByteArray} {nL : Nat} {y0 : MethodName} {ret0 : Option FieldType} {g : GX} {ad : Nat → Nat} {h0 : HS} {h1 : HS} {h2 : HS} {hi : Bool} {ro : Nat → Int32} {rn : Nat} {lt : Nat → Int32} {ln : Nat} {rf : Nat → Int32} {fw : Nat → Int32} {mn : Nat → Int64} {wy : Nat → Int32} {tg : Nat → Int32} {od : Nat → Int32} {tk : Int32} {mt : Int32} (C : CX g p s m args meth c cc nL y0 ret0) (hP : va_P g.1 cl (cw g ad h0 h1 h2 hi ro rn lt ln rf fw mn wy tg od tk mt) H) {k idx : Nat} (hk : k < 6) {a S : Nat} (ha : a < 1024) (hS : S < 1024) (h1 : Cond.methodLink y0.cls idx ⟨"WithoutThem$Kind", "minutes", "(II)I"⟩ ∈ lw_all) (hR : 3 ≤ R.frames ∧ 67 ≤ R.locals) (hf : cells ≤ R.cells ∧ slots ≤ R.slots) (hsz : ls.size = nL) (hst : (rest.map fun v => v.category).sum ≤ 8) (d : decode cc pc = .ok (.invokevirtual idx, 3))
    (kk : W p l e R s m args below meth c H locs cells slots Q (F0 m (pc + 3) ls (.int (nI (goK k a S)) :: rest))) : W p l e R s m args below meth c H locs cells slots Q (F0 m pc ls (.int (nI S) :: .int (nI a) :: .ref (ad (2 + k)) :: rest)) := by
  have hX := C.2.2.2.2.2.1
  match k, hk with
  | 0, hk => exact x_goR (runU (x := ⟨"WithoutThem$Kind", "minutes", "(II)I"⟩) (Cn := "WithoutThem$Thing") (As := [.int (nI a), .int (nI S)]) (rest := rest) C (ct_X1_minutes l (ad 2) a S) kX1_minutes h1 q687 q705 q686 q695 ⟨by decide, by decide, by decide +kernel⟩ (va_recv hX.1 hP (ci := 2) (q0 := 2) rfl cw_at2) rfl ⟨Nat.le_trans (Nat.le_of_ble_eq_true rfl) hR.1, Nat.le_trans (Nat.le_of_ble_eq_true rfl) hR.2⟩ hf hsz hst d rfl) kk
  | 1, hk => exact x_goR (runU (x := ⟨"WithoutThem$Kind", "minutes", "(II)I"⟩) (Cn := "WithoutThem$Both") (As := [.int (nI a), .int (nI S)]) (rest := rest) C (ct_X1_minutes l (ad 3) a S) kX1_minutes h1 q687 q688 q686 q695 ⟨by decide, by decide, by decide +kernel⟩ (va_recv hX.1 hP (ci := 3) (q0 := 3) rfl cw_at3) rfl ⟨Nat.le_trans (Nat.le_of_ble_eq_true rfl) hR.1, Nat.le_trans (Nat.le_of_ble_eq_true rfl) hR.2⟩ hf hsz hst d rfl) kk
  | 2, hk => exact x_goR (runU (x := ⟨"WithoutThem$Kind", "minutes", "(II)I"⟩) (Cn := "WithoutThem$Lit") (As := [.int (nI a), .int (nI S)]) (rest := rest) C (ct_X4_minutes l hP 2 a S hk ha hS) kX4_minutes h1 q687 q690 q691 q695 ⟨by decide, by decide, by decide +kernel⟩ (va_recv hX.1 hP (ci := 4) (q0 := 4) rfl cw_at4) rfl ⟨Nat.le_trans (Nat.le_of_ble_eq_true rfl) hR.1, Nat.le_trans (Nat.le_of_ble_eq_true rfl) hR.2⟩ hf hsz hst d rfl) kk
  | 3, hk => exact x_goR (runU (x := ⟨"WithoutThem$Kind", "minutes", "(II)I"⟩) (Cn := "WithoutThem$Felt") (As := [.int (nI a), .int (nI S)]) (rest := rest) C (ct_X1_minutes l (ad 5) a S) kX1_minutes h1 q687 q689 q686 q695 ⟨by decide, by decide, by decide +kernel⟩ (va_recv hX.1 hP (ci := 5) (q0 := 5) rfl cw_at5) rfl ⟨Nat.le_trans (Nat.le_of_ble_eq_true rfl) hR.1, Nat.le_trans (Nat.le_of_ble_eq_true rfl) hR.2⟩ hf hsz hst d rfl) kk
  | 4, hk => exact x_goR (runU (x := ⟨"WithoutThem$Kind", "minutes", "(II)I"⟩) (Cn := "WithoutThem$Wide") (As := [.int (nI a), .int (nI S)]) (rest := rest) C (ct_X6_minutes l hP 4 a S hk ha hS) kX6_minutes h1 q687 q706 q707 q695 ⟨by decide, by decide, by decide +kernel⟩ (va_recv hX.1 hP (ci := 6) (q0 := 6) rfl cw_at6) rfl ⟨Nat.le_trans (Nat.le_of_ble_eq_true rfl) hR.1, Nat.le_trans (Nat.le_of_ble_eq_true rfl) hR.2⟩ hf hsz hst d rfl) kk
  | 5, hk => exact x_goR (runU (x := ⟨"WithoutThem$Kind", "minutes", "(II)I"⟩) (Cn := "WithoutThem$Pair") (As := [.int (nI a), .int (nI S)]) (rest := rest) C (ct_X7_minutes l hP 5 a S hk ha hS) kX7_minutes h1 q687 q700 q701 q695 ⟨by decide, by decide, by decide +kernel⟩ (va_recv hX.1 hP (ci := 7) (q0 := 7) rfl cw_at7) rfl ⟨Nat.le_trans (Nat.le_of_ble_eq_true rfl) hR.1, Nat.le_trans (Nat.le_of_ble_eq_true rfl) hR.2⟩ hf hsz hst d rfl) kk
  | k + 6, h => exact absurd h (by omega)
theorem kc_kind {p : Program} {l : Launch} {e : Env} {R : Room} {s : State} {m : MethodId} {args : Array Value} {below : List Frame} {meth : Method} {c : Code} {H : Heap} {locs : List Loc} {cells slots : Nat} {Q : State → Prop} {pc : Nat} {ls : Array Slot} {rest : List Value} {cc : ByteArray} {nL : Nat} {y0 : MethodName} {ret0 : Option FieldType} {g : GX} {ad : Nat → Nat} {h0 : HS} {h1 : HS} {h2 : HS} {hi : Bool} {ro : Nat → Int32} {rn : Nat} {lt : Nat → Int32} {ln : Nat} {rf : Nat → Int32} {fw : Nat → Int32} {mn : Nat → Int64} {wy : Nat → Int32} {tg : Nat → Int32} {od : Nat → Int32} {tk : Int32} {mt : Int32} (C : CX g p s m args meth c cc nL y0 ret0) (hP : va_P g.1 cl (cw g ad h0 h1 h2 hi ro rn lt ln rf fw mn wy tg od tk mt) H) {k idx : Nat} (hk : k < 6)  (h1 : Cond.methodLink y0.cls idx ⟨"WithoutThem$Kind", "kind", "()I"⟩ ∈ lw_all) (hR : 1 ≤ R.frames ∧ 20 ≤ R.locals) (hf : cells ≤ R.cells ∧ slots ≤ R.slots) (hsz : ls.size = nL) (hst : (rest.map fun v => v.category).sum ≤ 8) (d : decode cc pc = .ok (.invokevirtual idx, 3))
    (kk : W p l e R s m args below meth c H locs cells slots Q (F0 m (pc + 3) ls (.int (nI k) :: rest))) : W p l e R s m args below meth c H locs cells slots Q (F0 m pc ls (.ref (ad (2 + k)) :: rest)) := by
  have hX := C.2.2.2.2.2.1
  match k, hk with
  | 0, hk => exact x_goR (runU (x := ⟨"WithoutThem$Kind", "kind", "()I"⟩) (Cn := "WithoutThem$Thing") (As := []) (rest := rest) C (ct_X2_kind l (ad 2)) kX2_kind h1 q662 q675 q676 q661 ⟨by decide, by decide, by decide +kernel⟩ (va_recv hX.1 hP (ci := 2) (q0 := 2) rfl cw_at2) rfl ⟨Nat.le_trans (Nat.le_of_ble_eq_true rfl) hR.1, Nat.le_trans (Nat.le_of_ble_eq_true rfl) hR.2⟩ hf hsz hst d rfl) kk
  | 1, hk => exact x_goR (runU (x := ⟨"WithoutThem$Kind", "kind", "()I"⟩) (Cn := "WithoutThem$Both") (As := []) (rest := rest) C (ct_X3_kind l (ad 3)) kX3_kind h1 q662 q663 q664 q661 ⟨by decide, by decide, by decide +kernel⟩ (va_recv hX.1 hP (ci := 3) (q0 := 3) rfl cw_at3) rfl ⟨Nat.le_trans (Nat.le_of_ble_eq_true rfl) hR.1, Nat.le_trans (Nat.le_of_ble_eq_true rfl) hR.2⟩ hf hsz hst d rfl) kk
  | 2, hk => exact x_goR (runU (x := ⟨"WithoutThem$Kind", "kind", "()I"⟩) (Cn := "WithoutThem$Lit") (As := []) (rest := rest) C (ct_X4_kind l (ad 4)) kX4_kind h1 q662 q669 q670 q661 ⟨by decide, by decide, by decide +kernel⟩ (va_recv hX.1 hP (ci := 4) (q0 := 4) rfl cw_at4) rfl ⟨Nat.le_trans (Nat.le_of_ble_eq_true rfl) hR.1, Nat.le_trans (Nat.le_of_ble_eq_true rfl) hR.2⟩ hf hsz hst d rfl) kk
  | 3, hk => exact x_goR (runU (x := ⟨"WithoutThem$Kind", "kind", "()I"⟩) (Cn := "WithoutThem$Felt") (As := []) (rest := rest) C (ct_X5_kind l (ad 5)) kX5_kind h1 q662 q666 q667 q661 ⟨by decide, by decide, by decide +kernel⟩ (va_recv hX.1 hP (ci := 5) (q0 := 5) rfl cw_at5) rfl ⟨Nat.le_trans (Nat.le_of_ble_eq_true rfl) hR.1, Nat.le_trans (Nat.le_of_ble_eq_true rfl) hR.2⟩ hf hsz hst d rfl) kk
  | 4, hk => exact x_goR (runU (x := ⟨"WithoutThem$Kind", "kind", "()I"⟩) (Cn := "WithoutThem$Wide") (As := []) (rest := rest) C (ct_X6_kind l (ad 6)) kX6_kind h1 q662 q678 q679 q661 ⟨by decide, by decide, by decide +kernel⟩ (va_recv hX.1 hP (ci := 6) (q0 := 6) rfl cw_at6) rfl ⟨Nat.le_trans (Nat.le_of_ble_eq_true rfl) hR.1, Nat.le_trans (Nat.le_of_ble_eq_true rfl) hR.2⟩ hf hsz hst d rfl) kk
  | 5, hk => exact x_goR (runU (x := ⟨"WithoutThem$Kind", "kind", "()I"⟩) (Cn := "WithoutThem$Pair") (As := []) (rest := rest) C (ct_X7_kind l (ad 7)) kX7_kind h1 q662 q672 q673 q661 ⟨by decide, by decide, by decide +kernel⟩ (va_recv hX.1 hP (ci := 7) (q0 := 7) rfl cw_at7) rfl ⟨Nat.le_trans (Nat.le_of_ble_eq_true rfl) hR.1, Nat.le_trans (Nat.le_of_ble_eq_true rfl) hR.2⟩ hf hsz hst d rfl) kk
  | k + 6, h => exact absurd h (by omega)
set_option maxHeartbeats 4000000 in
theorem ct_X15_whole (l : Launch) {g : GX} {ad : Nat → Nat} {h0 : HS} {h1 : HS} {h2 : HS} {hi : Bool} {ro : Nat → Int32} {rn : Nat} {lt : Nat → Int32} {ln : Nat} {rf : Nat → Int32} {fw : Nat → Int32} {mn : Nat → Int64} {wy : Nat → Int32} {tg : Nat → Int32} {od : Nat → Int32} {tk : Int32} {mt : Int32} {H : Heap} (hP : va_P g.1 cl (cw g ad h0 h1 h2 hi ro rn lt ln rf fw mn wy tg od tk mt) H) (G : Gh h0) : CtR l g yX15_whole cX15_whole 1 (some .int) 0 0 [.ref (ad 15)] H (some (.int (nI (whole h0)))) := by
  refine CtR.of (by decide) (Nat.le_of_ble_eq_true rfl) ?_
  intro p e s m args below meth c C hH ls hl
  obtain ⟨hx, hb, hml, hown, hts, hX, hlk, hr, -⟩ := id C
  have hl : lv_has ls 1 [(0, .ref (ad 15))] := hl
  refine lv_iconst (v := nI 1) hx hb dX15_whole_0 (by decide) ?_
  refine lv_aload_n hx hb dX15_whole_1 rfl (lv_at hl 0 rfl) ?_
  refine gc15_0 C hP q222 dX15_whole_2 ?_
  refine lv_ishl hx hb dX15_whole_5 ?_
  refine x_ni (y := nI (2 ^ h0.th)) (nw_shl1 (by have := G.1; omega)) ?_
  refine lv_iconst (v := nI 1) hx hb dX15_whole_6 (by decide) ?_
  refine lv_isub hx hb dX15_whole_7 ?_
  refine x_ni (y := nI ((2 ^ h0.th) - 1)) (pk_sub Nat.one_le_two_pow) ?_
  exact x_iret hx hb hr hlk (Nat.le_refl _) (Nat.le_refl _) (fun _ h => nomatch h) dX15_whole_8 (⟨rfl, rfl⟩)
theorem kX15_whole : Cal yX15_whole cX15_whole 1 (some .int) 0 := ⟨q763, q96, by decide, by decide +kernel⟩
set_option maxHeartbeats 4000000 in
theorem ct_X15_may (l : Launch) {g : GX} {ad : Nat → Nat} {h0 : HS} {h1 : HS} {h2 : HS} {hi : Bool} {ro : Nat → Int32} {rn : Nat} {lt : Nat → Int32} {ln : Nat} {rf : Nat → Int32} {fw : Nat → Int32} {mn : Nat → Int64} {wy : Nat → Int32} {tg : Nat → Int32} {od : Nat → Int32} {tk : Int32} {mt : Int32} {H : Heap} (hP : va_P g.1 cl (cw g ad h0 h1 h2 hi ro rn lt ln rf fw mn wy tg od tk mt) H) (G : Gh h0) (t S : Nat) (ht : t < h0.th) (hS : S < 1024) : CtR l g yX15_may cX15_may 3 (some .boolean) 2 46 [.ref (ad 15), .int (nI t), .int (nI S)] H (some (.int (b2 (hMay h0 t S)))) := by
  refine CtR.of (by decide) (Nat.le_of_ble_eq_true rfl) ?_
  intro p e s m args below meth c C hH ls hl
  obtain ⟨hx, hb, hml, hown, hts, hX, hlk, hr, -⟩ := id C
  have hl : lv_has ls 3 [(0, .ref (ad 15)), (1, .int (nI t)), (2, .int (nI S))] := hl
  obtain ⟨k, hk, hkt⟩ := (G.2.2.2 t ht).1
  have g10 := G.1
  have gp := G.p
  refine lv_iload_n hx hb dX15_may_0 rfl (lv_at hl 2 rfl) ?_
  refine lv_iload_n hx hb dX15_may_1 rfl (lv_at hl 1 rfl) ?_
  refine x_goR (runSN (As := [.int (nI S), .int (nI t)]) (rest := []) C (ct_X0_has l S t (by omega) (by omega)) kX0_has q729 q698 rfl ⟨Nat.le_of_ble_eq_true rfl, Nat.le_of_ble_eq_true rfl⟩ ⟨Nat.le_of_ble_eq_true rfl, Nat.le_of_ble_eq_true rfl⟩ hl.1 (Nat.le_of_ble_eq_true rfl) dX15_may_2 rfl) ?_
  refine xb_ne (b := S.testBit t) (tgt := 37) hx hb dX15_may_5 (by decide) (fun c_5 => ?_) (fun c_5 => ?_)
  · skip
    refine lv_iconst (v := nI 0) hx hb dX15_may_37 (by decide) ?_
    exact x_zret hx hb hr hlk (Or.inl rfl) (Nat.le_refl _) (Nat.le_refl _) (fun _ h => nomatch h) dX15_may_38 (⟨rtF (by rw [hMay, hkv hkt]; simp_all), rfl⟩)
  · skip
    refine lv_aload_n hx hb dX15_may_8 rfl (lv_at hl 0 rfl) ?_
    refine gc15_1 C hP q227 dX15_may_9 ?_
    refine lv_iload_n hx hb dX15_may_12 rfl (lv_at hl 1 rfl) ?_
    refine lc16 C hP (j := t) (by omega) dX15_may_13 ?_
    refine x_nv (y := .ref (ad (2 + k))) (by rw [hkt]; rfl) ?_
    refine lv_aload_n hx hb dX15_may_14 rfl (lv_at hl 0 rfl) ?_
    refine gc15_5 C hP q242 dX15_may_15 ?_
    refine lv_iload_n hx hb dX15_may_18 rfl (lv_at hl 1 rfl) ?_
    refine lc20 C hP (j := t) (by omega) dX15_may_19 ?_
    refine lv_aload_n hx hb dX15_may_20 rfl (lv_at hl 0 rfl) ?_
    refine gc15_6 C hP q246 dX15_may_21 ?_
    refine lv_iload_n hx hb dX15_may_24 rfl (lv_at hl 1 rfl) ?_
    refine lc21 C hP (j := t) (by omega) dX15_may_25 ?_
    refine lv_iload_n hx hb dX15_may_26 rfl (lv_at hl 2 rfl) ?_
    refine kc_may (k := k) (a := h0.an t) (z := h0.al t) (S := S) C hP hk (G.an ht) (G.al ht) hS q730 ⟨Nat.le_of_ble_eq_true rfl, Nat.le_of_ble_eq_true rfl⟩ ⟨Nat.zero_le _, Nat.zero_le _⟩ hl.1 (Nat.le_of_ble_eq_true rfl) dX15_may_27 ?_
    refine xb_eq (b := mayK k (h0.an t) (h0.al t) S) (tgt := 37) hx hb dX15_may_30 (by decide) (fun c_30 => ?_) (fun c_30 => ?_)
    · skip
      refine lv_iconst (v := nI 0) hx hb dX15_may_37 (by decide) ?_
      exact x_zret hx hb hr hlk (Or.inl rfl) (Nat.le_refl _) (Nat.le_refl _) (fun _ h => nomatch h) dX15_may_38 (⟨rtF (by rw [hMay, hkv hkt]; simp_all), rfl⟩)
    · skip
      refine lv_iconst (v := nI 1) hx hb dX15_may_33 (by decide) ?_
      refine lv_goto (tgt := 38) hx hb dX15_may_34 (by decide) ?_
      exact x_zret hx hb hr hlk (Or.inr rfl) (Nat.le_refl _) (Nat.le_refl _) (fun _ h => nomatch h) dX15_may_38 (⟨rtT (by rw [hMay, hkv hkt]; simp_all), rfl⟩)
theorem kX15_may : Cal yX15_may cX15_may 3 (some .boolean) 2 := ⟨q728, q96, by decide, by decide +kernel⟩
set_option maxHeartbeats 4000000 in
theorem ct_X15_go (l : Launch) {g : GX} {ad : Nat → Nat} {h0 : HS} {h1 : HS} {h2 : HS} {hi : Bool} {ro : Nat → Int32} {rn : Nat} {lt : Nat → Int32} {ln : Nat} {rf : Nat → Int32} {fw : Nat → Int32} {mn : Nat → Int64} {wy : Nat → Int32} {tg : Nat → Int32} {od : Nat → Int32} {tk : Int32} {mt : Int32} {H : Heap} (hP : va_P g.1 cl (cw g ad h0 h1 h2 hi ro rn lt ln rf fw mn wy tg od tk mt) H) (G : Gh h0) (t S : Nat) (ht : t < h0.th) (hS : S < 1024) : CtR l g yX15_go cX15_go 3 (some .int) 3 67 [.ref (ad 15), .int (nI t), .int (nI S)] H (some (.int (nI (hGo h0 t S)))) := by
  refine CtR.of (by decide) (Nat.le_of_ble_eq_true rfl) ?_
  intro p e s m args below meth c C hH ls hl
  obtain ⟨hx, hb, hml, hown, hts, hX, hlk, hr, -⟩ := id C
  have hl : lv_has ls 3 [(0, .ref (ad 15)), (1, .int (nI t)), (2, .int (nI S))] := hl
  obtain ⟨k, hk, hkt⟩ := (G.2.2.2 t ht).1
  have g10 := G.1
  have gp := G.p
  refine lv_aload_n hx hb dX15_go_0 rfl (lv_at hl 0 rfl) ?_
  refine gc15_1 C hP q227 dX15_go_1 ?_
  refine lv_iload_n hx hb dX15_go_4 rfl (lv_at hl 1 rfl) ?_
  refine lc16 C hP (j := t) (by omega) dX15_go_5 ?_
  refine x_nv (y := .ref (ad (2 + k))) (by rw [hkt]; rfl) ?_
  refine lv_aload_n hx hb dX15_go_6 rfl (lv_at hl 0 rfl) ?_
  refine gc15_2 C hP q230 dX15_go_7 ?_
  refine lv_iload_n hx hb dX15_go_10 rfl (lv_at hl 1 rfl) ?_
  refine lc17 C hP (j := t) (by omega) dX15_go_11 ?_
  refine lv_iload_n hx hb dX15_go_12 rfl (lv_at hl 2 rfl) ?_
  refine kc_minutes (k := k) (a := h0.ms t) (S := S) C hP hk (by have := (G.2.2.2 t ht).2.1.2; omega) hS q685 ⟨Nat.le_of_ble_eq_true rfl, Nat.le_of_ble_eq_true rfl⟩ ⟨Nat.zero_le _, Nat.zero_le _⟩ hl.1 (Nat.le_of_ble_eq_true rfl) dX15_go_13 ?_
  exact x_iret hx hb hr hlk (Nat.le_refl _) (Nat.le_refl _) (fun _ h => nomatch h) dX15_go_16 (⟨rtI (by rw [hGo, hkv hkt]), rfl⟩)
theorem kX15_go : Cal yX15_go cX15_go 3 (some .int) 2 := ⟨q684, q96, by decide, by decide +kernel⟩
set_option maxHeartbeats 4000000 in
theorem ct_X15_goMean (l : Launch) {g : GX} {ad : Nat → Nat} {h0 : HS} {h1 : HS} {h2 : HS} {hi : Bool} {ro : Nat → Int32} {rn : Nat} {lt : Nat → Int32} {ln : Nat} {rf : Nat → Int32} {fw : Nat → Int32} {mn : Nat → Int64} {wy : Nat → Int32} {tg : Nat → Int32} {od : Nat → Int32} {tk : Int32} {mt : Int32} {H : Heap} (hP : va_P g.1 cl (cw g ad h0 h1 h2 hi ro rn lt ln rf fw mn wy tg od tk mt) H) (G : Gh h0) (t S : Nat) (ht : t < h0.th) (hS : S < 1024) : CtR l g yX15_goMean cX15_goMean 3 (some .long) 4 89 [.ref (ad 15), .int (nI t), .int (nI S)] H (some (.long (lN (hGo h0 t S * (25200 / h0.su t))))) := by
  refine CtR.of (by decide) (Nat.le_of_ble_eq_true rfl) ?_
  intro p e s m args below meth c C hH ls hl
  obtain ⟨hx, hb, hml, hown, hts, hX, hlk, hr, -⟩ := id C
  have hl : lv_has ls 3 [(0, .ref (ad 15)), (1, .int (nI t)), (2, .int (nI S))] := hl
  obtain ⟨k, hk, hkt⟩ := (G.2.2.2 t ht).1
  have g10 := G.1
  have gp := G.p
  have gs := (G.2.2.2 t ht).2.2.1
  refine lv_aload_n hx hb dX15_goMean_0 rfl (lv_at hl 0 rfl) ?_
  refine lv_iload_n hx hb dX15_goMean_1 rfl (lv_at hl 1 rfl) ?_
  refine lv_iload_n hx hb dX15_goMean_2 rfl (lv_at hl 2 rfl) ?_
  refine x_goR (runV (As := [.int (nI t), .int (nI S)]) (rest := []) C (ct_X15_go l hP G t S (by omega) (by omega)) kX15_go q796 q682 q683 (va_recv hX.1 hP (ci := 1) (q0 := 15) rfl cw_at15) rfl ⟨Nat.le_of_ble_eq_true rfl, Nat.le_of_ble_eq_true rfl⟩ ⟨Nat.le_of_ble_eq_true rfl, Nat.le_of_ble_eq_true rfl⟩ hl.1 (Nat.le_of_ble_eq_true rfl) dX15_goMean_3 rfl) ?_
  refine lv_i2l (v := lN (hGo h0 t S)) hx hb dX15_goMean_6 (nI_l (by have := hGo_le G ht hS; omega)) ?_
  refine lv_ldc2 (v := lN 25200) hx hb hown (hts _ q797) dX15_goMean_7 ?_
  refine lv_aload_n hx hb dX15_goMean_10 rfl (lv_at hl 0 rfl) ?_
  refine gc15_3 C hP q233 dX15_goMean_11 ?_
  refine lv_iload_n hx hb dX15_goMean_14 rfl (lv_at hl 1 rfl) ?_
  refine lc18 C hP (j := t) (by omega) dX15_goMean_15 ?_
  refine lv_i2l (v := lN (h0.su t)) hx hb dX15_goMean_16 (nI_l (by omega)) ?_
  refine lv_ldiv hx hb dX15_goMean_17 (fun z => by have z2 := (pk_lEQ (a := h0.su t) (b := 0) (by omega) (by decide)).mp z; omega) ?_
  refine x_nl (y := lN (25200 / h0.su t)) (pk_lDiv (by decide) (by omega) (by omega)) ?_
  refine lv_lmul hx hb dX15_goMean_18 ?_
  refine x_nl (y := lN ((hGo h0 t S) * (25200 / h0.su t))) (lN_mul _ _) ?_
  exact x_lret hx hb hr hlk (Nat.le_refl _) (Nat.le_refl _) (fun _ h => nomatch h) dX15_goMean_19 (⟨rfl, rfl⟩)
theorem kX15_goMean : Cal yX15_goMean cX15_goMean 3 (some .long) 2 := ⟨q795, q96, by decide, by decide +kernel⟩
set_option maxHeartbeats 4000000 in
theorem ct_X15_mayBits (l : Launch) {g : GX} {ad : Nat → Nat} {h0 : HS} {h1 : HS} {h2 : HS} {hi : Bool} {ro : Nat → Int32} {rn : Nat} {lt : Nat → Int32} {ln : Nat} {rf : Nat → Int32} {fw : Nat → Int32} {mn : Nat → Int64} {wy : Nat → Int32} {tg : Nat → Int32} {od : Nat → Int32} {tk : Int32} {mt : Int32} {H : Heap} (hP : va_P g.1 cl (cw g ad h0 h1 h2 hi ro rn lt ln rf fw mn wy tg od tk mt) H) (G : Gh h0) (S : Nat) (hS : S < 1024) : CtR l g yX15_mayBits cX15_mayBits 4 (some .int) 3 68 [.ref (ad 15), .int (nI S)] H (some (.int (nI (mayN h0 S)))) := by
  refine CtR.of (by decide) (Nat.le_of_ble_eq_true rfl) ?_
  intro p e s m args below meth c C hH ls hl
  obtain ⟨hx, hb, hml, hown, hts, hX, hlk, hr, -⟩ := id C
  have hl : lv_has ls 4 [(0, .ref (ad 15)), (1, .int (nI S))] := hl
  have g10 := G.1
  have L : ∀ (n : Nat) (i : Nat) (ls : Array Slot), h0.th - i < n → (i ≤ h0.th) → lv_has ls 4 [(0, .ref (ad 15)), (1, .int (nI S)), (2, .int (nI (mayUp h0 S i))), (3, .int (nI i))] → W p l e (rmR 3 68) s m args below meth c H [] 0 0 (MQ below (QV (fun v H1 => v = (some (.int (nI (mayN h0 S)))) ∧ H1 = H)) args s 0 0 (fun _ => False)) (F0 m 4 ls []) := by
    intro n
    induction n with
    | zero =>
      intro i ls hm
      exact absurd hm (Nat.not_lt_zero _)
    | succ n ih_L =>
      intro i ls hm_L hi hl
      refine lv_iload_n hx hb dX15_mayBits_4 rfl (lv_at hl 3 rfl) ?_
      refine lv_aload_n hx hb dX15_mayBits_5 rfl (lv_at hl 0 rfl) ?_
      refine gc15_0 C hP q222 dX15_mayBits_6 ?_
      refine xn_ge (a := i) (b := h0.th) (tgt := 37) hx hb dX15_mayBits_9 (by decide) (by omega) (by omega) (fun c_9 => ?_) (fun c_9 => ?_)
      · skip
        refine lv_iload_n hx hb dX15_mayBits_37 rfl (lv_at hl 2 rfl) ?_
        exact x_iret hx hb hr hlk (Nat.le_refl _) (Nat.le_refl _) (fun _ h => nomatch h) dX15_mayBits_38 (⟨rtI (by rw [show i = h0.th from by omega]; rfl), rfl⟩)
      · skip
        refine lv_iload_n hx hb dX15_mayBits_12 rfl (lv_at hl 2 rfl) ?_
        refine lv_aload_n hx hb dX15_mayBits_13 rfl (lv_at hl 0 rfl) ?_
        refine lv_iload_n hx hb dX15_mayBits_14 rfl (lv_at hl 3 rfl) ?_
        refine lv_iload_n hx hb dX15_mayBits_15 rfl (lv_at hl 1 rfl) ?_
        refine x_goR (runV (As := [.int (nI i), .int (nI S)]) (rest := [.int (nI (mayUp h0 S i))]) C (ct_X15_may l hP G i S (by omega) (by omega)) kX15_may q755 q726 q727 (va_recv hX.1 hP (ci := 1) (q0 := 15) rfl cw_at15) rfl ⟨Nat.le_of_ble_eq_true rfl, Nat.le_of_ble_eq_true rfl⟩ ⟨Nat.le_of_ble_eq_true rfl, Nat.le_of_ble_eq_true rfl⟩ hl.1 (Nat.le_of_ble_eq_true rfl) dX15_mayBits_16 rfl) ?_
        refine xb_eq (b := hMay h0 i S) (tgt := 28) hx hb dX15_mayBits_19 (by decide) (fun c_19 => ?_) (fun c_19 => ?_)
        · skip
          refine lv_iconst (v := nI 0) hx hb dX15_mayBits_28 (by decide) ?_
          refine lv_ior hx hb dX15_mayBits_29 ?_
          refine x_ni (y := nI (mayUp h0 S (i + 1))) (by rw [nw_or]; simp [mayUp, c_19]) ?_
          refine lv_istore_n (lv' := [(2, .int (nI (mayUp h0 S (i + 1)))), (0, .ref (ad 15)), (1, .int (nI S)), (3, .int (nI i))]) hx hb dX15_mayBits_30 rfl hl (by decide) rfl (fun ls hl => ?_)
          refine lv_iinc (v := nI (i + 1)) (lv' := [(3, .int (nI (i + 1))), (2, .int (nI (mayUp h0 S (i + 1)))), (0, .ref (ad 15)), (1, .int (nI S))]) hx hb dX15_mayBits_31 hl (k := 3) rfl (nI_add _ 1) (by decide) rfl (fun ls hl => ?_)
          refine lv_goto (tgt := 4) hx hb dX15_mayBits_34 (by decide) ?_
          exact ih_L (i + 1) _ (by first | omega | (simp only []; omega)) (by omega) (lv_sub hl [2, 3, 1, 0] rfl)
        · skip
          refine lv_iconst (v := nI 1) hx hb dX15_mayBits_22 (by decide) ?_
          refine lv_iload_n hx hb dX15_mayBits_23 rfl (lv_at hl 3 rfl) ?_
          refine lv_ishl hx hb dX15_mayBits_24 ?_
          refine x_ni (y := nI (2 ^ i)) (nw_shl1 (by omega)) ?_
          refine lv_goto (tgt := 29) hx hb dX15_mayBits_25 (by decide) ?_
          refine lv_ior hx hb dX15_mayBits_29 ?_
          refine x_ni (y := nI (mayUp h0 S (i + 1))) (by rw [nw_or]; simp [mayUp, c_19]) ?_
          refine lv_istore_n (lv' := [(2, .int (nI (mayUp h0 S (i + 1)))), (0, .ref (ad 15)), (1, .int (nI S)), (3, .int (nI i))]) hx hb dX15_mayBits_30 rfl hl (by decide) rfl (fun ls hl => ?_)
          refine lv_iinc (v := nI (i + 1)) (lv' := [(3, .int (nI (i + 1))), (2, .int (nI (mayUp h0 S (i + 1)))), (0, .ref (ad 15)), (1, .int (nI S))]) hx hb dX15_mayBits_31 hl (k := 3) rfl (nI_add _ 1) (by decide) rfl (fun ls hl => ?_)
          refine lv_goto (tgt := 4) hx hb dX15_mayBits_34 (by decide) ?_
          exact ih_L (i + 1) _ (by first | omega | (simp only []; omega)) (by omega) (lv_sub hl [2, 3, 1, 0] rfl)
  refine lv_iconst (v := nI 0) hx hb dX15_mayBits_0 (by decide) ?_
  refine lv_istore_n (lv' := [(2, .int (nI 0)), (0, .ref (ad 15)), (1, .int (nI S))]) hx hb dX15_mayBits_1 rfl hl (by decide) rfl (fun ls hl => ?_)
  refine lv_iconst (v := nI 0) hx hb dX15_mayBits_2 (by decide) ?_
  refine lv_istore_n (lv' := [(3, .int (nI 0)), (2, .int (nI 0)), (0, .ref (ad 15)), (1, .int (nI S))]) hx hb dX15_mayBits_3 rfl hl (by decide) rfl (fun ls hl => ?_)
  exact L _ 0 _ (Nat.lt_succ_self _) (Nat.zero_le _) (lv_sub hl [2, 3, 1, 0] rfl)
theorem kX15_mayBits : Cal yX15_mayBits cX15_mayBits 4 (some .int) 1 := ⟨q754, q96, by decide, by decide +kernel⟩
set_option maxHeartbeats 4000000 in
theorem ct_X15_reachBut (l : Launch) {g : GX} {ad : Nat → Nat} {h0 : HS} {h1 : HS} {h2 : HS} {hi : Bool} {ro : Nat → Int32} {rn : Nat} {lt : Nat → Int32} {ln : Nat} {rf : Nat → Int32} {fw : Nat → Int32} {mn : Nat → Int64} {wy : Nat → Int32} {tg : Nat → Int32} {od : Nat → Int32} {tk : Int32} {mt : Int32} {H : Heap} (hP : va_P g.1 cl (cw g ad h0 h1 h2 hi ro rn lt ln rf fw mn wy tg od tk mt) H) (G : Gh h0) (S K : Nat) (but : Int32) (hS : S < 1024) (hK : ∀ x, x < 1024 → nI x &&& (but ^^^ (-1)) = nI (x &&& K)) : CtR l g yX15_reachBut cX15_reachBut 5 (some .int) 4 91 [.ref (ad 15), .int (nI S), .int but] H (some (.int (nI (rch h0 K (S &&& K))))) := by
  refine CtR.of (by decide) (Nat.le_of_ble_eq_true rfl) ?_
  intro p e s m args below meth c C hH ls hl
  obtain ⟨hx, hb, hml, hown, hts, hX, hlk, hr, -⟩ := id C
  have hl : lv_has ls 5 [(0, .ref (ad 15)), (1, .int (nI S)), (2, .int but)] := hl
  have L : ∀ (n : Nat) (X : Nat) (ls : Array Slot), 1024 - X < n → (X < 1024) → (rch h0 K X = rch h0 K (S &&& K)) → lv_has ls 5 [(0, .ref (ad 15)), (2, .int but), (3, .int (nI X)), (4, .int (nI (mayN h0 X &&& K)))] → W p l e (rmR 4 91) s m args below meth c H [] 0 0 (MQ below (QV (fun v H1 => v = (some (.int (nI (rch h0 K (S &&& K))))) ∧ H1 = H)) args s 0 0 (fun _ => False)) (F0 m 17 ls []) := by
    intro n
    induction n with
    | zero =>
      intro X ls hm
      exact absurd hm (Nat.not_lt_zero _)
    | succ n ih_L =>
      intro X ls hm_L hX2 hR hl
      refine lv_iload hx hb dX15_reachBut_17 (lv_at hl 3 rfl) ?_
      refine xz_eq (n := mayN h0 X &&& K) (tgt := 41) hx hb dX15_reachBut_19 (by decide) (Nat.lt_of_le_of_lt Nat.and_le_left (Nat.lt_trans (mayN_lt G _) (by decide))) (fun c_19 => ?_) (fun c_19 => ?_)
      · skip
        refine lv_iload_n hx hb dX15_reachBut_41 rfl (lv_at hl 2 rfl) ?_
        exact x_iret hx hb hr hlk (Nat.le_refl _) (Nat.le_refl _) (fun _ h => nomatch h) dX15_reachBut_42 (⟨rtI (by rw [← hR, rch_end c_19]), rfl⟩)
      · skip
        refine lv_iload_n hx hb dX15_reachBut_22 rfl (lv_at hl 2 rfl) ?_
        refine lv_iload hx hb dX15_reachBut_23 (lv_at hl 3 rfl) ?_
        refine lv_ior hx hb dX15_reachBut_25 ?_
        refine x_ni (y := nI (X ||| (mayN h0 X &&& K))) (nw_or _ _) ?_
        refine lv_istore_n (lv' := [(3, .int (nI (X ||| (mayN h0 X &&& K)))), (0, .ref (ad 15)), (2, .int but), (4, .int (nI (mayN h0 X &&& K)))]) hx hb dX15_reachBut_26 rfl hl (by decide) rfl (fun ls hl => ?_)
        refine lv_aload_n hx hb dX15_reachBut_27 rfl (lv_at hl 1 rfl) ?_
        refine lv_iload_n hx hb dX15_reachBut_28 rfl (lv_at hl 0 rfl) ?_
        refine x_goR (runV (As := [.int (nI (X ||| (mayN h0 X &&& K)))]) (rest := []) C (ct_X15_mayBits l hP G (X ||| (mayN h0 X &&& K)) (by first | exact rch_lt G hX2 | exact Nat.lt_of_le_of_lt Nat.and_le_left hS)) kX15_mayBits q772 q752 q753 (va_recv hX.1 hP (ci := 1) (q0 := 15) rfl cw_at15) rfl ⟨Nat.le_of_ble_eq_true rfl, Nat.le_of_ble_eq_true rfl⟩ ⟨Nat.le_of_ble_eq_true rfl, Nat.le_of_ble_eq_true rfl⟩ hl.1 (Nat.le_of_ble_eq_true rfl) dX15_reachBut_29 rfl) ?_
        refine lv_iload_n hx hb dX15_reachBut_32 rfl (lv_at hl 2 rfl) ?_
        refine lv_iconst (v := -1) hx hb dX15_reachBut_33 (by decide) ?_
        refine lv_ixor hx hb dX15_reachBut_34 ?_
        refine lv_iand hx hb dX15_reachBut_35 ?_
        refine x_ni (y := nI (mayN h0 (X ||| (mayN h0 X &&& K)) &&& K)) (hK _ (mayN_lt G _)) ?_
        refine lv_istore (lv' := [(4, .int (nI (mayN h0 (X ||| (mayN h0 X &&& K)) &&& K))), (3, .int (nI (X ||| (mayN h0 X &&& K)))), (0, .ref (ad 15)), (2, .int but)]) hx hb dX15_reachBut_36 hl (by decide) rfl (fun ls hl => ?_)
        refine lv_goto (tgt := 17) hx hb dX15_reachBut_38 (by decide) ?_
        have g1 := rch_grows c_19
        have g2 := rch_lt G (K := K) hX2
        exact ih_L (X ||| (mayN h0 X &&& K)) _ (by first | omega | (simp only []; omega)) g2 (by rw [← hR, rch_step G hX2 c_19]) (lv_sub hl [2, 3, 1, 0] rfl)
  refine lv_iload_n hx hb dX15_reachBut_0 rfl (lv_at hl 1 rfl) ?_
  refine lv_iload_n hx hb dX15_reachBut_1 rfl (lv_at hl 2 rfl) ?_
  refine lv_iconst (v := -1) hx hb dX15_reachBut_2 (by decide) ?_
  refine lv_ixor hx hb dX15_reachBut_3 ?_
  refine lv_iand hx hb dX15_reachBut_4 ?_
  refine x_ni (y := nI (S &&& K)) (hK S hS) ?_
  refine lv_istore_n (lv' := [(3, .int (nI (S &&& K))), (0, .ref (ad 15)), (1, .int (nI S)), (2, .int but)]) hx hb dX15_reachBut_5 rfl hl (by decide) rfl (fun ls hl => ?_)
  refine lv_aload_n hx hb dX15_reachBut_6 rfl (lv_at hl 1 rfl) ?_
  refine lv_iload_n hx hb dX15_reachBut_7 rfl (lv_at hl 0 rfl) ?_
  refine x_goR (runV (As := [.int (nI (S &&& K))]) (rest := []) C (ct_X15_mayBits l hP G (S &&& K) (by first | exact rch_lt G hX2 | exact Nat.lt_of_le_of_lt Nat.and_le_left hS)) kX15_mayBits q772 q752 q753 (va_recv hX.1 hP (ci := 1) (q0 := 15) rfl cw_at15) rfl ⟨Nat.le_of_ble_eq_true rfl, Nat.le_of_ble_eq_true rfl⟩ ⟨Nat.le_of_ble_eq_true rfl, Nat.le_of_ble_eq_true rfl⟩ hl.1 (Nat.le_of_ble_eq_true rfl) dX15_reachBut_8 rfl) ?_
  refine lv_iload_n hx hb dX15_reachBut_11 rfl (lv_at hl 3 rfl) ?_
  refine lv_iconst (v := -1) hx hb dX15_reachBut_12 (by decide) ?_
  refine lv_ixor hx hb dX15_reachBut_13 ?_
  refine lv_iand hx hb dX15_reachBut_14 ?_
  refine x_ni (y := nI (mayN h0 (S &&& K) &&& K)) (hK _ (mayN_lt G _)) ?_
  refine lv_istore (lv' := [(4, .int (nI (mayN h0 (S &&& K) &&& K))), (3, .int (nI (S &&& K))), (0, .ref (ad 15)), (1, .int (nI S)), (2, .int but)]) hx hb dX15_reachBut_15 hl (by decide) rfl (fun ls hl => ?_)
  exact L _ (S &&& K) _ (Nat.lt_succ_self _) (Nat.lt_of_le_of_lt Nat.and_le_left hS) rfl (lv_sub hl [2, 4, 1, 0] rfl)
theorem kX15_reachBut : Cal yX15_reachBut cX15_reachBut 5 (some .int) 2 := ⟨q771, q96, by decide, by decide +kernel⟩
theorem hK0 : ∀ x, x < 1024 → nI x &&& (nI 0 ^^^ (-1)) = nI (x &&& 1023) := by
  intro x hx
  rw [nw_dif]
  congr 1
  rw [Nat.and_two_pow_sub_one_eq_mod x 10, Nat.mod_eq_of_lt hx]
  simp [sdf]
theorem hKn (b : Nat) : ∀ x, x < 1024 → nI x &&& (nI b ^^^ (-1)) = nI (x &&& sdf 1023 b) := by
  intro x hx
  rw [nw_dif]
  congr 1
  refine Nat.eq_of_testBit_eq fun i => ?_
  rw [sdf_tb, Nat.testBit_and, sdf_tb, show (1023 : Nat) = 2 ^ 10 - 1 from rfl, Nat.testBit_two_pow_sub_one]
  by_cases h : i < 10
  · simp [h]
  · rw [Nat.testBit_lt_two_pow (Nat.lt_of_lt_of_le hx (Nat.pow_le_pow_right (n := 2) (by decide) (show 10 ≤ i by omega)))]
    simp
theorem hKnot (b : Nat) : ∀ x, x < 1024 → nI x &&& ((nI b ^^^ (-1)) ^^^ (-1)) = nI (x &&& b) := by
  intro x hx
  rw [nw_nn, nw_and]
theorem and1023 {x : Nat} (hx : x < 1024) : x &&& 1023 = x := by
  rw [Nat.and_two_pow_sub_one_eq_mod x 10, Nat.mod_eq_of_lt hx]
set_option maxHeartbeats 4000000 in
theorem ct_X15_reach (l : Launch) {g : GX} {ad : Nat → Nat} {h0 : HS} {h1 : HS} {h2 : HS} {hi : Bool} {ro : Nat → Int32} {rn : Nat} {lt : Nat → Int32} {ln : Nat} {rf : Nat → Int32} {fw : Nat → Int32} {mn : Nat → Int64} {wy : Nat → Int32} {tg : Nat → Int32} {od : Nat → Int32} {tk : Int32} {mt : Int32} {H : Heap} (hP : va_P g.1 cl (cw g ad h0 h1 h2 hi ro rn lt ln rf fw mn wy tg od tk mt) H) (G : Gh h0) (S : Nat) (hS : S < 1024) : CtR l g yX15_reach cX15_reach 2 (some .int) 5 115 [.ref (ad 15), .int (nI S)] H (some (.int (nI (hReach h0 S)))) := by
  refine CtR.of (by decide) (Nat.le_of_ble_eq_true rfl) ?_
  intro p e s m args below meth c C hH ls hl
  obtain ⟨hx, hb, hml, hown, hts, hX, hlk, hr, -⟩ := id C
  have hl : lv_has ls 2 [(0, .ref (ad 15)), (1, .int (nI S))] := hl
  refine lv_aload_n hx hb dX15_reach_0 rfl (lv_at hl 0 rfl) ?_
  refine lv_iload_n hx hb dX15_reach_1 rfl (lv_at hl 1 rfl) ?_
  refine lv_iconst (v := nI 0) hx hb dX15_reach_2 (by decide) ?_
  refine x_goR (runV (As := [.int (nI S), .int (nI 0)]) (rest := []) C (ct_X15_reachBut l hP G S 1023 (nI 0) hS hK0) kX15_reachBut q768 q769 q770 (va_recv hX.1 hP (ci := 1) (q0 := 15) rfl cw_at15) rfl ⟨Nat.le_of_ble_eq_true rfl, Nat.le_of_ble_eq_true rfl⟩ ⟨Nat.le_of_ble_eq_true rfl, Nat.le_of_ble_eq_true rfl⟩ hl.1 (Nat.le_of_ble_eq_true rfl) dX15_reach_3 rfl) ?_
  exact x_iret hx hb hr hlk (Nat.le_refl _) (Nat.le_refl _) (fun _ h => nomatch h) dX15_reach_6 (⟨rtI (by rw [and1023 hS]; rfl), rfl⟩)
theorem kX15_reach : Cal yX15_reach cX15_reach 2 (some .int) 1 := ⟨q767, q96, by decide, by decide +kernel⟩
