/-! ===== checks that throw, and reads behind them (printed by gen/p42.py) ===== -/
set_option maxRecDepth 100000
set_option maxHeartbeats 4000000 in
theorem ct_X0_must (l : Launch) {g : GX} {H : Heap} (hl0 : l.stackTraces = false) (hlo : g.2.2 ≤ H.size) (b : Bool) (o : Int32) : CZ l g yX0_must cX0_must 2 none (rmZ 7 1 7 101) [.int (b2 b), .int o] H (fun q => H.size ≤ q) (fun v H1 => badB b o = none ∧ v = none ∧ H1 = H) (fun nn H1 => badB b o = some nn ∧ FRA (fun q => H.size ≤ q) H H1) := by
  refine CZ.of (by decide) (Nat.le_of_ble_eq_true rfl) ?_
  intro p e s m args below meth c C hZ hout hS0 hH ls hl
  obtain ⟨hx, hb, hml, hown, hts, hX, hlk, hr, -⟩ := id C
  have hl : lv_has ls 2 [(0, .int (b2 b)), (1, .int o)] := hl
  have hLc : ∀ z ∈ ([] : List Loc), H.size ≤ z.base := fun _ h => nomatch h
  have hSS := hS0 (fun q => H.size ≤ q)
  refine lv_iload_n hx hb dX0_must_0 rfl (lv_at hl 0 rfl) ?_
  refine xb_ne (b := b) (tgt := 13) hx hb dX0_must_1 (by decide) (fun c_1 => ?_) (fun c_1 => ?_)
  · skip
    exact z_vret hx hb hr hlk (by first | omega | decide) (by first | omega | decide) hLc dX0_must_13 (⟨badB_t c_1, rfl, rfl⟩)
  · skip
    refine x_newR C q361 ⟨Nat.le_of_ble_eq_true rfl, Nat.le_of_ble_eq_true rfl⟩ dX0_must_4 (fun H1 hF1 hz1 hfr => ?_)
    refine lv_dup hx hb dX0_must_7 rfl ?_
    refine lv_iload_n hx hb dX0_must_8 rfl (lv_at hl 1 rfl) ?_
    refine x_iniR (n := o) C hl0 hZ q402 hfr (va_S.fresh hSS hF1 (fun q h => Nat.le_trans hlo h)) ⟨Nat.le_of_ble_eq_true rfl, Nat.le_of_ble_eq_true rfl⟩ ⟨Nat.le_of_ble_eq_true rfl, Nat.le_of_ble_eq_true rfl⟩ hl.1 (Nat.le_of_ble_eq_true rfl) dX0_must_9 (fun H2 L2 hP2 hF2 hL2 => ?_)
    exact z_throw C hout hlk (Or.inl rfl) hP2 ⟨badB_f c_1, hF1.thrown hF2⟩ (locs_more hLc hL2 (Nat.le_refl _)) (Nat.le_of_ble_eq_true rfl) (Nat.le_of_ble_eq_true rfl) dX0_must_12
theorem kX0_must : Cal yX0_must cX0_must 2 none 2 := ⟨q360, q81, by decide, by decide +kernel⟩
set_option maxHeartbeats 4000000 in
theorem ct_X0_within (l : Launch) {g : GX} {H : Heap} (hl0 : l.stackTraces = false) (hlo : g.2.2 ≤ H.size) (x lo hi : Int64) : CZ l g yX0_within cX0_within 6 none (rmZ 8 2 14 122) [.long x, .long lo, .long hi] H (fun q => H.size ≤ q) (fun v H1 => bor (badB (decide (lo ≤ x)) (-4)) (badB (decide (x ≤ hi)) (-6)) = none ∧ v = none ∧ H1 = H) (fun nn H1 => bor (badB (decide (lo ≤ x)) (-4)) (badB (decide (x ≤ hi)) (-6)) = some nn ∧ FRA (fun q => H.size ≤ q) H H1) := by
  refine CZ.of (by decide) (Nat.le_of_ble_eq_true rfl) ?_
  intro p e s m args below meth c C hZ hout hS0 hH ls hl
  obtain ⟨hx, hb, hml, hown, hts, hX, hlk, hr, -⟩ := id C
  have hl : lv_has ls 6 [(0, .long x), (2, .long lo), (4, .long hi)] := hl
  have hLc : ∀ z ∈ ([] : List Loc), H.size ≤ z.base := fun _ h => nomatch h
  have hSS := hS0 (fun q => H.size ≤ q)
  refine lv_lload_n hx hb dX0_within_0 rfl (lv_at hl 0 rfl) ?_
  refine lv_lload_n hx hb dX0_within_1 rfl (lv_at hl 1 rfl) ?_
  refine W.lcmp hx hb dX0_within_2 ?_
  refine xc_lt (x := x) (y := lo) (tgt := 10) hx hb dX0_within_3 (by decide) (fun c_3 => ?_) (fun c_3 => ?_)
  · skip
    refine lv_iconst (v := nI 0) hx hb dX0_within_10 (by decide) ?_
    refine x_ni (y := b2 (decide (lo ≤ x))) (by rw [decide_eq_false (Int64.not_le.mpr c_3)]; rfl) ?_
    refine lv_bipush (v := (-4)) hx hb dX0_within_11 (by decide) ?_
    refine z_goR (bad := badB (decide (lo ≤ x)) (-4)) (r := none) (runSZ (As := [.int (b2 (decide (lo ≤ x))), .int (-4)]) (rest := []) C hZ hSS (fun q h => Nat.le_trans hlo h) (ct_X0_must l hl0 hlo (decide (lo ≤ x)) (-4)) kX0_must q358 q359 rfl ⟨Nat.le_of_ble_eq_true rfl, Nat.le_of_ble_eq_true rfl⟩ ⟨Nat.le_of_ble_eq_true rfl, Nat.le_of_ble_eq_true rfl⟩ hl.1 (Nat.le_of_ble_eq_true rfl) dX0_within_13 rfl) hout hlk (fun nn H1 hb9 hF9 => ⟨(by rw [bor_some hb9]), hF9⟩) (fun _ h => h) hLc (Nat.le_of_ble_eq_true rfl) (Nat.le_of_ble_eq_true rfl) (fun locs1 hn0 hLc => ?_)
    have hSS := hSS.locs2 hLc
    refine lv_lload_n hx hb dX0_within_16 rfl (lv_at hl 0 rfl) ?_
    refine lv_lload hx hb dX0_within_17 (lv_at hl 2 rfl) ?_
    refine W.lcmp hx hb dX0_within_19 ?_
    refine xc_gt (x := x) (y := hi) (tgt := 27) hx hb dX0_within_20 (by decide) (fun c_20 => ?_) (fun c_20 => ?_)
    · skip
      refine lv_iconst (v := nI 0) hx hb dX0_within_27 (by decide) ?_
      refine x_ni (y := b2 (decide (x ≤ hi))) (by rw [decide_eq_false (Int64.not_le.mpr c_20)]; rfl) ?_
      refine lv_bipush (v := (-6)) hx hb dX0_within_28 (by decide) ?_
      refine z_goR (bad := badB (decide (x ≤ hi)) (-6)) (r := none) (runSZ (As := [.int (b2 (decide (x ≤ hi))), .int (-6)]) (rest := []) C hZ hSS (fun q h => Nat.le_trans hlo h) (ct_X0_must l hl0 hlo (decide (x ≤ hi)) (-6)) kX0_must q358 q359 rfl ⟨Nat.le_of_ble_eq_true rfl, Nat.le_of_ble_eq_true rfl⟩ ⟨Nat.le_of_ble_eq_true rfl, Nat.le_of_ble_eq_true rfl⟩ hl.1 (Nat.le_of_ble_eq_true rfl) dX0_within_30 rfl) hout hlk (fun nn H1 hb9 hF9 => ⟨(by rw [bor_none hn0]; exact hb9), hF9⟩) (fun _ h => h) hLc (Nat.le_of_ble_eq_true rfl) (Nat.le_of_ble_eq_true rfl) (fun locs1 hn1 hLc => ?_)
      have hSS := hSS.locs2 hLc
      exact z_vret hx hb hr hlk (Nat.le_refl _) (Nat.le_refl _) hLc dX0_within_33 (⟨(by rw [bor_none hn0]; exact hn1), rfl, rfl⟩)
    · skip
      refine lv_iconst (v := nI 1) hx hb dX0_within_23 (by decide) ?_
      refine lv_goto (tgt := 28) hx hb dX0_within_24 (by decide) ?_
      refine x_ni (y := b2 (decide (x ≤ hi))) (by rw [decide_eq_true (Int64.not_lt.mp c_20)]; rfl) ?_
      refine lv_bipush (v := (-6)) hx hb dX0_within_28 (by decide) ?_
      refine z_goR (bad := badB (decide (x ≤ hi)) (-6)) (r := none) (runSZ (As := [.int (b2 (decide (x ≤ hi))), .int (-6)]) (rest := []) C hZ hSS (fun q h => Nat.le_trans hlo h) (ct_X0_must l hl0 hlo (decide (x ≤ hi)) (-6)) kX0_must q358 q359 rfl ⟨Nat.le_of_ble_eq_true rfl, Nat.le_of_ble_eq_true rfl⟩ ⟨Nat.le_of_ble_eq_true rfl, Nat.le_of_ble_eq_true rfl⟩ hl.1 (Nat.le_of_ble_eq_true rfl) dX0_within_30 rfl) hout hlk (fun nn H1 hb9 hF9 => ⟨(by rw [bor_none hn0]; exact hb9), hF9⟩) (fun _ h => h) hLc (Nat.le_of_ble_eq_true rfl) (Nat.le_of_ble_eq_true rfl) (fun locs1 hn1 hLc => ?_)
      have hSS := hSS.locs2 hLc
      exact z_vret hx hb hr hlk (Nat.le_refl _) (Nat.le_refl _) hLc dX0_within_33 (⟨(by rw [bor_none hn0]; exact hn1), rfl, rfl⟩)
  · skip
    refine lv_iconst (v := nI 1) hx hb dX0_within_6 (by decide) ?_
    refine lv_goto (tgt := 11) hx hb dX0_within_7 (by decide) ?_
    refine x_ni (y := b2 (decide (lo ≤ x))) (by rw [decide_eq_true (Int64.not_lt.mp c_3)]; rfl) ?_
    refine lv_bipush (v := (-4)) hx hb dX0_within_11 (by decide) ?_
    refine z_goR (bad := badB (decide (lo ≤ x)) (-4)) (r := none) (runSZ (As := [.int (b2 (decide (lo ≤ x))), .int (-4)]) (rest := []) C hZ hSS (fun q h => Nat.le_trans hlo h) (ct_X0_must l hl0 hlo (decide (lo ≤ x)) (-4)) kX0_must q358 q359 rfl ⟨Nat.le_of_ble_eq_true rfl, Nat.le_of_ble_eq_true rfl⟩ ⟨Nat.le_of_ble_eq_true rfl, Nat.le_of_ble_eq_true rfl⟩ hl.1 (Nat.le_of_ble_eq_true rfl) dX0_within_13 rfl) hout hlk (fun nn H1 hb9 hF9 => ⟨(by rw [bor_some hb9]), hF9⟩) (fun _ h => h) hLc (Nat.le_of_ble_eq_true rfl) (Nat.le_of_ble_eq_true rfl) (fun locs1 hn0 hLc => ?_)
    have hSS := hSS.locs2 hLc
    refine lv_lload_n hx hb dX0_within_16 rfl (lv_at hl 0 rfl) ?_
    refine lv_lload hx hb dX0_within_17 (lv_at hl 2 rfl) ?_
    refine W.lcmp hx hb dX0_within_19 ?_
    refine xc_gt (x := x) (y := hi) (tgt := 27) hx hb dX0_within_20 (by decide) (fun c_20 => ?_) (fun c_20 => ?_)
    · skip
      refine lv_iconst (v := nI 0) hx hb dX0_within_27 (by decide) ?_
      refine x_ni (y := b2 (decide (x ≤ hi))) (by rw [decide_eq_false (Int64.not_le.mpr c_20)]; rfl) ?_
      refine lv_bipush (v := (-6)) hx hb dX0_within_28 (by decide) ?_
      refine z_goR (bad := badB (decide (x ≤ hi)) (-6)) (r := none) (runSZ (As := [.int (b2 (decide (x ≤ hi))), .int (-6)]) (rest := []) C hZ hSS (fun q h => Nat.le_trans hlo h) (ct_X0_must l hl0 hlo (decide (x ≤ hi)) (-6)) kX0_must q358 q359 rfl ⟨Nat.le_of_ble_eq_true rfl, Nat.le_of_ble_eq_true rfl⟩ ⟨Nat.le_of_ble_eq_true rfl, Nat.le_of_ble_eq_true rfl⟩ hl.1 (Nat.le_of_ble_eq_true rfl) dX0_within_30 rfl) hout hlk (fun nn H1 hb9 hF9 => ⟨(by rw [bor_none hn0]; exact hb9), hF9⟩) (fun _ h => h) hLc (Nat.le_of_ble_eq_true rfl) (Nat.le_of_ble_eq_true rfl) (fun locs1 hn1 hLc => ?_)
      have hSS := hSS.locs2 hLc
      exact z_vret hx hb hr hlk (Nat.le_refl _) (Nat.le_refl _) hLc dX0_within_33 (⟨(by rw [bor_none hn0]; exact hn1), rfl, rfl⟩)
    · skip
      refine lv_iconst (v := nI 1) hx hb dX0_within_23 (by decide) ?_
      refine lv_goto (tgt := 28) hx hb dX0_within_24 (by decide) ?_
      refine x_ni (y := b2 (decide (x ≤ hi))) (by rw [decide_eq_true (Int64.not_lt.mp c_20)]; rfl) ?_
      refine lv_bipush (v := (-6)) hx hb dX0_within_28 (by decide) ?_
      refine z_goR (bad := badB (decide (x ≤ hi)) (-6)) (r := none) (runSZ (As := [.int (b2 (decide (x ≤ hi))), .int (-6)]) (rest := []) C hZ hSS (fun q h => Nat.le_trans hlo h) (ct_X0_must l hl0 hlo (decide (x ≤ hi)) (-6)) kX0_must q358 q359 rfl ⟨Nat.le_of_ble_eq_true rfl, Nat.le_of_ble_eq_true rfl⟩ ⟨Nat.le_of_ble_eq_true rfl, Nat.le_of_ble_eq_true rfl⟩ hl.1 (Nat.le_of_ble_eq_true rfl) dX0_within_30 rfl) hout hlk (fun nn H1 hb9 hF9 => ⟨(by rw [bor_none hn0]; exact hb9), hF9⟩) (fun _ h => h) hLc (Nat.le_of_ble_eq_true rfl) (Nat.le_of_ble_eq_true rfl) (fun locs1 hn1 hLc => ?_)
      have hSS := hSS.locs2 hLc
      exact z_vret hx hb hr hlk (Nat.le_refl _) (Nat.le_refl _) hLc dX0_within_33 (⟨(by rw [bor_none hn0]; exact hn1), rfl, rfl⟩)
theorem kX0_within : Cal yX0_within cX0_within 6 none 3 := ⟨q357, q81, by decide, by decide +kernel⟩
set_option maxHeartbeats 4000000 in
theorem ct_X0_mustBe (l : Launch) {g : GX} {H : Heap} (hl0 : l.stackTraces = false) (hlo : g.2.2 ≤ H.size) (x : Int32) (n : Nat) (hn : n < 2 ^ 30) : CZ l g yX0_mustBe cX0_mustBe 2 none (rmZ 8 1 7 122) [.int x, .int (nI n)] H (fun q => H.size ≤ q) (fun v H1 => badB (inR x n) (-1) = none ∧ v = none ∧ H1 = H) (fun nn H1 => badB (inR x n) (-1) = some nn ∧ FRA (fun q => H.size ≤ q) H H1) := by
  refine CZ.of (by decide) (Nat.le_of_ble_eq_true rfl) ?_
  intro p e s m args below meth c C hZ hout hS0 hH ls hl
  obtain ⟨hx, hb, hml, hown, hts, hX, hlk, hr, -⟩ := id C
  have hl : lv_has ls 2 [(0, .int x), (1, .int (nI n))] := hl
  have hLc : ∀ z ∈ ([] : List Loc), H.size ≤ z.base := fun _ h => nomatch h
  have hSS := hS0 (fun q => H.size ≤ q)
  refine lv_iload_n hx hb dX0_mustBe_0 rfl (lv_at hl 0 rfl) ?_
  refine lv_i2l (v := (x).toInt64) hx hb dX0_mustBe_1 rfl ?_
  refine lv_lconst (v := lN 0) hx hb dX0_mustBe_2 (by decide) ?_
  refine lv_iload_n hx hb dX0_mustBe_3 rfl (lv_at hl 1 rfl) ?_
  refine lv_iconst (v := nI 1) hx hb dX0_mustBe_4 (by decide) ?_
  refine lv_isub hx hb dX0_mustBe_5 ?_
  refine lv_i2l (v := ((nI n) - (nI 1)).toInt64) hx hb dX0_mustBe_6 rfl ?_
  refine x_goR (runS (As := [.long ((x).toInt64), .long (lN 0), .long (((nI n) - (nI 1)).toInt64)]) (rest := []) C (ct_X0_in l ((x).toInt64) (lN 0) (((nI n) - (nI 1)).toInt64)) kX0_in q658 q503 rfl ⟨Nat.le_of_ble_eq_true rfl, Nat.le_of_ble_eq_true rfl⟩ ⟨Nat.le_of_ble_eq_true rfl, Nat.le_of_ble_eq_true rfl⟩ hl.1 (Nat.le_of_ble_eq_true rfl) dX0_mustBe_7 rfl) ?_
  refine x_ni (y := b2 (inR x n)) (by rw [inL, inL_m x hn]) ?_
  refine lv_iconst (v := -1) hx hb dX0_mustBe_10 (by decide) ?_
  refine z_goR (bad := badB (inR x n) (-1)) (r := none) (runSZ (As := [.int (b2 (inR x n)), .int (-1)]) (rest := []) C hZ hSS (fun q h => Nat.le_trans hlo h) (ct_X0_must l hl0 hlo (inR x n) (-1)) kX0_must q358 q359 rfl ⟨Nat.le_of_ble_eq_true rfl, Nat.le_of_ble_eq_true rfl⟩ ⟨Nat.le_of_ble_eq_true rfl, Nat.le_of_ble_eq_true rfl⟩ hl.1 (Nat.le_of_ble_eq_true rfl) dX0_mustBe_11 rfl) hout hlk (fun nn H1 hb9 hF9 => ⟨hb9, hF9⟩) (fun _ h => h) hLc (Nat.le_of_ble_eq_true rfl) (Nat.le_of_ble_eq_true rfl) (fun locs1 hn0 hLc => ?_)
  have hSS := hSS.locs2 hLc
  exact z_vret hx hb hr hlk (Nat.le_refl _) (Nat.le_refl _) hLc dX0_mustBe_14 (⟨hn0, rfl, rfl⟩)
theorem kX0_mustBe : Cal yX0_mustBe cX0_mustBe 2 none 2 := ⟨q657, q81, by decide, by decide +kernel⟩
set_option maxHeartbeats 4000000 in
theorem ct_X0_mustBeThing (l : Launch) {g : GX} {ad : Nat → Nat} {h0 : HS} {h1 : HS} {h2 : HS} {hi : Bool} {ro : Nat → Int32} {rn : Nat} {lt : Nat → Int32} {ln : Nat} {rf : Nat → Int32} {fw : Nat → Int32} {mn : Nat → Int64} {wy : Nat → Int32} {tg : Nat → Int32} {od : Nat → Int32} {tk : Int32} {mt : Int32} {H : Heap} (hl0 : l.stackTraces = false) (hlo : g.2.2 ≤ H.size) (hP : va_P g.1 cl (cw g ad h0 h1 h2 hi ro rn lt ln rf fw mn wy tg od tk mt) H) (G : Gh h0) (x : Int32) : CZ l g yX0_mustBeThing cX0_mustBeThing 2 none (rmZ 9 1 7 143) [.ref (ad 0), .int x] H (fun q => H.size ≤ q) (fun v H1 => badB (inR x h0.th) (-1) = none ∧ v = none ∧ H1 = H) (fun nn H1 => badB (inR x h0.th) (-1) = some nn ∧ FRA (fun q => H.size ≤ q) H H1) := by
  refine CZ.of (by decide) (Nat.le_of_ble_eq_true rfl) ?_
  intro p e s m args below meth c C hZ hout hS0 hH ls hl
  obtain ⟨hx, hb, hml, hown, hts, hX, hlk, hr, -⟩ := id C
  have hl : lv_has ls 2 [(0, .ref (ad 0)), (1, .int x)] := hl
  have hLc : ∀ z ∈ ([] : List Loc), H.size ≤ z.base := fun _ h => nomatch h
  have hSS := hS0 (fun q => H.size ≤ q)
  have g10 := G.1
  have gp := G.p
  have gha := G.ha
  have gw := G.w
  refine lv_iload_n hx hb dX0_mustBeThing_0 rfl (lv_at hl 1 rfl) ?_
  refine lv_aload_n hx hb dX0_mustBeThing_1 rfl (lv_at hl 0 rfl) ?_
  refine gc0_2 C hP q279 dX0_mustBeThing_2 ?_
  refine gc15_0n C hP q226 dX0_mustBeThing_5 ?_
  refine z_goR (bad := badB (inR x h0.th) (-1)) (r := none) (runSZ (As := [.int x, .int (nI h0.th)]) (rest := []) C hZ hSS (fun q h => Nat.le_trans hlo h) (ct_X0_mustBe l hl0 hlo x h0.th (by omega)) kX0_mustBe q655 q656 rfl ⟨Nat.le_of_ble_eq_true rfl, Nat.le_of_ble_eq_true rfl⟩ ⟨Nat.le_of_ble_eq_true rfl, Nat.le_of_ble_eq_true rfl⟩ hl.1 (Nat.le_of_ble_eq_true rfl) dX0_mustBeThing_8 rfl) hout hlk (fun nn H1 hb9 hF9 => ⟨hb9, hF9⟩) (fun _ h => h) hLc (Nat.le_of_ble_eq_true rfl) (Nat.le_of_ble_eq_true rfl) (fun locs1 hn0 hLc => ?_)
  have hSS := hSS.locs2 hLc
  exact z_vret hx hb hr hlk (Nat.le_refl _) (Nat.le_refl _) hLc dX0_mustBeThing_11 (⟨hn0, rfl, rfl⟩)
theorem kX0_mustBeThing : Cal yX0_mustBeThing cX0_mustBeThing 2 none 1 := ⟨q654, q81, by decide, by decide +kernel⟩
set_option maxHeartbeats 4000000 in
theorem ct_X0_mustBeSet (l : Launch) {g : GX} {ad : Nat → Nat} {h0 : HS} {h1 : HS} {h2 : HS} {hi : Bool} {ro : Nat → Int32} {rn : Nat} {lt : Nat → Int32} {ln : Nat} {rf : Nat → Int32} {fw : Nat → Int32} {mn : Nat → Int64} {wy : Nat → Int32} {tg : Nat → Int32} {od : Nat → Int32} {tk : Int32} {mt : Int32} {H : Heap} (hl0 : l.stackTraces = false) (hlo : g.2.2 ≤ H.size) (hP : va_P g.1 cl (cw g ad h0 h1 h2 hi ro rn lt ln rf fw mn wy tg od tk mt) H) (G : Gh h0) (x : Int32) : CZ l g yX0_mustBeSet cX0_mustBeSet 2 none (rmZ 8 1 7 122) [.ref (ad 0), .int x] H (fun q => H.size ≤ q) (fun v H1 => badB (inR x (2 ^ h0.th)) (-1) = none ∧ v = none ∧ H1 = H) (fun nn H1 => badB (inR x (2 ^ h0.th)) (-1) = some nn ∧ FRA (fun q => H.size ≤ q) H H1) := by
  refine CZ.of (by decide) (Nat.le_of_ble_eq_true rfl) ?_
  intro p e s m args below meth c C hZ hout hS0 hH ls hl
  obtain ⟨hx, hb, hml, hown, hts, hX, hlk, hr, -⟩ := id C
  have hl : lv_has ls 2 [(0, .ref (ad 0)), (1, .int x)] := hl
  have hLc : ∀ z ∈ ([] : List Loc), H.size ≤ z.base := fun _ h => nomatch h
  have hSS := hS0 (fun q => H.size ≤ q)
  have g10 := G.1
  have gp := G.p
  have gha := G.ha
  have gw := G.w
  refine lv_iload_n hx hb dX0_mustBeSet_0 rfl (lv_at hl 1 rfl) ?_
  refine lv_i2l (v := (x).toInt64) hx hb dX0_mustBeSet_1 rfl ?_
  refine lv_lconst (v := lN 0) hx hb dX0_mustBeSet_2 (by decide) ?_
  refine lv_aload_n hx hb dX0_mustBeSet_3 rfl (lv_at hl 0 rfl) ?_
  refine gc0_2 C hP q279 dX0_mustBeSet_4 ?_
  refine x_goR (runV (As := []) (rest := [.long (lN 0), .long ((x).toInt64)]) C (ct_X15_whole l hP G) kX15_whole q760 q761 q762 (va_recv hX.1 hP (ci := 1) (q0 := 15) rfl cw_at15) rfl ⟨Nat.le_of_ble_eq_true rfl, Nat.le_of_ble_eq_true rfl⟩ ⟨Nat.le_of_ble_eq_true rfl, Nat.le_of_ble_eq_true rfl⟩ hl.1 (Nat.le_of_ble_eq_true rfl) dX0_mustBeSet_7 rfl) ?_
  refine lv_i2l (v := lN (whole h0)) hx hb dX0_mustBeSet_10 (nI_l (by omega)) ?_
  refine x_goR (runS (As := [.long ((x).toInt64), .long (lN 0), .long (lN (whole h0))]) (rest := []) C (ct_X0_in l ((x).toInt64) (lN 0) (lN (whole h0))) kX0_in q658 q503 rfl ⟨Nat.le_of_ble_eq_true rfl, Nat.le_of_ble_eq_true rfl⟩ ⟨Nat.le_of_ble_eq_true rfl, Nat.le_of_ble_eq_true rfl⟩ hl.1 (Nat.le_of_ble_eq_true rfl) dX0_mustBeSet_11 rfl) ?_
  refine x_ni (y := b2 (inR x (2 ^ h0.th))) (by rw [inL, inL_k x (by omega), whole_p]) ?_
  refine lv_iconst (v := -1) hx hb dX0_mustBeSet_14 (by decide) ?_
  refine z_goR (bad := badB (inR x (2 ^ h0.th)) (-1)) (r := none) (runSZ (As := [.int (b2 (inR x (2 ^ h0.th))), .int (-1)]) (rest := []) C hZ hSS (fun q h => Nat.le_trans hlo h) (ct_X0_must l hl0 hlo (inR x (2 ^ h0.th)) (-1)) kX0_must q358 q359 rfl ⟨Nat.le_of_ble_eq_true rfl, Nat.le_of_ble_eq_true rfl⟩ ⟨Nat.le_of_ble_eq_true rfl, Nat.le_of_ble_eq_true rfl⟩ hl.1 (Nat.le_of_ble_eq_true rfl) dX0_mustBeSet_15 rfl) hout hlk (fun nn H1 hb9 hF9 => ⟨hb9, hF9⟩) (fun _ h => h) hLc (Nat.le_of_ble_eq_true rfl) (Nat.le_of_ble_eq_true rfl) (fun locs1 hn0 hLc => ?_)
  have hSS := hSS.locs2 hLc
  exact z_vret hx hb hr hlk (Nat.le_refl _) (Nat.le_refl _) hLc dX0_mustBeSet_18 (⟨hn0, rfl, rfl⟩)
theorem kX0_mustBeSet : Cal yX0_mustBeSet cX0_mustBeSet 2 none 1 := ⟨q759, q81, by decide, by decide +kernel⟩
set_option maxHeartbeats 4000000 in
theorem ct_X0_mustBeBit (l : Launch) {g : GX} {H : Heap} (hl0 : l.stackTraces = false) (hlo : g.2.2 ≤ H.size) (x : Int32) : CZ l g yX0_mustBeBit cX0_mustBeBit 1 none (rmZ 8 1 7 122) [.int x] H (fun q => H.size ≤ q) (fun v H1 => badB (inR x 2) (-2) = none ∧ v = none ∧ H1 = H) (fun nn H1 => badB (inR x 2) (-2) = some nn ∧ FRA (fun q => H.size ≤ q) H H1) := by
  refine CZ.of (by decide) (Nat.le_of_ble_eq_true rfl) ?_
  intro p e s m args below meth c C hZ hout hS0 hH ls hl
  obtain ⟨hx, hb, hml, hown, hts, hX, hlk, hr, -⟩ := id C
  have hl : lv_has ls 1 [(0, .int x)] := hl
  have hLc : ∀ z ∈ ([] : List Loc), H.size ≤ z.base := fun _ h => nomatch h
  have hSS := hS0 (fun q => H.size ≤ q)
  refine lv_iload_n hx hb dX0_mustBeBit_0 rfl (lv_at hl 0 rfl) ?_
  refine lv_i2l (v := (x).toInt64) hx hb dX0_mustBeBit_1 rfl ?_
  refine lv_lconst (v := lN 0) hx hb dX0_mustBeBit_2 (by decide) ?_
  refine lv_lconst (v := lN 1) hx hb dX0_mustBeBit_3 (by decide) ?_
  refine x_goR (runS (As := [.long ((x).toInt64), .long (lN 0), .long (lN 1)]) (rest := []) C (ct_X0_in l ((x).toInt64) (lN 0) (lN 1)) kX0_in q658 q503 rfl ⟨Nat.le_of_ble_eq_true rfl, Nat.le_of_ble_eq_true rfl⟩ ⟨Nat.le_of_ble_eq_true rfl, Nat.le_of_ble_eq_true rfl⟩ hl.1 (Nat.le_of_ble_eq_true rfl) dX0_mustBeBit_4 rfl) ?_
  refine x_ni (y := b2 (inR x 2)) (by rw [inL, inL_k x (by decide)]) ?_
  refine lv_bipush (v := (-2)) hx hb dX0_mustBeBit_7 (by decide) ?_
  refine z_goR (bad := badB (inR x 2) (-2)) (r := none) (runSZ (As := [.int (b2 (inR x 2)), .int (-2)]) (rest := []) C hZ hSS (fun q h => Nat.le_trans hlo h) (ct_X0_must l hl0 hlo (inR x 2) (-2)) kX0_must q358 q359 rfl ⟨Nat.le_of_ble_eq_true rfl, Nat.le_of_ble_eq_true rfl⟩ ⟨Nat.le_of_ble_eq_true rfl, Nat.le_of_ble_eq_true rfl⟩ hl.1 (Nat.le_of_ble_eq_true rfl) dX0_mustBeBit_9 rfl) hout hlk (fun nn H1 hb9 hF9 => ⟨hb9, hF9⟩) (fun _ h => h) hLc (Nat.le_of_ble_eq_true rfl) (Nat.le_of_ble_eq_true rfl) (fun locs1 hn0 hLc => ?_)
  have hSS := hSS.locs2 hLc
  exact z_vret hx hb hr hlk (Nat.le_refl _) (Nat.le_refl _) hLc dX0_mustBeBit_12 (⟨hn0, rfl, rfl⟩)
theorem kX0_mustBeBit : Cal yX0_mustBeBit cX0_mustBeBit 1 none 1 := ⟨q720, q81, by decide, by decide +kernel⟩
set_option maxHeartbeats 4000000 in
theorem ct_X0_mustBeSeeker (l : Launch) {g : GX} {H : Heap} (hl0 : l.stackTraces = false) (hlo : g.2.2 ≤ H.size) (x : Int32) : CZ l g yX0_mustBeSeeker cX0_mustBeSeeker 1 none (rmZ 8 1 7 122) [.int x] H (fun q => H.size ≤ q) (fun v H1 => badB (inR x 6) (-2) = none ∧ v = none ∧ H1 = H) (fun nn H1 => badB (inR x 6) (-2) = some nn ∧ FRA (fun q => H.size ≤ q) H H1) := by
  refine CZ.of (by decide) (Nat.le_of_ble_eq_true rfl) ?_
  intro p e s m args below meth c C hZ hout hS0 hH ls hl
  obtain ⟨hx, hb, hml, hown, hts, hX, hlk, hr, -⟩ := id C
  have hl : lv_has ls 1 [(0, .int x)] := hl
  have hLc : ∀ z ∈ ([] : List Loc), H.size ≤ z.base := fun _ h => nomatch h
  have hSS := hS0 (fun q => H.size ≤ q)
  refine lv_iload_n hx hb dX0_mustBeSeeker_0 rfl (lv_at hl 0 rfl) ?_
  refine lv_i2l (v := (x).toInt64) hx hb dX0_mustBeSeeker_1 rfl ?_
  refine lv_lconst (v := lN 0) hx hb dX0_mustBeSeeker_2 (by decide) ?_
  refine lv_ldc2 (v := lN 5) hx hb hown (hts _ q882) dX0_mustBeSeeker_3 ?_
  refine x_goR (runS (As := [.long ((x).toInt64), .long (lN 0), .long (lN 5)]) (rest := []) C (ct_X0_in l ((x).toInt64) (lN 0) (lN 5)) kX0_in q658 q503 rfl ⟨Nat.le_of_ble_eq_true rfl, Nat.le_of_ble_eq_true rfl⟩ ⟨Nat.le_of_ble_eq_true rfl, Nat.le_of_ble_eq_true rfl⟩ hl.1 (Nat.le_of_ble_eq_true rfl) dX0_mustBeSeeker_6 rfl) ?_
  refine x_ni (y := b2 (inR x 6)) (by rw [inL, inL_k x (by decide)]) ?_
  refine lv_bipush (v := (-2)) hx hb dX0_mustBeSeeker_9 (by decide) ?_
  refine z_goR (bad := badB (inR x 6) (-2)) (r := none) (runSZ (As := [.int (b2 (inR x 6)), .int (-2)]) (rest := []) C hZ hSS (fun q h => Nat.le_trans hlo h) (ct_X0_must l hl0 hlo (inR x 6) (-2)) kX0_must q358 q359 rfl ⟨Nat.le_of_ble_eq_true rfl, Nat.le_of_ble_eq_true rfl⟩ ⟨Nat.le_of_ble_eq_true rfl, Nat.le_of_ble_eq_true rfl⟩ hl.1 (Nat.le_of_ble_eq_true rfl) dX0_mustBeSeeker_11 rfl) hout hlk (fun nn H1 hb9 hF9 => ⟨hb9, hF9⟩) (fun _ h => h) hLc (Nat.le_of_ble_eq_true rfl) (Nat.le_of_ble_eq_true rfl) (fun locs1 hn0 hLc => ?_)
  have hSS := hSS.locs2 hLc
  exact z_vret hx hb hr hlk (Nat.le_refl _) (Nat.le_refl _) hLc dX0_mustBeSeeker_14 (⟨hn0, rfl, rfl⟩)
theorem kX0_mustBeSeeker : Cal yX0_mustBeSeeker cX0_mustBeSeeker 1 none 1 := ⟨q881, q81, by decide, by decide +kernel⟩
set_option maxHeartbeats 4000000 in
theorem ct_X0_mustHoldHand (l : Launch) {g : GX} {ad : Nat → Nat} {h0 : HS} {h1 : HS} {h2 : HS} {hi : Bool} {ro : Nat → Int32} {rn : Nat} {lt : Nat → Int32} {ln : Nat} {rf : Nat → Int32} {fw : Nat → Int32} {mn : Nat → Int64} {wy : Nat → Int32} {tg : Nat → Int32} {od : Nat → Int32} {tk : Int32} {mt : Int32} {H : Heap} (hl0 : l.stackTraces = false) (hlo : g.2.2 ≤ H.size) (hP : va_P g.1 cl (cw g ad h0 h1 h2 hi ro rn lt ln rf fw mn wy tg od tk mt) H) (G : Gh h0) (x : Int32) : CZ l g yX0_mustHoldHand cX0_mustHoldHand 2 none (rmZ 9 2 14 143) [.ref (ad 0), .int x] H (fun q => H.size ≤ q) (fun v H1 => bor (badB (inR x (2 ^ h0.th)) (-1)) (badB (decide (sdf h0.ha (tN x) = 0)) (-3)) = none ∧ v = none ∧ H1 = H) (fun nn H1 => bor (badB (inR x (2 ^ h0.th)) (-1)) (badB (decide (sdf h0.ha (tN x) = 0)) (-3)) = some nn ∧ FRA (fun q => H.size ≤ q) H H1) := by
  refine CZ.of (by decide) (Nat.le_of_ble_eq_true rfl) ?_
  intro p e s m args below meth c C hZ hout hS0 hH ls hl
  obtain ⟨hx, hb, hml, hown, hts, hX, hlk, hr, -⟩ := id C
  have hl : lv_has ls 2 [(0, .ref (ad 0)), (1, .int x)] := hl
  have hLc : ∀ z ∈ ([] : List Loc), H.size ≤ z.base := fun _ h => nomatch h
  have hSS := hS0 (fun q => H.size ≤ q)
  have g10 := G.1
  have gp := G.p
  have gha := G.ha
  have gw := G.w
  refine lv_aload_n hx hb dX0_mustHoldHand_0 rfl (lv_at hl 0 rfl) ?_
  refine lv_iload_n hx hb dX0_mustHoldHand_1 rfl (lv_at hl 1 rfl) ?_
  refine z_goR (bad := badB (inR x (2 ^ h0.th)) (-1)) (r := none) (runVZ (As := [.int x]) (rest := []) C hZ hSS (fun q h => Nat.le_trans hlo h) (ct_X0_mustBeSet l hl0 hlo hP G x) kX0_mustBeSet q756 q758 qs17 (va_recv hX.1 hP (ci := 0) (q0 := 0) rfl cw_at0) rfl ⟨Nat.le_of_ble_eq_true rfl, Nat.le_of_ble_eq_true rfl⟩ ⟨Nat.le_of_ble_eq_true rfl, Nat.le_of_ble_eq_true rfl⟩ hl.1 (Nat.le_of_ble_eq_true rfl) dX0_mustHoldHand_2 rfl) hout hlk (fun nn H1 hb9 hF9 => ⟨(by rw [bor_some hb9]), hF9⟩) (fun _ h => h) hLc (Nat.le_of_ble_eq_true rfl) (Nat.le_of_ble_eq_true rfl) (fun locs1 hn0 hLc => ?_)
  have hSS := hSS.locs2 hLc
  obtain ⟨S, hS, hS2, rfl⟩ := inR_ex (badB_none hn0)
  refine lv_aload_n hx hb dX0_mustHoldHand_5 rfl (lv_at hl 0 rfl) ?_
  refine gc0_2 C hP q279 dX0_mustHoldHand_6 ?_
  refine gc15_7n C hP q253 dX0_mustHoldHand_9 ?_
  refine lv_iload_n hx hb dX0_mustHoldHand_12 rfl (lv_at hl 1 rfl) ?_
  refine lv_iconst (v := -1) hx hb dX0_mustHoldHand_13 (by decide) ?_
  refine lv_ixor hx hb dX0_mustHoldHand_14 ?_
  refine x_ni (y := nI S ^^^ (-1)) rfl ?_
  refine lv_iand hx hb dX0_mustHoldHand_15 ?_
  refine x_ni (y := nI (sdf h0.ha S)) (nw_dif _ _) ?_
  refine xz_ne (n := sdf h0.ha S) (tgt := 23) hx hb dX0_mustHoldHand_16 (by decide) (Nat.lt_of_le_of_lt (sdf_le _ _) (by omega)) (fun c_16 => ?_) (fun c_16 => ?_)
  · skip
    refine lv_iconst (v := nI 0) hx hb dX0_mustHoldHand_23 (by decide) ?_
    refine x_ni (y := b2 (decide (sdf h0.ha (tN (nI S)) = 0))) (jb0 (by rw [tN_nI hS2]; simp [c_16])) ?_
    refine lv_bipush (v := (-3)) hx hb dX0_mustHoldHand_24 (by decide) ?_
    refine z_goR (bad := badB (decide (sdf h0.ha (tN (nI S)) = 0)) (-3)) (r := none) (runSZ (As := [.int (b2 (decide (sdf h0.ha (tN (nI S)) = 0))), .int (-3)]) (rest := []) C hZ hSS (fun q h => Nat.le_trans hlo h) (ct_X0_must l hl0 hlo (decide (sdf h0.ha (tN (nI S)) = 0)) (-3)) kX0_must q358 q359 rfl ⟨Nat.le_of_ble_eq_true rfl, Nat.le_of_ble_eq_true rfl⟩ ⟨Nat.le_of_ble_eq_true rfl, Nat.le_of_ble_eq_true rfl⟩ hl.1 (Nat.le_of_ble_eq_true rfl) dX0_mustHoldHand_26 rfl) hout hlk (fun nn H1 hb9 hF9 => ⟨(by rw [bor_none hn0]; exact hb9), hF9⟩) (fun _ h => h) hLc (Nat.le_of_ble_eq_true rfl) (Nat.le_of_ble_eq_true rfl) (fun locs1 hn1 hLc => ?_)
    have hSS := hSS.locs2 hLc
    exact z_vret hx hb hr hlk (Nat.le_refl _) (Nat.le_refl _) hLc dX0_mustHoldHand_29 (⟨(by rw [bor_none hn0]; exact hn1), rfl, rfl⟩)
  · skip
    refine lv_iconst (v := nI 1) hx hb dX0_mustHoldHand_19 (by decide) ?_
    refine lv_goto (tgt := 24) hx hb dX0_mustHoldHand_20 (by decide) ?_
    refine x_ni (y := b2 (decide (sdf h0.ha (tN (nI S)) = 0))) (jb1 (by rw [tN_nI hS2]; simp [c_16])) ?_
    refine lv_bipush (v := (-3)) hx hb dX0_mustHoldHand_24 (by decide) ?_
    refine z_goR (bad := badB (decide (sdf h0.ha (tN (nI S)) = 0)) (-3)) (r := none) (runSZ (As := [.int (b2 (decide (sdf h0.ha (tN (nI S)) = 0))), .int (-3)]) (rest := []) C hZ hSS (fun q h => Nat.le_trans hlo h) (ct_X0_must l hl0 hlo (decide (sdf h0.ha (tN (nI S)) = 0)) (-3)) kX0_must q358 q359 rfl ⟨Nat.le_of_ble_eq_true rfl, Nat.le_of_ble_eq_true rfl⟩ ⟨Nat.le_of_ble_eq_true rfl, Nat.le_of_ble_eq_true rfl⟩ hl.1 (Nat.le_of_ble_eq_true rfl) dX0_mustHoldHand_26 rfl) hout hlk (fun nn H1 hb9 hF9 => ⟨(by rw [bor_none hn0]; exact hb9), hF9⟩) (fun _ h => h) hLc (Nat.le_of_ble_eq_true rfl) (Nat.le_of_ble_eq_true rfl) (fun locs1 hn1 hLc => ?_)
    have hSS := hSS.locs2 hLc
    exact z_vret hx hb hr hlk (Nat.le_refl _) (Nat.le_refl _) hLc dX0_mustHoldHand_29 (⟨(by rw [bor_none hn0]; exact hn1), rfl, rfl⟩)
theorem kX0_mustHoldHand : Cal yX0_mustHoldHand cX0_mustHoldHand 2 none 1 := ⟨q850, q81, by decide, by decide +kernel⟩
