/-! ===== the component reads its house (printed by gen/p41.py) ===== -/
set_option maxRecDepth 100000
set_option maxHeartbeats 4000000 in
theorem ct_X0_barred (l : Launch) {g : GX} {ad : Nat → Nat} {h0 : HS} {h1 : HS} {h2 : HS} {hi : Bool} {ro : Nat → Int32} {rn : Nat} {lt : Nat → Int32} {ln : Nat} {rf : Nat → Int32} {fw : Nat → Int32} {mn : Nat → Int64} {wy : Nat → Int32} {tg : Nat → Int32} {od : Nat → Int32} {tk : Int32} {mt : Int32} {H : Heap} (hP : va_P g.1 cl (cw g ad h0 h1 h2 hi ro rn lt ln rf fw mn wy tg od tk mt) H) (G : Gh h0) : CtR l g yX0_barred cX0_barred 1 (some .int) 6 136 [.ref (ad 0)] H (some (.int (nI (hBar h0)))) := by
  refine CtR.of (by decide) (Nat.le_of_ble_eq_true rfl) ?_
  intro p e s m args below meth c C hH ls hl
  obtain ⟨hx, hb, hml, hown, hts, hX, hlk, hr, -⟩ := id C
  have hl : lv_has ls 1 [(0, .ref (ad 0))] := hl
  have g10 := G.1
  have gp := G.p
  have gha := G.ha
  have gw := G.w
  refine lv_aload_n hx hb dX0_barred_0 rfl (lv_at hl 0 rfl) ?_
  refine gc0_2 C hP q279 dX0_barred_1 ?_
  refine x_goR (runV (As := []) (rest := []) C (ct_X15_whole l hP G) kX15_whole q760 q761 q762 (va_recv hX.1 hP (ci := 1) (q0 := 15) rfl cw_at15) rfl ⟨Nat.le_of_ble_eq_true rfl, Nat.le_of_ble_eq_true rfl⟩ ⟨Nat.le_of_ble_eq_true rfl, Nat.le_of_ble_eq_true rfl⟩ hl.1 (Nat.le_of_ble_eq_true rfl) dX0_barred_4 rfl) ?_
  refine lv_aload_n hx hb dX0_barred_7 rfl (lv_at hl 0 rfl) ?_
  refine gc0_2 C hP q279 dX0_barred_8 ?_
  refine lv_aload_n hx hb dX0_barred_11 rfl (lv_at hl 0 rfl) ?_
  refine gc0_2 C hP q279 dX0_barred_12 ?_
  refine gc15_7n C hP q253 dX0_barred_15 ?_
  refine x_goR (runV (As := [.int (nI h0.ha)]) (rest := [.int (nI (whole h0))]) C (ct_X15_reach l hP G h0.ha (by omega)) kX15_reach q764 q765 q766 (va_recv hX.1 hP (ci := 1) (q0 := 15) rfl cw_at15) rfl ⟨Nat.le_of_ble_eq_true rfl, Nat.le_of_ble_eq_true rfl⟩ ⟨Nat.le_of_ble_eq_true rfl, Nat.le_of_ble_eq_true rfl⟩ hl.1 (Nat.le_of_ble_eq_true rfl) dX0_barred_18 rfl) ?_
  refine lv_iconst (v := -1) hx hb dX0_barred_21 (by decide) ?_
  refine lv_ixor hx hb dX0_barred_22 ?_
  refine x_ni (y := nI (hReach h0 h0.ha) ^^^ (-1)) rfl ?_
  refine lv_iand hx hb dX0_barred_23 ?_
  refine x_ni (y := nI (sdf (whole h0) (hReach h0 h0.ha))) (nw_dif _ _) ?_
  exact x_iret hx hb hr hlk (Nat.le_refl _) (Nat.le_refl _) (fun _ h => nomatch h) dX0_barred_24 (⟨rfl, rfl⟩)
theorem kX0_barred : Cal yX0_barred cX0_barred 1 (some .int) 0 := ⟨q812, q81, by decide, by decide +kernel⟩
set_option maxHeartbeats 4000000 in
theorem ct_X0_costOf (l : Launch) {g : GX} {ad : Nat → Nat} {h0 : HS} {h1 : HS} {h2 : HS} {hi : Bool} {ro : Nat → Int32} {rn : Nat} {lt : Nat → Int32} {ln : Nat} {rf : Nat → Int32} {fw : Nat → Int32} {mn : Nat → Int64} {wy : Nat → Int32} {tg : Nat → Int32} {od : Nat → Int32} {tk : Int32} {mt : Int32} {H : Heap} (hP : va_P g.1 cl (cw g ad h0 h1 h2 hi ro rn lt ln rf fw mn wy tg od tk mt) H) (G : Gh h0) (S : Nat) (hS : S < 1024) : CtR l g yX0_costOf cX0_costOf 4 (some .int) 1 21 [.ref (ad 0), .int (nI S)] H (some (.int (nI (hCost h0 S)))) := by
  refine CtR.of (by decide) (Nat.le_of_ble_eq_true rfl) ?_
  intro p e s m args below meth c C hH ls hl
  obtain ⟨hx, hb, hml, hown, hts, hX, hlk, hr, -⟩ := id C
  have hl : lv_has ls 4 [(0, .ref (ad 0)), (1, .int (nI S))] := hl
  have g10 := G.1
  have gp := G.p
  have gha := G.ha
  have gw := G.w
  have L : ∀ (n : Nat) (i : Nat) (ls : Array Slot), h0.th - i < n → (i ≤ h0.th) → lv_has ls 4 [(0, .ref (ad 0)), (1, .int (nI S)), (2, .int (nI (costS h0 S i))), (3, .int (nI i))] → W p l e (rmR 1 21) s m args below meth c H [] 0 0 (MQ below (QV (fun v H1 => v = (some (.int (nI (hCost h0 S)))) ∧ H1 = H)) args s 0 0 (fun _ => False)) (F0 m 4 ls []) := by
    intro n
    induction n with
    | zero =>
      intro i ls hm
      exact absurd hm (Nat.not_lt_zero _)
    | succ n ih_L =>
      intro i ls hm_L hi hl
      refine lv_iload_n hx hb dX0_costOf_4 rfl (lv_at hl 3 rfl) ?_
      refine lv_aload_n hx hb dX0_costOf_5 rfl (lv_at hl 0 rfl) ?_
      refine gc0_2 C hP q279 dX0_costOf_6 ?_
      refine gc15_0n C hP q226 dX0_costOf_9 ?_
      refine xn_ge (a := i) (b := h0.th) (tgt := 45) hx hb dX0_costOf_12 (by decide) (by omega) (by omega) (fun c_12 => ?_) (fun c_12 => ?_)
      · skip
        refine lv_iload_n hx hb dX0_costOf_45 rfl (lv_at hl 2 rfl) ?_
        exact x_iret hx hb hr hlk (Nat.le_refl _) (Nat.le_refl _) (fun _ h => nomatch h) dX0_costOf_46 (⟨rtI (by rw [show i = h0.th from by omega]; rfl), rfl⟩)
      · skip
        refine lv_iload_n hx hb dX0_costOf_15 rfl (lv_at hl 2 rfl) ?_
        refine lv_iload_n hx hb dX0_costOf_16 rfl (lv_at hl 1 rfl) ?_
        refine lv_iload_n hx hb dX0_costOf_17 rfl (lv_at hl 3 rfl) ?_
        refine x_goR (runS (As := [.int (nI S), .int (nI i)]) (rest := [.int (nI (costS h0 S i))]) C (ct_X0_has l S i (by omega) (by omega)) kX0_has q813 q698 rfl ⟨Nat.le_of_ble_eq_true rfl, Nat.le_of_ble_eq_true rfl⟩ ⟨Nat.le_of_ble_eq_true rfl, Nat.le_of_ble_eq_true rfl⟩ hl.1 (Nat.le_of_ble_eq_true rfl) dX0_costOf_18 rfl) ?_
        refine xb_eq (b := S.testBit i) (tgt := 36) hx hb dX0_costOf_21 (by decide) (fun c_21 => ?_) (fun c_21 => ?_)
        · skip
          refine lv_iconst (v := nI 0) hx hb dX0_costOf_36 (by decide) ?_
          refine lv_iadd hx hb dX0_costOf_37 ?_
          refine x_ni (y := nI (costS h0 S (i + 1))) (by rw [nI_add]; simp [costS, sumUp, c_21]) ?_
          refine lv_istore_n (lv' := [(2, .int (nI (costS h0 S (i + 1)))), (0, .ref (ad 0)), (1, .int (nI S)), (3, .int (nI i))]) hx hb dX0_costOf_38 rfl hl (by decide) rfl (fun ls hl => ?_)
          refine lv_iinc (v := nI (i + 1)) (lv' := [(3, .int (nI (i + 1))), (2, .int (nI (costS h0 S (i + 1)))), (0, .ref (ad 0)), (1, .int (nI S))]) hx hb dX0_costOf_39 hl (k := 3) rfl (nI_add _ 1) (by decide) rfl (fun ls hl => ?_)
          refine lv_goto (tgt := 4) hx hb dX0_costOf_42 (by decide) ?_
          exact ih_L (i + 1) _ (by first | omega | (simp only []; omega)) (by omega) (lv_sub hl [2, 3, 1, 0] rfl)
        · skip
          refine lv_aload_n hx hb dX0_costOf_24 rfl (lv_at hl 0 rfl) ?_
          refine gc0_2 C hP q279 dX0_costOf_25 ?_
          refine gc15_4n C hP q241 dX0_costOf_28 ?_
          refine lv_iload_n hx hb dX0_costOf_31 rfl (lv_at hl 3 rfl) ?_
          refine lc19 C hP (j := i) (by omega) dX0_costOf_32 ?_
          refine lv_goto (tgt := 37) hx hb dX0_costOf_33 (by decide) ?_
          refine lv_iadd hx hb dX0_costOf_37 ?_
          refine x_ni (y := nI (costS h0 S (i + 1))) (by rw [nI_add]; simp [costS, sumUp, c_21]) ?_
          refine lv_istore_n (lv' := [(2, .int (nI (costS h0 S (i + 1)))), (0, .ref (ad 0)), (1, .int (nI S)), (3, .int (nI i))]) hx hb dX0_costOf_38 rfl hl (by decide) rfl (fun ls hl => ?_)
          refine lv_iinc (v := nI (i + 1)) (lv' := [(3, .int (nI (i + 1))), (2, .int (nI (costS h0 S (i + 1)))), (0, .ref (ad 0)), (1, .int (nI S))]) hx hb dX0_costOf_39 hl (k := 3) rfl (nI_add _ 1) (by decide) rfl (fun ls hl => ?_)
          refine lv_goto (tgt := 4) hx hb dX0_costOf_42 (by decide) ?_
          exact ih_L (i + 1) _ (by first | omega | (simp only []; omega)) (by omega) (lv_sub hl [2, 3, 1, 0] rfl)
  refine lv_iconst (v := nI 0) hx hb dX0_costOf_0 (by decide) ?_
  refine lv_istore_n (lv' := [(2, .int (nI 0)), (0, .ref (ad 0)), (1, .int (nI S))]) hx hb dX0_costOf_1 rfl hl (by decide) rfl (fun ls hl => ?_)
  refine lv_iconst (v := nI 0) hx hb dX0_costOf_2 (by decide) ?_
  refine lv_istore_n (lv' := [(3, .int (nI 0)), (2, .int (nI 0)), (0, .ref (ad 0)), (1, .int (nI S))]) hx hb dX0_costOf_3 rfl hl (by decide) rfl (fun ls hl => ?_)
  exact L _ 0 _ (Nat.lt_succ_self _) (Nat.zero_le _) (lv_sub hl [2, 3, 1, 0] rfl)
theorem kX0_costOf : Cal yX0_costOf cX0_costOf 4 (some .int) 1 := ⟨q825, q81, by decide, by decide +kernel⟩
set_option maxHeartbeats 4000000 in
theorem ct_X0_ringedBits (l : Launch) {g : GX} {ad : Nat → Nat} {h0 : HS} {h1 : HS} {h2 : HS} {hi : Bool} {ro : Nat → Int32} {rn : Nat} {lt : Nat → Int32} {ln : Nat} {rf : Nat → Int32} {fw : Nat → Int32} {mn : Nat → Int64} {wy : Nat → Int32} {tg : Nat → Int32} {od : Nat → Int32} {tk : Int32} {mt : Int32} {H : Heap} (hP : va_P g.1 cl (cw g ad h0 h1 h2 hi ro rn lt ln rf fw mn wy tg od tk mt) H) (G : Gh h0) : CtR l g yX0_ringedBits cX0_ringedBits 6 (some .int) 7 156 [.ref (ad 0)] H (some (.int (nI (ringN h0 h0.th)))) := by
  refine CtR.of (by decide) (Nat.le_of_ble_eq_true rfl) ?_
  intro p e s m args below meth c C hH ls hl
  obtain ⟨hx, hb, hml, hown, hts, hX, hlk, hr, -⟩ := id C
  have hl : lv_has ls 6 [(0, .ref (ad 0))] := hl
  have g10 := G.1
  have gp := G.p
  have gha := G.ha
  have gw := G.w
  have L : ∀ (n : Nat) (i : Nat) (ls : Array Slot), h0.th - i < n → (i ≤ h0.th) → lv_has ls 6 [(0, .ref (ad 0)), (1, .int (nI (hBar h0))), (2, .int (nI (ringN h0 i))), (3, .int (nI i))] → W p l e (rmR 7 156) s m args below meth c H [] 0 0 (MQ below (QV (fun v H1 => v = (some (.int (nI (ringN h0 h0.th)))) ∧ H1 = H)) args s 0 0 (fun _ => False)) (F0 m 9 ls []) := by
    intro n
    induction n with
    | zero =>
      intro i ls hm
      exact absurd hm (Nat.not_lt_zero _)
    | succ n ih_L =>
      intro i ls hm_L hi hl
      refine lv_iload_n hx hb dX0_ringedBits_9 rfl (lv_at hl 3 rfl) ?_
      refine lv_aload_n hx hb dX0_ringedBits_10 rfl (lv_at hl 0 rfl) ?_
      refine gc0_2 C hP q279 dX0_ringedBits_11 ?_
      refine gc15_0n C hP q226 dX0_ringedBits_14 ?_
      refine xn_ge (a := i) (b := h0.th) (tgt := 156) hx hb dX0_ringedBits_17 (by decide) (by omega) (by omega) (fun c_17 => ?_) (fun c_17 => ?_)
      · skip
        refine lv_iload_n hx hb dX0_ringedBits_156 rfl (lv_at hl 2 rfl) ?_
        exact x_iret hx hb hr hlk (Nat.le_refl _) (Nat.le_refl _) (fun _ h => nomatch h) dX0_ringedBits_157 (⟨rtI (by rw [show i = h0.th from by omega]), rfl⟩)
      · skip
        have K : ∀ (n : Nat) (j : Nat) (ls : Array Slot), h0.th - j < n → (j ≤ h0.th) → lv_has ls 6 [(0, .ref (ad 0)), (1, .int (nI (hBar h0))), (2, .int (nI (ringN h0 i ||| (if anyUp (rg h0 i) j = true then 2 ^ i else 0)))), (3, .int (nI i)), (4, .int (nI j))] → W p l e (rmR 7 156) s m args below meth c H [] 0 0 (MQ below (QV (fun v H1 => v = (some (.int (nI (ringN h0 h0.th)))) ∧ H1 = H)) args s 0 0 (fun _ => False)) (F0 m 23 ls []) := by
          intro n
          induction n with
          | zero =>
            intro j ls hm
            exact absurd hm (Nat.not_lt_zero _)
          | succ n ih_K =>
            intro j ls hm_K hj hl
            refine lv_iload hx hb dX0_ringedBits_23 (lv_at hl 4 rfl) ?_
            refine lv_aload_n hx hb dX0_ringedBits_25 rfl (lv_at hl 0 rfl) ?_
            refine gc0_2 C hP q279 dX0_ringedBits_26 ?_
            refine gc15_0n C hP q226 dX0_ringedBits_29 ?_
            refine xn_ge (a := j) (b := h0.th) (tgt := 150) hx hb dX0_ringedBits_32 (by decide) (by omega) (by omega) (fun c_32 => ?_) (fun c_32 => ?_)
            · skip
              refine lv_iinc (v := nI (i + 1)) (lv' := [(3, .int (nI (i + 1))), (0, .ref (ad 0)), (1, .int (nI (hBar h0))), (2, .int (nI (ringN h0 i ||| (if anyUp (rg h0 i) j = true then 2 ^ i else 0)))), (4, .int (nI j))]) hx hb dX0_ringedBits_150 hl (k := 3) rfl (nI_add _ 1) (by decide) rfl (fun ls hl => ?_)
              refine lv_goto (tgt := 9) hx hb dX0_ringedBits_153 (by decide) ?_
              have hl : lv_has ls 6 [(3, .int (nI (i + 1))), (0, .ref (ad 0)), (1, .int (nI (hBar h0))), (2, .int (nI (ringN h0 (i + 1)))), (4, .int (nI j))] := by
                have e9 : nI (ringN h0 i ||| (if anyUp (rg h0 i) j = true then 2 ^ i else 0)) = nI (ringN h0 (i + 1)) := by rw [← ring_out, show j = h0.th from by omega]
                rw [← e9]; exact hl
              exact ih_L (i + 1) _ (by first | omega | (simp only []; omega)) (by omega) (lv_sub hl [1, 2, 3, 0] rfl)
            · skip
              have J2 : ∀ (b : Bool) (ls : Array Slot), (rg h0 i j = b) → lv_has ls 6 [(0, .ref (ad 0)), (1, .int (nI (hBar h0))), (2, .int (nI (ringN h0 i ||| (if anyUp (rg h0 i) j = true then 2 ^ i else 0)))), (3, .int (nI i)), (4, .int (nI j))] → W p l e (rmR 7 156) s m args below meth c H [] 0 0 (MQ below (QV (fun v H1 => v = (some (.int (nI (ringN h0 h0.th)))) ∧ H1 = H)) args s 0 0 (fun _ => False)) (F0 m 127 ls [.int (b2 b)]) := by
                intro b ls hrg hl
                refine lv_istore (lv' := [(5, .int (b2 b)), (0, .ref (ad 0)), (1, .int (nI (hBar h0))), (2, .int (nI (ringN h0 i ||| (if anyUp (rg h0 i) j = true then 2 ^ i else 0)))), (3, .int (nI i)), (4, .int (nI j))]) hx hb dX0_ringedBits_127 hl (by decide) rfl (fun ls hl => ?_)
                refine lv_iload_n hx hb dX0_ringedBits_129 rfl (lv_at hl 3 rfl) ?_
                refine lv_iload hx hb dX0_ringedBits_130 (lv_at hl 0 rfl) ?_
                refine xb_eq (b := b) (tgt := 141) hx hb dX0_ringedBits_132 (by decide) (fun c_132 => ?_) (fun c_132 => ?_)
                · skip
                  refine lv_iconst (v := nI 0) hx hb dX0_ringedBits_141 (by decide) ?_
                  refine lv_ior hx hb dX0_ringedBits_142 ?_
                  refine x_ni (y := nI (ringN h0 i ||| (if anyUp (rg h0 i) (j + 1) = true then 2 ^ i else 0))) (by rw [nw_or, show anyUp (rg h0 i) (j + 1) = (anyUp (rg h0 i) j || rg h0 i j) from rfl, hrg, c_132]; cases anyUp (rg h0 i) j <;> simp [Nat.or_assoc]) ?_
                  refine lv_istore_n (lv' := [(2, .int (nI (ringN h0 i ||| (if anyUp (rg h0 i) (j + 1) = true then 2 ^ i else 0)))), (5, .int (b2 b)), (0, .ref (ad 0)), (1, .int (nI (hBar h0))), (3, .int (nI i)), (4, .int (nI j))]) hx hb dX0_ringedBits_143 rfl hl (by decide) rfl (fun ls hl => ?_)
                  refine lv_iinc (v := nI (j + 1)) (lv' := [(4, .int (nI (j + 1))), (2, .int (nI (ringN h0 i ||| (if anyUp (rg h0 i) (j + 1) = true then 2 ^ i else 0)))), (5, .int (b2 b)), (0, .ref (ad 0)), (1, .int (nI (hBar h0))), (3, .int (nI i))]) hx hb dX0_ringedBits_144 hl (k := 5) rfl (nI_add _ 1) (by decide) rfl (fun ls hl => ?_)
                  refine lv_goto (tgt := 23) hx hb dX0_ringedBits_147 (by decide) ?_
                  exact ih_K (j + 1) _ (by first | omega | (simp only []; omega)) (by omega) (lv_sub hl [3, 4, 1, 5, 0] rfl)
                · skip
                  refine lv_iconst (v := nI 1) hx hb dX0_ringedBits_135 (by decide) ?_
                  refine lv_iload_n hx hb dX0_ringedBits_136 rfl (lv_at hl 4 rfl) ?_
                  refine lv_ishl hx hb dX0_ringedBits_137 ?_
                  refine x_ni (y := nI (2 ^ i)) (nw_shl1 (by omega)) ?_
                  refine lv_goto (tgt := 142) hx hb dX0_ringedBits_138 (by decide) ?_
                  refine lv_ior hx hb dX0_ringedBits_142 ?_
                  refine x_ni (y := nI (ringN h0 i ||| (if anyUp (rg h0 i) (j + 1) = true then 2 ^ i else 0))) (by rw [nw_or, show anyUp (rg h0 i) (j + 1) = (anyUp (rg h0 i) j || rg h0 i j) from rfl, hrg, c_132]; cases anyUp (rg h0 i) j <;> simp [Nat.or_assoc]) ?_
                  refine lv_istore_n (lv' := [(2, .int (nI (ringN h0 i ||| (if anyUp (rg h0 i) (j + 1) = true then 2 ^ i else 0)))), (5, .int (b2 b)), (0, .ref (ad 0)), (1, .int (nI (hBar h0))), (3, .int (nI i)), (4, .int (nI j))]) hx hb dX0_ringedBits_143 rfl hl (by decide) rfl (fun ls hl => ?_)
                  refine lv_iinc (v := nI (j + 1)) (lv' := [(4, .int (nI (j + 1))), (2, .int (nI (ringN h0 i ||| (if anyUp (rg h0 i) (j + 1) = true then 2 ^ i else 0)))), (5, .int (b2 b)), (0, .ref (ad 0)), (1, .int (nI (hBar h0))), (3, .int (nI i))]) hx hb dX0_ringedBits_144 hl (k := 5) rfl (nI_add _ 1) (by decide) rfl (fun ls hl => ?_)
                  refine lv_goto (tgt := 23) hx hb dX0_ringedBits_147 (by decide) ?_
                  exact ih_K (j + 1) _ (by first | omega | (simp only []; omega)) (by omega) (lv_sub hl [3, 4, 1, 5, 0] rfl)
              have J1 : ∀ (b : Bool) (ls : Array Slot), (b = (decide (i ≠ j) && (hBar h0).testBit i && (hBar h0).testBit j)) → lv_has ls 6 [(0, .ref (ad 0)), (1, .int (nI (hBar h0))), (2, .int (nI (ringN h0 i ||| (if anyUp (rg h0 i) j = true then 2 ^ i else 0)))), (3, .int (nI i)), (4, .int (nI j))] → W p l e (rmR 7 156) s m args below meth c H [] 0 0 (MQ below (QV (fun v H1 => v = (some (.int (nI (ringN h0 h0.th)))) ∧ H1 = H)) args s 0 0 (fun _ => False)) (F0 m 63 ls [.int (b2 b)]) := by
                intro b ls hb1 hl
                refine lv_istore (lv' := [(5, .int (b2 b)), (0, .ref (ad 0)), (1, .int (nI (hBar h0))), (2, .int (nI (ringN h0 i ||| (if anyUp (rg h0 i) j = true then 2 ^ i else 0)))), (3, .int (nI i)), (4, .int (nI j))]) hx hb dX0_ringedBits_63 hl (by decide) rfl (fun ls hl => ?_)
                refine lv_iload hx hb dX0_ringedBits_65 (lv_at hl 0 rfl) ?_
                refine xb_eq (b := b) (tgt := 126) hx hb dX0_ringedBits_67 (by decide) (fun c_67 => ?_) (fun c_67 => ?_)
                · skip
                  refine lv_iconst (v := nI 0) hx hb dX0_ringedBits_126 (by decide) ?_
                  refine x_ni (y := b2 false) rfl ?_
                  exact J2 false _ (by rw [rg, ← hb1]; simp [c_67]) (lv_sub hl [1, 2, 3, 4, 5] rfl)
                · skip
                  refine lv_aload_n hx hb dX0_ringedBits_70 rfl (lv_at hl 1 rfl) ?_
                  refine gc0_2 C hP q279 dX0_ringedBits_71 ?_
                  refine lv_aload_n hx hb dX0_ringedBits_74 rfl (lv_at hl 1 rfl) ?_
                  refine gc0_2 C hP q279 dX0_ringedBits_75 ?_
                  refine gc15_7n C hP q253 dX0_ringedBits_78 ?_
                  refine lv_iconst (v := nI 1) hx hb dX0_ringedBits_81 (by decide) ?_
                  refine lv_iload_n hx hb dX0_ringedBits_82 rfl (lv_at hl 4 rfl) ?_
                  refine lv_ishl hx hb dX0_ringedBits_83 ?_
                  refine x_ni (y := nI (2 ^ i)) (nw_shl1 (by omega)) ?_
                  refine lv_ior hx hb dX0_ringedBits_84 ?_
                  refine x_ni (y := nI (h0.ha ||| (2 ^ i))) (nw_or _ _) ?_
                  refine x_goR (runV (As := [.int (nI (h0.ha ||| (2 ^ i)))]) (rest := []) C (ct_X15_reach l hP G (h0.ha ||| (2 ^ i)) (or2 gha (by omega))) kX15_reach q764 q765 q766 (va_recv hX.1 hP (ci := 1) (q0 := 15) rfl cw_at15) rfl ⟨Nat.le_of_ble_eq_true rfl, Nat.le_of_ble_eq_true rfl⟩ ⟨Nat.le_of_ble_eq_true rfl, Nat.le_of_ble_eq_true rfl⟩ hl.1 (Nat.le_of_ble_eq_true rfl) dX0_ringedBits_85 rfl) ?_
                  refine lv_iload hx hb dX0_ringedBits_88 (lv_at hl 5 rfl) ?_
                  refine x_goR (runS (As := [.int (nI (hReach h0 (h0.ha ||| (2 ^ i)))), .int (nI j)]) (rest := []) C (ct_X0_has l (hReach h0 (h0.ha ||| (2 ^ i))) j (by first | omega | exact Nat.lt_trans (hReach_lt G (or2 gha (by omega))) (by decide) | exact Nat.lt_trans (Nat.lt_of_le_of_lt (sdf_le _ _) gw) (by decide)) (by omega)) kX0_has q813 q698 rfl ⟨Nat.le_of_ble_eq_true rfl, Nat.le_of_ble_eq_true rfl⟩ ⟨Nat.le_of_ble_eq_true rfl, Nat.le_of_ble_eq_true rfl⟩ hl.1 (Nat.le_of_ble_eq_true rfl) dX0_ringedBits_90 rfl) ?_
                  refine xb_eq (b := (hReach h0 (h0.ha ||| (2 ^ i))).testBit j) (tgt := 126) hx hb dX0_ringedBits_93 (by decide) (fun c_93 => ?_) (fun c_93 => ?_)
                  · skip
                    refine lv_iconst (v := nI 0) hx hb dX0_ringedBits_126 (by decide) ?_
                    refine x_ni (y := b2 false) rfl ?_
                    exact J2 false _ (by rw [rg, ← hb1]; simp [c_67, c_93]) (lv_sub hl [1, 2, 3, 4, 5] rfl)
                  · skip
                    refine lv_aload_n hx hb dX0_ringedBits_96 rfl (lv_at hl 1 rfl) ?_
                    refine gc0_2 C hP q279 dX0_ringedBits_97 ?_
                    refine lv_aload_n hx hb dX0_ringedBits_100 rfl (lv_at hl 1 rfl) ?_
                    refine gc0_2 C hP q279 dX0_ringedBits_101 ?_
                    refine gc15_7n C hP q253 dX0_ringedBits_104 ?_
                    refine lv_iconst (v := nI 1) hx hb dX0_ringedBits_107 (by decide) ?_
                    refine lv_iload hx hb dX0_ringedBits_108 (lv_at hl 5 rfl) ?_
                    refine lv_ishl hx hb dX0_ringedBits_110 ?_
                    refine x_ni (y := nI (2 ^ j)) (nw_shl1 (by omega)) ?_
                    refine lv_ior hx hb dX0_ringedBits_111 ?_
                    refine x_ni (y := nI (h0.ha ||| (2 ^ j))) (nw_or _ _) ?_
                    refine x_goR (runV (As := [.int (nI (h0.ha ||| (2 ^ j)))]) (rest := []) C (ct_X15_reach l hP G (h0.ha ||| (2 ^ j)) (or2 gha (by omega))) kX15_reach q764 q765 q766 (va_recv hX.1 hP (ci := 1) (q0 := 15) rfl cw_at15) rfl ⟨Nat.le_of_ble_eq_true rfl, Nat.le_of_ble_eq_true rfl⟩ ⟨Nat.le_of_ble_eq_true rfl, Nat.le_of_ble_eq_true rfl⟩ hl.1 (Nat.le_of_ble_eq_true rfl) dX0_ringedBits_112 rfl) ?_
                    refine lv_iload_n hx hb dX0_ringedBits_115 rfl (lv_at hl 4 rfl) ?_
                    refine x_goR (runS (As := [.int (nI (hReach h0 (h0.ha ||| (2 ^ j)))), .int (nI i)]) (rest := []) C (ct_X0_has l (hReach h0 (h0.ha ||| (2 ^ j))) i (by first | omega | exact Nat.lt_trans (hReach_lt G (or2 gha (by omega))) (by decide) | exact Nat.lt_trans (Nat.lt_of_le_of_lt (sdf_le _ _) gw) (by decide)) (by omega)) kX0_has q813 q698 rfl ⟨Nat.le_of_ble_eq_true rfl, Nat.le_of_ble_eq_true rfl⟩ ⟨Nat.le_of_ble_eq_true rfl, Nat.le_of_ble_eq_true rfl⟩ hl.1 (Nat.le_of_ble_eq_true rfl) dX0_ringedBits_116 rfl) ?_
                    refine xb_eq (b := (hReach h0 (h0.ha ||| (2 ^ j))).testBit i) (tgt := 126) hx hb dX0_ringedBits_119 (by decide) (fun c_119 => ?_) (fun c_119 => ?_)
                    · skip
                      refine lv_iconst (v := nI 0) hx hb dX0_ringedBits_126 (by decide) ?_
                      refine x_ni (y := b2 false) rfl ?_
                      exact J2 false _ (by rw [rg, ← hb1]; simp [c_67, c_93, c_119]) (lv_sub hl [1, 2, 3, 4, 5] rfl)
                    · skip
                      refine lv_iconst (v := nI 1) hx hb dX0_ringedBits_122 (by decide) ?_
                      refine lv_goto (tgt := 127) hx hb dX0_ringedBits_123 (by decide) ?_
                      refine x_ni (y := b2 true) rfl ?_
                      exact J2 true _ (by rw [rg, ← hb1]; simp [c_67, c_93, c_119]) (lv_sub hl [1, 2, 3, 4, 5] rfl)
              refine lv_iload_n hx hb dX0_ringedBits_35 rfl (lv_at hl 3 rfl) ?_
              refine lv_iload hx hb dX0_ringedBits_36 (lv_at hl 4 rfl) ?_
              refine xn_eq (a := i) (b := j) (tgt := 62) hx hb dX0_ringedBits_38 (by decide) (by omega) (by omega) (fun c_38 => ?_) (fun c_38 => ?_)
              · skip
                refine lv_iconst (v := nI 0) hx hb dX0_ringedBits_62 (by decide) ?_
                refine x_ni (y := b2 false) rfl ?_
                exact J1 false _ (by simp [c_38]) hl
              · skip
                refine lv_iload_n hx hb dX0_ringedBits_41 rfl (lv_at hl 1 rfl) ?_
                refine lv_iload_n hx hb dX0_ringedBits_42 rfl (lv_at hl 3 rfl) ?_
                refine x_goR (runS (As := [.int (nI (hBar h0)), .int (nI i)]) (rest := []) C (ct_X0_has l (hBar h0) i (by first | omega | exact Nat.lt_trans (hReach_lt G (or2 gha (by omega))) (by decide) | exact Nat.lt_trans (Nat.lt_of_le_of_lt (sdf_le _ _) gw) (by decide)) (by omega)) kX0_has q813 q698 rfl ⟨Nat.le_of_ble_eq_true rfl, Nat.le_of_ble_eq_true rfl⟩ ⟨Nat.le_of_ble_eq_true rfl, Nat.le_of_ble_eq_true rfl⟩ hl.1 (Nat.le_of_ble_eq_true rfl) dX0_ringedBits_43 rfl) ?_
                refine xb_eq (b := (hBar h0).testBit i) (tgt := 62) hx hb dX0_ringedBits_46 (by decide) (fun c_46 => ?_) (fun c_46 => ?_)
                · skip
                  refine lv_iconst (v := nI 0) hx hb dX0_ringedBits_62 (by decide) ?_
                  refine x_ni (y := b2 false) rfl ?_
                  exact J1 false _ (by simp [c_38, c_46]) hl
                · skip
                  refine lv_iload_n hx hb dX0_ringedBits_49 rfl (lv_at hl 1 rfl) ?_
                  refine lv_iload hx hb dX0_ringedBits_50 (lv_at hl 4 rfl) ?_
                  refine x_goR (runS (As := [.int (nI (hBar h0)), .int (nI j)]) (rest := []) C (ct_X0_has l (hBar h0) j (by first | omega | exact Nat.lt_trans (hReach_lt G (or2 gha (by omega))) (by decide) | exact Nat.lt_trans (Nat.lt_of_le_of_lt (sdf_le _ _) gw) (by decide)) (by omega)) kX0_has q813 q698 rfl ⟨Nat.le_of_ble_eq_true rfl, Nat.le_of_ble_eq_true rfl⟩ ⟨Nat.le_of_ble_eq_true rfl, Nat.le_of_ble_eq_true rfl⟩ hl.1 (Nat.le_of_ble_eq_true rfl) dX0_ringedBits_52 rfl) ?_
                  refine xb_eq (b := (hBar h0).testBit j) (tgt := 62) hx hb dX0_ringedBits_55 (by decide) (fun c_55 => ?_) (fun c_55 => ?_)
                  · skip
                    refine lv_iconst (v := nI 0) hx hb dX0_ringedBits_62 (by decide) ?_
                    refine x_ni (y := b2 false) rfl ?_
                    exact J1 false _ (by simp [c_38, c_46, c_55]) hl
                  · skip
                    refine lv_iconst (v := nI 1) hx hb dX0_ringedBits_58 (by decide) ?_
                    refine lv_goto (tgt := 63) hx hb dX0_ringedBits_59 (by decide) ?_
                    refine x_ni (y := b2 true) rfl ?_
                    exact J1 true _ (by simp [c_38, c_46, c_55]) hl
        refine lv_iconst (v := nI 0) hx hb dX0_ringedBits_20 (by decide) ?_
        refine lv_istore (lv' := [(4, .int (nI 0)), (0, .ref (ad 0)), (1, .int (nI (hBar h0))), (2, .int (nI (ringN h0 i))), (3, .int (nI i))]) hx hb dX0_ringedBits_21 hl (by decide) rfl (fun ls hl => ?_)
        have hl : lv_has ls 6 [(4, .int (nI 0)), (0, .ref (ad 0)), (1, .int (nI (hBar h0))), (2, .int (nI (ringN h0 i ||| (if anyUp (rg h0 i) 0 = true then 2 ^ i else 0)))), (3, .int (nI i))] := by
          have e9 : nI (ringN h0 i) = nI (ringN h0 i ||| (if anyUp (rg h0 i) 0 = true then 2 ^ i else 0)) := by rw [ring_in]
          rw [← e9]; exact hl
        exact K _ 0 _ (Nat.lt_succ_self _) (Nat.zero_le _) (lv_sub hl [1, 2, 3, 4, 0] rfl)
  refine lv_aload_n hx hb dX0_ringedBits_0 rfl (lv_at hl 0 rfl) ?_
  refine x_goR (runV (As := []) (rest := []) C (ct_X0_barred l hP G) kX0_barred q809 q811 qs24 (va_recv hX.1 hP (ci := 0) (q0 := 0) rfl cw_at0) rfl ⟨Nat.le_of_ble_eq_true rfl, Nat.le_of_ble_eq_true rfl⟩ ⟨Nat.le_of_ble_eq_true rfl, Nat.le_of_ble_eq_true rfl⟩ hl.1 (Nat.le_of_ble_eq_true rfl) dX0_ringedBits_1 rfl) ?_
  refine lv_istore_n (lv' := [(1, .int (nI (hBar h0))), (0, .ref (ad 0))]) hx hb dX0_ringedBits_4 rfl hl (by decide) rfl (fun ls hl => ?_)
  refine lv_iconst (v := nI 0) hx hb dX0_ringedBits_5 (by decide) ?_
  refine lv_istore_n (lv' := [(2, .int (nI 0)), (1, .int (nI (hBar h0))), (0, .ref (ad 0))]) hx hb dX0_ringedBits_6 rfl hl (by decide) rfl (fun ls hl => ?_)
  refine lv_iconst (v := nI 0) hx hb dX0_ringedBits_7 (by decide) ?_
  refine lv_istore_n (lv' := [(3, .int (nI 0)), (2, .int (nI 0)), (1, .int (nI (hBar h0))), (0, .ref (ad 0))]) hx hb dX0_ringedBits_8 rfl hl (by decide) rfl (fun ls hl => ?_)
  exact L _ 0 _ (Nat.lt_succ_self _) (Nat.zero_le _) (lv_sub hl [3, 2, 1, 0] rfl)
theorem kX0_ringedBits : Cal yX0_ringedBits cX0_ringedBits 6 (some .int) 0 := ⟨q808, q81, by decide, by decide +kernel⟩
set_option maxHeartbeats 4000000 in
theorem ct_X0_leastBegged (l : Launch) {g : GX} {ad : Nat → Nat} {h0 : HS} {h1 : HS} {h2 : HS} {hi : Bool} {ro : Nat → Int32} {rn : Nat} {lt : Nat → Int32} {ln : Nat} {rf : Nat → Int32} {fw : Nat → Int32} {mn : Nat → Int64} {wy : Nat → Int32} {tg : Nat → Int32} {od : Nat → Int32} {tk : Int32} {mt : Int32} {H : Heap} (hP : va_P g.1 cl (cw g ad h0 h1 h2 hi ro rn lt ln rf fw mn wy tg od tk mt) H) (G : Gh h0) : CtR l g yX0_leastBegged cX0_leastBegged 4 (some .int) 6 136 [.ref (ad 0)] H (some (.int (oI (amin (hCost h0) (opn h0) (whole h0 + 1))))) := by
  refine CtR.of (by decide) (Nat.le_of_ble_eq_true rfl) ?_
  intro p e s m args below meth c C hH ls hl
  obtain ⟨hx, hb, hml, hown, hts, hX, hlk, hr, -⟩ := id C
  have hl : lv_has ls 4 [(0, .ref (ad 0))] := hl
  have g10 := G.1
  have gp := G.p
  have gha := G.ha
  have gw := G.w
  have L : ∀ (n : Nat) (i : Nat) (ls : Array Slot), whole h0 + 1 - i < n → (i ≤ whole h0 + 1) → lv_has ls 4 [(0, .ref (ad 0)), (1, .int (oI (amin (hCost h0) (opn h0) i))), (2, .int (nI i))] → W p l e (rmR 6 136) s m args below meth c H [] 0 0 (MQ below (QV (fun v H1 => v = (some (.int (oI (amin (hCost h0) (opn h0) (whole h0 + 1))))) ∧ H1 = H)) args s 0 0 (fun _ => False)) (F0 m 5 ls []) := by
    intro n
    induction n with
    | zero =>
      intro i ls hm
      exact absurd hm (Nat.not_lt_zero _)
    | succ n ih_L =>
      intro i ls hm_L hi hl
      refine lv_iload_n hx hb dX0_leastBegged_5 rfl (lv_at hl 2 rfl) ?_
      refine lv_aload_n hx hb dX0_leastBegged_6 rfl (lv_at hl 0 rfl) ?_
      refine gc0_2 C hP q279 dX0_leastBegged_7 ?_
      refine x_goR (runV (As := []) (rest := [.int (nI i)]) C (ct_X15_whole l hP G) kX15_whole q760 q761 q762 (va_recv hX.1 hP (ci := 1) (q0 := 15) rfl cw_at15) rfl ⟨Nat.le_of_ble_eq_true rfl, Nat.le_of_ble_eq_true rfl⟩ ⟨Nat.le_of_ble_eq_true rfl, Nat.le_of_ble_eq_true rfl⟩ hl.1 (Nat.le_of_ble_eq_true rfl) dX0_leastBegged_10 rfl) ?_
      refine xn_gt (a := i) (b := whole h0) (tgt := 83) hx hb dX0_leastBegged_13 (by decide) (by omega) (by omega) (fun c_13 => ?_) (fun c_13 => ?_)
      · skip
        refine lv_iload_n hx hb dX0_leastBegged_83 rfl (lv_at hl 1 rfl) ?_
        exact x_iret hx hb hr hlk (Nat.le_refl _) (Nat.le_refl _) (fun _ h => nomatch h) dX0_leastBegged_84 (⟨by rw [show i = whole h0 + 1 from by omega], rfl⟩)
      · skip
        refine lv_aload_n hx hb dX0_leastBegged_16 rfl (lv_at hl 0 rfl) ?_
        refine gc0_2 C hP q279 dX0_leastBegged_17 ?_
        refine lv_aload_n hx hb dX0_leastBegged_20 rfl (lv_at hl 0 rfl) ?_
        refine gc0_2 C hP q279 dX0_leastBegged_21 ?_
        refine gc15_7n C hP q253 dX0_leastBegged_24 ?_
        refine lv_iload_n hx hb dX0_leastBegged_27 rfl (lv_at hl 2 rfl) ?_
        refine lv_ior hx hb dX0_leastBegged_28 ?_
        refine x_ni (y := nI (h0.ha ||| i)) (nw_or _ _) ?_
        refine x_goR (runV (As := [.int (nI (h0.ha ||| i))]) (rest := []) C (ct_X15_reach l hP G (h0.ha ||| i) (or_lt1 gha (by omega))) kX15_reach q764 q765 q766 (va_recv hX.1 hP (ci := 1) (q0 := 15) rfl cw_at15) rfl ⟨Nat.le_of_ble_eq_true rfl, Nat.le_of_ble_eq_true rfl⟩ ⟨Nat.le_of_ble_eq_true rfl, Nat.le_of_ble_eq_true rfl⟩ hl.1 (Nat.le_of_ble_eq_true rfl) dX0_leastBegged_29 rfl) ?_
        refine lv_aload_n hx hb dX0_leastBegged_32 rfl (lv_at hl 0 rfl) ?_
        refine gc0_2 C hP q279 dX0_leastBegged_33 ?_
        refine x_goR (runV (As := []) (rest := [.int (nI (hReach h0 (h0.ha ||| i)))]) C (ct_X15_whole l hP G) kX15_whole q760 q761 q762 (va_recv hX.1 hP (ci := 1) (q0 := 15) rfl cw_at15) rfl ⟨Nat.le_of_ble_eq_true rfl, Nat.le_of_ble_eq_true rfl⟩ ⟨Nat.le_of_ble_eq_true rfl, Nat.le_of_ble_eq_true rfl⟩ hl.1 (Nat.le_of_ble_eq_true rfl) dX0_leastBegged_36 rfl) ?_
        refine xn_ne (a := hReach h0 (h0.ha ||| i)) (b := whole h0) (tgt := 46) hx hb dX0_leastBegged_39 (by decide) (by have := hReach_lt G (or_lt1 gha (show i < 1024 by omega)); omega) (by omega) (fun c_39 => ?_) (fun c_39 => ?_)
        · skip
          refine lv_iconst (v := nI 0) hx hb dX0_leastBegged_46 (by decide) ?_
          refine lv_istore_n (lv' := [(3, .int (nI 0)), (0, .ref (ad 0)), (1, .int (oI (amin (hCost h0) (opn h0) i))), (2, .int (nI i))]) hx hb dX0_leastBegged_47 rfl hl (by decide) rfl (fun ls hl => ?_)
          refine lv_iload_n hx hb dX0_leastBegged_48 rfl (lv_at hl 0 rfl) ?_
          refine xz_eq (n := 0) (tgt := 75) hx hb dX0_leastBegged_49 (by decide) (by omega) (fun c_49 => ?_) (fun c_49 => ?_)
          · skip
            refine lv_iload_n hx hb dX0_leastBegged_75 rfl (lv_at hl 2 rfl) ?_
            refine x_ni (y := oI (amin (hCost h0) (opn h0) (i + 1))) (by rw [amin_f0 (c := (hCost h0)) (o := (opn h0)) (n := i) (decide_eq_false c_39)]) ?_
            refine lv_istore_n (lv' := [(1, .int (oI (amin (hCost h0) (opn h0) (i + 1)))), (3, .int (nI 0)), (0, .ref (ad 0)), (2, .int (nI i))]) hx hb dX0_leastBegged_76 rfl hl (by decide) rfl (fun ls hl => ?_)
            refine lv_iinc (v := nI (i + 1)) (lv' := [(2, .int (nI (i + 1))), (1, .int (oI (amin (hCost h0) (opn h0) (i + 1)))), (3, .int (nI 0)), (0, .ref (ad 0))]) hx hb dX0_leastBegged_77 hl (k := 3) rfl (nI_add _ 1) (by decide) rfl (fun ls hl => ?_)
            refine lv_goto (tgt := 5) hx hb dX0_leastBegged_80 (by decide) ?_
            exact ih_L (i + 1) _ (by first | omega | (simp only []; omega)) (by omega) (lv_sub hl [3, 1, 0] rfl)
          · skip
            exact absurd rfl c_49
        · skip
          refine lv_iconst (v := nI 1) hx hb dX0_leastBegged_42 (by decide) ?_
          refine lv_goto (tgt := 47) hx hb dX0_leastBegged_43 (by decide) ?_
          refine lv_istore_n (lv' := [(3, .int (nI 1)), (0, .ref (ad 0)), (1, .int (oI (amin (hCost h0) (opn h0) i))), (2, .int (nI i))]) hx hb dX0_leastBegged_47 rfl hl (by decide) rfl (fun ls hl => ?_)
          refine lv_iload_n hx hb dX0_leastBegged_48 rfl (lv_at hl 0 rfl) ?_
          refine xz_eq (n := 1) (tgt := 75) hx hb dX0_leastBegged_49 (by decide) (by omega) (fun c_49 => ?_) (fun c_49 => ?_)
          · skip
            exact absurd c_49 (by decide)
          · skip
            refine lv_iload_n hx hb dX0_leastBegged_52 rfl (lv_at hl 2 rfl) ?_
            refine lv_bipush (v := (-9)) hx hb dX0_leastBegged_53 (by decide) ?_
            refine lv_icmp_eq (x := oI (amin (hCost h0) (opn h0) i)) (y := (-9)) (tgt := 71) hx hb dX0_leastBegged_55 (by decide) (fun c_55 => ?_) (fun c_55 => ?_)
            · skip
              have hbn := oI_none (fun k e => by have := amin_lt e; omega) c_55
              refine lv_iload_n hx hb dX0_leastBegged_71 rfl (lv_at hl 3 rfl) ?_
              refine lv_goto (tgt := 76) hx hb dX0_leastBegged_72 (by decide) ?_
              refine x_ni (y := oI (amin (hCost h0) (opn h0) (i + 1))) (by rw [amin_t0 (c := (hCost h0)) (o := (opn h0)) (n := i) (decide_eq_true c_39) hbn]; rfl) ?_
              refine lv_istore_n (lv' := [(1, .int (oI (amin (hCost h0) (opn h0) (i + 1)))), (3, .int (nI 1)), (0, .ref (ad 0)), (2, .int (nI i))]) hx hb dX0_leastBegged_76 rfl hl (by decide) rfl (fun ls hl => ?_)
              refine lv_iinc (v := nI (i + 1)) (lv' := [(2, .int (nI (i + 1))), (1, .int (oI (amin (hCost h0) (opn h0) (i + 1)))), (3, .int (nI 1)), (0, .ref (ad 0))]) hx hb dX0_leastBegged_77 hl (k := 3) rfl (nI_add _ 1) (by decide) rfl (fun ls hl => ?_)
              refine lv_goto (tgt := 5) hx hb dX0_leastBegged_80 (by decide) ?_
              exact ih_L (i + 1) _ (by first | omega | (simp only []; omega)) (by omega) (lv_sub hl [3, 1, 0] rfl)
            · skip
              obtain ⟨k, hbk⟩ := oI_some c_55
              have hkl := amin_lt hbk
              refine lv_aload_n hx hb dX0_leastBegged_58 rfl (lv_at hl 1 rfl) ?_
              refine lv_iload_n hx hb dX0_leastBegged_59 rfl (lv_at hl 3 rfl) ?_
              refine x_goR (runV (As := [.int (nI i)]) (rest := []) C (ct_X0_costOf l hP G i (by omega)) kX0_costOf q822 q824 qs27 (va_recv hX.1 hP (ci := 0) (q0 := 0) rfl cw_at0) rfl ⟨Nat.le_of_ble_eq_true rfl, Nat.le_of_ble_eq_true rfl⟩ ⟨Nat.le_of_ble_eq_true rfl, Nat.le_of_ble_eq_true rfl⟩ hl.1 (Nat.le_of_ble_eq_true rfl) dX0_leastBegged_60 rfl) ?_
              refine lv_aload_n hx hb dX0_leastBegged_63 rfl (lv_at hl 1 rfl) ?_
              refine lv_iload_n hx hb dX0_leastBegged_64 rfl (lv_at hl 2 rfl) ?_
              refine x_ni (y := nI k) (by rw [hbk]; rfl) ?_
              refine x_goR (runV (As := [.int (nI k)]) (rest := [.int (nI (hCost h0 i))]) C (ct_X0_costOf l hP G k (by omega)) kX0_costOf q822 q824 qs27 (va_recv hX.1 hP (ci := 0) (q0 := 0) rfl cw_at0) rfl ⟨Nat.le_of_ble_eq_true rfl, Nat.le_of_ble_eq_true rfl⟩ ⟨Nat.le_of_ble_eq_true rfl, Nat.le_of_ble_eq_true rfl⟩ hl.1 (Nat.le_of_ble_eq_true rfl) dX0_leastBegged_65 rfl) ?_
              refine xn_ge (a := hCost h0 i) (b := hCost h0 k) (tgt := 75) hx hb dX0_leastBegged_68 (by decide) (by have := hCost_le G i; omega) (by have := hCost_le G k; omega) (fun c_68 => ?_) (fun c_68 => ?_)
              · skip
                refine lv_iload_n hx hb dX0_leastBegged_75 rfl (lv_at hl 2 rfl) ?_
                refine x_ni (y := oI (amin (hCost h0) (opn h0) (i + 1))) (by rw [amin_f1 (c := (hCost h0)) (o := (opn h0)) (n := i) hbk (Nat.not_lt.mpr c_68)]) ?_
                refine lv_istore_n (lv' := [(1, .int (oI (amin (hCost h0) (opn h0) (i + 1)))), (3, .int (nI 1)), (0, .ref (ad 0)), (2, .int (nI i))]) hx hb dX0_leastBegged_76 rfl hl (by decide) rfl (fun ls hl => ?_)
                refine lv_iinc (v := nI (i + 1)) (lv' := [(2, .int (nI (i + 1))), (1, .int (oI (amin (hCost h0) (opn h0) (i + 1)))), (3, .int (nI 1)), (0, .ref (ad 0))]) hx hb dX0_leastBegged_77 hl (k := 3) rfl (nI_add _ 1) (by decide) rfl (fun ls hl => ?_)
                refine lv_goto (tgt := 5) hx hb dX0_leastBegged_80 (by decide) ?_
                exact ih_L (i + 1) _ (by first | omega | (simp only []; omega)) (by omega) (lv_sub hl [3, 1, 0] rfl)
              · skip
                refine lv_iload_n hx hb dX0_leastBegged_71 rfl (lv_at hl 3 rfl) ?_
                refine lv_goto (tgt := 76) hx hb dX0_leastBegged_72 (by decide) ?_
                refine x_ni (y := oI (amin (hCost h0) (opn h0) (i + 1))) (by rw [amin_t1 (c := (hCost h0)) (o := (opn h0)) (n := i) (decide_eq_true c_39) hbk c_68]; rfl) ?_
                refine lv_istore_n (lv' := [(1, .int (oI (amin (hCost h0) (opn h0) (i + 1)))), (3, .int (nI 1)), (0, .ref (ad 0)), (2, .int (nI i))]) hx hb dX0_leastBegged_76 rfl hl (by decide) rfl (fun ls hl => ?_)
                refine lv_iinc (v := nI (i + 1)) (lv' := [(2, .int (nI (i + 1))), (1, .int (oI (amin (hCost h0) (opn h0) (i + 1)))), (3, .int (nI 1)), (0, .ref (ad 0))]) hx hb dX0_leastBegged_77 hl (k := 3) rfl (nI_add _ 1) (by decide) rfl (fun ls hl => ?_)
                refine lv_goto (tgt := 5) hx hb dX0_leastBegged_80 (by decide) ?_
                exact ih_L (i + 1) _ (by first | omega | (simp only []; omega)) (by omega) (lv_sub hl [3, 1, 0] rfl)
  refine lv_bipush (v := (-9)) hx hb dX0_leastBegged_0 (by decide) ?_
  refine lv_istore_n (lv' := [(1, .int (-9)), (0, .ref (ad 0))]) hx hb dX0_leastBegged_2 rfl hl (by decide) rfl (fun ls hl => ?_)
  refine lv_iconst (v := nI 0) hx hb dX0_leastBegged_3 (by decide) ?_
  refine lv_istore_n (lv' := [(2, .int (nI 0)), (1, .int (-9)), (0, .ref (ad 0))]) hx hb dX0_leastBegged_4 rfl hl (by decide) rfl (fun ls hl => ?_)
  exact L _ 0 _ (Nat.lt_succ_self _) (Nat.zero_le _) (lv_sub hl [2, 1, 0] rfl)
theorem kX0_leastBegged : Cal yX0_leastBegged cX0_leastBegged 4 (some .int) 0 := ⟨q821, q81, by decide, by decide +kernel⟩
set_option maxHeartbeats 4000000 in
theorem ct_X0_fewestNails (l : Launch) {g : GX} {ad : Nat → Nat} {h0 : HS} {h1 : HS} {h2 : HS} {hi : Bool} {ro : Nat → Int32} {rn : Nat} {lt : Nat → Int32} {ln : Nat} {rf : Nat → Int32} {fw : Nat → Int32} {mn : Nat → Int64} {wy : Nat → Int32} {tg : Nat → Int32} {od : Nat → Int32} {tk : Int32} {mt : Int32} {H : Heap} (hP : va_P g.1 cl (cw g ad h0 h1 h2 hi ro rn lt ln rf fw mn wy tg od tk mt) H) (G : Gh h0) : CtR l g yX0_fewestNails cX0_fewestNails 4 (some .int) 6 136 [.ref (ad 0)] H (some (.int (oI (amin pop (opr h0) (whole h0 + 1))))) := by
  refine CtR.of (by decide) (Nat.le_of_ble_eq_true rfl) ?_
  intro p e s m args below meth c C hH ls hl
  obtain ⟨hx, hb, hml, hown, hts, hX, hlk, hr, -⟩ := id C
  have hl : lv_has ls 4 [(0, .ref (ad 0))] := hl
  have g10 := G.1
  have gp := G.p
  have gha := G.ha
  have gw := G.w
  have L : ∀ (n : Nat) (i : Nat) (ls : Array Slot), whole h0 + 1 - i < n → (i ≤ whole h0 + 1) → lv_has ls 4 [(0, .ref (ad 0)), (1, .int (oI (amin pop (opr h0) i))), (2, .int (nI i))] → W p l e (rmR 6 136) s m args below meth c H [] 0 0 (MQ below (QV (fun v H1 => v = (some (.int (oI (amin pop (opr h0) (whole h0 + 1))))) ∧ H1 = H)) args s 0 0 (fun _ => False)) (F0 m 5 ls []) := by
    intro n
    induction n with
    | zero =>
      intro i ls hm
      exact absurd hm (Nat.not_lt_zero _)
    | succ n ih_L =>
      intro i ls hm_L hi hl
      refine lv_iload_n hx hb dX0_fewestNails_5 rfl (lv_at hl 2 rfl) ?_
      refine lv_aload_n hx hb dX0_fewestNails_6 rfl (lv_at hl 0 rfl) ?_
      refine gc0_2 C hP q279 dX0_fewestNails_7 ?_
      refine x_goR (runV (As := []) (rest := [.int (nI i)]) C (ct_X15_whole l hP G) kX15_whole q760 q761 q762 (va_recv hX.1 hP (ci := 1) (q0 := 15) rfl cw_at15) rfl ⟨Nat.le_of_ble_eq_true rfl, Nat.le_of_ble_eq_true rfl⟩ ⟨Nat.le_of_ble_eq_true rfl, Nat.le_of_ble_eq_true rfl⟩ hl.1 (Nat.le_of_ble_eq_true rfl) dX0_fewestNails_10 rfl) ?_
      refine xn_gt (a := i) (b := whole h0) (tgt := 73) hx hb dX0_fewestNails_13 (by decide) (by omega) (by omega) (fun c_13 => ?_) (fun c_13 => ?_)
      · skip
        refine lv_iload_n hx hb dX0_fewestNails_73 rfl (lv_at hl 1 rfl) ?_
        exact x_iret hx hb hr hlk (Nat.le_refl _) (Nat.le_refl _) (fun _ h => nomatch h) dX0_fewestNails_74 (⟨by rw [show i = whole h0 + 1 from by omega], rfl⟩)
      · skip
        refine lv_aload_n hx hb dX0_fewestNails_16 rfl (lv_at hl 0 rfl) ?_
        refine gc0_2 C hP q279 dX0_fewestNails_17 ?_
        refine lv_iload_n hx hb dX0_fewestNails_20 rfl (lv_at hl 2 rfl) ?_
        refine x_goR (runV (As := [.int (nI i)]) (rest := []) C (ct_X15_reach l hP G i (by omega)) kX15_reach q764 q765 q766 (va_recv hX.1 hP (ci := 1) (q0 := 15) rfl cw_at15) rfl ⟨Nat.le_of_ble_eq_true rfl, Nat.le_of_ble_eq_true rfl⟩ ⟨Nat.le_of_ble_eq_true rfl, Nat.le_of_ble_eq_true rfl⟩ hl.1 (Nat.le_of_ble_eq_true rfl) dX0_fewestNails_21 rfl) ?_
        refine lv_aload_n hx hb dX0_fewestNails_24 rfl (lv_at hl 0 rfl) ?_
        refine gc0_2 C hP q279 dX0_fewestNails_25 ?_
        refine x_goR (runV (As := []) (rest := [.int (nI (hReach h0 i))]) C (ct_X15_whole l hP G) kX15_whole q760 q761 q762 (va_recv hX.1 hP (ci := 1) (q0 := 15) rfl cw_at15) rfl ⟨Nat.le_of_ble_eq_true rfl, Nat.le_of_ble_eq_true rfl⟩ ⟨Nat.le_of_ble_eq_true rfl, Nat.le_of_ble_eq_true rfl⟩ hl.1 (Nat.le_of_ble_eq_true rfl) dX0_fewestNails_28 rfl) ?_
        refine xn_ne (a := hReach h0 i) (b := whole h0) (tgt := 38) hx hb dX0_fewestNails_31 (by decide) (by have := hReach_lt G (show i < 1024 by omega); omega) (by omega) (fun c_31 => ?_) (fun c_31 => ?_)
        · skip
          refine lv_iconst (v := nI 0) hx hb dX0_fewestNails_38 (by decide) ?_
          refine lv_istore_n (lv' := [(3, .int (nI 0)), (0, .ref (ad 0)), (1, .int (oI (amin pop (opr h0) i))), (2, .int (nI i))]) hx hb dX0_fewestNails_39 rfl hl (by decide) rfl (fun ls hl => ?_)
          refine lv_iload_n hx hb dX0_fewestNails_40 rfl (lv_at hl 0 rfl) ?_
          refine xz_eq (n := 0) (tgt := 65) hx hb dX0_fewestNails_41 (by decide) (by omega) (fun c_41 => ?_) (fun c_41 => ?_)
          · skip
            refine lv_iload_n hx hb dX0_fewestNails_65 rfl (lv_at hl 2 rfl) ?_
            refine x_ni (y := oI (amin pop (opr h0) (i + 1))) (by rw [amin_f0 (c := pop) (o := (opr h0)) (n := i) (decide_eq_false c_31)]) ?_
            refine lv_istore_n (lv' := [(1, .int (oI (amin pop (opr h0) (i + 1)))), (3, .int (nI 0)), (0, .ref (ad 0)), (2, .int (nI i))]) hx hb dX0_fewestNails_66 rfl hl (by decide) rfl (fun ls hl => ?_)
            refine lv_iinc (v := nI (i + 1)) (lv' := [(2, .int (nI (i + 1))), (1, .int (oI (amin pop (opr h0) (i + 1)))), (3, .int (nI 0)), (0, .ref (ad 0))]) hx hb dX0_fewestNails_67 hl (k := 3) rfl (nI_add _ 1) (by decide) rfl (fun ls hl => ?_)
            refine lv_goto (tgt := 5) hx hb dX0_fewestNails_70 (by decide) ?_
            exact ih_L (i + 1) _ (by first | omega | (simp only []; omega)) (by omega) (lv_sub hl [3, 1, 0] rfl)
          · skip
            exact absurd rfl c_41
        · skip
          refine lv_iconst (v := nI 1) hx hb dX0_fewestNails_34 (by decide) ?_
          refine lv_goto (tgt := 39) hx hb dX0_fewestNails_35 (by decide) ?_
          refine lv_istore_n (lv' := [(3, .int (nI 1)), (0, .ref (ad 0)), (1, .int (oI (amin pop (opr h0) i))), (2, .int (nI i))]) hx hb dX0_fewestNails_39 rfl hl (by decide) rfl (fun ls hl => ?_)
          refine lv_iload_n hx hb dX0_fewestNails_40 rfl (lv_at hl 0 rfl) ?_
          refine xz_eq (n := 1) (tgt := 65) hx hb dX0_fewestNails_41 (by decide) (by omega) (fun c_41 => ?_) (fun c_41 => ?_)
          · skip
            exact absurd c_41 (by decide)
          · skip
            refine lv_iload_n hx hb dX0_fewestNails_44 rfl (lv_at hl 2 rfl) ?_
            refine lv_bipush (v := (-9)) hx hb dX0_fewestNails_45 (by decide) ?_
            refine lv_icmp_eq (x := oI (amin pop (opr h0) i)) (y := (-9)) (tgt := 61) hx hb dX0_fewestNails_47 (by decide) (fun c_47 => ?_) (fun c_47 => ?_)
            · skip
              have hbn := oI_none (fun k e => by have := amin_lt e; omega) c_47
              refine lv_iload_n hx hb dX0_fewestNails_61 rfl (lv_at hl 3 rfl) ?_
              refine lv_goto (tgt := 66) hx hb dX0_fewestNails_62 (by decide) ?_
              refine x_ni (y := oI (amin pop (opr h0) (i + 1))) (by rw [amin_t0 (c := pop) (o := (opr h0)) (n := i) (decide_eq_true c_31) hbn]; rfl) ?_
              refine lv_istore_n (lv' := [(1, .int (oI (amin pop (opr h0) (i + 1)))), (3, .int (nI 1)), (0, .ref (ad 0)), (2, .int (nI i))]) hx hb dX0_fewestNails_66 rfl hl (by decide) rfl (fun ls hl => ?_)
              refine lv_iinc (v := nI (i + 1)) (lv' := [(2, .int (nI (i + 1))), (1, .int (oI (amin pop (opr h0) (i + 1)))), (3, .int (nI 1)), (0, .ref (ad 0))]) hx hb dX0_fewestNails_67 hl (k := 3) rfl (nI_add _ 1) (by decide) rfl (fun ls hl => ?_)
              refine lv_goto (tgt := 5) hx hb dX0_fewestNails_70 (by decide) ?_
              exact ih_L (i + 1) _ (by first | omega | (simp only []; omega)) (by omega) (lv_sub hl [3, 1, 0] rfl)
            · skip
              obtain ⟨k, hbk⟩ := oI_some c_47
              have hkl := amin_lt hbk
              refine lv_iload_n hx hb dX0_fewestNails_50 rfl (lv_at hl 3 rfl) ?_
              refine x_goR (runS (As := [.int (nI i)]) (rest := []) C (ct_X0_ones l i (by omega)) kX0_ones q830 q712 rfl ⟨Nat.le_of_ble_eq_true rfl, Nat.le_of_ble_eq_true rfl⟩ ⟨Nat.le_of_ble_eq_true rfl, Nat.le_of_ble_eq_true rfl⟩ hl.1 (Nat.le_of_ble_eq_true rfl) dX0_fewestNails_51 rfl) ?_
              refine lv_iload_n hx hb dX0_fewestNails_54 rfl (lv_at hl 2 rfl) ?_
              refine x_ni (y := nI k) (by rw [hbk]; rfl) ?_
              refine x_goR (runS (As := [.int (nI k)]) (rest := [.int (nI (pop i))]) C (ct_X0_ones l k (by omega)) kX0_ones q830 q712 rfl ⟨Nat.le_of_ble_eq_true rfl, Nat.le_of_ble_eq_true rfl⟩ ⟨Nat.le_of_ble_eq_true rfl, Nat.le_of_ble_eq_true rfl⟩ hl.1 (Nat.le_of_ble_eq_true rfl) dX0_fewestNails_55 rfl) ?_
              refine xn_ge (a := pop i) (b := pop k) (tgt := 65) hx hb dX0_fewestNails_58 (by decide) (by have := pop_le i (by omega); omega) (by have := pop_le k (by omega); omega) (fun c_58 => ?_) (fun c_58 => ?_)
              · skip
                refine lv_iload_n hx hb dX0_fewestNails_65 rfl (lv_at hl 2 rfl) ?_
                refine x_ni (y := oI (amin pop (opr h0) (i + 1))) (by rw [amin_f1 (c := pop) (o := (opr h0)) (n := i) hbk (Nat.not_lt.mpr c_58)]) ?_
                refine lv_istore_n (lv' := [(1, .int (oI (amin pop (opr h0) (i + 1)))), (3, .int (nI 1)), (0, .ref (ad 0)), (2, .int (nI i))]) hx hb dX0_fewestNails_66 rfl hl (by decide) rfl (fun ls hl => ?_)
                refine lv_iinc (v := nI (i + 1)) (lv' := [(2, .int (nI (i + 1))), (1, .int (oI (amin pop (opr h0) (i + 1)))), (3, .int (nI 1)), (0, .ref (ad 0))]) hx hb dX0_fewestNails_67 hl (k := 3) rfl (nI_add _ 1) (by decide) rfl (fun ls hl => ?_)
                refine lv_goto (tgt := 5) hx hb dX0_fewestNails_70 (by decide) ?_
                exact ih_L (i + 1) _ (by first | omega | (simp only []; omega)) (by omega) (lv_sub hl [3, 1, 0] rfl)
              · skip
                refine lv_iload_n hx hb dX0_fewestNails_61 rfl (lv_at hl 3 rfl) ?_
                refine lv_goto (tgt := 66) hx hb dX0_fewestNails_62 (by decide) ?_
                refine x_ni (y := oI (amin pop (opr h0) (i + 1))) (by rw [amin_t1 (c := pop) (o := (opr h0)) (n := i) (decide_eq_true c_31) hbk c_58]; rfl) ?_
                refine lv_istore_n (lv' := [(1, .int (oI (amin pop (opr h0) (i + 1)))), (3, .int (nI 1)), (0, .ref (ad 0)), (2, .int (nI i))]) hx hb dX0_fewestNails_66 rfl hl (by decide) rfl (fun ls hl => ?_)
                refine lv_iinc (v := nI (i + 1)) (lv' := [(2, .int (nI (i + 1))), (1, .int (oI (amin pop (opr h0) (i + 1)))), (3, .int (nI 1)), (0, .ref (ad 0))]) hx hb dX0_fewestNails_67 hl (k := 3) rfl (nI_add _ 1) (by decide) rfl (fun ls hl => ?_)
                refine lv_goto (tgt := 5) hx hb dX0_fewestNails_70 (by decide) ?_
                exact ih_L (i + 1) _ (by first | omega | (simp only []; omega)) (by omega) (lv_sub hl [3, 1, 0] rfl)
  refine lv_bipush (v := (-9)) hx hb dX0_fewestNails_0 (by decide) ?_
  refine lv_istore_n (lv' := [(1, .int (-9)), (0, .ref (ad 0))]) hx hb dX0_fewestNails_2 rfl hl (by decide) rfl (fun ls hl => ?_)
  refine lv_iconst (v := nI 0) hx hb dX0_fewestNails_3 (by decide) ?_
  refine lv_istore_n (lv' := [(2, .int (nI 0)), (1, .int (-9)), (0, .ref (ad 0))]) hx hb dX0_fewestNails_4 rfl hl (by decide) rfl (fun ls hl => ?_)
  exact L _ 0 _ (Nat.lt_succ_self _) (Nat.zero_le _) (lv_sub hl [2, 1, 0] rfl)
theorem kX0_fewestNails : Cal yX0_fewestNails cX0_fewestNails 4 (some .int) 0 := ⟨q829, q81, by decide, by decide +kernel⟩
set_option maxHeartbeats 4000000 in
theorem ct_X0_bestSpare (l : Launch) {g : GX} {ad : Nat → Nat} {h0 : HS} {h1 : HS} {h2 : HS} {hi : Bool} {ro : Nat → Int32} {rn : Nat} {lt : Nat → Int32} {ln : Nat} {rf : Nat → Int32} {fw : Nat → Int32} {mn : Nat → Int64} {wy : Nat → Int32} {tg : Nat → Int32} {od : Nat → Int32} {tk : Int32} {mt : Int32} {H : Heap} (hP : va_P g.1 cl (cw g ad h0 h1 h2 hi ro rn lt ln rf fw mn wy tg od tk mt) H) (G : Gh h0) : CtR l g yX0_bestSpare cX0_bestSpare 5 (some .int) 6 136 [.ref (ad 0)] H (some (.int (oI (spB h0 h0.th)))) := by
  refine CtR.of (by decide) (Nat.le_of_ble_eq_true rfl) ?_
  intro p e s m args below meth c C hH ls hl
  obtain ⟨hx, hb, hml, hown, hts, hX, hlk, hr, -⟩ := id C
  have hl : lv_has ls 5 [(0, .ref (ad 0))] := hl
  have g10 := G.1
  have gp := G.p
  have gha := G.ha
  have gw := G.w
  have L : ∀ (n : Nat) (i : Nat) (ls : Array Slot), h0.th - i < n → (i ≤ h0.th) → lv_has ls 5 [(0, .ref (ad 0)), (1, .int (oI (spB h0 i))), (2, .int (nI (spM h0 i))), (3, .int (nI i))] → W p l e (rmR 6 136) s m args below meth c H [] 0 0 (MQ below (QV (fun v H1 => v = (some (.int (oI (spB h0 h0.th)))) ∧ H1 = H)) args s 0 0 (fun _ => False)) (F0 m 7 ls []) := by
    intro n
    induction n with
    | zero =>
      intro i ls hm
      exact absurd hm (Nat.not_lt_zero _)
    | succ n ih_L =>
      intro i ls hm_L hi hl
      refine lv_iload_n hx hb dX0_bestSpare_7 rfl (lv_at hl 3 rfl) ?_
      refine lv_aload_n hx hb dX0_bestSpare_8 rfl (lv_at hl 0 rfl) ?_
      refine gc0_2 C hP q279 dX0_bestSpare_9 ?_
      refine gc15_0n C hP q226 dX0_bestSpare_12 ?_
      refine xn_ge (a := i) (b := h0.th) (tgt := 84) hx hb dX0_bestSpare_15 (by decide) (by omega) (by omega) (fun c_15 => ?_) (fun c_15 => ?_)
      · skip
        refine lv_iload_n hx hb dX0_bestSpare_84 rfl (lv_at hl 1 rfl) ?_
        exact x_iret hx hb hr hlk (Nat.le_refl _) (Nat.le_refl _) (fun _ h => nomatch h) dX0_bestSpare_85 (⟨by rw [show i = h0.th from by omega], rfl⟩)
      · skip
        refine lv_aload_n hx hb dX0_bestSpare_18 rfl (lv_at hl 0 rfl) ?_
        refine gc0_2 C hP q279 dX0_bestSpare_19 ?_
        refine gc15_7n C hP q253 dX0_bestSpare_22 ?_
        refine lv_iload_n hx hb dX0_bestSpare_25 rfl (lv_at hl 3 rfl) ?_
        refine x_goR (runS (As := [.int (nI h0.ha), .int (nI i)]) (rest := []) C (ct_X0_has l h0.ha i (by omega) (by omega)) kX0_has q813 q698 rfl ⟨Nat.le_of_ble_eq_true rfl, Nat.le_of_ble_eq_true rfl⟩ ⟨Nat.le_of_ble_eq_true rfl, Nat.le_of_ble_eq_true rfl⟩ hl.1 (Nat.le_of_ble_eq_true rfl) dX0_bestSpare_26 rfl) ?_
        refine xb_eq (b := h0.ha.testBit i) (tgt := 36) hx hb dX0_bestSpare_29 (by decide) (fun c_29 => ?_) (fun c_29 => ?_)
        · skip
          refine lv_aload_n hx hb dX0_bestSpare_36 rfl (lv_at hl 0 rfl) ?_
          refine gc0_2 C hP q279 dX0_bestSpare_37 ?_
          refine lv_aload_n hx hb dX0_bestSpare_40 rfl (lv_at hl 0 rfl) ?_
          refine gc0_2 C hP q279 dX0_bestSpare_41 ?_
          refine gc15_7n C hP q253 dX0_bestSpare_44 ?_
          refine lv_iconst (v := nI 1) hx hb dX0_bestSpare_47 (by decide) ?_
          refine lv_iload_n hx hb dX0_bestSpare_48 rfl (lv_at hl 3 rfl) ?_
          refine lv_ishl hx hb dX0_bestSpare_49 ?_
          refine x_ni (y := nI (2 ^ i)) (nw_shl1 (by omega)) ?_
          refine lv_ior hx hb dX0_bestSpare_50 ?_
          refine x_ni (y := nI (h0.ha ||| (2 ^ i))) (nw_or _ _) ?_
          refine x_goR (runV (As := [.int (nI (h0.ha ||| (2 ^ i)))]) (rest := []) C (ct_X15_reach l hP G (h0.ha ||| (2 ^ i)) (or2 gha (by omega))) kX15_reach q764 q765 q766 (va_recv hX.1 hP (ci := 1) (q0 := 15) rfl cw_at15) rfl ⟨Nat.le_of_ble_eq_true rfl, Nat.le_of_ble_eq_true rfl⟩ ⟨Nat.le_of_ble_eq_true rfl, Nat.le_of_ble_eq_true rfl⟩ hl.1 (Nat.le_of_ble_eq_true rfl) dX0_bestSpare_51 rfl) ?_
          refine x_goR (runS (As := [.int (nI (hReach h0 (h0.ha ||| (2 ^ i))))]) (rest := []) C (ct_X0_ones l (hReach h0 (h0.ha ||| (2 ^ i))) (hReach_lt G (or2 gha (by omega)))) kX0_ones q830 q712 rfl ⟨Nat.le_of_ble_eq_true rfl, Nat.le_of_ble_eq_true rfl⟩ ⟨Nat.le_of_ble_eq_true rfl, Nat.le_of_ble_eq_true rfl⟩ hl.1 (Nat.le_of_ble_eq_true rfl) dX0_bestSpare_54 rfl) ?_
          refine x_ni (y := nI (spV h0 i)) (by rw [spV, if_neg (by rw [c_29]; exact Bool.false_ne_true)]) ?_
          refine lv_istore (lv' := [(4, .int (nI (spV h0 i))), (0, .ref (ad 0)), (1, .int (oI (spB h0 i))), (2, .int (nI (spM h0 i))), (3, .int (nI i))]) hx hb dX0_bestSpare_57 hl (by decide) rfl (fun ls hl => ?_)
          refine lv_iload hx hb dX0_bestSpare_59 (lv_at hl 0 rfl) ?_
          refine lv_iload_n hx hb dX0_bestSpare_61 rfl (lv_at hl 3 rfl) ?_
          refine xn_le (a := spV h0 i) (b := spM h0 i) (tgt := 69) hx hb dX0_bestSpare_62 (by decide) (by have := spV_le G (t := i) (by omega); omega) (by have := spM_le G i (by omega); omega) (fun c_62 => ?_) (fun c_62 => ?_)
          · skip
            refine lv_iload_n hx hb dX0_bestSpare_69 rfl (lv_at hl 2 rfl) ?_
            refine x_ni (y := oI (spB h0 (i + 1))) (by rw [spB, if_neg (by omega)]) ?_
            refine lv_istore_n (lv' := [(1, .int (oI (spB h0 (i + 1)))), (4, .int (nI (spV h0 i))), (0, .ref (ad 0)), (2, .int (nI (spM h0 i))), (3, .int (nI i))]) hx hb dX0_bestSpare_70 rfl hl (by decide) rfl (fun ls hl => ?_)
            refine lv_iload_n hx hb dX0_bestSpare_71 rfl (lv_at hl 3 rfl) ?_
            refine lv_iload hx hb dX0_bestSpare_72 (lv_at hl 1 rfl) ?_
            refine va_mmax hx hb (hml.trans hl.1.symm) hown (hts _ q835) (hts _ q836) (hts _ q112) (hts _ q837) (Nat.le_of_ble_eq_true rfl) (Nat.le_of_ble_eq_true rfl) (Nat.zero_le _) (Nat.zero_le _) dX0_bestSpare_74 ?_
            refine x_ni (y := nI (max (spM h0 i) (spV h0 i))) (mmaxN (by have := spM_le G i (by omega); omega) (by have := spV_le G (t := i) (by omega); omega)) ?_
            refine x_ni (y := nI (spM h0 (i + 1))) rfl ?_
            refine lv_istore_n (lv' := [(2, .int (nI (spM h0 (i + 1)))), (1, .int (oI (spB h0 (i + 1)))), (4, .int (nI (spV h0 i))), (0, .ref (ad 0)), (3, .int (nI i))]) hx hb dX0_bestSpare_77 rfl hl (by decide) rfl (fun ls hl => ?_)
            refine lv_iinc (v := nI (i + 1)) (lv' := [(3, .int (nI (i + 1))), (2, .int (nI (spM h0 (i + 1)))), (1, .int (oI (spB h0 (i + 1)))), (4, .int (nI (spV h0 i))), (0, .ref (ad 0))]) hx hb dX0_bestSpare_78 hl (k := 4) rfl (nI_add _ 1) (by decide) rfl (fun ls hl => ?_)
            refine lv_goto (tgt := 7) hx hb dX0_bestSpare_81 (by decide) ?_
            exact ih_L (i + 1) _ (by first | omega | (simp only []; omega)) (by omega) (lv_sub hl [4, 2, 1, 0] rfl)
          · skip
            refine lv_iload_n hx hb dX0_bestSpare_65 rfl (lv_at hl 4 rfl) ?_
            refine lv_goto (tgt := 70) hx hb dX0_bestSpare_66 (by decide) ?_
            refine x_ni (y := oI (spB h0 (i + 1))) (by rw [spB, if_pos c_62]; rfl) ?_
            refine lv_istore_n (lv' := [(1, .int (oI (spB h0 (i + 1)))), (4, .int (nI (spV h0 i))), (0, .ref (ad 0)), (2, .int (nI (spM h0 i))), (3, .int (nI i))]) hx hb dX0_bestSpare_70 rfl hl (by decide) rfl (fun ls hl => ?_)
            refine lv_iload_n hx hb dX0_bestSpare_71 rfl (lv_at hl 3 rfl) ?_
            refine lv_iload hx hb dX0_bestSpare_72 (lv_at hl 1 rfl) ?_
            refine va_mmax hx hb (hml.trans hl.1.symm) hown (hts _ q835) (hts _ q836) (hts _ q112) (hts _ q837) (Nat.le_of_ble_eq_true rfl) (Nat.le_of_ble_eq_true rfl) (Nat.zero_le _) (Nat.zero_le _) dX0_bestSpare_74 ?_
            refine x_ni (y := nI (max (spM h0 i) (spV h0 i))) (mmaxN (by have := spM_le G i (by omega); omega) (by have := spV_le G (t := i) (by omega); omega)) ?_
            refine x_ni (y := nI (spM h0 (i + 1))) rfl ?_
            refine lv_istore_n (lv' := [(2, .int (nI (spM h0 (i + 1)))), (1, .int (oI (spB h0 (i + 1)))), (4, .int (nI (spV h0 i))), (0, .ref (ad 0)), (3, .int (nI i))]) hx hb dX0_bestSpare_77 rfl hl (by decide) rfl (fun ls hl => ?_)
            refine lv_iinc (v := nI (i + 1)) (lv' := [(3, .int (nI (i + 1))), (2, .int (nI (spM h0 (i + 1)))), (1, .int (oI (spB h0 (i + 1)))), (4, .int (nI (spV h0 i))), (0, .ref (ad 0))]) hx hb dX0_bestSpare_78 hl (k := 4) rfl (nI_add _ 1) (by decide) rfl (fun ls hl => ?_)
            refine lv_goto (tgt := 7) hx hb dX0_bestSpare_81 (by decide) ?_
            exact ih_L (i + 1) _ (by first | omega | (simp only []; omega)) (by omega) (lv_sub hl [4, 2, 1, 0] rfl)
        · skip
          refine lv_iconst (v := nI 0) hx hb dX0_bestSpare_32 (by decide) ?_
          refine lv_goto (tgt := 57) hx hb dX0_bestSpare_33 (by decide) ?_
          refine x_ni (y := nI (spV h0 i)) (by rw [spV, if_pos c_29]) ?_
          refine lv_istore (lv' := [(4, .int (nI (spV h0 i))), (0, .ref (ad 0)), (1, .int (oI (spB h0 i))), (2, .int (nI (spM h0 i))), (3, .int (nI i))]) hx hb dX0_bestSpare_57 hl (by decide) rfl (fun ls hl => ?_)
          refine lv_iload hx hb dX0_bestSpare_59 (lv_at hl 0 rfl) ?_
          refine lv_iload_n hx hb dX0_bestSpare_61 rfl (lv_at hl 3 rfl) ?_
          refine xn_le (a := spV h0 i) (b := spM h0 i) (tgt := 69) hx hb dX0_bestSpare_62 (by decide) (by have := spV_le G (t := i) (by omega); omega) (by have := spM_le G i (by omega); omega) (fun c_62 => ?_) (fun c_62 => ?_)
          · skip
            refine lv_iload_n hx hb dX0_bestSpare_69 rfl (lv_at hl 2 rfl) ?_
            refine x_ni (y := oI (spB h0 (i + 1))) (by rw [spB, if_neg (by omega)]) ?_
            refine lv_istore_n (lv' := [(1, .int (oI (spB h0 (i + 1)))), (4, .int (nI (spV h0 i))), (0, .ref (ad 0)), (2, .int (nI (spM h0 i))), (3, .int (nI i))]) hx hb dX0_bestSpare_70 rfl hl (by decide) rfl (fun ls hl => ?_)
            refine lv_iload_n hx hb dX0_bestSpare_71 rfl (lv_at hl 3 rfl) ?_
            refine lv_iload hx hb dX0_bestSpare_72 (lv_at hl 1 rfl) ?_
            refine va_mmax hx hb (hml.trans hl.1.symm) hown (hts _ q835) (hts _ q836) (hts _ q112) (hts _ q837) (Nat.le_of_ble_eq_true rfl) (Nat.le_of_ble_eq_true rfl) (Nat.zero_le _) (Nat.zero_le _) dX0_bestSpare_74 ?_
            refine x_ni (y := nI (max (spM h0 i) (spV h0 i))) (mmaxN (by have := spM_le G i (by omega); omega) (by have := spV_le G (t := i) (by omega); omega)) ?_
            refine x_ni (y := nI (spM h0 (i + 1))) rfl ?_
            refine lv_istore_n (lv' := [(2, .int (nI (spM h0 (i + 1)))), (1, .int (oI (spB h0 (i + 1)))), (4, .int (nI (spV h0 i))), (0, .ref (ad 0)), (3, .int (nI i))]) hx hb dX0_bestSpare_77 rfl hl (by decide) rfl (fun ls hl => ?_)
            refine lv_iinc (v := nI (i + 1)) (lv' := [(3, .int (nI (i + 1))), (2, .int (nI (spM h0 (i + 1)))), (1, .int (oI (spB h0 (i + 1)))), (4, .int (nI (spV h0 i))), (0, .ref (ad 0))]) hx hb dX0_bestSpare_78 hl (k := 4) rfl (nI_add _ 1) (by decide) rfl (fun ls hl => ?_)
            refine lv_goto (tgt := 7) hx hb dX0_bestSpare_81 (by decide) ?_
            exact ih_L (i + 1) _ (by first | omega | (simp only []; omega)) (by omega) (lv_sub hl [4, 2, 1, 0] rfl)
          · skip
            refine lv_iload_n hx hb dX0_bestSpare_65 rfl (lv_at hl 4 rfl) ?_
            refine lv_goto (tgt := 70) hx hb dX0_bestSpare_66 (by decide) ?_
            refine x_ni (y := oI (spB h0 (i + 1))) (by rw [spB, if_pos c_62]; rfl) ?_
            refine lv_istore_n (lv' := [(1, .int (oI (spB h0 (i + 1)))), (4, .int (nI (spV h0 i))), (0, .ref (ad 0)), (2, .int (nI (spM h0 i))), (3, .int (nI i))]) hx hb dX0_bestSpare_70 rfl hl (by decide) rfl (fun ls hl => ?_)
            refine lv_iload_n hx hb dX0_bestSpare_71 rfl (lv_at hl 3 rfl) ?_
            refine lv_iload hx hb dX0_bestSpare_72 (lv_at hl 1 rfl) ?_
            refine va_mmax hx hb (hml.trans hl.1.symm) hown (hts _ q835) (hts _ q836) (hts _ q112) (hts _ q837) (Nat.le_of_ble_eq_true rfl) (Nat.le_of_ble_eq_true rfl) (Nat.zero_le _) (Nat.zero_le _) dX0_bestSpare_74 ?_
            refine x_ni (y := nI (max (spM h0 i) (spV h0 i))) (mmaxN (by have := spM_le G i (by omega); omega) (by have := spV_le G (t := i) (by omega); omega)) ?_
            refine x_ni (y := nI (spM h0 (i + 1))) rfl ?_
            refine lv_istore_n (lv' := [(2, .int (nI (spM h0 (i + 1)))), (1, .int (oI (spB h0 (i + 1)))), (4, .int (nI (spV h0 i))), (0, .ref (ad 0)), (3, .int (nI i))]) hx hb dX0_bestSpare_77 rfl hl (by decide) rfl (fun ls hl => ?_)
            refine lv_iinc (v := nI (i + 1)) (lv' := [(3, .int (nI (i + 1))), (2, .int (nI (spM h0 (i + 1)))), (1, .int (oI (spB h0 (i + 1)))), (4, .int (nI (spV h0 i))), (0, .ref (ad 0))]) hx hb dX0_bestSpare_78 hl (k := 4) rfl (nI_add _ 1) (by decide) rfl (fun ls hl => ?_)
            refine lv_goto (tgt := 7) hx hb dX0_bestSpare_81 (by decide) ?_
            exact ih_L (i + 1) _ (by first | omega | (simp only []; omega)) (by omega) (lv_sub hl [4, 2, 1, 0] rfl)
  refine lv_bipush (v := (-9)) hx hb dX0_bestSpare_0 (by decide) ?_
  refine lv_istore_n (lv' := [(1, .int (-9)), (0, .ref (ad 0))]) hx hb dX0_bestSpare_2 rfl hl (by decide) rfl (fun ls hl => ?_)
  refine lv_iconst (v := nI 0) hx hb dX0_bestSpare_3 (by decide) ?_
  refine lv_istore_n (lv' := [(2, .int (nI 0)), (1, .int (-9)), (0, .ref (ad 0))]) hx hb dX0_bestSpare_4 rfl hl (by decide) rfl (fun ls hl => ?_)
  refine lv_iconst (v := nI 0) hx hb dX0_bestSpare_5 (by decide) ?_
  refine lv_istore_n (lv' := [(3, .int (nI 0)), (2, .int (nI 0)), (1, .int (-9)), (0, .ref (ad 0))]) hx hb dX0_bestSpare_6 rfl hl (by decide) rfl (fun ls hl => ?_)
  exact L _ 0 _ (Nat.lt_succ_self _) (Nat.zero_le _) (lv_sub hl [3, 2, 1, 0] rfl)
theorem kX0_bestSpare : Cal yX0_bestSpare cX0_bestSpare 5 (some .int) 0 := ⟨q834, q81, by decide, by decide +kernel⟩
set_option maxHeartbeats 4000000 in
theorem ct_X0_doesFor (l : Launch) {g : GX} {ad : Nat → Nat} {h0 : HS} {h1 : HS} {h2 : HS} {hi : Bool} {ro : Nat → Int32} {rn : Nat} {lt : Nat → Int32} {ln : Nat} {rf : Nat → Int32} {fw : Nat → Int32} {mn : Nat → Int64} {wy : Nat → Int32} {tg : Nat → Int32} {od : Nat → Int32} {tk : Int32} {mt : Int32} {H : Heap} (hP : va_P g.1 cl (cw g ad h0 h1 h2 hi ro rn lt ln rf fw mn wy tg od tk mt) H) (G : Gh h0) (t : Nat) (ht : t < h0.th) : CtR l g yX0_doesFor cX0_doesFor 3 (some .int) 6 136 [.ref (ad 0), .int (nI t)] H (some (.int (nI (doesN h0 t)))) := by
  refine CtR.of (by decide) (Nat.le_of_ble_eq_true rfl) ?_
  intro p e s m args below meth c C hH ls hl
  obtain ⟨hx, hb, hml, hown, hts, hX, hlk, hr, -⟩ := id C
  have hl : lv_has ls 3 [(0, .ref (ad 0)), (1, .int (nI t))] := hl
  have g10 := G.1
  have gp := G.p
  have gha := G.ha
  have gw := G.w
  refine lv_aload_n hx hb dX0_doesFor_0 rfl (lv_at hl 0 rfl) ?_
  refine gc0_2 C hP q279 dX0_doesFor_1 ?_
  refine lv_aload_n hx hb dX0_doesFor_4 rfl (lv_at hl 0 rfl) ?_
  refine gc0_2 C hP q279 dX0_doesFor_5 ?_
  refine gc15_7n C hP q253 dX0_doesFor_8 ?_
  refine x_goR (runV (As := [.int (nI h0.ha)]) (rest := []) C (ct_X15_reach l hP G h0.ha (by omega)) kX15_reach q764 q765 q766 (va_recv hX.1 hP (ci := 1) (q0 := 15) rfl cw_at15) rfl ⟨Nat.le_of_ble_eq_true rfl, Nat.le_of_ble_eq_true rfl⟩ ⟨Nat.le_of_ble_eq_true rfl, Nat.le_of_ble_eq_true rfl⟩ hl.1 (Nat.le_of_ble_eq_true rfl) dX0_doesFor_11 rfl) ?_
  refine lv_aload_n hx hb dX0_doesFor_14 rfl (lv_at hl 0 rfl) ?_
  refine gc0_2 C hP q279 dX0_doesFor_15 ?_
  refine gc15_7n C hP q253 dX0_doesFor_18 ?_
  refine lv_iconst (v := -1) hx hb dX0_doesFor_21 (by decide) ?_
  refine lv_ixor hx hb dX0_doesFor_22 ?_
  refine x_ni (y := nI h0.ha ^^^ (-1)) rfl ?_
  refine lv_iand hx hb dX0_doesFor_23 ?_
  refine x_ni (y := nI (sdf (hReach h0 h0.ha) h0.ha)) (nw_dif _ _) ?_
  refine lv_istore_n (lv' := [(2, .int (nI (sdf (hReach h0 h0.ha) h0.ha))), (0, .ref (ad 0)), (1, .int (nI t))]) hx hb dX0_doesFor_24 rfl hl (by decide) rfl (fun ls hl => ?_)
  refine lv_iload_n hx hb dX0_doesFor_25 rfl (lv_at hl 0 rfl) ?_
  refine lv_aload_n hx hb dX0_doesFor_26 rfl (lv_at hl 1 rfl) ?_
  refine gc0_2 C hP q279 dX0_doesFor_27 ?_
  refine lv_aload_n hx hb dX0_doesFor_30 rfl (lv_at hl 1 rfl) ?_
  refine gc0_2 C hP q279 dX0_doesFor_31 ?_
  refine gc15_7n C hP q253 dX0_doesFor_34 ?_
  refine lv_iconst (v := nI 1) hx hb dX0_doesFor_37 (by decide) ?_
  refine lv_iload_n hx hb dX0_doesFor_38 rfl (lv_at hl 2 rfl) ?_
  refine lv_ishl hx hb dX0_doesFor_39 ?_
  refine x_ni (y := nI (2 ^ t)) (nw_shl1 (by omega)) ?_
  refine x_goR (runV (As := [.int (nI h0.ha), .int (nI (2 ^ t))]) (rest := [.int (nI (sdf (hReach h0 h0.ha) h0.ha))]) C (ct_X15_reachBut l hP G h0.ha (sdf 1023 (2 ^ t)) (nI (2 ^ t)) gha (hKn _)) kX15_reachBut q846 q769 q770 (va_recv hX.1 hP (ci := 1) (q0 := 15) rfl cw_at15) rfl ⟨Nat.le_of_ble_eq_true rfl, Nat.le_of_ble_eq_true rfl⟩ ⟨Nat.le_of_ble_eq_true rfl, Nat.le_of_ble_eq_true rfl⟩ hl.1 (Nat.le_of_ble_eq_true rfl) dX0_doesFor_40 rfl) ?_
  refine lv_iconst (v := -1) hx hb dX0_doesFor_43 (by decide) ?_
  refine lv_ixor hx hb dX0_doesFor_44 ?_
  refine x_ni (y := nI (rch h0 (sdf 1023 (2 ^ t)) (h0.ha &&& sdf 1023 (2 ^ t))) ^^^ (-1)) rfl ?_
  refine lv_iand hx hb dX0_doesFor_45 ?_
  refine x_ni (y := nI (sdf (sdf (hReach h0 h0.ha) h0.ha) (rch h0 (sdf 1023 (2 ^ t)) (h0.ha &&& sdf 1023 (2 ^ t))))) (nw_dif _ _) ?_
  exact x_iret hx hb hr hlk (Nat.le_refl _) (Nat.le_refl _) (fun _ h => nomatch h) dX0_doesFor_46 (⟨rfl, rfl⟩)
theorem kX0_doesFor : Cal yX0_doesFor cX0_doesFor 3 (some .int) 1 := ⟨q845, q81, by decide, by decide +kernel⟩
set_option maxHeartbeats 4000000 in
theorem ct_X0_isWayBut (l : Launch) {g : GX} {ad : Nat → Nat} {h0 : HS} {h1 : HS} {h2 : HS} {hi : Bool} {ro : Nat → Int32} {rn : Nat} {lt : Nat → Int32} {ln : Nat} {rf : Nat → Int32} {fw : Nat → Int32} {mn : Nat → Int64} {wy : Nat → Int32} {tg : Nat → Int32} {od : Nat → Int32} {tk : Int32} {mt : Int32} {H : Heap} (hP : va_P g.1 cl (cw g ad h0 h1 h2 hi ro rn lt ln rf fw mn wy tg od tk mt) H) (G : Gh h0) (T t : Nat) (hT : T < 1024) (ht : t < h0.th) : CtR l g yX0_isWayBut cX0_isWayBut 4 (some .boolean) 5 115 [.ref (ad 0), .int (nI T), .int (nI t)] H (some (.int (b2 (wayB h0 T t)))) := by
  refine CtR.of (by decide) (Nat.le_of_ble_eq_true rfl) ?_
  intro p e s m args below meth c C hH ls hl
  obtain ⟨hx, hb, hml, hown, hts, hX, hlk, hr, -⟩ := id C
  have hl : lv_has ls 4 [(0, .ref (ad 0)), (1, .int (nI T)), (2, .int (nI t))] := hl
  have g10 := G.1
  have gp := G.p
  have gha := G.ha
  have gw := G.w
  refine lv_iload_n hx hb dX0_isWayBut_0 rfl (lv_at hl 1 rfl) ?_
  refine lv_iconst (v := -1) hx hb dX0_isWayBut_1 (by decide) ?_
  refine lv_ixor hx hb dX0_isWayBut_2 ?_
  refine x_ni (y := nI T ^^^ (-1)) rfl ?_
  refine lv_iconst (v := nI 1) hx hb dX0_isWayBut_3 (by decide) ?_
  refine lv_iload_n hx hb dX0_isWayBut_4 rfl (lv_at hl 2 rfl) ?_
  refine lv_ishl hx hb dX0_isWayBut_5 ?_
  refine x_ni (y := nI (2 ^ t)) (nw_shl1 (by omega)) ?_
  refine lv_ior hx hb dX0_isWayBut_6 ?_
  refine x_ni (y := nI (sdf T (2 ^ t)) ^^^ (-1)) (nw_nor _ _) ?_
  refine lv_istore_n (lv' := [(3, .int (nI (sdf T (2 ^ t)) ^^^ (-1))), (0, .ref (ad 0)), (1, .int (nI T)), (2, .int (nI t))]) hx hb dX0_isWayBut_7 rfl hl (by decide) rfl (fun ls hl => ?_)
  refine lv_iload_n hx hb dX0_isWayBut_8 rfl (lv_at hl 2 rfl) ?_
  refine lv_iconst (v := nI 1) hx hb dX0_isWayBut_9 (by decide) ?_
  refine lv_iload_n hx hb dX0_isWayBut_10 rfl (lv_at hl 3 rfl) ?_
  refine lv_ishl hx hb dX0_isWayBut_11 ?_
  refine x_ni (y := nI (2 ^ t)) (nw_shl1 (by omega)) ?_
  refine lv_iconst (v := -1) hx hb dX0_isWayBut_12 (by decide) ?_
  refine lv_ixor hx hb dX0_isWayBut_13 ?_
  refine x_ni (y := nI (2 ^ t) ^^^ (-1)) rfl ?_
  refine lv_iand hx hb dX0_isWayBut_14 ?_
  refine x_ni (y := nI (sdf T (2 ^ t))) (nw_dif _ _) ?_
  refine lv_aload_n hx hb dX0_isWayBut_15 rfl (lv_at hl 1 rfl) ?_
  refine gc0_2 C hP q279 dX0_isWayBut_16 ?_
  refine lv_aload_n hx hb dX0_isWayBut_19 rfl (lv_at hl 1 rfl) ?_
  refine gc0_2 C hP q279 dX0_isWayBut_20 ?_
  refine gc15_7n C hP q253 dX0_isWayBut_23 ?_
  refine lv_iload_n hx hb dX0_isWayBut_26 rfl (lv_at hl 0 rfl) ?_
  refine x_goR (runV (As := [.int (nI h0.ha), .int (nI (sdf T (2 ^ t)) ^^^ (-1))]) (rest := [.int (nI (sdf T (2 ^ t)))]) C (ct_X15_reachBut l hP G h0.ha (sdf T (2 ^ t)) (nI (sdf T (2 ^ t)) ^^^ (-1)) gha (hKnot _)) kX15_reachBut q846 q769 q770 (va_recv hX.1 hP (ci := 1) (q0 := 15) rfl cw_at15) rfl ⟨Nat.le_of_ble_eq_true rfl, Nat.le_of_ble_eq_true rfl⟩ ⟨Nat.le_of_ble_eq_true rfl, Nat.le_of_ble_eq_true rfl⟩ hl.1 (Nat.le_of_ble_eq_true rfl) dX0_isWayBut_27 rfl) ?_
  refine lv_iconst (v := -1) hx hb dX0_isWayBut_30 (by decide) ?_
  refine lv_ixor hx hb dX0_isWayBut_31 ?_
  refine x_ni (y := nI (rch h0 (sdf T (2 ^ t)) (h0.ha &&& sdf T (2 ^ t))) ^^^ (-1)) rfl ?_
  refine lv_iand hx hb dX0_isWayBut_32 ?_
  refine x_ni (y := nI (sdf (sdf T (2 ^ t)) (rch h0 (sdf T (2 ^ t)) (h0.ha &&& sdf T (2 ^ t))))) (nw_dif _ _) ?_
  refine xz_ne (n := sdf (sdf T (2 ^ t)) (rch h0 (sdf T (2 ^ t)) (h0.ha &&& sdf T (2 ^ t)))) (tgt := 40) hx hb dX0_isWayBut_33 (by decide) (Nat.lt_of_le_of_lt (Nat.le_trans (sdf_le _ _) (sdf_le _ _)) (by omega)) (fun c_33 => ?_) (fun c_33 => ?_)
  · skip
    refine lv_iconst (v := nI 0) hx hb dX0_isWayBut_40 (by decide) ?_
    exact x_zret hx hb hr hlk (Or.inl rfl) (Nat.le_refl _) (Nat.le_refl _) (fun _ h => nomatch h) dX0_isWayBut_41 (⟨rtF (by rw [wayB]; simp [c_33]), rfl⟩)
  · skip
    refine lv_iconst (v := nI 1) hx hb dX0_isWayBut_36 (by decide) ?_
    refine lv_goto (tgt := 41) hx hb dX0_isWayBut_37 (by decide) ?_
    exact x_zret hx hb hr hlk (Or.inr rfl) (Nat.le_refl _) (Nat.le_refl _) (fun _ h => nomatch h) dX0_isWayBut_41 (⟨rtT (by rw [wayB]; simp [c_33]), rfl⟩)
theorem kX0_isWayBut : Cal yX0_isWayBut cX0_isWayBut 4 (some .boolean) 2 := ⟨q862, q81, by decide, by decide +kernel⟩
set_option maxHeartbeats 4000000 in
theorem ct_X0_mustFor (l : Launch) {g : GX} {ad : Nat → Nat} {h0 : HS} {h1 : HS} {h2 : HS} {hi : Bool} {ro : Nat → Int32} {rn : Nat} {lt : Nat → Int32} {ln : Nat} {rf : Nat → Int32} {fw : Nat → Int32} {mn : Nat → Int64} {wy : Nat → Int32} {tg : Nat → Int32} {od : Nat → Int32} {tk : Int32} {mt : Int32} {H : Heap} (hP : va_P g.1 cl (cw g ad h0 h1 h2 hi ro rn lt ln rf fw mn wy tg od tk mt) H) (G : Gh h0) (T : Nat) (hT : T < 1024) : CtR l g yX0_mustFor cX0_mustFor 5 (some .int) 6 138 [.ref (ad 0), .int (nI T)] H (some (.int (nI (mustN h0 T h0.th)))) := by
  refine CtR.of (by decide) (Nat.le_of_ble_eq_true rfl) ?_
  intro p e s m args below meth c C hH ls hl
  obtain ⟨hx, hb, hml, hown, hts, hX, hlk, hr, -⟩ := id C
  have hl : lv_has ls 5 [(0, .ref (ad 0)), (1, .int (nI T))] := hl
  have g10 := G.1
  have gp := G.p
  have gha := G.ha
  have gw := G.w
  have L : ∀ (n : Nat) (i : Nat) (ls : Array Slot), h0.th - i < n → (i ≤ h0.th) → lv_has ls 5 [(0, .ref (ad 0)), (1, .int (nI T)), (2, .int (nI (mustN h0 T i))), (3, .int (nI i))] → W p l e (rmR 6 138) s m args below meth c H [] 0 0 (MQ below (QV (fun v H1 => v = (some (.int (nI (mustN h0 T h0.th)))) ∧ H1 = H)) args s 0 0 (fun _ => False)) (F0 m 4 ls []) := by
    intro n
    induction n with
    | zero =>
      intro i ls hm
      exact absurd hm (Nat.not_lt_zero _)
    | succ n ih_L =>
      intro i ls hm_L hi hl
      refine lv_iload_n hx hb dX0_mustFor_4 rfl (lv_at hl 3 rfl) ?_
      refine lv_aload_n hx hb dX0_mustFor_5 rfl (lv_at hl 0 rfl) ?_
      refine gc0_2 C hP q279 dX0_mustFor_6 ?_
      refine gc15_0n C hP q226 dX0_mustFor_9 ?_
      refine xn_ge (a := i) (b := h0.th) (tgt := 62) hx hb dX0_mustFor_12 (by decide) (by omega) (by omega) (fun c_12 => ?_) (fun c_12 => ?_)
      · skip
        refine lv_iload_n hx hb dX0_mustFor_62 rfl (lv_at hl 2 rfl) ?_
        exact x_iret hx hb hr hlk (Nat.le_refl _) (Nat.le_refl _) (fun _ h => nomatch h) dX0_mustFor_63 (⟨rtI (by rw [show i = h0.th from by omega]), rfl⟩)
      · skip
        refine lv_iload_n hx hb dX0_mustFor_15 rfl (lv_at hl 1 rfl) ?_
        refine lv_aload_n hx hb dX0_mustFor_16 rfl (lv_at hl 0 rfl) ?_
        refine gc0_2 C hP q279 dX0_mustFor_17 ?_
        refine gc15_7n C hP q253 dX0_mustFor_20 ?_
        refine lv_iconst (v := -1) hx hb dX0_mustFor_23 (by decide) ?_
        refine lv_ixor hx hb dX0_mustFor_24 ?_
        refine x_ni (y := nI h0.ha ^^^ (-1)) rfl ?_
        refine lv_iand hx hb dX0_mustFor_25 ?_
        refine x_ni (y := nI (sdf T h0.ha)) (nw_dif _ _) ?_
        refine lv_iload_n hx hb dX0_mustFor_26 rfl (lv_at hl 3 rfl) ?_
        refine x_goR (runS (As := [.int (nI (sdf T h0.ha)), .int (nI i)]) (rest := []) C (ct_X0_has l (sdf T h0.ha) i (Nat.lt_of_le_of_lt (sdf_le _ _) (by omega)) (by omega)) kX0_has q813 q698 rfl ⟨Nat.le_of_ble_eq_true rfl, Nat.le_of_ble_eq_true rfl⟩ ⟨Nat.le_of_ble_eq_true rfl, Nat.le_of_ble_eq_true rfl⟩ hl.1 (Nat.le_of_ble_eq_true rfl) dX0_mustFor_27 rfl) ?_
        refine lv_istore (lv' := [(4, .int (b2 ((sdf T h0.ha).testBit i))), (0, .ref (ad 0)), (1, .int (nI T)), (2, .int (nI (mustN h0 T i))), (3, .int (nI i))]) hx hb dX0_mustFor_30 hl (by decide) rfl (fun ls hl => ?_)
        refine lv_iload_n hx hb dX0_mustFor_32 rfl (lv_at hl 3 rfl) ?_
        refine lv_iload hx hb dX0_mustFor_33 (lv_at hl 0 rfl) ?_
        refine xb_eq (b := (sdf T h0.ha).testBit i) (tgt := 53) hx hb dX0_mustFor_35 (by decide) (fun c_35 => ?_) (fun c_35 => ?_)
        · skip
          refine lv_iconst (v := nI 0) hx hb dX0_mustFor_53 (by decide) ?_
          refine lv_ior hx hb dX0_mustFor_54 ?_
          refine x_ni (y := nI (mustN h0 T (i + 1))) (by rw [nw_or]; simp [mustN, orUp, c_35]) ?_
          refine lv_istore_n (lv' := [(2, .int (nI (mustN h0 T (i + 1)))), (4, .int (b2 ((sdf T h0.ha).testBit i))), (0, .ref (ad 0)), (1, .int (nI T)), (3, .int (nI i))]) hx hb dX0_mustFor_55 rfl hl (by decide) rfl (fun ls hl => ?_)
          refine lv_iinc (v := nI (i + 1)) (lv' := [(3, .int (nI (i + 1))), (2, .int (nI (mustN h0 T (i + 1)))), (4, .int (b2 ((sdf T h0.ha).testBit i))), (0, .ref (ad 0)), (1, .int (nI T))]) hx hb dX0_mustFor_56 hl (k := 4) rfl (nI_add _ 1) (by decide) rfl (fun ls hl => ?_)
          refine lv_goto (tgt := 4) hx hb dX0_mustFor_59 (by decide) ?_
          exact ih_L (i + 1) _ (by first | omega | (simp only []; omega)) (by omega) (lv_sub hl [3, 4, 1, 0] rfl)
        · skip
          refine lv_aload_n hx hb dX0_mustFor_38 rfl (lv_at hl 1 rfl) ?_
          refine lv_iload_n hx hb dX0_mustFor_39 rfl (lv_at hl 2 rfl) ?_
          refine lv_iload_n hx hb dX0_mustFor_40 rfl (lv_at hl 4 rfl) ?_
          refine x_goR (runV (As := [.int (nI T), .int (nI i)]) (rest := [.int (nI (mustN h0 T i))]) C (ct_X0_isWayBut l hP G T i (by omega) (by omega)) kX0_isWayBut q859 q861 qs35 (va_recv hX.1 hP (ci := 0) (q0 := 0) rfl cw_at0) rfl ⟨Nat.le_of_ble_eq_true rfl, Nat.le_of_ble_eq_true rfl⟩ ⟨Nat.le_of_ble_eq_true rfl, Nat.le_of_ble_eq_true rfl⟩ hl.1 (Nat.le_of_ble_eq_true rfl) dX0_mustFor_41 rfl) ?_
          refine xb_ne (b := wayB h0 T i) (tgt := 53) hx hb dX0_mustFor_44 (by decide) (fun c_44 => ?_) (fun c_44 => ?_)
          · skip
            refine lv_iconst (v := nI 0) hx hb dX0_mustFor_53 (by decide) ?_
            refine lv_ior hx hb dX0_mustFor_54 ?_
            refine x_ni (y := nI (mustN h0 T (i + 1))) (by rw [nw_or]; simp [mustN, orUp, c_35, c_44]) ?_
            refine lv_istore_n (lv' := [(2, .int (nI (mustN h0 T (i + 1)))), (4, .int (b2 ((sdf T h0.ha).testBit i))), (0, .ref (ad 0)), (1, .int (nI T)), (3, .int (nI i))]) hx hb dX0_mustFor_55 rfl hl (by decide) rfl (fun ls hl => ?_)
            refine lv_iinc (v := nI (i + 1)) (lv' := [(3, .int (nI (i + 1))), (2, .int (nI (mustN h0 T (i + 1)))), (4, .int (b2 ((sdf T h0.ha).testBit i))), (0, .ref (ad 0)), (1, .int (nI T))]) hx hb dX0_mustFor_56 hl (k := 4) rfl (nI_add _ 1) (by decide) rfl (fun ls hl => ?_)
            refine lv_goto (tgt := 4) hx hb dX0_mustFor_59 (by decide) ?_
            exact ih_L (i + 1) _ (by first | omega | (simp only []; omega)) (by omega) (lv_sub hl [3, 4, 1, 0] rfl)
          · skip
            refine lv_iconst (v := nI 1) hx hb dX0_mustFor_47 (by decide) ?_
            refine lv_iload_n hx hb dX0_mustFor_48 rfl (lv_at hl 4 rfl) ?_
            refine lv_ishl hx hb dX0_mustFor_49 ?_
            refine x_ni (y := nI (2 ^ i)) (nw_shl1 (by omega)) ?_
            refine lv_goto (tgt := 54) hx hb dX0_mustFor_50 (by decide) ?_
            refine lv_ior hx hb dX0_mustFor_54 ?_
            refine x_ni (y := nI (mustN h0 T (i + 1))) (by rw [nw_or]; simp [mustN, orUp, c_35, c_44]) ?_
            refine lv_istore_n (lv' := [(2, .int (nI (mustN h0 T (i + 1)))), (4, .int (b2 ((sdf T h0.ha).testBit i))), (0, .ref (ad 0)), (1, .int (nI T)), (3, .int (nI i))]) hx hb dX0_mustFor_55 rfl hl (by decide) rfl (fun ls hl => ?_)
            refine lv_iinc (v := nI (i + 1)) (lv' := [(3, .int (nI (i + 1))), (2, .int (nI (mustN h0 T (i + 1)))), (4, .int (b2 ((sdf T h0.ha).testBit i))), (0, .ref (ad 0)), (1, .int (nI T))]) hx hb dX0_mustFor_56 hl (k := 4) rfl (nI_add _ 1) (by decide) rfl (fun ls hl => ?_)
            refine lv_goto (tgt := 4) hx hb dX0_mustFor_59 (by decide) ?_
            exact ih_L (i + 1) _ (by first | omega | (simp only []; omega)) (by omega) (lv_sub hl [3, 4, 1, 0] rfl)
  refine lv_iconst (v := nI 0) hx hb dX0_mustFor_0 (by decide) ?_
  refine lv_istore_n (lv' := [(2, .int (nI 0)), (0, .ref (ad 0)), (1, .int (nI T))]) hx hb dX0_mustFor_1 rfl hl (by decide) rfl (fun ls hl => ?_)
  refine lv_iconst (v := nI 0) hx hb dX0_mustFor_2 (by decide) ?_
  refine lv_istore_n (lv' := [(3, .int (nI 0)), (2, .int (nI 0)), (0, .ref (ad 0)), (1, .int (nI T))]) hx hb dX0_mustFor_3 rfl hl (by decide) rfl (fun ls hl => ?_)
  exact L _ 0 _ (Nat.lt_succ_self _) (Nat.zero_le _) (lv_sub hl [2, 3, 1, 0] rfl)
theorem kX0_mustFor : Cal yX0_mustFor cX0_mustFor 5 (some .int) 1 := ⟨q858, q81, by decide, by decide +kernel⟩
set_option maxHeartbeats 4000000 in
theorem ct_X0_surelyTold (l : Launch) {g : GX} {ad : Nat → Nat} {h0 : HS} {h1 : HS} {h2 : HS} {hi : Bool} {ro : Nat → Int32} {rn : Nat} {lt : Nat → Int32} {ln : Nat} {rf : Nat → Int32} {fw : Nat → Int32} {mn : Nat → Int64} {wy : Nat → Int32} {tg : Nat → Int32} {od : Nat → Int32} {tk : Int32} {mt : Int32} {H : Heap} (hP : va_P g.1 cl (cw g ad h0 h1 h2 hi ro rn lt ln rf fw mn wy tg od tk mt) H) (G : Gh h0) (q : Nat) (hq : q < 2) : CtR l g yX0_surelyTold cX0_surelyTold 8 (some .long) 6 136 [.ref (ad 0), .int (nI q)] H (some (.long (lN (partN (suP h0 h0.th) (teP h0 h0.th) q)))) := by
  refine CtR.of (by decide) (Nat.le_of_ble_eq_true rfl) ?_
  intro p e s m args below meth c C hH ls hl
  obtain ⟨hx, hb, hml, hown, hts, hX, hlk, hr, -⟩ := id C
  have hl : lv_has ls 8 [(0, .ref (ad 0)), (1, .int (nI q))] := hl
  have g10 := G.1
  have gp := G.p
  have gha := G.ha
  have gw := G.w
  have L : ∀ (n : Nat) (i : Nat) (ls : Array Slot), h0.th - i < n → (i ≤ h0.th) → lv_has ls 8 [(0, .ref (ad 0)), (1, .int (nI q)), (2, .int (nI (leftN h0))), (3, .long (lN (suP h0 i))), (5, .long (lN (teP h0 i))), (7, .int (nI i))] → W p l e (rmR 6 136) s m args below meth c H [] 0 0 (MQ below (QV (fun v H1 => v = (some (.long (lN (partN (suP h0 h0.th) (teP h0 h0.th) q)))) ∧ H1 = H)) args s 0 0 (fun _ => False)) (F0 m 33 ls []) := by
    intro n
    induction n with
    | zero =>
      intro i ls hm
      exact absurd hm (Nat.not_lt_zero _)
    | succ n ih_L =>
      intro i ls hm_L hi hl
      refine lv_iload hx hb dX0_surelyTold_33 (lv_at hl 5 rfl) ?_
      refine lv_aload_n hx hb dX0_surelyTold_35 rfl (lv_at hl 0 rfl) ?_
      refine gc0_2 C hP q279 dX0_surelyTold_36 ?_
      refine gc15_0n C hP q226 dX0_surelyTold_39 ?_
      refine xn_ge (a := i) (b := h0.th) (tgt := 99) hx hb dX0_surelyTold_42 (by decide) (by omega) (by omega) (fun c_42 => ?_) (fun c_42 => ?_)
      · skip
        have b1 := (suP_le G i hi).2
        have b2 := (teP_le h0 i).2
        have b3 := p10 (n := i) (by omega)
        refine lv_lload_n hx hb dX0_surelyTold_99 rfl (lv_at hl 3 rfl) ?_
        refine lv_lload hx hb dX0_surelyTold_100 (lv_at hl 4 rfl) ?_
        refine lv_iload_n hx hb dX0_surelyTold_102 rfl (lv_at hl 1 rfl) ?_
        refine x_goR (runS (As := [.long (lN (suP h0 i)), .long (lN (teP h0 i)), .int (nI q)]) (rest := []) C (ct_X0_partOf l (suP h0 i) (teP h0 i) q (by omega) (by omega) (by omega)) kX0_partOf q994 q995 rfl ⟨Nat.le_of_ble_eq_true rfl, Nat.le_of_ble_eq_true rfl⟩ ⟨Nat.le_of_ble_eq_true rfl, Nat.le_of_ble_eq_true rfl⟩ hl.1 (Nat.le_of_ble_eq_true rfl) dX0_surelyTold_103 rfl) ?_
        exact x_lret hx hb hr hlk (Nat.le_refl _) (Nat.le_refl _) (fun _ h => nomatch h) dX0_surelyTold_106 (⟨rtL (by rw [show i = h0.th from by omega]), rfl⟩)
      · skip
        refine lv_lload_n hx hb dX0_surelyTold_45 rfl (lv_at hl 3 rfl) ?_
        refine lv_iload_n hx hb dX0_surelyTold_46 rfl (lv_at hl 2 rfl) ?_
        refine lv_iload hx hb dX0_surelyTold_47 (lv_at hl 5 rfl) ?_
        refine x_goR (runS (As := [.int (nI (leftN h0)), .int (nI i)]) (rest := [.long (lN (suP h0 i))]) C (ct_X0_has l (leftN h0) i (Nat.lt_trans (Nat.lt_of_le_of_lt (sdf_le _ _) (hReach_lt G gha)) (by decide)) (by omega)) kX0_has q813 q698 rfl ⟨Nat.le_of_ble_eq_true rfl, Nat.le_of_ble_eq_true rfl⟩ ⟨Nat.le_of_ble_eq_true rfl, Nat.le_of_ble_eq_true rfl⟩ hl.1 (Nat.le_of_ble_eq_true rfl) dX0_surelyTold_49 rfl) ?_
        refine xb_eq (b := (leftN h0).testBit i) (tgt := 69) hx hb dX0_surelyTold_52 (by decide) (fun c_52 => ?_) (fun c_52 => ?_)
        · skip
          refine lv_lconst (v := lN 1) hx hb dX0_surelyTold_69 (by decide) ?_
          refine lv_lmul hx hb dX0_surelyTold_70 ?_
          refine x_nl (y := lN (suP h0 (i + 1))) (by rw [lN_mul]; simp [suP, prUp, c_52]) ?_
          refine lv_lstore_n (lv' := [(3, .long (lN (suP h0 (i + 1)))), (0, .ref (ad 0)), (1, .int (nI q)), (2, .int (nI (leftN h0))), (5, .long (lN (teP h0 i))), (7, .int (nI i))]) hx hb dX0_surelyTold_71 rfl hl (by decide) rfl (fun ls hl => ?_)
          refine lv_lload hx hb dX0_surelyTold_72 (lv_at hl 4 rfl) ?_
          refine lv_iload_n hx hb dX0_surelyTold_74 rfl (lv_at hl 3 rfl) ?_
          refine lv_iload hx hb dX0_surelyTold_75 (lv_at hl 5 rfl) ?_
          refine x_goR (runS (As := [.int (nI (leftN h0)), .int (nI i)]) (rest := [.long (lN (teP h0 i))]) C (ct_X0_has l (leftN h0) i (Nat.lt_trans (Nat.lt_of_le_of_lt (sdf_le _ _) (hReach_lt G gha)) (by decide)) (by omega)) kX0_has q813 q698 rfl ⟨Nat.le_of_ble_eq_true rfl, Nat.le_of_ble_eq_true rfl⟩ ⟨Nat.le_of_ble_eq_true rfl, Nat.le_of_ble_eq_true rfl⟩ hl.1 (Nat.le_of_ble_eq_true rfl) dX0_surelyTold_77 rfl) ?_
          refine xb_eq (b := (leftN h0).testBit i) (tgt := 89) hx hb dX0_surelyTold_80 (by decide) (fun c_80 => ?_) (fun c_80 => ?_)
          · skip
            refine lv_lconst (v := lN 1) hx hb dX0_surelyTold_89 (by decide) ?_
            refine lv_lmul hx hb dX0_surelyTold_90 ?_
            refine x_nl (y := lN (teP h0 (i + 1))) (by rw [lN_mul]; simp [teP, prUp, c_80]) ?_
            refine lv_lstore (lv' := [(5, .long (lN (teP h0 (i + 1)))), (3, .long (lN (suP h0 (i + 1)))), (0, .ref (ad 0)), (1, .int (nI q)), (2, .int (nI (leftN h0))), (7, .int (nI i))]) hx hb dX0_surelyTold_91 hl (by decide) rfl (fun ls hl => ?_)
            refine lv_iinc (v := nI (i + 1)) (lv' := [(7, .int (nI (i + 1))), (5, .long (lN (teP h0 (i + 1)))), (3, .long (lN (suP h0 (i + 1)))), (0, .ref (ad 0)), (1, .int (nI q)), (2, .int (nI (leftN h0)))]) hx hb dX0_surelyTold_93 hl (k := 5) rfl (nI_add _ 1) (by decide) rfl (fun ls hl => ?_)
            refine lv_goto (tgt := 33) hx hb dX0_surelyTold_96 (by decide) ?_
            exact ih_L (i + 1) _ (by first | omega | (simp only []; omega)) (by omega) (lv_sub hl [3, 4, 5, 2, 1, 0] rfl)
          · skip
            refine lv_ldc2 (v := lN 10) hx hb hown (hts _ q1017) dX0_surelyTold_83 ?_
            refine lv_goto (tgt := 90) hx hb dX0_surelyTold_86 (by decide) ?_
            refine lv_lmul hx hb dX0_surelyTold_90 ?_
            refine x_nl (y := lN (teP h0 (i + 1))) (by rw [lN_mul]; simp [teP, prUp, c_80]) ?_
            refine lv_lstore (lv' := [(5, .long (lN (teP h0 (i + 1)))), (3, .long (lN (suP h0 (i + 1)))), (0, .ref (ad 0)), (1, .int (nI q)), (2, .int (nI (leftN h0))), (7, .int (nI i))]) hx hb dX0_surelyTold_91 hl (by decide) rfl (fun ls hl => ?_)
            refine lv_iinc (v := nI (i + 1)) (lv' := [(7, .int (nI (i + 1))), (5, .long (lN (teP h0 (i + 1)))), (3, .long (lN (suP h0 (i + 1)))), (0, .ref (ad 0)), (1, .int (nI q)), (2, .int (nI (leftN h0)))]) hx hb dX0_surelyTold_93 hl (k := 5) rfl (nI_add _ 1) (by decide) rfl (fun ls hl => ?_)
            refine lv_goto (tgt := 33) hx hb dX0_surelyTold_96 (by decide) ?_
            exact ih_L (i + 1) _ (by first | omega | (simp only []; omega)) (by omega) (lv_sub hl [3, 4, 5, 2, 1, 0] rfl)
        · skip
          refine lv_aload_n hx hb dX0_surelyTold_55 rfl (lv_at hl 0 rfl) ?_
          refine gc0_2 C hP q279 dX0_surelyTold_56 ?_
          refine gc15_3n C hP q236 dX0_surelyTold_59 ?_
          refine lv_iload hx hb dX0_surelyTold_62 (lv_at hl 5 rfl) ?_
          refine lc18 C hP (j := i) (by omega) dX0_surelyTold_64 ?_
          refine lv_i2l (v := lN (h0.su i)) hx hb dX0_surelyTold_65 (nI_l (by have := (G.2.2.2 i (by omega)).2.2.1; omega)) ?_
          refine lv_goto (tgt := 70) hx hb dX0_surelyTold_66 (by decide) ?_
          refine lv_lmul hx hb dX0_surelyTold_70 ?_
          refine x_nl (y := lN (suP h0 (i + 1))) (by rw [lN_mul]; simp [suP, prUp, c_52]) ?_
          refine lv_lstore_n (lv' := [(3, .long (lN (suP h0 (i + 1)))), (0, .ref (ad 0)), (1, .int (nI q)), (2, .int (nI (leftN h0))), (5, .long (lN (teP h0 i))), (7, .int (nI i))]) hx hb dX0_surelyTold_71 rfl hl (by decide) rfl (fun ls hl => ?_)
          refine lv_lload hx hb dX0_surelyTold_72 (lv_at hl 4 rfl) ?_
          refine lv_iload_n hx hb dX0_surelyTold_74 rfl (lv_at hl 3 rfl) ?_
          refine lv_iload hx hb dX0_surelyTold_75 (lv_at hl 5 rfl) ?_
          refine x_goR (runS (As := [.int (nI (leftN h0)), .int (nI i)]) (rest := [.long (lN (teP h0 i))]) C (ct_X0_has l (leftN h0) i (Nat.lt_trans (Nat.lt_of_le_of_lt (sdf_le _ _) (hReach_lt G gha)) (by decide)) (by omega)) kX0_has q813 q698 rfl ⟨Nat.le_of_ble_eq_true rfl, Nat.le_of_ble_eq_true rfl⟩ ⟨Nat.le_of_ble_eq_true rfl, Nat.le_of_ble_eq_true rfl⟩ hl.1 (Nat.le_of_ble_eq_true rfl) dX0_surelyTold_77 rfl) ?_
          refine xb_eq (b := (leftN h0).testBit i) (tgt := 89) hx hb dX0_surelyTold_80 (by decide) (fun c_80 => ?_) (fun c_80 => ?_)
          · skip
            refine lv_lconst (v := lN 1) hx hb dX0_surelyTold_89 (by decide) ?_
            refine lv_lmul hx hb dX0_surelyTold_90 ?_
            refine x_nl (y := lN (teP h0 (i + 1))) (by rw [lN_mul]; simp [teP, prUp, c_80]) ?_
            refine lv_lstore (lv' := [(5, .long (lN (teP h0 (i + 1)))), (3, .long (lN (suP h0 (i + 1)))), (0, .ref (ad 0)), (1, .int (nI q)), (2, .int (nI (leftN h0))), (7, .int (nI i))]) hx hb dX0_surelyTold_91 hl (by decide) rfl (fun ls hl => ?_)
            refine lv_iinc (v := nI (i + 1)) (lv' := [(7, .int (nI (i + 1))), (5, .long (lN (teP h0 (i + 1)))), (3, .long (lN (suP h0 (i + 1)))), (0, .ref (ad 0)), (1, .int (nI q)), (2, .int (nI (leftN h0)))]) hx hb dX0_surelyTold_93 hl (k := 5) rfl (nI_add _ 1) (by decide) rfl (fun ls hl => ?_)
            refine lv_goto (tgt := 33) hx hb dX0_surelyTold_96 (by decide) ?_
            exact ih_L (i + 1) _ (by first | omega | (simp only []; omega)) (by omega) (lv_sub hl [3, 4, 5, 2, 1, 0] rfl)
          · skip
            refine lv_ldc2 (v := lN 10) hx hb hown (hts _ q1017) dX0_surelyTold_83 ?_
            refine lv_goto (tgt := 90) hx hb dX0_surelyTold_86 (by decide) ?_
            refine lv_lmul hx hb dX0_surelyTold_90 ?_
            refine x_nl (y := lN (teP h0 (i + 1))) (by rw [lN_mul]; simp [teP, prUp, c_80]) ?_
            refine lv_lstore (lv' := [(5, .long (lN (teP h0 (i + 1)))), (3, .long (lN (suP h0 (i + 1)))), (0, .ref (ad 0)), (1, .int (nI q)), (2, .int (nI (leftN h0))), (7, .int (nI i))]) hx hb dX0_surelyTold_91 hl (by decide) rfl (fun ls hl => ?_)
            refine lv_iinc (v := nI (i + 1)) (lv' := [(7, .int (nI (i + 1))), (5, .long (lN (teP h0 (i + 1)))), (3, .long (lN (suP h0 (i + 1)))), (0, .ref (ad 0)), (1, .int (nI q)), (2, .int (nI (leftN h0)))]) hx hb dX0_surelyTold_93 hl (k := 5) rfl (nI_add _ 1) (by decide) rfl (fun ls hl => ?_)
            refine lv_goto (tgt := 33) hx hb dX0_surelyTold_96 (by decide) ?_
            exact ih_L (i + 1) _ (by first | omega | (simp only []; omega)) (by omega) (lv_sub hl [3, 4, 5, 2, 1, 0] rfl)
  refine lv_aload_n hx hb dX0_surelyTold_0 rfl (lv_at hl 0 rfl) ?_
  refine gc0_2 C hP q279 dX0_surelyTold_1 ?_
  refine lv_aload_n hx hb dX0_surelyTold_4 rfl (lv_at hl 0 rfl) ?_
  refine gc0_2 C hP q279 dX0_surelyTold_5 ?_
  refine gc15_7n C hP q253 dX0_surelyTold_8 ?_
  refine x_goR (runV (As := [.int (nI h0.ha)]) (rest := []) C (ct_X15_reach l hP G h0.ha (by omega)) kX15_reach q764 q765 q766 (va_recv hX.1 hP (ci := 1) (q0 := 15) rfl cw_at15) rfl ⟨Nat.le_of_ble_eq_true rfl, Nat.le_of_ble_eq_true rfl⟩ ⟨Nat.le_of_ble_eq_true rfl, Nat.le_of_ble_eq_true rfl⟩ hl.1 (Nat.le_of_ble_eq_true rfl) dX0_surelyTold_11 rfl) ?_
  refine lv_aload_n hx hb dX0_surelyTold_14 rfl (lv_at hl 0 rfl) ?_
  refine gc0_2 C hP q279 dX0_surelyTold_15 ?_
  refine gc15_7n C hP q253 dX0_surelyTold_18 ?_
  refine lv_iconst (v := -1) hx hb dX0_surelyTold_21 (by decide) ?_
  refine lv_ixor hx hb dX0_surelyTold_22 ?_
  refine x_ni (y := nI h0.ha ^^^ (-1)) rfl ?_
  refine lv_iand hx hb dX0_surelyTold_23 ?_
  refine x_ni (y := nI (leftN h0)) (nw_dif _ _) ?_
  refine lv_istore_n (lv' := [(2, .int (nI (leftN h0))), (0, .ref (ad 0)), (1, .int (nI q))]) hx hb dX0_surelyTold_24 rfl hl (by decide) rfl (fun ls hl => ?_)
  refine lv_lconst (v := lN 1) hx hb dX0_surelyTold_25 (by decide) ?_
  refine lv_lstore_n (lv' := [(3, .long (lN 1)), (2, .int (nI (leftN h0))), (0, .ref (ad 0)), (1, .int (nI q))]) hx hb dX0_surelyTold_26 rfl hl (by decide) rfl (fun ls hl => ?_)
  refine lv_lconst (v := lN 1) hx hb dX0_surelyTold_27 (by decide) ?_
  refine lv_lstore (lv' := [(5, .long (lN 1)), (3, .long (lN 1)), (2, .int (nI (leftN h0))), (0, .ref (ad 0)), (1, .int (nI q))]) hx hb dX0_surelyTold_28 hl (by decide) rfl (fun ls hl => ?_)
  refine lv_iconst (v := nI 0) hx hb dX0_surelyTold_30 (by decide) ?_
  refine lv_istore (lv' := [(7, .int (nI 0)), (5, .long (lN 1)), (3, .long (lN 1)), (2, .int (nI (leftN h0))), (0, .ref (ad 0)), (1, .int (nI q))]) hx hb dX0_surelyTold_31 hl (by decide) rfl (fun ls hl => ?_)
  exact L _ 0 _ (Nat.lt_succ_self _) (Nat.zero_le _) (lv_sub hl [4, 5, 3, 2, 1, 0] rfl)
theorem kX0_surelyTold : Cal yX0_surelyTold cX0_surelyTold 8 (some .long) 1 := ⟨q1016, q81, by decide, by decide +kernel⟩
set_option maxHeartbeats 4000000 in
theorem ct_X9_against (l : Launch) {g : GX} {H : Heap} (b a t S : Nat) : CtR l g yX9_against cX9_against 4 (some .int) 0 0 [.ref b, .ref a, .int (nI t), .int (nI S)] H (some (.int (nI 0))) := by
  refine CtR.of (by decide) (Nat.le_of_ble_eq_true rfl) ?_
  intro p e s m args below meth c C hH ls hl
  obtain ⟨hx, hb, hml, hown, hts, hX, hlk, hr, -⟩ := id C
  have hl : lv_has ls 4 [(0, .ref b), (1, .ref a), (2, .int (nI t)), (3, .int (nI S))] := hl
  refine lv_iconst (v := nI 0) hx hb dX9_against_0 (by decide) ?_
  exact x_iret hx hb hr hlk (Nat.le_refl _) (Nat.le_refl _) (fun _ h => nomatch h) dX9_against_1 (⟨rfl, rfl⟩)
theorem kX9_against : Cal yX9_against cX9_against 4 (some .int) 3 := ⟨q905, q90, by decide, by decide +kernel⟩
set_option maxHeartbeats 4000000 in
theorem ct_X10_against (l : Launch) {g : GX} {ad : Nat → Nat} {h0 : HS} {h1 : HS} {h2 : HS} {hi : Bool} {ro : Nat → Int32} {rn : Nat} {lt : Nat → Int32} {ln : Nat} {rf : Nat → Int32} {fw : Nat → Int32} {mn : Nat → Int64} {wy : Nat → Int32} {tg : Nat → Int32} {od : Nat → Int32} {tk : Int32} {mt : Int32} {H : Heap} (hP : va_P g.1 cl (cw g ad h0 h1 h2 hi ro rn lt ln rf fw mn wy tg od tk mt) H) (G : Gh h0) (b t S : Nat) (ht : t < h0.th) (hS : S < 1024) : CtR l g yX10_against cX10_against 4 (some .int) 4 89 [.ref b, .ref (ad 15), .int (nI t), .int (nI S)] H (some (.int (nI (hGo h0 t S)))) := by
  refine CtR.of (by decide) (Nat.le_of_ble_eq_true rfl) ?_
  intro p e s m args below meth c C hH ls hl
  obtain ⟨hx, hb, hml, hown, hts, hX, hlk, hr, -⟩ := id C
  have hl : lv_has ls 4 [(0, .ref b), (1, .ref (ad 15)), (2, .int (nI t)), (3, .int (nI S))] := hl
  have g10 := G.1
  have gp := G.p
  have gha := G.ha
  have gw := G.w
  refine lv_aload_n hx hb dX10_against_0 rfl (lv_at hl 1 rfl) ?_
  refine lv_iload_n hx hb dX10_against_1 rfl (lv_at hl 2 rfl) ?_
  refine lv_iload_n hx hb dX10_against_2 rfl (lv_at hl 3 rfl) ?_
  refine x_goR (runV (As := [.int (nI t), .int (nI S)]) (rest := []) C (ct_X15_go l hP G t S (by omega) (by omega)) kX15_go q909 q682 q683 (va_recv hX.1 hP (ci := 1) (q0 := 15) rfl cw_at15) rfl ⟨Nat.le_of_ble_eq_true rfl, Nat.le_of_ble_eq_true rfl⟩ ⟨Nat.le_of_ble_eq_true rfl, Nat.le_of_ble_eq_true rfl⟩ hl.1 (Nat.le_of_ble_eq_true rfl) dX10_against_3 rfl) ?_
  exact x_iret hx hb hr hlk (Nat.le_refl _) (Nat.le_refl _) (fun _ h => nomatch h) dX10_against_6 (⟨rfl, rfl⟩)
theorem kX10_against : Cal yX10_against cX10_against 4 (some .int) 3 := ⟨q908, q91, by decide, by decide +kernel⟩
set_option maxHeartbeats 4000000 in
theorem ct_X11_against (l : Launch) {g : GX} {ad : Nat → Nat} {h0 : HS} {h1 : HS} {h2 : HS} {hi : Bool} {ro : Nat → Int32} {rn : Nat} {lt : Nat → Int32} {ln : Nat} {rf : Nat → Int32} {fw : Nat → Int32} {mn : Nat → Int64} {wy : Nat → Int32} {tg : Nat → Int32} {od : Nat → Int32} {tk : Int32} {mt : Int32} {H : Heap} (hP : va_P g.1 cl (cw g ad h0 h1 h2 hi ro rn lt ln rf fw mn wy tg od tk mt) H) (G : Gh h0) (b t S : Nat) (ht : t < h0.th) (hS : S < 1024) : CtR l g yX11_against cX11_against 4 (some .int) 0 0 [.ref b, .ref (ad 15), .int (nI t), .int (nI S)] H (some (.int (nI (10 - h0.su t)))) := by
  refine CtR.of (by decide) (Nat.le_of_ble_eq_true rfl) ?_
  intro p e s m args below meth c C hH ls hl
  obtain ⟨hx, hb, hml, hown, hts, hX, hlk, hr, -⟩ := id C
  have hl : lv_has ls 4 [(0, .ref b), (1, .ref (ad 15)), (2, .int (nI t)), (3, .int (nI S))] := hl
  have g10 := G.1
  have gp := G.p
  have gha := G.ha
  have gw := G.w
  have gt := (G.2.2.2 t ht).2.2.1
  refine lv_bipush (v := nI 10) hx hb dX11_against_0 (by decide) ?_
  refine lv_aload_n hx hb dX11_against_2 rfl (lv_at hl 1 rfl) ?_
  refine gc15_3n C hP q234 dX11_against_3 ?_
  refine lv_iload_n hx hb dX11_against_6 rfl (lv_at hl 2 rfl) ?_
  refine lc18 C hP (j := t) (by omega) dX11_against_7 ?_
  refine lv_isub hx hb dX11_against_8 ?_
  refine x_ni (y := nI (10 - (h0.su t))) (pk_sub (by omega)) ?_
  exact x_iret hx hb hr hlk (Nat.le_refl _) (Nat.le_refl _) (fun _ h => nomatch h) dX11_against_9 (⟨rfl, rfl⟩)
theorem kX11_against : Cal yX11_against cX11_against 4 (some .int) 3 := ⟨q902, q92, by decide, by decide +kernel⟩
set_option maxHeartbeats 4000000 in
theorem ct_X12_against (l : Launch) {g : GX} {ad : Nat → Nat} {h0 : HS} {h1 : HS} {h2 : HS} {hi : Bool} {ro : Nat → Int32} {rn : Nat} {lt : Nat → Int32} {ln : Nat} {rf : Nat → Int32} {fw : Nat → Int32} {mn : Nat → Int64} {wy : Nat → Int32} {tg : Nat → Int32} {od : Nat → Int32} {tk : Int32} {mt : Int32} {H : Heap} (hP : va_P g.1 cl (cw g ad h0 h1 h2 hi ro rn lt ln rf fw mn wy tg od tk mt) H) (G : Gh h0) (b t S : Nat) (ht : t < h0.th) (hS : S < 1024) : CtR l g yX12_against cX12_against 4 (some .int) 4 91 [.ref b, .ref (ad 15), .int (nI t), .int (nI S)] H (some (.int (nI (10 - pop (mayN h0 (S ||| 2 ^ t)))))) := by
  refine CtR.of (by decide) (Nat.le_of_ble_eq_true rfl) ?_
  intro p e s m args below meth c C hH ls hl
  obtain ⟨hx, hb, hml, hown, hts, hX, hlk, hr, -⟩ := id C
  have hl : lv_has ls 4 [(0, .ref b), (1, .ref (ad 15)), (2, .int (nI t)), (3, .int (nI S))] := hl
  have g10 := G.1
  have gp := G.p
  have gha := G.ha
  have gw := G.w
  refine lv_bipush (v := nI 10) hx hb dX12_against_0 (by decide) ?_
  refine lv_aload_n hx hb dX12_against_2 rfl (lv_at hl 1 rfl) ?_
  refine lv_iload_n hx hb dX12_against_3 rfl (lv_at hl 3 rfl) ?_
  refine lv_iconst (v := nI 1) hx hb dX12_against_4 (by decide) ?_
  refine lv_iload_n hx hb dX12_against_5 rfl (lv_at hl 2 rfl) ?_
  refine lv_ishl hx hb dX12_against_6 ?_
  refine x_ni (y := nI (2 ^ t)) (nw_shl1 (by omega)) ?_
  refine lv_ior hx hb dX12_against_7 ?_
  refine x_ni (y := nI (S ||| (2 ^ t))) (nw_or _ _) ?_
  refine x_goR (runV (As := [.int (nI (S ||| (2 ^ t)))]) (rest := [.int (nI 10)]) C (ct_X15_mayBits l hP G (S ||| (2 ^ t)) (or2 hS (by omega))) kX15_mayBits q914 q752 q753 (va_recv hX.1 hP (ci := 1) (q0 := 15) rfl cw_at15) rfl ⟨Nat.le_of_ble_eq_true rfl, Nat.le_of_ble_eq_true rfl⟩ ⟨Nat.le_of_ble_eq_true rfl, Nat.le_of_ble_eq_true rfl⟩ hl.1 (Nat.le_of_ble_eq_true rfl) dX12_against_8 rfl) ?_
  refine x_goR (runSN (As := [.int (nI (mayN h0 (S ||| (2 ^ t))))]) (rest := [.int (nI 10)]) C (ct_X0_ones l (mayN h0 (S ||| (2 ^ t))) (mayN_lt G _)) kX0_ones q915 q712 rfl ⟨Nat.le_of_ble_eq_true rfl, Nat.le_of_ble_eq_true rfl⟩ ⟨Nat.le_of_ble_eq_true rfl, Nat.le_of_ble_eq_true rfl⟩ hl.1 (Nat.le_of_ble_eq_true rfl) dX12_against_11 rfl) ?_
  refine lv_isub hx hb dX12_against_14 ?_
  refine x_ni (y := nI (10 - (pop (mayN h0 (S ||| (2 ^ t)))))) (pk_sub (pop_le _ (mayN_lt G _))) ?_
  exact x_iret hx hb hr hlk (Nat.le_refl _) (Nat.le_refl _) (fun _ h => nomatch h) dX12_against_15 (⟨rfl, rfl⟩)
theorem kX12_against : Cal yX12_against cX12_against 4 (some .int) 3 := ⟨q913, q93, by decide, by decide +kernel⟩
set_option maxHeartbeats 4000000 in
theorem ct_X13_against (l : Launch) {g : GX} {ad : Nat → Nat} {h0 : HS} {h1 : HS} {h2 : HS} {hi : Bool} {ro : Nat → Int32} {rn : Nat} {lt : Nat → Int32} {ln : Nat} {rf : Nat → Int32} {fw : Nat → Int32} {mn : Nat → Int64} {wy : Nat → Int32} {tg : Nat → Int32} {od : Nat → Int32} {tk : Int32} {mt : Int32} {H : Heap} (hP : va_P g.1 cl (cw g ad h0 h1 h2 hi ro rn lt ln rf fw mn wy tg od tk mt) H) (G : Gh h0) (t S : Nat) (ht : t < h0.th) (hS : S < 1024) : CtR l g yX13_against cX13_against 4 (some .int) 1 23 [.ref (ad 13), .ref (ad 15), .int (nI t), .int (nI S)] H (some (.int (nI (h0.su t)))) := by
  refine CtR.of (by decide) (Nat.le_of_ble_eq_true rfl) ?_
  intro p e s m args below meth c C hH ls hl
  obtain ⟨hx, hb, hml, hown, hts, hX, hlk, hr, -⟩ := id C
  have hl : lv_has ls 4 [(0, .ref (ad 13)), (1, .ref (ad 15)), (2, .int (nI t)), (3, .int (nI S))] := hl
  have g10 := G.1
  have gp := G.p
  have gha := G.ha
  have gw := G.w
  have gt := (G.2.2.2 t ht).2.2.1
  have hat := (hX.1.1 12 _ rfl).2
  have hrv := va_recv hX.1 hP (ci := 12) (q0 := 13) rfl cw_at13
  refine lv_bipush (v := nI 10) hx hb dX13_against_0 (by decide) ?_
  refine lv_aload_n hx hb dX13_against_2 rfl (lv_at hl 0 rfl) ?_
  refine lv_aload_n hx hb dX13_against_3 rfl (lv_at hl 1 rfl) ?_
  refine lv_iload_n hx hb dX13_against_4 rfl (lv_at hl 2 rfl) ?_
  refine lv_iload_n hx hb dX13_against_5 rfl (lv_at hl 3 rfl) ?_
  refine x_goR (runSU (As := [.ref (ad 15), .int (nI t), .int (nI S)]) (rest := [.int (nI 10)]) C hat (ct_X11_against l hP G (ad 13) t S ht hS) kX11_against q900 q1438 q207 q901 (by decide) hrv rfl ⟨Nat.le_of_ble_eq_true rfl, Nat.le_of_ble_eq_true rfl⟩ ⟨Nat.le_of_ble_eq_true rfl, Nat.le_of_ble_eq_true rfl⟩ hl.1 (Nat.le_of_ble_eq_true rfl) dX13_against_6 rfl) ?_
  refine lv_isub hx hb dX13_against_9 ?_
  refine x_ni (y := nI (10 - (10 - h0.su t))) (pk_sub (by omega)) ?_
  exact x_iret hx hb hr hlk (Nat.le_refl _) (Nat.le_refl _) (fun _ h => nomatch h) dX13_against_10 (⟨rtI (by omega), rfl⟩)
theorem kX13_against : Cal yX13_against cX13_against 4 (some .int) 3 := ⟨q899, q94, by decide, by decide +kernel⟩
set_option maxHeartbeats 4000000 in
theorem ct_X14_against (l : Launch) {g : GX} {ad : Nat → Nat} {h0 : HS} {h1 : HS} {h2 : HS} {hi : Bool} {ro : Nat → Int32} {rn : Nat} {lt : Nat → Int32} {ln : Nat} {rf : Nat → Int32} {fw : Nat → Int32} {mn : Nat → Int64} {wy : Nat → Int32} {tg : Nat → Int32} {od : Nat → Int32} {tk : Int32} {mt : Int32} {H : Heap} (hP : va_P g.1 cl (cw g ad h0 h1 h2 hi ro rn lt ln rf fw mn wy tg od tk mt) H) (G : Gh h0) (b t S : Nat) (ht : t < h0.th) (hS : S < 1024) : CtR l g yX14_against cX14_against 4 (some .int) 0 0 [.ref b, .ref (ad 15), .int (nI t), .int (nI S)] H (some (.int (nI (h0.co t)))) := by
  refine CtR.of (by decide) (Nat.le_of_ble_eq_true rfl) ?_
  intro p e s m args below meth c C hH ls hl
  obtain ⟨hx, hb, hml, hown, hts, hX, hlk, hr, -⟩ := id C
  have hl : lv_has ls 4 [(0, .ref b), (1, .ref (ad 15)), (2, .int (nI t)), (3, .int (nI S))] := hl
  have g10 := G.1
  have gp := G.p
  have gha := G.ha
  have gw := G.w
  refine lv_aload_n hx hb dX14_against_0 rfl (lv_at hl 1 rfl) ?_
  refine gc15_4n C hP q239 dX14_against_1 ?_
  refine lv_iload_n hx hb dX14_against_4 rfl (lv_at hl 2 rfl) ?_
  refine lc19 C hP (j := t) (by omega) dX14_against_5 ?_
  exact x_iret hx hb hr hlk (Nat.le_refl _) (Nat.le_refl _) (fun _ h => nomatch h) dX14_against_6 (⟨rfl, rfl⟩)
theorem kX14_against : Cal yX14_against cX14_against 4 (some .int) 3 := ⟨q896, q95, by decide, by decide +kernel⟩
theorem ks_against {p : Program} {l : Launch} {e : Env} {R : Room} {s : State} {m : MethodId} {args : Array Value} {below : List Frame} {meth : Method} {c : Code} {H : Heap} {locs : List Loc} {cells slots : Nat} {Q : State → Prop} {pc : Nat} {ls : Array Slot} {rest : List Value} {cc : ByteArray} {nL : Nat} {y0 : MethodName} {ret0 : Option FieldType} {g : GX} {ad : Nat → Nat} {h0 : HS} {h1 : HS} {h2 : HS} {hi : Bool} {ro : Nat → Int32} {rn : Nat} {lt : Nat → Int32} {ln : Nat} {rf : Nat → Int32} {fw : Nat → Int32} {mn : Nat → Int64} {wy : Nat → Int32} {tg : Nat → Int32} {od : Nat → Int32} {tk : Int32} {mt : Int32} (C : CX g p s m args meth c cc nL y0 ret0) (hP : va_P g.1 cl (cw g ad h0 h1 h2 hi ro rn lt ln rf fw mn wy tg od tk mt) H) (G : Gh h0) {k idx t S : Nat} (hk : k < 6) (ht : t < h0.th) (hS : S < 1024) (h1 : Cond.methodLink y0.cls idx ⟨"WithoutThem$Seeker", "against", "(LWithoutThem$House;II)I"⟩ ∈ lw_all) (hR : 5 ≤ R.frames ∧ 114 ≤ R.locals) (hf : cells ≤ R.cells ∧ slots ≤ R.slots) (hsz : ls.size = nL) (hst : (rest.map fun v => v.category).sum ≤ 8) (d : decode cc pc = .ok (.invokevirtual idx, 3))
    (kk : W p l e R s m args below meth c H locs cells slots Q (F0 m (pc + 3) ls (.int (nI (agn h0 k t S)) :: rest))) : W p l e R s m args below meth c H locs cells slots Q (F0 m pc ls (.int (nI S) :: .int (nI t) :: .ref (ad 15) :: .ref (ad (9 + k)) :: rest)) := by
  have hX := C.2.2.2.2.2.1
  match k, hk with
  | 0, hk => exact x_goR (runU (x := ⟨"WithoutThem$Seeker", "against", "(LWithoutThem$House;II)I"⟩) (Cn := "WithoutThem$PlainSeeker") (As := [.ref (ad 15), .int (nI t), .int (nI S)]) (rest := rest) C (ct_X9_against l (ad 9) (ad 15) t S) kX9_against h1 q893 q903 q904 q892 ⟨by decide, by decide, by decide +kernel⟩ (va_recv hX.1 hP (ci := 8) (q0 := 9) rfl cw_at9) rfl ⟨Nat.le_trans (Nat.le_of_ble_eq_true rfl) hR.1, Nat.le_trans (Nat.le_of_ble_eq_true rfl) hR.2⟩ hf hsz hst d rfl) kk
  | 1, hk => exact x_goR (runU (x := ⟨"WithoutThem$Seeker", "against", "(LWithoutThem$House;II)I"⟩) (Cn := "WithoutThem$QuickSeeker") (As := [.ref (ad 15), .int (nI t), .int (nI S)]) (rest := rest) C (ct_X10_against l hP G (ad 10) t S ht hS) kX10_against h1 q893 q906 q907 q892 ⟨by decide, by decide, by decide +kernel⟩ (va_recv hX.1 hP (ci := 9) (q0 := 10) rfl cw_at10) rfl ⟨Nat.le_trans (Nat.le_of_ble_eq_true rfl) hR.1, Nat.le_trans (Nat.le_of_ble_eq_true rfl) hR.2⟩ hf hsz hst d rfl) kk
  | 2, hk => exact x_goR (runU (x := ⟨"WithoutThem$Seeker", "against", "(LWithoutThem$House;II)I"⟩) (Cn := "WithoutThem$SafeSeeker") (As := [.ref (ad 15), .int (nI t), .int (nI S)]) (rest := rest) C (ct_X11_against l hP G (ad 11) t S ht hS) kX11_against h1 q893 q910 q901 q892 ⟨by decide, by decide, by decide +kernel⟩ (va_recv hX.1 hP (ci := 10) (q0 := 11) rfl cw_at11) rfl ⟨Nat.le_trans (Nat.le_of_ble_eq_true rfl) hR.1, Nat.le_trans (Nat.le_of_ble_eq_true rfl) hR.2⟩ hf hsz hst d rfl) kk
  | 3, hk => exact x_goR (runU (x := ⟨"WithoutThem$Seeker", "against", "(LWithoutThem$House;II)I"⟩) (Cn := "WithoutThem$WiseSeeker") (As := [.ref (ad 15), .int (nI t), .int (nI S)]) (rest := rest) C (ct_X12_against l hP G (ad 12) t S ht hS) kX12_against h1 q893 q911 q912 q892 ⟨by decide, by decide, by decide +kernel⟩ (va_recv hX.1 hP (ci := 11) (q0 := 12) rfl cw_at12) rfl ⟨Nat.le_trans (Nat.le_of_ble_eq_true rfl) hR.1, Nat.le_trans (Nat.le_of_ble_eq_true rfl) hR.2⟩ hf hsz hst d rfl) kk
  | 4, hk => exact x_goR (runU (x := ⟨"WithoutThem$Seeker", "against", "(LWithoutThem$House;II)I"⟩) (Cn := "WithoutThem$LostSeeker") (As := [.ref (ad 15), .int (nI t), .int (nI S)]) (rest := rest) C (ct_X13_against l hP G t S ht hS) kX13_against h1 q893 q897 q898 q892 ⟨by decide, by decide, by decide +kernel⟩ (va_recv hX.1 hP (ci := 12) (q0 := 13) rfl cw_at13) rfl ⟨Nat.le_trans (Nat.le_of_ble_eq_true rfl) hR.1, Nat.le_trans (Nat.le_of_ble_eq_true rfl) hR.2⟩ hf hsz hst d rfl) kk
  | 5, hk => exact x_goR (runU (x := ⟨"WithoutThem$Seeker", "against", "(LWithoutThem$House;II)I"⟩) (Cn := "WithoutThem$GreedySeeker") (As := [.ref (ad 15), .int (nI t), .int (nI S)]) (rest := rest) C (ct_X14_against l hP G (ad 14) t S ht hS) kX14_against h1 q893 q894 q895 q892 ⟨by decide, by decide, by decide +kernel⟩ (va_recv hX.1 hP (ci := 13) (q0 := 14) rfl cw_at14) rfl ⟨Nat.le_trans (Nat.le_of_ble_eq_true rfl) hR.1, Nat.le_trans (Nat.le_of_ble_eq_true rfl) hR.2⟩ hf hsz hst d rfl) kk
  | k + 6, h => exact absurd h (by omega)
set_option maxHeartbeats 4000000 in
theorem ct_X0_rather (l : Launch) {g : GX} {ad : Nat → Nat} {h0 : HS} {h1 : HS} {h2 : HS} {hi : Bool} {ro : Nat → Int32} {rn : Nat} {lt : Nat → Int32} {ln : Nat} {rf : Nat → Int32} {fw : Nat → Int32} {mn : Nat → Int64} {wy : Nat → Int32} {tg : Nat → Int32} {od : Nat → Int32} {tk : Int32} {mt : Int32} {H : Heap} (hP : va_P g.1 cl (cw g ad h0 h1 h2 hi ro rn lt ln rf fw mn wy tg od tk mt) H) (G : Gh h0) (K S : Nat) (hKl : K < 6) (hS : S < 1024) : CtR l g yX0_rather cX0_rather 6 (some .int) 5 114 [.ref (ad 0), .int (nI K), .int (nI S)] H (some (.int (oI (rath h0 K S)))) := by
  refine CtR.of (by decide) (Nat.le_of_ble_eq_true rfl) ?_
  intro p e s m args below meth c C hH ls hl
  obtain ⟨hx, hb, hml, hown, hts, hX, hlk, hr, -⟩ := id C
  have hl : lv_has ls 6 [(0, .ref (ad 0)), (1, .int (nI K)), (2, .int (nI S))] := hl
  have g10 := G.1
  have gp := G.p
  have gha := G.ha
  have gw := G.w
  have L : ∀ (n : Nat) (i : Nat) (ls : Array Slot), h0.th - i < n → (i ≤ h0.th) → lv_has ls 6 [(0, .ref (ad 0)), (1, .int (nI K)), (2, .int (nI S)), (3, .int (oI (amin (fun t => agn h0 K t S) (fun t => hMay h0 t S) i))), (4, .int (nI i))] → W p l e (rmR 5 114) s m args below meth c H [] 0 0 (MQ below (QV (fun v H1 => v = (some (.int (oI (rath h0 K S)))) ∧ H1 = H)) args s 0 0 (fun _ => False)) (F0 m 6 ls []) := by
    intro n
    induction n with
    | zero =>
      intro i ls hm
      exact absurd hm (Nat.not_lt_zero _)
    | succ n ih_L =>
      intro i ls hm_L hi hl
      refine lv_iload hx hb dX0_rather_6 (lv_at hl 4 rfl) ?_
      refine lv_aload_n hx hb dX0_rather_8 rfl (lv_at hl 0 rfl) ?_
      refine gc0_2 C hP q279 dX0_rather_9 ?_
      refine gc15_0n C hP q226 dX0_rather_12 ?_
      refine xn_ge (a := i) (b := h0.th) (tgt := 88) hx hb dX0_rather_15 (by decide) (by omega) (by omega) (fun c_15 => ?_) (fun c_15 => ?_)
      · skip
        refine lv_iload_n hx hb dX0_rather_88 rfl (lv_at hl 3 rfl) ?_
        exact x_iret hx hb hr hlk (Nat.le_refl _) (Nat.le_refl _) (fun _ h => nomatch h) dX0_rather_89 (⟨by rw [show i = h0.th from by omega]; rfl, rfl⟩)
      · skip
        refine lv_aload_n hx hb dX0_rather_18 rfl (lv_at hl 0 rfl) ?_
        refine gc0_2 C hP q279 dX0_rather_19 ?_
        refine lv_iload hx hb dX0_rather_22 (lv_at hl 4 rfl) ?_
        refine lv_iload_n hx hb dX0_rather_24 rfl (lv_at hl 2 rfl) ?_
        refine x_goR (runV (As := [.int (nI i), .int (nI S)]) (rest := []) C (ct_X15_may l hP G i S (by omega) (by omega)) kX15_may q725 q726 q727 (va_recv hX.1 hP (ci := 1) (q0 := 15) rfl cw_at15) rfl ⟨Nat.le_of_ble_eq_true rfl, Nat.le_of_ble_eq_true rfl⟩ ⟨Nat.le_of_ble_eq_true rfl, Nat.le_of_ble_eq_true rfl⟩ hl.1 (Nat.le_of_ble_eq_true rfl) dX0_rather_25 rfl) ?_
        refine lv_istore (lv' := [(5, .int (b2 (hMay h0 i S))), (0, .ref (ad 0)), (1, .int (nI K)), (2, .int (nI S)), (3, .int (oI (amin (fun t => agn h0 K t S) (fun t => hMay h0 t S) i))), (4, .int (nI i))]) hx hb dX0_rather_28 hl (by decide) rfl (fun ls hl => ?_)
        refine lv_iload hx hb dX0_rather_30 (lv_at hl 0 rfl) ?_
        refine xb_eq (b := hMay h0 i S) (tgt := 80) hx hb dX0_rather_32 (by decide) (fun c_32 => ?_) (fun c_32 => ?_)
        · skip
          refine lv_iload_n hx hb dX0_rather_80 rfl (lv_at hl 4 rfl) ?_
          refine x_ni (y := oI (amin (fun t => agn h0 K t S) (fun t => hMay h0 t S) (i + 1))) (by rw [amin_f0 (c := (fun t => agn h0 K t S)) (o := (fun t => hMay h0 t S)) (n := i) (c_32)]) ?_
          refine lv_istore_n (lv' := [(3, .int (oI (amin (fun t => agn h0 K t S) (fun t => hMay h0 t S) (i + 1)))), (5, .int (b2 (hMay h0 i S))), (0, .ref (ad 0)), (1, .int (nI K)), (2, .int (nI S)), (4, .int (nI i))]) hx hb dX0_rather_81 rfl hl (by decide) rfl (fun ls hl => ?_)
          refine lv_iinc (v := nI (i + 1)) (lv' := [(4, .int (nI (i + 1))), (3, .int (oI (amin (fun t => agn h0 K t S) (fun t => hMay h0 t S) (i + 1)))), (5, .int (b2 (hMay h0 i S))), (0, .ref (ad 0)), (1, .int (nI K)), (2, .int (nI S))]) hx hb dX0_rather_82 hl (k := 5) rfl (nI_add _ 1) (by decide) rfl (fun ls hl => ?_)
          refine lv_goto (tgt := 6) hx hb dX0_rather_85 (by decide) ?_
          exact ih_L (i + 1) _ (by first | omega | (simp only []; omega)) (by omega) (lv_sub hl [3, 4, 5, 1, 0] rfl)
        · skip
          refine lv_iload_n hx hb dX0_rather_35 rfl (lv_at hl 4 rfl) ?_
          refine lv_bipush (v := (-9)) hx hb dX0_rather_36 (by decide) ?_
          refine lv_icmp_eq (x := oI (amin (fun t => agn h0 K t S) (fun t => hMay h0 t S) i)) (y := (-9)) (tgt := 75) hx hb dX0_rather_38 (by decide) (fun c_38 => ?_) (fun c_38 => ?_)
          · skip
            have hbn := oI_none (fun k e => by have := amin_lt e; omega) c_38
            refine lv_iload hx hb dX0_rather_75 (lv_at hl 5 rfl) ?_
            refine lv_goto (tgt := 81) hx hb dX0_rather_77 (by decide) ?_
            refine x_ni (y := oI (amin (fun t => agn h0 K t S) (fun t => hMay h0 t S) (i + 1))) (by rw [amin_t0 (c := (fun t => agn h0 K t S)) (o := (fun t => hMay h0 t S)) (n := i) (c_32) hbn]; rfl) ?_
            refine lv_istore_n (lv' := [(3, .int (oI (amin (fun t => agn h0 K t S) (fun t => hMay h0 t S) (i + 1)))), (5, .int (b2 (hMay h0 i S))), (0, .ref (ad 0)), (1, .int (nI K)), (2, .int (nI S)), (4, .int (nI i))]) hx hb dX0_rather_81 rfl hl (by decide) rfl (fun ls hl => ?_)
            refine lv_iinc (v := nI (i + 1)) (lv' := [(4, .int (nI (i + 1))), (3, .int (oI (amin (fun t => agn h0 K t S) (fun t => hMay h0 t S) (i + 1)))), (5, .int (b2 (hMay h0 i S))), (0, .ref (ad 0)), (1, .int (nI K)), (2, .int (nI S))]) hx hb dX0_rather_82 hl (k := 5) rfl (nI_add _ 1) (by decide) rfl (fun ls hl => ?_)
            refine lv_goto (tgt := 6) hx hb dX0_rather_85 (by decide) ?_
            exact ih_L (i + 1) _ (by first | omega | (simp only []; omega)) (by omega) (lv_sub hl [3, 4, 5, 1, 0] rfl)
          · skip
            obtain ⟨k, hbk⟩ := oI_some c_38
            have hkl := amin_lt hbk
            refine lv_aload_n hx hb dX0_rather_41 rfl (lv_at hl 1 rfl) ?_
            refine gc0_1 C hP q278 dX0_rather_42 ?_
            refine lv_iload_n hx hb dX0_rather_45 rfl (lv_at hl 2 rfl) ?_
            refine lc8 C hP (j := K) (by omega) dX0_rather_46 ?_
            refine x_nv (y := .ref (ad (9 + K))) rfl ?_
            refine lv_aload_n hx hb dX0_rather_47 rfl (lv_at hl 1 rfl) ?_
            refine gc0_2 C hP q279 dX0_rather_48 ?_
            refine lv_iload hx hb dX0_rather_51 (lv_at hl 5 rfl) ?_
            refine lv_iload_n hx hb dX0_rather_53 rfl (lv_at hl 3 rfl) ?_
            refine ks_against (k := K) (t := i) (S := S) C hP G hKl (by omega) (by omega) q891 ⟨Nat.le_of_ble_eq_true rfl, Nat.le_of_ble_eq_true rfl⟩ ⟨Nat.zero_le _, Nat.zero_le _⟩ hl.1 (Nat.le_of_ble_eq_true rfl) dX0_rather_54 ?_
            refine lv_aload_n hx hb dX0_rather_57 rfl (lv_at hl 1 rfl) ?_
            refine gc0_1 C hP q278 dX0_rather_58 ?_
            refine lv_iload_n hx hb dX0_rather_61 rfl (lv_at hl 2 rfl) ?_
            refine lc8 C hP (j := K) (by omega) dX0_rather_62 ?_
            refine x_nv (y := .ref (ad (9 + K))) rfl ?_
            refine lv_aload_n hx hb dX0_rather_63 rfl (lv_at hl 1 rfl) ?_
            refine gc0_2 C hP q279 dX0_rather_64 ?_
            refine lv_iload_n hx hb dX0_rather_67 rfl (lv_at hl 4 rfl) ?_
            refine x_ni (y := nI k) (by rw [hbk]; rfl) ?_
            refine lv_iload_n hx hb dX0_rather_68 rfl (lv_at hl 3 rfl) ?_
            refine ks_against (k := K) (t := k) (S := S) C hP G hKl (by omega) (by omega) q891 ⟨Nat.le_of_ble_eq_true rfl, Nat.le_of_ble_eq_true rfl⟩ ⟨Nat.zero_le _, Nat.zero_le _⟩ hl.1 (Nat.le_of_ble_eq_true rfl) dX0_rather_69 ?_
            refine xn_ge (a := agn h0 K i S) (b := agn h0 K k S) (tgt := 80) hx hb dX0_rather_72 (by decide) (by have := agn_le G (K := K) (t := i) (S := S) (by omega) hS; omega) (by have := agn_le G (K := K) (t := k) (S := S) (by omega) hS; omega) (fun c_72 => ?_) (fun c_72 => ?_)
            · skip
              refine lv_iload_n hx hb dX0_rather_80 rfl (lv_at hl 4 rfl) ?_
              refine x_ni (y := oI (amin (fun t => agn h0 K t S) (fun t => hMay h0 t S) (i + 1))) (by rw [amin_f1 (c := (fun t => agn h0 K t S)) (o := (fun t => hMay h0 t S)) (n := i) hbk (Nat.not_lt.mpr c_72)]) ?_
              refine lv_istore_n (lv' := [(3, .int (oI (amin (fun t => agn h0 K t S) (fun t => hMay h0 t S) (i + 1)))), (5, .int (b2 (hMay h0 i S))), (0, .ref (ad 0)), (1, .int (nI K)), (2, .int (nI S)), (4, .int (nI i))]) hx hb dX0_rather_81 rfl hl (by decide) rfl (fun ls hl => ?_)
              refine lv_iinc (v := nI (i + 1)) (lv' := [(4, .int (nI (i + 1))), (3, .int (oI (amin (fun t => agn h0 K t S) (fun t => hMay h0 t S) (i + 1)))), (5, .int (b2 (hMay h0 i S))), (0, .ref (ad 0)), (1, .int (nI K)), (2, .int (nI S))]) hx hb dX0_rather_82 hl (k := 5) rfl (nI_add _ 1) (by decide) rfl (fun ls hl => ?_)
              refine lv_goto (tgt := 6) hx hb dX0_rather_85 (by decide) ?_
              exact ih_L (i + 1) _ (by first | omega | (simp only []; omega)) (by omega) (lv_sub hl [3, 4, 5, 1, 0] rfl)
            · skip
              refine lv_iload hx hb dX0_rather_75 (lv_at hl 5 rfl) ?_
              refine lv_goto (tgt := 81) hx hb dX0_rather_77 (by decide) ?_
              refine x_ni (y := oI (amin (fun t => agn h0 K t S) (fun t => hMay h0 t S) (i + 1))) (by rw [amin_t1 (c := (fun t => agn h0 K t S)) (o := (fun t => hMay h0 t S)) (n := i) (c_32) hbk c_72]; rfl) ?_
              refine lv_istore_n (lv' := [(3, .int (oI (amin (fun t => agn h0 K t S) (fun t => hMay h0 t S) (i + 1)))), (5, .int (b2 (hMay h0 i S))), (0, .ref (ad 0)), (1, .int (nI K)), (2, .int (nI S)), (4, .int (nI i))]) hx hb dX0_rather_81 rfl hl (by decide) rfl (fun ls hl => ?_)
              refine lv_iinc (v := nI (i + 1)) (lv' := [(4, .int (nI (i + 1))), (3, .int (oI (amin (fun t => agn h0 K t S) (fun t => hMay h0 t S) (i + 1)))), (5, .int (b2 (hMay h0 i S))), (0, .ref (ad 0)), (1, .int (nI K)), (2, .int (nI S))]) hx hb dX0_rather_82 hl (k := 5) rfl (nI_add _ 1) (by decide) rfl (fun ls hl => ?_)
              refine lv_goto (tgt := 6) hx hb dX0_rather_85 (by decide) ?_
              exact ih_L (i + 1) _ (by first | omega | (simp only []; omega)) (by omega) (lv_sub hl [3, 4, 5, 1, 0] rfl)
  refine lv_bipush (v := (-9)) hx hb dX0_rather_0 (by decide) ?_
  refine lv_istore_n (lv' := [(3, .int (-9)), (0, .ref (ad 0)), (1, .int (nI K)), (2, .int (nI S))]) hx hb dX0_rather_2 rfl hl (by decide) rfl (fun ls hl => ?_)
  refine lv_iconst (v := nI 0) hx hb dX0_rather_3 (by decide) ?_
  refine lv_istore (lv' := [(4, .int (nI 0)), (3, .int (-9)), (0, .ref (ad 0)), (1, .int (nI K)), (2, .int (nI S))]) hx hb dX0_rather_4 hl (by decide) rfl (fun ls hl => ?_)
  exact L _ 0 _ (Nat.lt_succ_self _) (Nat.zero_le _) (lv_sub hl [2, 3, 4, 1, 0] rfl)
theorem kX0_rather : Cal yX0_rather cX0_rather 6 (some .int) 2 := ⟨q890, q81, by decide, by decide +kernel⟩
set_option maxHeartbeats 4000000 in
theorem ct_X0_byLots (l : Launch) {g : GX} {ad : Nat → Nat} {h0 : HS} {h1 : HS} {h2 : HS} {hi : Bool} {ro : Nat → Int32} {rn : Nat} {lt : Nat → Int32} {ln : Nat} {rf : Nat → Int32} {fw : Nat → Int32} {mn : Nat → Int64} {wy : Nat → Int32} {tg : Nat → Int32} {od : Nat → Int32} {tk : Int32} {mt : Int32} {H : Heap} (hP : va_P g.1 cl (cw g ad h0 h1 h2 hi ro rn lt ln rf fw mn wy tg od tk mt) H) (G : Gh h0) (K : Nat) (z0 : Int32) (hKl : K < 6) : CtR l g yX0_byLots cX0_byLots 8 (some .int) 6 139 [.ref (ad 0), .int (nI K), .int z0] H (some (.int (nI (lotF h0 K 60 z0 h0.ha)))) := by
  refine CtR.of (by decide) (Nat.le_of_ble_eq_true rfl) ?_
  intro p e s m args below meth c C hH ls hl
  obtain ⟨hx, hb, hml, hown, hts, hX, hlk, hr, -⟩ := id C
  have hl : lv_has ls 8 [(0, .ref (ad 0)), (1, .int (nI K)), (2, .int z0)] := hl
  have g10 := G.1
  have gp := G.p
  have gha := G.ha
  have gw := G.w
  have L : ∀ (n : Nat) (j : Nat) (z : Int32) (S : Nat) (su : Nat) (ls : Array Slot), 60 - j < n → (j ≤ 60) → (S < 1024) → (su + lotF h0 K (60 - j) z S = lotF h0 K 60 z0 h0.ha) → lv_has ls 8 [(0, .ref (ad 0)), (1, .int (nI K)), (3, .int z), (4, .int (nI S)), (5, .int (nI su)), (6, .int (oI (rath h0 K S))), (7, .int (nI j))] → W p l e (rmR 6 139) s m args below meth c H [] 0 0 (MQ below (QV (fun v H1 => v = (some (.int (nI (lotF h0 K 60 z0 h0.ha)))) ∧ H1 = H)) args s 0 0 (fun _ => False)) (F0 m 26 ls []) := by
    intro n
    induction n with
    | zero =>
      intro j z S su ls hm
      exact absurd hm (Nat.not_lt_zero _)
    | succ n ih_L =>
      intro j z S su ls hm_L hj hS htot hl
      refine lv_iload hx hb dX0_byLots_26 (lv_at hl 6 rfl) ?_
      refine lv_bipush (v := nI 60) hx hb dX0_byLots_28 (by decide) ?_
      refine xn_ge (a := j) (b := 60) (tgt := 112) hx hb dX0_byLots_30 (by decide) (by omega) (by omega) (fun c_30 => ?_) (fun c_30 => ?_)
      · skip
        refine lv_iload hx hb dX0_byLots_112 (lv_at hl 4 rfl) ?_
        exact x_iret hx hb hr hlk (Nat.le_refl _) (Nat.le_refl _) (fun _ h => nomatch h) dX0_byLots_114 (⟨rtI (by rw [show 60 - j = 0 from by omega, lotF] at htot; omega), rfl⟩)
      · skip
        refine lv_iload hx hb dX0_byLots_33 (lv_at hl 5 rfl) ?_
        refine lv_bipush (v := (-9)) hx hb dX0_byLots_35 (by decide) ?_
        refine lv_icmp_eq (x := oI (rath h0 K S)) (y := (-9)) (tgt := 112) hx hb dX0_byLots_37 (by decide) (fun c_37 => ?_) (fun c_37 => ?_)
        · skip
          have hbn := oI_none (fun k e => by have := rath_lt e; omega) c_37
          refine lv_iload hx hb dX0_byLots_112 (lv_at hl 4 rfl) ?_
          exact x_iret hx hb hr hlk (Nat.le_refl _) (Nat.le_refl _) (fun _ h => nomatch h) dX0_byLots_114 (⟨rtI (by rw [lotF_none hbn] at htot; omega), rfl⟩)
        · skip
          obtain ⟨t, hbt⟩ := oI_some c_37
          have htl := rath_lt hbt
          refine lv_iload_n hx hb dX0_byLots_40 rfl (lv_at hl 2 rfl) ?_
          refine lv_ldc (v := nI 1664525) hx hb hown (hts _ q929) dX0_byLots_41 ?_
          refine lv_imul hx hb dX0_byLots_43 ?_
          refine lv_ldc (v := nI 1013904223) hx hb hown (hts _ q930) dX0_byLots_44 ?_
          refine lv_iadd hx hb dX0_byLots_46 ?_
          refine x_ni (y := lotZ z) rfl ?_
          refine lv_istore_n (lv' := [(3, .int (lotZ z)), (0, .ref (ad 0)), (1, .int (nI K)), (4, .int (nI S)), (5, .int (nI su)), (6, .int (oI (rath h0 K S))), (7, .int (nI j))]) hx hb dX0_byLots_47 rfl hl (by decide) rfl (fun ls hl => ?_)
          refine lv_iload hx hb dX0_byLots_48 (lv_at hl 4 rfl) ?_
          refine lv_aload_n hx hb dX0_byLots_50 rfl (lv_at hl 1 rfl) ?_
          refine gc0_2 C hP q279 dX0_byLots_51 ?_
          refine lv_iload hx hb dX0_byLots_54 (lv_at hl 5 rfl) ?_
          refine x_ni (y := nI t) (by rw [hbt]; rfl) ?_
          refine lv_iload hx hb dX0_byLots_56 (lv_at hl 3 rfl) ?_
          refine x_goR (runV (As := [.int (nI t), .int (nI S)]) (rest := [.int (nI su)]) C (ct_X15_go l hP G t S (by omega) (by omega)) kX15_go q681 q682 q683 (va_recv hX.1 hP (ci := 1) (q0 := 15) rfl cw_at15) rfl ⟨Nat.le_of_ble_eq_true rfl, Nat.le_of_ble_eq_true rfl⟩ ⟨Nat.le_of_ble_eq_true rfl, Nat.le_of_ble_eq_true rfl⟩ hl.1 (Nat.le_of_ble_eq_true rfl) dX0_byLots_58 rfl) ?_
          refine lv_iadd hx hb dX0_byLots_61 ?_
          refine x_ni (y := nI (su + (hGo h0 t S))) (nI_add _ _) ?_
          refine lv_istore (lv' := [(5, .int (nI (su + (hGo h0 t S)))), (3, .int (lotZ z)), (0, .ref (ad 0)), (1, .int (nI K)), (4, .int (nI S)), (6, .int (oI (rath h0 K S))), (7, .int (nI j))]) hx hb dX0_byLots_62 hl (by decide) rfl (fun ls hl => ?_)
          refine lv_iload_n hx hb dX0_byLots_64 rfl (lv_at hl 1 rfl) ?_
          refine lv_ldc (v := nI 2147483647) hx hb hown (hts _ q931) dX0_byLots_65 ?_
          refine lv_iand hx hb dX0_byLots_67 ?_
          refine x_ni (y := nI ((lotZ z).toBitVec.toNat % 2 ^ 31)) (pk_and _ 31 (by decide)) ?_
          refine lv_sipush (v := nI 256) hx hb dX0_byLots_68 (by decide) ?_
          refine lv_idiv hx hb dX0_byLots_71 (by decide) ?_
          refine x_ni (y := nI (((lotZ z).toBitVec.toNat % 2 ^ 31) / 256)) (pk_div (by omega) (by omega) (by omega)) ?_
          refine lv_bipush (v := nI 10) hx hb dX0_byLots_72 (by decide) ?_
          refine lv_irem hx hb dX0_byLots_74 (by decide) ?_
          refine x_ni (y := nI (lotR (lotZ z))) (pk_rem (by omega) (by decide) (by decide)) ?_
          refine lv_aload_n hx hb dX0_byLots_75 rfl (lv_at hl 2 rfl) ?_
          refine gc0_2 C hP q279 dX0_byLots_76 ?_
          refine gc15_3n C hP q236 dX0_byLots_79 ?_
          refine lv_iload hx hb dX0_byLots_82 (lv_at hl 5 rfl) ?_
          refine x_ni (y := nI t) (by rw [hbt]; rfl) ?_
          refine lc18 C hP (j := t) (by omega) dX0_byLots_84 ?_
          refine xn_ge (a := lotR (lotZ z)) (b := h0.su t) (tgt := 106) hx hb dX0_byLots_85 (by decide) (by unfold lotR; omega) (by have := (G.2.2.2 t htl).2.2.1; omega) (fun c_85 => ?_) (fun c_85 => ?_)
          · skip
            refine lv_iinc (v := nI (j + 1)) (lv' := [(7, .int (nI (j + 1))), (5, .int (nI (su + (hGo h0 t S)))), (3, .int (lotZ z)), (0, .ref (ad 0)), (1, .int (nI K)), (4, .int (nI S)), (6, .int (oI (rath h0 K S)))]) hx hb dX0_byLots_106 hl (k := 6) rfl (nI_add _ 1) (by decide) rfl (fun ls hl => ?_)
            refine lv_goto (tgt := 26) hx hb dX0_byLots_109 (by decide) ?_
            exact ih_L (j + 1) (lotZ z) S (su + (hGo h0 t S)) _ (by first | omega | (simp only []; omega)) (by omega) (hS) (by rw [show 60 - j = (60 - (j + 1)) + 1 from by omega, lotF_some hbt, if_neg (Nat.not_lt.mpr c_85)] at htot; omega) (lv_sub hl [3, 4, 2, 5, 1, 6, 0] rfl)
          · skip
            refine lv_iload hx hb dX0_byLots_88 (lv_at hl 4 rfl) ?_
            refine lv_iconst (v := nI 1) hx hb dX0_byLots_90 (by decide) ?_
            refine lv_iload hx hb dX0_byLots_91 (lv_at hl 5 rfl) ?_
            refine x_ni (y := nI t) (by rw [hbt]; rfl) ?_
            refine lv_ishl hx hb dX0_byLots_93 ?_
            refine x_ni (y := nI (2 ^ t)) (nw_shl1 (by omega)) ?_
            refine lv_ior hx hb dX0_byLots_94 ?_
            refine x_ni (y := nI (S ||| (2 ^ t))) (nw_or _ _) ?_
            refine lv_istore (lv' := [(4, .int (nI (S ||| (2 ^ t)))), (5, .int (nI (su + (hGo h0 t S)))), (3, .int (lotZ z)), (0, .ref (ad 0)), (1, .int (nI K)), (6, .int (oI (rath h0 K S))), (7, .int (nI j))]) hx hb dX0_byLots_95 hl (by decide) rfl (fun ls hl => ?_)
            refine lv_aload_n hx hb dX0_byLots_97 rfl (lv_at hl 3 rfl) ?_
            refine lv_iload_n hx hb dX0_byLots_98 rfl (lv_at hl 4 rfl) ?_
            refine lv_iload hx hb dX0_byLots_99 (lv_at hl 0 rfl) ?_
            refine x_goR (runV (As := [.int (nI K), .int (nI (S ||| (2 ^ t)))]) (rest := []) C (ct_X0_rather l hP G K (S ||| (2 ^ t)) hKl (by first | omega | exact or2 hS (by omega))) kX0_rather q887 q889 qs41 (va_recv hX.1 hP (ci := 0) (q0 := 0) rfl cw_at0) rfl ⟨Nat.le_of_ble_eq_true rfl, Nat.le_of_ble_eq_true rfl⟩ ⟨Nat.le_of_ble_eq_true rfl, Nat.le_of_ble_eq_true rfl⟩ hl.1 (Nat.le_of_ble_eq_true rfl) dX0_byLots_101 rfl) ?_
            refine lv_istore (lv' := [(6, .int (oI (rath h0 K (S ||| (2 ^ t))))), (4, .int (nI (S ||| (2 ^ t)))), (5, .int (nI (su + (hGo h0 t S)))), (3, .int (lotZ z)), (0, .ref (ad 0)), (1, .int (nI K)), (7, .int (nI j))]) hx hb dX0_byLots_104 hl (by decide) rfl (fun ls hl => ?_)
            refine lv_iinc (v := nI (j + 1)) (lv' := [(7, .int (nI (j + 1))), (6, .int (oI (rath h0 K (S ||| (2 ^ t))))), (4, .int (nI (S ||| (2 ^ t)))), (5, .int (nI (su + (hGo h0 t S)))), (3, .int (lotZ z)), (0, .ref (ad 0)), (1, .int (nI K))]) hx hb dX0_byLots_106 hl (k := 6) rfl (nI_add _ 1) (by decide) rfl (fun ls hl => ?_)
            refine lv_goto (tgt := 26) hx hb dX0_byLots_109 (by decide) ?_
            exact ih_L (j + 1) (lotZ z) (S ||| (2 ^ t)) (su + (hGo h0 t S)) _ (by first | omega | (simp only []; omega)) (by omega) (or2 hS (by omega)) (by rw [show 60 - j = (60 - (j + 1)) + 1 from by omega, lotF_some hbt, if_pos c_85] at htot; omega) (lv_sub hl [5, 6, 4, 2, 3, 1, 0] rfl)
  refine lv_iload_n hx hb dX0_byLots_0 rfl (lv_at hl 2 rfl) ?_
  refine lv_istore_n (lv' := [(3, .int z0), (0, .ref (ad 0)), (1, .int (nI K)), (2, .int z0)]) hx hb dX0_byLots_1 rfl hl (by decide) rfl (fun ls hl => ?_)
  refine lv_aload_n hx hb dX0_byLots_2 rfl (lv_at hl 1 rfl) ?_
  refine gc0_2 C hP q279 dX0_byLots_3 ?_
  refine gc15_7n C hP q253 dX0_byLots_6 ?_
  refine lv_istore (lv' := [(4, .int (nI h0.ha)), (3, .int z0), (0, .ref (ad 0)), (1, .int (nI K)), (2, .int z0)]) hx hb dX0_byLots_9 hl (by decide) rfl (fun ls hl => ?_)
  refine lv_iconst (v := nI 0) hx hb dX0_byLots_11 (by decide) ?_
  refine lv_istore (lv' := [(5, .int (nI 0)), (4, .int (nI h0.ha)), (3, .int z0), (0, .ref (ad 0)), (1, .int (nI K)), (2, .int z0)]) hx hb dX0_byLots_12 hl (by decide) rfl (fun ls hl => ?_)
  refine lv_aload_n hx hb dX0_byLots_14 rfl (lv_at hl 3 rfl) ?_
  refine lv_iload_n hx hb dX0_byLots_15 rfl (lv_at hl 4 rfl) ?_
  refine lv_iload hx hb dX0_byLots_16 (lv_at hl 1 rfl) ?_
  refine x_goR (runV (As := [.int (nI K), .int (nI h0.ha)]) (rest := []) C (ct_X0_rather l hP G K h0.ha hKl (by first | omega | exact or2 hS (by omega))) kX0_rather q887 q889 qs41 (va_recv hX.1 hP (ci := 0) (q0 := 0) rfl cw_at0) rfl ⟨Nat.le_of_ble_eq_true rfl, Nat.le_of_ble_eq_true rfl⟩ ⟨Nat.le_of_ble_eq_true rfl, Nat.le_of_ble_eq_true rfl⟩ hl.1 (Nat.le_of_ble_eq_true rfl) dX0_byLots_18 rfl) ?_
  refine lv_istore (lv' := [(6, .int (oI (rath h0 K h0.ha))), (5, .int (nI 0)), (4, .int (nI h0.ha)), (3, .int z0), (0, .ref (ad 0)), (1, .int (nI K)), (2, .int z0)]) hx hb dX0_byLots_21 hl (by decide) rfl (fun ls hl => ?_)
  refine lv_iconst (v := nI 0) hx hb dX0_byLots_23 (by decide) ?_
  refine lv_istore (lv' := [(7, .int (nI 0)), (6, .int (oI (rath h0 K h0.ha))), (5, .int (nI 0)), (4, .int (nI h0.ha)), (3, .int z0), (0, .ref (ad 0)), (1, .int (nI K)), (2, .int z0)]) hx hb dX0_byLots_24 hl (by decide) rfl (fun ls hl => ?_)
  exact L _ 0 z0 h0.ha 0 _ (Nat.lt_succ_self _) (by omega) gha (Nat.zero_add _) (lv_sub hl [5, 6, 4, 3, 2, 1, 0] rfl)
theorem kX0_byLots : Cal yX0_byLots cX0_byLots 8 (some .int) 2 := ⟨q928, q81, by decide, by decide +kernel⟩
