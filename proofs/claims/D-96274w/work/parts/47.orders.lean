/-! ===== orders by sets, walked (printed by gen/p47.py) ===== -/
set_option maxRecDepth 100000
set_option maxHeartbeats 4000000 in
theorem ct_X0_findOrders (l : Launch) {g : GX} {ad : Nat → Nat} {h0 : HS} {h1 : HS} {h2 : HS} {hi : Bool} {ro : Nat → Int32} {rn : Nat} {lt : Nat → Int32} {ln : Nat} {rf : Nat → Int32} {fw : Nat → Int32} {mn : Nat → Int64} {wy : Nat → Int32} {tg : Nat → Int32} {od : Nat → Int32} {tk : Int32} {mt : Int32} {A : Nat → Prop} {H0 : Heap} (hA : ∀ q, H0.size ≤ q → A q) (hP : va_P g.1 cl (cw g ad h0 h1 h2 hi ro rn lt ln rf fw mn wy tg od tk mt) H0) (hD : va_D A (cw g ad h0 h1 h2 hi ro rn lt ln rf fw mn wy tg od tk mt)) (G : Gh h0) : Ct l g yX0_findOrders cX0_findOrders 4 none (rmZ 5 0 0 111) [.ref (ad 0)] H0 A (fun v H1 => v = none ∧ ∃ (fA : Nat → Nat), ∃ (mA : Nat → Nat), ∃ (wA : Nat → Nat), FOI h0 (2 ^ h0.th) 0 fA mA wA ∧ Wd g A H0 (cw g ad h0 h1 h2 hi ro rn lt ln rf (fun j => nI (fA j)) (fun j => lN (mA j)) (fun j => nI (wA j)) tg od tk mt) H1 []) := by
  refine Ct.of (by decide) (Nat.le_of_ble_eq_true rfl) ?_
  intro p e s m args below meth c C hH ls hl
  obtain ⟨hx, hb, hml, hown, hts, hX, hlk, hr, -⟩ := id C
  have hl : lv_has ls 4 [(0, .ref (ad 0))] := hl
  have hW : Wd g A H0 (cw g ad h0 h1 h2 hi ro rn lt ln rf fw mn wy tg od tk mt) H0 [] := Wd.start hP hD
  have g10 := G.1
  have gp := G.p
  have gha := G.ha
  have gw := G.w
  have hwp := whole_p h0
  have hha := G.2.1
  rw [lift_nI fw, lift_lN mn, lift_nI wy] at hW
  have L2 : ∀ (n : Nat) (sx : Nat) (fA : Nat → Nat) (mA : Nat → Nat) (wA : Nat → Nat) (H : Heap) (locs : List Loc), Wd g A H0 (cw g ad h0 h1 h2 hi ro rn lt ln rf (fun j => nI (fA j)) (fun j => lN (mA j)) (fun j => nI (wA j)) tg od tk mt) H locs → ∀ (ls : Array Slot), whole h0 + 1 - sx < n → (sx ≤ whole h0 + 1) → (FOI h0 sx 0 fA mA wA) → lv_has ls 4 [(0, .ref (ad 0)), (1, .int (nI sx))] → W p l e (rmZ 5 0 0 111) s m args below meth c H locs 0 0 (MQ below (QV (fun v H1 => v = none ∧ ∃ (fA : Nat → Nat), ∃ (mA : Nat → Nat), ∃ (wA : Nat → Nat), FOI h0 (2 ^ h0.th) 0 fA mA wA ∧ Wd g A H0 (cw g ad h0 h1 h2 hi ro rn lt ln rf (fun j => nI (fA j)) (fun j => lN (mA j)) (fun j => nI (wA j)) tg od tk mt) H1 [])) args s 0 0 A) (F0 m 96 ls []) := by
    intro n
    induction n with
    | zero =>
      intro sx fA mA wA H locs hW ls hm
      exact absurd hm (Nat.not_lt_zero _)
    | succ n ih_L2 =>
      intro sx fA mA wA H locs hW ls hm_L2 hs hF hl
      have hP := hW.1
      refine lv_iload_n hx hb dX0_findOrders_96 rfl (lv_at hl 1 rfl) ?_
      refine lv_aload_n hx hb dX0_findOrders_97 rfl (lv_at hl 0 rfl) ?_
      refine gc0_2 C hP q279 dX0_findOrders_98 ?_
      refine x_goR (runV (As := []) (rest := [.int (nI sx)]) C (ct_X15_whole l hP G) kX15_whole q760 q761 q762 (va_recv hX.1 hP (ci := 1) (q0 := 15) rfl cw_at15) rfl ⟨Nat.le_of_ble_eq_true rfl, Nat.le_of_ble_eq_true rfl⟩ ⟨Nat.le_of_ble_eq_true rfl, Nat.le_of_ble_eq_true rfl⟩ hl.1 (Nat.le_of_ble_eq_true rfl) dX0_findOrders_101 rfl) ?_
      refine xn_gt (a := sx) (b := whole h0) (tgt := 236) hx hb dX0_findOrders_104 (by decide) (by omega) (by omega) (fun c_104 => ?_) (fun c_104 => ?_)
      · skip
        exact x_vret hx hb hr hlk (Nat.le_refl _) (Nat.le_refl _) hW.2.2.2.2 dX0_findOrders_236 (⟨rfl, fA, mA, wA, (by rw [show 2 ^ h0.th = sx from by omega]; exact hF), hW.nil⟩)
      · skip
        have L3 : ∀ (n : Nat) (t : Nat) (fA : Nat → Nat) (mA : Nat → Nat) (wA : Nat → Nat) (H : Heap) (locs : List Loc), Wd g A H0 (cw g ad h0 h1 h2 hi ro rn lt ln rf (fun j => nI (fA j)) (fun j => lN (mA j)) (fun j => nI (wA j)) tg od tk mt) H locs → ∀ (ls : Array Slot), h0.th - t < n → (t ≤ h0.th) → (FOI h0 sx t fA mA wA) → lv_has ls 4 [(0, .ref (ad 0)), (1, .int (nI sx)), (2, .int (nI t))] → W p l e (rmZ 5 0 0 111) s m args below meth c H locs 0 0 (MQ below (QV (fun v H1 => v = none ∧ ∃ (fA : Nat → Nat), ∃ (mA : Nat → Nat), ∃ (wA : Nat → Nat), FOI h0 (2 ^ h0.th) 0 fA mA wA ∧ Wd g A H0 (cw g ad h0 h1 h2 hi ro rn lt ln rf (fun j => nI (fA j)) (fun j => lN (mA j)) (fun j => nI (wA j)) tg od tk mt) H1 [])) args s 0 0 A) (F0 m 109 ls []) := by
          intro n
          induction n with
          | zero =>
            intro t fA mA wA H locs hW ls hm
            exact absurd hm (Nat.not_lt_zero _)
          | succ n ih_L3 =>
            intro t fA mA wA H locs hW ls hm_L3 ht hF hl
            have hP := hW.1
            refine lv_iload_n hx hb dX0_findOrders_109 rfl (lv_at hl 2 rfl) ?_
            refine lv_aload_n hx hb dX0_findOrders_110 rfl (lv_at hl 0 rfl) ?_
            refine gc0_2 C hP q279 dX0_findOrders_111 ?_
            refine gc15_0n C hP q226 dX0_findOrders_114 ?_
            refine xn_ge (a := t) (b := h0.th) (tgt := 230) hx hb dX0_findOrders_117 (by decide) (by omega) (by omega) (fun c_117 => ?_) (fun c_117 => ?_)
            · skip
              refine lv_iinc (v := nI (sx + 1)) (lv' := [(1, .int (nI (sx + 1))), (0, .ref (ad 0)), (2, .int (nI t))]) hx hb dX0_findOrders_230 hl (k := 1) rfl (nI_add _ 1) (by decide) rfl (fun ls hl => ?_)
              refine lv_goto (tgt := 96) hx hb dX0_findOrders_233 (by decide) ?_
              exact ih_L2 (sx + 1) fA mA wA _ _ hW _ (by first | omega | (simp only []; omega)) (by omega) (FO_next (show t = h0.th from by omega) hF) (lv_sub hl [1, 0] rfl)
            · skip
              refine lv_aload_n hx hb dX0_findOrders_120 rfl (lv_at hl 0 rfl) ?_
              refine gc0_13 C hP q292 dX0_findOrders_121 ?_
              refine lv_iload_n hx hb dX0_findOrders_124 rfl (lv_at hl 1 rfl) ?_
              refine lc41 C hP (j := sx) (by omega) dX0_findOrders_125 ?_
              refine xz_le (n := wA sx) (tgt := 224) hx hb dX0_findOrders_126 (by decide) (by have := FO_w G hF (X := sx) (by omega); omega) (fun c_126 => ?_) (fun c_126 => ?_)
              · skip
                refine lv_iinc (v := nI (t + 1)) (lv' := [(2, .int (nI (t + 1))), (0, .ref (ad 0)), (1, .int (nI sx))]) hx hb dX0_findOrders_224 hl (k := 2) rfl (nI_add _ 1) (by decide) rfl (fun ls hl => ?_)
                refine lv_goto (tgt := 109) hx hb dX0_findOrders_227 (by decide) ?_
                exact ih_L3 (t + 1) fA mA wA _ _ hW _ (by first | omega | (simp only []; omega)) (by omega) (FO_skip hF (Or.inl c_126)) (lv_sub hl [1, 2, 0] rfl)
              · skip
                refine lv_aload_n hx hb dX0_findOrders_129 rfl (lv_at hl 0 rfl) ?_
                refine gc0_2 C hP q279 dX0_findOrders_130 ?_
                refine lv_iload_n hx hb dX0_findOrders_133 rfl (lv_at hl 2 rfl) ?_
                refine lv_iload_n hx hb dX0_findOrders_134 rfl (lv_at hl 1 rfl) ?_
                refine x_goR (runV (As := [.int (nI t), .int (nI sx)]) (rest := []) C (ct_X15_may l hP G t sx (by omega) (by omega)) kX15_may q725 q726 q727 (va_recv hX.1 hP (ci := 1) (q0 := 15) rfl cw_at15) rfl ⟨Nat.le_of_ble_eq_true rfl, Nat.le_of_ble_eq_true rfl⟩ ⟨Nat.le_of_ble_eq_true rfl, Nat.le_of_ble_eq_true rfl⟩ hl.1 (Nat.le_of_ble_eq_true rfl) dX0_findOrders_135 rfl) ?_
                refine xb_eq (b := hMay h0 t sx) (tgt := 224) hx hb dX0_findOrders_138 (by decide) (fun c_138 => ?_) (fun c_138 => ?_)
                · skip
                  refine lv_iinc (v := nI (t + 1)) (lv' := [(2, .int (nI (t + 1))), (0, .ref (ad 0)), (1, .int (nI sx))]) hx hb dX0_findOrders_224 hl (k := 2) rfl (nI_add _ 1) (by decide) rfl (fun ls hl => ?_)
                  refine lv_goto (tgt := 109) hx hb dX0_findOrders_227 (by decide) ?_
                  exact ih_L3 (t + 1) fA mA wA _ _ hW _ (by first | omega | (simp only []; omega)) (by omega) (FO_skip hF (Or.inr c_138)) (lv_sub hl [1, 2, 0] rfl)
                · skip
                  refine lv_iload_n hx hb dX0_findOrders_141 rfl (lv_at hl 1 rfl) ?_
                  refine lv_iconst (v := nI 1) hx hb dX0_findOrders_142 (by decide) ?_
                  refine lv_iload_n hx hb dX0_findOrders_143 rfl (lv_at hl 2 rfl) ?_
                  refine lv_ishl hx hb dX0_findOrders_144 ?_
                  refine x_ni (y := nI (2 ^ t)) (nw_shl1 (by omega)) ?_
                  refine lv_ior hx hb dX0_findOrders_145 ?_
                  refine x_ni (y := nI (sx ||| (2 ^ t))) (nw_or _ _) ?_
                  refine lv_istore_n (lv' := [(3, .int (nI (sx ||| (2 ^ t)))), (0, .ref (ad 0)), (1, .int (nI sx)), (2, .int (nI t))]) hx hb dX0_findOrders_146 rfl hl (by decide) rfl (fun ls hl => ?_)
                  refine lv_aload_n hx hb dX0_findOrders_147 rfl (lv_at hl 1 rfl) ?_
                  refine gc0_11 C hP q290 dX0_findOrders_148 ?_
                  refine lv_iload_n hx hb dX0_findOrders_151 rfl (lv_at hl 0 rfl) ?_
                  refine lv_aload_n hx hb dX0_findOrders_152 rfl (lv_at hl 1 rfl) ?_
                  refine gc0_11 C hP q290 dX0_findOrders_153 ?_
                  refine lv_iload_n hx hb dX0_findOrders_156 rfl (lv_at hl 0 rfl) ?_
                  refine lc39 C hP (j := sx ||| (2 ^ t)) (or2 (by omega) (by omega)) dX0_findOrders_157 ?_
                  refine lv_aload_n hx hb dX0_findOrders_158 rfl (lv_at hl 1 rfl) ?_
                  refine gc0_11 C hP q290 dX0_findOrders_159 ?_
                  refine lv_iload_n hx hb dX0_findOrders_162 rfl (lv_at hl 2 rfl) ?_
                  refine lc39 C hP (j := sx) (by omega) dX0_findOrders_163 ?_
                  refine lv_aload_n hx hb dX0_findOrders_164 rfl (lv_at hl 1 rfl) ?_
                  refine gc0_2 C hP q279 dX0_findOrders_165 ?_
                  refine lv_iload_n hx hb dX0_findOrders_168 rfl (lv_at hl 3 rfl) ?_
                  refine lv_iload_n hx hb dX0_findOrders_169 rfl (lv_at hl 2 rfl) ?_
                  refine x_goR (runV (As := [.int (nI t), .int (nI sx)]) (rest := [.int (nI (fA sx)), .int (nI (fA (sx ||| (2 ^ t)))), .int (nI (sx ||| (2 ^ t))), .ref (ad 39)]) C (ct_X15_go l hP G t sx (by omega) (by omega)) kX15_go q681 q682 q683 (va_recv hX.1 hP (ci := 1) (q0 := 15) rfl cw_at15) rfl ⟨Nat.le_of_ble_eq_true rfl, Nat.le_of_ble_eq_true rfl⟩ ⟨Nat.le_of_ble_eq_true rfl, Nat.le_of_ble_eq_true rfl⟩ hl.1 (Nat.le_of_ble_eq_true rfl) dX0_findOrders_170 rfl) ?_
                  refine lv_iadd hx hb dX0_findOrders_173 ?_
                  refine x_ni (y := nI ((fA sx) + (hGo h0 t sx))) (nI_add _ _) ?_
                  refine va_mmin hx hb (hml.trans hl.1.symm) hown (hts _ q791) (hts _ q741) (hts _ q112) (hts _ q742) (Nat.le_of_ble_eq_true rfl) (Nat.le_of_ble_eq_true rfl) (Nat.le_of_ble_eq_true rfl) (Nat.le_of_ble_eq_true rfl) dX0_findOrders_174 ?_
                  refine x_ni (y := nI (min (fA (sx ||| (2 ^ t))) ((fA sx) + (hGo h0 t sx)))) (mminN (by have := (FO_f G hF (X := sx ||| 2 ^ t) (or_ltp (by omega) (by omega))).1; omega) (by have := (FO_f G hF (X := sx) (by omega)).1; have := hGo_le G (t := t) (S := sx) (by omega) (by omega); omega)) ?_
                  refine sc39 (j := sx ||| (2 ^ t)) (v := nI (min (fA (sx ||| (2 ^ t))) ((fA sx) + (hGo h0 t sx)))) C hW (or2 (by omega) (by omega)) dX0_findOrders_177 (fun H locs hW => ?_)
                  rw [upd_nI] at hW
                  have hP := hW.1
                  refine lv_aload_n hx hb dX0_findOrders_178 rfl (lv_at hl 1 rfl) ?_
                  refine gc0_12 C hP q291 dX0_findOrders_179 ?_
                  refine lv_iload_n hx hb dX0_findOrders_182 rfl (lv_at hl 0 rfl) ?_
                  refine lv_aload_n hx hb dX0_findOrders_183 rfl (lv_at hl 1 rfl) ?_
                  refine gc0_12 C hP q291 dX0_findOrders_184 ?_
                  refine lv_iload_n hx hb dX0_findOrders_187 rfl (lv_at hl 0 rfl) ?_
                  refine lc40 C hP (j := sx ||| (2 ^ t)) (or2 (by omega) (by omega)) dX0_findOrders_188 ?_
                  refine lv_aload_n hx hb dX0_findOrders_189 rfl (lv_at hl 1 rfl) ?_
                  refine gc0_12 C hP q291 dX0_findOrders_190 ?_
                  refine lv_iload_n hx hb dX0_findOrders_193 rfl (lv_at hl 2 rfl) ?_
                  refine lc40 C hP (j := sx) (by omega) dX0_findOrders_194 ?_
                  refine lv_aload_n hx hb dX0_findOrders_195 rfl (lv_at hl 1 rfl) ?_
                  refine gc0_2 C hP q279 dX0_findOrders_196 ?_
                  refine lv_iload_n hx hb dX0_findOrders_199 rfl (lv_at hl 3 rfl) ?_
                  refine lv_iload_n hx hb dX0_findOrders_200 rfl (lv_at hl 2 rfl) ?_
                  refine x_goR (runV (As := [.int (nI t), .int (nI sx)]) (rest := [.long (lN (mA sx)), .long (lN (mA (sx ||| (2 ^ t)))), .int (nI (sx ||| (2 ^ t))), .ref (ad 40)]) C (ct_X15_goMean l hP G t sx (by omega) (by omega)) kX15_goMean q792 q793 q794 (va_recv hX.1 hP (ci := 1) (q0 := 15) rfl cw_at15) rfl ⟨Nat.le_of_ble_eq_true rfl, Nat.le_of_ble_eq_true rfl⟩ ⟨Nat.le_of_ble_eq_true rfl, Nat.le_of_ble_eq_true rfl⟩ hl.1 (Nat.le_of_ble_eq_true rfl) dX0_findOrders_201 rfl) ?_
                  refine lv_ladd hx hb dX0_findOrders_204 ?_
                  refine x_nl (y := lN ((mA sx) + (hGo h0 t sx * (25200 / h0.su t)))) (lN_add _ _) ?_
                  refine va_mmin_long hx hb (hml.trans hl.1.symm) hown (hts _ q798) (hts _ q799) (hts _ q112) (hts _ q800) (Nat.le_of_ble_eq_true rfl) (Nat.le_of_ble_eq_true rfl) (Nat.le_of_ble_eq_true rfl) (Nat.le_of_ble_eq_true rfl) dX0_findOrders_205 ?_
                  refine x_nl (y := lN (min (mA (sx ||| (2 ^ t))) ((mA sx) + (hGo h0 t sx * (25200 / h0.su t))))) (minLN (by have := (FO_f G hF (X := sx ||| 2 ^ t) (or_ltp (by omega) (by omega))).2; omega) (by have h8 := (FO_f G hF (X := sx) (by omega)).2; have h9 := gM_le G (t := t) (S := sx) (by omega) (by omega); unfold gM at h9; omega)) ?_
                  refine sc40 (j := sx ||| (2 ^ t)) (v := lN (min (mA (sx ||| (2 ^ t))) ((mA sx) + (hGo h0 t sx * (25200 / h0.su t))))) C hW (or2 (by omega) (by omega)) dX0_findOrders_208 (fun H locs hW => ?_)
                  rw [upd_lN] at hW
                  have hP := hW.1
                  refine lv_aload_n hx hb dX0_findOrders_209 rfl (lv_at hl 1 rfl) ?_
                  refine gc0_13 C hP q292 dX0_findOrders_210 ?_
                  refine lv_iload_n hx hb dX0_findOrders_213 rfl (lv_at hl 0 rfl) ?_
                  refine lv_dup2_11 hx hb dX0_findOrders_214 rfl rfl ?_
                  refine lc41 C hP (j := sx ||| (2 ^ t)) (or2 (by omega) (by omega)) dX0_findOrders_215 ?_
                  refine lv_aload_n hx hb dX0_findOrders_216 rfl (lv_at hl 1 rfl) ?_
                  refine gc0_13 C hP q292 dX0_findOrders_217 ?_
                  refine lv_iload_n hx hb dX0_findOrders_220 rfl (lv_at hl 2 rfl) ?_
                  refine lc41 C hP (j := sx) (by omega) dX0_findOrders_221 ?_
                  refine lv_iadd hx hb dX0_findOrders_222 ?_
                  refine x_ni (y := nI ((wA (sx ||| (2 ^ t))) + (wA sx))) (nI_add _ _) ?_
                  refine sc41 (j := sx ||| (2 ^ t)) (v := nI ((wA (sx ||| (2 ^ t))) + (wA sx))) C hW (or2 (by omega) (by omega)) dX0_findOrders_223 (fun H locs hW => ?_)
                  rw [upd_nI] at hW
                  have hP := hW.1
                  refine lv_iinc (v := nI (t + 1)) (lv' := [(2, .int (nI (t + 1))), (3, .int (nI (sx ||| (2 ^ t)))), (0, .ref (ad 0)), (1, .int (nI sx))]) hx hb dX0_findOrders_224 hl (k := 3) rfl (nI_add _ 1) (by decide) rfl (fun ls hl => ?_)
                  refine lv_goto (tgt := 109) hx hb dX0_findOrders_227 (by decide) ?_
                  exact ih_L3 (t + 1) (fu fA (sx ||| (2 ^ t)) (min (fA (sx ||| (2 ^ t))) ((fA sx) + (hGo h0 t sx)))) (fu mA (sx ||| (2 ^ t)) (min (mA (sx ||| (2 ^ t))) ((mA sx) + (hGo h0 t sx * (25200 / h0.su t))))) (fu wA (sx ||| (2 ^ t)) ((wA (sx ||| (2 ^ t))) + (wA sx))) _ _ hW _ (by first | omega | (simp only []; omega)) (by omega) (FO_take G hF (by omega) (by omega) (Nat.pos_of_ne_zero c_126) c_138) (lv_sub hl [2, 3, 0] rfl)
        refine lv_iconst (v := nI 0) hx hb dX0_findOrders_107 (by decide) ?_
        refine lv_istore_n (lv' := [(2, .int (nI 0)), (0, .ref (ad 0)), (1, .int (nI sx))]) hx hb dX0_findOrders_108 rfl hl (by decide) rfl (fun ls hl => ?_)
        exact L3 _ 0 fA mA wA _ _ hW _ (Nat.lt_succ_self _) (Nat.zero_le _) hF (lv_sub hl [1, 2, 0] rfl)
  have L : ∀ (n : Nat) (i : Nat) (fA : Nat → Nat) (mA : Nat → Nat) (wA : Nat → Nat) (H : Heap) (locs : List Loc), Wd g A H0 (cw g ad h0 h1 h2 hi ro rn lt ln rf (fun j => nI (fA j)) (fun j => lN (mA j)) (fun j => nI (wA j)) tg od tk mt) H locs → ∀ (ls : Array Slot), whole h0 + 1 - i < n → (i ≤ whole h0 + 1) → (FI h0 i fA mA wA) → lv_has ls 4 [(0, .ref (ad 0)), (1, .int (nI i))] → W p l e (rmZ 5 0 0 111) s m args below meth c H locs 0 0 (MQ below (QV (fun v H1 => v = none ∧ ∃ (fA : Nat → Nat), ∃ (mA : Nat → Nat), ∃ (wA : Nat → Nat), FOI h0 (2 ^ h0.th) 0 fA mA wA ∧ Wd g A H0 (cw g ad h0 h1 h2 hi ro rn lt ln rf (fun j => nI (fA j)) (fun j => lN (mA j)) (fun j => nI (wA j)) tg od tk mt) H1 [])) args s 0 0 A) (F0 m 2 ls []) := by
    intro n
    induction n with
    | zero =>
      intro i fA mA wA H locs hW ls hm
      exact absurd hm (Nat.not_lt_zero _)
    | succ n ih_L =>
      intro i fA mA wA H locs hW ls hm_L hi hI hl
      have hP := hW.1
      refine lv_iload_n hx hb dX0_findOrders_2 rfl (lv_at hl 1 rfl) ?_
      refine lv_aload_n hx hb dX0_findOrders_3 rfl (lv_at hl 0 rfl) ?_
      refine gc0_2 C hP q279 dX0_findOrders_4 ?_
      refine x_goR (runV (As := []) (rest := [.int (nI i)]) C (ct_X15_whole l hP G) kX15_whole q760 q761 q762 (va_recv hX.1 hP (ci := 1) (q0 := 15) rfl cw_at15) rfl ⟨Nat.le_of_ble_eq_true rfl, Nat.le_of_ble_eq_true rfl⟩ ⟨Nat.le_of_ble_eq_true rfl, Nat.le_of_ble_eq_true rfl⟩ hl.1 (Nat.le_of_ble_eq_true rfl) dX0_findOrders_7 rfl) ?_
      refine xn_gt (a := i) (b := whole h0) (tgt := 88) hx hb dX0_findOrders_10 (by decide) (by omega) (by omega) (fun c_10 => ?_) (fun c_10 => ?_)
      · skip
        refine lv_aload_n hx hb dX0_findOrders_88 rfl (lv_at hl 0 rfl) ?_
        refine gc0_2 C hP q279 dX0_findOrders_89 ?_
        refine gc15_7n C hP q253 dX0_findOrders_92 ?_
        refine lv_istore_n (lv' := [(1, .int (nI h0.ha)), (0, .ref (ad 0))]) hx hb dX0_findOrders_95 rfl hl (by decide) rfl (fun ls hl => ?_)
        exact L2 _ h0.ha fA mA wA _ _ hW _ (Nat.lt_succ_self _) (by omega) (FI_end G hI (by omega)) (lv_sub hl [1, 0] rfl)
      · skip
        refine lv_aload_n hx hb dX0_findOrders_13 rfl (lv_at hl 0 rfl) ?_
        refine gc0_11 C hP q290 dX0_findOrders_14 ?_
        refine lv_iload_n hx hb dX0_findOrders_17 rfl (lv_at hl 1 rfl) ?_
        refine lv_iload_n hx hb dX0_findOrders_18 rfl (lv_at hl 1 rfl) ?_
        refine lv_aload_n hx hb dX0_findOrders_19 rfl (lv_at hl 0 rfl) ?_
        refine gc0_2 C hP q279 dX0_findOrders_20 ?_
        refine gc15_7n C hP q253 dX0_findOrders_23 ?_
        refine xn_ne (a := i) (b := h0.ha) (tgt := 33) hx hb dX0_findOrders_26 (by decide) (by omega) (by omega) (fun c_26 => ?_) (fun c_26 => ?_)
        · skip
          refine lv_ldc (v := nI 1000000) hx hb hown (hts _ q789) dX0_findOrders_33 ?_
          refine sc39 (j := i) (v := nI 1000000) C hW (by omega) dX0_findOrders_35 (fun H locs hW => ?_)
          rw [upd_nI] at hW
          have hP := hW.1
          refine lv_aload_n hx hb dX0_findOrders_36 rfl (lv_at hl 0 rfl) ?_
          refine gc0_12 C hP q291 dX0_findOrders_37 ?_
          refine lv_iload_n hx hb dX0_findOrders_40 rfl (lv_at hl 1 rfl) ?_
          refine lv_iload_n hx hb dX0_findOrders_41 rfl (lv_at hl 1 rfl) ?_
          refine lv_aload_n hx hb dX0_findOrders_42 rfl (lv_at hl 0 rfl) ?_
          refine gc0_2 C hP q279 dX0_findOrders_43 ?_
          refine gc15_7n C hP q253 dX0_findOrders_46 ?_
          refine xn_ne (a := i) (b := h0.ha) (tgt := 56) hx hb dX0_findOrders_49 (by decide) (by omega) (by omega) (fun c_49 => ?_) (fun c_49 => ?_)
          · skip
            refine lv_ldc2 (v := lN 1000000000000) hx hb hown (hts _ q790) dX0_findOrders_56 ?_
            refine sc40 (j := i) (v := lN 1000000000000) C hW (by omega) dX0_findOrders_59 (fun H locs hW => ?_)
            rw [upd_lN] at hW
            have hP := hW.1
            refine lv_aload_n hx hb dX0_findOrders_60 rfl (lv_at hl 0 rfl) ?_
            refine gc0_13 C hP q292 dX0_findOrders_61 ?_
            refine lv_iload_n hx hb dX0_findOrders_64 rfl (lv_at hl 1 rfl) ?_
            refine lv_iload_n hx hb dX0_findOrders_65 rfl (lv_at hl 1 rfl) ?_
            refine lv_aload_n hx hb dX0_findOrders_66 rfl (lv_at hl 0 rfl) ?_
            refine gc0_2 C hP q279 dX0_findOrders_67 ?_
            refine gc15_7n C hP q253 dX0_findOrders_70 ?_
            refine xn_ne (a := i) (b := h0.ha) (tgt := 80) hx hb dX0_findOrders_73 (by decide) (by omega) (by omega) (fun c_73 => ?_) (fun c_73 => ?_)
            · skip
              refine lv_iconst (v := nI 0) hx hb dX0_findOrders_80 (by decide) ?_
              refine sc41 (j := i) (v := nI 0) C hW (by omega) dX0_findOrders_81 (fun H locs hW => ?_)
              rw [upd_nI] at hW
              have hP := hW.1
              refine lv_iinc (v := nI (i + 1)) (lv' := [(1, .int (nI (i + 1))), (0, .ref (ad 0))]) hx hb dX0_findOrders_82 hl (k := 1) rfl (nI_add _ 1) (by decide) rfl (fun ls hl => ?_)
              refine lv_goto (tgt := 2) hx hb dX0_findOrders_85 (by decide) ?_
              exact ih_L (i + 1) (fu fA i 1000000) (fu mA i 1000000000000) (fu wA i 0) _ _ hW _ (by first | omega | (simp only []; omega)) (by omega) (FI_step hI (by simp [c_26]) (by simp [c_49]) (by simp [c_73])) (lv_sub hl [1, 0] rfl)
            · skip
              refine lv_iconst (v := nI 1) hx hb dX0_findOrders_76 (by decide) ?_
              refine lv_goto (tgt := 81) hx hb dX0_findOrders_77 (by decide) ?_
              refine sc41 (j := i) (v := nI 1) C hW (by omega) dX0_findOrders_81 (fun H locs hW => ?_)
              rw [upd_nI] at hW
              have hP := hW.1
              refine lv_iinc (v := nI (i + 1)) (lv' := [(1, .int (nI (i + 1))), (0, .ref (ad 0))]) hx hb dX0_findOrders_82 hl (k := 1) rfl (nI_add _ 1) (by decide) rfl (fun ls hl => ?_)
              refine lv_goto (tgt := 2) hx hb dX0_findOrders_85 (by decide) ?_
              exact ih_L (i + 1) (fu fA i 1000000) (fu mA i 1000000000000) (fu wA i 1) _ _ hW _ (by first | omega | (simp only []; omega)) (by omega) (FI_step hI (by simp [c_26]) (by simp [c_49]) (by simp [c_73])) (lv_sub hl [1, 0] rfl)
          · skip
            refine lv_lconst (v := lN 0) hx hb dX0_findOrders_52 (by decide) ?_
            refine lv_goto (tgt := 59) hx hb dX0_findOrders_53 (by decide) ?_
            refine sc40 (j := i) (v := lN 0) C hW (by omega) dX0_findOrders_59 (fun H locs hW => ?_)
            rw [upd_lN] at hW
            have hP := hW.1
            refine lv_aload_n hx hb dX0_findOrders_60 rfl (lv_at hl 0 rfl) ?_
            refine gc0_13 C hP q292 dX0_findOrders_61 ?_
            refine lv_iload_n hx hb dX0_findOrders_64 rfl (lv_at hl 1 rfl) ?_
            refine lv_iload_n hx hb dX0_findOrders_65 rfl (lv_at hl 1 rfl) ?_
            refine lv_aload_n hx hb dX0_findOrders_66 rfl (lv_at hl 0 rfl) ?_
            refine gc0_2 C hP q279 dX0_findOrders_67 ?_
            refine gc15_7n C hP q253 dX0_findOrders_70 ?_
            refine xn_ne (a := i) (b := h0.ha) (tgt := 80) hx hb dX0_findOrders_73 (by decide) (by omega) (by omega) (fun c_73 => ?_) (fun c_73 => ?_)
            · skip
              refine lv_iconst (v := nI 0) hx hb dX0_findOrders_80 (by decide) ?_
              refine sc41 (j := i) (v := nI 0) C hW (by omega) dX0_findOrders_81 (fun H locs hW => ?_)
              rw [upd_nI] at hW
              have hP := hW.1
              refine lv_iinc (v := nI (i + 1)) (lv' := [(1, .int (nI (i + 1))), (0, .ref (ad 0))]) hx hb dX0_findOrders_82 hl (k := 1) rfl (nI_add _ 1) (by decide) rfl (fun ls hl => ?_)
              refine lv_goto (tgt := 2) hx hb dX0_findOrders_85 (by decide) ?_
              exact ih_L (i + 1) (fu fA i 1000000) (fu mA i 0) (fu wA i 0) _ _ hW _ (by first | omega | (simp only []; omega)) (by omega) (FI_step hI (by simp [c_26]) (by simp [c_49]) (by simp [c_73])) (lv_sub hl [1, 0] rfl)
            · skip
              refine lv_iconst (v := nI 1) hx hb dX0_findOrders_76 (by decide) ?_
              refine lv_goto (tgt := 81) hx hb dX0_findOrders_77 (by decide) ?_
              refine sc41 (j := i) (v := nI 1) C hW (by omega) dX0_findOrders_81 (fun H locs hW => ?_)
              rw [upd_nI] at hW
              have hP := hW.1
              refine lv_iinc (v := nI (i + 1)) (lv' := [(1, .int (nI (i + 1))), (0, .ref (ad 0))]) hx hb dX0_findOrders_82 hl (k := 1) rfl (nI_add _ 1) (by decide) rfl (fun ls hl => ?_)
              refine lv_goto (tgt := 2) hx hb dX0_findOrders_85 (by decide) ?_
              exact ih_L (i + 1) (fu fA i 1000000) (fu mA i 0) (fu wA i 1) _ _ hW _ (by first | omega | (simp only []; omega)) (by omega) (FI_step hI (by simp [c_26]) (by simp [c_49]) (by simp [c_73])) (lv_sub hl [1, 0] rfl)
        · skip
          refine lv_iconst (v := nI 0) hx hb dX0_findOrders_29 (by decide) ?_
          refine lv_goto (tgt := 35) hx hb dX0_findOrders_30 (by decide) ?_
          refine sc39 (j := i) (v := nI 0) C hW (by omega) dX0_findOrders_35 (fun H locs hW => ?_)
          rw [upd_nI] at hW
          have hP := hW.1
          refine lv_aload_n hx hb dX0_findOrders_36 rfl (lv_at hl 0 rfl) ?_
          refine gc0_12 C hP q291 dX0_findOrders_37 ?_
          refine lv_iload_n hx hb dX0_findOrders_40 rfl (lv_at hl 1 rfl) ?_
          refine lv_iload_n hx hb dX0_findOrders_41 rfl (lv_at hl 1 rfl) ?_
          refine lv_aload_n hx hb dX0_findOrders_42 rfl (lv_at hl 0 rfl) ?_
          refine gc0_2 C hP q279 dX0_findOrders_43 ?_
          refine gc15_7n C hP q253 dX0_findOrders_46 ?_
          refine xn_ne (a := i) (b := h0.ha) (tgt := 56) hx hb dX0_findOrders_49 (by decide) (by omega) (by omega) (fun c_49 => ?_) (fun c_49 => ?_)
          · skip
            refine lv_ldc2 (v := lN 1000000000000) hx hb hown (hts _ q790) dX0_findOrders_56 ?_
            refine sc40 (j := i) (v := lN 1000000000000) C hW (by omega) dX0_findOrders_59 (fun H locs hW => ?_)
            rw [upd_lN] at hW
            have hP := hW.1
            refine lv_aload_n hx hb dX0_findOrders_60 rfl (lv_at hl 0 rfl) ?_
            refine gc0_13 C hP q292 dX0_findOrders_61 ?_
            refine lv_iload_n hx hb dX0_findOrders_64 rfl (lv_at hl 1 rfl) ?_
            refine lv_iload_n hx hb dX0_findOrders_65 rfl (lv_at hl 1 rfl) ?_
            refine lv_aload_n hx hb dX0_findOrders_66 rfl (lv_at hl 0 rfl) ?_
            refine gc0_2 C hP q279 dX0_findOrders_67 ?_
            refine gc15_7n C hP q253 dX0_findOrders_70 ?_
            refine xn_ne (a := i) (b := h0.ha) (tgt := 80) hx hb dX0_findOrders_73 (by decide) (by omega) (by omega) (fun c_73 => ?_) (fun c_73 => ?_)
            · skip
              refine lv_iconst (v := nI 0) hx hb dX0_findOrders_80 (by decide) ?_
              refine sc41 (j := i) (v := nI 0) C hW (by omega) dX0_findOrders_81 (fun H locs hW => ?_)
              rw [upd_nI] at hW
              have hP := hW.1
              refine lv_iinc (v := nI (i + 1)) (lv' := [(1, .int (nI (i + 1))), (0, .ref (ad 0))]) hx hb dX0_findOrders_82 hl (k := 1) rfl (nI_add _ 1) (by decide) rfl (fun ls hl => ?_)
              refine lv_goto (tgt := 2) hx hb dX0_findOrders_85 (by decide) ?_
              exact ih_L (i + 1) (fu fA i 0) (fu mA i 1000000000000) (fu wA i 0) _ _ hW _ (by first | omega | (simp only []; omega)) (by omega) (FI_step hI (by simp [c_26]) (by simp [c_49]) (by simp [c_73])) (lv_sub hl [1, 0] rfl)
            · skip
              refine lv_iconst (v := nI 1) hx hb dX0_findOrders_76 (by decide) ?_
              refine lv_goto (tgt := 81) hx hb dX0_findOrders_77 (by decide) ?_
              refine sc41 (j := i) (v := nI 1) C hW (by omega) dX0_findOrders_81 (fun H locs hW => ?_)
              rw [upd_nI] at hW
              have hP := hW.1
              refine lv_iinc (v := nI (i + 1)) (lv' := [(1, .int (nI (i + 1))), (0, .ref (ad 0))]) hx hb dX0_findOrders_82 hl (k := 1) rfl (nI_add _ 1) (by decide) rfl (fun ls hl => ?_)
              refine lv_goto (tgt := 2) hx hb dX0_findOrders_85 (by decide) ?_
              exact ih_L (i + 1) (fu fA i 0) (fu mA i 1000000000000) (fu wA i 1) _ _ hW _ (by first | omega | (simp only []; omega)) (by omega) (FI_step hI (by simp [c_26]) (by simp [c_49]) (by simp [c_73])) (lv_sub hl [1, 0] rfl)
          · skip
            refine lv_lconst (v := lN 0) hx hb dX0_findOrders_52 (by decide) ?_
            refine lv_goto (tgt := 59) hx hb dX0_findOrders_53 (by decide) ?_
            refine sc40 (j := i) (v := lN 0) C hW (by omega) dX0_findOrders_59 (fun H locs hW => ?_)
            rw [upd_lN] at hW
            have hP := hW.1
            refine lv_aload_n hx hb dX0_findOrders_60 rfl (lv_at hl 0 rfl) ?_
            refine gc0_13 C hP q292 dX0_findOrders_61 ?_
            refine lv_iload_n hx hb dX0_findOrders_64 rfl (lv_at hl 1 rfl) ?_
            refine lv_iload_n hx hb dX0_findOrders_65 rfl (lv_at hl 1 rfl) ?_
            refine lv_aload_n hx hb dX0_findOrders_66 rfl (lv_at hl 0 rfl) ?_
            refine gc0_2 C hP q279 dX0_findOrders_67 ?_
            refine gc15_7n C hP q253 dX0_findOrders_70 ?_
            refine xn_ne (a := i) (b := h0.ha) (tgt := 80) hx hb dX0_findOrders_73 (by decide) (by omega) (by omega) (fun c_73 => ?_) (fun c_73 => ?_)
            · skip
              refine lv_iconst (v := nI 0) hx hb dX0_findOrders_80 (by decide) ?_
              refine sc41 (j := i) (v := nI 0) C hW (by omega) dX0_findOrders_81 (fun H locs hW => ?_)
              rw [upd_nI] at hW
              have hP := hW.1
              refine lv_iinc (v := nI (i + 1)) (lv' := [(1, .int (nI (i + 1))), (0, .ref (ad 0))]) hx hb dX0_findOrders_82 hl (k := 1) rfl (nI_add _ 1) (by decide) rfl (fun ls hl => ?_)
              refine lv_goto (tgt := 2) hx hb dX0_findOrders_85 (by decide) ?_
              exact ih_L (i + 1) (fu fA i 0) (fu mA i 0) (fu wA i 0) _ _ hW _ (by first | omega | (simp only []; omega)) (by omega) (FI_step hI (by simp [c_26]) (by simp [c_49]) (by simp [c_73])) (lv_sub hl [1, 0] rfl)
            · skip
              refine lv_iconst (v := nI 1) hx hb dX0_findOrders_76 (by decide) ?_
              refine lv_goto (tgt := 81) hx hb dX0_findOrders_77 (by decide) ?_
              refine sc41 (j := i) (v := nI 1) C hW (by omega) dX0_findOrders_81 (fun H locs hW => ?_)
              rw [upd_nI] at hW
              have hP := hW.1
              refine lv_iinc (v := nI (i + 1)) (lv' := [(1, .int (nI (i + 1))), (0, .ref (ad 0))]) hx hb dX0_findOrders_82 hl (k := 1) rfl (nI_add _ 1) (by decide) rfl (fun ls hl => ?_)
              refine lv_goto (tgt := 2) hx hb dX0_findOrders_85 (by decide) ?_
              exact ih_L (i + 1) (fu fA i 0) (fu mA i 0) (fu wA i 1) _ _ hW _ (by first | omega | (simp only []; omega)) (by omega) (FI_step hI (by simp [c_26]) (by simp [c_49]) (by simp [c_73])) (lv_sub hl [1, 0] rfl)
  refine lv_iconst (v := nI 0) hx hb dX0_findOrders_0 (by decide) ?_
  refine lv_istore_n (lv' := [(1, .int (nI 0)), (0, .ref (ad 0))]) hx hb dX0_findOrders_1 rfl hl (by decide) rfl (fun ls hl => ?_)
  exact L _ 0 (fun j => tN (fw j)) (fun j => tL (mn j)) (fun j => tN (wy j)) _ _ hW _ (Nat.lt_succ_self _) (Nat.zero_le _) (fun X h => absurd h (Nat.not_lt_zero _)) (lv_sub hl [1, 0] rfl)
theorem kX0_findOrders : Cal yX0_findOrders cX0_findOrders 4 none 0 := ⟨q788, q81, by decide, by decide +kernel⟩
