/-! the reference, walked: part 26 (printed by gen/gen.py) -/
set_option maxRecDepth 100000
set_option maxHeartbeats 4000000 in
theorem m_X2_sign (la : Launch) (G : zG) (ad : Nat → Nat) (h : Nat → Nat) (F : Nat → Nat → Nat → Nat) (ps : Nat → zRS) (sn : zRS) (iv pd : Nat → Nat) (sp : Nat → Int) (p : Nat) (g0 : iv 2 ≤ 60) (g1 : p < 2000) : zRd la yX2_sign cX2_sign 2 (some .int) 0 0 G [.ref (ad 0), .int (iI ((p : Nat) : Int))] (zRf G ad ((h, F), ps, sn, iv, pd, sp)) (fun v9 => v9 = some (.int (iI (tSg pd (iv 2) p)))) := by
  refine zRd.of [some (.ref (ad 0)), some (.int (iI ((p : Nat) : Int)))] (by decide) (Nat.le_of_ble_eq_true rfl) rfl (fun X hl hC hRm hP hE => ?_)
  refine zx_iload_n hC dX2_sign_0 rfl ?_
  refine zx_aload_n hC dX2_sign_1 rfl ?_
  refine zr_get (v := .int (iI ((iv 2 : Nat) : Int))) hC hP.eq 6 (by decide) dX2_sign_2 q1616 rfl ?_
  refine zx_icmp_ge (tgt := 17) hC dX2_sign_5 (by decide) (by first | assumption | exact gI _ (by omega) | exact iRm (by omega) (by omega)) (by first | assumption | exact gI _ (by omega) | exact iRm (by omega) (by omega)) (fun c5 => ?_) (fun c5 => ?_)
  · refine zx_iconst (z := (-1)) hC dX2_sign_17 ?_
    refine zx_topi (b := tSg pd (iv 2) p) (by unfold tSg; first | (rw [if_pos (by omega)]; first | done | rfl) | (rw [if_neg (by omega)]; first | done | rfl)) ?_
    exact zx_iret hC hE (Nat.le_refl _) (Nat.le_refl _) (fun H h => ⟨h, rfl⟩) dX2_sign_18
  · refine zx_aload_n hC dX2_sign_8 rfl ?_
    refine zr_get (v := .ref (ad 4)) hC hP.eq 5 (by decide) dX2_sign_9 q1615 rfl ?_
    refine zx_iload_n hC dX2_sign_12 rfl ?_
    refine zr_padN hC hP.eq p dX2_sign_13 (by omega) ?_
    refine zx_goto (tgt := 18) hC dX2_sign_14 (by decide) ?_
    refine zx_topi (b := tSg pd (iv 2) p) (by unfold tSg; first | (rw [if_pos (by omega)]; first | done | rfl) | (rw [if_neg (by omega)]; first | done | rfl)) ?_
    exact zx_iret hC hE (Nat.le_refl _) (Nat.le_refl _) (fun H h => ⟨h, rfl⟩) dX2_sign_18
set_option maxHeartbeats 4000000 in
theorem m_X2_digit (la : Launch) (G : zG) (ad : Nat → Nat) (h : Nat → Nat) (F : Nat → Nat → Nat → Nat) (ps : Nat → zRS) (sn : zRS) (iv pd : Nat → Nat) (sp : Nat → Int) (p : Nat) (g0 : iv 2 ≤ 60) (g1 : p < 2000) (gP : tPd pd) : zRd la yX2_digit cX2_digit 2 (some .int) 1 22 G [.ref (ad 0), .int (iI ((p : Nat) : Int))] (zRf G ad ((h, F), ps, sn, iv, pd, sp)) (fun v9 => v9 = some (.int (iI (tDg pd (iv 2) p)))) := by
  refine zRd.of [some (.ref (ad 0)), some (.int (iI ((p : Nat) : Int)))] (by decide) (Nat.le_of_ble_eq_true rfl) rfl (fun X hl hC hRm hP hE => ?_)
  have gs := tSg_r gP (iv 2) p
  refine zx_aload_n hC dX2_digit_0 rfl ?_
  refine zx_iload_n hC dX2_digit_1 rfl ?_
  refine zx_rd1 (r := .int (iI (tSg pd (iv 2) p))) hC zNoA (zcV 1 (As := [.int (iI ((p : Nat) : Int))]) hC (lw_V q1827 q1829 qs64 q93 q1830) (by decide +kernel) rfl (by rw [hRm]; decide) (by rw [hRm]; decide) rfl (Nat.le_of_ble_eq_true rfl) dX2_digit_2) (m_X2_sign (zl X) G ad h F ps sn iv pd sp p (by first | assumption | omega | exact iRm (by omega) (by omega) | ((repeat (first | exact gL | refine rLs.up ?_ (by omega) (by omega) | refine rLs.fad ?_)); done) | ((repeat (first | exact gM | refine rHM.up ?_ (by omega))); done) | exact gT _ (by omega) | exact rFadF_le gF _ | ((repeat first | rw [va_up_ne _ _ (by omega)] | rw [va_up_self] | rw [rFadH_o (by omega)] | rw [rAge_o _ _ (by omega)] | rw [rLayH_o (by omega) (by omega) (by omega) (by omega)]); omega)) (by first | assumption | omega | exact iRm (by omega) (by omega) | ((repeat (first | exact gL | refine rLs.up ?_ (by omega) (by omega) | refine rLs.fad ?_)); done) | ((repeat (first | exact gM | refine rHM.up ?_ (by omega))); done) | exact gT _ (by omega) | exact rFadF_le gF _ | ((repeat first | rw [va_up_ne _ _ (by omega)] | rw [va_up_self] | rw [rFadH_o (by omega)] | rw [rAge_o _ _ (by omega)] | rw [rLayH_o (by omega) (by omega) (by omega) (by omega)]); omega))) (zr_rc hC hP.eq) hP.eq ?_
  refine zx_bipush (z := 48) hC dX2_digit_5 rfl ?_
  refine zx_bipush (z := 57) hC dX2_digit_7 rfl ?_
  refine zx_rd1 (r := .int (iI (zB (48 ≤ (tSg pd (iv 2) p) ∧ (tSg pd (iv 2) p) ≤ 57)))) hC zNoA (zcS 3 (As := [.int (iI (tSg pd (iv 2) p)), .int (iI 48), .int (iI 57)]) hC (lw_S q1743 q1744 q93 q1745) (by decide +kernel) rfl (by rw [hRm]; decide) (by rw [hRm]; decide) rfl (Nat.le_of_ble_eq_true rfl) dX2_digit_9) (m_X2_in (zl X) G (tSg pd (iv 2) p) 48 57 (by first | assumption | omega | exact iRm (by omega) (by omega) | ((repeat (first | exact gL | refine rLs.up ?_ (by omega) (by omega) | refine rLs.fad ?_)); done) | ((repeat (first | exact gM | refine rHM.up ?_ (by omega))); done) | exact gT _ (by omega) | exact rFadF_le gF _ | ((repeat first | rw [va_up_ne _ _ (by omega)] | rw [va_up_self] | rw [rFadH_o (by omega)] | rw [rAge_o _ _ (by omega)] | rw [rLayH_o (by omega) (by omega) (by omega) (by omega)]); omega)) (by first | assumption | omega | exact iRm (by omega) (by omega) | ((repeat (first | exact gL | refine rLs.up ?_ (by omega) (by omega) | refine rLs.fad ?_)); done) | ((repeat (first | exact gM | refine rHM.up ?_ (by omega))); done) | exact gT _ (by omega) | exact rFadF_le gF _ | ((repeat first | rw [va_up_ne _ _ (by omega)] | rw [va_up_self] | rw [rFadH_o (by omega)] | rw [rAge_o _ _ (by omega)] | rw [rLayH_o (by omega) (by omega) (by omega) (by omega)]); omega)) (by first | assumption | omega | exact iRm (by omega) (by omega) | ((repeat (first | exact gL | refine rLs.up ?_ (by omega) (by omega) | refine rLs.fad ?_)); done) | ((repeat (first | exact gM | refine rHM.up ?_ (by omega))); done) | exact gT _ (by omega) | exact rFadF_le gF _ | ((repeat first | rw [va_up_ne _ _ (by omega)] | rw [va_up_self] | rw [rFadH_o (by omega)] | rw [rAge_o _ _ (by omega)] | rw [rLayH_o (by omega) (by omega) (by omega) (by omega)]); omega))) (fun _ _ => trivial) (fun _ _ => trivial) ?_
  refine zx_if_eqB (tgt := 26) hC dX2_digit_12 (by decide)  (fun c12 => ?_) (fun c12 => ?_)
  · refine zx_iconst (z := (-1)) hC dX2_digit_26 ?_
    refine zx_topi (b := tDg pd (iv 2) p) (by unfold tDg; first | (rw [if_pos (by omega)]; first | done | rfl) | (rw [if_neg (by omega)]; first | done | rfl)) ?_
    exact zx_iret hC hE (Nat.le_refl _) (Nat.le_refl _) (fun H h => ⟨h, rfl⟩) dX2_digit_27
  · refine zx_aload_n hC dX2_digit_15 rfl ?_
    refine zx_iload_n hC dX2_digit_16 rfl ?_
    refine zx_rd1 (r := .int (iI (tSg pd (iv 2) p))) hC zNoA (zcV 1 (As := [.int (iI ((p : Nat) : Int))]) hC (lw_V q1827 q1829 qs64 q93 q1830) (by decide +kernel) rfl (by rw [hRm]; decide) (by rw [hRm]; decide) rfl (Nat.le_of_ble_eq_true rfl) dX2_digit_17) (m_X2_sign (zl X) G ad h F ps sn iv pd sp p (by first | assumption | omega | exact iRm (by omega) (by omega) | ((repeat (first | exact gL | refine rLs.up ?_ (by omega) (by omega) | refine rLs.fad ?_)); done) | ((repeat (first | exact gM | refine rHM.up ?_ (by omega))); done) | exact gT _ (by omega) | exact rFadF_le gF _ | ((repeat first | rw [va_up_ne _ _ (by omega)] | rw [va_up_self] | rw [rFadH_o (by omega)] | rw [rAge_o _ _ (by omega)] | rw [rLayH_o (by omega) (by omega) (by omega) (by omega)]); omega)) (by first | assumption | omega | exact iRm (by omega) (by omega) | ((repeat (first | exact gL | refine rLs.up ?_ (by omega) (by omega) | refine rLs.fad ?_)); done) | ((repeat (first | exact gM | refine rHM.up ?_ (by omega))); done) | exact gT _ (by omega) | exact rFadF_le gF _ | ((repeat first | rw [va_up_ne _ _ (by omega)] | rw [va_up_self] | rw [rFadH_o (by omega)] | rw [rAge_o _ _ (by omega)] | rw [rLayH_o (by omega) (by omega) (by omega) (by omega)]); omega))) (zr_rc hC hP.eq) hP.eq ?_
    refine zx_bipush (z := 48) hC dX2_digit_20 rfl ?_
    refine zx_isub hC dX2_digit_22 ?_
    refine zx_goto (tgt := 27) hC dX2_digit_23 (by decide) ?_
    refine zx_topi (b := tDg pd (iv 2) p) (by unfold tDg; first | (rw [if_pos (by omega)]; first | done | rfl) | (rw [if_neg (by omega)]; first | done | rfl)) ?_
    exact zx_iret hC hE (Nat.le_refl _) (Nat.le_refl _) (fun H h => ⟨h, rfl⟩) dX2_digit_27
set_option maxHeartbeats 4000000 in
theorem m_X2_numberEnd (la : Launch) (G : zG) (ad : Nat → Nat) (h : Nat → Nat) (F : Nat → Nat → Nat → Nat) (ps : Nat → zRS) (sn : zRS) (iv pd : Nat → Nat) (sp : Nat → Int) (p : Int) (least : Nat) (most : Nat) (g0 : iv 2 ≤ 60) (g1 : -3000 ≤ p) (g2 : p ≤ 1300) (g3 : least ≤ 1) (g4 : most ≤ 999) (gP : tPd pd) : zRd la yX2_numberEnd cX2_numberEnd 6 (some .int) 2 43 G [.ref (ad 0), .int (iI p), .int (iI ((least : Nat) : Int)), .int (iI ((most : Nat) : Int))] (zRf G ad ((h, F), ps, sn, iv, pd, sp)) (fun v9 => v9 = some (.int (iI (tNuE pd (iv 2) p least most)))) := by
  refine zRd.of [some (.ref (ad 0)), some (.int (iI p)), some (.int (iI ((least : Nat) : Int))), some (.int (iI ((most : Nat) : Int))), none, none] (by decide) (Nat.le_of_ble_eq_true rfl) rfl (fun X hl hC hRm hP hE => ?_)
  refine zx_iload_n hC dX2_numberEnd_0 rfl ?_
  refine zx_if_ge (tgt := 6) hC dX2_numberEnd_1 (by decide) (by first | assumption | exact gI _ (by omega) | exact iRm (by omega) (by omega)) (fun c1 => ?_) (fun c1 => ?_)
  · obtain ⟨q, rfl⟩ : ∃ q : Nat, p = (q : Int) := ⟨p.toNat, by omega⟩
    have gd := tDg_r pd (iv 2) q
    refine zx_aload_n hC dX2_numberEnd_6 rfl ?_
    refine zx_iload_n hC dX2_numberEnd_7 rfl ?_
    refine zx_rd1 (r := .int (iI (tDg pd (iv 2) q))) hC zNoA (zcV 1 (As := [.int (iI ((q : Nat) : Int))]) hC (lw_V q1835 q1837 qs66 q93 q1838) (by decide +kernel) rfl (by rw [hRm]; decide) (by rw [hRm]; decide) rfl (Nat.le_of_ble_eq_true rfl) dX2_numberEnd_8) (m_X2_digit (zl X) G ad h F ps sn iv pd sp q (by first | assumption | omega | exact iRm (by omega) (by omega) | ((repeat (first | exact gL | refine rLs.up ?_ (by omega) (by omega) | refine rLs.fad ?_)); done) | ((repeat (first | exact gM | refine rHM.up ?_ (by omega))); done) | exact gT _ (by omega) | exact rFadF_le gF _ | ((repeat first | rw [va_up_ne _ _ (by omega)] | rw [va_up_self] | rw [rFadH_o (by omega)] | rw [rAge_o _ _ (by omega)] | rw [rLayH_o (by omega) (by omega) (by omega) (by omega)]); omega)) (by first | assumption | omega | exact iRm (by omega) (by omega) | ((repeat (first | exact gL | refine rLs.up ?_ (by omega) (by omega) | refine rLs.fad ?_)); done) | ((repeat (first | exact gM | refine rHM.up ?_ (by omega))); done) | exact gT _ (by omega) | exact rFadF_le gF _ | ((repeat first | rw [va_up_ne _ _ (by omega)] | rw [va_up_self] | rw [rFadH_o (by omega)] | rw [rAge_o _ _ (by omega)] | rw [rLayH_o (by omega) (by omega) (by omega) (by omega)]); omega)) (by first | assumption | omega | exact iRm (by omega) (by omega) | ((repeat (first | exact gL | refine rLs.up ?_ (by omega) (by omega) | refine rLs.fad ?_)); done) | ((repeat (first | exact gM | refine rHM.up ?_ (by omega))); done) | exact gT _ (by omega) | exact rFadF_le gF _ | ((repeat first | rw [va_up_ne _ _ (by omega)] | rw [va_up_self] | rw [rFadH_o (by omega)] | rw [rAge_o _ _ (by omega)] | rw [rLayH_o (by omega) (by omega) (by omega) (by omega)]); omega))) (zr_rc hC hP.eq) hP.eq ?_
    refine zx_istore (L' := [some (.ref (ad 0)), some (.int (iI ((q : Nat) : Int))), some (.int (iI ((least : Nat) : Int))), some (.int (iI ((most : Nat) : Int))), some (.int (iI (tDg pd (iv 2) q))), none]) hC dX2_numberEnd_11 (by decide) rfl ?_
    refine zx_iload hC dX2_numberEnd_13 rfl ?_
    refine zx_iload_n hC dX2_numberEnd_15 rfl ?_
    refine zx_icmp_ge (tgt := 23) hC dX2_numberEnd_16 (by decide) (by first | assumption | exact gI _ (by omega) | exact iRm (by omega) (by omega)) (by first | assumption | exact gI _ (by omega) | exact iRm (by omega) (by omega)) (fun c16 => ?_) (fun c16 => ?_)
    · refine zx_iload_n hC dX2_numberEnd_23 rfl ?_
      refine zx_iconst (z := 1) hC dX2_numberEnd_24 ?_
      refine zx_iadd hC dX2_numberEnd_25 ?_
      refine zx_istore (L' := [some (.ref (ad 0)), some (.int (iI ((q : Nat) : Int))), some (.int (iI ((least : Nat) : Int))), some (.int (iI ((most : Nat) : Int))), some (.int (iI (tDg pd (iv 2) q))), some (.int (iI ((q + 1 : Nat) : Int)))]) hC dX2_numberEnd_26 (by decide) rfl ?_
      have loop : ∀ (f : Nat) (v : Int) (e : Nat), iv 2 < e + f → e ≤ 1500 → 0 ≤ v → v ≤ 9999 → tNuF pd (iv 2) most f v e = tNuF pd (iv 2) most 61 (tDg pd (iv 2) q) (q + 1) → zVr X 6 28 [some (.ref (ad 0)), some (.int (iI ((q : Nat) : Int))), some (.int (iI ((least : Nat) : Int))), some (.int (iI ((most : Nat) : Int))), some (.int (iI v)), some (.int (iI ((e : Nat) : Int)))] [] := by
        intro f
        induction f with
        | zero =>
          intro v e h1 h2 h3 h4 h5
          change e = _ at h5
          have hdo : tDg pd (iv 2) e = -1 := tDg_out (by omega)
          refine zx_iload hC dX2_numberEnd_28 rfl ?_
          refine zx_if_le (tgt := 78) hC dX2_numberEnd_30 (by decide) (by first | assumption | exact gI _ (by omega) | exact iRm (by omega) (by omega)) (fun c30 => ?_) (fun c30 => ?_)
          · refine zx_iload hC dX2_numberEnd_78 rfl ?_
            refine zx_topi (b := tNuE pd (iv 2) ((q : Nat) : Int) least most) (by unfold tNuE; rw [if_neg (by omega)]; simp only [Int.toNat_natCast]; rw [if_neg (by omega), ← h5]) ?_
            exact zx_iret hC hE (Nat.le_refl _) (Nat.le_refl _) (fun H h => ⟨h, rfl⟩) dX2_numberEnd_80
          · refine zx_aload_n hC dX2_numberEnd_33 rfl ?_
            refine zx_iload hC dX2_numberEnd_34 rfl ?_
            refine zx_rd1 (r := .int (iI (tDg pd (iv 2) e))) hC zNoA (zcV 1 (As := [.int (iI ((e : Nat) : Int))]) hC (lw_V q1835 q1837 qs66 q93 q1838) (by decide +kernel) rfl (by rw [hRm]; decide) (by rw [hRm]; decide) rfl (Nat.le_of_ble_eq_true rfl) dX2_numberEnd_36) (m_X2_digit (zl X) G ad h F ps sn iv pd sp e (by first | assumption | omega | exact iRm (by omega) (by omega) | ((repeat (first | exact gL | refine rLs.up ?_ (by omega) (by omega) | refine rLs.fad ?_)); done) | ((repeat (first | exact gM | refine rHM.up ?_ (by omega))); done) | exact gT _ (by omega) | exact rFadF_le gF _ | ((repeat first | rw [va_up_ne _ _ (by omega)] | rw [va_up_self] | rw [rFadH_o (by omega)] | rw [rAge_o _ _ (by omega)] | rw [rLayH_o (by omega) (by omega) (by omega) (by omega)]); omega)) (by first | assumption | omega | exact iRm (by omega) (by omega) | ((repeat (first | exact gL | refine rLs.up ?_ (by omega) (by omega) | refine rLs.fad ?_)); done) | ((repeat (first | exact gM | refine rHM.up ?_ (by omega))); done) | exact gT _ (by omega) | exact rFadF_le gF _ | ((repeat first | rw [va_up_ne _ _ (by omega)] | rw [va_up_self] | rw [rFadH_o (by omega)] | rw [rAge_o _ _ (by omega)] | rw [rLayH_o (by omega) (by omega) (by omega) (by omega)]); omega)) (by first | assumption | omega | exact iRm (by omega) (by omega) | ((repeat (first | exact gL | refine rLs.up ?_ (by omega) (by omega) | refine rLs.fad ?_)); done) | ((repeat (first | exact gM | refine rHM.up ?_ (by omega))); done) | exact gT _ (by omega) | exact rFadF_le gF _ | ((repeat first | rw [va_up_ne _ _ (by omega)] | rw [va_up_self] | rw [rFadH_o (by omega)] | rw [rAge_o _ _ (by omega)] | rw [rLayH_o (by omega) (by omega) (by omega) (by omega)]); omega))) (zr_rc hC hP.eq) hP.eq ?_
            refine zx_if_ltT (tgt := 78) hC dX2_numberEnd_39 (by decide) (by first | assumption | exact gI _ (by omega) | exact iRm (by omega) (by omega)) (by omega) ?_
            refine zx_iload hC dX2_numberEnd_78 rfl ?_
            refine zx_topi (b := tNuE pd (iv 2) ((q : Nat) : Int) least most) (by unfold tNuE; rw [if_neg (by omega)]; simp only [Int.toNat_natCast]; rw [if_neg (by omega), ← h5]) ?_
            exact zx_iret hC hE (Nat.le_refl _) (Nat.le_refl _) (fun H h => ⟨h, rfl⟩) dX2_numberEnd_80
        | succ f ih =>
          intro v e h1 h2 h3 h4 h5
          have hd := tDg_r pd (iv 2) e
          refine zx_iload hC dX2_numberEnd_28 rfl ?_
          refine zx_if_le (tgt := 78) hC dX2_numberEnd_30 (by decide) (by first | assumption | exact gI _ (by omega) | exact iRm (by omega) (by omega)) (fun c30 => ?_) (fun c30 => ?_)
          · have h5 : e = tNuF pd (iv 2) most 61 (tDg pd (iv 2) q) (q + 1) := (show tNuF pd (iv 2) most (f + 1) v e = e from if_neg (by omega)).symm.trans h5
            refine zx_iload hC dX2_numberEnd_78 rfl ?_
            refine zx_topi (b := tNuE pd (iv 2) ((q : Nat) : Int) least most) (by unfold tNuE; rw [if_neg (by omega)]; simp only [Int.toNat_natCast]; rw [if_neg (by omega), ← h5]) ?_
            exact zx_iret hC hE (Nat.le_refl _) (Nat.le_refl _) (fun H h => ⟨h, rfl⟩) dX2_numberEnd_80
          · refine zx_aload_n hC dX2_numberEnd_33 rfl ?_
            refine zx_iload hC dX2_numberEnd_34 rfl ?_
            refine zx_rd1 (r := .int (iI (tDg pd (iv 2) e))) hC zNoA (zcV 1 (As := [.int (iI ((e : Nat) : Int))]) hC (lw_V q1835 q1837 qs66 q93 q1838) (by decide +kernel) rfl (by rw [hRm]; decide) (by rw [hRm]; decide) rfl (Nat.le_of_ble_eq_true rfl) dX2_numberEnd_36) (m_X2_digit (zl X) G ad h F ps sn iv pd sp e (by first | assumption | omega | exact iRm (by omega) (by omega) | ((repeat (first | exact gL | refine rLs.up ?_ (by omega) (by omega) | refine rLs.fad ?_)); done) | ((repeat (first | exact gM | refine rHM.up ?_ (by omega))); done) | exact gT _ (by omega) | exact rFadF_le gF _ | ((repeat first | rw [va_up_ne _ _ (by omega)] | rw [va_up_self] | rw [rFadH_o (by omega)] | rw [rAge_o _ _ (by omega)] | rw [rLayH_o (by omega) (by omega) (by omega) (by omega)]); omega)) (by first | assumption | omega | exact iRm (by omega) (by omega) | ((repeat (first | exact gL | refine rLs.up ?_ (by omega) (by omega) | refine rLs.fad ?_)); done) | ((repeat (first | exact gM | refine rHM.up ?_ (by omega))); done) | exact gT _ (by omega) | exact rFadF_le gF _ | ((repeat first | rw [va_up_ne _ _ (by omega)] | rw [va_up_self] | rw [rFadH_o (by omega)] | rw [rAge_o _ _ (by omega)] | rw [rLayH_o (by omega) (by omega) (by omega) (by omega)]); omega)) (by first | assumption | omega | exact iRm (by omega) (by omega) | ((repeat (first | exact gL | refine rLs.up ?_ (by omega) (by omega) | refine rLs.fad ?_)); done) | ((repeat (first | exact gM | refine rHM.up ?_ (by omega))); done) | exact gT _ (by omega) | exact rFadF_le gF _ | ((repeat first | rw [va_up_ne _ _ (by omega)] | rw [va_up_self] | rw [rFadH_o (by omega)] | rw [rAge_o _ _ (by omega)] | rw [rLayH_o (by omega) (by omega) (by omega) (by omega)]); omega))) (zr_rc hC hP.eq) hP.eq ?_
            refine zx_if_lt (tgt := 78) hC dX2_numberEnd_39 (by decide) (by first | assumption | exact gI _ (by omega) | exact iRm (by omega) (by omega)) (fun c39 => ?_) (fun c39 => ?_)
            · have h5 : e = tNuF pd (iv 2) most 61 (tDg pd (iv 2) q) (q + 1) := (show tNuF pd (iv 2) most (f + 1) v e = e from if_neg (by omega)).symm.trans h5
              refine zx_iload hC dX2_numberEnd_78 rfl ?_
              refine zx_topi (b := tNuE pd (iv 2) ((q : Nat) : Int) least most) (by unfold tNuE; rw [if_neg (by omega)]; simp only [Int.toNat_natCast]; rw [if_neg (by omega), ← h5]) ?_
              exact zx_iret hC hE (Nat.le_refl _) (Nat.le_refl _) (fun H h => ⟨h, rfl⟩) dX2_numberEnd_80
            · refine zx_bipush (z := 10) hC dX2_numberEnd_42 rfl ?_
              refine zx_iload hC dX2_numberEnd_44 rfl ?_
              refine zx_imul hC dX2_numberEnd_46 ?_
              refine zx_aload_n hC dX2_numberEnd_47 rfl ?_
              refine zx_iload hC dX2_numberEnd_48 rfl ?_
              refine zx_rd1 (r := .int (iI (tDg pd (iv 2) e))) hC zNoA (zcV 1 (As := [.int (iI ((e : Nat) : Int))]) hC (lw_V q1835 q1837 qs66 q93 q1838) (by decide +kernel) rfl (by rw [hRm]; decide) (by rw [hRm]; decide) rfl (Nat.le_of_ble_eq_true rfl) dX2_numberEnd_50) (m_X2_digit (zl X) G ad h F ps sn iv pd sp e (by first | assumption | omega | exact iRm (by omega) (by omega) | ((repeat (first | exact gL | refine rLs.up ?_ (by omega) (by omega) | refine rLs.fad ?_)); done) | ((repeat (first | exact gM | refine rHM.up ?_ (by omega))); done) | exact gT _ (by omega) | exact rFadF_le gF _ | ((repeat first | rw [va_up_ne _ _ (by omega)] | rw [va_up_self] | rw [rFadH_o (by omega)] | rw [rAge_o _ _ (by omega)] | rw [rLayH_o (by omega) (by omega) (by omega) (by omega)]); omega)) (by first | assumption | omega | exact iRm (by omega) (by omega) | ((repeat (first | exact gL | refine rLs.up ?_ (by omega) (by omega) | refine rLs.fad ?_)); done) | ((repeat (first | exact gM | refine rHM.up ?_ (by omega))); done) | exact gT _ (by omega) | exact rFadF_le gF _ | ((repeat first | rw [va_up_ne _ _ (by omega)] | rw [va_up_self] | rw [rFadH_o (by omega)] | rw [rAge_o _ _ (by omega)] | rw [rLayH_o (by omega) (by omega) (by omega) (by omega)]); omega)) (by first | assumption | omega | exact iRm (by omega) (by omega) | ((repeat (first | exact gL | refine rLs.up ?_ (by omega) (by omega) | refine rLs.fad ?_)); done) | ((repeat (first | exact gM | refine rHM.up ?_ (by omega))); done) | exact gT _ (by omega) | exact rFadF_le gF _ | ((repeat first | rw [va_up_ne _ _ (by omega)] | rw [va_up_self] | rw [rFadH_o (by omega)] | rw [rAge_o _ _ (by omega)] | rw [rLayH_o (by omega) (by omega) (by omega) (by omega)]); omega))) (zr_rc hC hP.eq) hP.eq ?_
              refine zx_iadd hC dX2_numberEnd_53 ?_
              refine zx_iload_n hC dX2_numberEnd_54 rfl ?_
              refine zx_icmp_gt (tgt := 78) hC dX2_numberEnd_55 (by decide) (by first | assumption | exact gI _ (by omega) | exact iRm (by omega) (by omega)) (by first | assumption | exact gI _ (by omega) | exact iRm (by omega) (by omega)) (fun c55 => ?_) (fun c55 => ?_)
              · have h5 : e = tNuF pd (iv 2) most 61 (tDg pd (iv 2) q) (q + 1) := (show tNuF pd (iv 2) most (f + 1) v e = e from if_neg (by omega)).symm.trans h5
                refine zx_iload hC dX2_numberEnd_78 rfl ?_
                refine zx_topi (b := tNuE pd (iv 2) ((q : Nat) : Int) least most) (by unfold tNuE; rw [if_neg (by omega)]; simp only [Int.toNat_natCast]; rw [if_neg (by omega), ← h5]) ?_
                exact zx_iret hC hE (Nat.le_refl _) (Nat.le_refl _) (fun H h => ⟨h, rfl⟩) dX2_numberEnd_80
              · refine zx_bipush (z := 10) hC dX2_numberEnd_58 rfl ?_
                refine zx_iload hC dX2_numberEnd_60 rfl ?_
                refine zx_imul hC dX2_numberEnd_62 ?_
                refine zx_aload_n hC dX2_numberEnd_63 rfl ?_
                refine zx_iload hC dX2_numberEnd_64 rfl ?_
                refine zx_rd1 (r := .int (iI (tDg pd (iv 2) e))) hC zNoA (zcV 1 (As := [.int (iI ((e : Nat) : Int))]) hC (lw_V q1835 q1837 qs66 q93 q1838) (by decide +kernel) rfl (by rw [hRm]; decide) (by rw [hRm]; decide) rfl (Nat.le_of_ble_eq_true rfl) dX2_numberEnd_66) (m_X2_digit (zl X) G ad h F ps sn iv pd sp e (by first | assumption | omega | exact iRm (by omega) (by omega) | ((repeat (first | exact gL | refine rLs.up ?_ (by omega) (by omega) | refine rLs.fad ?_)); done) | ((repeat (first | exact gM | refine rHM.up ?_ (by omega))); done) | exact gT _ (by omega) | exact rFadF_le gF _ | ((repeat first | rw [va_up_ne _ _ (by omega)] | rw [va_up_self] | rw [rFadH_o (by omega)] | rw [rAge_o _ _ (by omega)] | rw [rLayH_o (by omega) (by omega) (by omega) (by omega)]); omega)) (by first | assumption | omega | exact iRm (by omega) (by omega) | ((repeat (first | exact gL | refine rLs.up ?_ (by omega) (by omega) | refine rLs.fad ?_)); done) | ((repeat (first | exact gM | refine rHM.up ?_ (by omega))); done) | exact gT _ (by omega) | exact rFadF_le gF _ | ((repeat first | rw [va_up_ne _ _ (by omega)] | rw [va_up_self] | rw [rFadH_o (by omega)] | rw [rAge_o _ _ (by omega)] | rw [rLayH_o (by omega) (by omega) (by omega) (by omega)]); omega)) (by first | assumption | omega | exact iRm (by omega) (by omega) | ((repeat (first | exact gL | refine rLs.up ?_ (by omega) (by omega) | refine rLs.fad ?_)); done) | ((repeat (first | exact gM | refine rHM.up ?_ (by omega))); done) | exact gT _ (by omega) | exact rFadF_le gF _ | ((repeat first | rw [va_up_ne _ _ (by omega)] | rw [va_up_self] | rw [rFadH_o (by omega)] | rw [rAge_o _ _ (by omega)] | rw [rLayH_o (by omega) (by omega) (by omega) (by omega)]); omega))) (zr_rc hC hP.eq) hP.eq ?_
                refine zx_iadd hC dX2_numberEnd_69 ?_
                refine zx_istore (L' := [some (.ref (ad 0)), some (.int (iI ((q : Nat) : Int))), some (.int (iI ((least : Nat) : Int))), some (.int (iI ((most : Nat) : Int))), some (.int (iI ((10 * v) + (tDg pd (iv 2) e)))), some (.int (iI ((e : Nat) : Int)))]) hC dX2_numberEnd_70 (by decide) rfl ?_
                refine zx_iinc (b := ((e + 1 : Nat) : Int)) (L' := [some (.ref (ad 0)), some (.int (iI ((q : Nat) : Int))), some (.int (iI ((least : Nat) : Int))), some (.int (iI ((most : Nat) : Int))), some (.int (iI ((10 * v) + (tDg pd (iv 2) e)))), some (.int (iI ((e + 1 : Nat) : Int)))]) hC dX2_numberEnd_72 rfl (by first | rfl | omega) (by decide) rfl ?_
                refine zx_goto (tgt := 28) hC dX2_numberEnd_75 (by decide) ?_
                exact ih ((10 * v) + (tDg pd (iv 2) e)) (e + 1) (by omega) (by have := tDg_in (pd := pd) (ln := iv 2) (p := e) (by omega); omega) (by omega) (by omega) ((show tNuF pd (iv 2) most (f + 1) v e = tNuF pd (iv 2) most f (10 * v + tDg pd (iv 2) e) (e + 1) from if_pos ⟨by omega, by omega, by omega⟩).symm.trans h5)
      exact loop 61 (tDg pd (iv 2) q) (q + 1) (by omega) (by omega) (by omega) (by omega) rfl
    · refine zx_iconst (z := (-1)) hC dX2_numberEnd_19 ?_
      refine zx_iload_n hC dX2_numberEnd_20 rfl ?_
      refine zx_isub hC dX2_numberEnd_21 ?_
      refine zx_topi (b := tNuE pd (iv 2) ((q : Nat) : Int) least most) (by unfold tNuE; rw [if_neg (by omega)]; simp only [Int.toNat_natCast]; rw [if_pos (by omega)]) ?_
      exact zx_iret hC hE (Nat.le_refl _) (Nat.le_refl _) (fun H h => ⟨h, rfl⟩) dX2_numberEnd_22
  · refine zx_iload_n hC dX2_numberEnd_4 rfl ?_
    refine zx_topi (b := tNuE pd (iv 2) p least most) (by first | (unfold tNuE; rw [if_pos (by omega)]) | (unfold tNuE; rw [if_neg (by omega), if_pos (by omega)]) | (unfold tNuE; rw [if_neg (by omega), if_neg (by omega), ← h5])) ?_
    exact zx_iret hC hE (Nat.le_refl _) (Nat.le_refl _) (fun H h => ⟨h, rfl⟩) dX2_numberEnd_5
set_option maxHeartbeats 4000000 in
theorem m_X2_numberAt (la : Launch) (G : zG) (ad : Nat → Nat) (h : Nat → Nat) (F : Nat → Nat → Nat → Nat) (ps : Nat → zRS) (sn : zRS) (iv pd : Nat → Nat) (sp : Nat → Int) (p : Nat) (g0 : iv 2 ≤ 60) (g1 : p < 1400) (gP : tPd pd) : zRd la yX2_numberAt cX2_numberAt 4 (some .int) 2 43 G [.ref (ad 0), .int (iI ((p : Nat) : Int))] (zRf G ad ((h, F), ps, sn, iv, pd, sp)) (fun v9 => v9 = some (.int (iI (tNaA pd (iv 2) p)))) := by
  refine zRd.of [some (.ref (ad 0)), some (.int (iI ((p : Nat) : Int))), none, none] (by decide) (Nat.le_of_ble_eq_true rfl) rfl (fun X hl hC hRm hP hE => ?_)
  refine zx_iconst (z := 0) hC dX2_numberAt_0 ?_
  refine zx_istore_n (L' := [some (.ref (ad 0)), some (.int (iI ((p : Nat) : Int))), some (.int (iI 0)), none]) hC dX2_numberAt_1 (by decide) rfl ?_
  refine zx_iload_n hC dX2_numberAt_2 rfl ?_
  refine zx_istore_n (L' := [some (.ref (ad 0)), some (.int (iI ((p : Nat) : Int))), some (.int (iI 0)), some (.int (iI ((p : Nat) : Int)))]) hC dX2_numberAt_3 (by decide) rfl ?_
  have loop : ∀ (f : Nat) (v : Int) (k : Nat), iv 2 < k + f → k < 1500 → tNaF pd (iv 2) f v k = tNaF pd (iv 2) 61 0 p → zVr X 4 4 [some (.ref (ad 0)), some (.int (iI ((p : Nat) : Int))), some (.int (iI v)), some (.int (iI ((k : Nat) : Int)))] [] := by
    intro f
    induction f with
    | zero =>
      intro v k h1 h2 h5
      change v = _ at h5
      have hdo : tDg pd (iv 2) k = -1 := tDg_out (by omega)
      refine zx_aload_n hC dX2_numberAt_4 rfl ?_
      refine zx_iload_n hC dX2_numberAt_5 rfl ?_
      refine zx_rd1 (r := .int (iI (tDg pd (iv 2) k))) hC zNoA (zcV 1 (As := [.int (iI ((k : Nat) : Int))]) hC (lw_V q1835 q1837 qs66 q93 q1838) (by decide +kernel) rfl (by rw [hRm]; decide) (by rw [hRm]; decide) rfl (Nat.le_of_ble_eq_true rfl) dX2_numberAt_6) (m_X2_digit (zl X) G ad h F ps sn iv pd sp k (by first | assumption | omega | exact iRm (by omega) (by omega) | ((repeat (first | exact gL | refine rLs.up ?_ (by omega) (by omega) | refine rLs.fad ?_)); done) | ((repeat (first | exact gM | refine rHM.up ?_ (by omega))); done) | exact gT _ (by omega) | exact rFadF_le gF _ | ((repeat first | rw [va_up_ne _ _ (by omega)] | rw [va_up_self] | rw [rFadH_o (by omega)] | rw [rAge_o _ _ (by omega)] | rw [rLayH_o (by omega) (by omega) (by omega) (by omega)]); omega)) (by first | assumption | omega | exact iRm (by omega) (by omega) | ((repeat (first | exact gL | refine rLs.up ?_ (by omega) (by omega) | refine rLs.fad ?_)); done) | ((repeat (first | exact gM | refine rHM.up ?_ (by omega))); done) | exact gT _ (by omega) | exact rFadF_le gF _ | ((repeat first | rw [va_up_ne _ _ (by omega)] | rw [va_up_self] | rw [rFadH_o (by omega)] | rw [rAge_o _ _ (by omega)] | rw [rLayH_o (by omega) (by omega) (by omega) (by omega)]); omega)) (by first | assumption | omega | exact iRm (by omega) (by omega) | ((repeat (first | exact gL | refine rLs.up ?_ (by omega) (by omega) | refine rLs.fad ?_)); done) | ((repeat (first | exact gM | refine rHM.up ?_ (by omega))); done) | exact gT _ (by omega) | exact rFadF_le gF _ | ((repeat first | rw [va_up_ne _ _ (by omega)] | rw [va_up_self] | rw [rFadH_o (by omega)] | rw [rAge_o _ _ (by omega)] | rw [rLayH_o (by omega) (by omega) (by omega) (by omega)]); omega))) (zr_rc hC hP.eq) hP.eq ?_
      refine zx_if_ltT (tgt := 29) hC dX2_numberAt_9 (by decide) (by first | assumption | exact gI _ (by omega) | exact iRm (by omega) (by omega)) (by omega) ?_
      refine zx_iload_n hC dX2_numberAt_29 rfl ?_
      refine zx_topi (b := tNaA pd (iv 2) p) (h5) ?_
      exact zx_iret hC hE (Nat.le_refl _) (Nat.le_refl _) (fun H h => ⟨h, rfl⟩) dX2_numberAt_30
    | succ f ih =>
      intro v k h1 h2 h5
      have hd := tDg_r pd (iv 2) k
      refine zx_aload_n hC dX2_numberAt_4 rfl ?_
      refine zx_iload_n hC dX2_numberAt_5 rfl ?_
      refine zx_rd1 (r := .int (iI (tDg pd (iv 2) k))) hC zNoA (zcV 1 (As := [.int (iI ((k : Nat) : Int))]) hC (lw_V q1835 q1837 qs66 q93 q1838) (by decide +kernel) rfl (by rw [hRm]; decide) (by rw [hRm]; decide) rfl (Nat.le_of_ble_eq_true rfl) dX2_numberAt_6) (m_X2_digit (zl X) G ad h F ps sn iv pd sp k (by first | assumption | omega | exact iRm (by omega) (by omega) | ((repeat (first | exact gL | refine rLs.up ?_ (by omega) (by omega) | refine rLs.fad ?_)); done) | ((repeat (first | exact gM | refine rHM.up ?_ (by omega))); done) | exact gT _ (by omega) | exact rFadF_le gF _ | ((repeat first | rw [va_up_ne _ _ (by omega)] | rw [va_up_self] | rw [rFadH_o (by omega)] | rw [rAge_o _ _ (by omega)] | rw [rLayH_o (by omega) (by omega) (by omega) (by omega)]); omega)) (by first | assumption | omega | exact iRm (by omega) (by omega) | ((repeat (first | exact gL | refine rLs.up ?_ (by omega) (by omega) | refine rLs.fad ?_)); done) | ((repeat (first | exact gM | refine rHM.up ?_ (by omega))); done) | exact gT _ (by omega) | exact rFadF_le gF _ | ((repeat first | rw [va_up_ne _ _ (by omega)] | rw [va_up_self] | rw [rFadH_o (by omega)] | rw [rAge_o _ _ (by omega)] | rw [rLayH_o (by omega) (by omega) (by omega) (by omega)]); omega)) (by first | assumption | omega | exact iRm (by omega) (by omega) | ((repeat (first | exact gL | refine rLs.up ?_ (by omega) (by omega) | refine rLs.fad ?_)); done) | ((repeat (first | exact gM | refine rHM.up ?_ (by omega))); done) | exact gT _ (by omega) | exact rFadF_le gF _ | ((repeat first | rw [va_up_ne _ _ (by omega)] | rw [va_up_self] | rw [rFadH_o (by omega)] | rw [rAge_o _ _ (by omega)] | rw [rLayH_o (by omega) (by omega) (by omega) (by omega)]); omega))) (zr_rc hC hP.eq) hP.eq ?_
      refine zx_if_lt (tgt := 29) hC dX2_numberAt_9 (by decide) (by first | assumption | exact gI _ (by omega) | exact iRm (by omega) (by omega)) (fun c9 => ?_) (fun c9 => ?_)
      · have h5 : v = tNaF pd (iv 2) 61 0 p := by first | exact h5 | exact (show tNaF pd (iv 2) (f + 1) v k = v from if_neg (by omega)).symm.trans h5
        refine zx_iload_n hC dX2_numberAt_29 rfl ?_
        refine zx_topi (b := tNaA pd (iv 2) p) (h5) ?_
        exact zx_iret hC hE (Nat.le_refl _) (Nat.le_refl _) (fun H h => ⟨h, rfl⟩) dX2_numberAt_30
      · refine zx_bipush (z := 10) hC dX2_numberAt_12 rfl ?_
        refine zx_iload_n hC dX2_numberAt_14 rfl ?_
        refine zx_imul hC dX2_numberAt_15 ?_
        refine zx_aload_n hC dX2_numberAt_16 rfl ?_
        refine zx_iload_n hC dX2_numberAt_17 rfl ?_
        refine zx_rd1 (r := .int (iI (tDg pd (iv 2) k))) hC zNoA (zcV 1 (As := [.int (iI ((k : Nat) : Int))]) hC (lw_V q1835 q1837 qs66 q93 q1838) (by decide +kernel) rfl (by rw [hRm]; decide) (by rw [hRm]; decide) rfl (Nat.le_of_ble_eq_true rfl) dX2_numberAt_18) (m_X2_digit (zl X) G ad h F ps sn iv pd sp k (by first | assumption | omega | exact iRm (by omega) (by omega) | ((repeat (first | exact gL | refine rLs.up ?_ (by omega) (by omega) | refine rLs.fad ?_)); done) | ((repeat (first | exact gM | refine rHM.up ?_ (by omega))); done) | exact gT _ (by omega) | exact rFadF_le gF _ | ((repeat first | rw [va_up_ne _ _ (by omega)] | rw [va_up_self] | rw [rFadH_o (by omega)] | rw [rAge_o _ _ (by omega)] | rw [rLayH_o (by omega) (by omega) (by omega) (by omega)]); omega)) (by first | assumption | omega | exact iRm (by omega) (by omega) | ((repeat (first | exact gL | refine rLs.up ?_ (by omega) (by omega) | refine rLs.fad ?_)); done) | ((repeat (first | exact gM | refine rHM.up ?_ (by omega))); done) | exact gT _ (by omega) | exact rFadF_le gF _ | ((repeat first | rw [va_up_ne _ _ (by omega)] | rw [va_up_self] | rw [rFadH_o (by omega)] | rw [rAge_o _ _ (by omega)] | rw [rLayH_o (by omega) (by omega) (by omega) (by omega)]); omega)) (by first | assumption | omega | exact iRm (by omega) (by omega) | ((repeat (first | exact gL | refine rLs.up ?_ (by omega) (by omega) | refine rLs.fad ?_)); done) | ((repeat (first | exact gM | refine rHM.up ?_ (by omega))); done) | exact gT _ (by omega) | exact rFadF_le gF _ | ((repeat first | rw [va_up_ne _ _ (by omega)] | rw [va_up_self] | rw [rFadH_o (by omega)] | rw [rAge_o _ _ (by omega)] | rw [rLayH_o (by omega) (by omega) (by omega) (by omega)]); omega))) (zr_rc hC hP.eq) hP.eq ?_
        refine zx_iadd hC dX2_numberAt_21 ?_
        refine zx_istore_n (L' := [some (.ref (ad 0)), some (.int (iI ((p : Nat) : Int))), some (.int (iI ((10 * v) + (tDg pd (iv 2) k)))), some (.int (iI ((k : Nat) : Int)))]) hC dX2_numberAt_22 (by decide) rfl ?_
        refine zx_iinc (b := ((k + 1 : Nat) : Int)) (L' := [some (.ref (ad 0)), some (.int (iI ((p : Nat) : Int))), some (.int (iI ((10 * v) + (tDg pd (iv 2) k)))), some (.int (iI ((k + 1 : Nat) : Int)))]) hC dX2_numberAt_23 rfl (by first | rfl | omega) (by decide) rfl ?_
        refine zx_goto (tgt := 4) hC dX2_numberAt_26 (by decide) ?_
        exact ih ((10 * v) + (tDg pd (iv 2) k)) (k + 1) (by omega) (by have := tDg_in (pd := pd) (ln := iv 2) (p := k) (by omega); omega) ((show tNaF pd (iv 2) (f + 1) v k = tNaF pd (iv 2) f (10 * v + tDg pd (iv 2) k) (k + 1) from if_pos (by omega)).symm.trans h5)
  exact loop 61 0 p (by omega) (by omega) rfl
set_option maxHeartbeats 4000000 in
theorem m_X2_behind (la : Launch) (G : zG) (ad : Nat → Nat) (h : Nat → Nat) (F : Nat → Nat → Nat → Nat) (ps : Nat → zRS) (sn : zRS) (iv pd : Nat → Nat) (sp : Nat → Int) (p : Int) (sign : Int) (g0 : iv 2 ≤ 60) (g1 : -3000 ≤ p) (g2 : p ≤ 1300) (g3 : 0 ≤ sign) (g4 : sign ≤ 127) (gP : tPd pd) : zRd la yX2_behind cX2_behind 3 (some .int) 1 21 G [.ref (ad 0), .int (iI p), .int (iI sign)] (zRf G ad ((h, F), ps, sn, iv, pd, sp)) (fun v9 => v9 = some (.int (iI (tBeh pd (iv 2) p sign)))) := by
  refine zRd.of [some (.ref (ad 0)), some (.int (iI p)), some (.int (iI sign))] (by decide) (Nat.le_of_ble_eq_true rfl) rfl (fun X hl hC hRm hP hE => ?_)
  refine zx_iload_n hC dX2_behind_0 rfl ?_
  refine zx_if_ge (tgt := 8) hC dX2_behind_1 (by decide) (by first | assumption | exact gI _ (by omega) | exact iRm (by omega) (by omega)) (fun c1 => ?_) (fun c1 => ?_)
  · obtain ⟨q, rfl⟩ : ∃ q : Nat, p = (q : Int) := ⟨p.toNat, by omega⟩
    have gs := tSg_r gP (iv 2) q
    refine zx_aload_n hC dX2_behind_8 rfl ?_
    refine zx_iload_n hC dX2_behind_9 rfl ?_
    refine zx_rd1 (r := .int (iI (tSg pd (iv 2) q))) hC zNoA (zcV 1 (As := [.int (iI ((q : Nat) : Int))]) hC (lw_V q1827 q1829 qs64 q93 q1830) (by decide +kernel) rfl (by rw [hRm]; decide) (by rw [hRm]; decide) rfl (Nat.le_of_ble_eq_true rfl) dX2_behind_10) (m_X2_sign (zl X) G ad h F ps sn iv pd sp q (by first | assumption | omega | exact iRm (by omega) (by omega) | ((repeat (first | exact gL | refine rLs.up ?_ (by omega) (by omega) | refine rLs.fad ?_)); done) | ((repeat (first | exact gM | refine rHM.up ?_ (by omega))); done) | exact gT _ (by omega) | exact rFadF_le gF _ | ((repeat first | rw [va_up_ne _ _ (by omega)] | rw [va_up_self] | rw [rFadH_o (by omega)] | rw [rAge_o _ _ (by omega)] | rw [rLayH_o (by omega) (by omega) (by omega) (by omega)]); omega)) (by first | assumption | omega | exact iRm (by omega) (by omega) | ((repeat (first | exact gL | refine rLs.up ?_ (by omega) (by omega) | refine rLs.fad ?_)); done) | ((repeat (first | exact gM | refine rHM.up ?_ (by omega))); done) | exact gT _ (by omega) | exact rFadF_le gF _ | ((repeat first | rw [va_up_ne _ _ (by omega)] | rw [va_up_self] | rw [rFadH_o (by omega)] | rw [rAge_o _ _ (by omega)] | rw [rLayH_o (by omega) (by omega) (by omega) (by omega)]); omega))) (zr_rc hC hP.eq) hP.eq ?_
    refine zx_iload_n hC dX2_behind_13 rfl ?_
    refine zx_icmp_ne (tgt := 23) hC dX2_behind_14 (by decide) (by first | assumption | exact gI _ (by omega) | exact iRm (by omega) (by omega)) (by first | assumption | exact gI _ (by omega) | exact iRm (by omega) (by omega)) (fun c14 => ?_) (fun c14 => ?_)
    · refine zx_iconst (z := (-1)) hC dX2_behind_23 ?_
      refine zx_iload_n hC dX2_behind_24 rfl ?_
      refine zx_isub hC dX2_behind_25 ?_
      refine zx_topi (b := tBeh pd (iv 2) ((q : Nat) : Int) sign) (by unfold tBeh; first | rw [if_pos (by omega)] | (rw [if_neg (by omega)]; simp only [Int.toNat_natCast]; first | (rw [if_pos (by omega)]; first | done | rfl) | (rw [if_neg (by omega)]; first | done | rfl))) ?_
      exact zx_iret hC hE (Nat.le_refl _) (Nat.le_refl _) (fun H h => ⟨h, rfl⟩) dX2_behind_26
    · refine zx_iload_n hC dX2_behind_17 rfl ?_
      refine zx_iconst (z := 1) hC dX2_behind_18 ?_
      refine zx_iadd hC dX2_behind_19 ?_
      refine zx_goto (tgt := 26) hC dX2_behind_20 (by decide) ?_
      refine zx_topi (b := tBeh pd (iv 2) ((q : Nat) : Int) sign) (by unfold tBeh; first | rw [if_pos (by omega)] | (rw [if_neg (by omega)]; simp only [Int.toNat_natCast]; first | (rw [if_pos (by omega)]; first | done | rfl) | (rw [if_neg (by omega)]; first | done | rfl))) ?_
      exact zx_iret hC hE (Nat.le_refl _) (Nat.le_refl _) (fun H h => ⟨h, rfl⟩) dX2_behind_26
  · refine zx_iload_n hC dX2_behind_4 rfl ?_
    refine zx_goto (tgt := 26) hC dX2_behind_5 (by decide) ?_
    refine zx_topi (b := tBeh pd (iv 2) p sign) (by unfold tBeh; first | rw [if_pos (by omega)] | (rw [if_neg (by omega)]; simp only [Int.toNat_natCast]; first | (rw [if_pos (by omega)]; first | done | rfl) | (rw [if_neg (by omega)]; first | done | rfl))) ?_
    exact zx_iret hC hE (Nat.le_refl _) (Nat.le_refl _) (fun H h => ⟨h, rfl⟩) dX2_behind_26
set_option maxHeartbeats 4000000 in
theorem m_X2_orderEnd (la : Launch) (G : zG) (ad : Nat → Nat) (h : Nat → Nat) (F : Nat → Nat → Nat → Nat) (ps : Nat → zRS) (sn : zRS) (iv pd : Nat → Nat) (sp : Nat → Int) (p : Nat) (g0 : iv 2 ≤ 60) (g1 : p ≤ 900) (gP : tPd pd) : zRd la yX2_orderEnd cX2_orderEnd 2 (some .int) 3 68 G [.ref (ad 0), .int (iI ((p : Nat) : Int))] (zRf G ad ((h, F), ps, sn, iv, pd, sp)) (fun v9 => v9 = some (.int (iI (tOrE pd (iv 2) p)))) := by
  refine zRd.of [some (.ref (ad 0)), some (.int (iI ((p : Nat) : Int)))] (by decide) (Nat.le_of_ble_eq_true rfl) rfl (fun X hl hC hRm hP hE => ?_)
  have gs := tSg_r gP (iv 2) p
  have gn := tNuE_r (pd := pd) (ln := iv 2) (p := ((p + 1 : Nat) : Int)) (least := 0) (most := 99) (by omega) (by omega) g0
  have gb := tBeh_r (pd := pd) (ln := iv 2) (p := tNuE pd (iv 2) ((p + 1 : Nat) : Int) 0 99) (sign := 46) (by omega) (by omega)
  refine zx_aload_n hC dX2_orderEnd_0 rfl ?_
  refine zx_iload_n hC dX2_orderEnd_1 rfl ?_
  refine zx_rd1 (r := .int (iI (tSg pd (iv 2) p))) hC zNoA (zcV 1 (As := [.int (iI ((p : Nat) : Int))]) hC (lw_V q1827 q1829 qs64 q93 q1830) (by decide +kernel) rfl (by rw [hRm]; decide) (by rw [hRm]; decide) rfl (Nat.le_of_ble_eq_true rfl) dX2_orderEnd_2) (m_X2_sign (zl X) G ad h F ps sn iv pd sp p (by first | assumption | omega | exact iRm (by omega) (by omega) | ((repeat (first | exact gL | refine rLs.up ?_ (by omega) (by omega) | refine rLs.fad ?_)); done) | ((repeat (first | exact gM | refine rHM.up ?_ (by omega))); done) | exact gT _ (by omega) | exact rFadF_le gF _ | ((repeat first | rw [va_up_ne _ _ (by omega)] | rw [va_up_self] | rw [rFadH_o (by omega)] | rw [rAge_o _ _ (by omega)] | rw [rLayH_o (by omega) (by omega) (by omega) (by omega)]); omega)) (by first | assumption | omega | exact iRm (by omega) (by omega) | ((repeat (first | exact gL | refine rLs.up ?_ (by omega) (by omega) | refine rLs.fad ?_)); done) | ((repeat (first | exact gM | refine rHM.up ?_ (by omega))); done) | exact gT _ (by omega) | exact rFadF_le gF _ | ((repeat first | rw [va_up_ne _ _ (by omega)] | rw [va_up_self] | rw [rFadH_o (by omega)] | rw [rAge_o _ _ (by omega)] | rw [rLayH_o (by omega) (by omega) (by omega) (by omega)]); omega))) (zr_rc hC hP.eq) hP.eq ?_
  rcases (show tSg pd (iv 2) p = 104 ∨ tSg pd (iv 2) p = 105 ∨ tSg pd (iv 2) p = 106 ∨ tSg pd (iv 2) p = 107 ∨ tSg pd (iv 2) p = 108 ∨ tSg pd (iv 2) p = 109 ∨ tSg pd (iv 2) p = 110 ∨ tSg pd (iv 2) p = 111 ∨ tSg pd (iv 2) p = 112 ∨ tSg pd (iv 2) p = 113 ∨ tSg pd (iv 2) p = 114 ∨ tSg pd (iv 2) p = 115 ∨ tSg pd (iv 2) p = 116 ∨ tSg pd (iv 2) p = 117 ∨ tSg pd (iv 2) p = 118 ∨ tSg pd (iv 2) p = 119 ∨ tSg pd (iv 2) p = 120 ∨ tSg pd (iv 2) p = 121 ∨ (tSg pd (iv 2) p < 104 ∨ 121 < tSg pd (iv 2) p) by omega) with hs | hs | hs | hs | hs | hs | hs | hs | hs | hs | hs | hs | hs | hs | hs | hs | hs | hs | hs
  · refine zx_tableIn (off := 91) (tgt := 96) hC 0 dX2_orderEnd_5 (by first | assumption | exact gI _ (by omega) | exact iRm (by omega) (by omega)) (by omega) (by decide) rfl (by decide) ?_
    refine zx_aload_n hC dX2_orderEnd_96 rfl ?_
    refine zx_aload_n hC dX2_orderEnd_97 rfl ?_
    refine zx_aload_n hC dX2_orderEnd_98 rfl ?_
    refine zx_iload_n hC dX2_orderEnd_99 rfl ?_
    refine zx_iconst (z := 1) hC dX2_orderEnd_100 ?_
    refine zx_iadd hC dX2_orderEnd_101 ?_
    refine zx_iconst (z := 0) hC dX2_orderEnd_102 ?_
    refine zx_bipush (z := 99) hC dX2_orderEnd_103 rfl ?_
    refine zx_rd1 (r := .int (iI (tNuE pd (iv 2) ((p + 1 : Nat) : Int) 0 99))) hC zNoA (zcV 3 (As := [.int (iI ((p + 1 : Nat) : Int)), .int (iI 0), .int (iI 99)]) hC (lw_V q1831 q1833 qs65 q93 q1834) (by decide +kernel) rfl (by rw [hRm]; decide) (by rw [hRm]; decide) rfl (Nat.le_of_ble_eq_true rfl) dX2_orderEnd_105) (m_X2_numberEnd (zl X) G ad h F ps sn iv pd sp ((p + 1 : Nat) : Int) 0 99 (by first | assumption | omega | exact iRm (by omega) (by omega) | ((repeat (first | exact gL | refine rLs.up ?_ (by omega) (by omega) | refine rLs.fad ?_)); done) | ((repeat (first | exact gM | refine rHM.up ?_ (by omega))); done) | exact gT _ (by omega) | exact rFadF_le gF _ | ((repeat first | rw [va_up_ne _ _ (by omega)] | rw [va_up_self] | rw [rFadH_o (by omega)] | rw [rAge_o _ _ (by omega)] | rw [rLayH_o (by omega) (by omega) (by omega) (by omega)]); omega)) (by first | assumption | omega | exact iRm (by omega) (by omega) | ((repeat (first | exact gL | refine rLs.up ?_ (by omega) (by omega) | refine rLs.fad ?_)); done) | ((repeat (first | exact gM | refine rHM.up ?_ (by omega))); done) | exact gT _ (by omega) | exact rFadF_le gF _ | ((repeat first | rw [va_up_ne _ _ (by omega)] | rw [va_up_self] | rw [rFadH_o (by omega)] | rw [rAge_o _ _ (by omega)] | rw [rLayH_o (by omega) (by omega) (by omega) (by omega)]); omega)) (by first | assumption | omega | exact iRm (by omega) (by omega) | ((repeat (first | exact gL | refine rLs.up ?_ (by omega) (by omega) | refine rLs.fad ?_)); done) | ((repeat (first | exact gM | refine rHM.up ?_ (by omega))); done) | exact gT _ (by omega) | exact rFadF_le gF _ | ((repeat first | rw [va_up_ne _ _ (by omega)] | rw [va_up_self] | rw [rFadH_o (by omega)] | rw [rAge_o _ _ (by omega)] | rw [rLayH_o (by omega) (by omega) (by omega) (by omega)]); omega)) (by first | assumption | omega | exact iRm (by omega) (by omega) | ((repeat (first | exact gL | refine rLs.up ?_ (by omega) (by omega) | refine rLs.fad ?_)); done) | ((repeat (first | exact gM | refine rHM.up ?_ (by omega))); done) | exact gT _ (by omega) | exact rFadF_le gF _ | ((repeat first | rw [va_up_ne _ _ (by omega)] | rw [va_up_self] | rw [rFadH_o (by omega)] | rw [rAge_o _ _ (by omega)] | rw [rLayH_o (by omega) (by omega) (by omega) (by omega)]); omega)) (by first | assumption | omega | exact iRm (by omega) (by omega) | ((repeat (first | exact gL | refine rLs.up ?_ (by omega) (by omega) | refine rLs.fad ?_)); done) | ((repeat (first | exact gM | refine rHM.up ?_ (by omega))); done) | exact gT _ (by omega) | exact rFadF_le gF _ | ((repeat first | rw [va_up_ne _ _ (by omega)] | rw [va_up_self] | rw [rFadH_o (by omega)] | rw [rAge_o _ _ (by omega)] | rw [rLayH_o (by omega) (by omega) (by omega) (by omega)]); omega)) (by first | assumption | omega | exact iRm (by omega) (by omega) | ((repeat (first | exact gL | refine rLs.up ?_ (by omega) (by omega) | refine rLs.fad ?_)); done) | ((repeat (first | exact gM | refine rHM.up ?_ (by omega))); done) | exact gT _ (by omega) | exact rFadF_le gF _ | ((repeat first | rw [va_up_ne _ _ (by omega)] | rw [va_up_self] | rw [rFadH_o (by omega)] | rw [rAge_o _ _ (by omega)] | rw [rLayH_o (by omega) (by omega) (by omega) (by omega)]); omega))) (zr_rc hC hP.eq) hP.eq ?_
    refine zx_bipush (z := 46) hC dX2_orderEnd_108 rfl ?_
    refine zx_rd1 (r := .int (iI (tBeh pd (iv 2) (tNuE pd (iv 2) ((p + 1 : Nat) : Int) 0 99) 46))) hC zNoA (zcV 2 (As := [.int (iI (tNuE pd (iv 2) ((p + 1 : Nat) : Int) 0 99)), .int (iI 46)]) hC (lw_V q1839 q1841 qs67 q93 q1842) (by decide +kernel) rfl (by rw [hRm]; decide) (by rw [hRm]; decide) rfl (Nat.le_of_ble_eq_true rfl) dX2_orderEnd_110) (m_X2_behind (zl X) G ad h F ps sn iv pd sp (tNuE pd (iv 2) ((p + 1 : Nat) : Int) 0 99) 46 (by first | assumption | omega | exact iRm (by omega) (by omega) | ((repeat (first | exact gL | refine rLs.up ?_ (by omega) (by omega) | refine rLs.fad ?_)); done) | ((repeat (first | exact gM | refine rHM.up ?_ (by omega))); done) | exact gT _ (by omega) | exact rFadF_le gF _ | ((repeat first | rw [va_up_ne _ _ (by omega)] | rw [va_up_self] | rw [rFadH_o (by omega)] | rw [rAge_o _ _ (by omega)] | rw [rLayH_o (by omega) (by omega) (by omega) (by omega)]); omega)) (by first | assumption | omega | exact iRm (by omega) (by omega) | ((repeat (first | exact gL | refine rLs.up ?_ (by omega) (by omega) | refine rLs.fad ?_)); done) | ((repeat (first | exact gM | refine rHM.up ?_ (by omega))); done) | exact gT _ (by omega) | exact rFadF_le gF _ | ((repeat first | rw [va_up_ne _ _ (by omega)] | rw [va_up_self] | rw [rFadH_o (by omega)] | rw [rAge_o _ _ (by omega)] | rw [rLayH_o (by omega) (by omega) (by omega) (by omega)]); omega)) (by first | assumption | omega | exact iRm (by omega) (by omega) | ((repeat (first | exact gL | refine rLs.up ?_ (by omega) (by omega) | refine rLs.fad ?_)); done) | ((repeat (first | exact gM | refine rHM.up ?_ (by omega))); done) | exact gT _ (by omega) | exact rFadF_le gF _ | ((repeat first | rw [va_up_ne _ _ (by omega)] | rw [va_up_self] | rw [rFadH_o (by omega)] | rw [rAge_o _ _ (by omega)] | rw [rLayH_o (by omega) (by omega) (by omega) (by omega)]); omega)) (by first | assumption | omega | exact iRm (by omega) (by omega) | ((repeat (first | exact gL | refine rLs.up ?_ (by omega) (by omega) | refine rLs.fad ?_)); done) | ((repeat (first | exact gM | refine rHM.up ?_ (by omega))); done) | exact gT _ (by omega) | exact rFadF_le gF _ | ((repeat first | rw [va_up_ne _ _ (by omega)] | rw [va_up_self] | rw [rFadH_o (by omega)] | rw [rAge_o _ _ (by omega)] | rw [rLayH_o (by omega) (by omega) (by omega) (by omega)]); omega)) (by first | assumption | omega | exact iRm (by omega) (by omega) | ((repeat (first | exact gL | refine rLs.up ?_ (by omega) (by omega) | refine rLs.fad ?_)); done) | ((repeat (first | exact gM | refine rHM.up ?_ (by omega))); done) | exact gT _ (by omega) | exact rFadF_le gF _ | ((repeat first | rw [va_up_ne _ _ (by omega)] | rw [va_up_self] | rw [rFadH_o (by omega)] | rw [rAge_o _ _ (by omega)] | rw [rLayH_o (by omega) (by omega) (by omega) (by omega)]); omega)) (by first | assumption | omega | exact iRm (by omega) (by omega) | ((repeat (first | exact gL | refine rLs.up ?_ (by omega) (by omega) | refine rLs.fad ?_)); done) | ((repeat (first | exact gM | refine rHM.up ?_ (by omega))); done) | exact gT _ (by omega) | exact rFadF_le gF _ | ((repeat first | rw [va_up_ne _ _ (by omega)] | rw [va_up_self] | rw [rFadH_o (by omega)] | rw [rAge_o _ _ (by omega)] | rw [rLayH_o (by omega) (by omega) (by omega) (by omega)]); omega))) (zr_rc hC hP.eq) hP.eq ?_
    refine zx_iconst (z := 0) hC dX2_orderEnd_113 ?_
    refine zx_sipush (z := 999) hC dX2_orderEnd_114 rfl ?_
    refine zx_rd1 (r := .int (iI (tNuE pd (iv 2) (tBeh pd (iv 2) (tNuE pd (iv 2) ((p + 1 : Nat) : Int) 0 99) 46) 0 999))) hC zNoA (zcV 3 (As := [.int (iI (tBeh pd (iv 2) (tNuE pd (iv 2) ((p + 1 : Nat) : Int) 0 99) 46)), .int (iI 0), .int (iI 999)]) hC (lw_V q1831 q1833 qs65 q93 q1834) (by decide +kernel) rfl (by rw [hRm]; decide) (by rw [hRm]; decide) rfl (Nat.le_of_ble_eq_true rfl) dX2_orderEnd_117) (m_X2_numberEnd (zl X) G ad h F ps sn iv pd sp (tBeh pd (iv 2) (tNuE pd (iv 2) ((p + 1 : Nat) : Int) 0 99) 46) 0 999 (by first | assumption | omega | exact iRm (by omega) (by omega) | ((repeat (first | exact gL | refine rLs.up ?_ (by omega) (by omega) | refine rLs.fad ?_)); done) | ((repeat (first | exact gM | refine rHM.up ?_ (by omega))); done) | exact gT _ (by omega) | exact rFadF_le gF _ | ((repeat first | rw [va_up_ne _ _ (by omega)] | rw [va_up_self] | rw [rFadH_o (by omega)] | rw [rAge_o _ _ (by omega)] | rw [rLayH_o (by omega) (by omega) (by omega) (by omega)]); omega)) (by first | assumption | omega | exact iRm (by omega) (by omega) | ((repeat (first | exact gL | refine rLs.up ?_ (by omega) (by omega) | refine rLs.fad ?_)); done) | ((repeat (first | exact gM | refine rHM.up ?_ (by omega))); done) | exact gT _ (by omega) | exact rFadF_le gF _ | ((repeat first | rw [va_up_ne _ _ (by omega)] | rw [va_up_self] | rw [rFadH_o (by omega)] | rw [rAge_o _ _ (by omega)] | rw [rLayH_o (by omega) (by omega) (by omega) (by omega)]); omega)) (by first | assumption | omega | exact iRm (by omega) (by omega) | ((repeat (first | exact gL | refine rLs.up ?_ (by omega) (by omega) | refine rLs.fad ?_)); done) | ((repeat (first | exact gM | refine rHM.up ?_ (by omega))); done) | exact gT _ (by omega) | exact rFadF_le gF _ | ((repeat first | rw [va_up_ne _ _ (by omega)] | rw [va_up_self] | rw [rFadH_o (by omega)] | rw [rAge_o _ _ (by omega)] | rw [rLayH_o (by omega) (by omega) (by omega) (by omega)]); omega)) (by first | assumption | omega | exact iRm (by omega) (by omega) | ((repeat (first | exact gL | refine rLs.up ?_ (by omega) (by omega) | refine rLs.fad ?_)); done) | ((repeat (first | exact gM | refine rHM.up ?_ (by omega))); done) | exact gT _ (by omega) | exact rFadF_le gF _ | ((repeat first | rw [va_up_ne _ _ (by omega)] | rw [va_up_self] | rw [rFadH_o (by omega)] | rw [rAge_o _ _ (by omega)] | rw [rLayH_o (by omega) (by omega) (by omega) (by omega)]); omega)) (by first | assumption | omega | exact iRm (by omega) (by omega) | ((repeat (first | exact gL | refine rLs.up ?_ (by omega) (by omega) | refine rLs.fad ?_)); done) | ((repeat (first | exact gM | refine rHM.up ?_ (by omega))); done) | exact gT _ (by omega) | exact rFadF_le gF _ | ((repeat first | rw [va_up_ne _ _ (by omega)] | rw [va_up_self] | rw [rFadH_o (by omega)] | rw [rAge_o _ _ (by omega)] | rw [rLayH_o (by omega) (by omega) (by omega) (by omega)]); omega)) (by first | assumption | omega | exact iRm (by omega) (by omega) | ((repeat (first | exact gL | refine rLs.up ?_ (by omega) (by omega) | refine rLs.fad ?_)); done) | ((repeat (first | exact gM | refine rHM.up ?_ (by omega))); done) | exact gT _ (by omega) | exact rFadF_le gF _ | ((repeat first | rw [va_up_ne _ _ (by omega)] | rw [va_up_self] | rw [rFadH_o (by omega)] | rw [rAge_o _ _ (by omega)] | rw [rLayH_o (by omega) (by omega) (by omega) (by omega)]); omega))) (zr_rc hC hP.eq) hP.eq ?_
    refine zx_topi (b := tOrE pd (iv 2) p) (by unfold tOrE; first | (rw [if_pos (by omega)]; first | done | rfl) | (rw [if_neg (by omega)]; first | (rw [if_pos (by omega)]; first | done | rfl) | (rw [if_neg (by omega)]; first | (rw [if_pos (by omega)]; first | done | rfl) | (rw [if_neg (by omega)]; first | done | rfl)))) ?_
    exact zx_iret hC hE (Nat.le_refl _) (Nat.le_refl _) (fun H h => ⟨h, rfl⟩) dX2_orderEnd_120
  · refine zx_tableIn (off := 127) (tgt := 132) hC 1 dX2_orderEnd_5 (by first | assumption | exact gI _ (by omega) | exact iRm (by omega) (by omega)) (by omega) (by decide) rfl (by decide) ?_
    refine zx_iconst (z := (-1)) hC dX2_orderEnd_132 ?_
    refine zx_iload_n hC dX2_orderEnd_133 rfl ?_
    refine zx_isub hC dX2_orderEnd_134 ?_
    refine zx_topi (b := tOrE pd (iv 2) p) (by unfold tOrE; first | (rw [if_pos (by omega)]; first | done | rfl) | (rw [if_neg (by omega)]; first | (rw [if_pos (by omega)]; first | done | rfl) | (rw [if_neg (by omega)]; first | (rw [if_pos (by omega)]; first | done | rfl) | (rw [if_neg (by omega)]; first | done | rfl)))) ?_
    exact zx_iret hC hE (Nat.le_refl _) (Nat.le_refl _) (fun H h => ⟨h, rfl⟩) dX2_orderEnd_135
  · refine zx_tableIn (off := 127) (tgt := 132) hC 2 dX2_orderEnd_5 (by first | assumption | exact gI _ (by omega) | exact iRm (by omega) (by omega)) (by omega) (by decide) rfl (by decide) ?_
    refine zx_iconst (z := (-1)) hC dX2_orderEnd_132 ?_
    refine zx_iload_n hC dX2_orderEnd_133 rfl ?_
    refine zx_isub hC dX2_orderEnd_134 ?_
    refine zx_topi (b := tOrE pd (iv 2) p) (by unfold tOrE; first | (rw [if_pos (by omega)]; first | done | rfl) | (rw [if_neg (by omega)]; first | (rw [if_pos (by omega)]; first | done | rfl) | (rw [if_neg (by omega)]; first | (rw [if_pos (by omega)]; first | done | rfl) | (rw [if_neg (by omega)]; first | done | rfl)))) ?_
    exact zx_iret hC hE (Nat.le_refl _) (Nat.le_refl _) (fun H h => ⟨h, rfl⟩) dX2_orderEnd_135
  · refine zx_tableIn (off := 127) (tgt := 132) hC 3 dX2_orderEnd_5 (by first | assumption | exact gI _ (by omega) | exact iRm (by omega) (by omega)) (by omega) (by decide) rfl (by decide) ?_
    refine zx_iconst (z := (-1)) hC dX2_orderEnd_132 ?_
    refine zx_iload_n hC dX2_orderEnd_133 rfl ?_
    refine zx_isub hC dX2_orderEnd_134 ?_
    refine zx_topi (b := tOrE pd (iv 2) p) (by unfold tOrE; first | (rw [if_pos (by omega)]; first | done | rfl) | (rw [if_neg (by omega)]; first | (rw [if_pos (by omega)]; first | done | rfl) | (rw [if_neg (by omega)]; first | (rw [if_pos (by omega)]; first | done | rfl) | (rw [if_neg (by omega)]; first | done | rfl)))) ?_
    exact zx_iret hC hE (Nat.le_refl _) (Nat.le_refl _) (fun H h => ⟨h, rfl⟩) dX2_orderEnd_135
  · refine zx_tableIn (off := 127) (tgt := 132) hC 4 dX2_orderEnd_5 (by first | assumption | exact gI _ (by omega) | exact iRm (by omega) (by omega)) (by omega) (by decide) rfl (by decide) ?_
    refine zx_iconst (z := (-1)) hC dX2_orderEnd_132 ?_
    refine zx_iload_n hC dX2_orderEnd_133 rfl ?_
    refine zx_isub hC dX2_orderEnd_134 ?_
    refine zx_topi (b := tOrE pd (iv 2) p) (by unfold tOrE; first | (rw [if_pos (by omega)]; first | done | rfl) | (rw [if_neg (by omega)]; first | (rw [if_pos (by omega)]; first | done | rfl) | (rw [if_neg (by omega)]; first | (rw [if_pos (by omega)]; first | done | rfl) | (rw [if_neg (by omega)]; first | done | rfl)))) ?_
    exact zx_iret hC hE (Nat.le_refl _) (Nat.le_refl _) (fun H h => ⟨h, rfl⟩) dX2_orderEnd_135
  · refine zx_tableIn (off := 127) (tgt := 132) hC 5 dX2_orderEnd_5 (by first | assumption | exact gI _ (by omega) | exact iRm (by omega) (by omega)) (by omega) (by decide) rfl (by decide) ?_
    refine zx_iconst (z := (-1)) hC dX2_orderEnd_132 ?_
    refine zx_iload_n hC dX2_orderEnd_133 rfl ?_
    refine zx_isub hC dX2_orderEnd_134 ?_
    refine zx_topi (b := tOrE pd (iv 2) p) (by unfold tOrE; first | (rw [if_pos (by omega)]; first | done | rfl) | (rw [if_neg (by omega)]; first | (rw [if_pos (by omega)]; first | done | rfl) | (rw [if_neg (by omega)]; first | (rw [if_pos (by omega)]; first | done | rfl) | (rw [if_neg (by omega)]; first | done | rfl)))) ?_
    exact zx_iret hC hE (Nat.le_refl _) (Nat.le_refl _) (fun H h => ⟨h, rfl⟩) dX2_orderEnd_135
  · refine zx_tableIn (off := 127) (tgt := 132) hC 6 dX2_orderEnd_5 (by first | assumption | exact gI _ (by omega) | exact iRm (by omega) (by omega)) (by omega) (by decide) rfl (by decide) ?_
    refine zx_iconst (z := (-1)) hC dX2_orderEnd_132 ?_
    refine zx_iload_n hC dX2_orderEnd_133 rfl ?_
    refine zx_isub hC dX2_orderEnd_134 ?_
    refine zx_topi (b := tOrE pd (iv 2) p) (by unfold tOrE; first | (rw [if_pos (by omega)]; first | done | rfl) | (rw [if_neg (by omega)]; first | (rw [if_pos (by omega)]; first | done | rfl) | (rw [if_neg (by omega)]; first | (rw [if_pos (by omega)]; first | done | rfl) | (rw [if_neg (by omega)]; first | done | rfl)))) ?_
    exact zx_iret hC hE (Nat.le_refl _) (Nat.le_refl _) (fun H h => ⟨h, rfl⟩) dX2_orderEnd_135
  · refine zx_tableIn (off := 127) (tgt := 132) hC 7 dX2_orderEnd_5 (by first | assumption | exact gI _ (by omega) | exact iRm (by omega) (by omega)) (by omega) (by decide) rfl (by decide) ?_
    refine zx_iconst (z := (-1)) hC dX2_orderEnd_132 ?_
    refine zx_iload_n hC dX2_orderEnd_133 rfl ?_
    refine zx_isub hC dX2_orderEnd_134 ?_
    refine zx_topi (b := tOrE pd (iv 2) p) (by unfold tOrE; first | (rw [if_pos (by omega)]; first | done | rfl) | (rw [if_neg (by omega)]; first | (rw [if_pos (by omega)]; first | done | rfl) | (rw [if_neg (by omega)]; first | (rw [if_pos (by omega)]; first | done | rfl) | (rw [if_neg (by omega)]; first | done | rfl)))) ?_
    exact zx_iret hC hE (Nat.le_refl _) (Nat.le_refl _) (fun H h => ⟨h, rfl⟩) dX2_orderEnd_135
  · refine zx_tableIn (off := 87) (tgt := 92) hC 8 dX2_orderEnd_5 (by first | assumption | exact gI _ (by omega) | exact iRm (by omega) (by omega)) (by omega) (by decide) rfl (by decide) ?_
    refine zx_iload_n hC dX2_orderEnd_92 rfl ?_
    refine zx_iconst (z := 1) hC dX2_orderEnd_93 ?_
    refine zx_iadd hC dX2_orderEnd_94 ?_
    refine zx_topi (b := tOrE pd (iv 2) p) (by unfold tOrE; first | (rw [if_pos (by omega)]; first | done | rfl) | (rw [if_neg (by omega)]; first | (rw [if_pos (by omega)]; first | done | rfl) | (rw [if_neg (by omega)]; first | (rw [if_pos (by omega)]; first | done | rfl) | (rw [if_neg (by omega)]; first | done | rfl)))) ?_
    exact zx_iret hC hE (Nat.le_refl _) (Nat.le_refl _) (fun H h => ⟨h, rfl⟩) dX2_orderEnd_95
  · refine zx_tableIn (off := 127) (tgt := 132) hC 9 dX2_orderEnd_5 (by first | assumption | exact gI _ (by omega) | exact iRm (by omega) (by omega)) (by omega) (by decide) rfl (by decide) ?_
    refine zx_iconst (z := (-1)) hC dX2_orderEnd_132 ?_
    refine zx_iload_n hC dX2_orderEnd_133 rfl ?_
    refine zx_isub hC dX2_orderEnd_134 ?_
    refine zx_topi (b := tOrE pd (iv 2) p) (by unfold tOrE; first | (rw [if_pos (by omega)]; first | done | rfl) | (rw [if_neg (by omega)]; first | (rw [if_pos (by omega)]; first | done | rfl) | (rw [if_neg (by omega)]; first | (rw [if_pos (by omega)]; first | done | rfl) | (rw [if_neg (by omega)]; first | done | rfl)))) ?_
    exact zx_iret hC hE (Nat.le_refl _) (Nat.le_refl _) (fun H h => ⟨h, rfl⟩) dX2_orderEnd_135
  · refine zx_tableIn (off := 127) (tgt := 132) hC 10 dX2_orderEnd_5 (by first | assumption | exact gI _ (by omega) | exact iRm (by omega) (by omega)) (by omega) (by decide) rfl (by decide) ?_
    refine zx_iconst (z := (-1)) hC dX2_orderEnd_132 ?_
    refine zx_iload_n hC dX2_orderEnd_133 rfl ?_
    refine zx_isub hC dX2_orderEnd_134 ?_
    refine zx_topi (b := tOrE pd (iv 2) p) (by unfold tOrE; first | (rw [if_pos (by omega)]; first | done | rfl) | (rw [if_neg (by omega)]; first | (rw [if_pos (by omega)]; first | done | rfl) | (rw [if_neg (by omega)]; first | (rw [if_pos (by omega)]; first | done | rfl) | (rw [if_neg (by omega)]; first | done | rfl)))) ?_
    exact zx_iret hC hE (Nat.le_refl _) (Nat.le_refl _) (fun H h => ⟨h, rfl⟩) dX2_orderEnd_135
  · refine zx_tableIn (off := 87) (tgt := 92) hC 11 dX2_orderEnd_5 (by first | assumption | exact gI _ (by omega) | exact iRm (by omega) (by omega)) (by omega) (by decide) rfl (by decide) ?_
    refine zx_iload_n hC dX2_orderEnd_92 rfl ?_
    refine zx_iconst (z := 1) hC dX2_orderEnd_93 ?_
    refine zx_iadd hC dX2_orderEnd_94 ?_
    refine zx_topi (b := tOrE pd (iv 2) p) (by unfold tOrE; first | (rw [if_pos (by omega)]; first | done | rfl) | (rw [if_neg (by omega)]; first | (rw [if_pos (by omega)]; first | done | rfl) | (rw [if_neg (by omega)]; first | (rw [if_pos (by omega)]; first | done | rfl) | (rw [if_neg (by omega)]; first | done | rfl)))) ?_
    exact zx_iret hC hE (Nat.le_refl _) (Nat.le_refl _) (fun H h => ⟨h, rfl⟩) dX2_orderEnd_95
  · refine zx_tableIn (off := 116) (tgt := 121) hC 12 dX2_orderEnd_5 (by first | assumption | exact gI _ (by omega) | exact iRm (by omega) (by omega)) (by omega) (by decide) rfl (by decide) ?_
    refine zx_aload_n hC dX2_orderEnd_121 rfl ?_
    refine zx_iload_n hC dX2_orderEnd_122 rfl ?_
    refine zx_iconst (z := 1) hC dX2_orderEnd_123 ?_
    refine zx_iadd hC dX2_orderEnd_124 ?_
    refine zx_iconst (z := 1) hC dX2_orderEnd_125 ?_
    refine zx_bipush (z := 99) hC dX2_orderEnd_126 rfl ?_
    refine zx_rd1 (r := .int (iI (tNuE pd (iv 2) ((p + 1 : Nat) : Int) 1 99))) hC zNoA (zcV 3 (As := [.int (iI ((p + 1 : Nat) : Int)), .int (iI 1), .int (iI 99)]) hC (lw_V q1831 q1833 qs65 q93 q1834) (by decide +kernel) rfl (by rw [hRm]; decide) (by rw [hRm]; decide) rfl (Nat.le_of_ble_eq_true rfl) dX2_orderEnd_128) (m_X2_numberEnd (zl X) G ad h F ps sn iv pd sp ((p + 1 : Nat) : Int) 1 99 (by first | assumption | omega | exact iRm (by omega) (by omega) | ((repeat (first | exact gL | refine rLs.up ?_ (by omega) (by omega) | refine rLs.fad ?_)); done) | ((repeat (first | exact gM | refine rHM.up ?_ (by omega))); done) | exact gT _ (by omega) | exact rFadF_le gF _ | ((repeat first | rw [va_up_ne _ _ (by omega)] | rw [va_up_self] | rw [rFadH_o (by omega)] | rw [rAge_o _ _ (by omega)] | rw [rLayH_o (by omega) (by omega) (by omega) (by omega)]); omega)) (by first | assumption | omega | exact iRm (by omega) (by omega) | ((repeat (first | exact gL | refine rLs.up ?_ (by omega) (by omega) | refine rLs.fad ?_)); done) | ((repeat (first | exact gM | refine rHM.up ?_ (by omega))); done) | exact gT _ (by omega) | exact rFadF_le gF _ | ((repeat first | rw [va_up_ne _ _ (by omega)] | rw [va_up_self] | rw [rFadH_o (by omega)] | rw [rAge_o _ _ (by omega)] | rw [rLayH_o (by omega) (by omega) (by omega) (by omega)]); omega)) (by first | assumption | omega | exact iRm (by omega) (by omega) | ((repeat (first | exact gL | refine rLs.up ?_ (by omega) (by omega) | refine rLs.fad ?_)); done) | ((repeat (first | exact gM | refine rHM.up ?_ (by omega))); done) | exact gT _ (by omega) | exact rFadF_le gF _ | ((repeat first | rw [va_up_ne _ _ (by omega)] | rw [va_up_self] | rw [rFadH_o (by omega)] | rw [rAge_o _ _ (by omega)] | rw [rLayH_o (by omega) (by omega) (by omega) (by omega)]); omega)) (by first | assumption | omega | exact iRm (by omega) (by omega) | ((repeat (first | exact gL | refine rLs.up ?_ (by omega) (by omega) | refine rLs.fad ?_)); done) | ((repeat (first | exact gM | refine rHM.up ?_ (by omega))); done) | exact gT _ (by omega) | exact rFadF_le gF _ | ((repeat first | rw [va_up_ne _ _ (by omega)] | rw [va_up_self] | rw [rFadH_o (by omega)] | rw [rAge_o _ _ (by omega)] | rw [rLayH_o (by omega) (by omega) (by omega) (by omega)]); omega)) (by first | assumption | omega | exact iRm (by omega) (by omega) | ((repeat (first | exact gL | refine rLs.up ?_ (by omega) (by omega) | refine rLs.fad ?_)); done) | ((repeat (first | exact gM | refine rHM.up ?_ (by omega))); done) | exact gT _ (by omega) | exact rFadF_le gF _ | ((repeat first | rw [va_up_ne _ _ (by omega)] | rw [va_up_self] | rw [rFadH_o (by omega)] | rw [rAge_o _ _ (by omega)] | rw [rLayH_o (by omega) (by omega) (by omega) (by omega)]); omega)) (by first | assumption | omega | exact iRm (by omega) (by omega) | ((repeat (first | exact gL | refine rLs.up ?_ (by omega) (by omega) | refine rLs.fad ?_)); done) | ((repeat (first | exact gM | refine rHM.up ?_ (by omega))); done) | exact gT _ (by omega) | exact rFadF_le gF _ | ((repeat first | rw [va_up_ne _ _ (by omega)] | rw [va_up_self] | rw [rFadH_o (by omega)] | rw [rAge_o _ _ (by omega)] | rw [rLayH_o (by omega) (by omega) (by omega) (by omega)]); omega))) (zr_rc hC hP.eq) hP.eq ?_
    refine zx_topi (b := tOrE pd (iv 2) p) (by unfold tOrE; first | (rw [if_pos (by omega)]; first | done | rfl) | (rw [if_neg (by omega)]; first | (rw [if_pos (by omega)]; first | done | rfl) | (rw [if_neg (by omega)]; first | (rw [if_pos (by omega)]; first | done | rfl) | (rw [if_neg (by omega)]; first | done | rfl)))) ?_
    exact zx_iret hC hE (Nat.le_refl _) (Nat.le_refl _) (fun H h => ⟨h, rfl⟩) dX2_orderEnd_131
  · refine zx_tableIn (off := 127) (tgt := 132) hC 13 dX2_orderEnd_5 (by first | assumption | exact gI _ (by omega) | exact iRm (by omega) (by omega)) (by omega) (by decide) rfl (by decide) ?_
    refine zx_iconst (z := (-1)) hC dX2_orderEnd_132 ?_
    refine zx_iload_n hC dX2_orderEnd_133 rfl ?_
    refine zx_isub hC dX2_orderEnd_134 ?_
    refine zx_topi (b := tOrE pd (iv 2) p) (by unfold tOrE; first | (rw [if_pos (by omega)]; first | done | rfl) | (rw [if_neg (by omega)]; first | (rw [if_pos (by omega)]; first | done | rfl) | (rw [if_neg (by omega)]; first | (rw [if_pos (by omega)]; first | done | rfl) | (rw [if_neg (by omega)]; first | done | rfl)))) ?_
    exact zx_iret hC hE (Nat.le_refl _) (Nat.le_refl _) (fun H h => ⟨h, rfl⟩) dX2_orderEnd_135
  · refine zx_tableIn (off := 87) (tgt := 92) hC 14 dX2_orderEnd_5 (by first | assumption | exact gI _ (by omega) | exact iRm (by omega) (by omega)) (by omega) (by decide) rfl (by decide) ?_
    refine zx_iload_n hC dX2_orderEnd_92 rfl ?_
    refine zx_iconst (z := 1) hC dX2_orderEnd_93 ?_
    refine zx_iadd hC dX2_orderEnd_94 ?_
    refine zx_topi (b := tOrE pd (iv 2) p) (by unfold tOrE; first | (rw [if_pos (by omega)]; first | done | rfl) | (rw [if_neg (by omega)]; first | (rw [if_pos (by omega)]; first | done | rfl) | (rw [if_neg (by omega)]; first | (rw [if_pos (by omega)]; first | done | rfl) | (rw [if_neg (by omega)]; first | done | rfl)))) ?_
    exact zx_iret hC hE (Nat.le_refl _) (Nat.le_refl _) (fun H h => ⟨h, rfl⟩) dX2_orderEnd_95
  · refine zx_tableIn (off := 127) (tgt := 132) hC 15 dX2_orderEnd_5 (by first | assumption | exact gI _ (by omega) | exact iRm (by omega) (by omega)) (by omega) (by decide) rfl (by decide) ?_
    refine zx_iconst (z := (-1)) hC dX2_orderEnd_132 ?_
    refine zx_iload_n hC dX2_orderEnd_133 rfl ?_
    refine zx_isub hC dX2_orderEnd_134 ?_
    refine zx_topi (b := tOrE pd (iv 2) p) (by unfold tOrE; first | (rw [if_pos (by omega)]; first | done | rfl) | (rw [if_neg (by omega)]; first | (rw [if_pos (by omega)]; first | done | rfl) | (rw [if_neg (by omega)]; first | (rw [if_pos (by omega)]; first | done | rfl) | (rw [if_neg (by omega)]; first | done | rfl)))) ?_
    exact zx_iret hC hE (Nat.le_refl _) (Nat.le_refl _) (fun H h => ⟨h, rfl⟩) dX2_orderEnd_135
  · refine zx_tableIn (off := 87) (tgt := 92) hC 16 dX2_orderEnd_5 (by first | assumption | exact gI _ (by omega) | exact iRm (by omega) (by omega)) (by omega) (by decide) rfl (by decide) ?_
    refine zx_iload_n hC dX2_orderEnd_92 rfl ?_
    refine zx_iconst (z := 1) hC dX2_orderEnd_93 ?_
    refine zx_iadd hC dX2_orderEnd_94 ?_
    refine zx_topi (b := tOrE pd (iv 2) p) (by unfold tOrE; first | (rw [if_pos (by omega)]; first | done | rfl) | (rw [if_neg (by omega)]; first | (rw [if_pos (by omega)]; first | done | rfl) | (rw [if_neg (by omega)]; first | (rw [if_pos (by omega)]; first | done | rfl) | (rw [if_neg (by omega)]; first | done | rfl)))) ?_
    exact zx_iret hC hE (Nat.le_refl _) (Nat.le_refl _) (fun H h => ⟨h, rfl⟩) dX2_orderEnd_95
  · refine zx_tableIn (off := 87) (tgt := 92) hC 17 dX2_orderEnd_5 (by first | assumption | exact gI _ (by omega) | exact iRm (by omega) (by omega)) (by omega) (by decide) rfl (by decide) ?_
    refine zx_iload_n hC dX2_orderEnd_92 rfl ?_
    refine zx_iconst (z := 1) hC dX2_orderEnd_93 ?_
    refine zx_iadd hC dX2_orderEnd_94 ?_
    refine zx_topi (b := tOrE pd (iv 2) p) (by unfold tOrE; first | (rw [if_pos (by omega)]; first | done | rfl) | (rw [if_neg (by omega)]; first | (rw [if_pos (by omega)]; first | done | rfl) | (rw [if_neg (by omega)]; first | (rw [if_pos (by omega)]; first | done | rfl) | (rw [if_neg (by omega)]; first | done | rfl)))) ?_
    exact zx_iret hC hE (Nat.le_refl _) (Nat.le_refl _) (fun H h => ⟨h, rfl⟩) dX2_orderEnd_95
  · refine zx_tableOut (tgt := 132) hC dX2_orderEnd_5 (by first | assumption | exact gI _ (by omega) | exact iRm (by omega) (by omega)) (by omega) (by decide) ?_
    refine zx_iconst (z := (-1)) hC dX2_orderEnd_132 ?_
    refine zx_iload_n hC dX2_orderEnd_133 rfl ?_
    refine zx_isub hC dX2_orderEnd_134 ?_
    refine zx_topi (b := tOrE pd (iv 2) p) (by unfold tOrE; first | (rw [if_pos (by omega)]; first | done | rfl) | (rw [if_neg (by omega)]; first | (rw [if_pos (by omega)]; first | done | rfl) | (rw [if_neg (by omega)]; first | (rw [if_pos (by omega)]; first | done | rfl) | (rw [if_neg (by omega)]; first | done | rfl)))) ?_
    exact zx_iret hC hE (Nat.le_refl _) (Nat.le_refl _) (fun H h => ⟨h, rfl⟩) dX2_orderEnd_135
set_option maxHeartbeats 4000000 in
theorem m_X2_faultOf0 (la : Launch) (G : zG) (ad : Nat → Nat) (h : Nat → Nat) (F : Nat → Nat → Nat → Nat) (ps : Nat → zRS) (sn : zRS) (iv pd : Nat → Nat) (sp : Nat → Int)  (g0 : iv 2 ≤ 60) (gP : tPd pd) : zRd la yX2_faultOf cX2_faultOf 5 (some .int) 4 89 G [.ref (ad 0), .int (iI 0)] (zRf G ad ((h, F), ps, sn, iv, pd, sp)) (fun v9 => v9 = some (.int (iI (tFlt pd (iv 2) 0 61 0)))) := by
  refine zRd.of [some (.ref (ad 0)), some (.int (iI 0)), none, none, none] (by decide) (Nat.le_of_ble_eq_true rfl) rfl (fun X hl hC hRm hP hE => ?_)
  refine zx_iconst (z := 0) hC dX2_faultOf_0 ?_
  refine zx_istore_n (L' := [some (.ref (ad 0)), some (.int (iI 0)), some (.int (iI 0)), none, none]) hC dX2_faultOf_1 (by decide) rfl ?_
  refine zx_iconst (z := 0) hC dX2_faultOf_2 ?_
  refine zx_istore_n (L' := [some (.ref (ad 0)), some (.int (iI 0)), some (.int (iI 0)), some (.int (iI 0)), none]) hC dX2_faultOf_3 (by decide) rfl ?_
  have loop : ∀ f k p : Nat, k + f = 61 → p ≤ 61 → tFlt pd (iv 2) 0 f p = tFlt pd (iv 2) 0 61 0 → zVr X 5 4 [some (.ref (ad 0)), some (.int (iI 0)), some (.int (iI ((p : Nat) : Int))), some (.int (iI ((k : Nat) : Int))), none] [] := by
    intro f
    induction f with
    | zero =>
      intro k p h1 h2 h5
      refine zx_iload_n hC dX2_faultOf_4 rfl ?_
      refine zx_bipush (z := 60) hC dX2_faultOf_5 rfl ?_
      refine zx_icmp_gtT (tgt := 86) hC dX2_faultOf_7 (by decide) (by first | assumption | exact gI _ (by omega) | exact iRm (by omega) (by omega)) (by first | assumption | exact gI _ (by omega) | exact iRm (by omega) (by omega)) (by omega) ?_
      refine zx_bipush (z := (-4)) hC dX2_faultOf_86 rfl ?_
      refine zx_topi (b := tFlt pd (iv 2) 0 61 0) (by rw [← h5]; first | rfl | (rw [tFlt0_s]; first | (rw [if_pos (by omega)]; first | done | omega) | (rw [if_neg (by omega)]; first | (rw [if_pos (by omega)]; first | done | omega) | (rw [if_neg (by omega)]; (rw [if_pos (by omega)]; first | done | omega))))) ?_
      exact zx_iret hC hE (Nat.le_refl _) (Nat.le_refl _) (fun H h => ⟨h, rfl⟩) dX2_faultOf_88
    | succ f ih =>
      intro k p h1 h2 h5
      have ge := tOrE_r (pd := pd) (ln := iv 2) (p := p) (by omega) (by omega)
      have ge2 : 0 ≤ tOrE pd (iv 2) p → _ := fun q => tOrE_in q
      refine zx_iload_n hC dX2_faultOf_4 rfl ?_
      refine zx_bipush (z := 60) hC dX2_faultOf_5 rfl ?_
      refine zx_icmp_gtF (tgt := 86) hC dX2_faultOf_7 (by decide) (by first | assumption | exact gI _ (by omega) | exact iRm (by omega) (by omega)) (by first | assumption | exact gI _ (by omega) | exact iRm (by omega) (by omega)) (by omega) ?_
      refine zx_iload_n hC dX2_faultOf_10 rfl ?_
      refine zx_if_neF (tgt := 22) hC dX2_faultOf_11 (by decide) (by first | assumption | exact gI _ (by omega) | exact iRm (by omega) (by omega)) (by omega) ?_
      refine zx_aload_n hC dX2_faultOf_14 rfl ?_
      refine zx_iload_n hC dX2_faultOf_15 rfl ?_
      refine zx_rd1 (r := .int (iI (tOrE pd (iv 2) p))) hC zNoA (zcV 1 (As := [.int (iI ((p : Nat) : Int))]) hC (lw_V q1823 q1825 qs63 q93 q1826) (by decide +kernel) rfl (by rw [hRm]; decide) (by rw [hRm]; decide) rfl (Nat.le_of_ble_eq_true rfl) dX2_faultOf_16) (m_X2_orderEnd (zl X) G ad h F ps sn iv pd sp p (by first | assumption | omega | exact iRm (by omega) (by omega) | ((repeat (first | exact gL | refine rLs.up ?_ (by omega) (by omega) | refine rLs.fad ?_)); done) | ((repeat (first | exact gM | refine rHM.up ?_ (by omega))); done) | exact gT _ (by omega) | exact rFadF_le gF _ | ((repeat first | rw [va_up_ne _ _ (by omega)] | rw [va_up_self] | rw [rFadH_o (by omega)] | rw [rAge_o _ _ (by omega)] | rw [rLayH_o (by omega) (by omega) (by omega) (by omega)]); omega)) (by first | assumption | omega | exact iRm (by omega) (by omega) | ((repeat (first | exact gL | refine rLs.up ?_ (by omega) (by omega) | refine rLs.fad ?_)); done) | ((repeat (first | exact gM | refine rHM.up ?_ (by omega))); done) | exact gT _ (by omega) | exact rFadF_le gF _ | ((repeat first | rw [va_up_ne _ _ (by omega)] | rw [va_up_self] | rw [rFadH_o (by omega)] | rw [rAge_o _ _ (by omega)] | rw [rLayH_o (by omega) (by omega) (by omega) (by omega)]); omega)) (by first | assumption | omega | exact iRm (by omega) (by omega) | ((repeat (first | exact gL | refine rLs.up ?_ (by omega) (by omega) | refine rLs.fad ?_)); done) | ((repeat (first | exact gM | refine rHM.up ?_ (by omega))); done) | exact gT _ (by omega) | exact rFadF_le gF _ | ((repeat first | rw [va_up_ne _ _ (by omega)] | rw [va_up_self] | rw [rFadH_o (by omega)] | rw [rAge_o _ _ (by omega)] | rw [rLayH_o (by omega) (by omega) (by omega) (by omega)]); omega))) (zr_rc hC hP.eq) hP.eq ?_
      refine zx_goto (tgt := 30) hC dX2_faultOf_19 (by decide) ?_
      refine zx_istore (L' := [some (.ref (ad 0)), some (.int (iI 0)), some (.int (iI ((p : Nat) : Int))), some (.int (iI ((k : Nat) : Int))), some (.int (iI (tOrE pd (iv 2) p)))]) hC dX2_faultOf_30 (by decide) rfl ?_
      refine zx_iload hC dX2_faultOf_32 rfl ?_
      refine zx_if_ge (tgt := 42) hC dX2_faultOf_34 (by decide) (by first | assumption | exact gI _ (by omega) | exact iRm (by omega) (by omega)) (fun c34 => ?_) (fun c34 => ?_)
      · refine zx_iload hC dX2_faultOf_42 rfl ?_
        refine zx_aload_n hC dX2_faultOf_44 rfl ?_
        refine zr_get (v := .int (iI ((iv 2 : Nat) : Int))) hC hP.eq 6 (by decide) dX2_faultOf_45 q1616 rfl ?_
        refine zx_icmp_ne (tgt := 54) hC dX2_faultOf_48 (by decide) (by first | assumption | exact gI _ (by omega) | exact iRm (by omega) (by omega)) (by first | assumption | exact gI _ (by omega) | exact iRm (by omega) (by omega)) (fun c48 => ?_) (fun c48 => ?_)
        · refine zx_iload_n hC dX2_faultOf_54 rfl ?_
          refine zx_if_neF (tgt := 63) hC dX2_faultOf_55 (by decide) (by first | assumption | exact gI _ (by omega) | exact iRm (by omega) (by omega)) (by omega) ?_
          refine zx_iload hC dX2_faultOf_58 rfl ?_
          refine zx_goto (tgt := 71) hC dX2_faultOf_60 (by decide) ?_
          refine zx_istore_n (L' := [some (.ref (ad 0)), some (.int (iI 0)), some (.int (iI (tOrE pd (iv 2) p))), some (.int (iI ((k : Nat) : Int))), some (.int (iI (tOrE pd (iv 2) p)))]) hC dX2_faultOf_71 (by decide) rfl ?_
          refine zx_iload_n hC dX2_faultOf_72 rfl ?_
          refine zx_if_ge (tgt := 80) hC dX2_faultOf_73 (by decide) (by first | assumption | exact gI _ (by omega) | exact iRm (by omega) (by omega)) (fun c73 => ?_) (fun c73 => ?_)
          · obtain ⟨q, eq⟩ : ∃ q : Nat, tOrE pd (iv 2) p = (q : Int) := ⟨(tOrE pd (iv 2) p).toNat, by omega⟩
            rw [eq]
            refine zx_iinc (b := ((k + 1 : Nat) : Int)) (L' := [some (.ref (ad 0)), some (.int (iI 0)), some (.int (iI ((q : Nat) : Int))), some (.int (iI ((k + 1 : Nat) : Int))), some (.int (iI ((q : Nat) : Int)))]) hC dX2_faultOf_80 rfl (by first | rfl | omega) (by decide) rfl ?_
            refine zx_goto (tgt := 4) hC dX2_faultOf_83 (by decide) ?_
            refine zx_le (L' := [some (.ref (ad 0)), some (.int (iI 0)), some (.int (iI ((q : Nat) : Int))), some (.int (iI ((k + 1 : Nat) : Int))), none]) (zle_s (zle_s (zle_s (zle_s (zle_n zle_0))))) ?_
            exact ih (k + 1) (q) (by omega) (by omega) ((show tFlt pd (iv 2) 0 (f + 1) p = tFlt pd (iv 2) 0 f (q) from by rw [tFlt0_s, if_neg (by omega), if_neg (by omega), if_neg (by omega)]; congr 1; omega).symm.trans h5)
          · refine zx_iconst (z := (-1)) hC dX2_faultOf_76 ?_
            refine zx_iload_n hC dX2_faultOf_77 rfl ?_
            refine zx_isub hC dX2_faultOf_78 ?_
            refine zx_topi (b := tFlt pd (iv 2) 0 61 0) (by rw [← h5]; first | rfl | (rw [tFlt0_s]; first | (rw [if_pos (by omega)]; first | done | omega) | (rw [if_neg (by omega)]; first | (rw [if_pos (by omega)]; first | done | omega) | (rw [if_neg (by omega)]; (rw [if_pos (by omega)]; first | done | omega))))) ?_
            exact zx_iret hC hE (Nat.le_refl _) (Nat.le_refl _) (fun H h => ⟨h, rfl⟩) dX2_faultOf_79
        · refine zx_bipush (z := (-4)) hC dX2_faultOf_51 rfl ?_
          refine zx_topi (b := tFlt pd (iv 2) 0 61 0) (by rw [← h5]; first | rfl | (rw [tFlt0_s]; first | (rw [if_pos (by omega)]; first | done | omega) | (rw [if_neg (by omega)]; first | (rw [if_pos (by omega)]; first | done | omega) | (rw [if_neg (by omega)]; (rw [if_pos (by omega)]; first | done | omega))))) ?_
          exact zx_iret hC hE (Nat.le_refl _) (Nat.le_refl _) (fun H h => ⟨h, rfl⟩) dX2_faultOf_53
      · refine zx_iconst (z := (-1)) hC dX2_faultOf_37 ?_
        refine zx_iload hC dX2_faultOf_38 rfl ?_
        refine zx_isub hC dX2_faultOf_40 ?_
        refine zx_topi (b := tFlt pd (iv 2) 0 61 0) (by rw [← h5]; first | rfl | (rw [tFlt0_s]; first | (rw [if_pos (by omega)]; first | done | omega) | (rw [if_neg (by omega)]; first | (rw [if_pos (by omega)]; first | done | omega) | (rw [if_neg (by omega)]; (rw [if_pos (by omega)]; first | done | omega))))) ?_
        exact zx_iret hC hE (Nat.le_refl _) (Nat.le_refl _) (fun H h => ⟨h, rfl⟩) dX2_faultOf_41
  exact loop 61 0 0 (by omega) (by omega) rfl
set_option maxHeartbeats 4000000 in
theorem m_X2_faultOf1 (la : Launch) (G : zG) (ad : Nat → Nat) (h : Nat → Nat) (F : Nat → Nat → Nat → Nat) (ps : Nat → zRS) (sn : zRS) (iv pd : Nat → Nat) (sp : Nat → Int)  (g0 : iv 2 ≤ 60) (gP : tPd pd) : zRd la yX2_faultOf cX2_faultOf 5 (some .int) 3 68 G [.ref (ad 0), .int (iI 1)] (zRf G ad ((h, F), ps, sn, iv, pd, sp)) (fun v9 => v9 = some (.int (iI (tFlt pd (iv 2) 1 61 0)))) := by
  refine zRd.of [some (.ref (ad 0)), some (.int (iI 1)), none, none, none] (by decide) (Nat.le_of_ble_eq_true rfl) rfl (fun X hl hC hRm hP hE => ?_)
  refine zx_iconst (z := 0) hC dX2_faultOf_0 ?_
  refine zx_istore_n (L' := [some (.ref (ad 0)), some (.int (iI 1)), some (.int (iI 0)), none, none]) hC dX2_faultOf_1 (by decide) rfl ?_
  refine zx_iconst (z := 0) hC dX2_faultOf_2 ?_
  refine zx_istore_n (L' := [some (.ref (ad 0)), some (.int (iI 1)), some (.int (iI 0)), some (.int (iI 0)), none]) hC dX2_faultOf_3 (by decide) rfl ?_
  have loop : ∀ f k p : Nat, k + f = 61 → p ≤ 61 → tFlt pd (iv 2) 1 f p = tFlt pd (iv 2) 1 61 0 → zVr X 5 4 [some (.ref (ad 0)), some (.int (iI 1)), some (.int (iI ((p : Nat) : Int))), some (.int (iI ((k : Nat) : Int))), none] [] := by
    intro f
    induction f with
    | zero =>
      intro k p h1 h2 h5
      refine zx_iload_n hC dX2_faultOf_4 rfl ?_
      refine zx_bipush (z := 60) hC dX2_faultOf_5 rfl ?_
      refine zx_icmp_gtT (tgt := 86) hC dX2_faultOf_7 (by decide) (by first | assumption | exact gI _ (by omega) | exact iRm (by omega) (by omega)) (by first | assumption | exact gI _ (by omega) | exact iRm (by omega) (by omega)) (by omega) ?_
      refine zx_bipush (z := (-4)) hC dX2_faultOf_86 rfl ?_
      refine zx_topi (b := tFlt pd (iv 2) 1 61 0) (by rw [← h5]; first | rfl | (rw [tFlt1_s]; first | (rw [if_pos (by omega)]; first | done | omega) | (rw [if_neg (by omega)]; first | (rw [if_pos (by omega)]; first | done | omega) | (rw [if_neg (by omega)]; (rw [if_pos (by omega)]; first | done | omega))))) ?_
      exact zx_iret hC hE (Nat.le_refl _) (Nat.le_refl _) (fun H h => ⟨h, rfl⟩) dX2_faultOf_88
    | succ f ih =>
      intro k p h1 h2 h5
      have ge := tNuE_r (pd := pd) (ln := iv 2) (p := ((p : Nat) : Int)) (least := 0) (most := 35) (by omega) (by omega) g0
      have ge2 : 0 ≤ tNuE pd (iv 2) ((p : Nat) : Int) 0 35 → _ := fun q => tNuE_in q (by omega)
      have ge3 := tBeh_r (pd := pd) (ln := iv 2) (p := tNuE pd (iv 2) ((p : Nat) : Int) 0 35) (sign := 44) (by omega) (by omega)
      have ge4 : 0 ≤ tBeh pd (iv 2) (tNuE pd (iv 2) ((p : Nat) : Int) 0 35) 44 → _ := fun q => tBeh_in q (by omega)
      refine zx_iload_n hC dX2_faultOf_4 rfl ?_
      refine zx_bipush (z := 60) hC dX2_faultOf_5 rfl ?_
      refine zx_icmp_gtF (tgt := 86) hC dX2_faultOf_7 (by decide) (by first | assumption | exact gI _ (by omega) | exact iRm (by omega) (by omega)) (by first | assumption | exact gI _ (by omega) | exact iRm (by omega) (by omega)) (by omega) ?_
      refine zx_iload_n hC dX2_faultOf_10 rfl ?_
      refine zx_if_neT (tgt := 22) hC dX2_faultOf_11 (by decide) (by first | assumption | exact gI _ (by omega) | exact iRm (by omega) (by omega)) (by omega) ?_
      refine zx_aload_n hC dX2_faultOf_22 rfl ?_
      refine zx_iload_n hC dX2_faultOf_23 rfl ?_
      refine zx_iconst (z := 0) hC dX2_faultOf_24 ?_
      refine zx_bipush (z := 35) hC dX2_faultOf_25 rfl ?_
      refine zx_rd1 (r := .int (iI (tNuE pd (iv 2) ((p : Nat) : Int) 0 35))) hC zNoA (zcV 3 (As := [.int (iI ((p : Nat) : Int)), .int (iI 0), .int (iI 35)]) hC (lw_V q1831 q1833 qs65 q93 q1834) (by decide +kernel) rfl (by rw [hRm]; decide) (by rw [hRm]; decide) rfl (Nat.le_of_ble_eq_true rfl) dX2_faultOf_27) (m_X2_numberEnd (zl X) G ad h F ps sn iv pd sp ((p : Nat) : Int) 0 35 (by first | assumption | omega | exact iRm (by omega) (by omega) | ((repeat (first | exact gL | refine rLs.up ?_ (by omega) (by omega) | refine rLs.fad ?_)); done) | ((repeat (first | exact gM | refine rHM.up ?_ (by omega))); done) | exact gT _ (by omega) | exact rFadF_le gF _ | ((repeat first | rw [va_up_ne _ _ (by omega)] | rw [va_up_self] | rw [rFadH_o (by omega)] | rw [rAge_o _ _ (by omega)] | rw [rLayH_o (by omega) (by omega) (by omega) (by omega)]); omega)) (by first | assumption | omega | exact iRm (by omega) (by omega) | ((repeat (first | exact gL | refine rLs.up ?_ (by omega) (by omega) | refine rLs.fad ?_)); done) | ((repeat (first | exact gM | refine rHM.up ?_ (by omega))); done) | exact gT _ (by omega) | exact rFadF_le gF _ | ((repeat first | rw [va_up_ne _ _ (by omega)] | rw [va_up_self] | rw [rFadH_o (by omega)] | rw [rAge_o _ _ (by omega)] | rw [rLayH_o (by omega) (by omega) (by omega) (by omega)]); omega)) (by first | assumption | omega | exact iRm (by omega) (by omega) | ((repeat (first | exact gL | refine rLs.up ?_ (by omega) (by omega) | refine rLs.fad ?_)); done) | ((repeat (first | exact gM | refine rHM.up ?_ (by omega))); done) | exact gT _ (by omega) | exact rFadF_le gF _ | ((repeat first | rw [va_up_ne _ _ (by omega)] | rw [va_up_self] | rw [rFadH_o (by omega)] | rw [rAge_o _ _ (by omega)] | rw [rLayH_o (by omega) (by omega) (by omega) (by omega)]); omega)) (by first | assumption | omega | exact iRm (by omega) (by omega) | ((repeat (first | exact gL | refine rLs.up ?_ (by omega) (by omega) | refine rLs.fad ?_)); done) | ((repeat (first | exact gM | refine rHM.up ?_ (by omega))); done) | exact gT _ (by omega) | exact rFadF_le gF _ | ((repeat first | rw [va_up_ne _ _ (by omega)] | rw [va_up_self] | rw [rFadH_o (by omega)] | rw [rAge_o _ _ (by omega)] | rw [rLayH_o (by omega) (by omega) (by omega) (by omega)]); omega)) (by first | assumption | omega | exact iRm (by omega) (by omega) | ((repeat (first | exact gL | refine rLs.up ?_ (by omega) (by omega) | refine rLs.fad ?_)); done) | ((repeat (first | exact gM | refine rHM.up ?_ (by omega))); done) | exact gT _ (by omega) | exact rFadF_le gF _ | ((repeat first | rw [va_up_ne _ _ (by omega)] | rw [va_up_self] | rw [rFadH_o (by omega)] | rw [rAge_o _ _ (by omega)] | rw [rLayH_o (by omega) (by omega) (by omega) (by omega)]); omega)) (by first | assumption | omega | exact iRm (by omega) (by omega) | ((repeat (first | exact gL | refine rLs.up ?_ (by omega) (by omega) | refine rLs.fad ?_)); done) | ((repeat (first | exact gM | refine rHM.up ?_ (by omega))); done) | exact gT _ (by omega) | exact rFadF_le gF _ | ((repeat first | rw [va_up_ne _ _ (by omega)] | rw [va_up_self] | rw [rFadH_o (by omega)] | rw [rAge_o _ _ (by omega)] | rw [rLayH_o (by omega) (by omega) (by omega) (by omega)]); omega))) (zr_rc hC hP.eq) hP.eq ?_
      refine zx_istore (L' := [some (.ref (ad 0)), some (.int (iI 1)), some (.int (iI ((p : Nat) : Int))), some (.int (iI ((k : Nat) : Int))), some (.int (iI (tNuE pd (iv 2) ((p : Nat) : Int) 0 35)))]) hC dX2_faultOf_30 (by decide) rfl ?_
      refine zx_iload hC dX2_faultOf_32 rfl ?_
      refine zx_if_ge (tgt := 42) hC dX2_faultOf_34 (by decide) (by first | assumption | exact gI _ (by omega) | exact iRm (by omega) (by omega)) (fun c34 => ?_) (fun c34 => ?_)
      · refine zx_iload hC dX2_faultOf_42 rfl ?_
        refine zx_aload_n hC dX2_faultOf_44 rfl ?_
        refine zr_get (v := .int (iI ((iv 2 : Nat) : Int))) hC hP.eq 6 (by decide) dX2_faultOf_45 q1616 rfl ?_
        refine zx_icmp_ne (tgt := 54) hC dX2_faultOf_48 (by decide) (by first | assumption | exact gI _ (by omega) | exact iRm (by omega) (by omega)) (by first | assumption | exact gI _ (by omega) | exact iRm (by omega) (by omega)) (fun c48 => ?_) (fun c48 => ?_)
        · refine zx_iload_n hC dX2_faultOf_54 rfl ?_
          refine zx_if_neT (tgt := 63) hC dX2_faultOf_55 (by decide) (by first | assumption | exact gI _ (by omega) | exact iRm (by omega) (by omega)) (by omega) ?_
          refine zx_aload_n hC dX2_faultOf_63 rfl ?_
          refine zx_iload hC dX2_faultOf_64 rfl ?_
          refine zx_bipush (z := 44) hC dX2_faultOf_66 rfl ?_
          refine zx_rd1 (r := .int (iI (tBeh pd (iv 2) (tNuE pd (iv 2) ((p : Nat) : Int) 0 35) 44))) hC zNoA (zcV 2 (As := [.int (iI (tNuE pd (iv 2) ((p : Nat) : Int) 0 35)), .int (iI 44)]) hC (lw_V q1839 q1841 qs67 q93 q1842) (by decide +kernel) rfl (by rw [hRm]; decide) (by rw [hRm]; decide) rfl (Nat.le_of_ble_eq_true rfl) dX2_faultOf_68) (m_X2_behind (zl X) G ad h F ps sn iv pd sp (tNuE pd (iv 2) ((p : Nat) : Int) 0 35) 44 (by first | assumption | omega | exact iRm (by omega) (by omega) | ((repeat (first | exact gL | refine rLs.up ?_ (by omega) (by omega) | refine rLs.fad ?_)); done) | ((repeat (first | exact gM | refine rHM.up ?_ (by omega))); done) | exact gT _ (by omega) | exact rFadF_le gF _ | ((repeat first | rw [va_up_ne _ _ (by omega)] | rw [va_up_self] | rw [rFadH_o (by omega)] | rw [rAge_o _ _ (by omega)] | rw [rLayH_o (by omega) (by omega) (by omega) (by omega)]); omega)) (by first | assumption | omega | exact iRm (by omega) (by omega) | ((repeat (first | exact gL | refine rLs.up ?_ (by omega) (by omega) | refine rLs.fad ?_)); done) | ((repeat (first | exact gM | refine rHM.up ?_ (by omega))); done) | exact gT _ (by omega) | exact rFadF_le gF _ | ((repeat first | rw [va_up_ne _ _ (by omega)] | rw [va_up_self] | rw [rFadH_o (by omega)] | rw [rAge_o _ _ (by omega)] | rw [rLayH_o (by omega) (by omega) (by omega) (by omega)]); omega)) (by first | assumption | omega | exact iRm (by omega) (by omega) | ((repeat (first | exact gL | refine rLs.up ?_ (by omega) (by omega) | refine rLs.fad ?_)); done) | ((repeat (first | exact gM | refine rHM.up ?_ (by omega))); done) | exact gT _ (by omega) | exact rFadF_le gF _ | ((repeat first | rw [va_up_ne _ _ (by omega)] | rw [va_up_self] | rw [rFadH_o (by omega)] | rw [rAge_o _ _ (by omega)] | rw [rLayH_o (by omega) (by omega) (by omega) (by omega)]); omega)) (by first | assumption | omega | exact iRm (by omega) (by omega) | ((repeat (first | exact gL | refine rLs.up ?_ (by omega) (by omega) | refine rLs.fad ?_)); done) | ((repeat (first | exact gM | refine rHM.up ?_ (by omega))); done) | exact gT _ (by omega) | exact rFadF_le gF _ | ((repeat first | rw [va_up_ne _ _ (by omega)] | rw [va_up_self] | rw [rFadH_o (by omega)] | rw [rAge_o _ _ (by omega)] | rw [rLayH_o (by omega) (by omega) (by omega) (by omega)]); omega)) (by first | assumption | omega | exact iRm (by omega) (by omega) | ((repeat (first | exact gL | refine rLs.up ?_ (by omega) (by omega) | refine rLs.fad ?_)); done) | ((repeat (first | exact gM | refine rHM.up ?_ (by omega))); done) | exact gT _ (by omega) | exact rFadF_le gF _ | ((repeat first | rw [va_up_ne _ _ (by omega)] | rw [va_up_self] | rw [rFadH_o (by omega)] | rw [rAge_o _ _ (by omega)] | rw [rLayH_o (by omega) (by omega) (by omega) (by omega)]); omega)) (by first | assumption | omega | exact iRm (by omega) (by omega) | ((repeat (first | exact gL | refine rLs.up ?_ (by omega) (by omega) | refine rLs.fad ?_)); done) | ((repeat (first | exact gM | refine rHM.up ?_ (by omega))); done) | exact gT _ (by omega) | exact rFadF_le gF _ | ((repeat first | rw [va_up_ne _ _ (by omega)] | rw [va_up_self] | rw [rFadH_o (by omega)] | rw [rAge_o _ _ (by omega)] | rw [rLayH_o (by omega) (by omega) (by omega) (by omega)]); omega))) (zr_rc hC hP.eq) hP.eq ?_
          refine zx_istore_n (L' := [some (.ref (ad 0)), some (.int (iI 1)), some (.int (iI (tBeh pd (iv 2) (tNuE pd (iv 2) ((p : Nat) : Int) 0 35) 44))), some (.int (iI ((k : Nat) : Int))), some (.int (iI (tNuE pd (iv 2) ((p : Nat) : Int) 0 35)))]) hC dX2_faultOf_71 (by decide) rfl ?_
          refine zx_iload_n hC dX2_faultOf_72 rfl ?_
          refine zx_if_ge (tgt := 80) hC dX2_faultOf_73 (by decide) (by first | assumption | exact gI _ (by omega) | exact iRm (by omega) (by omega)) (fun c73 => ?_) (fun c73 => ?_)
          · obtain ⟨q, eq⟩ : ∃ q : Nat, tBeh pd (iv 2) (tNuE pd (iv 2) ((p : Nat) : Int) 0 35) 44 = (q : Int) := ⟨(tBeh pd (iv 2) (tNuE pd (iv 2) ((p : Nat) : Int) 0 35) 44).toNat, by omega⟩
            rw [eq]
            refine zx_iinc (b := ((k + 1 : Nat) : Int)) (L' := [some (.ref (ad 0)), some (.int (iI 1)), some (.int (iI ((q : Nat) : Int))), some (.int (iI ((k + 1 : Nat) : Int))), some (.int (iI (tNuE pd (iv 2) ((p : Nat) : Int) 0 35)))]) hC dX2_faultOf_80 rfl (by first | rfl | omega) (by decide) rfl ?_
            refine zx_goto (tgt := 4) hC dX2_faultOf_83 (by decide) ?_
            refine zx_le (L' := [some (.ref (ad 0)), some (.int (iI 1)), some (.int (iI ((q : Nat) : Int))), some (.int (iI ((k + 1 : Nat) : Int))), none]) (zle_s (zle_s (zle_s (zle_s (zle_n zle_0))))) ?_
            exact ih (k + 1) (q) (by omega) (by omega) ((show tFlt pd (iv 2) 1 (f + 1) p = tFlt pd (iv 2) 1 f (q) from by rw [tFlt1_s, if_neg (by omega), if_neg (by omega), if_neg (by omega)]; congr 1; omega).symm.trans h5)
          · refine zx_iconst (z := (-1)) hC dX2_faultOf_76 ?_
            refine zx_iload_n hC dX2_faultOf_77 rfl ?_
            refine zx_isub hC dX2_faultOf_78 ?_
            refine zx_topi (b := tFlt pd (iv 2) 1 61 0) (by rw [← h5]; first | rfl | (rw [tFlt1_s]; first | (rw [if_pos (by omega)]; first | done | omega) | (rw [if_neg (by omega)]; first | (rw [if_pos (by omega)]; first | done | omega) | (rw [if_neg (by omega)]; (rw [if_pos (by omega)]; first | done | omega))))) ?_
            exact zx_iret hC hE (Nat.le_refl _) (Nat.le_refl _) (fun H h => ⟨h, rfl⟩) dX2_faultOf_79
        · refine zx_bipush (z := (-4)) hC dX2_faultOf_51 rfl ?_
          refine zx_topi (b := tFlt pd (iv 2) 1 61 0) (by rw [← h5]; first | rfl | (rw [tFlt1_s]; first | (rw [if_pos (by omega)]; first | done | omega) | (rw [if_neg (by omega)]; first | (rw [if_pos (by omega)]; first | done | omega) | (rw [if_neg (by omega)]; (rw [if_pos (by omega)]; first | done | omega))))) ?_
          exact zx_iret hC hE (Nat.le_refl _) (Nat.le_refl _) (fun H h => ⟨h, rfl⟩) dX2_faultOf_53
      · refine zx_iconst (z := (-1)) hC dX2_faultOf_37 ?_
        refine zx_iload hC dX2_faultOf_38 rfl ?_
        refine zx_isub hC dX2_faultOf_40 ?_
        refine zx_topi (b := tFlt pd (iv 2) 1 61 0) (by rw [← h5]; first | rfl | (rw [tFlt1_s]; first | (rw [if_pos (by omega)]; first | done | omega) | (rw [if_neg (by omega)]; first | (rw [if_pos (by omega)]; first | done | omega) | (rw [if_neg (by omega)]; (rw [if_pos (by omega)]; first | done | omega))))) ?_
        exact zx_iret hC hE (Nat.le_refl _) (Nat.le_refl _) (fun H h => ⟨h, rfl⟩) dX2_faultOf_41
  exact loop 61 0 0 (by omega) (by omega) rfl
