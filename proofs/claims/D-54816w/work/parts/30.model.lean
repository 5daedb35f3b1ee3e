/-! the reference, walked: part 30 (printed by gen/gen.py) -/
set_option maxRecDepth 100000
set_option maxHeartbeats 4000000 in
theorem m_X2_comesAt (la : Launch) (G : zG) (ad : Nat → Nat) (h : Nat → Nat) (F : Nat → Nat → Nat → Nat) (ps : Nat → zRS) (sn : zRS) (iv pd : Nat → Nat) (sp : Nat → Int) (c : Nat) (nn : Nat) (g0 : c < rLoop h) (g1 : h 2 ≤ 1) (gM : rHM h) (gL : rLs h) (gF : rFb F) (g5 : iv 2 ≤ 60) (gP : tPd pd) (gN : tTuOK pd (iv 2) nn) (g8 : rLoop h ≠ 0) : zRd la yX2_comesAt cX2_comesAt 5 (some .boolean) 4 100 G [.ref (ad 0), .int (iI ((c : Nat) : Int))] (zRf G ad ((h, F), ps, sn, iv, pd, sp)) (fun v9 => v9 = some (.int (iI ((rCome h F pd (iv 2) c nn : Nat) : Int)))) := by
  refine zRd.of [some (.ref (ad 0)), some (.int (iI ((c : Nat) : Int))), none, none, none] (by decide) (Nat.le_of_ble_eq_true rfl) rfl (fun X hl hC hRm hP hE => ?_)
  have g7 := gL.1
  have gl := rLoop_le gL
  refine zx_iconst (z := 1) hC dX2_comesAt_0 ?_
  refine zx_istore_n (L' := [some (.ref (ad 0)), some (.int (iI ((c : Nat) : Int))), some (.int (iI 1)), none, none]) hC dX2_comesAt_1 (by decide) rfl ?_
  refine zx_iload_n hC dX2_comesAt_2 rfl ?_
  refine zx_istore_n (L' := [some (.ref (ad 0)), some (.int (iI ((c : Nat) : Int))), some (.int (iI 1)), some (.int (iI ((c : Nat) : Int))), none]) hC dX2_comesAt_3 (by decide) rfl ?_
  refine zx_iconst (z := 0) hC dX2_comesAt_4 ?_
  refine zx_istore (L' := [some (.ref (ad 0)), some (.int (iI ((c : Nat) : Int))), some (.int (iI 1)), some (.int (iI ((c : Nat) : Int))), some (.int (iI 0))]) hC dX2_comesAt_5 (by decide) rfl ?_
  have loop : ∀ f i : Nat, i + f = nn → rTuA h c i < rLoop h → tTuP pd (iv 2) i ≤ iv 2 + 1 → zVr X 5 7 [some (.ref (ad 0)), some (.int (iI ((c : Nat) : Int))), some (.int (iI ((rCome h F pd (iv 2) c i : Nat) : Int))), some (.int (iI ((rTuA h c i : Nat) : Int))), some (.int (iI ((tTuP pd (iv 2) i : Nat) : Int)))] [] := by
    intro f
    induction f with
    | zero =>
      intro i h1 h2 h8
      have h3 : i = nn := by omega
      have g8 := gN.1
      rw [← h3] at g8
      have g9 := rCome_le h F pd (iv 2) c i
      have g10 := rCome_le h F pd (iv 2) c nn
      refine zx_iload hC dX2_comesAt_7 rfl ?_
      refine zx_aload_n hC dX2_comesAt_9 rfl ?_
      refine zr_get (v := .int (iI ((iv 2 : Nat) : Int))) hC hP.eq 6 (by decide) dX2_comesAt_10 q1616 rfl ?_
      refine zx_icmp_geT (tgt := 66) hC dX2_comesAt_13 (by decide) (by first | assumption | exact gI _ (by omega) | exact iRm (by omega) (by omega)) (by first | assumption | exact gI _ (by omega) | exact iRm (by omega) (by omega)) (by omega) ?_
      refine zx_iload_n hC dX2_comesAt_66 rfl ?_
      refine zx_topi (b := ((rCome h F pd (iv 2) c nn : Nat) : Int)) (by rw [h3]) ?_
      exact zx_nret hC hE (znar (by omega)) (Nat.le_refl _) (Nat.le_refl _) (fun H h => ⟨h, rfl⟩) dX2_comesAt_67
    | succ f ih =>
      intro i h1 h2 h8
      obtain ⟨h3, h4, h5⟩ := gN.2 i (by omega)
      have h6 := tNuE_in h4 (by omega)
      have g9 := rCome_le h F pd (iv 2) c i
      have gm : (rTuA h c i + 1) % rLoop h < rLoop h := Nat.mod_lt _ (by omega)
      refine zx_iload hC dX2_comesAt_7 rfl ?_
      refine zx_aload_n hC dX2_comesAt_9 rfl ?_
      refine zr_get (v := .int (iI ((iv 2 : Nat) : Int))) hC hP.eq 6 (by decide) dX2_comesAt_10 q1616 rfl ?_
      refine zx_icmp_geF (tgt := 66) hC dX2_comesAt_13 (by decide) (by first | assumption | exact gI _ (by omega) | exact iRm (by omega) (by omega)) (by first | assumption | exact gI _ (by omega) | exact iRm (by omega) (by omega)) (by omega) ?_
      have J16 : zVr X 5 40 [some (.ref (ad 0)), some (.int (iI ((c : Nat) : Int))), some (.int (iI ((rCome h F pd (iv 2) c i : Nat) : Int))), some (.int (iI ((rTuA h c i : Nat) : Int))), some (.int (iI ((tTuP pd (iv 2) i : Nat) : Int)))] [.int (iI ((rCome h F pd (iv 2) c (i + 1) : Nat) : Int))] := by
        have gc1 := rCome_le h F pd (iv 2) c (i + 1)
        refine zx_istore_n (L' := [some (.ref (ad 0)), some (.int (iI ((c : Nat) : Int))), some (.int (iI ((rCome h F pd (iv 2) c (i + 1) : Nat) : Int))), some (.int (iI ((rTuA h c i : Nat) : Int))), some (.int (iI ((tTuP pd (iv 2) i : Nat) : Int)))]) hC dX2_comesAt_40 (by decide) rfl ?_
        refine zx_iload_n hC dX2_comesAt_41 rfl ?_
        refine zx_iconst (z := 1) hC dX2_comesAt_42 ?_
        refine zx_iadd hC dX2_comesAt_43 ?_
        refine zx_aload_n hC dX2_comesAt_44 rfl ?_
        refine zx_rd1 (r := .int (iI ((rLoop h : Nat) : Int))) hC zNoA (zcV 0 (As := []) hC (lw_V q1705 q1707 qs47 q93 q1708) (by decide +kernel) rfl (by rw [hRm]; decide) (by rw [hRm]; decide) rfl (Nat.le_of_ble_eq_true rfl) dX2_comesAt_45) (m_X2_loop (zl X) G ad h F (ps, sn, iv, pd, sp)  (by first | assumption | omega | exact iRm (by omega) (by omega) | ((repeat (first | exact gL | refine rLs.up ?_ (by omega) (by omega) | refine rLs.fad ?_)); done) | ((repeat (first | exact gM | refine rHM.up ?_ (by omega))); done) | exact gT _ (by omega) | exact rFadF_le gF _ | ((repeat first | rw [va_up_ne _ _ (by omega)] | rw [va_up_self] | rw [rFadH_o (by omega)] | rw [rAge_o _ _ (by omega)] | rw [rLayH_o (by omega) (by omega) (by omega) (by omega)]); omega))) (zr_rc hC hP.eq) hP.eq ?_
        refine zx_irem hC dX2_comesAt_48 (by first | assumption | exact gI _ (by omega) | exact iRm (by omega) (by omega)) (by first | assumption | exact gI _ (by omega) | exact iRm (by omega) (by omega)) (by omega) (by omega) ?_
        refine zx_istore_n (L' := [some (.ref (ad 0)), some (.int (iI ((c : Nat) : Int))), some (.int (iI ((rCome h F pd (iv 2) c (i + 1) : Nat) : Int))), some (.int (iI ((((rTuA h c i) + 1) % (rLoop h) : Nat) : Int))), some (.int (iI ((tTuP pd (iv 2) i : Nat) : Int)))]) hC dX2_comesAt_49 (by decide) rfl ?_
        refine zx_aload_n hC dX2_comesAt_50 rfl ?_
        refine zx_iload hC dX2_comesAt_51 rfl ?_
        refine zx_iconst (z := 0) hC dX2_comesAt_53 ?_
        refine zx_bipush (z := 35) hC dX2_comesAt_54 rfl ?_
        refine zx_rd1 (r := .int (iI (tNuE pd (iv 2) ((tTuP pd (iv 2) i : Nat) : Int) 0 35))) hC zNoA (zcV 3 (As := [.int (iI ((tTuP pd (iv 2) i : Nat) : Int)), .int (iI 0), .int (iI 35)]) hC (lw_V q1831 q1833 qs65 q93 q1834) (by decide +kernel) rfl (by rw [hRm]; decide) (by rw [hRm]; decide) rfl (Nat.le_of_ble_eq_true rfl) dX2_comesAt_56) (m_X2_numberEnd (zl X) G ad h F ps sn iv pd sp ((tTuP pd (iv 2) i : Nat) : Int) 0 35 (by first | assumption | omega | exact iRm (by omega) (by omega) | ((repeat (first | exact gL | refine rLs.up ?_ (by omega) (by omega) | refine rLs.fad ?_)); done) | ((repeat (first | exact gM | refine rHM.up ?_ (by omega))); done) | exact gT _ (by omega) | exact rFadF_le gF _ | ((repeat first | rw [va_up_ne _ _ (by omega)] | rw [va_up_self] | rw [rFadH_o (by omega)] | rw [rAge_o _ _ (by omega)] | rw [rLayH_o (by omega) (by omega) (by omega) (by omega)]); omega)) (by first | assumption | omega | exact iRm (by omega) (by omega) | ((repeat (first | exact gL | refine rLs.up ?_ (by omega) (by omega) | refine rLs.fad ?_)); done) | ((repeat (first | exact gM | refine rHM.up ?_ (by omega))); done) | exact gT _ (by omega) | exact rFadF_le gF _ | ((repeat first | rw [va_up_ne _ _ (by omega)] | rw [va_up_self] | rw [rFadH_o (by omega)] | rw [rAge_o _ _ (by omega)] | rw [rLayH_o (by omega) (by omega) (by omega) (by omega)]); omega)) (by first | assumption | omega | exact iRm (by omega) (by omega) | ((repeat (first | exact gL | refine rLs.up ?_ (by omega) (by omega) | refine rLs.fad ?_)); done) | ((repeat (first | exact gM | refine rHM.up ?_ (by omega))); done) | exact gT _ (by omega) | exact rFadF_le gF _ | ((repeat first | rw [va_up_ne _ _ (by omega)] | rw [va_up_self] | rw [rFadH_o (by omega)] | rw [rAge_o _ _ (by omega)] | rw [rLayH_o (by omega) (by omega) (by omega) (by omega)]); omega)) (by first | assumption | omega | exact iRm (by omega) (by omega) | ((repeat (first | exact gL | refine rLs.up ?_ (by omega) (by omega) | refine rLs.fad ?_)); done) | ((repeat (first | exact gM | refine rHM.up ?_ (by omega))); done) | exact gT _ (by omega) | exact rFadF_le gF _ | ((repeat first | rw [va_up_ne _ _ (by omega)] | rw [va_up_self] | rw [rFadH_o (by omega)] | rw [rAge_o _ _ (by omega)] | rw [rLayH_o (by omega) (by omega) (by omega) (by omega)]); omega)) (by first | assumption | omega | exact iRm (by omega) (by omega) | ((repeat (first | exact gL | refine rLs.up ?_ (by omega) (by omega) | refine rLs.fad ?_)); done) | ((repeat (first | exact gM | refine rHM.up ?_ (by omega))); done) | exact gT _ (by omega) | exact rFadF_le gF _ | ((repeat first | rw [va_up_ne _ _ (by omega)] | rw [va_up_self] | rw [rFadH_o (by omega)] | rw [rAge_o _ _ (by omega)] | rw [rLayH_o (by omega) (by omega) (by omega) (by omega)]); omega)) (by first | assumption | omega | exact iRm (by omega) (by omega) | ((repeat (first | exact gL | refine rLs.up ?_ (by omega) (by omega) | refine rLs.fad ?_)); done) | ((repeat (first | exact gM | refine rHM.up ?_ (by omega))); done) | exact gT _ (by omega) | exact rFadF_le gF _ | ((repeat first | rw [va_up_ne _ _ (by omega)] | rw [va_up_self] | rw [rFadH_o (by omega)] | rw [rAge_o _ _ (by omega)] | rw [rLayH_o (by omega) (by omega) (by omega) (by omega)]); omega))) (zr_rc hC hP.eq) hP.eq ?_
        refine zx_iconst (z := 1) hC dX2_comesAt_59 ?_
        refine zx_iadd hC dX2_comesAt_60 ?_
        refine zx_topi (b := ((tTuP pd (iv 2) (i + 1) : Nat) : Int)) (by simp only [tTuP]; omega) ?_
        refine zx_istore (L' := [some (.ref (ad 0)), some (.int (iI ((c : Nat) : Int))), some (.int (iI ((rCome h F pd (iv 2) c (i + 1) : Nat) : Int))), some (.int (iI ((((rTuA h c i) + 1) % (rLoop h) : Nat) : Int))), some (.int (iI ((tTuP pd (iv 2) (i + 1) : Nat) : Int)))]) hC dX2_comesAt_61 (by decide) rfl ?_
        refine zx_goto (tgt := 7) hC dX2_comesAt_63 (by decide) ?_
        exact ih (i + 1) (by omega) gm (by simp only [tTuP]; omega)
      refine zx_iload_n hC dX2_comesAt_16 rfl ?_
      refine zx_if_eq (tgt := 39) hC dX2_comesAt_17 (by decide) (by first | assumption | exact gI _ (by omega) | exact iRm (by omega) (by omega)) (fun c17 => ?_) (fun c17 => ?_)
      · refine zx_iconst (z := 0) hC dX2_comesAt_39 ?_
        refine zx_topi (b := ((rCome h F pd (iv 2) c (i + 1) : Nat) : Int)) (by simp only [rCome]; first | (rw [if_pos (by omega)]; first | done | rfl) | (rw [if_neg (by omega)]; first | done | rfl)) ?_
        exact J16
      · refine zx_aload_n hC dX2_comesAt_20 rfl ?_
        refine zx_iload_n hC dX2_comesAt_21 rfl ?_
        refine zx_iconst (z := 2) hC dX2_comesAt_22 ?_
        refine zx_rd1 (r := .int (iI (rKeys h F (rTuA h c i) 2))) hC zNoA (zcV 2 (As := [.int (iI ((rTuA h c i : Nat) : Int)), .int (iI 2)]) hC (lw_V q1899 q1901 qs76 q93 q1902) (by decide +kernel) rfl (by rw [hRm]; decide) (by rw [hRm]; decide) rfl (Nat.le_of_ble_eq_true rfl) dX2_comesAt_23) (m_X2_keys (zl X) G ad h F (ps, sn, iv, pd, sp) (rTuA h c i) 2 (by first | assumption | omega | exact iRm (by omega) (by omega) | ((repeat (first | exact gL | refine rLs.up ?_ (by omega) (by omega) | refine rLs.fad ?_)); done) | ((repeat (first | exact gM | refine rHM.up ?_ (by omega))); done) | exact gT _ (by omega) | exact rFadF_le gF _ | ((repeat first | rw [va_up_ne _ _ (by omega)] | rw [va_up_self] | rw [rFadH_o (by omega)] | rw [rAge_o _ _ (by omega)] | rw [rLayH_o (by omega) (by omega) (by omega) (by omega)]); omega)) (by first | assumption | omega | exact iRm (by omega) (by omega) | ((repeat (first | exact gL | refine rLs.up ?_ (by omega) (by omega) | refine rLs.fad ?_)); done) | ((repeat (first | exact gM | refine rHM.up ?_ (by omega))); done) | exact gT _ (by omega) | exact rFadF_le gF _ | ((repeat first | rw [va_up_ne _ _ (by omega)] | rw [va_up_self] | rw [rFadH_o (by omega)] | rw [rAge_o _ _ (by omega)] | rw [rLayH_o (by omega) (by omega) (by omega) (by omega)]); omega)) (by first | assumption | omega | exact iRm (by omega) (by omega) | ((repeat (first | exact gL | refine rLs.up ?_ (by omega) (by omega) | refine rLs.fad ?_)); done) | ((repeat (first | exact gM | refine rHM.up ?_ (by omega))); done) | exact gT _ (by omega) | exact rFadF_le gF _ | ((repeat first | rw [va_up_ne _ _ (by omega)] | rw [va_up_self] | rw [rFadH_o (by omega)] | rw [rAge_o _ _ (by omega)] | rw [rLayH_o (by omega) (by omega) (by omega) (by omega)]); omega)) (by first | assumption | omega | exact iRm (by omega) (by omega) | ((repeat (first | exact gL | refine rLs.up ?_ (by omega) (by omega) | refine rLs.fad ?_)); done) | ((repeat (first | exact gM | refine rHM.up ?_ (by omega))); done) | exact gT _ (by omega) | exact rFadF_le gF _ | ((repeat first | rw [va_up_ne _ _ (by omega)] | rw [va_up_self] | rw [rFadH_o (by omega)] | rw [rAge_o _ _ (by omega)] | rw [rLayH_o (by omega) (by omega) (by omega) (by omega)]); omega)) (by first | assumption | omega | exact iRm (by omega) (by omega) | ((repeat (first | exact gL | refine rLs.up ?_ (by omega) (by omega) | refine rLs.fad ?_)); done) | ((repeat (first | exact gM | refine rHM.up ?_ (by omega))); done) | exact gT _ (by omega) | exact rFadF_le gF _ | ((repeat first | rw [va_up_ne _ _ (by omega)] | rw [va_up_self] | rw [rFadH_o (by omega)] | rw [rAge_o _ _ (by omega)] | rw [rLayH_o (by omega) (by omega) (by omega) (by omega)]); omega)) (by first | assumption | omega | exact iRm (by omega) (by omega) | ((repeat (first | exact gL | refine rLs.up ?_ (by omega) (by omega) | refine rLs.fad ?_)); done) | ((repeat (first | exact gM | refine rHM.up ?_ (by omega))); done) | exact gT _ (by omega) | exact rFadF_le gF _ | ((repeat first | rw [va_up_ne _ _ (by omega)] | rw [va_up_self] | rw [rFadH_o (by omega)] | rw [rAge_o _ _ (by omega)] | rw [rLayH_o (by omega) (by omega) (by omega) (by omega)]); omega))) (zr_rc hC hP.eq) hP.eq ?_
        refine zx_aload_n hC dX2_comesAt_26 rfl ?_
        refine zx_iload hC dX2_comesAt_27 rfl ?_
        refine zx_rd1 (r := .int (iI (tNaA pd (iv 2) (tTuP pd (iv 2) i)))) hC zNoA (zcV 1 (As := [.int (iI ((tTuP pd (iv 2) i : Nat) : Int))]) hC (lw_V q1851 q1853 qs69 q93 q1854) (by decide +kernel) rfl (by rw [hRm]; decide) (by rw [hRm]; decide) rfl (Nat.le_of_ble_eq_true rfl) dX2_comesAt_29) (m_X2_numberAt (zl X) G ad h F ps sn iv pd sp (tTuP pd (iv 2) i) (by first | assumption | omega | exact iRm (by omega) (by omega) | ((repeat (first | exact gL | refine rLs.up ?_ (by omega) (by omega) | refine rLs.fad ?_)); done) | ((repeat (first | exact gM | refine rHM.up ?_ (by omega))); done) | exact gT _ (by omega) | exact rFadF_le gF _ | ((repeat first | rw [va_up_ne _ _ (by omega)] | rw [va_up_self] | rw [rFadH_o (by omega)] | rw [rAge_o _ _ (by omega)] | rw [rLayH_o (by omega) (by omega) (by omega) (by omega)]); omega)) (by first | assumption | omega | exact iRm (by omega) (by omega) | ((repeat (first | exact gL | refine rLs.up ?_ (by omega) (by omega) | refine rLs.fad ?_)); done) | ((repeat (first | exact gM | refine rHM.up ?_ (by omega))); done) | exact gT _ (by omega) | exact rFadF_le gF _ | ((repeat first | rw [va_up_ne _ _ (by omega)] | rw [va_up_self] | rw [rFadH_o (by omega)] | rw [rAge_o _ _ (by omega)] | rw [rLayH_o (by omega) (by omega) (by omega) (by omega)]); omega)) (by first | assumption | omega | exact iRm (by omega) (by omega) | ((repeat (first | exact gL | refine rLs.up ?_ (by omega) (by omega) | refine rLs.fad ?_)); done) | ((repeat (first | exact gM | refine rHM.up ?_ (by omega))); done) | exact gT _ (by omega) | exact rFadF_le gF _ | ((repeat first | rw [va_up_ne _ _ (by omega)] | rw [va_up_self] | rw [rFadH_o (by omega)] | rw [rAge_o _ _ (by omega)] | rw [rLayH_o (by omega) (by omega) (by omega) (by omega)]); omega))) (zr_rc hC hP.eq) hP.eq ?_
        have gkr := rFnd_r (fun k => rRing h F (h 7) (rTuA h c i) k) 2 36
        change -4 ≤ rKeys h F (rTuA h c i) 2 ∧ rKeys h F (rTuA h c i) 2 < _ at gkr
        refine zx_icmp_ne (tgt := 39) hC dX2_comesAt_32 (by decide) (by first | assumption | exact gI _ (by omega) | exact iRm (by omega) (by omega)) (by first | assumption | exact gI _ (by omega) | exact iRm (by omega) (by omega)) (fun c32 => ?_) (fun c32 => ?_)
        · refine zx_iconst (z := 0) hC dX2_comesAt_39 ?_
          refine zx_topi (b := ((rCome h F pd (iv 2) c (i + 1) : Nat) : Int)) (by simp only [rCome]; first | (rw [if_pos (by omega)]; first | done | rfl) | (rw [if_neg (by omega)]; first | done | rfl)) ?_
          exact J16
        · refine zx_iconst (z := 1) hC dX2_comesAt_35 ?_
          refine zx_goto (tgt := 40) hC dX2_comesAt_36 (by decide) ?_
          refine zx_topi (b := ((rCome h F pd (iv 2) c (i + 1) : Nat) : Int)) (by simp only [rCome]; first | (rw [if_pos (by omega)]; first | done | rfl) | (rw [if_neg (by omega)]; first | done | rfl)) ?_
          exact J16
  exact loop nn 0 (by omega) (show c < rLoop h by omega) (Nat.zero_le _)
set_option maxHeartbeats 4000000 in
theorem m_X2_tunesN (la : Launch) (G : zG) (ad : Nat → Nat) (h : Nat → Nat) (F : Nat → Nat → Nat → Nat) (ps : Nat → zRS) (sn : zRS) (iv pd : Nat → Nat) (sp : Nat → Int)  (g0 : iv 2 ≤ 60) (gP : tPd pd) (g2 : tFlt pd (iv 2) 1 61 0 ≠ -4 ∨ h 7 = 0) (g3 : iR (tFlt pd (iv 2) 1 61 0)) : zRd la yX2_tunes cX2_tunes 3 (some .int) 4 92 G [.ref (ad 0)] (zRf G ad ((h, F), ps, sn, iv, pd, sp)) (fun v9 => v9 = some (.int (iI (-2)))) := by
  refine zRd.of [some (.ref (ad 0)), none, none] (by decide) (Nat.le_of_ble_eq_true rfl) rfl (fun X hl hC hRm hP hE => ?_)
  refine zx_aload_n hC dX2_tunes_0 rfl ?_
  refine zx_iconst (z := 1) hC dX2_tunes_1 ?_
  refine zx_rd1 (r := .int (iI (tFlt pd (iv 2) 1 61 0))) hC zNoA (zcV 1 (As := [.int (iI 1)]) hC (lw_V q1819 q1821 qs62 q93 q1822) (by decide +kernel) rfl (by rw [hRm]; decide) (by rw [hRm]; decide) rfl (Nat.le_of_ble_eq_true rfl) dX2_tunes_2) (m_X2_faultOf1 (zl X) G ad h F ps sn iv pd sp  (by first | assumption | omega | exact iRm (by omega) (by omega) | ((repeat (first | exact gL | refine rLs.up ?_ (by omega) (by omega) | refine rLs.fad ?_)); done) | ((repeat (first | exact gM | refine rHM.up ?_ (by omega))); done) | exact gT _ (by omega) | exact rFadF_le gF _ | ((repeat first | rw [va_up_ne _ _ (by omega)] | rw [va_up_self] | rw [rFadH_o (by omega)] | rw [rAge_o _ _ (by omega)] | rw [rLayH_o (by omega) (by omega) (by omega) (by omega)]); omega)) (by first | assumption | omega | exact iRm (by omega) (by omega) | ((repeat (first | exact gL | refine rLs.up ?_ (by omega) (by omega) | refine rLs.fad ?_)); done) | ((repeat (first | exact gM | refine rHM.up ?_ (by omega))); done) | exact gT _ (by omega) | exact rFadF_le gF _ | ((repeat first | rw [va_up_ne _ _ (by omega)] | rw [va_up_self] | rw [rFadH_o (by omega)] | rw [rAge_o _ _ (by omega)] | rw [rLayH_o (by omega) (by omega) (by omega) (by omega)]); omega))) (zr_rc hC hP.eq) hP.eq ?_
  refine zx_bipush (z := (-4)) hC dX2_tunes_5 rfl ?_
  refine zx_icmp_ne (tgt := 19) hC dX2_tunes_7 (by decide) (by first | assumption | exact gI _ (by omega) | exact iRm (by omega) (by omega)) (by first | assumption | exact gI _ (by omega) | exact iRm (by omega) (by omega)) (fun c7 => ?_) (fun c7 => ?_)
  · refine zx_bipush (z := (-2)) hC dX2_tunes_19 rfl ?_
    exact zx_iret hC hE (Nat.le_refl _) (Nat.le_refl _) (fun H h => ⟨h, rfl⟩) dX2_tunes_21
  · refine zx_aload_n hC dX2_tunes_10 rfl ?_
    refine zx_bipush (z := 7) hC dX2_tunes_11 rfl ?_
    refine zx_rd1 (r := .int (iI ((h 7 : Nat) : Int))) hC zNoA (zcV 1 (As := [.int (iI 7)]) hC (lw_V q1651 q1653 qs35 q93 q1654) (by decide +kernel) rfl (by rw [hRm]; decide) (by rw [hRm]; decide) rfl (Nat.le_of_ble_eq_true rfl) dX2_tunes_13) (m_X2_of (zl X) G ad h F (ps, sn, iv, pd, sp) 7 (by first | assumption | omega | exact iRm (by omega) (by omega) | ((repeat (first | exact gL | refine rLs.up ?_ (by omega) (by omega) | refine rLs.fad ?_)); done) | ((repeat (first | exact gM | refine rHM.up ?_ (by omega))); done) | exact gT _ (by omega) | exact rFadF_le gF _ | ((repeat first | rw [va_up_ne _ _ (by omega)] | rw [va_up_self] | rw [rFadH_o (by omega)] | rw [rAge_o _ _ (by omega)] | rw [rLayH_o (by omega) (by omega) (by omega) (by omega)]); omega))) (zr_rc hC hP.eq) hP.eq ?_
    refine zx_if_ne (tgt := 22) hC dX2_tunes_16 (by decide) (by first | assumption | exact gI _ (by omega) | exact iRm (by omega) (by omega)) (fun c16 => ?_) (fun c16 => ?_)
    · exfalso; omega
    · refine zx_bipush (z := (-2)) hC dX2_tunes_19 rfl ?_
      exact zx_iret hC hE (Nat.le_refl _) (Nat.le_refl _) (fun H h => ⟨h, rfl⟩) dX2_tunes_21
set_option maxHeartbeats 4000000 in
theorem m_X2_tunesY (la : Launch) (G : zG) (ad : Nat → Nat) (h : Nat → Nat) (F : Nat → Nat → Nat → Nat) (ps : Nat → zRS) (sn : zRS) (iv pd : Nat → Nat) (sp : Nat → Int) (nn : Nat) (g0 : h 2 ≤ 1) (gM : rHM h) (gL : rLs h) (gF : rFb F) (g4 : iv 2 ≤ 60) (gP : tPd pd) (gN : tTuOK pd (iv 2) nn) (g7 : rLoop h ≠ 0) (g8 : tFlt pd (iv 2) 1 61 0 = -4) (g9 : h 7 ≠ 0) : zRd la yX2_tunes cX2_tunes 3 (some .int) 5 124 G [.ref (ad 0)] (zRf G ad ((h, F), ps, sn, iv, pd, sp)) (fun v9 => v9 = some (.int (iI ((zsumT (fun c => rCome h F pd (iv 2) c nn) (rLoop h) : Nat) : Int)))) := by
  refine zRd.of [some (.ref (ad 0)), none, none] (by decide) (Nat.le_of_ble_eq_true rfl) rfl (fun X hl hC hRm hP hE => ?_)
  have g7 := gL.1
  have gl := rLoop_le gL
  refine zx_aload_n hC dX2_tunes_0 rfl ?_
  refine zx_iconst (z := 1) hC dX2_tunes_1 ?_
  refine zx_rd1 (r := .int (iI (tFlt pd (iv 2) 1 61 0))) hC zNoA (zcV 1 (As := [.int (iI 1)]) hC (lw_V q1819 q1821 qs62 q93 q1822) (by decide +kernel) rfl (by rw [hRm]; decide) (by rw [hRm]; decide) rfl (Nat.le_of_ble_eq_true rfl) dX2_tunes_2) (m_X2_faultOf1 (zl X) G ad h F ps sn iv pd sp  (by first | assumption | omega | exact iRm (by omega) (by omega) | ((repeat (first | exact gL | refine rLs.up ?_ (by omega) (by omega) | refine rLs.fad ?_)); done) | ((repeat (first | exact gM | refine rHM.up ?_ (by omega))); done) | exact gT _ (by omega) | exact rFadF_le gF _ | ((repeat first | rw [va_up_ne _ _ (by omega)] | rw [va_up_self] | rw [rFadH_o (by omega)] | rw [rAge_o _ _ (by omega)] | rw [rLayH_o (by omega) (by omega) (by omega) (by omega)]); omega)) (by first | assumption | omega | exact iRm (by omega) (by omega) | ((repeat (first | exact gL | refine rLs.up ?_ (by omega) (by omega) | refine rLs.fad ?_)); done) | ((repeat (first | exact gM | refine rHM.up ?_ (by omega))); done) | exact gT _ (by omega) | exact rFadF_le gF _ | ((repeat first | rw [va_up_ne _ _ (by omega)] | rw [va_up_self] | rw [rFadH_o (by omega)] | rw [rAge_o _ _ (by omega)] | rw [rLayH_o (by omega) (by omega) (by omega) (by omega)]); omega))) (zr_rc hC hP.eq) hP.eq ?_
  refine zx_bipush (z := (-4)) hC dX2_tunes_5 rfl ?_
  refine zx_icmp_ne (tgt := 19) hC dX2_tunes_7 (by decide) (by first | exact iRm (by omega) (by omega) | (rw [show tFlt pd (iv 2) 1 61 0 = -4 by assumption]; exact iRm (by omega) (by omega))) (by first | exact iRm (by omega) (by omega) | (rw [show tFlt pd (iv 2) 1 61 0 = -4 by assumption]; exact iRm (by omega) (by omega))) (fun c7 => ?_) (fun c7 => ?_)
  · exfalso; omega
  · refine zx_aload_n hC dX2_tunes_10 rfl ?_
    refine zx_bipush (z := 7) hC dX2_tunes_11 rfl ?_
    refine zx_rd1 (r := .int (iI ((h 7 : Nat) : Int))) hC zNoA (zcV 1 (As := [.int (iI 7)]) hC (lw_V q1651 q1653 qs35 q93 q1654) (by decide +kernel) rfl (by rw [hRm]; decide) (by rw [hRm]; decide) rfl (Nat.le_of_ble_eq_true rfl) dX2_tunes_13) (m_X2_of (zl X) G ad h F (ps, sn, iv, pd, sp) 7 (by first | assumption | omega | exact iRm (by omega) (by omega) | ((repeat (first | exact gL | refine rLs.up ?_ (by omega) (by omega) | refine rLs.fad ?_)); done) | ((repeat (first | exact gM | refine rHM.up ?_ (by omega))); done) | exact gT _ (by omega) | exact rFadF_le gF _ | ((repeat first | rw [va_up_ne _ _ (by omega)] | rw [va_up_self] | rw [rFadH_o (by omega)] | rw [rAge_o _ _ (by omega)] | rw [rLayH_o (by omega) (by omega) (by omega) (by omega)]); omega))) (zr_rc hC hP.eq) hP.eq ?_
    refine zx_if_ne (tgt := 22) hC dX2_tunes_16 (by decide) (by first | assumption | exact gI _ (by omega) | exact iRm (by omega) (by omega)) (fun c16 => ?_) (fun c16 => ?_)
    · refine zx_iconst (z := 0) hC dX2_tunes_22 ?_
      refine zx_istore_n (L' := [some (.ref (ad 0)), some (.int (iI 0)), none]) hC dX2_tunes_23 (by decide) rfl ?_
      refine zx_iconst (z := 0) hC dX2_tunes_24 ?_
      refine zx_istore_n (L' := [some (.ref (ad 0)), some (.int (iI 0)), some (.int (iI 0))]) hC dX2_tunes_25 (by decide) rfl ?_
      have loop : ∀ n i : Nat, i + n = rLoop h → zVr X 3 26 [some (.ref (ad 0)), some (.int (iI ((zsumT (fun c => rCome h F pd (iv 2) c nn) i : Nat) : Int))), some (.int (iI ((i : Nat) : Int)))] [] := by
        intro n
        induction n with
        | zero =>
          intro i hi 
          have hiN : i = rLoop h := by omega
          rw [hiN]
          refine zx_iload_n hC dX2_tunes_26 rfl ?_
          refine zx_aload_n hC dX2_tunes_27 rfl ?_
          refine zx_rd1 (r := .int (iI ((rLoop h : Nat) : Int))) hC zNoA (zcV 0 (As := []) hC (lw_V q1705 q1707 qs47 q93 q1708) (by decide +kernel) rfl (by rw [hRm]; decide) (by rw [hRm]; decide) rfl (Nat.le_of_ble_eq_true rfl) dX2_tunes_28) (m_X2_loop (zl X) G ad h F (ps, sn, iv, pd, sp)  (by first | assumption | omega | exact iRm (by omega) (by omega) | ((repeat (first | exact gL | refine rLs.up ?_ (by omega) (by omega) | refine rLs.fad ?_)); done) | ((repeat (first | exact gM | refine rHM.up ?_ (by omega))); done) | exact gT _ (by omega) | exact rFadF_le gF _ | ((repeat first | rw [va_up_ne _ _ (by omega)] | rw [va_up_self] | rw [rFadH_o (by omega)] | rw [rAge_o _ _ (by omega)] | rw [rLayH_o (by omega) (by omega) (by omega) (by omega)]); omega))) (zr_rc hC hP.eq) hP.eq ?_
          refine zx_icmp_geT (tgt := 56) hC dX2_tunes_31 (by decide) (by first | assumption | exact gI _ (by omega) | exact iRm (by omega) (by omega)) (by first | assumption | exact gI _ (by omega) | exact iRm (by omega) (by omega)) (by omega) ?_
          refine zx_iload_n hC dX2_tunes_56 rfl ?_
          exact zx_iret hC hE (Nat.le_refl _) (Nat.le_refl _) (fun H h => ⟨h, rfl⟩) dX2_tunes_57
        | succ n ih =>
          intro i hi 
          have gc := rCome_le h F pd (iv 2) i nn
          refine zx_iload_n hC dX2_tunes_26 rfl ?_
          refine zx_aload_n hC dX2_tunes_27 rfl ?_
          refine zx_rd1 (r := .int (iI ((rLoop h : Nat) : Int))) hC zNoA (zcV 0 (As := []) hC (lw_V q1705 q1707 qs47 q93 q1708) (by decide +kernel) rfl (by rw [hRm]; decide) (by rw [hRm]; decide) rfl (Nat.le_of_ble_eq_true rfl) dX2_tunes_28) (m_X2_loop (zl X) G ad h F (ps, sn, iv, pd, sp)  (by first | assumption | omega | exact iRm (by omega) (by omega) | ((repeat (first | exact gL | refine rLs.up ?_ (by omega) (by omega) | refine rLs.fad ?_)); done) | ((repeat (first | exact gM | refine rHM.up ?_ (by omega))); done) | exact gT _ (by omega) | exact rFadF_le gF _ | ((repeat first | rw [va_up_ne _ _ (by omega)] | rw [va_up_self] | rw [rFadH_o (by omega)] | rw [rAge_o _ _ (by omega)] | rw [rLayH_o (by omega) (by omega) (by omega) (by omega)]); omega))) (zr_rc hC hP.eq) hP.eq ?_
          refine zx_icmp_geF (tgt := 56) hC dX2_tunes_31 (by decide) (by first | assumption | exact gI _ (by omega) | exact iRm (by omega) (by omega)) (by first | assumption | exact gI _ (by omega) | exact iRm (by omega) (by omega)) (by omega) ?_
          refine zx_iload_n hC dX2_tunes_34 rfl ?_
          refine zx_aload_n hC dX2_tunes_35 rfl ?_
          refine zx_iload_n hC dX2_tunes_36 rfl ?_
          refine zx_rd1 (r := .int (iI ((rCome h F pd (iv 2) i nn : Nat) : Int))) hC zNoA (zcV 1 (As := [.int (iI ((i : Nat) : Int))]) hC (lw_V q1919 q1921 qs78 q93 q1922) (by decide +kernel) rfl (by rw [hRm]; decide) (by rw [hRm]; decide) rfl (Nat.le_of_ble_eq_true rfl) dX2_tunes_37) (m_X2_comesAt (zl X) G ad h F ps sn iv pd sp i nn (by first | assumption | omega | exact iRm (by omega) (by omega) | ((repeat (first | exact gL | refine rLs.up ?_ (by omega) (by omega) | refine rLs.fad ?_)); done) | ((repeat (first | exact gM | refine rHM.up ?_ (by omega))); done) | exact gT _ (by omega) | exact rFadF_le gF _ | ((repeat first | rw [va_up_ne _ _ (by omega)] | rw [va_up_self] | rw [rFadH_o (by omega)] | rw [rAge_o _ _ (by omega)] | rw [rLayH_o (by omega) (by omega) (by omega) (by omega)]); omega)) (by first | assumption | omega | exact iRm (by omega) (by omega) | ((repeat (first | exact gL | refine rLs.up ?_ (by omega) (by omega) | refine rLs.fad ?_)); done) | ((repeat (first | exact gM | refine rHM.up ?_ (by omega))); done) | exact gT _ (by omega) | exact rFadF_le gF _ | ((repeat first | rw [va_up_ne _ _ (by omega)] | rw [va_up_self] | rw [rFadH_o (by omega)] | rw [rAge_o _ _ (by omega)] | rw [rLayH_o (by omega) (by omega) (by omega) (by omega)]); omega)) (by first | assumption | omega | exact iRm (by omega) (by omega) | ((repeat (first | exact gL | refine rLs.up ?_ (by omega) (by omega) | refine rLs.fad ?_)); done) | ((repeat (first | exact gM | refine rHM.up ?_ (by omega))); done) | exact gT _ (by omega) | exact rFadF_le gF _ | ((repeat first | rw [va_up_ne _ _ (by omega)] | rw [va_up_self] | rw [rFadH_o (by omega)] | rw [rAge_o _ _ (by omega)] | rw [rLayH_o (by omega) (by omega) (by omega) (by omega)]); omega)) (by first | assumption | omega | exact iRm (by omega) (by omega) | ((repeat (first | exact gL | refine rLs.up ?_ (by omega) (by omega) | refine rLs.fad ?_)); done) | ((repeat (first | exact gM | refine rHM.up ?_ (by omega))); done) | exact gT _ (by omega) | exact rFadF_le gF _ | ((repeat first | rw [va_up_ne _ _ (by omega)] | rw [va_up_self] | rw [rFadH_o (by omega)] | rw [rAge_o _ _ (by omega)] | rw [rLayH_o (by omega) (by omega) (by omega) (by omega)]); omega)) (by first | assumption | omega | exact iRm (by omega) (by omega) | ((repeat (first | exact gL | refine rLs.up ?_ (by omega) (by omega) | refine rLs.fad ?_)); done) | ((repeat (first | exact gM | refine rHM.up ?_ (by omega))); done) | exact gT _ (by omega) | exact rFadF_le gF _ | ((repeat first | rw [va_up_ne _ _ (by omega)] | rw [va_up_self] | rw [rFadH_o (by omega)] | rw [rAge_o _ _ (by omega)] | rw [rLayH_o (by omega) (by omega) (by omega) (by omega)]); omega)) (by first | assumption | omega | exact iRm (by omega) (by omega) | ((repeat (first | exact gL | refine rLs.up ?_ (by omega) (by omega) | refine rLs.fad ?_)); done) | ((repeat (first | exact gM | refine rHM.up ?_ (by omega))); done) | exact gT _ (by omega) | exact rFadF_le gF _ | ((repeat first | rw [va_up_ne _ _ (by omega)] | rw [va_up_self] | rw [rFadH_o (by omega)] | rw [rAge_o _ _ (by omega)] | rw [rLayH_o (by omega) (by omega) (by omega) (by omega)]); omega)) (by first | assumption | omega | exact iRm (by omega) (by omega) | ((repeat (first | exact gL | refine rLs.up ?_ (by omega) (by omega) | refine rLs.fad ?_)); done) | ((repeat (first | exact gM | refine rHM.up ?_ (by omega))); done) | exact gT _ (by omega) | exact rFadF_le gF _ | ((repeat first | rw [va_up_ne _ _ (by omega)] | rw [va_up_self] | rw [rFadH_o (by omega)] | rw [rAge_o _ _ (by omega)] | rw [rLayH_o (by omega) (by omega) (by omega) (by omega)]); omega)) (by first | assumption | omega | exact iRm (by omega) (by omega) | ((repeat (first | exact gL | refine rLs.up ?_ (by omega) (by omega) | refine rLs.fad ?_)); done) | ((repeat (first | exact gM | refine rHM.up ?_ (by omega))); done) | exact gT _ (by omega) | exact rFadF_le gF _ | ((repeat first | rw [va_up_ne _ _ (by omega)] | rw [va_up_self] | rw [rFadH_o (by omega)] | rw [rAge_o _ _ (by omega)] | rw [rLayH_o (by omega) (by omega) (by omega) (by omega)]); omega)) (by first | assumption | omega | exact iRm (by omega) (by omega) | ((repeat (first | exact gL | refine rLs.up ?_ (by omega) (by omega) | refine rLs.fad ?_)); done) | ((repeat (first | exact gM | refine rHM.up ?_ (by omega))); done) | exact gT _ (by omega) | exact rFadF_le gF _ | ((repeat first | rw [va_up_ne _ _ (by omega)] | rw [va_up_self] | rw [rFadH_o (by omega)] | rw [rAge_o _ _ (by omega)] | rw [rLayH_o (by omega) (by omega) (by omega) (by omega)]); omega))) (zr_rc hC hP.eq) hP.eq ?_
          have J40 : zVr X 3 48 [some (.ref (ad 0)), some (.int (iI ((zsumT (fun c => rCome h F pd (iv 2) c nn) i : Nat) : Int))), some (.int (iI ((i : Nat) : Int)))] [.int (iI ((rCome h F pd (iv 2) i nn : Nat) : Int)), .int (iI ((zsumT (fun c => rCome h F pd (iv 2) c nn) i : Nat) : Int))] := by
            refine zx_iadd hC dX2_tunes_48 ?_
            refine zx_istore_n (L' := [some (.ref (ad 0)), some (.int (iI (((zsumT (fun c => rCome h F pd (iv 2) c nn) i) + (rCome h F pd (iv 2) i nn) : Nat) : Int))), some (.int (iI ((i : Nat) : Int)))]) hC dX2_tunes_49 (by decide) rfl ?_
            refine zx_iinc (b := ((i + 1 : Nat) : Int)) (L' := [some (.ref (ad 0)), some (.int (iI (((zsumT (fun c => rCome h F pd (iv 2) c nn) i) + (rCome h F pd (iv 2) i nn) : Nat) : Int))), some (.int (iI ((i + 1 : Nat) : Int)))]) hC dX2_tunes_50 rfl (by first | rfl | omega) (by decide) rfl ?_
            refine zx_goto (tgt := 26) hC dX2_tunes_53 (by decide) ?_
            exact ih (i + 1) (by omega) 
          refine zx_if_eq (tgt := 47) hC dX2_tunes_40 (by decide) (by first | assumption | exact gI _ (by omega) | exact iRm (by omega) (by omega)) (fun c40 => ?_) (fun c40 => ?_)
          · refine zx_iconst (z := 0) hC dX2_tunes_47 ?_
            refine zx_topi (b := ((rCome h F pd (iv 2) i nn : Nat) : Int)) (by omega) ?_
            exact J40
          · refine zx_iconst (z := 1) hC dX2_tunes_43 ?_
            refine zx_goto (tgt := 48) hC dX2_tunes_44 (by decide) ?_
            refine zx_topi (b := ((rCome h F pd (iv 2) i nn : Nat) : Int)) (by omega) ?_
            exact J40
      exact loop (rLoop h) 0 (by omega) 
    · exfalso; omega
set_option maxHeartbeats 4000000 in
theorem m_X2_undoN (la : Launch) (G : zG) (ad : Nat → Nat) (h : Nat → Nat) (F : Nat → Nat → Nat → Nat) (ps : Nat → zRS) (sn : zRS) (iv pd : Nat → Nat) (sp : Nat → Int)  (g0 : iv 0 = 0) : zMA la yX2_undo cX2_undo 2 (some .int) 0 0 G [.ref (ad 0)] [REF G ad ((h, F), ps, sn, iv, pd, sp)] (fun v9 => v9 = some (.int (iI (-2)))) (fun _ => [REF G ad ((h, F), ps, sn, iv, pd, sp)]) 0 0 := by
  refine zMA.of [some (.ref (ad 0)), none] (by decide) (Nat.le_of_ble_eq_true rfl) rfl (fun X A hl hC hnm hA hRm hE => ?_)
  refine zx_aload_n hC dX2_undo_0 rfl ?_
  refine zr_get (v := .int (iI ((iv 0 : Nat) : Int))) hC (zRf.ofH (Rs := [])) 2 (by decide) dX2_undo_1 q1612 rfl ?_
  refine zx_if_ne (tgt := 10) hC dX2_undo_4 (by decide) (by first | assumption | exact gI _ (by omega) | exact iRm (by omega) (by omega)) (fun c4 => ?_) (fun c4 => ?_)
  · exfalso; omega
  · refine zx_bipush (z := (-2)) hC dX2_undo_7 rfl ?_
    exact zx_iret hC hE (Nat.le_refl _) (Nat.le_refl _) (fun H h => ⟨rfl, h⟩) dX2_undo_9
set_option maxHeartbeats 4000000 in
theorem m_X2_undoY (la : Launch) (G : zG) (ad : Nat → Nat) (h : Nat → Nat) (F : Nat → Nat → Nat → Nat) (ps : Nat → zRS) (sn : zRS) (iv pd : Nat → Nat) (sp : Nat → Int) (k : Nat) (g0 : iv 0 = k + 1) (g1 : k < 4) : zMA la yX2_undo cX2_undo 2 (some .int) 0 0 G [.ref (ad 0)] [REF G ad ((h, F), ps, sn, iv, pd, sp)] (fun v9 => v9 = some (.int (iI ((k : Nat) : Int)))) (fun _ => [REF G ad (((ps k).1, (ps k).2), ps, sn, (va_up iv 0 k), pd, sp)]) 0 0 := by
  refine zMA.of [some (.ref (ad 0)), none] (by decide) (Nat.le_of_ble_eq_true rfl) rfl (fun X A hl hC hnm hA hRm hE => ?_)
  refine zr_raw (fun a b d hs hb hdd => ?_)
  refine zx_aload_n hC dX2_undo_0 rfl ?_
  refine zx_getf (v := .int (iI ((iv 0 : Nat) : Int))) (T := TX2) (N := 9) (ci := 2) (fs := zMf ad iv) hC in_X2 (zat 0 rfl) rfl 2 (by decide) q1612 (fun _ h => h) rfl dX2_undo_1 ?_
  refine zx_if_ne (tgt := 10) hC dX2_undo_4 (by decide) (by first | assumption | exact gI _ (by omega) | exact iRm (by omega) (by omega)) (fun c4 => ?_) (fun c4 => ?_)
  · refine zx_aload_n hC dX2_undo_10 rfl ?_
    refine zx_dup hC dX2_undo_11 rfl ?_
    refine zx_getf (v := .int (iI ((iv 0 : Nat) : Int))) (T := TX2) (N := 9) (ci := 2) (fs := zMf ad iv) hC in_X2 (zat 0 rfl) rfl 2 (by decide) q1612 (fun _ h => h) rfl dX2_undo_12 ?_
    refine zx_iconst (z := 1) hC dX2_undo_15 ?_
    refine zx_isub hC dX2_undo_16 ?_
    refine zx_topi (b := ((k : Nat) : Int)) (by omega) ?_
    refine zx_putf (T := TX2) (N := 9) (ci := 2) (fs := zMf ad iv) (fs' := zMf ad (va_up iv 0 k)) hC 0 in_X2 tyX2 tyX2_ok nmX2 rfl rfl 2 (by decide) q1612 (fun _ h => h) rfl (by first | rfl | exact znar (by omega)) (by first | rfl | exact zfit (by omega)) (by simp [zMf]) rfl dX2_undo_17 ?_
    show zV X 2 A (zH G A (zS (zRw G ad a b d (va_up iv 0 k) pd sp))) 0 0 20 [some (.ref (ad 0)), none] []
    rw [← zcp_0 b a (1376 * k) 0]
    refine zx_iconst (z := 0) hC dX2_undo_20 ?_
    refine zx_istore_n (L' := [some (.ref (ad 0)), some (.int (iI 0))]) hC dX2_undo_21 (by decide) rfl ?_
    have loop : ∀ n i : Nat, i + n = 1376 → zV X 2 A (zH G A (zS (zRw G ad (zcp b a (1376 * k) 0 i) b d (va_up iv 0 k) pd sp))) 0 0 22 [some (.ref (ad 0)), some (.int (iI ((i : Nat) : Int)))] [] := by
      intro n
      induction n with
      | zero =>
        intro i hi 
        have hiN : i = 1376 := by omega
        rw [hiN]
        refine zx_iload_n hC dX2_undo_22 rfl ?_
        refine zx_sipush (z := 1376) hC dX2_undo_23 rfl ?_
        refine zx_icmp_geT (tgt := 56) hC dX2_undo_26 (by decide) (by first | assumption | exact gI _ (by omega) | exact iRm (by omega) (by omega)) (by first | assumption | exact gI _ (by omega) | exact iRm (by omega) (by omega)) (by omega) ?_
        refine zx_pre (P' := zH G A (zS [REF G ad (ps k, ps, sn, va_up iv 0 k, pd, sp)])) (zr_fold (a := (zcp b a (1376 * k) 0 1376)) (b := b) (d := d) (ps k, ps, sn, va_up iv 0 k, pd, sp) ((hb k (by omega)).at' (fun j hj => by unfold zcp; rw [if_pos (by omega)]; congr 1; omega)) hb hdd) ?_
        refine zx_aload_n hC dX2_undo_56 rfl ?_
        refine zr_get (v := .int (iI ((k : Nat) : Int))) hC (zRf.ofH (Rs := [])) 2 (by decide) dX2_undo_57 q1612 rfl ?_
        exact zx_iret hC hE (Nat.le_refl _) (Nat.le_refl _) (fun H h => ⟨rfl, h⟩) dX2_undo_60
      | succ n ih =>
        intro i hi 
        refine zx_iload_n hC dX2_undo_22 rfl ?_
        refine zx_sipush (z := 1376) hC dX2_undo_23 rfl ?_
        refine zx_icmp_geF (tgt := 56) hC dX2_undo_26 (by decide) (by first | assumption | exact gI _ (by omega) | exact iRm (by omega) (by omega)) (by first | assumption | exact gI _ (by omega) | exact iRm (by omega) (by omega)) (by omega) ?_
        refine zx_aload_n hC dX2_undo_29 rfl ?_
        refine zx_getf (v := .ref (ad 1)) (T := TX2) (N := 9) (ci := 2) (fs := zMf ad (va_up iv 0 k)) hC in_X2 (zat 0 rfl) rfl 0 (by decide) q1610 (fun _ h => h) rfl dX2_undo_30 ?_
        refine zx_iload_n hC dX2_undo_33 rfl ?_
        refine zx_aload_n hC dX2_undo_34 rfl ?_
        refine zx_getf (v := .ref (ad 2)) (T := TX2) (N := 9) (ci := 2) (fs := zMf ad (va_up iv 0 k)) hC in_X2 (zat 0 rfl) rfl 1 (by decide) q1611 (fun _ h => h) rfl dX2_undo_35 ?_
        refine zx_sipush (z := 1376) hC dX2_undo_38 rfl ?_
        refine zx_aload_n hC dX2_undo_41 rfl ?_
        refine zx_getf (v := .int (iI ((k : Nat) : Int))) (T := TX2) (N := 9) (ci := 2) (fs := zMf ad (va_up iv 0 k)) hC in_X2 (zat 0 rfl) rfl 2 (by decide) q1612 (fun _ h => h) rfl dX2_undo_42 ?_
        refine zx_topi (b := ((k : Nat) : Int)) (by first | omega | (simp [va_up]; omega)) ?_
        refine zx_imul hC dX2_undo_45 ?_
        refine zx_iload_n hC dX2_undo_46 rfl ?_
        refine zx_iadd hC dX2_undo_47 ?_
        refine zx_laldN (f := b) (N := 5504) hC (zat 2 rfl) ((1376 * k) + i) (by omega) (by decide) dX2_undo_48 ?_
        refine zx_lastN (N := 1376) (f' := (zcp b a (1376 * k) 0 (i + 1))) hC 1 rfl i (by omega) (by decide) (by have e := zcp_s b a (1376 * k) 0 i; rw [Nat.zero_add] at e; exact e) dX2_undo_49 ?_
        show zV X 2 A (zH G A (zS (zRw G ad (zcp b a (1376 * k) 0 (i + 1)) b d (va_up iv 0 k) pd sp))) 0 0 50 [some (.ref (ad 0)), some (.int (iI ((i : Nat) : Int)))] []
        refine zx_iinc (b := ((i + 1 : Nat) : Int)) (L' := [some (.ref (ad 0)), some (.int (iI ((i + 1 : Nat) : Int)))]) hC dX2_undo_50 rfl (by first | rfl | omega) (by decide) rfl ?_
        refine zx_goto (tgt := 22) hC dX2_undo_53 (by decide) ?_
        exact ih (i + 1) (by omega) 
    exact loop (1376) 0 (by omega) 
  · exfalso; omega
set_option maxHeartbeats 4000000 in
theorem m_X2_save (la : Launch) (G : zG) (ad : Nat → Nat) (h : Nat → Nat) (F : Nat → Nat → Nat → Nat) (ps : Nat → zRS) (sn : zRS) (iv pd : Nat → Nat) (sp : Nat → Int)   : zMA la yX2_save cX2_save 2 (some .int) 1 21 G [.ref (ad 0)] [REF G ad ((h, F), ps, sn, iv, pd, sp)] (fun v9 => v9 = some (.int (iI ((h 0 : Nat) : Int)))) (fun _ => [REF G ad ((h, F), ps, (h, F), (va_up iv 1 1), pd, sp)]) 0 0 := by
  refine zMA.of [some (.ref (ad 0)), none] (by decide) (Nat.le_of_ble_eq_true rfl) rfl (fun X A hl hC hnm hA hRm hE => ?_)
  refine zr_raw (fun a b d hs hb hdd => ?_)
  rw [← zcp_0 a d 0 0]
  refine zx_iconst (z := 0) hC dX2_save_0 ?_
  refine zx_istore_n (L' := [some (.ref (ad 0)), some (.int (iI 0))]) hC dX2_save_1 (by decide) rfl ?_
  have loop : ∀ n i : Nat, i + n = 1376 → zV X 2 A (zH G A (zS (zRw G ad a b (zcp a d 0 0 i) iv pd sp))) 0 0 2 [some (.ref (ad 0)), some (.int (iI ((i : Nat) : Int)))] [] := by
    intro n
    induction n with
    | zero =>
      intro i hi 
      have hiN : i = 1376 := by omega
      rw [hiN]
      refine zx_iload_n hC dX2_save_2 rfl ?_
      refine zx_sipush (z := 1376) hC dX2_save_3 rfl ?_
      refine zx_icmp_geT (tgt := 27) hC dX2_save_6 (by decide) (by first | assumption | exact gI _ (by omega) | exact iRm (by omega) (by omega)) (by first | assumption | exact gI _ (by omega) | exact iRm (by omega) (by omega)) (by omega) ?_
      refine zx_pre (P' := zH G A (zS [REF G ad ((h, F), ps, (h, F), iv, pd, sp)])) (zr_fold (a := a) (b := b) (d := (zcp a d 0 0 1376)) ((h, F), ps, (h, F), iv, pd, sp) hs hb (hs.at' (fun j hj => by unfold zcp; rw [if_pos (by omega)]; congr 1; omega))) ?_
      refine zx_aload_n hC dX2_save_27 rfl ?_
      refine zx_iconst (z := 1) hC dX2_save_28 ?_
      refine zr_put (iv' := (va_up iv 1 1)) hC 4 (by decide) dX2_save_29 q1614 rfl (by first | rfl | exact znar (by omega)) (by first | rfl | exact zfit (by omega)) rfl ?_
      refine zx_aload_n hC dX2_save_32 rfl ?_
      refine zx_iconst (z := 0) hC dX2_save_33 ?_
      refine zx_rd1 (r := .int (iI ((h 0 : Nat) : Int))) hC hA.2 (zcV 1 (As := [.int (iI 0)]) hC (lw_V q1651 q1653 qs35 q93 q1654) (by decide +kernel) rfl (by rw [hRm]; decide) (by rw [hRm]; decide) rfl (Nat.le_of_ble_eq_true rfl) dX2_save_34) (m_X2_of (zl X) G ad h F (ps, (h, F), (va_up iv 1 1), pd, sp) 0 (by first | assumption | omega | exact iRm (by omega) (by omega) | ((repeat (first | exact gL | refine rLs.up ?_ (by omega) (by omega) | refine rLs.fad ?_)); done) | ((repeat (first | exact gM | refine rHM.up ?_ (by omega))); done) | exact gT _ (by omega) | exact rFadF_le gF _ | ((repeat first | rw [va_up_ne _ _ (by omega)] | rw [va_up_self] | rw [rFadH_o (by omega)] | rw [rAge_o _ _ (by omega)] | rw [rLayH_o (by omega) (by omega) (by omega) (by omega)]); omega))) (zr_rc hC (zRf.ofH (Rs := []))) (zRf.ofH (Rs := [])) ?_
      exact zx_iret hC hE (Nat.le_refl _) (Nat.le_refl _) (fun H h => ⟨rfl, h⟩) dX2_save_37
    | succ n ih =>
      intro i hi 
      refine zx_iload_n hC dX2_save_2 rfl ?_
      refine zx_sipush (z := 1376) hC dX2_save_3 rfl ?_
      refine zx_icmp_geF (tgt := 27) hC dX2_save_6 (by decide) (by first | assumption | exact gI _ (by omega) | exact iRm (by omega) (by omega)) (by first | assumption | exact gI _ (by omega) | exact iRm (by omega) (by omega)) (by omega) ?_
      refine zx_aload_n hC dX2_save_9 rfl ?_
      refine zx_getf (v := .ref (ad 3)) (T := TX2) (N := 9) (ci := 2) (fs := zMf ad iv) hC in_X2 (zat 0 rfl) rfl 3 (by decide) q1613 (fun _ h => h) rfl dX2_save_10 ?_
      refine zx_iload_n hC dX2_save_13 rfl ?_
      refine zx_aload_n hC dX2_save_14 rfl ?_
      refine zx_getf (v := .ref (ad 1)) (T := TX2) (N := 9) (ci := 2) (fs := zMf ad iv) hC in_X2 (zat 0 rfl) rfl 0 (by decide) q1610 (fun _ h => h) rfl dX2_save_15 ?_
      refine zx_iload_n hC dX2_save_18 rfl ?_
      refine zx_laldN (f := a) (N := 1376) hC (zat 1 rfl) i (by omega) (by decide) dX2_save_19 ?_
      refine zx_lastN (N := 1376) (f' := (zcp a d 0 0 (i + 1))) hC 3 rfl i (by omega) (by decide) (by have e := zcp_s a d 0 0 i; rw [Nat.zero_add] at e; exact e) dX2_save_20 ?_
      show zV X 2 A (zH G A (zS (zRw G ad a b (zcp a d 0 0 (i + 1)) iv pd sp))) 0 0 21 [some (.ref (ad 0)), some (.int (iI ((i : Nat) : Int)))] []
      refine zx_iinc (b := ((i + 1 : Nat) : Int)) (L' := [some (.ref (ad 0)), some (.int (iI ((i + 1 : Nat) : Int)))]) hC dX2_save_21 rfl (by first | rfl | omega) (by decide) rfl ?_
      refine zx_goto (tgt := 2) hC dX2_save_24 (by decide) ?_
      exact ih (i + 1) (by omega) 
  exact loop (1376) 0 (by omega) 
set_option maxHeartbeats 4000000 in
theorem m_X2_restoreN (la : Launch) (G : zG) (ad : Nat → Nat) (h : Nat → Nat) (F : Nat → Nat → Nat → Nat) (ps : Nat → zRS) (sn : zRS) (iv pd : Nat → Nat) (sp : Nat → Int)  (g0 : iv 1 = 0) : zMA la yX2_restore cX2_restore 2 (some .int) 0 0 G [.ref (ad 0)] [REF G ad ((h, F), ps, sn, iv, pd, sp)] (fun v9 => v9 = some (.int (iI (-2)))) (fun _ => [REF G ad ((h, F), ps, sn, iv, pd, sp)]) 0 0 := by
  refine zMA.of [some (.ref (ad 0)), none] (by decide) (Nat.le_of_ble_eq_true rfl) rfl (fun X A hl hC hnm hA hRm hE => ?_)
  refine zx_aload_n hC dX2_restore_0 rfl ?_
  refine zr_get (v := .int (iI ((iv 1 : Nat) : Int))) hC (zRf.ofH (Rs := [])) 4 (by decide) dX2_restore_1 q1614 rfl ?_
  refine zx_if_ne (tgt := 10) hC dX2_restore_4 (by decide) (by first | assumption | exact gI _ (by omega) | exact iRm (by omega) (by omega)) (fun c4 => ?_) (fun c4 => ?_)
  · exfalso; omega
  · refine zx_bipush (z := (-2)) hC dX2_restore_7 rfl ?_
    exact zx_iret hC hE (Nat.le_refl _) (Nat.le_refl _) (fun H h => ⟨rfl, h⟩) dX2_restore_9
set_option maxHeartbeats 4000000 in
theorem m_X2_restoreY (la : Launch) (G : zG) (ad : Nat → Nat) (h : Nat → Nat) (F : Nat → Nat → Nat → Nat) (ps : Nat → zRS) (sn : zRS) (iv pd : Nat → Nat) (sp : Nat → Int)  (g0 : iv 1 = 1) (g1 : iv 0 ≤ 4) : zMA la yX2_restore cX2_restore 2 (some .int) 1 21 G [.ref (ad 0)] [REF G ad ((h, F), ps, sn, iv, pd, sp)] (fun v9 => v9 = some (.int (iI ((sn.1 0 : Nat) : Int)))) (fun _ => [REF G ad ((sn.1, sn.2), (rRem ps (h, F) (iv 0)), sn, (va_up iv 0 (if iv 0 = 4 then 4 else iv 0 + 1)), pd, sp)]) 0 0 := by
  refine zMA.of [some (.ref (ad 0)), none] (by decide) (Nat.le_of_ble_eq_true rfl) rfl (fun X A hl hC hnm hA hRm hE => ?_)
  refine zx_aload_n hC dX2_restore_0 rfl ?_
  refine zr_get (v := .int (iI ((iv 1 : Nat) : Int))) hC (zRf.ofH (Rs := [])) 4 (by decide) dX2_restore_1 q1614 rfl ?_
  refine zx_if_ne (tgt := 10) hC dX2_restore_4 (by decide) (by first | assumption | exact gI _ (by omega) | exact iRm (by omega) (by omega)) (fun c4 => ?_) (fun c4 => ?_)
  · refine zx_aload_n hC dX2_restore_10 rfl ?_
    refine zx_ma0 (Q := fun _ => [REF G ad ((h, F), (rRem ps (h, F) (iv 0)), sn, (va_up iv 0 (if (iv 0) = 4 then 4 else (iv 0) + 1)), pd, sp)]) hC hA [0] [] (zcV 0 (As := []) hC (lw_V q1655 q1657 qs36 q93 q1658) (by decide +kernel) rfl (by rw [hRm]; decide) (by rw [hRm]; decide) rfl (Nat.le_of_ble_eq_true rfl) dX2_restore_11) (m_X2_remembers (zl X) G ad h F ps sn iv pd sp (iv 0) (by first | assumption | omega | exact iRm (by omega) (by omega) | ((repeat (first | exact gL | refine rLs.up ?_ (by omega) (by omega) | refine rLs.fad ?_)); done) | ((repeat (first | exact gM | refine rHM.up ?_ (by omega))); done) | exact gT _ (by omega) | exact rFadF_le gF _ | ((repeat first | rw [va_up_ne _ _ (by omega)] | rw [va_up_self] | rw [rFadH_o (by omega)] | rw [rAge_o _ _ (by omega)] | rw [rLayH_o (by omega) (by omega) (by omega) (by omega)]); omega)) (by first | assumption | omega | exact iRm (by omega) (by omega) | ((repeat (first | exact gL | refine rLs.up ?_ (by omega) (by omega) | refine rLs.fad ?_)); done) | ((repeat (first | exact gM | refine rHM.up ?_ (by omega))); done) | exact gT _ (by omega) | exact rFadF_le gF _ | ((repeat first | rw [va_up_ne _ _ (by omega)] | rw [va_up_self] | rw [rFadH_o (by omega)] | rw [rAge_o _ _ (by omega)] | rw [rLayH_o (by omega) (by omega) (by omega) (by omega)]); omega))) (zr_rc hC (zRf.ofH (Rs := []))) rfl rfl rfl ?_
    show zVm X G ad A 2 ((h, F), (rRem ps (h, F) (iv 0)), sn, (va_up iv 0 (if (iv 0) = 4 then 4 else (iv 0) + 1)), pd, sp) 14 [some (.ref (ad 0)), none] []
    refine zr_raw (fun a b d hs hb hdd => ?_)
    rw [← zcp_0 d a 0 0]
    refine zx_iconst (z := 0) hC dX2_restore_14 ?_
    refine zx_istore_n (L' := [some (.ref (ad 0)), some (.int (iI 0))]) hC dX2_restore_15 (by decide) rfl ?_
    have loop : ∀ n i : Nat, i + n = 1376 → zV X 2 A (zH G A (zS (zRw G ad (zcp d a 0 0 i) b d (va_up iv 0 (if (iv 0) = 4 then 4 else (iv 0) + 1)) pd sp))) 0 0 16 [some (.ref (ad 0)), some (.int (iI ((i : Nat) : Int)))] [] := by
      intro n
      induction n with
      | zero =>
        intro i hi 
        have hiN : i = 1376 := by omega
        rw [hiN]
        refine zx_iload_n hC dX2_restore_16 rfl ?_
        refine zx_sipush (z := 1376) hC dX2_restore_17 rfl ?_
        refine zx_icmp_geT (tgt := 41) hC dX2_restore_20 (by decide) (by first | assumption | exact gI _ (by omega) | exact iRm (by omega) (by omega)) (by first | assumption | exact gI _ (by omega) | exact iRm (by omega) (by omega)) (by omega) ?_
        refine zx_pre (P' := zH G A (zS [REF G ad ((sn.1, sn.2), (rRem ps (h, F) (iv 0)), sn, (va_up iv 0 (if (iv 0) = 4 then 4 else (iv 0) + 1)), pd, sp)])) (zr_fold (a := (zcp d a 0 0 1376)) (b := b) (d := d) ((sn.1, sn.2), (rRem ps (h, F) (iv 0)), sn, (va_up iv 0 (if (iv 0) = 4 then 4 else (iv 0) + 1)), pd, sp) (hdd.at' (fun j hj => by unfold zcp; rw [if_pos (by omega)]; congr 1; omega)) hb hdd) ?_
        refine zx_aload_n hC dX2_restore_41 rfl ?_
        refine zx_iconst (z := 0) hC dX2_restore_42 ?_
        refine zx_rd1 (r := .int (iI ((sn.1 0 : Nat) : Int))) hC hA.2 (zcV 1 (As := [.int (iI 0)]) hC (lw_V q1651 q1653 qs35 q93 q1654) (by decide +kernel) rfl (by rw [hRm]; decide) (by rw [hRm]; decide) rfl (Nat.le_of_ble_eq_true rfl) dX2_restore_43) (m_X2_of (zl X) G ad sn.1 sn.2 ((rRem ps (h, F) (iv 0)), sn, (va_up iv 0 (if (iv 0) = 4 then 4 else (iv 0) + 1)), pd, sp) 0 (by first | assumption | omega | exact iRm (by omega) (by omega) | ((repeat (first | exact gL | refine rLs.up ?_ (by omega) (by omega) | refine rLs.fad ?_)); done) | ((repeat (first | exact gM | refine rHM.up ?_ (by omega))); done) | exact gT _ (by omega) | exact rFadF_le gF _ | ((repeat first | rw [va_up_ne _ _ (by omega)] | rw [va_up_self] | rw [rFadH_o (by omega)] | rw [rAge_o _ _ (by omega)] | rw [rLayH_o (by omega) (by omega) (by omega) (by omega)]); omega))) (zr_rc hC (zRf.ofH (Rs := []))) (zRf.ofH (Rs := [])) ?_
        exact zx_iret hC hE (Nat.le_refl _) (Nat.le_refl _) (fun H h => ⟨rfl, h⟩) dX2_restore_46
      | succ n ih =>
        intro i hi 
        refine zx_iload_n hC dX2_restore_16 rfl ?_
        refine zx_sipush (z := 1376) hC dX2_restore_17 rfl ?_
        refine zx_icmp_geF (tgt := 41) hC dX2_restore_20 (by decide) (by first | assumption | exact gI _ (by omega) | exact iRm (by omega) (by omega)) (by first | assumption | exact gI _ (by omega) | exact iRm (by omega) (by omega)) (by omega) ?_
        refine zx_aload_n hC dX2_restore_23 rfl ?_
        refine zx_getf (v := .ref (ad 1)) (T := TX2) (N := 9) (ci := 2) (fs := zMf ad (va_up iv 0 (if (iv 0) = 4 then 4 else (iv 0) + 1))) hC in_X2 (zat 0 rfl) rfl 0 (by decide) q1610 (fun _ h => h) rfl dX2_restore_24 ?_
        refine zx_iload_n hC dX2_restore_27 rfl ?_
        refine zx_aload_n hC dX2_restore_28 rfl ?_
        refine zx_getf (v := .ref (ad 3)) (T := TX2) (N := 9) (ci := 2) (fs := zMf ad (va_up iv 0 (if (iv 0) = 4 then 4 else (iv 0) + 1))) hC in_X2 (zat 0 rfl) rfl 3 (by decide) q1613 (fun _ h => h) rfl dX2_restore_29 ?_
        refine zx_iload_n hC dX2_restore_32 rfl ?_
        refine zx_laldN (f := d) (N := 1376) hC (zat 3 rfl) i (by omega) (by decide) dX2_restore_33 ?_
        refine zx_lastN (N := 1376) (f' := (zcp d a 0 0 (i + 1))) hC 1 rfl i (by omega) (by decide) (by have e := zcp_s d a 0 0 i; rw [Nat.zero_add] at e; exact e) dX2_restore_34 ?_
        show zV X 2 A (zH G A (zS (zRw G ad (zcp d a 0 0 (i + 1)) b d (va_up iv 0 (if (iv 0) = 4 then 4 else (iv 0) + 1)) pd sp))) 0 0 35 [some (.ref (ad 0)), some (.int (iI ((i : Nat) : Int)))] []
        refine zx_iinc (b := ((i + 1 : Nat) : Int)) (L' := [some (.ref (ad 0)), some (.int (iI ((i + 1 : Nat) : Int)))]) hC dX2_restore_35 rfl (by first | rfl | omega) (by decide) rfl ?_
        refine zx_goto (tgt := 16) hC dX2_restore_38 (by decide) ?_
        exact ih (i + 1) (by omega) 
    exact loop (1376) 0 (by omega) 
  · exfalso; omega
set_option maxHeartbeats 4000000 in
theorem m_X2_playN (la : Launch) (G : zG) (ad : Nat → Nat) (h : Nat → Nat) (F : Nat → Nat → Nat → Nat) (ps : Nat → zRS) (sn : zRS) (iv pd : Nat → Nat) (sp : Nat → Int)  (g0 : iv 2 ≤ 60) (gP : tPd pd) (g2 : tFlt pd (iv 2) 0 61 0 ≠ -4) (g3 : iR (tFlt pd (iv 2) 0 61 0)) : zMA la yX2_play cX2_play 4 (some .int) 5 113 G [.ref (ad 0)] [REF G ad ((h, F), ps, sn, iv, pd, sp)] (fun v9 => v9 = some (.int (iI (-2)))) (fun _ => [REF G ad ((h, F), ps, sn, iv, pd, sp)]) 0 0 := by
  refine zMA.of [some (.ref (ad 0)), none, none, none] (by decide) (Nat.le_of_ble_eq_true rfl) rfl (fun X A hl hC hnm hA hRm hE => ?_)
  refine zx_aload_n hC dX2_play_0 rfl ?_
  refine zx_iconst (z := 0) hC dX2_play_1 ?_
  refine zx_rd1 (r := .int (iI (tFlt pd (iv 2) 0 61 0))) hC hA.2 (zcV 1 (As := [.int (iI 0)]) hC (lw_V q1819 q1821 qs62 q93 q1822) (by decide +kernel) rfl (by rw [hRm]; decide) (by rw [hRm]; decide) rfl (Nat.le_of_ble_eq_true rfl) dX2_play_2) (m_X2_faultOf0 (zl X) G ad h F ps sn iv pd sp  (by first | assumption | omega | exact iRm (by omega) (by omega) | ((repeat (first | exact gL | refine rLs.up ?_ (by omega) (by omega) | refine rLs.fad ?_)); done) | ((repeat (first | exact gM | refine rHM.up ?_ (by omega))); done) | exact gT _ (by omega) | exact rFadF_le gF _ | ((repeat first | rw [va_up_ne _ _ (by omega)] | rw [va_up_self] | rw [rFadH_o (by omega)] | rw [rAge_o _ _ (by omega)] | rw [rLayH_o (by omega) (by omega) (by omega) (by omega)]); omega)) (by first | assumption | omega | exact iRm (by omega) (by omega) | ((repeat (first | exact gL | refine rLs.up ?_ (by omega) (by omega) | refine rLs.fad ?_)); done) | ((repeat (first | exact gM | refine rHM.up ?_ (by omega))); done) | exact gT _ (by omega) | exact rFadF_le gF _ | ((repeat first | rw [va_up_ne _ _ (by omega)] | rw [va_up_self] | rw [rFadH_o (by omega)] | rw [rAge_o _ _ (by omega)] | rw [rLayH_o (by omega) (by omega) (by omega) (by omega)]); omega))) (zr_rc hC (zRf.ofH (Rs := []))) (zRf.ofH (Rs := [])) ?_
  refine zx_bipush (z := (-4)) hC dX2_play_5 rfl ?_
  refine zx_icmp_eq (tgt := 13) hC dX2_play_7 (by decide) (by first | assumption | exact gI _ (by omega) | exact iRm (by omega) (by omega)) (by first | assumption | exact gI _ (by omega) | exact iRm (by omega) (by omega)) (fun c7 => ?_) (fun c7 => ?_)
  · exfalso; omega
  · refine zx_bipush (z := (-2)) hC dX2_play_10 rfl ?_
    exact zx_iret hC hE (Nat.le_refl _) (Nat.le_refl _) (fun H h => ⟨rfl, h⟩) dX2_play_12
set_option maxHeartbeats 4000000 in
theorem m_X2_playE (la : Launch) (G : zG) (ad : Nat → Nat) (h : Nat → Nat) (F : Nat → Nat → Nat → Nat) (ps : Nat → zRS) (sn : zRS) (iv pd : Nat → Nat) (sp : Nat → Int) (nn : Nat) (g0 : iv 2 ≤ 60) (gP : tPd pd) (g2 : tFlt pd (iv 2) 0 61 0 = -4) (g3 : iv 0 ≤ 4) (gN : rPlOK h F pd (iv 2) nn) (g5 : iv 2 ≤ tPl pd (iv 2) nn) (g6 : nn ≤ 1000) : zMA la yX2_play cX2_play 4 (some .int) 8 178 G [.ref (ad 0)] [REF G ad ((h, F), ps, sn, iv, pd, sp)] (fun v9 => v9 = some (.int (iI ((nn : Nat) : Int)))) (fun _ => [REF G ad (((rPlS h F pd (iv 2) (nn)).1, (rPlS h F pd (iv 2) (nn)).2), (rRem ps (h, F) (iv 0)), sn, (va_up (va_up (va_up iv 0 (if iv 0 = 4 then 4 else iv 0 + 1)) 3 0) 2 0), pd, sp)]) 0 0 := by
  refine zMA.of [some (.ref (ad 0)), none, none, none] (by decide) (Nat.le_of_ble_eq_true rfl) rfl (fun X A hl hC hnm hA hRm hE => ?_)
  refine zx_aload_n hC dX2_play_0 rfl ?_
  refine zx_iconst (z := 0) hC dX2_play_1 ?_
  refine zx_rd1 (r := .int (iI (tFlt pd (iv 2) 0 61 0))) hC hA.2 (zcV 1 (As := [.int (iI 0)]) hC (lw_V q1819 q1821 qs62 q93 q1822) (by decide +kernel) rfl (by rw [hRm]; decide) (by rw [hRm]; decide) rfl (Nat.le_of_ble_eq_true rfl) dX2_play_2) (m_X2_faultOf0 (zl X) G ad h F ps sn iv pd sp  (by first | assumption | omega | exact iRm (by omega) (by omega) | ((repeat (first | exact gL | refine rLs.up ?_ (by omega) (by omega) | refine rLs.fad ?_)); done) | ((repeat (first | exact gM | refine rHM.up ?_ (by omega))); done) | exact gT _ (by omega) | exact rFadF_le gF _ | ((repeat first | rw [va_up_ne _ _ (by omega)] | rw [va_up_self] | rw [rFadH_o (by omega)] | rw [rAge_o _ _ (by omega)] | rw [rLayH_o (by omega) (by omega) (by omega) (by omega)]); omega)) (by first | assumption | omega | exact iRm (by omega) (by omega) | ((repeat (first | exact gL | refine rLs.up ?_ (by omega) (by omega) | refine rLs.fad ?_)); done) | ((repeat (first | exact gM | refine rHM.up ?_ (by omega))); done) | exact gT _ (by omega) | exact rFadF_le gF _ | ((repeat first | rw [va_up_ne _ _ (by omega)] | rw [va_up_self] | rw [rFadH_o (by omega)] | rw [rAge_o _ _ (by omega)] | rw [rLayH_o (by omega) (by omega) (by omega) (by omega)]); omega))) (zr_rc hC (zRf.ofH (Rs := []))) (zRf.ofH (Rs := [])) ?_
  refine zx_bipush (z := (-4)) hC dX2_play_5 rfl ?_
  refine zx_icmp_eq (tgt := 13) hC dX2_play_7 (by decide) (by first | exact iRm (by omega) (by omega) | (rw [show tFlt pd (iv 2) 0 61 0 = -4 by assumption]; exact iRm (by omega) (by omega))) (by first | exact iRm (by omega) (by omega) | (rw [show tFlt pd (iv 2) 0 61 0 = -4 by assumption]; exact iRm (by omega) (by omega))) (fun c7 => ?_) (fun c7 => ?_)
  · refine zx_aload_n hC dX2_play_13 rfl ?_
    refine zx_ma0 (Q := fun _ => [REF G ad ((h, F), (rRem ps (h, F) (iv 0)), sn, (va_up iv 0 (if (iv 0) = 4 then 4 else (iv 0) + 1)), pd, sp)]) hC hA [0] [] (zcV 0 (As := []) hC (lw_V q1655 q1657 qs36 q93 q1658) (by decide +kernel) rfl (by rw [hRm]; decide) (by rw [hRm]; decide) rfl (Nat.le_of_ble_eq_true rfl) dX2_play_14) (m_X2_remembers (zl X) G ad h F ps sn iv pd sp (iv 0) (by first | assumption | omega | exact iRm (by omega) (by omega) | ((repeat (first | exact gL | refine rLs.up ?_ (by omega) (by omega) | refine rLs.fad ?_)); done) | ((repeat (first | exact gM | refine rHM.up ?_ (by omega))); done) | exact gT _ (by omega) | exact rFadF_le gF _ | ((repeat first | rw [va_up_ne _ _ (by omega)] | rw [va_up_self] | rw [rFadH_o (by omega)] | rw [rAge_o _ _ (by omega)] | rw [rLayH_o (by omega) (by omega) (by omega) (by omega)]); omega)) (by first | assumption | omega | exact iRm (by omega) (by omega) | ((repeat (first | exact gL | refine rLs.up ?_ (by omega) (by omega) | refine rLs.fad ?_)); done) | ((repeat (first | exact gM | refine rHM.up ?_ (by omega))); done) | exact gT _ (by omega) | exact rFadF_le gF _ | ((repeat first | rw [va_up_ne _ _ (by omega)] | rw [va_up_self] | rw [rFadH_o (by omega)] | rw [rAge_o _ _ (by omega)] | rw [rLayH_o (by omega) (by omega) (by omega) (by omega)]); omega))) (zr_rc hC (zRf.ofH (Rs := []))) rfl rfl rfl ?_
    show zVm X G ad A 4 ((h, F), (rRem ps (h, F) (iv 0)), sn, (va_up iv 0 (if (iv 0) = 4 then 4 else (iv 0) + 1)), pd, sp) 17 [some (.ref (ad 0)), none, none, none] []
    refine zx_iconst (z := 0) hC dX2_play_17 ?_
    refine zx_istore_n (L' := [some (.ref (ad 0)), some (.int (iI 0)), none, none]) hC dX2_play_18 (by decide) rfl ?_
    refine zx_iconst (z := 0) hC dX2_play_19 ?_
    refine zx_istore_n (L' := [some (.ref (ad 0)), some (.int (iI 0)), some (.int (iI 0)), none]) hC dX2_play_20 (by decide) rfl ?_
    refine zx_aload_n hC dX2_play_21 rfl ?_
    refine zx_iconst (z := 0) hC dX2_play_22 ?_
    refine zr_put (iv' := (va_up (va_up iv 0 (if (iv 0) = 4 then 4 else (iv 0) + 1)) 3 0)) hC 8 (by decide) dX2_play_23 q1618 rfl (by first | rfl | exact znar (by omega)) (by first | rfl | exact zfit (by omega)) rfl ?_
    have loop : ∀ f i : Nat, i + f = nn → tPl pd (iv 2) i ≤ iv 2 → zVm X G ad A 4 (((rPlS h F pd (iv 2) i).1, (rPlS h F pd (iv 2) i).2), (rRem ps (h, F) (iv 0)), sn, (va_up (va_up iv 0 (if (iv 0) = 4 then 4 else (iv 0) + 1)) 3 0), pd, sp) 26 [some (.ref (ad 0)), some (.int (iI ((i : Nat) : Int))), some (.int (iI ((tPl pd (iv 2) i : Nat) : Int))), none] [] := by
      intro f
      induction f with
      | zero =>
        intro i h1 h8
        have h3 : i = nn := by omega
        subst h3
        refine zx_iload_n hC dX2_play_26 rfl ?_
        refine zx_aload_n hC dX2_play_27 rfl ?_
        refine zr_get (v := .int (iI ((iv 2 : Nat) : Int))) hC (zRf.ofH (Rs := [])) 6 (by decide) dX2_play_28 q1616 rfl ?_
        refine zx_icmp_geT (tgt := 92) hC dX2_play_31 (by decide) (by first | assumption | exact gI _ (by omega) | exact iRm (by omega) (by omega)) (by first | assumption | exact gI _ (by omega) | exact iRm (by omega) (by omega)) (by omega) ?_
        refine zx_aload_n hC dX2_play_92 rfl ?_
        refine zx_iconst (z := 0) hC dX2_play_93 ?_
        refine zr_put (iv' := (va_up (va_up (va_up iv 0 (if (iv 0) = 4 then 4 else (iv 0) + 1)) 3 0) 2 0)) hC 6 (by decide) dX2_play_94 q1616 rfl (by first | rfl | exact znar (by omega)) (by first | rfl | exact zfit (by omega)) rfl ?_
        refine zx_iload_n hC dX2_play_97 rfl ?_
        exact zx_iret hC hE (Nat.le_refl _) (Nat.le_refl _) (fun H h => ⟨rfl, h⟩) dX2_play_98
      | succ f ih =>
        intro i h1 h8
        obtain ⟨h3, h4, h5, h6⟩ := gN i (by omega)
        have h7 := tOrE_in h4
        refine zx_iload_n hC dX2_play_26 rfl ?_
        refine zx_aload_n hC dX2_play_27 rfl ?_
        refine zr_get (v := .int (iI ((iv 2 : Nat) : Int))) hC (zRf.ofH (Rs := [])) 6 (by decide) dX2_play_28 q1616 rfl ?_
        refine zx_icmp_geF (tgt := 92) hC dX2_play_31 (by decide) (by first | assumption | exact gI _ (by omega) | exact iRm (by omega) (by omega)) (by first | assumption | exact gI _ (by omega) | exact iRm (by omega) (by omega)) (by omega) ?_
        refine zx_aload_n hC dX2_play_34 rfl ?_
        refine zr_get (v := .int (iI 0)) hC (zRf.ofH (Rs := [])) 8 (by decide) dX2_play_35 q1618 rfl ?_
        refine zx_if_neF (tgt := 92) hC dX2_play_38 (by decide) (by first | assumption | exact gI _ (by omega) | exact iRm (by omega) (by omega)) (by omega) ?_
        refine zx_aload_n hC dX2_play_41 rfl ?_
        refine zx_iload_n hC dX2_play_42 rfl ?_
        refine zx_ma1 (r := .int (iI (rWhyC ((rPlS h F pd (iv 2) i).1) pd (iv 2) (tPl pd (iv 2) i)))) (Q := fun _ => [REF G ad (((rCarS ((rPlS h F pd (iv 2) i).1) ((rPlS h F pd (iv 2) i).2) pd (iv 2) (tPl pd (iv 2) i)).1, (rCarS ((rPlS h F pd (iv 2) i).1) ((rPlS h F pd (iv 2) i).2) pd (iv 2) (tPl pd (iv 2) i)).2), (rRem ps (h, F) (iv 0)), sn, (va_up (va_up iv 0 (if (iv 0) = 4 then 4 else (iv 0) + 1)) 3 0), pd, sp)]) hC hA [0] [] (zcV 1 (As := [.int (iI ((tPl pd (iv 2) i : Nat) : Int))]) hC (lw_V q1847 q1849 qs68 q93 q1850) (by decide +kernel) rfl (by rw [hRm]; decide) (by rw [hRm]; decide) rfl (Nat.le_of_ble_eq_true rfl) dX2_play_43) (m_X2_carries (zl X) G ad ((rPlS h F pd (iv 2) i).1) ((rPlS h F pd (iv 2) i).2) (rRem ps (h, F) (iv 0)) sn (va_up (va_up iv 0 (if (iv 0) = 4 then 4 else (iv 0) + 1)) 3 0) pd sp (tPl pd (iv 2) i) (by first | assumption | omega | exact iRm (by omega) (by omega) | ((repeat (first | exact gL | refine rLs.up ?_ (by omega) (by omega) | refine rLs.fad ?_)); done) | ((repeat (first | exact gM | refine rHM.up ?_ (by omega))); done) | exact gT _ (by omega) | exact rFadF_le gF _ | ((repeat first | rw [va_up_ne _ _ (by omega)] | rw [va_up_self] | rw [rFadH_o (by omega)] | rw [rAge_o _ _ (by omega)] | rw [rLayH_o (by omega) (by omega) (by omega) (by omega)]); omega)) (by first | assumption | omega | exact iRm (by omega) (by omega) | ((repeat (first | exact gL | refine rLs.up ?_ (by omega) (by omega) | refine rLs.fad ?_)); done) | ((repeat (first | exact gM | refine rHM.up ?_ (by omega))); done) | exact gT _ (by omega) | exact rFadF_le gF _ | ((repeat first | rw [va_up_ne _ _ (by omega)] | rw [va_up_self] | rw [rFadH_o (by omega)] | rw [rAge_o _ _ (by omega)] | rw [rLayH_o (by omega) (by omega) (by omega) (by omega)]); omega)) (by first | assumption | omega | exact iRm (by omega) (by omega) | ((repeat (first | exact gL | refine rLs.up ?_ (by omega) (by omega) | refine rLs.fad ?_)); done) | ((repeat (first | exact gM | refine rHM.up ?_ (by omega))); done) | exact gT _ (by omega) | exact rFadF_le gF _ | ((repeat first | rw [va_up_ne _ _ (by omega)] | rw [va_up_self] | rw [rFadH_o (by omega)] | rw [rAge_o _ _ (by omega)] | rw [rLayH_o (by omega) (by omega) (by omega) (by omega)]); omega)) (by first | assumption | omega | exact iRm (by omega) (by omega) | ((repeat (first | exact gL | refine rLs.up ?_ (by omega) (by omega) | refine rLs.fad ?_)); done) | ((repeat (first | exact gM | refine rHM.up ?_ (by omega))); done) | exact gT _ (by omega) | exact rFadF_le gF _ | ((repeat first | rw [va_up_ne _ _ (by omega)] | rw [va_up_self] | rw [rFadH_o (by omega)] | rw [rAge_o _ _ (by omega)] | rw [rLayH_o (by omega) (by omega) (by omega) (by omega)]); omega))) (zr_rc hC (zRf.ofH (Rs := []))) rfl rfl rfl ?_
        show zVm X G ad A 4 (((rCarS ((rPlS h F pd (iv 2) i).1) ((rPlS h F pd (iv 2) i).2) pd (iv 2) (tPl pd (iv 2) i)).1, (rCarS ((rPlS h F pd (iv 2) i).1) ((rPlS h F pd (iv 2) i).2) pd (iv 2) (tPl pd (iv 2) i)).2), (rRem ps (h, F) (iv 0)), sn, (va_up (va_up iv 0 (if (iv 0) = 4 then 4 else (iv 0) + 1)) 3 0), pd, sp) 46 [some (.ref (ad 0)), some (.int (iI ((i : Nat) : Int))), some (.int (iI ((tPl pd (iv 2) i : Nat) : Int))), none] [.int (iI (rWhyC ((rPlS h F pd (iv 2) i).1) pd (iv 2) (tPl pd (iv 2) i)))]
        change zV X 4 A _ 0 0 46 _ [.int (iI (rWhyC (rPlS h F pd (iv 2) i).1 pd (iv 2) (tPl pd (iv 2) i)))]
        refine zx_istore_n (L' := [some (.ref (ad 0)), some (.int (iI ((i : Nat) : Int))), some (.int (iI ((tPl pd (iv 2) i : Nat) : Int))), some (.int (iI (rWhyC (rPlS h F pd (iv 2) i).1 pd (iv 2) (tPl pd (iv 2) i))))]) hC dX2_play_46 (by decide) rfl ?_
        refine zx_iload_n hC dX2_play_47 rfl ?_
        refine zx_if_geT (tgt := 80) hC dX2_play_48 (by decide) (by first | assumption | exact gI _ (by omega) | exact iRm (by omega) (by omega)) (by omega) ?_
        refine zx_iinc (b := ((i + 1 : Nat) : Int)) (L' := [some (.ref (ad 0)), some (.int (iI ((i + 1 : Nat) : Int))), some (.int (iI ((tPl pd (iv 2) i : Nat) : Int))), some (.int (iI (rWhyC (rPlS h F pd (iv 2) i).1 pd (iv 2) (tPl pd (iv 2) i))))]) hC dX2_play_80 rfl (by first | rfl | omega) (by decide) rfl ?_
        refine zx_aload_n hC dX2_play_83 rfl ?_
        refine zx_iload_n hC dX2_play_84 rfl ?_
        refine zx_rd1 (r := .int (iI (tOrE pd (iv 2) (tPl pd (iv 2) i)))) hC hA.2 (zcV 1 (As := [.int (iI ((tPl pd (iv 2) i : Nat) : Int))]) hC (lw_V q1823 q1825 qs63 q93 q1826) (by decide +kernel) rfl (by rw [hRm]; decide) (by rw [hRm]; decide) rfl (Nat.le_of_ble_eq_true rfl) dX2_play_85) (m_X2_orderEnd (zl X) G ad ((rCarS ((rPlS h F pd (iv 2) i).1) ((rPlS h F pd (iv 2) i).2) pd (iv 2) (tPl pd (iv 2) i)).1) ((rCarS ((rPlS h F pd (iv 2) i).1) ((rPlS h F pd (iv 2) i).2) pd (iv 2) (tPl pd (iv 2) i)).2) (rRem ps (h, F) (iv 0)) sn (va_up (va_up iv 0 (if (iv 0) = 4 then 4 else (iv 0) + 1)) 3 0) pd sp (tPl pd (iv 2) i) (by first | assumption | omega | exact iRm (by omega) (by omega) | ((repeat (first | exact gL | refine rLs.up ?_ (by omega) (by omega) | refine rLs.fad ?_)); done) | ((repeat (first | exact gM | refine rHM.up ?_ (by omega))); done) | exact gT _ (by omega) | exact rFadF_le gF _ | ((repeat first | rw [va_up_ne _ _ (by omega)] | rw [va_up_self] | rw [rFadH_o (by omega)] | rw [rAge_o _ _ (by omega)] | rw [rLayH_o (by omega) (by omega) (by omega) (by omega)]); omega)) (by first | assumption | omega | exact iRm (by omega) (by omega) | ((repeat (first | exact gL | refine rLs.up ?_ (by omega) (by omega) | refine rLs.fad ?_)); done) | ((repeat (first | exact gM | refine rHM.up ?_ (by omega))); done) | exact gT _ (by omega) | exact rFadF_le gF _ | ((repeat first | rw [va_up_ne _ _ (by omega)] | rw [va_up_self] | rw [rFadH_o (by omega)] | rw [rAge_o _ _ (by omega)] | rw [rLayH_o (by omega) (by omega) (by omega) (by omega)]); omega)) (by first | assumption | omega | exact iRm (by omega) (by omega) | ((repeat (first | exact gL | refine rLs.up ?_ (by omega) (by omega) | refine rLs.fad ?_)); done) | ((repeat (first | exact gM | refine rHM.up ?_ (by omega))); done) | exact gT _ (by omega) | exact rFadF_le gF _ | ((repeat first | rw [va_up_ne _ _ (by omega)] | rw [va_up_self] | rw [rFadH_o (by omega)] | rw [rAge_o _ _ (by omega)] | rw [rLayH_o (by omega) (by omega) (by omega) (by omega)]); omega))) (zr_rc hC (zRf.ofH (Rs := []))) (zRf.ofH (Rs := [])) ?_
        refine zx_topi (b := ((tPl pd (iv 2) (i + 1) : Nat) : Int)) (by simp only [tPl]; omega) ?_
        refine zx_istore_n (L' := [some (.ref (ad 0)), some (.int (iI ((i + 1 : Nat) : Int))), some (.int (iI ((tPl pd (iv 2) (i + 1) : Nat) : Int))), some (.int (iI (rWhyC (rPlS h F pd (iv 2) i).1 pd (iv 2) (tPl pd (iv 2) i))))]) hC dX2_play_88 (by decide) rfl ?_
        refine zx_goto (tgt := 26) hC dX2_play_89 (by decide) ?_
        refine zx_le (L' := [some (.ref (ad 0)), some (.int (iI ((i + 1 : Nat) : Int))), some (.int (iI ((tPl pd (iv 2) (i + 1) : Nat) : Int))), none]) (zle_s (zle_s (zle_s (zle_n zle_0)))) ?_
        exact ih (i + 1) (by omega) (by simp only [tPl]; omega)
    exact loop nn 0 (by omega) (Nat.zero_le _)
  · exfalso; omega
set_option maxHeartbeats 4000000 in
theorem m_X2_playS (la : Launch) (G : zG) (ad : Nat → Nat) (h : Nat → Nat) (F : Nat → Nat → Nat → Nat) (ps : Nat → zRS) (sn : zRS) (iv pd : Nat → Nat) (sp : Nat → Int) (nn : Nat) (g0 : iv 2 ≤ 60) (gP : tPd pd) (g2 : tFlt pd (iv 2) 0 61 0 = -4) (g3 : iv 0 ≤ 4) (gN : rPlOK h F pd (iv 2) nn) (g5 : tPl pd (iv 2) nn < iv 2) (g6 : nn ≤ 1000) (gS : rCarOK (rPlS h F pd (iv 2) nn).1 (rPlS h F pd (iv 2) nn).2 pd (iv 2) (tPl pd (iv 2) nn)) (g8 : rWhyC (rPlS h F pd (iv 2) nn).1 pd (iv 2) (tPl pd (iv 2) nn) < 0) : zMA la yX2_play cX2_play 4 (some .int) 8 178 G [.ref (ad 0)] [REF G ad ((h, F), ps, sn, iv, pd, sp)] (fun v9 => v9 = some (.int (iI ((nn : Nat) : Int)))) (fun _ => [REF G ad (((rPlS h F pd (iv 2) (nn + 1)).1, (rPlS h F pd (iv 2) (nn + 1)).2), (rRem ps (h, F) (iv 0)), sn, (va_up (va_up (va_up (va_up iv 0 (if iv 0 = 4 then 4 else iv 0 + 1)) 3 0) 3 1) 2 0), pd, (va_up (va_up (va_up sp 0 (rWhyC (rPlS h F pd (iv 2) nn).1 pd (iv 2) (tPl pd (iv 2) nn))) 1 ((nn : Nat) : Int)) 2 ((tPl pd (iv 2) nn : Nat) : Int)))]) 0 0 := by
  refine zMA.of [some (.ref (ad 0)), none, none, none] (by decide) (Nat.le_of_ble_eq_true rfl) rfl (fun X A hl hC hnm hA hRm hE => ?_)
  have gw : -4 ≤ rWhyC (rPlS h F pd (iv 2) nn).1 pd (iv 2) (tPl pd (iv 2) nn) := by unfold rWhyC rWhyPress rWhyStop rWhyPeel rWhyBack rWhyHit; (repeat' split) <;> omega
  refine zx_aload_n hC dX2_play_0 rfl ?_
  refine zx_iconst (z := 0) hC dX2_play_1 ?_
  refine zx_rd1 (r := .int (iI (tFlt pd (iv 2) 0 61 0))) hC hA.2 (zcV 1 (As := [.int (iI 0)]) hC (lw_V q1819 q1821 qs62 q93 q1822) (by decide +kernel) rfl (by rw [hRm]; decide) (by rw [hRm]; decide) rfl (Nat.le_of_ble_eq_true rfl) dX2_play_2) (m_X2_faultOf0 (zl X) G ad h F ps sn iv pd sp  (by first | assumption | omega | exact iRm (by omega) (by omega) | ((repeat (first | exact gL | refine rLs.up ?_ (by omega) (by omega) | refine rLs.fad ?_)); done) | ((repeat (first | exact gM | refine rHM.up ?_ (by omega))); done) | exact gT _ (by omega) | exact rFadF_le gF _ | ((repeat first | rw [va_up_ne _ _ (by omega)] | rw [va_up_self] | rw [rFadH_o (by omega)] | rw [rAge_o _ _ (by omega)] | rw [rLayH_o (by omega) (by omega) (by omega) (by omega)]); omega)) (by first | assumption | omega | exact iRm (by omega) (by omega) | ((repeat (first | exact gL | refine rLs.up ?_ (by omega) (by omega) | refine rLs.fad ?_)); done) | ((repeat (first | exact gM | refine rHM.up ?_ (by omega))); done) | exact gT _ (by omega) | exact rFadF_le gF _ | ((repeat first | rw [va_up_ne _ _ (by omega)] | rw [va_up_self] | rw [rFadH_o (by omega)] | rw [rAge_o _ _ (by omega)] | rw [rLayH_o (by omega) (by omega) (by omega) (by omega)]); omega))) (zr_rc hC (zRf.ofH (Rs := []))) (zRf.ofH (Rs := [])) ?_
  refine zx_bipush (z := (-4)) hC dX2_play_5 rfl ?_
  refine zx_icmp_eq (tgt := 13) hC dX2_play_7 (by decide) (by first | exact iRm (by omega) (by omega) | (rw [show tFlt pd (iv 2) 0 61 0 = -4 by assumption]; exact iRm (by omega) (by omega))) (by first | exact iRm (by omega) (by omega) | (rw [show tFlt pd (iv 2) 0 61 0 = -4 by assumption]; exact iRm (by omega) (by omega))) (fun c7 => ?_) (fun c7 => ?_)
  · refine zx_aload_n hC dX2_play_13 rfl ?_
    refine zx_ma0 (Q := fun _ => [REF G ad ((h, F), (rRem ps (h, F) (iv 0)), sn, (va_up iv 0 (if (iv 0) = 4 then 4 else (iv 0) + 1)), pd, sp)]) hC hA [0] [] (zcV 0 (As := []) hC (lw_V q1655 q1657 qs36 q93 q1658) (by decide +kernel) rfl (by rw [hRm]; decide) (by rw [hRm]; decide) rfl (Nat.le_of_ble_eq_true rfl) dX2_play_14) (m_X2_remembers (zl X) G ad h F ps sn iv pd sp (iv 0) (by first | assumption | omega | exact iRm (by omega) (by omega) | ((repeat (first | exact gL | refine rLs.up ?_ (by omega) (by omega) | refine rLs.fad ?_)); done) | ((repeat (first | exact gM | refine rHM.up ?_ (by omega))); done) | exact gT _ (by omega) | exact rFadF_le gF _ | ((repeat first | rw [va_up_ne _ _ (by omega)] | rw [va_up_self] | rw [rFadH_o (by omega)] | rw [rAge_o _ _ (by omega)] | rw [rLayH_o (by omega) (by omega) (by omega) (by omega)]); omega)) (by first | assumption | omega | exact iRm (by omega) (by omega) | ((repeat (first | exact gL | refine rLs.up ?_ (by omega) (by omega) | refine rLs.fad ?_)); done) | ((repeat (first | exact gM | refine rHM.up ?_ (by omega))); done) | exact gT _ (by omega) | exact rFadF_le gF _ | ((repeat first | rw [va_up_ne _ _ (by omega)] | rw [va_up_self] | rw [rFadH_o (by omega)] | rw [rAge_o _ _ (by omega)] | rw [rLayH_o (by omega) (by omega) (by omega) (by omega)]); omega))) (zr_rc hC (zRf.ofH (Rs := []))) rfl rfl rfl ?_
    show zVm X G ad A 4 ((h, F), (rRem ps (h, F) (iv 0)), sn, (va_up iv 0 (if (iv 0) = 4 then 4 else (iv 0) + 1)), pd, sp) 17 [some (.ref (ad 0)), none, none, none] []
    refine zx_iconst (z := 0) hC dX2_play_17 ?_
    refine zx_istore_n (L' := [some (.ref (ad 0)), some (.int (iI 0)), none, none]) hC dX2_play_18 (by decide) rfl ?_
    refine zx_iconst (z := 0) hC dX2_play_19 ?_
    refine zx_istore_n (L' := [some (.ref (ad 0)), some (.int (iI 0)), some (.int (iI 0)), none]) hC dX2_play_20 (by decide) rfl ?_
    refine zx_aload_n hC dX2_play_21 rfl ?_
    refine zx_iconst (z := 0) hC dX2_play_22 ?_
    refine zr_put (iv' := (va_up (va_up iv 0 (if (iv 0) = 4 then 4 else (iv 0) + 1)) 3 0)) hC 8 (by decide) dX2_play_23 q1618 rfl (by first | rfl | exact znar (by omega)) (by first | rfl | exact zfit (by omega)) rfl ?_
    have loop : ∀ f i : Nat, i + f = nn → tPl pd (iv 2) i ≤ iv 2 → zVm X G ad A 4 (((rPlS h F pd (iv 2) i).1, (rPlS h F pd (iv 2) i).2), (rRem ps (h, F) (iv 0)), sn, (va_up (va_up iv 0 (if (iv 0) = 4 then 4 else (iv 0) + 1)) 3 0), pd, sp) 26 [some (.ref (ad 0)), some (.int (iI ((i : Nat) : Int))), some (.int (iI ((tPl pd (iv 2) i : Nat) : Int))), none] [] := by
      intro f
      induction f with
      | zero =>
        intro i h1 h8
        have h3 : i = nn := by omega
        subst h3
        refine zx_iload_n hC dX2_play_26 rfl ?_
        refine zx_aload_n hC dX2_play_27 rfl ?_
        refine zr_get (v := .int (iI ((iv 2 : Nat) : Int))) hC (zRf.ofH (Rs := [])) 6 (by decide) dX2_play_28 q1616 rfl ?_
        refine zx_icmp_geF (tgt := 92) hC dX2_play_31 (by decide) (by first | assumption | exact gI _ (by omega) | exact iRm (by omega) (by omega)) (by first | assumption | exact gI _ (by omega) | exact iRm (by omega) (by omega)) (by omega) ?_
        refine zx_aload_n hC dX2_play_34 rfl ?_
        refine zr_get (v := .int (iI 0)) hC (zRf.ofH (Rs := [])) 8 (by decide) dX2_play_35 q1618 rfl ?_
        refine zx_if_neF (tgt := 92) hC dX2_play_38 (by decide) (by first | assumption | exact gI _ (by omega) | exact iRm (by omega) (by omega)) (by omega) ?_
        refine zx_aload_n hC dX2_play_41 rfl ?_
        refine zx_iload_n hC dX2_play_42 rfl ?_
        refine zx_ma1 (r := .int (iI (rWhyC ((rPlS h F pd (iv 2) i).1) pd (iv 2) (tPl pd (iv 2) i)))) (Q := fun _ => [REF G ad (((rCarS ((rPlS h F pd (iv 2) i).1) ((rPlS h F pd (iv 2) i).2) pd (iv 2) (tPl pd (iv 2) i)).1, (rCarS ((rPlS h F pd (iv 2) i).1) ((rPlS h F pd (iv 2) i).2) pd (iv 2) (tPl pd (iv 2) i)).2), (rRem ps (h, F) (iv 0)), sn, (va_up (va_up iv 0 (if (iv 0) = 4 then 4 else (iv 0) + 1)) 3 0), pd, sp)]) hC hA [0] [] (zcV 1 (As := [.int (iI ((tPl pd (iv 2) i : Nat) : Int))]) hC (lw_V q1847 q1849 qs68 q93 q1850) (by decide +kernel) rfl (by rw [hRm]; decide) (by rw [hRm]; decide) rfl (Nat.le_of_ble_eq_true rfl) dX2_play_43) (m_X2_carries (zl X) G ad ((rPlS h F pd (iv 2) i).1) ((rPlS h F pd (iv 2) i).2) (rRem ps (h, F) (iv 0)) sn (va_up (va_up iv 0 (if (iv 0) = 4 then 4 else (iv 0) + 1)) 3 0) pd sp (tPl pd (iv 2) i) (by first | assumption | omega | exact iRm (by omega) (by omega) | ((repeat (first | exact gL | refine rLs.up ?_ (by omega) (by omega) | refine rLs.fad ?_)); done) | ((repeat (first | exact gM | refine rHM.up ?_ (by omega))); done) | exact gT _ (by omega) | exact rFadF_le gF _ | ((repeat first | rw [va_up_ne _ _ (by omega)] | rw [va_up_self] | rw [rFadH_o (by omega)] | rw [rAge_o _ _ (by omega)] | rw [rLayH_o (by omega) (by omega) (by omega) (by omega)]); omega)) (by first | assumption | omega | exact iRm (by omega) (by omega) | ((repeat (first | exact gL | refine rLs.up ?_ (by omega) (by omega) | refine rLs.fad ?_)); done) | ((repeat (first | exact gM | refine rHM.up ?_ (by omega))); done) | exact gT _ (by omega) | exact rFadF_le gF _ | ((repeat first | rw [va_up_ne _ _ (by omega)] | rw [va_up_self] | rw [rFadH_o (by omega)] | rw [rAge_o _ _ (by omega)] | rw [rLayH_o (by omega) (by omega) (by omega) (by omega)]); omega)) (by first | assumption | omega | exact iRm (by omega) (by omega) | ((repeat (first | exact gL | refine rLs.up ?_ (by omega) (by omega) | refine rLs.fad ?_)); done) | ((repeat (first | exact gM | refine rHM.up ?_ (by omega))); done) | exact gT _ (by omega) | exact rFadF_le gF _ | ((repeat first | rw [va_up_ne _ _ (by omega)] | rw [va_up_self] | rw [rFadH_o (by omega)] | rw [rAge_o _ _ (by omega)] | rw [rLayH_o (by omega) (by omega) (by omega) (by omega)]); omega)) (by first | assumption | omega | exact iRm (by omega) (by omega) | ((repeat (first | exact gL | refine rLs.up ?_ (by omega) (by omega) | refine rLs.fad ?_)); done) | ((repeat (first | exact gM | refine rHM.up ?_ (by omega))); done) | exact gT _ (by omega) | exact rFadF_le gF _ | ((repeat first | rw [va_up_ne _ _ (by omega)] | rw [va_up_self] | rw [rFadH_o (by omega)] | rw [rAge_o _ _ (by omega)] | rw [rLayH_o (by omega) (by omega) (by omega) (by omega)]); omega))) (zr_rc hC (zRf.ofH (Rs := []))) rfl rfl rfl ?_
        show zVm X G ad A 4 (((rCarS ((rPlS h F pd (iv 2) i).1) ((rPlS h F pd (iv 2) i).2) pd (iv 2) (tPl pd (iv 2) i)).1, (rCarS ((rPlS h F pd (iv 2) i).1) ((rPlS h F pd (iv 2) i).2) pd (iv 2) (tPl pd (iv 2) i)).2), (rRem ps (h, F) (iv 0)), sn, (va_up (va_up iv 0 (if (iv 0) = 4 then 4 else (iv 0) + 1)) 3 0), pd, sp) 46 [some (.ref (ad 0)), some (.int (iI ((i : Nat) : Int))), some (.int (iI ((tPl pd (iv 2) i : Nat) : Int))), none] [.int (iI (rWhyC ((rPlS h F pd (iv 2) i).1) pd (iv 2) (tPl pd (iv 2) i)))]
        change zV X 4 A _ 0 0 46 _ [.int (iI (rWhyC (rPlS h F pd (iv 2) i).1 pd (iv 2) (tPl pd (iv 2) i)))]
        refine zx_istore_n (L' := [some (.ref (ad 0)), some (.int (iI ((i : Nat) : Int))), some (.int (iI ((tPl pd (iv 2) i : Nat) : Int))), some (.int (iI (rWhyC (rPlS h F pd (iv 2) i).1 pd (iv 2) (tPl pd (iv 2) i))))]) hC dX2_play_46 (by decide) rfl ?_
        refine zx_iload_n hC dX2_play_47 rfl ?_
        refine zx_if_geF (tgt := 80) hC dX2_play_48 (by decide) (by first | assumption | exact gI _ (by omega) | exact iRm (by omega) (by omega)) (by omega) ?_
        refine zx_aload_n hC dX2_play_51 rfl ?_
        refine zx_iconst (z := 1) hC dX2_play_52 ?_
        refine zr_put (iv' := (va_up (va_up (va_up iv 0 (if (iv 0) = 4 then 4 else (iv 0) + 1)) 3 0) 3 1)) hC 8 (by decide) dX2_play_53 q1618 rfl (by first | rfl | exact znar (by omega)) (by first | rfl | exact zfit (by omega)) rfl ?_
        refine zx_aload_n hC dX2_play_56 rfl ?_
        refine zr_get (v := .ref (ad 5)) hC (zRf.ofH (Rs := [])) 7 (by decide) dX2_play_57 q1617 rfl ?_
        refine zx_iconst (z := 0) hC dX2_play_60 ?_
        refine zx_iload_n hC dX2_play_61 rfl ?_
        refine zr_spstN (v := rWhyC (rPlS h F pd (iv 2) i).1 pd (iv 2) (tPl pd (iv 2) i)) hC 0 dX2_play_62 (by omega) ?_
        refine zx_aload_n hC dX2_play_63 rfl ?_
        refine zr_get (v := .ref (ad 5)) hC (zRf.ofH (Rs := [])) 7 (by decide) dX2_play_64 q1617 rfl ?_
        refine zx_iconst (z := 1) hC dX2_play_67 ?_
        refine zx_iload_n hC dX2_play_68 rfl ?_
        refine zr_spstN (v := ((i : Nat) : Int)) hC 1 dX2_play_69 (by omega) ?_
        refine zx_aload_n hC dX2_play_70 rfl ?_
        refine zr_get (v := .ref (ad 5)) hC (zRf.ofH (Rs := [])) 7 (by decide) dX2_play_71 q1617 rfl ?_
        refine zx_iconst (z := 2) hC dX2_play_74 ?_
        refine zx_iload_n hC dX2_play_75 rfl ?_
        refine zr_spstN (v := ((tPl pd (iv 2) i : Nat) : Int)) hC 2 dX2_play_76 (by omega) ?_
        refine zx_goto (tgt := 89) hC dX2_play_77 (by decide) ?_
        refine zx_goto (tgt := 26) hC dX2_play_89 (by decide) ?_
        refine zx_iload_n hC dX2_play_26 rfl ?_
        refine zx_aload_n hC dX2_play_27 rfl ?_
        refine zr_get (v := .int (iI ((iv 2 : Nat) : Int))) hC (zRf.ofH (Rs := [])) 6 (by decide) dX2_play_28 q1616 rfl ?_
        refine zx_icmp_geF (tgt := 92) hC dX2_play_31 (by decide) (by first | assumption | exact gI _ (by omega) | exact iRm (by omega) (by omega)) (by first | assumption | exact gI _ (by omega) | exact iRm (by omega) (by omega)) (by omega) ?_
        refine zx_aload_n hC dX2_play_34 rfl ?_
        refine zr_get (v := .int (iI 1)) hC (zRf.ofH (Rs := [])) 8 (by decide) dX2_play_35 q1618 rfl ?_
        refine zx_if_neT (tgt := 92) hC dX2_play_38 (by decide) (by first | assumption | exact gI _ (by omega) | exact iRm (by omega) (by omega)) (by omega) ?_
        refine zx_aload_n hC dX2_play_92 rfl ?_
        refine zx_iconst (z := 0) hC dX2_play_93 ?_
        refine zr_put (iv' := (va_up (va_up (va_up (va_up iv 0 (if (iv 0) = 4 then 4 else (iv 0) + 1)) 3 0) 3 1) 2 0)) hC 6 (by decide) dX2_play_94 q1616 rfl (by first | rfl | exact znar (by omega)) (by first | rfl | exact zfit (by omega)) rfl ?_
        refine zx_iload_n hC dX2_play_97 rfl ?_
        exact zx_iret hC hE (Nat.le_refl _) (Nat.le_refl _) (fun H h => ⟨rfl, h⟩) dX2_play_98
      | succ f ih =>
        intro i h1 h8
        obtain ⟨h3, h4, h5, h6⟩ := gN i (by omega)
        have h7 := tOrE_in h4
        refine zx_iload_n hC dX2_play_26 rfl ?_
        refine zx_aload_n hC dX2_play_27 rfl ?_
        refine zr_get (v := .int (iI ((iv 2 : Nat) : Int))) hC (zRf.ofH (Rs := [])) 6 (by decide) dX2_play_28 q1616 rfl ?_
        refine zx_icmp_geF (tgt := 92) hC dX2_play_31 (by decide) (by first | assumption | exact gI _ (by omega) | exact iRm (by omega) (by omega)) (by first | assumption | exact gI _ (by omega) | exact iRm (by omega) (by omega)) (by omega) ?_
        refine zx_aload_n hC dX2_play_34 rfl ?_
        refine zr_get (v := .int (iI 0)) hC (zRf.ofH (Rs := [])) 8 (by decide) dX2_play_35 q1618 rfl ?_
        refine zx_if_neF (tgt := 92) hC dX2_play_38 (by decide) (by first | assumption | exact gI _ (by omega) | exact iRm (by omega) (by omega)) (by omega) ?_
        refine zx_aload_n hC dX2_play_41 rfl ?_
        refine zx_iload_n hC dX2_play_42 rfl ?_
        refine zx_ma1 (r := .int (iI (rWhyC ((rPlS h F pd (iv 2) i).1) pd (iv 2) (tPl pd (iv 2) i)))) (Q := fun _ => [REF G ad (((rCarS ((rPlS h F pd (iv 2) i).1) ((rPlS h F pd (iv 2) i).2) pd (iv 2) (tPl pd (iv 2) i)).1, (rCarS ((rPlS h F pd (iv 2) i).1) ((rPlS h F pd (iv 2) i).2) pd (iv 2) (tPl pd (iv 2) i)).2), (rRem ps (h, F) (iv 0)), sn, (va_up (va_up iv 0 (if (iv 0) = 4 then 4 else (iv 0) + 1)) 3 0), pd, sp)]) hC hA [0] [] (zcV 1 (As := [.int (iI ((tPl pd (iv 2) i : Nat) : Int))]) hC (lw_V q1847 q1849 qs68 q93 q1850) (by decide +kernel) rfl (by rw [hRm]; decide) (by rw [hRm]; decide) rfl (Nat.le_of_ble_eq_true rfl) dX2_play_43) (m_X2_carries (zl X) G ad ((rPlS h F pd (iv 2) i).1) ((rPlS h F pd (iv 2) i).2) (rRem ps (h, F) (iv 0)) sn (va_up (va_up iv 0 (if (iv 0) = 4 then 4 else (iv 0) + 1)) 3 0) pd sp (tPl pd (iv 2) i) (by first | assumption | omega | exact iRm (by omega) (by omega) | ((repeat (first | exact gL | refine rLs.up ?_ (by omega) (by omega) | refine rLs.fad ?_)); done) | ((repeat (first | exact gM | refine rHM.up ?_ (by omega))); done) | exact gT _ (by omega) | exact rFadF_le gF _ | ((repeat first | rw [va_up_ne _ _ (by omega)] | rw [va_up_self] | rw [rFadH_o (by omega)] | rw [rAge_o _ _ (by omega)] | rw [rLayH_o (by omega) (by omega) (by omega) (by omega)]); omega)) (by first | assumption | omega | exact iRm (by omega) (by omega) | ((repeat (first | exact gL | refine rLs.up ?_ (by omega) (by omega) | refine rLs.fad ?_)); done) | ((repeat (first | exact gM | refine rHM.up ?_ (by omega))); done) | exact gT _ (by omega) | exact rFadF_le gF _ | ((repeat first | rw [va_up_ne _ _ (by omega)] | rw [va_up_self] | rw [rFadH_o (by omega)] | rw [rAge_o _ _ (by omega)] | rw [rLayH_o (by omega) (by omega) (by omega) (by omega)]); omega)) (by first | assumption | omega | exact iRm (by omega) (by omega) | ((repeat (first | exact gL | refine rLs.up ?_ (by omega) (by omega) | refine rLs.fad ?_)); done) | ((repeat (first | exact gM | refine rHM.up ?_ (by omega))); done) | exact gT _ (by omega) | exact rFadF_le gF _ | ((repeat first | rw [va_up_ne _ _ (by omega)] | rw [va_up_self] | rw [rFadH_o (by omega)] | rw [rAge_o _ _ (by omega)] | rw [rLayH_o (by omega) (by omega) (by omega) (by omega)]); omega)) (by first | assumption | omega | exact iRm (by omega) (by omega) | ((repeat (first | exact gL | refine rLs.up ?_ (by omega) (by omega) | refine rLs.fad ?_)); done) | ((repeat (first | exact gM | refine rHM.up ?_ (by omega))); done) | exact gT _ (by omega) | exact rFadF_le gF _ | ((repeat first | rw [va_up_ne _ _ (by omega)] | rw [va_up_self] | rw [rFadH_o (by omega)] | rw [rAge_o _ _ (by omega)] | rw [rLayH_o (by omega) (by omega) (by omega) (by omega)]); omega))) (zr_rc hC (zRf.ofH (Rs := []))) rfl rfl rfl ?_
        show zVm X G ad A 4 (((rCarS ((rPlS h F pd (iv 2) i).1) ((rPlS h F pd (iv 2) i).2) pd (iv 2) (tPl pd (iv 2) i)).1, (rCarS ((rPlS h F pd (iv 2) i).1) ((rPlS h F pd (iv 2) i).2) pd (iv 2) (tPl pd (iv 2) i)).2), (rRem ps (h, F) (iv 0)), sn, (va_up (va_up iv 0 (if (iv 0) = 4 then 4 else (iv 0) + 1)) 3 0), pd, sp) 46 [some (.ref (ad 0)), some (.int (iI ((i : Nat) : Int))), some (.int (iI ((tPl pd (iv 2) i : Nat) : Int))), none] [.int (iI (rWhyC ((rPlS h F pd (iv 2) i).1) pd (iv 2) (tPl pd (iv 2) i)))]
        change zV X 4 A _ 0 0 46 _ [.int (iI (rWhyC (rPlS h F pd (iv 2) i).1 pd (iv 2) (tPl pd (iv 2) i)))]
        refine zx_istore_n (L' := [some (.ref (ad 0)), some (.int (iI ((i : Nat) : Int))), some (.int (iI ((tPl pd (iv 2) i : Nat) : Int))), some (.int (iI (rWhyC (rPlS h F pd (iv 2) i).1 pd (iv 2) (tPl pd (iv 2) i))))]) hC dX2_play_46 (by decide) rfl ?_
        refine zx_iload_n hC dX2_play_47 rfl ?_
        refine zx_if_geT (tgt := 80) hC dX2_play_48 (by decide) (by first | assumption | exact gI _ (by omega) | exact iRm (by omega) (by omega)) (by omega) ?_
        refine zx_iinc (b := ((i + 1 : Nat) : Int)) (L' := [some (.ref (ad 0)), some (.int (iI ((i + 1 : Nat) : Int))), some (.int (iI ((tPl pd (iv 2) i : Nat) : Int))), some (.int (iI (rWhyC (rPlS h F pd (iv 2) i).1 pd (iv 2) (tPl pd (iv 2) i))))]) hC dX2_play_80 rfl (by first | rfl | omega) (by decide) rfl ?_
        refine zx_aload_n hC dX2_play_83 rfl ?_
        refine zx_iload_n hC dX2_play_84 rfl ?_
        refine zx_rd1 (r := .int (iI (tOrE pd (iv 2) (tPl pd (iv 2) i)))) hC hA.2 (zcV 1 (As := [.int (iI ((tPl pd (iv 2) i : Nat) : Int))]) hC (lw_V q1823 q1825 qs63 q93 q1826) (by decide +kernel) rfl (by rw [hRm]; decide) (by rw [hRm]; decide) rfl (Nat.le_of_ble_eq_true rfl) dX2_play_85) (m_X2_orderEnd (zl X) G ad ((rCarS ((rPlS h F pd (iv 2) i).1) ((rPlS h F pd (iv 2) i).2) pd (iv 2) (tPl pd (iv 2) i)).1) ((rCarS ((rPlS h F pd (iv 2) i).1) ((rPlS h F pd (iv 2) i).2) pd (iv 2) (tPl pd (iv 2) i)).2) (rRem ps (h, F) (iv 0)) sn (va_up (va_up iv 0 (if (iv 0) = 4 then 4 else (iv 0) + 1)) 3 0) pd sp (tPl pd (iv 2) i) (by first | assumption | omega | exact iRm (by omega) (by omega) | ((repeat (first | exact gL | refine rLs.up ?_ (by omega) (by omega) | refine rLs.fad ?_)); done) | ((repeat (first | exact gM | refine rHM.up ?_ (by omega))); done) | exact gT _ (by omega) | exact rFadF_le gF _ | ((repeat first | rw [va_up_ne _ _ (by omega)] | rw [va_up_self] | rw [rFadH_o (by omega)] | rw [rAge_o _ _ (by omega)] | rw [rLayH_o (by omega) (by omega) (by omega) (by omega)]); omega)) (by first | assumption | omega | exact iRm (by omega) (by omega) | ((repeat (first | exact gL | refine rLs.up ?_ (by omega) (by omega) | refine rLs.fad ?_)); done) | ((repeat (first | exact gM | refine rHM.up ?_ (by omega))); done) | exact gT _ (by omega) | exact rFadF_le gF _ | ((repeat first | rw [va_up_ne _ _ (by omega)] | rw [va_up_self] | rw [rFadH_o (by omega)] | rw [rAge_o _ _ (by omega)] | rw [rLayH_o (by omega) (by omega) (by omega) (by omega)]); omega)) (by first | assumption | omega | exact iRm (by omega) (by omega) | ((repeat (first | exact gL | refine rLs.up ?_ (by omega) (by omega) | refine rLs.fad ?_)); done) | ((repeat (first | exact gM | refine rHM.up ?_ (by omega))); done) | exact gT _ (by omega) | exact rFadF_le gF _ | ((repeat first | rw [va_up_ne _ _ (by omega)] | rw [va_up_self] | rw [rFadH_o (by omega)] | rw [rAge_o _ _ (by omega)] | rw [rLayH_o (by omega) (by omega) (by omega) (by omega)]); omega))) (zr_rc hC (zRf.ofH (Rs := []))) (zRf.ofH (Rs := [])) ?_
        refine zx_topi (b := ((tPl pd (iv 2) (i + 1) : Nat) : Int)) (by simp only [tPl]; omega) ?_
        refine zx_istore_n (L' := [some (.ref (ad 0)), some (.int (iI ((i + 1 : Nat) : Int))), some (.int (iI ((tPl pd (iv 2) (i + 1) : Nat) : Int))), some (.int (iI (rWhyC (rPlS h F pd (iv 2) i).1 pd (iv 2) (tPl pd (iv 2) i))))]) hC dX2_play_88 (by decide) rfl ?_
        refine zx_goto (tgt := 26) hC dX2_play_89 (by decide) ?_
        refine zx_le (L' := [some (.ref (ad 0)), some (.int (iI ((i + 1 : Nat) : Int))), some (.int (iI ((tPl pd (iv 2) (i + 1) : Nat) : Int))), none]) (zle_s (zle_s (zle_s (zle_n zle_0)))) ?_
        exact ih (i + 1) (by omega) (by simp only [tPl]; omega)
    exact loop nn 0 (by omega) (Nat.zero_le _)
  · exfalso; omega
