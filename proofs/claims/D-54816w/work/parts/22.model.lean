/-! the reference, walked: part 22 (printed by gen/gen.py) -/
set_option maxRecDepth 100000
set_option maxHeartbeats 4000000 in
theorem m_X2_isLayer (la : Launch) (G : zG) (ad : Nat → Nat) (h : Nat → Nat) (F : Nat → Nat → Nat → Nat) (r : zR5) (z : Int) (g0 : iR z) (g1 : h 7 ≤ 6) : zRd la yX2_isLayer cX2_isLayer 2 (some .boolean) 1 22 G [.ref (ad 0), .int (iI z)] (zRf G ad ((h, F), r)) (fun v9 => v9 = some (.int (iI (zB (0 ≤ z ∧ z ≤ ((h 7 : Nat) : Int) - 1))))) := by
  refine zRd.of [some (.ref (ad 0)), some (.int (iI z))] (by decide) (Nat.le_of_ble_eq_true rfl) rfl (fun X hl hC hRm hP hE => ?_)
  refine zx_iload_n hC dX2_isLayer_0 rfl ?_
  refine zx_iconst (z := 0) hC dX2_isLayer_1 ?_
  refine zx_aload_n hC dX2_isLayer_2 rfl ?_
  refine zx_bipush (z := 7) hC dX2_isLayer_3 rfl ?_
  refine zx_rd1 (r := .int (iI ((h 7 : Nat) : Int))) hC zNoA (zcV 1 (As := [.int (iI 7)]) hC (lw_V q1651 q1653 qs35 q93 q1654) (by decide +kernel) rfl (by rw [hRm]; decide) (by rw [hRm]; decide) rfl (Nat.le_of_ble_eq_true rfl) dX2_isLayer_5) (m_X2_of (zl X) G ad h F r 7 (by first | assumption | omega | exact iRm (by omega) (by omega) | (repeat (first | exact gL | refine rLs.up ?_ (by omega) (by omega) | refine rLs.fad ?_)) | (repeat (first | exact gM | refine rHM.up ?_ (by omega))) | exact gT _ (by omega) | exact rFadF_le gF _ | ((repeat first | rw [va_up_ne _ _ (by omega)] | rw [va_up_self] | rw [rFadH_o (by omega)] | rw [rAge_o _ _ (by omega)] | rw [rLayH_o (by omega) (by omega) (by omega) (by omega)]); omega))) (zr_rc hC hP.eq) hP.eq ?_
  refine zx_iconst (z := 1) hC dX2_isLayer_8 ?_
  refine zx_isub hC dX2_isLayer_9 ?_
  refine zx_rd1 (r := .int (iI (zB (0 ≤ z ∧ z ≤ (((h 7 : Nat) : Int) - 1))))) hC zNoA (zcS 3 (As := [.int (iI z), .int (iI 0), .int (iI (((h 7 : Nat) : Int) - 1))]) hC (lw_S q1743 q1744 q93 q1745) (by decide +kernel) rfl (by rw [hRm]; decide) (by rw [hRm]; decide) rfl (Nat.le_of_ble_eq_true rfl) dX2_isLayer_10) (m_X2_in (zl X) G z 0 (((h 7 : Nat) : Int) - 1) (by first | assumption | omega | exact iRm (by omega) (by omega) | (repeat (first | exact gL | refine rLs.up ?_ (by omega) (by omega) | refine rLs.fad ?_)) | (repeat (first | exact gM | refine rHM.up ?_ (by omega))) | exact gT _ (by omega) | exact rFadF_le gF _ | ((repeat first | rw [va_up_ne _ _ (by omega)] | rw [va_up_self] | rw [rFadH_o (by omega)] | rw [rAge_o _ _ (by omega)] | rw [rLayH_o (by omega) (by omega) (by omega) (by omega)]); omega)) (by first | assumption | omega | exact iRm (by omega) (by omega) | (repeat (first | exact gL | refine rLs.up ?_ (by omega) (by omega) | refine rLs.fad ?_)) | (repeat (first | exact gM | refine rHM.up ?_ (by omega))) | exact gT _ (by omega) | exact rFadF_le gF _ | ((repeat first | rw [va_up_ne _ _ (by omega)] | rw [va_up_self] | rw [rFadH_o (by omega)] | rw [rAge_o _ _ (by omega)] | rw [rLayH_o (by omega) (by omega) (by omega) (by omega)]); omega)) (by first | assumption | omega | exact iRm (by omega) (by omega) | (repeat (first | exact gL | refine rLs.up ?_ (by omega) (by omega) | refine rLs.fad ?_)) | (repeat (first | exact gM | refine rHM.up ?_ (by omega))) | exact gT _ (by omega) | exact rFadF_le gF _ | ((repeat first | rw [va_up_ne _ _ (by omega)] | rw [va_up_self] | rw [rFadH_o (by omega)] | rw [rAge_o _ _ (by omega)] | rw [rLayH_o (by omega) (by omega) (by omega) (by omega)]); omega))) (fun _ _ => trivial) (fun _ _ => trivial) ?_
  refine zx_topi (b := zB (0 ≤ z ∧ z ≤ ((h 7 : Nat) : Int) - 1)) (by rfl) ?_
  exact zx_nret hC hE (znar (by exact zB_01 _)) (Nat.le_refl _) (Nat.le_refl _) (fun H h => ⟨h, rfl⟩) dX2_isLayer_13
set_option maxHeartbeats 4000000 in
theorem m_X2_loop (la : Launch) (G : zG) (ad : Nat → Nat) (h : Nat → Nat) (F : Nat → Nat → Nat → Nat) (r : zR5)  (gL : rLs h) : zRd la yX2_loop cX2_loop 1 (some .int) 2 44 G [.ref (ad 0)] (zRf G ad ((h, F), r)) (fun v9 => v9 = some (.int (iI ((rLoop h : Nat) : Int)))) := by
  refine zRd.of [some (.ref (ad 0))] (by decide) (Nat.le_of_ble_eq_true rfl) rfl (fun X hl hC hRm hP hE => ?_)
  have g7 := gL.1
  refine zx_aload_n hC dX2_loop_0 rfl ?_
  refine zx_aload_n hC dX2_loop_1 rfl ?_
  refine zx_bipush (z := 7) hC dX2_loop_2 rfl ?_
  refine zx_rd1 (r := .int (iI ((h 7 : Nat) : Int))) hC zNoA (zcV 1 (As := [.int (iI 7)]) hC (lw_V q1651 q1653 qs35 q93 q1654) (by decide +kernel) rfl (by rw [hRm]; decide) (by rw [hRm]; decide) rfl (Nat.le_of_ble_eq_true rfl) dX2_loop_4) (m_X2_of (zl X) G ad h F r 7 (by first | assumption | omega | exact iRm (by omega) (by omega) | (repeat (first | exact gL | refine rLs.up ?_ (by omega) (by omega) | refine rLs.fad ?_)) | (repeat (first | exact gM | refine rHM.up ?_ (by omega))) | exact gT _ (by omega) | exact rFadF_le gF _ | ((repeat first | rw [va_up_ne _ _ (by omega)] | rw [va_up_self] | rw [rFadH_o (by omega)] | rw [rAge_o _ _ (by omega)] | rw [rLayH_o (by omega) (by omega) (by omega) (by omega)]); omega))) (zr_rc hC hP.eq) hP.eq ?_
  refine zx_rd1 (r := .int (iI ((rLen h (h 7) : Nat) : Int))) hC zNoA (zcV 1 (As := [.int (iI ((h 7 : Nat) : Int))]) hC (lw_V q1709 q1711 qs48 q93 q1712) (by decide +kernel) rfl (by rw [hRm]; decide) (by rw [hRm]; decide) rfl (Nat.le_of_ble_eq_true rfl) dX2_loop_7) (m_X2_lengthOf (zl X) G ad h F r (h 7) (by first | assumption | omega | exact iRm (by omega) (by omega) | (repeat (first | exact gL | refine rLs.up ?_ (by omega) (by omega) | refine rLs.fad ?_)) | (repeat (first | exact gM | refine rHM.up ?_ (by omega))) | exact gT _ (by omega) | exact rFadF_le gF _ | ((repeat first | rw [va_up_ne _ _ (by omega)] | rw [va_up_self] | rw [rFadH_o (by omega)] | rw [rAge_o _ _ (by omega)] | rw [rLayH_o (by omega) (by omega) (by omega) (by omega)]); omega)) (by first | assumption | omega | exact iRm (by omega) (by omega) | (repeat (first | exact gL | refine rLs.up ?_ (by omega) (by omega) | refine rLs.fad ?_)) | (repeat (first | exact gM | refine rHM.up ?_ (by omega))) | exact gT _ (by omega) | exact rFadF_le gF _ | ((repeat first | rw [va_up_ne _ _ (by omega)] | rw [va_up_self] | rw [rFadH_o (by omega)] | rw [rAge_o _ _ (by omega)] | rw [rLayH_o (by omega) (by omega) (by omega) (by omega)]); omega))) (zr_rc hC hP.eq) hP.eq ?_
  refine zx_topi (b := ((rLoop h : Nat) : Int)) (by rfl) ?_
  exact zx_iret hC hE (Nat.le_refl _) (Nat.le_refl _) (fun H h => ⟨h, rfl⟩) dX2_loop_10
set_option maxHeartbeats 4000000 in
theorem m_X2_runsTake (la : Launch) (G : zG) (ad : Nat → Nat) (h : Nat → Nat) (F : Nat → Nat → Nat → Nat) (r : zR5)  (g0 : h 0 ≤ 4) : zRd la yX2_runsTake cX2_runsTake 1 (some .boolean) 1 21 G [.ref (ad 0)] (zRf G ad ((h, F), r)) (fun v9 => v9 = some (.int (iI (zB (h 0 = 1 ∨ h 0 = 3))))) := by
  refine zRd.of [some (.ref (ad 0))] (by decide) (Nat.le_of_ble_eq_true rfl) rfl (fun X hl hC hRm hP hE => ?_)
  refine zx_aload_n hC dX2_runsTake_0 rfl ?_
  refine zx_iconst (z := 0) hC dX2_runsTake_1 ?_
  refine zx_rd1 (r := .int (iI ((h 0 : Nat) : Int))) hC zNoA (zcV 1 (As := [.int (iI 0)]) hC (lw_V q1651 q1653 qs35 q93 q1654) (by decide +kernel) rfl (by rw [hRm]; decide) (by rw [hRm]; decide) rfl (Nat.le_of_ble_eq_true rfl) dX2_runsTake_2) (m_X2_of (zl X) G ad h F r 0 (by first | assumption | omega | exact iRm (by omega) (by omega) | (repeat (first | exact gL | refine rLs.up ?_ (by omega) (by omega) | refine rLs.fad ?_)) | (repeat (first | exact gM | refine rHM.up ?_ (by omega))) | exact gT _ (by omega) | exact rFadF_le gF _ | ((repeat first | rw [va_up_ne _ _ (by omega)] | rw [va_up_self] | rw [rFadH_o (by omega)] | rw [rAge_o _ _ (by omega)] | rw [rLayH_o (by omega) (by omega) (by omega) (by omega)]); omega))) (zr_rc hC hP.eq) hP.eq ?_
  refine zx_iconst (z := 1) hC dX2_runsTake_5 ?_
  refine zx_icmp_eq (tgt := 18) hC dX2_runsTake_6 (by decide) (by first | assumption | exact gI _ (by omega) | exact iRm (by omega) (by omega)) (by first | assumption | exact gI _ (by omega) | exact iRm (by omega) (by omega)) (fun c6 => ?_) (fun c6 => ?_)
  · refine zx_iconst (z := 1) hC dX2_runsTake_18 ?_
    refine zx_goto (tgt := 23) hC dX2_runsTake_19 (by decide) ?_
    refine zx_topi (b := zB (h 0 = 1 ∨ h 0 = 3)) (by first | exact (zB_t (by omega)).symm | exact (zB_f (by omega)).symm) ?_
    exact zx_nret hC hE (znar (by exact zB_01 _)) (Nat.le_refl _) (Nat.le_refl _) (fun H h => ⟨h, rfl⟩) dX2_runsTake_23
  · refine zx_aload_n hC dX2_runsTake_9 rfl ?_
    refine zx_iconst (z := 0) hC dX2_runsTake_10 ?_
    refine zx_rd1 (r := .int (iI ((h 0 : Nat) : Int))) hC zNoA (zcV 1 (As := [.int (iI 0)]) hC (lw_V q1651 q1653 qs35 q93 q1654) (by decide +kernel) rfl (by rw [hRm]; decide) (by rw [hRm]; decide) rfl (Nat.le_of_ble_eq_true rfl) dX2_runsTake_11) (m_X2_of (zl X) G ad h F r 0 (by first | assumption | omega | exact iRm (by omega) (by omega) | (repeat (first | exact gL | refine rLs.up ?_ (by omega) (by omega) | refine rLs.fad ?_)) | (repeat (first | exact gM | refine rHM.up ?_ (by omega))) | exact gT _ (by omega) | exact rFadF_le gF _ | ((repeat first | rw [va_up_ne _ _ (by omega)] | rw [va_up_self] | rw [rFadH_o (by omega)] | rw [rAge_o _ _ (by omega)] | rw [rLayH_o (by omega) (by omega) (by omega) (by omega)]); omega))) (zr_rc hC hP.eq) hP.eq ?_
    refine zx_iconst (z := 3) hC dX2_runsTake_14 ?_
    refine zx_icmp_ne (tgt := 22) hC dX2_runsTake_15 (by decide) (by first | assumption | exact gI _ (by omega) | exact iRm (by omega) (by omega)) (by first | assumption | exact gI _ (by omega) | exact iRm (by omega) (by omega)) (fun c15 => ?_) (fun c15 => ?_)
    · refine zx_iconst (z := 0) hC dX2_runsTake_22 ?_
      refine zx_topi (b := zB (h 0 = 1 ∨ h 0 = 3)) (by first | exact (zB_t (by omega)).symm | exact (zB_f (by omega)).symm) ?_
      exact zx_nret hC hE (znar (by exact zB_01 _)) (Nat.le_refl _) (Nat.le_refl _) (fun H h => ⟨h, rfl⟩) dX2_runsTake_23
    · refine zx_iconst (z := 1) hC dX2_runsTake_18 ?_
      refine zx_goto (tgt := 23) hC dX2_runsTake_19 (by decide) ?_
      refine zx_topi (b := zB (h 0 = 1 ∨ h 0 = 3)) (by first | exact (zB_t (by omega)).symm | exact (zB_f (by omega)).symm) ?_
      exact zx_nret hC hE (znar (by exact zB_01 _)) (Nat.le_refl _) (Nat.le_refl _) (fun H h => ⟨h, rfl⟩) dX2_runsTake_23
set_option maxHeartbeats 4000000 in
theorem m_X2_whyNotPress (la : Launch) (G : zG) (ad : Nat → Nat) (h : Nat → Nat) (F : Nat → Nat → Nat → Nat) (r : zR5)  (g0 : h 0 ≤ 4) (g1 : h 7 ≤ 6) (g2 : h 11 < 1000) : zRd la yX2_whyNotPress cX2_whyNotPress 2 (some .int) 2 41 G [.ref (ad 0)] (zRf G ad ((h, F), r)) (fun v9 => v9 = some (.int (iI (rWhyPress h)))) := by
  refine zRd.of [some (.ref (ad 0)), none] (by decide) (Nat.le_of_ble_eq_true rfl) rfl (fun X hl hC hRm hP hE => ?_)
  refine zx_aload_n hC dX2_whyNotPress_0 rfl ?_
  refine zx_rd1 (r := .int (iI (zB (h 0 = 1 ∨ h 0 = 3)))) hC zNoA (zcV 0 (As := []) hC (lw_V q1647 q1649 qs34 q93 q1650) (by decide +kernel) rfl (by rw [hRm]; decide) (by rw [hRm]; decide) rfl (Nat.le_of_ble_eq_true rfl) dX2_whyNotPress_1) (m_X2_runsTake (zl X) G ad h F r  (by first | assumption | omega | exact iRm (by omega) (by omega) | (repeat (first | exact gL | refine rLs.up ?_ (by omega) (by omega) | refine rLs.fad ?_)) | (repeat (first | exact gM | refine rHM.up ?_ (by omega))) | exact gT _ (by omega) | exact rFadF_le gF _ | ((repeat first | rw [va_up_ne _ _ (by omega)] | rw [va_up_self] | rw [rFadH_o (by omega)] | rw [rAge_o _ _ (by omega)] | rw [rLayH_o (by omega) (by omega) (by omega) (by omega)]); omega))) (zr_rc hC hP.eq) hP.eq ?_
  refine zx_if_eqB (tgt := 20) hC dX2_whyNotPress_4 (by decide)  (fun c4 => ?_) (fun c4 => ?_)
  · refine zx_iconst (z := 0) hC dX2_whyNotPress_20 ?_
    refine zx_istore_n (L' := [some (.ref (ad 0)), some (.int (iI 0))]) hC dX2_whyNotPress_21 (by decide) rfl ?_
    refine zx_iload_n hC dX2_whyNotPress_22 rfl ?_
    refine zx_if_eqT (tgt := 31) hC dX2_whyNotPress_23 (by decide) (by first | assumption | exact gI _ (by omega) | exact iRm (by omega) (by omega)) (by omega) ?_
    refine zx_aload_n hC dX2_whyNotPress_31 rfl ?_
    refine zx_iconst (z := 0) hC dX2_whyNotPress_32 ?_
    refine zx_rd1 (r := .int (iI ((h 0 : Nat) : Int))) hC zNoA (zcV 1 (As := [.int (iI 0)]) hC (lw_V q1651 q1653 qs35 q93 q1654) (by decide +kernel) rfl (by rw [hRm]; decide) (by rw [hRm]; decide) rfl (Nat.le_of_ble_eq_true rfl) dX2_whyNotPress_33) (m_X2_of (zl X) G ad h F r 0 (by first | assumption | omega | exact iRm (by omega) (by omega) | (repeat (first | exact gL | refine rLs.up ?_ (by omega) (by omega) | refine rLs.fad ?_)) | (repeat (first | exact gM | refine rHM.up ?_ (by omega))) | exact gT _ (by omega) | exact rFadF_le gF _ | ((repeat first | rw [va_up_ne _ _ (by omega)] | rw [va_up_self] | rw [rFadH_o (by omega)] | rw [rAge_o _ _ (by omega)] | rw [rLayH_o (by omega) (by omega) (by omega) (by omega)]); omega))) (zr_rc hC hP.eq) hP.eq ?_
    refine zx_iconst (z := 2) hC dX2_whyNotPress_36 ?_
    refine zx_icmp_ne (tgt := 56) hC dX2_whyNotPress_37 (by decide) (by first | assumption | exact gI _ (by omega) | exact iRm (by omega) (by omega)) (by first | assumption | exact gI _ (by omega) | exact iRm (by omega) (by omega)) (fun c37 => ?_) (fun c37 => ?_)
    · refine zx_iconst (z := 0) hC dX2_whyNotPress_56 ?_
      refine zx_topi (b := rWhyPress h) (by unfold rWhyPress; (repeat' split) <;> omega) ?_
      exact zx_iret hC hE (Nat.le_refl _) (Nat.le_refl _) (fun H h => ⟨h, rfl⟩) dX2_whyNotPress_57
    · refine zx_aload_n hC dX2_whyNotPress_40 rfl ?_
      refine zx_bipush (z := 7) hC dX2_whyNotPress_41 rfl ?_
      refine zx_rd1 (r := .int (iI ((h 7 : Nat) : Int))) hC zNoA (zcV 1 (As := [.int (iI 7)]) hC (lw_V q1651 q1653 qs35 q93 q1654) (by decide +kernel) rfl (by rw [hRm]; decide) (by rw [hRm]; decide) rfl (Nat.le_of_ble_eq_true rfl) dX2_whyNotPress_43) (m_X2_of (zl X) G ad h F r 7 (by first | assumption | omega | exact iRm (by omega) (by omega) | (repeat (first | exact gL | refine rLs.up ?_ (by omega) (by omega) | refine rLs.fad ?_)) | (repeat (first | exact gM | refine rHM.up ?_ (by omega))) | exact gT _ (by omega) | exact rFadF_le gF _ | ((repeat first | rw [va_up_ne _ _ (by omega)] | rw [va_up_self] | rw [rFadH_o (by omega)] | rw [rAge_o _ _ (by omega)] | rw [rLayH_o (by omega) (by omega) (by omega) (by omega)]); omega))) (zr_rc hC hP.eq) hP.eq ?_
      refine zx_bipush (z := 6) hC dX2_whyNotPress_46 rfl ?_
      refine zx_icmp_ne (tgt := 56) hC dX2_whyNotPress_48 (by decide) (by first | assumption | exact gI _ (by omega) | exact iRm (by omega) (by omega)) (by first | assumption | exact gI _ (by omega) | exact iRm (by omega) (by omega)) (fun c48 => ?_) (fun c48 => ?_)
      · refine zx_iconst (z := 0) hC dX2_whyNotPress_56 ?_
        refine zx_topi (b := rWhyPress h) (by unfold rWhyPress; (repeat' split) <;> omega) ?_
        exact zx_iret hC hE (Nat.le_refl _) (Nat.le_refl _) (fun H h => ⟨h, rfl⟩) dX2_whyNotPress_57
      · refine zx_bipush (z := (-3)) hC dX2_whyNotPress_51 rfl ?_
        refine zx_goto (tgt := 57) hC dX2_whyNotPress_53 (by decide) ?_
        refine zx_topi (b := rWhyPress h) (by unfold rWhyPress; (repeat' split) <;> omega) ?_
        exact zx_iret hC hE (Nat.le_refl _) (Nat.le_refl _) (fun H h => ⟨h, rfl⟩) dX2_whyNotPress_57
  · refine zx_aload_n hC dX2_whyNotPress_7 rfl ?_
    refine zx_bipush (z := 11) hC dX2_whyNotPress_8 rfl ?_
    refine zx_rd1 (r := .int (iI ((h 11 : Nat) : Int))) hC zNoA (zcV 1 (As := [.int (iI 11)]) hC (lw_V q1651 q1653 qs35 q93 q1654) (by decide +kernel) rfl (by rw [hRm]; decide) (by rw [hRm]; decide) rfl (Nat.le_of_ble_eq_true rfl) dX2_whyNotPress_10) (m_X2_of (zl X) G ad h F r 11 (by first | assumption | omega | exact iRm (by omega) (by omega) | (repeat (first | exact gL | refine rLs.up ?_ (by omega) (by omega) | refine rLs.fad ?_)) | (repeat (first | exact gM | refine rHM.up ?_ (by omega))) | exact gT _ (by omega) | exact rFadF_le gF _ | ((repeat first | rw [va_up_ne _ _ (by omega)] | rw [va_up_self] | rw [rFadH_o (by omega)] | rw [rAge_o _ _ (by omega)] | rw [rLayH_o (by omega) (by omega) (by omega) (by omega)]); omega))) (zr_rc hC hP.eq) hP.eq ?_
    refine zx_if_ne (tgt := 20) hC dX2_whyNotPress_13 (by decide) (by first | assumption | exact gI _ (by omega) | exact iRm (by omega) (by omega)) (fun c13 => ?_) (fun c13 => ?_)
    · refine zx_iconst (z := 0) hC dX2_whyNotPress_20 ?_
      refine zx_istore_n (L' := [some (.ref (ad 0)), some (.int (iI 0))]) hC dX2_whyNotPress_21 (by decide) rfl ?_
      refine zx_iload_n hC dX2_whyNotPress_22 rfl ?_
      refine zx_if_eqT (tgt := 31) hC dX2_whyNotPress_23 (by decide) (by first | assumption | exact gI _ (by omega) | exact iRm (by omega) (by omega)) (by omega) ?_
      refine zx_aload_n hC dX2_whyNotPress_31 rfl ?_
      refine zx_iconst (z := 0) hC dX2_whyNotPress_32 ?_
      refine zx_rd1 (r := .int (iI ((h 0 : Nat) : Int))) hC zNoA (zcV 1 (As := [.int (iI 0)]) hC (lw_V q1651 q1653 qs35 q93 q1654) (by decide +kernel) rfl (by rw [hRm]; decide) (by rw [hRm]; decide) rfl (Nat.le_of_ble_eq_true rfl) dX2_whyNotPress_33) (m_X2_of (zl X) G ad h F r 0 (by first | assumption | omega | exact iRm (by omega) (by omega) | (repeat (first | exact gL | refine rLs.up ?_ (by omega) (by omega) | refine rLs.fad ?_)) | (repeat (first | exact gM | refine rHM.up ?_ (by omega))) | exact gT _ (by omega) | exact rFadF_le gF _ | ((repeat first | rw [va_up_ne _ _ (by omega)] | rw [va_up_self] | rw [rFadH_o (by omega)] | rw [rAge_o _ _ (by omega)] | rw [rLayH_o (by omega) (by omega) (by omega) (by omega)]); omega))) (zr_rc hC hP.eq) hP.eq ?_
      refine zx_iconst (z := 2) hC dX2_whyNotPress_36 ?_
      refine zx_icmp_ne (tgt := 56) hC dX2_whyNotPress_37 (by decide) (by first | assumption | exact gI _ (by omega) | exact iRm (by omega) (by omega)) (by first | assumption | exact gI _ (by omega) | exact iRm (by omega) (by omega)) (fun c37 => ?_) (fun c37 => ?_)
      · refine zx_iconst (z := 0) hC dX2_whyNotPress_56 ?_
        refine zx_topi (b := rWhyPress h) (by unfold rWhyPress; (repeat' split) <;> omega) ?_
        exact zx_iret hC hE (Nat.le_refl _) (Nat.le_refl _) (fun H h => ⟨h, rfl⟩) dX2_whyNotPress_57
      · refine zx_aload_n hC dX2_whyNotPress_40 rfl ?_
        refine zx_bipush (z := 7) hC dX2_whyNotPress_41 rfl ?_
        refine zx_rd1 (r := .int (iI ((h 7 : Nat) : Int))) hC zNoA (zcV 1 (As := [.int (iI 7)]) hC (lw_V q1651 q1653 qs35 q93 q1654) (by decide +kernel) rfl (by rw [hRm]; decide) (by rw [hRm]; decide) rfl (Nat.le_of_ble_eq_true rfl) dX2_whyNotPress_43) (m_X2_of (zl X) G ad h F r 7 (by first | assumption | omega | exact iRm (by omega) (by omega) | (repeat (first | exact gL | refine rLs.up ?_ (by omega) (by omega) | refine rLs.fad ?_)) | (repeat (first | exact gM | refine rHM.up ?_ (by omega))) | exact gT _ (by omega) | exact rFadF_le gF _ | ((repeat first | rw [va_up_ne _ _ (by omega)] | rw [va_up_self] | rw [rFadH_o (by omega)] | rw [rAge_o _ _ (by omega)] | rw [rLayH_o (by omega) (by omega) (by omega) (by omega)]); omega))) (zr_rc hC hP.eq) hP.eq ?_
        refine zx_bipush (z := 6) hC dX2_whyNotPress_46 rfl ?_
        refine zx_icmp_ne (tgt := 56) hC dX2_whyNotPress_48 (by decide) (by first | assumption | exact gI _ (by omega) | exact iRm (by omega) (by omega)) (by first | assumption | exact gI _ (by omega) | exact iRm (by omega) (by omega)) (fun c48 => ?_) (fun c48 => ?_)
        · refine zx_iconst (z := 0) hC dX2_whyNotPress_56 ?_
          refine zx_topi (b := rWhyPress h) (by unfold rWhyPress; (repeat' split) <;> omega) ?_
          exact zx_iret hC hE (Nat.le_refl _) (Nat.le_refl _) (fun H h => ⟨h, rfl⟩) dX2_whyNotPress_57
        · refine zx_bipush (z := (-3)) hC dX2_whyNotPress_51 rfl ?_
          refine zx_goto (tgt := 57) hC dX2_whyNotPress_53 (by decide) ?_
          refine zx_topi (b := rWhyPress h) (by unfold rWhyPress; (repeat' split) <;> omega) ?_
          exact zx_iret hC hE (Nat.le_refl _) (Nat.le_refl _) (fun H h => ⟨h, rfl⟩) dX2_whyNotPress_57
    · refine zx_iconst (z := 1) hC dX2_whyNotPress_16 ?_
      refine zx_goto (tgt := 21) hC dX2_whyNotPress_17 (by decide) ?_
      refine zx_istore_n (L' := [some (.ref (ad 0)), some (.int (iI 1))]) hC dX2_whyNotPress_21 (by decide) rfl ?_
      refine zx_iload_n hC dX2_whyNotPress_22 rfl ?_
      refine zx_if_eqF (tgt := 31) hC dX2_whyNotPress_23 (by decide) (by first | assumption | exact gI _ (by omega) | exact iRm (by omega) (by omega)) (by omega) ?_
      refine zx_bipush (z := (-2)) hC dX2_whyNotPress_26 rfl ?_
      refine zx_goto (tgt := 57) hC dX2_whyNotPress_28 (by decide) ?_
      refine zx_topi (b := rWhyPress h) (by unfold rWhyPress; (repeat' split) <;> omega) ?_
      exact zx_iret hC hE (Nat.le_refl _) (Nat.le_refl _) (fun H h => ⟨h, rfl⟩) dX2_whyNotPress_57
set_option maxHeartbeats 4000000 in
theorem m_X2_whyNotStop (la : Launch) (G : zG) (ad : Nat → Nat) (h : Nat → Nat) (F : Nat → Nat → Nat → Nat) (r : zR5)  (g0 : h 0 ≤ 4) : zRd la yX2_whyNotStop cX2_whyNotStop 1 (some .int) 1 21 G [.ref (ad 0)] (zRf G ad ((h, F), r)) (fun v9 => v9 = some (.int (iI (rWhyStop h)))) := by
  refine zRd.of [some (.ref (ad 0))] (by decide) (Nat.le_of_ble_eq_true rfl) rfl (fun X hl hC hRm hP hE => ?_)
  refine zx_aload_n hC dX2_whyNotStop_0 rfl ?_
  refine zx_iconst (z := 0) hC dX2_whyNotStop_1 ?_
  refine zx_rd1 (r := .int (iI ((h 0 : Nat) : Int))) hC zNoA (zcV 1 (As := [.int (iI 0)]) hC (lw_V q1651 q1653 qs35 q93 q1654) (by decide +kernel) rfl (by rw [hRm]; decide) (by rw [hRm]; decide) rfl (Nat.le_of_ble_eq_true rfl) dX2_whyNotStop_2) (m_X2_of (zl X) G ad h F r 0 (by first | assumption | omega | exact iRm (by omega) (by omega) | (repeat (first | exact gL | refine rLs.up ?_ (by omega) (by omega) | refine rLs.fad ?_)) | (repeat (first | exact gM | refine rHM.up ?_ (by omega))) | exact gT _ (by omega) | exact rFadF_le gF _ | ((repeat first | rw [va_up_ne _ _ (by omega)] | rw [va_up_self] | rw [rFadH_o (by omega)] | rw [rAge_o _ _ (by omega)] | rw [rLayH_o (by omega) (by omega) (by omega) (by omega)]); omega))) (zr_rc hC hP.eq) hP.eq ?_
  refine zx_if_eq (tgt := 17) hC dX2_whyNotStop_5 (by decide) (by first | assumption | exact gI _ (by omega) | exact iRm (by omega) (by omega)) (fun c5 => ?_) (fun c5 => ?_)
  · refine zx_bipush (z := (-2)) hC dX2_whyNotStop_17 rfl ?_
    refine zx_goto (tgt := 23) hC dX2_whyNotStop_19 (by decide) ?_
    refine zx_topi (b := rWhyStop h) (by unfold rWhyStop; (repeat' split) <;> omega) ?_
    exact zx_iret hC hE (Nat.le_refl _) (Nat.le_refl _) (fun H h => ⟨h, rfl⟩) dX2_whyNotStop_23
  · refine zx_aload_n hC dX2_whyNotStop_8 rfl ?_
    refine zx_iconst (z := 0) hC dX2_whyNotStop_9 ?_
    refine zx_rd1 (r := .int (iI ((h 0 : Nat) : Int))) hC zNoA (zcV 1 (As := [.int (iI 0)]) hC (lw_V q1651 q1653 qs35 q93 q1654) (by decide +kernel) rfl (by rw [hRm]; decide) (by rw [hRm]; decide) rfl (Nat.le_of_ble_eq_true rfl) dX2_whyNotStop_10) (m_X2_of (zl X) G ad h F r 0 (by first | assumption | omega | exact iRm (by omega) (by omega) | (repeat (first | exact gL | refine rLs.up ?_ (by omega) (by omega) | refine rLs.fad ?_)) | (repeat (first | exact gM | refine rHM.up ?_ (by omega))) | exact gT _ (by omega) | exact rFadF_le gF _ | ((repeat first | rw [va_up_ne _ _ (by omega)] | rw [va_up_self] | rw [rFadH_o (by omega)] | rw [rAge_o _ _ (by omega)] | rw [rLayH_o (by omega) (by omega) (by omega) (by omega)]); omega))) (zr_rc hC hP.eq) hP.eq ?_
    refine zx_iconst (z := 4) hC dX2_whyNotStop_13 ?_
    refine zx_icmp_ne (tgt := 22) hC dX2_whyNotStop_14 (by decide) (by first | assumption | exact gI _ (by omega) | exact iRm (by omega) (by omega)) (by first | assumption | exact gI _ (by omega) | exact iRm (by omega) (by omega)) (fun c14 => ?_) (fun c14 => ?_)
    · refine zx_iconst (z := 0) hC dX2_whyNotStop_22 ?_
      refine zx_topi (b := rWhyStop h) (by unfold rWhyStop; (repeat' split) <;> omega) ?_
      exact zx_iret hC hE (Nat.le_refl _) (Nat.le_refl _) (fun H h => ⟨h, rfl⟩) dX2_whyNotStop_23
    · refine zx_bipush (z := (-2)) hC dX2_whyNotStop_17 rfl ?_
      refine zx_goto (tgt := 23) hC dX2_whyNotStop_19 (by decide) ?_
      refine zx_topi (b := rWhyStop h) (by unfold rWhyStop; (repeat' split) <;> omega) ?_
      exact zx_iret hC hE (Nat.le_refl _) (Nat.le_refl _) (fun H h => ⟨h, rfl⟩) dX2_whyNotStop_23
set_option maxHeartbeats 4000000 in
theorem m_X2_whyNotHit (la : Launch) (G : zG) (ad : Nat → Nat) (h : Nat → Nat) (F : Nat → Nat → Nat → Nat) (r : zR5) (key : Int) (force : Int) (g0 : iR key) (g1 : iR force) (g2 : h 0 ≤ 4) : zRd la yX2_whyNotHit cX2_whyNotHit 4 (some .int) 2 41 G [.ref (ad 0), .int (iI key), .int (iI force)] (zRf G ad ((h, F), r)) (fun v9 => v9 = some (.int (iI (rWhyHit h key force)))) := by
  refine zRd.of [some (.ref (ad 0)), some (.int (iI key)), some (.int (iI force)), none] (by decide) (Nat.le_of_ble_eq_true rfl) rfl (fun X hl hC hRm hP hE => ?_)
  refine zx_iload_n hC dX2_whyNotHit_0 rfl ?_
  refine zx_iconst (z := 0) hC dX2_whyNotHit_1 ?_
  refine zx_bipush (z := 23) hC dX2_whyNotHit_2 rfl ?_
  refine zx_rd1 (r := .int (iI (zB (0 ≤ key ∧ key ≤ 23)))) hC zNoA (zcS 3 (As := [.int (iI key), .int (iI 0), .int (iI 23)]) hC (lw_S q1743 q1744 q93 q1745) (by decide +kernel) rfl (by rw [hRm]; decide) (by rw [hRm]; decide) rfl (Nat.le_of_ble_eq_true rfl) dX2_whyNotHit_4) (m_X2_in (zl X) G key 0 23 (by first | assumption | omega | exact iRm (by omega) (by omega) | (repeat (first | exact gL | refine rLs.up ?_ (by omega) (by omega) | refine rLs.fad ?_)) | (repeat (first | exact gM | refine rHM.up ?_ (by omega))) | exact gT _ (by omega) | exact rFadF_le gF _ | ((repeat first | rw [va_up_ne _ _ (by omega)] | rw [va_up_self] | rw [rFadH_o (by omega)] | rw [rAge_o _ _ (by omega)] | rw [rLayH_o (by omega) (by omega) (by omega) (by omega)]); omega)) (by first | assumption | omega | exact iRm (by omega) (by omega) | (repeat (first | exact gL | refine rLs.up ?_ (by omega) (by omega) | refine rLs.fad ?_)) | (repeat (first | exact gM | refine rHM.up ?_ (by omega))) | exact gT _ (by omega) | exact rFadF_le gF _ | ((repeat first | rw [va_up_ne _ _ (by omega)] | rw [va_up_self] | rw [rFadH_o (by omega)] | rw [rAge_o _ _ (by omega)] | rw [rLayH_o (by omega) (by omega) (by omega) (by omega)]); omega)) (by first | assumption | omega | exact iRm (by omega) (by omega) | (repeat (first | exact gL | refine rLs.up ?_ (by omega) (by omega) | refine rLs.fad ?_)) | (repeat (first | exact gM | refine rHM.up ?_ (by omega))) | exact gT _ (by omega) | exact rFadF_le gF _ | ((repeat first | rw [va_up_ne _ _ (by omega)] | rw [va_up_self] | rw [rFadH_o (by omega)] | rw [rAge_o _ _ (by omega)] | rw [rLayH_o (by omega) (by omega) (by omega) (by omega)]); omega))) (fun _ _ => trivial) (fun _ _ => trivial) ?_
  refine zx_if_eqB (tgt := 24) hC dX2_whyNotHit_7 (by decide)  (fun c7 => ?_) (fun c7 => ?_)
  · refine zx_iconst (z := 0) hC dX2_whyNotHit_24 ?_
    refine zx_istore_n (L' := [some (.ref (ad 0)), some (.int (iI key)), some (.int (iI force)), some (.int (iI 0))]) hC dX2_whyNotHit_25 (by decide) rfl ?_
    refine zx_iload_n hC dX2_whyNotHit_26 rfl ?_
    refine zx_if_neF (tgt := 34) hC dX2_whyNotHit_27 (by decide) (by first | assumption | exact gI _ (by omega) | exact iRm (by omega) (by omega)) (by omega) ?_
    refine zx_iconst (z := (-1)) hC dX2_whyNotHit_30 ?_
    refine zx_goto (tgt := 47) hC dX2_whyNotHit_31 (by decide) ?_
    refine zx_topi (b := rWhyHit h key force) (by unfold rWhyHit; (repeat' split) <;> omega) ?_
    exact zx_iret hC hE (Nat.le_refl _) (Nat.le_refl _) (fun H h => ⟨h, rfl⟩) dX2_whyNotHit_47
  · refine zx_iload_n hC dX2_whyNotHit_10 rfl ?_
    refine zx_iconst (z := 1) hC dX2_whyNotHit_11 ?_
    refine zx_bipush (z := 99) hC dX2_whyNotHit_12 rfl ?_
    refine zx_rd1 (r := .int (iI (zB (1 ≤ force ∧ force ≤ 99)))) hC zNoA (zcS 3 (As := [.int (iI force), .int (iI 1), .int (iI 99)]) hC (lw_S q1743 q1744 q93 q1745) (by decide +kernel) rfl (by rw [hRm]; decide) (by rw [hRm]; decide) rfl (Nat.le_of_ble_eq_true rfl) dX2_whyNotHit_14) (m_X2_in (zl X) G force 1 99 (by first | assumption | omega | exact iRm (by omega) (by omega) | (repeat (first | exact gL | refine rLs.up ?_ (by omega) (by omega) | refine rLs.fad ?_)) | (repeat (first | exact gM | refine rHM.up ?_ (by omega))) | exact gT _ (by omega) | exact rFadF_le gF _ | ((repeat first | rw [va_up_ne _ _ (by omega)] | rw [va_up_self] | rw [rFadH_o (by omega)] | rw [rAge_o _ _ (by omega)] | rw [rLayH_o (by omega) (by omega) (by omega) (by omega)]); omega)) (by first | assumption | omega | exact iRm (by omega) (by omega) | (repeat (first | exact gL | refine rLs.up ?_ (by omega) (by omega) | refine rLs.fad ?_)) | (repeat (first | exact gM | refine rHM.up ?_ (by omega))) | exact gT _ (by omega) | exact rFadF_le gF _ | ((repeat first | rw [va_up_ne _ _ (by omega)] | rw [va_up_self] | rw [rFadH_o (by omega)] | rw [rAge_o _ _ (by omega)] | rw [rLayH_o (by omega) (by omega) (by omega) (by omega)]); omega)) (by first | assumption | omega | exact iRm (by omega) (by omega) | (repeat (first | exact gL | refine rLs.up ?_ (by omega) (by omega) | refine rLs.fad ?_)) | (repeat (first | exact gM | refine rHM.up ?_ (by omega))) | exact gT _ (by omega) | exact rFadF_le gF _ | ((repeat first | rw [va_up_ne _ _ (by omega)] | rw [va_up_self] | rw [rFadH_o (by omega)] | rw [rAge_o _ _ (by omega)] | rw [rLayH_o (by omega) (by omega) (by omega) (by omega)]); omega))) (fun _ _ => trivial) (fun _ _ => trivial) ?_
    refine zx_if_eqB (tgt := 24) hC dX2_whyNotHit_17 (by decide)  (fun c17 => ?_) (fun c17 => ?_)
    · refine zx_iconst (z := 0) hC dX2_whyNotHit_24 ?_
      refine zx_istore_n (L' := [some (.ref (ad 0)), some (.int (iI key)), some (.int (iI force)), some (.int (iI 0))]) hC dX2_whyNotHit_25 (by decide) rfl ?_
      refine zx_iload_n hC dX2_whyNotHit_26 rfl ?_
      refine zx_if_neF (tgt := 34) hC dX2_whyNotHit_27 (by decide) (by first | assumption | exact gI _ (by omega) | exact iRm (by omega) (by omega)) (by omega) ?_
      refine zx_iconst (z := (-1)) hC dX2_whyNotHit_30 ?_
      refine zx_goto (tgt := 47) hC dX2_whyNotHit_31 (by decide) ?_
      refine zx_topi (b := rWhyHit h key force) (by unfold rWhyHit; (repeat' split) <;> omega) ?_
      exact zx_iret hC hE (Nat.le_refl _) (Nat.le_refl _) (fun H h => ⟨h, rfl⟩) dX2_whyNotHit_47
    · refine zx_iconst (z := 1) hC dX2_whyNotHit_20 ?_
      refine zx_goto (tgt := 25) hC dX2_whyNotHit_21 (by decide) ?_
      refine zx_istore_n (L' := [some (.ref (ad 0)), some (.int (iI key)), some (.int (iI force)), some (.int (iI 1))]) hC dX2_whyNotHit_25 (by decide) rfl ?_
      refine zx_iload_n hC dX2_whyNotHit_26 rfl ?_
      refine zx_if_neT (tgt := 34) hC dX2_whyNotHit_27 (by decide) (by first | assumption | exact gI _ (by omega) | exact iRm (by omega) (by omega)) (by omega) ?_
      refine zx_aload_n hC dX2_whyNotHit_34 rfl ?_
      refine zx_rd1 (r := .int (iI (zB (h 0 = 1 ∨ h 0 = 3)))) hC zNoA (zcV 0 (As := []) hC (lw_V q1647 q1649 qs34 q93 q1650) (by decide +kernel) rfl (by rw [hRm]; decide) (by rw [hRm]; decide) rfl (Nat.le_of_ble_eq_true rfl) dX2_whyNotHit_35) (m_X2_runsTake (zl X) G ad h F r  (by first | assumption | omega | exact iRm (by omega) (by omega) | (repeat (first | exact gL | refine rLs.up ?_ (by omega) (by omega) | refine rLs.fad ?_)) | (repeat (first | exact gM | refine rHM.up ?_ (by omega))) | exact gT _ (by omega) | exact rFadF_le gF _ | ((repeat first | rw [va_up_ne _ _ (by omega)] | rw [va_up_self] | rw [rFadH_o (by omega)] | rw [rAge_o _ _ (by omega)] | rw [rLayH_o (by omega) (by omega) (by omega) (by omega)]); omega))) (zr_rc hC hP.eq) hP.eq ?_
      refine zx_if_eqB (tgt := 45) hC dX2_whyNotHit_38 (by decide)  (fun c38 => ?_) (fun c38 => ?_)
      · refine zx_bipush (z := (-2)) hC dX2_whyNotHit_45 rfl ?_
        refine zx_topi (b := rWhyHit h key force) (by unfold rWhyHit; (repeat' split) <;> omega) ?_
        exact zx_iret hC hE (Nat.le_refl _) (Nat.le_refl _) (fun H h => ⟨h, rfl⟩) dX2_whyNotHit_47
      · refine zx_iconst (z := 0) hC dX2_whyNotHit_41 ?_
        refine zx_goto (tgt := 47) hC dX2_whyNotHit_42 (by decide) ?_
        refine zx_topi (b := rWhyHit h key force) (by unfold rWhyHit; (repeat' split) <;> omega) ?_
        exact zx_iret hC hE (Nat.le_refl _) (Nat.le_refl _) (fun H h => ⟨h, rfl⟩) dX2_whyNotHit_47
set_option maxHeartbeats 4000000 in
theorem m_X2_whyNotPeel (la : Launch) (G : zG) (ad : Nat → Nat) (h : Nat → Nat) (F : Nat → Nat → Nat → Nat) (r : zR5)  (g0 : h 0 ≤ 4) (g1 : h 7 ≤ 6) : zRd la yX2_whyNotPeel cX2_whyNotPeel 1 (some .int) 2 41 G [.ref (ad 0)] (zRf G ad ((h, F), r)) (fun v9 => v9 = some (.int (iI (rWhyPeel h)))) := by
  refine zRd.of [some (.ref (ad 0))] (by decide) (Nat.le_of_ble_eq_true rfl) rfl (fun X hl hC hRm hP hE => ?_)
  refine zx_aload_n hC dX2_whyNotPeel_0 rfl ?_
  refine zx_rd1 (r := .int (iI (zB (h 0 = 1 ∨ h 0 = 3)))) hC zNoA (zcV 0 (As := []) hC (lw_V q1647 q1649 qs34 q93 q1650) (by decide +kernel) rfl (by rw [hRm]; decide) (by rw [hRm]; decide) rfl (Nat.le_of_ble_eq_true rfl) dX2_whyNotPeel_1) (m_X2_runsTake (zl X) G ad h F r  (by first | assumption | omega | exact iRm (by omega) (by omega) | (repeat (first | exact gL | refine rLs.up ?_ (by omega) (by omega) | refine rLs.fad ?_)) | (repeat (first | exact gM | refine rHM.up ?_ (by omega))) | exact gT _ (by omega) | exact rFadF_le gF _ | ((repeat first | rw [va_up_ne _ _ (by omega)] | rw [va_up_self] | rw [rFadH_o (by omega)] | rw [rAge_o _ _ (by omega)] | rw [rLayH_o (by omega) (by omega) (by omega) (by omega)]); omega))) (zr_rc hC hP.eq) hP.eq ?_
  refine zx_if_neB (tgt := 17) hC dX2_whyNotPeel_4 (by decide)  (fun c4 => ?_) (fun c4 => ?_)
  · refine zx_bipush (z := (-2)) hC dX2_whyNotPeel_17 rfl ?_
    refine zx_goto (tgt := 23) hC dX2_whyNotPeel_19 (by decide) ?_
    refine zx_topi (b := rWhyPeel h) (by unfold rWhyPeel; (repeat' split) <;> omega) ?_
    exact zx_iret hC hE (Nat.le_refl _) (Nat.le_refl _) (fun H h => ⟨h, rfl⟩) dX2_whyNotPeel_23
  · refine zx_aload_n hC dX2_whyNotPeel_7 rfl ?_
    refine zx_bipush (z := 7) hC dX2_whyNotPeel_8 rfl ?_
    refine zx_rd1 (r := .int (iI ((h 7 : Nat) : Int))) hC zNoA (zcV 1 (As := [.int (iI 7)]) hC (lw_V q1651 q1653 qs35 q93 q1654) (by decide +kernel) rfl (by rw [hRm]; decide) (by rw [hRm]; decide) rfl (Nat.le_of_ble_eq_true rfl) dX2_whyNotPeel_10) (m_X2_of (zl X) G ad h F r 7 (by first | assumption | omega | exact iRm (by omega) (by omega) | (repeat (first | exact gL | refine rLs.up ?_ (by omega) (by omega) | refine rLs.fad ?_)) | (repeat (first | exact gM | refine rHM.up ?_ (by omega))) | exact gT _ (by omega) | exact rFadF_le gF _ | ((repeat first | rw [va_up_ne _ _ (by omega)] | rw [va_up_self] | rw [rFadH_o (by omega)] | rw [rAge_o _ _ (by omega)] | rw [rLayH_o (by omega) (by omega) (by omega) (by omega)]); omega))) (zr_rc hC hP.eq) hP.eq ?_
    refine zx_iconst (z := 2) hC dX2_whyNotPeel_13 ?_
    refine zx_icmp_ge (tgt := 22) hC dX2_whyNotPeel_14 (by decide) (by first | assumption | exact gI _ (by omega) | exact iRm (by omega) (by omega)) (by first | assumption | exact gI _ (by omega) | exact iRm (by omega) (by omega)) (fun c14 => ?_) (fun c14 => ?_)
    · refine zx_iconst (z := 0) hC dX2_whyNotPeel_22 ?_
      refine zx_topi (b := rWhyPeel h) (by unfold rWhyPeel; (repeat' split) <;> omega) ?_
      exact zx_iret hC hE (Nat.le_refl _) (Nat.le_refl _) (fun H h => ⟨h, rfl⟩) dX2_whyNotPeel_23
    · refine zx_bipush (z := (-2)) hC dX2_whyNotPeel_17 rfl ?_
      refine zx_goto (tgt := 23) hC dX2_whyNotPeel_19 (by decide) ?_
      refine zx_topi (b := rWhyPeel h) (by unfold rWhyPeel; (repeat' split) <;> omega) ?_
      exact zx_iret hC hE (Nat.le_refl _) (Nat.le_refl _) (fun H h => ⟨h, rfl⟩) dX2_whyNotPeel_23
set_option maxHeartbeats 4000000 in
theorem m_X2_whyNotBack (la : Launch) (G : zG) (ad : Nat → Nat) (h : Nat → Nat) (F : Nat → Nat → Nat → Nat) (r : zR5)  (g0 : h 0 ≤ 4) (g1 : h 8 ≤ 6) : zRd la yX2_whyNotBack cX2_whyNotBack 1 (some .int) 2 41 G [.ref (ad 0)] (zRf G ad ((h, F), r)) (fun v9 => v9 = some (.int (iI (rWhyBack h)))) := by
  refine zRd.of [some (.ref (ad 0))] (by decide) (Nat.le_of_ble_eq_true rfl) rfl (fun X hl hC hRm hP hE => ?_)
  refine zx_aload_n hC dX2_whyNotBack_0 rfl ?_
  refine zx_rd1 (r := .int (iI (zB (h 0 = 1 ∨ h 0 = 3)))) hC zNoA (zcV 0 (As := []) hC (lw_V q1647 q1649 qs34 q93 q1650) (by decide +kernel) rfl (by rw [hRm]; decide) (by rw [hRm]; decide) rfl (Nat.le_of_ble_eq_true rfl) dX2_whyNotBack_1) (m_X2_runsTake (zl X) G ad h F r  (by first | assumption | omega | exact iRm (by omega) (by omega) | (repeat (first | exact gL | refine rLs.up ?_ (by omega) (by omega) | refine rLs.fad ?_)) | (repeat (first | exact gM | refine rHM.up ?_ (by omega))) | exact gT _ (by omega) | exact rFadF_le gF _ | ((repeat first | rw [va_up_ne _ _ (by omega)] | rw [va_up_self] | rw [rFadH_o (by omega)] | rw [rAge_o _ _ (by omega)] | rw [rLayH_o (by omega) (by omega) (by omega) (by omega)]); omega))) (zr_rc hC hP.eq) hP.eq ?_
  refine zx_if_neB (tgt := 16) hC dX2_whyNotBack_4 (by decide)  (fun c4 => ?_) (fun c4 => ?_)
  · refine zx_bipush (z := (-2)) hC dX2_whyNotBack_16 rfl ?_
    refine zx_goto (tgt := 22) hC dX2_whyNotBack_18 (by decide) ?_
    refine zx_topi (b := rWhyBack h) (by unfold rWhyBack; (repeat' split) <;> omega) ?_
    exact zx_iret hC hE (Nat.le_refl _) (Nat.le_refl _) (fun H h => ⟨h, rfl⟩) dX2_whyNotBack_22
  · refine zx_aload_n hC dX2_whyNotBack_7 rfl ?_
    refine zx_bipush (z := 8) hC dX2_whyNotBack_8 rfl ?_
    refine zx_rd1 (r := .int (iI ((h 8 : Nat) : Int))) hC zNoA (zcV 1 (As := [.int (iI 8)]) hC (lw_V q1651 q1653 qs35 q93 q1654) (by decide +kernel) rfl (by rw [hRm]; decide) (by rw [hRm]; decide) rfl (Nat.le_of_ble_eq_true rfl) dX2_whyNotBack_10) (m_X2_of (zl X) G ad h F r 8 (by first | assumption | omega | exact iRm (by omega) (by omega) | (repeat (first | exact gL | refine rLs.up ?_ (by omega) (by omega) | refine rLs.fad ?_)) | (repeat (first | exact gM | refine rHM.up ?_ (by omega))) | exact gT _ (by omega) | exact rFadF_le gF _ | ((repeat first | rw [va_up_ne _ _ (by omega)] | rw [va_up_self] | rw [rFadH_o (by omega)] | rw [rAge_o _ _ (by omega)] | rw [rLayH_o (by omega) (by omega) (by omega) (by omega)]); omega))) (zr_rc hC hP.eq) hP.eq ?_
    refine zx_if_ne (tgt := 21) hC dX2_whyNotBack_13 (by decide) (by first | assumption | exact gI _ (by omega) | exact iRm (by omega) (by omega)) (fun c13 => ?_) (fun c13 => ?_)
    · refine zx_iconst (z := 0) hC dX2_whyNotBack_21 ?_
      refine zx_topi (b := rWhyBack h) (by unfold rWhyBack; (repeat' split) <;> omega) ?_
      exact zx_iret hC hE (Nat.le_refl _) (Nat.le_refl _) (fun H h => ⟨h, rfl⟩) dX2_whyNotBack_22
    · refine zx_bipush (z := (-2)) hC dX2_whyNotBack_16 rfl ?_
      refine zx_goto (tgt := 22) hC dX2_whyNotBack_18 (by decide) ?_
      refine zx_topi (b := rWhyBack h) (by unfold rWhyBack; (repeat' split) <;> omega) ?_
      exact zx_iret hC hE (Nat.le_refl _) (Nat.le_refl _) (fun H h => ⟨h, rfl⟩) dX2_whyNotBack_22
set_option maxHeartbeats 4000000 in
theorem m_X2_roundedOf (la : Launch) (G : zG) (ad : Nat → Nat) (h : Nat → Nat) (F : Nat → Nat → Nat → Nat) (r : zR5) (cells : Nat) (g0 : cells ≤ 24) (g1 : 2 ≤ h 3) (g2 : h 3 ≤ 16) (g3 : h 4 ≤ 8) : zRd la yX2_roundedOf cX2_roundedOf 7 (some .int) 1 21 G [.ref (ad 0), .int (iI ((cells : Nat) : Int))] (zRf G ad ((h, F), r)) (fun v9 => v9 = some (.int (iI ((rRnd (h 3) (h 4) cells : Nat) : Int)))) := by
  refine zRd.of [some (.ref (ad 0)), some (.int (iI ((cells : Nat) : Int))), none, none, none, none, none] (by decide) (Nat.le_of_ble_eq_true rfl) rfl (fun X hl hC hRm hP hE => ?_)
  refine zx_aload_n hC dX2_roundedOf_0 rfl ?_
  refine zx_iconst (z := 3) hC dX2_roundedOf_1 ?_
  refine zx_rd1 (r := .int (iI ((h 3 : Nat) : Int))) hC zNoA (zcV 1 (As := [.int (iI 3)]) hC (lw_V q1651 q1653 qs35 q93 q1654) (by decide +kernel) rfl (by rw [hRm]; decide) (by rw [hRm]; decide) rfl (Nat.le_of_ble_eq_true rfl) dX2_roundedOf_2) (m_X2_of (zl X) G ad h F r 3 (by first | assumption | omega | exact iRm (by omega) (by omega) | (repeat (first | exact gL | refine rLs.up ?_ (by omega) (by omega) | refine rLs.fad ?_)) | (repeat (first | exact gM | refine rHM.up ?_ (by omega))) | exact gT _ (by omega) | exact rFadF_le gF _ | ((repeat first | rw [va_up_ne _ _ (by omega)] | rw [va_up_self] | rw [rFadH_o (by omega)] | rw [rAge_o _ _ (by omega)] | rw [rLayH_o (by omega) (by omega) (by omega) (by omega)]); omega))) (zr_rc hC hP.eq) hP.eq ?_
  refine zx_istore_n (L' := [some (.ref (ad 0)), some (.int (iI ((cells : Nat) : Int))), some (.int (iI ((h 3 : Nat) : Int))), none, none, none, none]) hC dX2_roundedOf_5 (by decide) rfl ?_
  refine zx_iconst (z := 0) hC dX2_roundedOf_6 ?_
  refine zx_istore_n (L' := [some (.ref (ad 0)), some (.int (iI ((cells : Nat) : Int))), some (.int (iI ((h 3 : Nat) : Int))), some (.int (iI 0)), none, none, none]) hC dX2_roundedOf_7 (by decide) rfl ?_
  refine zx_iload_n hC dX2_roundedOf_8 rfl ?_
  refine zx_istore (L' := [some (.ref (ad 0)), some (.int (iI ((cells : Nat) : Int))), some (.int (iI ((h 3 : Nat) : Int))), some (.int (iI 0)), some (.int (iI ((h 3 : Nat) : Int))), none, none]) hC dX2_roundedOf_9 (by decide) rfl ?_
  have loop : ∀ f n b : Nat, 24 < n + f → n ≤ 48 → b ≤ 24 → 0 < n → rRndF (h 3) cells f n b = rRndF (h 3) cells 25 (h 3) 0 → zVr X 7 11 [some (.ref (ad 0)), some (.int (iI ((cells : Nat) : Int))), some (.int (iI ((h 3 : Nat) : Int))), some (.int (iI ((b : Nat) : Int))), some (.int (iI ((n : Nat) : Int))), none, none] [] := by
    intro f
    induction f with
    | zero =>
      intro n b h1 h2 h3 h4 h5
      change b = _ at h5
      refine zx_iload hC dX2_roundedOf_11 rfl ?_
      refine zx_bipush (z := 24) hC dX2_roundedOf_13 rfl ?_
      refine zx_icmp_gtT (tgt := 80) hC dX2_roundedOf_15 (by decide) (by first | assumption | exact gI _ (by omega) | exact iRm (by omega) (by omega)) (by first | assumption | exact gI _ (by omega) | exact iRm (by omega) (by omega)) (by omega) ?_
      have J80 : zVr X 7 94 [some (.ref (ad 0)), some (.int (iI ((cells : Nat) : Int))), some (.int (iI ((h 3 : Nat) : Int))), some (.int (iI ((b : Nat) : Int))), some (.int (iI ((n : Nat) : Int))), none, none] [.int (iI ((zdist b cells : Nat) : Int))] := by
        have h5 : b = rRndF (h 3) cells 25 (h 3) 0 := by first | exact h5 | exact (show rRndF (h 3) cells (f + 1) n b = b by simp only [rRndF]; rw [if_neg (by omega)]).symm.trans h5
        have hz2 : zdist b cells ≤ 100 := by unfold zdist; split <;> omega
        refine zx_istore (L' := [some (.ref (ad 0)), some (.int (iI ((cells : Nat) : Int))), some (.int (iI ((h 3 : Nat) : Int))), some (.int (iI ((b : Nat) : Int))), some (.int (iI ((zdist b cells : Nat) : Int))), none, none]) hC dX2_roundedOf_94 (by decide) rfl ?_
        refine zx_iload_n hC dX2_roundedOf_96 rfl ?_
        refine zx_if_le (tgt := 117) hC dX2_roundedOf_97 (by decide) (by first | assumption | exact gI _ (by omega) | exact iRm (by omega) (by omega)) (fun c97 => ?_) (fun c97 => ?_)
        · refine zx_iload_n hC dX2_roundedOf_117 rfl ?_
          refine zx_topi (b := ((rRnd (h 3) (h 4) cells : Nat) : Int)) (by unfold rRnd; rw [← h5]; first | rw [if_pos (by omega)] | rw [if_neg (by omega)]) ?_
          exact zx_iret hC hE (Nat.le_refl _) (Nat.le_refl _) (fun H h => ⟨h, rfl⟩) dX2_roundedOf_118
        · refine zx_iload hC dX2_roundedOf_100 rfl ?_
          refine zx_i2l hC dX2_roundedOf_102 (by first | assumption | exact gI _ (by omega) | exact iRm (by omega) (by omega)) ?_
          refine zx_aload_n hC dX2_roundedOf_103 rfl ?_
          refine zr_get (v := .ref (ad 1)) hC hP.eq 0 (by decide) dX2_roundedOf_104 q1610 rfl ?_
          refine zx_iconst (z := 4) hC dX2_roundedOf_107 ?_
          refine zr_sldN (x := h 4) hC hP.eq 4 dX2_roundedOf_108 (by omega) rfl ?_
          refine zx_lcmp hC dX2_roundedOf_109 (by first | assumption | exact lRm (by omega) (by omega)) (by first | assumption | exact lRm (by omega) (by omega)) ?_
          refine zx_if_gtC (tgt := 117) hC dX2_roundedOf_110 (by decide)  (fun c110 => ?_) (fun c110 => ?_)
          · refine zx_iload_n hC dX2_roundedOf_117 rfl ?_
            refine zx_topi (b := ((rRnd (h 3) (h 4) cells : Nat) : Int)) (by unfold rRnd; rw [← h5]; first | rw [if_pos (by omega)] | rw [if_neg (by omega)]) ?_
            exact zx_iret hC hE (Nat.le_refl _) (Nat.le_refl _) (fun H h => ⟨h, rfl⟩) dX2_roundedOf_118
          · refine zx_iload_n hC dX2_roundedOf_113 rfl ?_
            refine zx_goto (tgt := 118) hC dX2_roundedOf_114 (by decide) ?_
            refine zx_topi (b := ((rRnd (h 3) (h 4) cells : Nat) : Int)) (by unfold rRnd; rw [← h5]; first | rw [if_pos (by omega)] | rw [if_neg (by omega)]) ?_
            exact zx_iret hC hE (Nat.le_refl _) (Nat.le_refl _) (fun H h => ⟨h, rfl⟩) dX2_roundedOf_118
      refine zx_iload_n hC dX2_roundedOf_80 rfl ?_
      refine zx_iload_n hC dX2_roundedOf_81 rfl ?_
      refine zx_icmp_le (tgt := 91) hC dX2_roundedOf_82 (by decide) (by first | assumption | exact gI _ (by omega) | exact iRm (by omega) (by omega)) (by first | assumption | exact gI _ (by omega) | exact iRm (by omega) (by omega)) (fun c82 => ?_) (fun c82 => ?_)
      · refine zx_iload_n hC dX2_roundedOf_91 rfl ?_
        refine zx_iload_n hC dX2_roundedOf_92 rfl ?_
        refine zx_isub hC dX2_roundedOf_93 ?_
        refine zx_topi (b := ((zdist b cells : Nat) : Int)) (by unfold zdist; first | (rw [if_pos (by omega)]; omega) | (rw [if_neg (by omega)]; omega)) ?_
        exact J80
      · refine zx_iload_n hC dX2_roundedOf_85 rfl ?_
        refine zx_iload_n hC dX2_roundedOf_86 rfl ?_
        refine zx_isub hC dX2_roundedOf_87 ?_
        refine zx_goto (tgt := 94) hC dX2_roundedOf_88 (by decide) ?_
        refine zx_topi (b := ((zdist b cells : Nat) : Int)) (by unfold zdist; first | (rw [if_pos (by omega)]; omega) | (rw [if_neg (by omega)]; omega)) ?_
        exact J80
    | succ f ih =>
      intro n b h1 h2 h3 h4 h5
      refine zx_iload hC dX2_roundedOf_11 rfl ?_
      refine zx_bipush (z := 24) hC dX2_roundedOf_13 rfl ?_
      refine zx_icmp_gt (tgt := 80) hC dX2_roundedOf_15 (by decide) (by first | assumption | exact gI _ (by omega) | exact iRm (by omega) (by omega)) (by first | assumption | exact gI _ (by omega) | exact iRm (by omega) (by omega)) (fun c15 => ?_) (fun c15 => ?_)
      · have J80 : zVr X 7 94 [some (.ref (ad 0)), some (.int (iI ((cells : Nat) : Int))), some (.int (iI ((h 3 : Nat) : Int))), some (.int (iI ((b : Nat) : Int))), some (.int (iI ((n : Nat) : Int))), none, none] [.int (iI ((zdist b cells : Nat) : Int))] := by
          have h5 : b = rRndF (h 3) cells 25 (h 3) 0 := by first | exact h5 | exact (show rRndF (h 3) cells (f + 1) n b = b by simp only [rRndF]; rw [if_neg (by omega)]).symm.trans h5
          have hz2 : zdist b cells ≤ 100 := by unfold zdist; split <;> omega
          refine zx_istore (L' := [some (.ref (ad 0)), some (.int (iI ((cells : Nat) : Int))), some (.int (iI ((h 3 : Nat) : Int))), some (.int (iI ((b : Nat) : Int))), some (.int (iI ((zdist b cells : Nat) : Int))), none, none]) hC dX2_roundedOf_94 (by decide) rfl ?_
          refine zx_iload_n hC dX2_roundedOf_96 rfl ?_
          refine zx_if_le (tgt := 117) hC dX2_roundedOf_97 (by decide) (by first | assumption | exact gI _ (by omega) | exact iRm (by omega) (by omega)) (fun c97 => ?_) (fun c97 => ?_)
          · refine zx_iload_n hC dX2_roundedOf_117 rfl ?_
            refine zx_topi (b := ((rRnd (h 3) (h 4) cells : Nat) : Int)) (by unfold rRnd; rw [← h5]; first | rw [if_pos (by omega)] | rw [if_neg (by omega)]) ?_
            exact zx_iret hC hE (Nat.le_refl _) (Nat.le_refl _) (fun H h => ⟨h, rfl⟩) dX2_roundedOf_118
          · refine zx_iload hC dX2_roundedOf_100 rfl ?_
            refine zx_i2l hC dX2_roundedOf_102 (by first | assumption | exact gI _ (by omega) | exact iRm (by omega) (by omega)) ?_
            refine zx_aload_n hC dX2_roundedOf_103 rfl ?_
            refine zr_get (v := .ref (ad 1)) hC hP.eq 0 (by decide) dX2_roundedOf_104 q1610 rfl ?_
            refine zx_iconst (z := 4) hC dX2_roundedOf_107 ?_
            refine zr_sldN (x := h 4) hC hP.eq 4 dX2_roundedOf_108 (by omega) rfl ?_
            refine zx_lcmp hC dX2_roundedOf_109 (by first | assumption | exact lRm (by omega) (by omega)) (by first | assumption | exact lRm (by omega) (by omega)) ?_
            refine zx_if_gtC (tgt := 117) hC dX2_roundedOf_110 (by decide)  (fun c110 => ?_) (fun c110 => ?_)
            · refine zx_iload_n hC dX2_roundedOf_117 rfl ?_
              refine zx_topi (b := ((rRnd (h 3) (h 4) cells : Nat) : Int)) (by unfold rRnd; rw [← h5]; first | rw [if_pos (by omega)] | rw [if_neg (by omega)]) ?_
              exact zx_iret hC hE (Nat.le_refl _) (Nat.le_refl _) (fun H h => ⟨h, rfl⟩) dX2_roundedOf_118
            · refine zx_iload_n hC dX2_roundedOf_113 rfl ?_
              refine zx_goto (tgt := 118) hC dX2_roundedOf_114 (by decide) ?_
              refine zx_topi (b := ((rRnd (h 3) (h 4) cells : Nat) : Int)) (by unfold rRnd; rw [← h5]; first | rw [if_pos (by omega)] | rw [if_neg (by omega)]) ?_
              exact zx_iret hC hE (Nat.le_refl _) (Nat.le_refl _) (fun H h => ⟨h, rfl⟩) dX2_roundedOf_118
        refine zx_iload_n hC dX2_roundedOf_80 rfl ?_
        refine zx_iload_n hC dX2_roundedOf_81 rfl ?_
        refine zx_icmp_le (tgt := 91) hC dX2_roundedOf_82 (by decide) (by first | assumption | exact gI _ (by omega) | exact iRm (by omega) (by omega)) (by first | assumption | exact gI _ (by omega) | exact iRm (by omega) (by omega)) (fun c82 => ?_) (fun c82 => ?_)
        · refine zx_iload_n hC dX2_roundedOf_91 rfl ?_
          refine zx_iload_n hC dX2_roundedOf_92 rfl ?_
          refine zx_isub hC dX2_roundedOf_93 ?_
          refine zx_topi (b := ((zdist b cells : Nat) : Int)) (by unfold zdist; first | (rw [if_pos (by omega)]; omega) | (rw [if_neg (by omega)]; omega)) ?_
          exact J80
        · refine zx_iload_n hC dX2_roundedOf_85 rfl ?_
          refine zx_iload_n hC dX2_roundedOf_86 rfl ?_
          refine zx_isub hC dX2_roundedOf_87 ?_
          refine zx_goto (tgt := 94) hC dX2_roundedOf_88 (by decide) ?_
          refine zx_topi (b := ((zdist b cells : Nat) : Int)) (by unfold zdist; first | (rw [if_pos (by omega)]; omega) | (rw [if_neg (by omega)]; omega)) ?_
          exact J80
      · have J18 : zVr X 7 35 [some (.ref (ad 0)), some (.int (iI ((cells : Nat) : Int))), some (.int (iI ((h 3 : Nat) : Int))), some (.int (iI ((b : Nat) : Int))), some (.int (iI ((n : Nat) : Int))), none, none] [.int (iI ((zdist n cells : Nat) : Int))] := by
          refine zx_istore (L' := [some (.ref (ad 0)), some (.int (iI ((cells : Nat) : Int))), some (.int (iI ((h 3 : Nat) : Int))), some (.int (iI ((b : Nat) : Int))), some (.int (iI ((n : Nat) : Int))), some (.int (iI ((zdist n cells : Nat) : Int))), none]) hC dX2_roundedOf_35 (by decide) rfl ?_
          have J37 : zVr X 7 51 [some (.ref (ad 0)), some (.int (iI ((cells : Nat) : Int))), some (.int (iI ((h 3 : Nat) : Int))), some (.int (iI ((b : Nat) : Int))), some (.int (iI ((n : Nat) : Int))), some (.int (iI ((zdist n cells : Nat) : Int))), none] [.int (iI ((zdist b cells : Nat) : Int))] := by
            have hz : zdist n cells ≤ 100 := by unfold zdist; split <;> omega
            have hz2 : zdist b cells ≤ 100 := by unfold zdist; split <;> omega
            refine zx_istore (L' := [some (.ref (ad 0)), some (.int (iI ((cells : Nat) : Int))), some (.int (iI ((h 3 : Nat) : Int))), some (.int (iI ((b : Nat) : Int))), some (.int (iI ((n : Nat) : Int))), some (.int (iI ((zdist n cells : Nat) : Int))), some (.int (iI ((zdist b cells : Nat) : Int)))]) hC dX2_roundedOf_51 (by decide) rfl ?_
            have J53 : zVr X 7 70 [some (.ref (ad 0)), some (.int (iI ((cells : Nat) : Int))), some (.int (iI ((h 3 : Nat) : Int))), some (.int (iI ((b : Nat) : Int))), some (.int (iI ((n : Nat) : Int))), some (.int (iI ((zdist n cells : Nat) : Int))), some (.int (iI ((zdist b cells : Nat) : Int)))] [.int (iI ((if b = 0 ∨ zdist n cells < zdist b cells then n else b : Nat) : Int))] := by
              refine zx_istore_n (L' := [some (.ref (ad 0)), some (.int (iI ((cells : Nat) : Int))), some (.int (iI ((h 3 : Nat) : Int))), some (.int (iI ((if b = 0 ∨ zdist n cells < zdist b cells then n else b : Nat) : Int))), some (.int (iI ((n : Nat) : Int))), some (.int (iI ((zdist n cells : Nat) : Int))), some (.int (iI ((zdist b cells : Nat) : Int)))]) hC dX2_roundedOf_70 (by decide) rfl ?_
              refine zx_iload hC dX2_roundedOf_71 rfl ?_
              refine zx_iload_n hC dX2_roundedOf_73 rfl ?_
              refine zx_iadd hC dX2_roundedOf_74 ?_
              refine zx_istore (L' := [some (.ref (ad 0)), some (.int (iI ((cells : Nat) : Int))), some (.int (iI ((h 3 : Nat) : Int))), some (.int (iI ((if b = 0 ∨ zdist n cells < zdist b cells then n else b : Nat) : Int))), some (.int (iI ((n + (h 3) : Nat) : Int))), some (.int (iI ((zdist n cells : Nat) : Int))), some (.int (iI ((zdist b cells : Nat) : Int)))]) hC dX2_roundedOf_75 (by decide) rfl ?_
              refine zx_goto (tgt := 11) hC dX2_roundedOf_77 (by decide) ?_
              refine zx_le (L' := [some (.ref (ad 0)), some (.int (iI ((cells : Nat) : Int))), some (.int (iI ((h 3 : Nat) : Int))), some (.int (iI ((if b = 0 ∨ zdist n cells < zdist b cells then n else b : Nat) : Int))), some (.int (iI ((n + (h 3) : Nat) : Int))), none, none]) (zle_s (zle_s (zle_s (zle_s (zle_s (zle_n (zle_n zle_0))))))) ?_
              exact ih (n + (h 3)) (if b = 0 ∨ zdist n cells < zdist b cells then n else b) (by omega) (by omega) (by split <;> omega) (by omega) ((show rRndF (h 3) cells (f + 1) n b = rRndF (h 3) cells f (n + (h 3)) (if b = 0 ∨ zdist n cells < zdist b cells then n else b) from if_pos (show n ≤ 24 by omega)).symm.trans h5)
            refine zx_iload_n hC dX2_roundedOf_53 rfl ?_
            refine zx_if_eq (tgt := 64) hC dX2_roundedOf_54 (by decide) (by first | assumption | exact gI _ (by omega) | exact iRm (by omega) (by omega)) (fun c54 => ?_) (fun c54 => ?_)
            · refine zx_iload hC dX2_roundedOf_64 rfl ?_
              refine zx_goto (tgt := 70) hC dX2_roundedOf_66 (by decide) ?_
              refine zx_topi (b := ((if b = 0 ∨ zdist n cells < zdist b cells then n else b : Nat) : Int)) (by first | rw [if_pos (by omega)] | rw [if_neg (by omega)]) ?_
              exact J53
            · refine zx_iload hC dX2_roundedOf_57 rfl ?_
              refine zx_iload hC dX2_roundedOf_59 rfl ?_
              refine zx_icmp_ge (tgt := 69) hC dX2_roundedOf_61 (by decide) (by first | assumption | exact gI _ (by omega) | exact iRm (by omega) (by omega)) (by first | assumption | exact gI _ (by omega) | exact iRm (by omega) (by omega)) (fun c61 => ?_) (fun c61 => ?_)
              · refine zx_iload_n hC dX2_roundedOf_69 rfl ?_
                refine zx_topi (b := ((if b = 0 ∨ zdist n cells < zdist b cells then n else b : Nat) : Int)) (by first | rw [if_pos (by omega)] | rw [if_neg (by omega)]) ?_
                exact J53
              · refine zx_iload hC dX2_roundedOf_64 rfl ?_
                refine zx_goto (tgt := 70) hC dX2_roundedOf_66 (by decide) ?_
                refine zx_topi (b := ((if b = 0 ∨ zdist n cells < zdist b cells then n else b : Nat) : Int)) (by first | rw [if_pos (by omega)] | rw [if_neg (by omega)]) ?_
                exact J53
          refine zx_iload_n hC dX2_roundedOf_37 rfl ?_
          refine zx_iload_n hC dX2_roundedOf_38 rfl ?_
          refine zx_icmp_le (tgt := 48) hC dX2_roundedOf_39 (by decide) (by first | assumption | exact gI _ (by omega) | exact iRm (by omega) (by omega)) (by first | assumption | exact gI _ (by omega) | exact iRm (by omega) (by omega)) (fun c39 => ?_) (fun c39 => ?_)
          · refine zx_iload_n hC dX2_roundedOf_48 rfl ?_
            refine zx_iload_n hC dX2_roundedOf_49 rfl ?_
            refine zx_isub hC dX2_roundedOf_50 ?_
            refine zx_topi (b := ((zdist b cells : Nat) : Int)) (by unfold zdist; first | (rw [if_pos (by omega)]; omega) | (rw [if_neg (by omega)]; omega)) ?_
            exact J37
          · refine zx_iload_n hC dX2_roundedOf_42 rfl ?_
            refine zx_iload_n hC dX2_roundedOf_43 rfl ?_
            refine zx_isub hC dX2_roundedOf_44 ?_
            refine zx_goto (tgt := 51) hC dX2_roundedOf_45 (by decide) ?_
            refine zx_topi (b := ((zdist b cells : Nat) : Int)) (by unfold zdist; first | (rw [if_pos (by omega)]; omega) | (rw [if_neg (by omega)]; omega)) ?_
            exact J37
        refine zx_iload hC dX2_roundedOf_18 rfl ?_
        refine zx_iload_n hC dX2_roundedOf_20 rfl ?_
        refine zx_icmp_le (tgt := 31) hC dX2_roundedOf_21 (by decide) (by first | assumption | exact gI _ (by omega) | exact iRm (by omega) (by omega)) (by first | assumption | exact gI _ (by omega) | exact iRm (by omega) (by omega)) (fun c21 => ?_) (fun c21 => ?_)
        · refine zx_iload_n hC dX2_roundedOf_31 rfl ?_
          refine zx_iload hC dX2_roundedOf_32 rfl ?_
          refine zx_isub hC dX2_roundedOf_34 ?_
          refine zx_topi (b := ((zdist n cells : Nat) : Int)) (by unfold zdist; first | (rw [if_pos (by omega)]; omega) | (rw [if_neg (by omega)]; omega)) ?_
          exact J18
        · refine zx_iload hC dX2_roundedOf_24 rfl ?_
          refine zx_iload_n hC dX2_roundedOf_26 rfl ?_
          refine zx_isub hC dX2_roundedOf_27 ?_
          refine zx_goto (tgt := 35) hC dX2_roundedOf_28 (by decide) ?_
          refine zx_topi (b := ((zdist n cells : Nat) : Int)) (by unfold zdist; first | (rw [if_pos (by omega)]; omega) | (rw [if_neg (by omega)]; omega)) ?_
          exact J18
  exact loop 25 (h 3) 0 (by omega) (by omega) (by omega) (by omega) rfl
set_option maxHeartbeats 4000000 in
theorem m_X2_adds (la : Launch) (G : zG) (ad : Nat → Nat) (h : Nat → Nat) (F : Nat → Nat → Nat → Nat) (r : zR5) (l : Nat) (c : Nat) (k : Nat) (g0 : l < h 7) (g1 : c < 1000) (g2 : k < 36) (g3 : h 2 ≤ 1) (g4 : h (20 + l) ≤ 1) (gL : rLs h) : zRd la yX2_adds cX2_adds 5 (some .int) 1 23 G [.ref (ad 0), .int (iI ((l : Nat) : Int)), .int (iI ((c : Nat) : Int)), .int (iI ((k : Nat) : Int))] (zRf G ad ((h, F), r)) (fun v9 => v9 = some (.int (iI ((rAdds h F l c k : Nat) : Int)))) := by
  refine zRd.of [some (.ref (ad 0)), some (.int (iI ((l : Nat) : Int))), some (.int (iI ((c : Nat) : Int))), some (.int (iI ((k : Nat) : Int))), none] (by decide) (Nat.le_of_ble_eq_true rfl) rfl (fun X hl hC hRm hP hE => ?_)
  have g7 := gL.1
  have g9 := gL.2.2 l (by omega)
  have g11 := gL.2.1 l (by omega)
  have g10 : c % h (14 + l) < h (14 + l) := Nat.mod_lt _ (by omega)
  refine zx_iload_n hC dX2_adds_0 rfl ?_
  refine zx_bipush (z := 12) hC dX2_adds_1 rfl ?_
  refine zx_aload_n hC dX2_adds_3 rfl ?_
  refine zx_iconst (z := 2) hC dX2_adds_4 ?_
  refine zx_rd1 (r := .int (iI ((h 2 : Nat) : Int))) hC zNoA (zcV 1 (As := [.int (iI 2)]) hC (lw_V q1651 q1653 qs35 q93 q1654) (by decide +kernel) rfl (by rw [hRm]; decide) (by rw [hRm]; decide) rfl (Nat.le_of_ble_eq_true rfl) dX2_adds_5) (m_X2_of (zl X) G ad h F r 2 (by first | assumption | omega | exact iRm (by omega) (by omega) | (repeat (first | exact gL | refine rLs.up ?_ (by omega) (by omega) | refine rLs.fad ?_)) | (repeat (first | exact gM | refine rHM.up ?_ (by omega))) | exact gT _ (by omega) | exact rFadF_le gF _ | ((repeat first | rw [va_up_ne _ _ (by omega)] | rw [va_up_self] | rw [rFadH_o (by omega)] | rw [rAge_o _ _ (by omega)] | rw [rLayH_o (by omega) (by omega) (by omega) (by omega)]); omega))) (zr_rc hC hP.eq) hP.eq ?_
  refine zx_imul hC dX2_adds_8 ?_
  refine zx_iadd hC dX2_adds_9 ?_
  refine zx_istore (L' := [some (.ref (ad 0)), some (.int (iI ((l : Nat) : Int))), some (.int (iI ((c : Nat) : Int))), some (.int (iI ((k : Nat) : Int))), some (.int (iI ((k + (12 * (h 2)) : Nat) : Int)))]) hC dX2_adds_10 (by decide) rfl ?_
  refine zx_aload_n hC dX2_adds_12 rfl ?_
  refine zr_get (v := .ref (ad 1)) hC hP.eq 0 (by decide) dX2_adds_13 q1610 rfl ?_
  refine zx_bipush (z := 20) hC dX2_adds_16 rfl ?_
  refine zx_iload_n hC dX2_adds_18 rfl ?_
  refine zx_iadd hC dX2_adds_19 ?_
  refine zr_sldN (x := h (20 + l)) hC hP.eq (20 + l) dX2_adds_20 (by omega) rfl ?_
  refine zx_lconst1 hC dX2_adds_21 ?_
  refine zx_lcmp hC dX2_adds_22 (by first | assumption | exact lRm (by omega) (by omega)) (by first | assumption | exact lRm (by omega) (by omega)) ?_
  refine zx_if_eqC (tgt := 33) hC dX2_adds_23 (by decide)  (fun c23 => ?_) (fun c23 => ?_)
  · refine zx_iconst (z := 0) hC dX2_adds_33 ?_
    refine zx_goto (tgt := 54) hC dX2_adds_34 (by decide) ?_
    refine zx_topi (b := ((rAdds h F l c k : Nat) : Int)) (by unfold rAdds; first | (rw [if_pos (by omega)]; first | done | rfl) | (rw [if_neg (by omega)]; first | done | rfl)) ?_
    exact zx_iret hC hE (Nat.le_refl _) (Nat.le_refl _) (fun H h => ⟨h, rfl⟩) dX2_adds_54
  · refine zx_iload hC dX2_adds_26 rfl ?_
    refine zx_bipush (z := 36) hC dX2_adds_28 rfl ?_
    refine zx_icmp_lt (tgt := 37) hC dX2_adds_30 (by decide) (by first | assumption | exact gI _ (by omega) | exact iRm (by omega) (by omega)) (by first | assumption | exact gI _ (by omega) | exact iRm (by omega) (by omega)) (fun c30 => ?_) (fun c30 => ?_)
    · refine zx_aload_n hC dX2_adds_37 rfl ?_
      refine zx_iload_n hC dX2_adds_38 rfl ?_
      refine zx_iload_n hC dX2_adds_39 rfl ?_
      refine zx_aload_n hC dX2_adds_40 rfl ?_
      refine zx_bipush (z := 14) hC dX2_adds_41 rfl ?_
      refine zx_iload_n hC dX2_adds_43 rfl ?_
      refine zx_iadd hC dX2_adds_44 ?_
      refine zx_rd1 (r := .int (iI ((h (14 + l) : Nat) : Int))) hC zNoA (zcV 1 (As := [.int (iI ((14 + l : Nat) : Int))]) hC (lw_V q1651 q1653 qs35 q93 q1654) (by decide +kernel) rfl (by rw [hRm]; decide) (by rw [hRm]; decide) rfl (Nat.le_of_ble_eq_true rfl) dX2_adds_45) (m_X2_of (zl X) G ad h F r (14 + l) (by first | assumption | omega | exact iRm (by omega) (by omega) | (repeat (first | exact gL | refine rLs.up ?_ (by omega) (by omega) | refine rLs.fad ?_)) | (repeat (first | exact gM | refine rHM.up ?_ (by omega))) | exact gT _ (by omega) | exact rFadF_le gF _ | ((repeat first | rw [va_up_ne _ _ (by omega)] | rw [va_up_self] | rw [rFadH_o (by omega)] | rw [rAge_o _ _ (by omega)] | rw [rLayH_o (by omega) (by omega) (by omega) (by omega)]); omega))) (zr_rc hC hP.eq) hP.eq ?_
      refine zx_irem hC dX2_adds_48 (by first | assumption | exact gI _ (by omega) | exact iRm (by omega) (by omega)) (by first | assumption | exact gI _ (by omega) | exact iRm (by omega) (by omega)) (by omega) (by omega) ?_
      refine zx_iload hC dX2_adds_49 rfl ?_
      refine zx_rd1 (r := .int (iI ((F l (c % (h (14 + l))) (k + (12 * (h 2))) : Nat) : Int))) hC zNoA (zcV 3 (As := [.int (iI ((l : Nat) : Int)), .int (iI ((c % (h (14 + l)) : Nat) : Int)), .int (iI ((k + (12 * (h 2)) : Nat) : Int))]) hC (lw_V q1679 q1681 qs42 q93 q1682) (by decide +kernel) rfl (by rw [hRm]; decide) (by rw [hRm]; decide) rfl (Nat.le_of_ble_eq_true rfl) dX2_adds_51) (m_X2_force (zl X) G ad h F r l (c % (h (14 + l))) (k + (12 * (h 2))) (by first | assumption | omega | exact iRm (by omega) (by omega) | (repeat (first | exact gL | refine rLs.up ?_ (by omega) (by omega) | refine rLs.fad ?_)) | (repeat (first | exact gM | refine rHM.up ?_ (by omega))) | exact gT _ (by omega) | exact rFadF_le gF _ | ((repeat first | rw [va_up_ne _ _ (by omega)] | rw [va_up_self] | rw [rFadH_o (by omega)] | rw [rAge_o _ _ (by omega)] | rw [rLayH_o (by omega) (by omega) (by omega) (by omega)]); omega)) (by first | assumption | omega | exact iRm (by omega) (by omega) | (repeat (first | exact gL | refine rLs.up ?_ (by omega) (by omega) | refine rLs.fad ?_)) | (repeat (first | exact gM | refine rHM.up ?_ (by omega))) | exact gT _ (by omega) | exact rFadF_le gF _ | ((repeat first | rw [va_up_ne _ _ (by omega)] | rw [va_up_self] | rw [rFadH_o (by omega)] | rw [rAge_o _ _ (by omega)] | rw [rLayH_o (by omega) (by omega) (by omega) (by omega)]); omega)) (by first | assumption | omega | exact iRm (by omega) (by omega) | (repeat (first | exact gL | refine rLs.up ?_ (by omega) (by omega) | refine rLs.fad ?_)) | (repeat (first | exact gM | refine rHM.up ?_ (by omega))) | exact gT _ (by omega) | exact rFadF_le gF _ | ((repeat first | rw [va_up_ne _ _ (by omega)] | rw [va_up_self] | rw [rFadH_o (by omega)] | rw [rAge_o _ _ (by omega)] | rw [rLayH_o (by omega) (by omega) (by omega) (by omega)]); omega))) (zr_rc hC hP.eq) hP.eq ?_
      refine zx_topi (b := ((rAdds h F l c k : Nat) : Int)) (by unfold rAdds; first | (rw [if_pos (by omega)]; first | done | rfl) | (rw [if_neg (by omega)]; first | done | rfl)) ?_
      exact zx_iret hC hE (Nat.le_refl _) (Nat.le_refl _) (fun H h => ⟨h, rfl⟩) dX2_adds_54
    · refine zx_iconst (z := 0) hC dX2_adds_33 ?_
      refine zx_goto (tgt := 54) hC dX2_adds_34 (by decide) ?_
      refine zx_topi (b := ((rAdds h F l c k : Nat) : Int)) (by unfold rAdds; first | (rw [if_pos (by omega)]; first | done | rfl) | (rw [if_neg (by omega)]; first | done | rfl)) ?_
      exact zx_iret hC hE (Nat.le_refl _) (Nat.le_refl _) (fun H h => ⟨h, rfl⟩) dX2_adds_54
set_option maxHeartbeats 4000000 in
theorem m_X2_ringOf (la : Launch) (G : zG) (ad : Nat → Nat) (h : Nat → Nat) (F : Nat → Nat → Nat → Nat) (r : zR5) (m : Nat) (c : Nat) (k : Nat) (g0 : m ≤ h 7) (g1 : c < 1000) (g2 : k < 36) (g3 : h 2 ≤ 1) (gM : rHM h) (gL : rLs h) : zRd la yX2_ringOf cX2_ringOf 6 (some .int) 2 47 G [.ref (ad 0), .int (iI ((m : Nat) : Int)), .int (iI ((c : Nat) : Int)), .int (iI ((k : Nat) : Int))] (zRf G ad ((h, F), r)) (fun v9 => v9 = some (.int (iI ((rRing h F m c k : Nat) : Int)))) := by
  refine zRd.of [some (.ref (ad 0)), some (.int (iI ((m : Nat) : Int))), some (.int (iI ((c : Nat) : Int))), some (.int (iI ((k : Nat) : Int))), none, none] (by decide) (Nat.le_of_ble_eq_true rfl) rfl (fun X hl hC hRm hP hE => ?_)
  have g7 := gL.1
  refine zx_iconst (z := 0) hC dX2_ringOf_0 ?_
  refine zx_istore (L' := [some (.ref (ad 0)), some (.int (iI ((m : Nat) : Int))), some (.int (iI ((c : Nat) : Int))), some (.int (iI ((k : Nat) : Int))), some (.int (iI 0)), none]) hC dX2_ringOf_1 (by decide) rfl ?_
  refine zx_iconst (z := 0) hC dX2_ringOf_3 ?_
  refine zx_istore (L' := [some (.ref (ad 0)), some (.int (iI ((m : Nat) : Int))), some (.int (iI ((c : Nat) : Int))), some (.int (iI ((k : Nat) : Int))), some (.int (iI 0)), some (.int (iI 0))]) hC dX2_ringOf_4 (by decide) rfl ?_
  have loop : ∀ n i : Nat, i + n = m → zVr X 6 6 [some (.ref (ad 0)), some (.int (iI ((m : Nat) : Int))), some (.int (iI ((c : Nat) : Int))), some (.int (iI ((k : Nat) : Int))), some (.int (iI ((rRing h F i c k : Nat) : Int))), some (.int (iI ((i : Nat) : Int)))] [] := by
    intro n
    induction n with
    | zero =>
      intro i hi 
      have hiN : i = m := by omega
      rw [hiN]
      refine zx_iload hC dX2_ringOf_6 rfl ?_
      refine zx_iload_n hC dX2_ringOf_8 rfl ?_
      refine zx_icmp_geT (tgt := 31) hC dX2_ringOf_9 (by decide) (by first | assumption | exact gI _ (by omega) | exact iRm (by omega) (by omega)) (by first | assumption | exact gI _ (by omega) | exact iRm (by omega) (by omega)) (by omega) ?_
      refine zx_iload hC dX2_ringOf_31 rfl ?_
      exact zx_iret hC hE (Nat.le_refl _) (Nat.le_refl _) (fun H h => ⟨h, rfl⟩) dX2_ringOf_33
    | succ n ih =>
      intro i hi 
      have gi := gM i (by omega)
      refine zx_iload hC dX2_ringOf_6 rfl ?_
      refine zx_iload_n hC dX2_ringOf_8 rfl ?_
      refine zx_icmp_geF (tgt := 31) hC dX2_ringOf_9 (by decide) (by first | assumption | exact gI _ (by omega) | exact iRm (by omega) (by omega)) (by first | assumption | exact gI _ (by omega) | exact iRm (by omega) (by omega)) (by omega) ?_
      refine zx_iload hC dX2_ringOf_12 rfl ?_
      refine zx_aload_n hC dX2_ringOf_14 rfl ?_
      refine zx_iload hC dX2_ringOf_15 rfl ?_
      refine zx_iload_n hC dX2_ringOf_17 rfl ?_
      refine zx_iload_n hC dX2_ringOf_18 rfl ?_
      refine zx_rd1 (r := .int (iI ((rAdds h F i c k : Nat) : Int))) hC zNoA (zcV 3 (As := [.int (iI ((i : Nat) : Int)), .int (iI ((c : Nat) : Int)), .int (iI ((k : Nat) : Int))]) hC (lw_V q1887 q1889 qs74 q93 q1890) (by decide +kernel) rfl (by rw [hRm]; decide) (by rw [hRm]; decide) rfl (Nat.le_of_ble_eq_true rfl) dX2_ringOf_19) (m_X2_adds (zl X) G ad h F r i c k (by first | assumption | omega | exact iRm (by omega) (by omega) | (repeat (first | exact gL | refine rLs.up ?_ (by omega) (by omega) | refine rLs.fad ?_)) | (repeat (first | exact gM | refine rHM.up ?_ (by omega))) | exact gT _ (by omega) | exact rFadF_le gF _ | ((repeat first | rw [va_up_ne _ _ (by omega)] | rw [va_up_self] | rw [rFadH_o (by omega)] | rw [rAge_o _ _ (by omega)] | rw [rLayH_o (by omega) (by omega) (by omega) (by omega)]); omega)) (by first | assumption | omega | exact iRm (by omega) (by omega) | (repeat (first | exact gL | refine rLs.up ?_ (by omega) (by omega) | refine rLs.fad ?_)) | (repeat (first | exact gM | refine rHM.up ?_ (by omega))) | exact gT _ (by omega) | exact rFadF_le gF _ | ((repeat first | rw [va_up_ne _ _ (by omega)] | rw [va_up_self] | rw [rFadH_o (by omega)] | rw [rAge_o _ _ (by omega)] | rw [rLayH_o (by omega) (by omega) (by omega) (by omega)]); omega)) (by first | assumption | omega | exact iRm (by omega) (by omega) | (repeat (first | exact gL | refine rLs.up ?_ (by omega) (by omega) | refine rLs.fad ?_)) | (repeat (first | exact gM | refine rHM.up ?_ (by omega))) | exact gT _ (by omega) | exact rFadF_le gF _ | ((repeat first | rw [va_up_ne _ _ (by omega)] | rw [va_up_self] | rw [rFadH_o (by omega)] | rw [rAge_o _ _ (by omega)] | rw [rLayH_o (by omega) (by omega) (by omega) (by omega)]); omega)) (by first | assumption | omega | exact iRm (by omega) (by omega) | (repeat (first | exact gL | refine rLs.up ?_ (by omega) (by omega) | refine rLs.fad ?_)) | (repeat (first | exact gM | refine rHM.up ?_ (by omega))) | exact gT _ (by omega) | exact rFadF_le gF _ | ((repeat first | rw [va_up_ne _ _ (by omega)] | rw [va_up_self] | rw [rFadH_o (by omega)] | rw [rAge_o _ _ (by omega)] | rw [rLayH_o (by omega) (by omega) (by omega) (by omega)]); omega)) (by first | assumption | omega | exact iRm (by omega) (by omega) | (repeat (first | exact gL | refine rLs.up ?_ (by omega) (by omega) | refine rLs.fad ?_)) | (repeat (first | exact gM | refine rHM.up ?_ (by omega))) | exact gT _ (by omega) | exact rFadF_le gF _ | ((repeat first | rw [va_up_ne _ _ (by omega)] | rw [va_up_self] | rw [rFadH_o (by omega)] | rw [rAge_o _ _ (by omega)] | rw [rLayH_o (by omega) (by omega) (by omega) (by omega)]); omega)) (by first | assumption | omega | exact iRm (by omega) (by omega) | (repeat (first | exact gL | refine rLs.up ?_ (by omega) (by omega) | refine rLs.fad ?_)) | (repeat (first | exact gM | refine rHM.up ?_ (by omega))) | exact gT _ (by omega) | exact rFadF_le gF _ | ((repeat first | rw [va_up_ne _ _ (by omega)] | rw [va_up_self] | rw [rFadH_o (by omega)] | rw [rAge_o _ _ (by omega)] | rw [rLayH_o (by omega) (by omega) (by omega) (by omega)]); omega))) (zr_rc hC hP.eq) hP.eq ?_
      refine zx_iadd hC dX2_ringOf_22 ?_
      refine zx_istore (L' := [some (.ref (ad 0)), some (.int (iI ((m : Nat) : Int))), some (.int (iI ((c : Nat) : Int))), some (.int (iI ((k : Nat) : Int))), some (.int (iI (((rRing h F i c k) + (rAdds h F i c k) : Nat) : Int))), some (.int (iI ((i : Nat) : Int)))]) hC dX2_ringOf_23 (by decide) rfl ?_
      refine zx_iinc (b := ((i + 1 : Nat) : Int)) (L' := [some (.ref (ad 0)), some (.int (iI ((m : Nat) : Int))), some (.int (iI ((c : Nat) : Int))), some (.int (iI ((k : Nat) : Int))), some (.int (iI (((rRing h F i c k) + (rAdds h F i c k) : Nat) : Int))), some (.int (iI ((i + 1 : Nat) : Int)))]) hC dX2_ringOf_25 rfl (by first | rfl | omega) (by decide) rfl ?_
      refine zx_goto (tgt := 6) hC dX2_ringOf_28 (by decide) ?_
      exact ih (i + 1) (by omega) 
  exact loop (m) 0 (by omega) 
set_option maxHeartbeats 4000000 in
theorem m_X2_sumIn (la : Launch) (G : zG) (ad : Nat → Nat) (h : Nat → Nat) (F : Nat → Nat → Nat → Nat) (r : zR5) (m : Nat) (c : Nat) (g0 : m ≤ h 7) (g1 : c < 1000) (g2 : h 2 ≤ 1) (gM : rHM h) (gL : rLs h) : zRd la yX2_sumIn cX2_sumIn 5 (some .int) 3 72 G [.ref (ad 0), .int (iI ((m : Nat) : Int)), .int (iI ((c : Nat) : Int))] (zRf G ad ((h, F), r)) (fun v9 => v9 = some (.int (iI ((rSum h F m c : Nat) : Int)))) := by
  refine zRd.of [some (.ref (ad 0)), some (.int (iI ((m : Nat) : Int))), some (.int (iI ((c : Nat) : Int))), none, none] (by decide) (Nat.le_of_ble_eq_true rfl) rfl (fun X hl hC hRm hP hE => ?_)
  refine zx_iconst (z := 0) hC dX2_sumIn_0 ?_
  refine zx_istore_n (L' := [some (.ref (ad 0)), some (.int (iI ((m : Nat) : Int))), some (.int (iI ((c : Nat) : Int))), some (.int (iI 0)), none]) hC dX2_sumIn_1 (by decide) rfl ?_
  refine zx_iconst (z := 0) hC dX2_sumIn_2 ?_
  refine zx_istore (L' := [some (.ref (ad 0)), some (.int (iI ((m : Nat) : Int))), some (.int (iI ((c : Nat) : Int))), some (.int (iI 0)), some (.int (iI 0))]) hC dX2_sumIn_3 (by decide) rfl ?_
  have loop : ∀ n i : Nat, i + n = 36 → zVr X 5 5 [some (.ref (ad 0)), some (.int (iI ((m : Nat) : Int))), some (.int (iI ((c : Nat) : Int))), some (.int (iI ((zsumT (fun k => rRing h F m c k) i : Nat) : Int))), some (.int (iI ((i : Nat) : Int)))] [] := by
    intro n
    induction n with
    | zero =>
      intro i hi 
      have hiN : i = 36 := by omega
      rw [hiN]
      refine zx_iload hC dX2_sumIn_5 rfl ?_
      refine zx_bipush (z := 36) hC dX2_sumIn_7 rfl ?_
      refine zx_icmp_geT (tgt := 29) hC dX2_sumIn_9 (by decide) (by first | assumption | exact gI _ (by omega) | exact iRm (by omega) (by omega)) (by first | assumption | exact gI _ (by omega) | exact iRm (by omega) (by omega)) (by omega) ?_
      refine zx_iload_n hC dX2_sumIn_29 rfl ?_
      refine zx_topi (b := ((rSum h F m c : Nat) : Int)) (by rfl) ?_
      exact zx_iret hC hE (Nat.le_refl _) (Nat.le_refl _) (fun H h => ⟨h, rfl⟩) dX2_sumIn_30
    | succ n ih =>
      intro i hi 
      refine zx_iload hC dX2_sumIn_5 rfl ?_
      refine zx_bipush (z := 36) hC dX2_sumIn_7 rfl ?_
      refine zx_icmp_geF (tgt := 29) hC dX2_sumIn_9 (by decide) (by first | assumption | exact gI _ (by omega) | exact iRm (by omega) (by omega)) (by first | assumption | exact gI _ (by omega) | exact iRm (by omega) (by omega)) (by omega) ?_
      refine zx_iload_n hC dX2_sumIn_12 rfl ?_
      refine zx_aload_n hC dX2_sumIn_13 rfl ?_
      refine zx_iload_n hC dX2_sumIn_14 rfl ?_
      refine zx_iload_n hC dX2_sumIn_15 rfl ?_
      refine zx_iload hC dX2_sumIn_16 rfl ?_
      refine zx_rd1 (r := .int (iI ((rRing h F m c i : Nat) : Int))) hC zNoA (zcV 3 (As := [.int (iI ((m : Nat) : Int)), .int (iI ((c : Nat) : Int)), .int (iI ((i : Nat) : Int))]) hC (lw_V q1883 q1885 qs73 q93 q1886) (by decide +kernel) rfl (by rw [hRm]; decide) (by rw [hRm]; decide) rfl (Nat.le_of_ble_eq_true rfl) dX2_sumIn_18) (m_X2_ringOf (zl X) G ad h F r m c i (by first | assumption | omega | exact iRm (by omega) (by omega) | (repeat (first | exact gL | refine rLs.up ?_ (by omega) (by omega) | refine rLs.fad ?_)) | (repeat (first | exact gM | refine rHM.up ?_ (by omega))) | exact gT _ (by omega) | exact rFadF_le gF _ | ((repeat first | rw [va_up_ne _ _ (by omega)] | rw [va_up_self] | rw [rFadH_o (by omega)] | rw [rAge_o _ _ (by omega)] | rw [rLayH_o (by omega) (by omega) (by omega) (by omega)]); omega)) (by first | assumption | omega | exact iRm (by omega) (by omega) | (repeat (first | exact gL | refine rLs.up ?_ (by omega) (by omega) | refine rLs.fad ?_)) | (repeat (first | exact gM | refine rHM.up ?_ (by omega))) | exact gT _ (by omega) | exact rFadF_le gF _ | ((repeat first | rw [va_up_ne _ _ (by omega)] | rw [va_up_self] | rw [rFadH_o (by omega)] | rw [rAge_o _ _ (by omega)] | rw [rLayH_o (by omega) (by omega) (by omega) (by omega)]); omega)) (by first | assumption | omega | exact iRm (by omega) (by omega) | (repeat (first | exact gL | refine rLs.up ?_ (by omega) (by omega) | refine rLs.fad ?_)) | (repeat (first | exact gM | refine rHM.up ?_ (by omega))) | exact gT _ (by omega) | exact rFadF_le gF _ | ((repeat first | rw [va_up_ne _ _ (by omega)] | rw [va_up_self] | rw [rFadH_o (by omega)] | rw [rAge_o _ _ (by omega)] | rw [rLayH_o (by omega) (by omega) (by omega) (by omega)]); omega)) (by first | assumption | omega | exact iRm (by omega) (by omega) | (repeat (first | exact gL | refine rLs.up ?_ (by omega) (by omega) | refine rLs.fad ?_)) | (repeat (first | exact gM | refine rHM.up ?_ (by omega))) | exact gT _ (by omega) | exact rFadF_le gF _ | ((repeat first | rw [va_up_ne _ _ (by omega)] | rw [va_up_self] | rw [rFadH_o (by omega)] | rw [rAge_o _ _ (by omega)] | rw [rLayH_o (by omega) (by omega) (by omega) (by omega)]); omega)) (by first | assumption | omega | exact iRm (by omega) (by omega) | (repeat (first | exact gL | refine rLs.up ?_ (by omega) (by omega) | refine rLs.fad ?_)) | (repeat (first | exact gM | refine rHM.up ?_ (by omega))) | exact gT _ (by omega) | exact rFadF_le gF _ | ((repeat first | rw [va_up_ne _ _ (by omega)] | rw [va_up_self] | rw [rFadH_o (by omega)] | rw [rAge_o _ _ (by omega)] | rw [rLayH_o (by omega) (by omega) (by omega) (by omega)]); omega)) (by first | assumption | omega | exact iRm (by omega) (by omega) | (repeat (first | exact gL | refine rLs.up ?_ (by omega) (by omega) | refine rLs.fad ?_)) | (repeat (first | exact gM | refine rHM.up ?_ (by omega))) | exact gT _ (by omega) | exact rFadF_le gF _ | ((repeat first | rw [va_up_ne _ _ (by omega)] | rw [va_up_self] | rw [rFadH_o (by omega)] | rw [rAge_o _ _ (by omega)] | rw [rLayH_o (by omega) (by omega) (by omega) (by omega)]); omega))) (zr_rc hC hP.eq) hP.eq ?_
      refine zx_iadd hC dX2_sumIn_21 ?_
      refine zx_istore_n (L' := [some (.ref (ad 0)), some (.int (iI ((m : Nat) : Int))), some (.int (iI ((c : Nat) : Int))), some (.int (iI (((zsumT (fun k => rRing h F m c k) i) + (rRing h F m c i) : Nat) : Int))), some (.int (iI ((i : Nat) : Int)))]) hC dX2_sumIn_22 (by decide) rfl ?_
      refine zx_iinc (b := ((i + 1 : Nat) : Int)) (L' := [some (.ref (ad 0)), some (.int (iI ((m : Nat) : Int))), some (.int (iI ((c : Nat) : Int))), some (.int (iI (((zsumT (fun k => rRing h F m c k) i) + (rRing h F m c i) : Nat) : Int))), some (.int (iI ((i + 1 : Nat) : Int)))]) hC dX2_sumIn_23 rfl (by first | rfl | omega) (by decide) rfl ?_
      refine zx_goto (tgt := 5) hC dX2_sumIn_26 (by decide) ?_
      exact ih (i + 1) (by omega) 
  exact loop (36) 0 (by omega) 
set_option maxHeartbeats 4000000 in
theorem m_X2_isCell (la : Launch) (G : zG) (ad : Nat → Nat) (h : Nat → Nat) (F : Nat → Nat → Nat → Nat) (r : zR5) (z : Int) (g0 : iR z) (gL : rLs h) : zRd la yX2_isCell cX2_isCell 2 (some .boolean) 3 64 G [.ref (ad 0), .int (iI z)] (zRf G ad ((h, F), r)) (fun v9 => v9 = some (.int (iI (zB (0 ≤ z ∧ z ≤ ((rLoop h : Nat) : Int) - 1))))) := by
  refine zRd.of [some (.ref (ad 0)), some (.int (iI z))] (by decide) (Nat.le_of_ble_eq_true rfl) rfl (fun X hl hC hRm hP hE => ?_)
  have gl := rLoop_le gL
  refine zx_iload_n hC dX2_isCell_0 rfl ?_
  refine zx_iconst (z := 0) hC dX2_isCell_1 ?_
  refine zx_aload_n hC dX2_isCell_2 rfl ?_
  refine zx_rd1 (r := .int (iI ((rLoop h : Nat) : Int))) hC zNoA (zcV 0 (As := []) hC (lw_V q1705 q1707 qs47 q93 q1708) (by decide +kernel) rfl (by rw [hRm]; decide) (by rw [hRm]; decide) rfl (Nat.le_of_ble_eq_true rfl) dX2_isCell_3) (m_X2_loop (zl X) G ad h F r  (by first | assumption | omega | exact iRm (by omega) (by omega) | (repeat (first | exact gL | refine rLs.up ?_ (by omega) (by omega) | refine rLs.fad ?_)) | (repeat (first | exact gM | refine rHM.up ?_ (by omega))) | exact gT _ (by omega) | exact rFadF_le gF _ | ((repeat first | rw [va_up_ne _ _ (by omega)] | rw [va_up_self] | rw [rFadH_o (by omega)] | rw [rAge_o _ _ (by omega)] | rw [rLayH_o (by omega) (by omega) (by omega) (by omega)]); omega))) (zr_rc hC hP.eq) hP.eq ?_
  refine zx_iconst (z := 1) hC dX2_isCell_6 ?_
  refine zx_isub hC dX2_isCell_7 ?_
  refine zx_rd1 (r := .int (iI (zB (0 ≤ z ∧ z ≤ (((rLoop h : Nat) : Int) - 1))))) hC zNoA (zcS 3 (As := [.int (iI z), .int (iI 0), .int (iI (((rLoop h : Nat) : Int) - 1))]) hC (lw_S q1743 q1744 q93 q1745) (by decide +kernel) rfl (by rw [hRm]; decide) (by rw [hRm]; decide) rfl (Nat.le_of_ble_eq_true rfl) dX2_isCell_8) (m_X2_in (zl X) G z 0 (((rLoop h : Nat) : Int) - 1) (by first | assumption | omega | exact iRm (by omega) (by omega) | (repeat (first | exact gL | refine rLs.up ?_ (by omega) (by omega) | refine rLs.fad ?_)) | (repeat (first | exact gM | refine rHM.up ?_ (by omega))) | exact gT _ (by omega) | exact rFadF_le gF _ | ((repeat first | rw [va_up_ne _ _ (by omega)] | rw [va_up_self] | rw [rFadH_o (by omega)] | rw [rAge_o _ _ (by omega)] | rw [rLayH_o (by omega) (by omega) (by omega) (by omega)]); omega)) (by first | assumption | omega | exact iRm (by omega) (by omega) | (repeat (first | exact gL | refine rLs.up ?_ (by omega) (by omega) | refine rLs.fad ?_)) | (repeat (first | exact gM | refine rHM.up ?_ (by omega))) | exact gT _ (by omega) | exact rFadF_le gF _ | ((repeat first | rw [va_up_ne _ _ (by omega)] | rw [va_up_self] | rw [rFadH_o (by omega)] | rw [rAge_o _ _ (by omega)] | rw [rLayH_o (by omega) (by omega) (by omega) (by omega)]); omega)) (by first | assumption | omega | exact iRm (by omega) (by omega) | (repeat (first | exact gL | refine rLs.up ?_ (by omega) (by omega) | refine rLs.fad ?_)) | (repeat (first | exact gM | refine rHM.up ?_ (by omega))) | exact gT _ (by omega) | exact rFadF_le gF _ | ((repeat first | rw [va_up_ne _ _ (by omega)] | rw [va_up_self] | rw [rFadH_o (by omega)] | rw [rAge_o _ _ (by omega)] | rw [rLayH_o (by omega) (by omega) (by omega) (by omega)]); omega))) (fun _ _ => trivial) (fun _ _ => trivial) ?_
  refine zx_topi (b := zB (0 ≤ z ∧ z ≤ ((rLoop h : Nat) : Int) - 1)) (by rfl) ?_
  exact zx_nret hC hE (znar (by exact zB_01 _)) (Nat.le_refl _) (Nat.le_refl _) (fun H h => ⟨h, rfl⟩) dX2_isCell_11
set_option maxHeartbeats 4000000 in
theorem m_X2_keys (la : Launch) (G : zG) (ad : Nat → Nat) (h : Nat → Nat) (F : Nat → Nat → Nat → Nat) (r : zR5) (c : Nat) (what : Nat) (g0 : c < 1000) (g1 : what ≤ 4) (g2 : h 2 ≤ 1) (gM : rHM h) (gL : rLs h) (gF : rFb F) : zRd la yX2_keys cX2_keys 9 (some .int) 3 72 G [.ref (ad 0), .int (iI ((c : Nat) : Int)), .int (iI ((what : Nat) : Int))] (zRf G ad ((h, F), r)) (fun v9 => v9 = some (.int (iI (rKeys h F c what)))) := by
  refine zRd.of [some (.ref (ad 0)), some (.int (iI ((c : Nat) : Int))), some (.int (iI ((what : Nat) : Int))), none, none, none, none, none, none] (by decide) (Nat.le_of_ble_eq_true rfl) rfl (fun X hl hC hRm hP hE => ?_)
  have g7 := gL.1
  refine zx_iconst (z := 0) hC dX2_keys_0 ?_
  refine zx_istore_n (L' := [some (.ref (ad 0)), some (.int (iI ((c : Nat) : Int))), some (.int (iI ((what : Nat) : Int))), some (.int (iI 0)), none, none, none, none, none]) hC dX2_keys_1 (by decide) rfl ?_
  refine zx_bipush (z := (-4)) hC dX2_keys_2 rfl ?_
  refine zx_istore (L' := [some (.ref (ad 0)), some (.int (iI ((c : Nat) : Int))), some (.int (iI ((what : Nat) : Int))), some (.int (iI 0)), some (.int (iI (-4))), none, none, none, none]) hC dX2_keys_4 (by decide) rfl ?_
  refine zx_iconst (z := 0) hC dX2_keys_6 ?_
  refine zx_istore (L' := [some (.ref (ad 0)), some (.int (iI ((c : Nat) : Int))), some (.int (iI ((what : Nat) : Int))), some (.int (iI 0)), some (.int (iI (-4))), some (.int (iI 0)), none, none, none]) hC dX2_keys_7 (by decide) rfl ?_
  refine zx_iconst (z := 0) hC dX2_keys_9 ?_
  refine zx_istore (L' := [some (.ref (ad 0)), some (.int (iI ((c : Nat) : Int))), some (.int (iI ((what : Nat) : Int))), some (.int (iI 0)), some (.int (iI (-4))), some (.int (iI 0)), some (.int (iI 0)), none, none]) hC dX2_keys_10 (by decide) rfl ?_
  have loop : ∀ n i : Nat, i + n = 36 → zVr X 9 12 [some (.ref (ad 0)), some (.int (iI ((c : Nat) : Int))), some (.int (iI ((what : Nat) : Int))), some (.int (iI ((zsumT (fun k => zN (0 < rRing h F (h 7) c k)) i : Nat) : Int))), some (.int (iI (rFnd (fun k => rRing h F (h 7) c k) what i))), some (.int (iI ((zmaxT (fun k => rRing h F (h 7) c k) i : Nat) : Int))), some (.int (iI ((i : Nat) : Int))), none, none] [] := by
    intro n
    induction n with
    | zero =>
      intro i hi 
      have hiN : i = 36 := by omega
      rw [hiN]
      refine zx_iload hC dX2_keys_12 rfl ?_
      refine zx_bipush (z := 36) hC dX2_keys_14 rfl ?_
      refine zx_icmp_geT (tgt := 138) hC dX2_keys_16 (by decide) (by first | assumption | exact gI _ (by omega) | exact iRm (by omega) (by omega)) (by first | assumption | exact gI _ (by omega) | exact iRm (by omega) (by omega)) (by omega) ?_
      refine zx_iload_n hC dX2_keys_138 rfl ?_
      refine zx_if_ne (tgt := 146) hC dX2_keys_139 (by decide) (by first | assumption | exact gI _ (by omega) | exact iRm (by omega) (by omega)) (fun c139 => ?_) (fun c139 => ?_)
      · refine zx_iload hC dX2_keys_146 rfl ?_
        refine zx_topi (b := rKeys h F c what) (by unfold rKeys; first | (rw [if_pos (by omega)]; first | done | rfl) | (rw [if_neg (by omega)]; first | done | rfl)) ?_
        exact zx_iret hC hE (Nat.le_refl _) (Nat.le_refl _) (fun H h => ⟨h, rfl⟩) dX2_keys_148
      · refine zx_iload_n hC dX2_keys_142 rfl ?_
        refine zx_goto (tgt := 148) hC dX2_keys_143 (by decide) ?_
        refine zx_topi (b := rKeys h F c what) (by unfold rKeys; first | (rw [if_pos (by omega)]; first | done | rfl) | (rw [if_neg (by omega)]; first | done | rfl)) ?_
        exact zx_iret hC hE (Nat.le_refl _) (Nat.le_refl _) (fun H h => ⟨h, rfl⟩) dX2_keys_148
    | succ n ih =>
      intro i hi 
      have gr := rRing_le (h := h) gF (h 7) c i
      have gf := rFnd_r (fun k => rRing h F (h 7) c k) what i
      have gm := zmaxT_le (g := fun k => rRing h F (h 7) c k) (B := 99 * h 7) i (fun j _ => rRing_le gF _ _ _)
      have gs := zsumT_le (g := fun k => zN (0 < rRing h F (h 7) c k)) (B := 1) i (fun j _ => zN_le _)
      refine zx_iload hC dX2_keys_12 rfl ?_
      refine zx_bipush (z := 36) hC dX2_keys_14 rfl ?_
      refine zx_icmp_geF (tgt := 138) hC dX2_keys_16 (by decide) (by first | assumption | exact gI _ (by omega) | exact iRm (by omega) (by omega)) (by first | assumption | exact gI _ (by omega) | exact iRm (by omega) (by omega)) (by omega) ?_
      refine zx_aload_n hC dX2_keys_19 rfl ?_
      refine zx_aload_n hC dX2_keys_20 rfl ?_
      refine zx_bipush (z := 7) hC dX2_keys_21 rfl ?_
      refine zx_rd1 (r := .int (iI ((h 7 : Nat) : Int))) hC zNoA (zcV 1 (As := [.int (iI 7)]) hC (lw_V q1651 q1653 qs35 q93 q1654) (by decide +kernel) rfl (by rw [hRm]; decide) (by rw [hRm]; decide) rfl (Nat.le_of_ble_eq_true rfl) dX2_keys_23) (m_X2_of (zl X) G ad h F r 7 (by first | assumption | omega | exact iRm (by omega) (by omega) | (repeat (first | exact gL | refine rLs.up ?_ (by omega) (by omega) | refine rLs.fad ?_)) | (repeat (first | exact gM | refine rHM.up ?_ (by omega))) | exact gT _ (by omega) | exact rFadF_le gF _ | ((repeat first | rw [va_up_ne _ _ (by omega)] | rw [va_up_self] | rw [rFadH_o (by omega)] | rw [rAge_o _ _ (by omega)] | rw [rLayH_o (by omega) (by omega) (by omega) (by omega)]); omega))) (zr_rc hC hP.eq) hP.eq ?_
      refine zx_iload_n hC dX2_keys_26 rfl ?_
      refine zx_iload hC dX2_keys_27 rfl ?_
      refine zx_rd1 (r := .int (iI ((rRing h F (h 7) c i : Nat) : Int))) hC zNoA (zcV 3 (As := [.int (iI ((h 7 : Nat) : Int)), .int (iI ((c : Nat) : Int)), .int (iI ((i : Nat) : Int))]) hC (lw_V q1883 q1885 qs73 q93 q1886) (by decide +kernel) rfl (by rw [hRm]; decide) (by rw [hRm]; decide) rfl (Nat.le_of_ble_eq_true rfl) dX2_keys_29) (m_X2_ringOf (zl X) G ad h F r (h 7) c i (by first | assumption | omega | exact iRm (by omega) (by omega) | (repeat (first | exact gL | refine rLs.up ?_ (by omega) (by omega) | refine rLs.fad ?_)) | (repeat (first | exact gM | refine rHM.up ?_ (by omega))) | exact gT _ (by omega) | exact rFadF_le gF _ | ((repeat first | rw [va_up_ne _ _ (by omega)] | rw [va_up_self] | rw [rFadH_o (by omega)] | rw [rAge_o _ _ (by omega)] | rw [rLayH_o (by omega) (by omega) (by omega) (by omega)]); omega)) (by first | assumption | omega | exact iRm (by omega) (by omega) | (repeat (first | exact gL | refine rLs.up ?_ (by omega) (by omega) | refine rLs.fad ?_)) | (repeat (first | exact gM | refine rHM.up ?_ (by omega))) | exact gT _ (by omega) | exact rFadF_le gF _ | ((repeat first | rw [va_up_ne _ _ (by omega)] | rw [va_up_self] | rw [rFadH_o (by omega)] | rw [rAge_o _ _ (by omega)] | rw [rLayH_o (by omega) (by omega) (by omega) (by omega)]); omega)) (by first | assumption | omega | exact iRm (by omega) (by omega) | (repeat (first | exact gL | refine rLs.up ?_ (by omega) (by omega) | refine rLs.fad ?_)) | (repeat (first | exact gM | refine rHM.up ?_ (by omega))) | exact gT _ (by omega) | exact rFadF_le gF _ | ((repeat first | rw [va_up_ne _ _ (by omega)] | rw [va_up_self] | rw [rFadH_o (by omega)] | rw [rAge_o _ _ (by omega)] | rw [rLayH_o (by omega) (by omega) (by omega) (by omega)]); omega)) (by first | assumption | omega | exact iRm (by omega) (by omega) | (repeat (first | exact gL | refine rLs.up ?_ (by omega) (by omega) | refine rLs.fad ?_)) | (repeat (first | exact gM | refine rHM.up ?_ (by omega))) | exact gT _ (by omega) | exact rFadF_le gF _ | ((repeat first | rw [va_up_ne _ _ (by omega)] | rw [va_up_self] | rw [rFadH_o (by omega)] | rw [rAge_o _ _ (by omega)] | rw [rLayH_o (by omega) (by omega) (by omega) (by omega)]); omega)) (by first | assumption | omega | exact iRm (by omega) (by omega) | (repeat (first | exact gL | refine rLs.up ?_ (by omega) (by omega) | refine rLs.fad ?_)) | (repeat (first | exact gM | refine rHM.up ?_ (by omega))) | exact gT _ (by omega) | exact rFadF_le gF _ | ((repeat first | rw [va_up_ne _ _ (by omega)] | rw [va_up_self] | rw [rFadH_o (by omega)] | rw [rAge_o _ _ (by omega)] | rw [rLayH_o (by omega) (by omega) (by omega) (by omega)]); omega)) (by first | assumption | omega | exact iRm (by omega) (by omega) | (repeat (first | exact gL | refine rLs.up ?_ (by omega) (by omega) | refine rLs.fad ?_)) | (repeat (first | exact gM | refine rHM.up ?_ (by omega))) | exact gT _ (by omega) | exact rFadF_le gF _ | ((repeat first | rw [va_up_ne _ _ (by omega)] | rw [va_up_self] | rw [rFadH_o (by omega)] | rw [rAge_o _ _ (by omega)] | rw [rLayH_o (by omega) (by omega) (by omega) (by omega)]); omega))) (zr_rc hC hP.eq) hP.eq ?_
      refine zx_istore (L' := [some (.ref (ad 0)), some (.int (iI ((c : Nat) : Int))), some (.int (iI ((what : Nat) : Int))), some (.int (iI ((zsumT (fun k => zN (0 < rRing h F (h 7) c k)) i : Nat) : Int))), some (.int (iI (rFnd (fun k => rRing h F (h 7) c k) what i))), some (.int (iI ((zmaxT (fun k => rRing h F (h 7) c k) i : Nat) : Int))), some (.int (iI ((i : Nat) : Int))), some (.int (iI ((rRing h F (h 7) c i : Nat) : Int))), none]) hC dX2_keys_32 (by decide) rfl ?_
      refine zx_iload_n hC dX2_keys_34 rfl ?_
      have J35 : zVr X 9 45 [some (.ref (ad 0)), some (.int (iI ((c : Nat) : Int))), some (.int (iI ((what : Nat) : Int))), some (.int (iI ((zsumT (fun k => zN (0 < rRing h F (h 7) c k)) i : Nat) : Int))), some (.int (iI (rFnd (fun k => rRing h F (h 7) c k) what i))), some (.int (iI ((zmaxT (fun k => rRing h F (h 7) c k) i : Nat) : Int))), some (.int (iI ((i : Nat) : Int))), some (.int (iI ((rRing h F (h 7) c i : Nat) : Int))), none] [.int (iI ((zN (0 < rRing h F (h 7) c i) : Nat) : Int)), .int (iI ((zsumT (fun k => zN (0 < rRing h F (h 7) c k)) i : Nat) : Int))] := by
        refine zx_iadd hC dX2_keys_45 ?_
        refine zx_istore_n (L' := [some (.ref (ad 0)), some (.int (iI ((c : Nat) : Int))), some (.int (iI ((what : Nat) : Int))), some (.int (iI (((zsumT (fun k => zN (0 < rRing h F (h 7) c k)) i) + (zN (0 < rRing h F (h 7) c i)) : Nat) : Int))), some (.int (iI (rFnd (fun k => rRing h F (h 7) c k) what i))), some (.int (iI ((zmaxT (fun k => rRing h F (h 7) c k) i : Nat) : Int))), some (.int (iI ((i : Nat) : Int))), some (.int (iI ((rRing h F (h 7) c i : Nat) : Int))), none]) hC dX2_keys_46 (by decide) rfl ?_
        have J47 : zVr X 9 100 [some (.ref (ad 0)), some (.int (iI ((c : Nat) : Int))), some (.int (iI ((what : Nat) : Int))), some (.int (iI (((zsumT (fun k => zN (0 < rRing h F (h 7) c k)) i) + (zN (0 < rRing h F (h 7) c i)) : Nat) : Int))), some (.int (iI (rFnd (fun k => rRing h F (h 7) c k) what i))), some (.int (iI ((zmaxT (fun k => rRing h F (h 7) c k) i : Nat) : Int))), some (.int (iI ((i : Nat) : Int))), some (.int (iI ((rRing h F (h 7) c i : Nat) : Int))), none] [.int (iI (zB (if what = 2 then 0 < rRing h F (h 7) c i else if what = 3 then 0 < rRing h F (h 7) c i ∧ rFnd (fun k => rRing h F (h 7) c k) what i < 0 else zmaxT (fun k => rRing h F (h 7) c k) i < rRing h F (h 7) c i)))] := by
          refine zx_istore (L' := [some (.ref (ad 0)), some (.int (iI ((c : Nat) : Int))), some (.int (iI ((what : Nat) : Int))), some (.int (iI (((zsumT (fun k => zN (0 < rRing h F (h 7) c k)) i) + (zN (0 < rRing h F (h 7) c i)) : Nat) : Int))), some (.int (iI (rFnd (fun k => rRing h F (h 7) c k) what i))), some (.int (iI ((zmaxT (fun k => rRing h F (h 7) c k) i : Nat) : Int))), some (.int (iI ((i : Nat) : Int))), some (.int (iI ((rRing h F (h 7) c i : Nat) : Int))), some (.int (iI (zB (if what = 2 then 0 < rRing h F (h 7) c i else if what = 3 then 0 < rRing h F (h 7) c i ∧ rFnd (fun k => rRing h F (h 7) c k) what i < 0 else zmaxT (fun k => rRing h F (h 7) c k) i < rRing h F (h 7) c i))))]) hC dX2_keys_100 (by decide) rfl ?_
          have J102 : zVr X 9 114 [some (.ref (ad 0)), some (.int (iI ((c : Nat) : Int))), some (.int (iI ((what : Nat) : Int))), some (.int (iI (((zsumT (fun k => zN (0 < rRing h F (h 7) c k)) i) + (zN (0 < rRing h F (h 7) c i)) : Nat) : Int))), some (.int (iI (rFnd (fun k => rRing h F (h 7) c k) what i))), some (.int (iI ((zmaxT (fun k => rRing h F (h 7) c k) i : Nat) : Int))), some (.int (iI ((i : Nat) : Int))), some (.int (iI ((rRing h F (h 7) c i : Nat) : Int))), some (.int (iI (zB (if what = 2 then 0 < rRing h F (h 7) c i else if what = 3 then 0 < rRing h F (h 7) c i ∧ rFnd (fun k => rRing h F (h 7) c k) what i < 0 else zmaxT (fun k => rRing h F (h 7) c k) i < rRing h F (h 7) c i))))] [.int (iI (rFnd (fun k => rRing h F (h 7) c k) what (i + 1)))] := by
            refine zx_istore (L' := [some (.ref (ad 0)), some (.int (iI ((c : Nat) : Int))), some (.int (iI ((what : Nat) : Int))), some (.int (iI (((zsumT (fun k => zN (0 < rRing h F (h 7) c k)) i) + (zN (0 < rRing h F (h 7) c i)) : Nat) : Int))), some (.int (iI (rFnd (fun k => rRing h F (h 7) c k) what (i + 1)))), some (.int (iI ((zmaxT (fun k => rRing h F (h 7) c k) i : Nat) : Int))), some (.int (iI ((i : Nat) : Int))), some (.int (iI ((rRing h F (h 7) c i : Nat) : Int))), some (.int (iI (zB (if what = 2 then 0 < rRing h F (h 7) c i else if what = 3 then 0 < rRing h F (h 7) c i ∧ rFnd (fun k => rRing h F (h 7) c k) what i < 0 else zmaxT (fun k => rRing h F (h 7) c k) i < rRing h F (h 7) c i))))]) hC dX2_keys_114 (by decide) rfl ?_
            have J116 : zVr X 9 130 [some (.ref (ad 0)), some (.int (iI ((c : Nat) : Int))), some (.int (iI ((what : Nat) : Int))), some (.int (iI (((zsumT (fun k => zN (0 < rRing h F (h 7) c k)) i) + (zN (0 < rRing h F (h 7) c i)) : Nat) : Int))), some (.int (iI (rFnd (fun k => rRing h F (h 7) c k) what (i + 1)))), some (.int (iI ((zmaxT (fun k => rRing h F (h 7) c k) i : Nat) : Int))), some (.int (iI ((i : Nat) : Int))), some (.int (iI ((rRing h F (h 7) c i : Nat) : Int))), some (.int (iI (zB (if what = 2 then 0 < rRing h F (h 7) c i else if what = 3 then 0 < rRing h F (h 7) c i ∧ rFnd (fun k => rRing h F (h 7) c k) what i < 0 else zmaxT (fun k => rRing h F (h 7) c k) i < rRing h F (h 7) c i))))] [.int (iI ((zmaxT (fun k => rRing h F (h 7) c k) (i + 1) : Nat) : Int))] := by
              refine zx_istore (L' := [some (.ref (ad 0)), some (.int (iI ((c : Nat) : Int))), some (.int (iI ((what : Nat) : Int))), some (.int (iI (((zsumT (fun k => zN (0 < rRing h F (h 7) c k)) i) + (zN (0 < rRing h F (h 7) c i)) : Nat) : Int))), some (.int (iI (rFnd (fun k => rRing h F (h 7) c k) what (i + 1)))), some (.int (iI ((zmaxT (fun k => rRing h F (h 7) c k) (i + 1) : Nat) : Int))), some (.int (iI ((i : Nat) : Int))), some (.int (iI ((rRing h F (h 7) c i : Nat) : Int))), some (.int (iI (zB (if what = 2 then 0 < rRing h F (h 7) c i else if what = 3 then 0 < rRing h F (h 7) c i ∧ rFnd (fun k => rRing h F (h 7) c k) what i < 0 else zmaxT (fun k => rRing h F (h 7) c k) i < rRing h F (h 7) c i))))]) hC dX2_keys_130 (by decide) rfl ?_
              refine zx_iinc (b := ((i + 1 : Nat) : Int)) (L' := [some (.ref (ad 0)), some (.int (iI ((c : Nat) : Int))), some (.int (iI ((what : Nat) : Int))), some (.int (iI (((zsumT (fun k => zN (0 < rRing h F (h 7) c k)) i) + (zN (0 < rRing h F (h 7) c i)) : Nat) : Int))), some (.int (iI (rFnd (fun k => rRing h F (h 7) c k) what (i + 1)))), some (.int (iI ((zmaxT (fun k => rRing h F (h 7) c k) (i + 1) : Nat) : Int))), some (.int (iI ((i + 1 : Nat) : Int))), some (.int (iI ((rRing h F (h 7) c i : Nat) : Int))), some (.int (iI (zB (if what = 2 then 0 < rRing h F (h 7) c i else if what = 3 then 0 < rRing h F (h 7) c i ∧ rFnd (fun k => rRing h F (h 7) c k) what i < 0 else zmaxT (fun k => rRing h F (h 7) c k) i < rRing h F (h 7) c i))))]) hC dX2_keys_132 rfl (by first | rfl | omega) (by decide) rfl ?_
              refine zx_goto (tgt := 12) hC dX2_keys_135 (by decide) ?_
              refine zx_le (L' := [some (.ref (ad 0)), some (.int (iI ((c : Nat) : Int))), some (.int (iI ((what : Nat) : Int))), some (.int (iI (((zsumT (fun k => zN (0 < rRing h F (h 7) c k)) i) + (zN (0 < rRing h F (h 7) c i)) : Nat) : Int))), some (.int (iI (rFnd (fun k => rRing h F (h 7) c k) what (i + 1)))), some (.int (iI ((zmaxT (fun k => rRing h F (h 7) c k) (i + 1) : Nat) : Int))), some (.int (iI ((i + 1 : Nat) : Int))), none, none]) (zle_s (zle_s (zle_s (zle_s (zle_s (zle_s (zle_s (zle_n (zle_n zle_0))))))))) ?_
              exact ih (i + 1) (by omega) 
            refine zx_iload hC dX2_keys_116 rfl ?_
            refine zx_iload hC dX2_keys_118 rfl ?_
            refine zx_icmp_le (tgt := 128) hC dX2_keys_120 (by decide) (by first | assumption | exact gI _ (by omega) | exact iRm (by omega) (by omega)) (by first | assumption | exact gI _ (by omega) | exact iRm (by omega) (by omega)) (fun c120 => ?_) (fun c120 => ?_)
            · refine zx_iload hC dX2_keys_128 rfl ?_
              refine zx_topi (b := ((zmaxT (fun k => rRing h F (h 7) c k) (i + 1) : Nat) : Int)) (by simp only [zmaxT]; first | (rw [if_pos (by omega)]; first | done | rfl) | (rw [if_neg (by omega)]; first | done | rfl)) ?_
              exact J116
            · refine zx_iload hC dX2_keys_123 rfl ?_
              refine zx_goto (tgt := 130) hC dX2_keys_125 (by decide) ?_
              refine zx_topi (b := ((zmaxT (fun k => rRing h F (h 7) c k) (i + 1) : Nat) : Int)) (by simp only [zmaxT]; first | (rw [if_pos (by omega)]; first | done | rfl) | (rw [if_neg (by omega)]; first | done | rfl)) ?_
              exact J116
          refine zx_iload hC dX2_keys_102 rfl ?_
          refine zx_if_eqB (tgt := 112) hC dX2_keys_104 (by decide)  (fun c104 => ?_) (fun c104 => ?_)
          · refine zx_iload hC dX2_keys_112 rfl ?_
            refine zx_topi (b := rFnd (fun k => rRing h F (h 7) c k) what (i + 1)) (by first | exact (if_pos c104).symm | exact (if_neg c104).symm) ?_
            exact J102
          · refine zx_iload hC dX2_keys_107 rfl ?_
            refine zx_goto (tgt := 114) hC dX2_keys_109 (by decide) ?_
            refine zx_topi (b := rFnd (fun k => rRing h F (h 7) c k) what (i + 1)) (by first | exact (if_pos c104).symm | exact (if_neg c104).symm) ?_
            exact J102
        refine zx_iload_n hC dX2_keys_47 rfl ?_
        refine zx_iconst (z := 2) hC dX2_keys_48 ?_
        refine zx_icmp_ne (tgt := 65) hC dX2_keys_49 (by decide) (by first | assumption | exact gI _ (by omega) | exact iRm (by omega) (by omega)) (by first | assumption | exact gI _ (by omega) | exact iRm (by omega) (by omega)) (fun c49 => ?_) (fun c49 => ?_)
        · refine zx_iload_n hC dX2_keys_65 rfl ?_
          refine zx_iconst (z := 3) hC dX2_keys_66 ?_
          refine zx_icmp_ne (tgt := 88) hC dX2_keys_67 (by decide) (by first | assumption | exact gI _ (by omega) | exact iRm (by omega) (by omega)) (by first | assumption | exact gI _ (by omega) | exact iRm (by omega) (by omega)) (fun c67 => ?_) (fun c67 => ?_)
          · refine zx_iload hC dX2_keys_88 rfl ?_
            refine zx_iload hC dX2_keys_90 rfl ?_
            refine zx_icmp_le (tgt := 99) hC dX2_keys_92 (by decide) (by first | assumption | exact gI _ (by omega) | exact iRm (by omega) (by omega)) (by first | assumption | exact gI _ (by omega) | exact iRm (by omega) (by omega)) (fun c92 => ?_) (fun c92 => ?_)
            · refine zx_iconst (z := 0) hC dX2_keys_99 ?_
              refine zx_topi (b := zB (if what = 2 then 0 < rRing h F (h 7) c i else if what = 3 then 0 < rRing h F (h 7) c i ∧ rFnd (fun k => rRing h F (h 7) c k) what i < 0 else zmaxT (fun k => rRing h F (h 7) c k) i < rRing h F (h 7) c i)) (by first | (rw [zB_t (by (repeat' split) <;> omega)]; first | done | rfl) | (rw [zB_f (by (repeat' split) <;> omega)]; first | done | rfl)) ?_
              exact J47
            · refine zx_iconst (z := 1) hC dX2_keys_95 ?_
              refine zx_goto (tgt := 100) hC dX2_keys_96 (by decide) ?_
              refine zx_topi (b := zB (if what = 2 then 0 < rRing h F (h 7) c i else if what = 3 then 0 < rRing h F (h 7) c i ∧ rFnd (fun k => rRing h F (h 7) c k) what i < 0 else zmaxT (fun k => rRing h F (h 7) c k) i < rRing h F (h 7) c i)) (by first | (rw [zB_t (by (repeat' split) <;> omega)]; first | done | rfl) | (rw [zB_f (by (repeat' split) <;> omega)]; first | done | rfl)) ?_
              exact J47
          · refine zx_iload hC dX2_keys_70 rfl ?_
            refine zx_if_le (tgt := 84) hC dX2_keys_72 (by decide) (by first | assumption | exact gI _ (by omega) | exact iRm (by omega) (by omega)) (fun c72 => ?_) (fun c72 => ?_)
            · refine zx_iconst (z := 0) hC dX2_keys_84 ?_
              refine zx_goto (tgt := 100) hC dX2_keys_85 (by decide) ?_
              refine zx_topi (b := zB (if what = 2 then 0 < rRing h F (h 7) c i else if what = 3 then 0 < rRing h F (h 7) c i ∧ rFnd (fun k => rRing h F (h 7) c k) what i < 0 else zmaxT (fun k => rRing h F (h 7) c k) i < rRing h F (h 7) c i)) (by first | (rw [zB_t (by (repeat' split) <;> omega)]; first | done | rfl) | (rw [zB_f (by (repeat' split) <;> omega)]; first | done | rfl)) ?_
              exact J47
            · refine zx_iload hC dX2_keys_75 rfl ?_
              refine zx_if_ge (tgt := 84) hC dX2_keys_77 (by decide) (by first | assumption | exact gI _ (by omega) | exact iRm (by omega) (by omega)) (fun c77 => ?_) (fun c77 => ?_)
              · refine zx_iconst (z := 0) hC dX2_keys_84 ?_
                refine zx_goto (tgt := 100) hC dX2_keys_85 (by decide) ?_
                refine zx_topi (b := zB (if what = 2 then 0 < rRing h F (h 7) c i else if what = 3 then 0 < rRing h F (h 7) c i ∧ rFnd (fun k => rRing h F (h 7) c k) what i < 0 else zmaxT (fun k => rRing h F (h 7) c k) i < rRing h F (h 7) c i)) (by first | (rw [zB_t (by (repeat' split) <;> omega)]; first | done | rfl) | (rw [zB_f (by (repeat' split) <;> omega)]; first | done | rfl)) ?_
                exact J47
              · refine zx_iconst (z := 1) hC dX2_keys_80 ?_
                refine zx_goto (tgt := 100) hC dX2_keys_81 (by decide) ?_
                refine zx_topi (b := zB (if what = 2 then 0 < rRing h F (h 7) c i else if what = 3 then 0 < rRing h F (h 7) c i ∧ rFnd (fun k => rRing h F (h 7) c k) what i < 0 else zmaxT (fun k => rRing h F (h 7) c k) i < rRing h F (h 7) c i)) (by first | (rw [zB_t (by (repeat' split) <;> omega)]; first | done | rfl) | (rw [zB_f (by (repeat' split) <;> omega)]; first | done | rfl)) ?_
                exact J47
        · refine zx_iload hC dX2_keys_52 rfl ?_
          refine zx_if_le (tgt := 61) hC dX2_keys_54 (by decide) (by first | assumption | exact gI _ (by omega) | exact iRm (by omega) (by omega)) (fun c54 => ?_) (fun c54 => ?_)
          · refine zx_iconst (z := 0) hC dX2_keys_61 ?_
            refine zx_goto (tgt := 100) hC dX2_keys_62 (by decide) ?_
            refine zx_topi (b := zB (if what = 2 then 0 < rRing h F (h 7) c i else if what = 3 then 0 < rRing h F (h 7) c i ∧ rFnd (fun k => rRing h F (h 7) c k) what i < 0 else zmaxT (fun k => rRing h F (h 7) c k) i < rRing h F (h 7) c i)) (by first | (rw [zB_t (by (repeat' split) <;> omega)]; first | done | rfl) | (rw [zB_f (by (repeat' split) <;> omega)]; first | done | rfl)) ?_
            exact J47
          · refine zx_iconst (z := 1) hC dX2_keys_57 ?_
            refine zx_goto (tgt := 100) hC dX2_keys_58 (by decide) ?_
            refine zx_topi (b := zB (if what = 2 then 0 < rRing h F (h 7) c i else if what = 3 then 0 < rRing h F (h 7) c i ∧ rFnd (fun k => rRing h F (h 7) c k) what i < 0 else zmaxT (fun k => rRing h F (h 7) c k) i < rRing h F (h 7) c i)) (by first | (rw [zB_t (by (repeat' split) <;> omega)]; first | done | rfl) | (rw [zB_f (by (repeat' split) <;> omega)]; first | done | rfl)) ?_
            exact J47
      refine zx_iload hC dX2_keys_35 rfl ?_
      refine zx_if_le (tgt := 44) hC dX2_keys_37 (by decide) (by first | assumption | exact gI _ (by omega) | exact iRm (by omega) (by omega)) (fun c37 => ?_) (fun c37 => ?_)
      · refine zx_iconst (z := 0) hC dX2_keys_44 ?_
        refine zx_topi (b := ((zN (0 < rRing h F (h 7) c i) : Nat) : Int)) (by first | (rw [zN_t (by omega)]; first | done | rfl) | (rw [zN_f (by omega)]; first | done | rfl)) ?_
        exact J35
      · refine zx_iconst (z := 1) hC dX2_keys_40 ?_
        refine zx_goto (tgt := 45) hC dX2_keys_41 (by decide) ?_
        refine zx_topi (b := ((zN (0 < rRing h F (h 7) c i) : Nat) : Int)) (by first | (rw [zN_t (by omega)]; first | done | rfl) | (rw [zN_f (by omega)]; first | done | rfl)) ?_
        exact J35
  exact loop (36) 0 (by omega) 
set_option maxHeartbeats 4000000 in
theorem m_X2_buriedOf (la : Launch) (G : zG) (ad : Nat → Nat) (h : Nat → Nat) (F : Nat → Nat → Nat → Nat) (r : zR5) (l : Nat) (g0 : l < h 7) (g1 : h 2 ≤ 1) (gM : rHM h) (gL : rLs h) (gF : rFb F) : zRd la yX2_buriedOf cX2_buriedOf 5 (some .int) 3 72 G [.ref (ad 0), .int (iI ((l : Nat) : Int))] (zRf G ad ((h, F), r)) (fun v9 => v9 = some (.int (iI ((rBur h F l : Nat) : Int)))) := by
  refine zRd.of [some (.ref (ad 0)), some (.int (iI ((l : Nat) : Int))), none, none, none] (by decide) (Nat.le_of_ble_eq_true rfl) rfl (fun X hl hC hRm hP hE => ?_)
  have g7 := gL.1
  have gl := rLoop_le gL
  have gm := gM l (by omega)
  refine zx_iconst (z := 0) hC dX2_buriedOf_0 ?_
  refine zx_istore_n (L' := [some (.ref (ad 0)), some (.int (iI ((l : Nat) : Int))), some (.int (iI 0)), none, none]) hC dX2_buriedOf_1 (by decide) rfl ?_
  refine zx_iconst (z := 0) hC dX2_buriedOf_2 ?_
  refine zx_istore_n (L' := [some (.ref (ad 0)), some (.int (iI ((l : Nat) : Int))), some (.int (iI 0)), some (.int (iI 0)), none]) hC dX2_buriedOf_3 (by decide) rfl ?_
  have loop : ∀ n i : Nat, i + n = rLoop h * 36 → zVr X 5 4 [some (.ref (ad 0)), some (.int (iI ((l : Nat) : Int))), some (.int (iI ((zsumT (fun k => zN (0 < rAdds h F l (k / 36) (k % 36) ∧ 2 * rAdds h F l (k / 36) (k % 36) < rRing h F (h 7) (k / 36) (k % 36))) i : Nat) : Int))), some (.int (iI ((i : Nat) : Int))), none] [] := by
    intro n
    induction n with
    | zero =>
      intro i hi 
      have hiN : i = rLoop h * 36 := by omega
      rw [hiN]
      refine zx_iload_n hC dX2_buriedOf_4 rfl ?_
      refine zx_aload_n hC dX2_buriedOf_5 rfl ?_
      refine zx_rd1 (r := .int (iI ((rLoop h : Nat) : Int))) hC zNoA (zcV 0 (As := []) hC (lw_V q1705 q1707 qs47 q93 q1708) (by decide +kernel) rfl (by rw [hRm]; decide) (by rw [hRm]; decide) rfl (Nat.le_of_ble_eq_true rfl) dX2_buriedOf_6) (m_X2_loop (zl X) G ad h F r  (by first | assumption | omega | exact iRm (by omega) (by omega) | (repeat (first | exact gL | refine rLs.up ?_ (by omega) (by omega) | refine rLs.fad ?_)) | (repeat (first | exact gM | refine rHM.up ?_ (by omega))) | exact gT _ (by omega) | exact rFadF_le gF _ | ((repeat first | rw [va_up_ne _ _ (by omega)] | rw [va_up_self] | rw [rFadH_o (by omega)] | rw [rAge_o _ _ (by omega)] | rw [rLayH_o (by omega) (by omega) (by omega) (by omega)]); omega))) (zr_rc hC hP.eq) hP.eq ?_
      refine zx_bipush (z := 36) hC dX2_buriedOf_9 rfl ?_
      refine zx_imul hC dX2_buriedOf_11 ?_
      refine zx_icmp_geT (tgt := 74) hC dX2_buriedOf_12 (by decide) (by first | assumption | exact gI _ (by omega) | exact iRm (by omega) (by omega)) (by first | assumption | exact gI _ (by omega) | exact iRm (by omega) (by omega)) (by omega) ?_
      refine zx_iload_n hC dX2_buriedOf_74 rfl ?_
      refine zx_topi (b := ((rBur h F l : Nat) : Int)) (by rfl) ?_
      exact zx_iret hC hE (Nat.le_refl _) (Nat.le_refl _) (fun H h => ⟨h, rfl⟩) dX2_buriedOf_75
    | succ n ih =>
      intro i hi 
      have ga := rAdds_le (h := h) gF l (i / 36) (i % 36)
      have gr := rRing_le (h := h) gF (h 7) (i / 36) (i % 36)
      refine zx_iload_n hC dX2_buriedOf_4 rfl ?_
      refine zx_aload_n hC dX2_buriedOf_5 rfl ?_
      refine zx_rd1 (r := .int (iI ((rLoop h : Nat) : Int))) hC zNoA (zcV 0 (As := []) hC (lw_V q1705 q1707 qs47 q93 q1708) (by decide +kernel) rfl (by rw [hRm]; decide) (by rw [hRm]; decide) rfl (Nat.le_of_ble_eq_true rfl) dX2_buriedOf_6) (m_X2_loop (zl X) G ad h F r  (by first | assumption | omega | exact iRm (by omega) (by omega) | (repeat (first | exact gL | refine rLs.up ?_ (by omega) (by omega) | refine rLs.fad ?_)) | (repeat (first | exact gM | refine rHM.up ?_ (by omega))) | exact gT _ (by omega) | exact rFadF_le gF _ | ((repeat first | rw [va_up_ne _ _ (by omega)] | rw [va_up_self] | rw [rFadH_o (by omega)] | rw [rAge_o _ _ (by omega)] | rw [rLayH_o (by omega) (by omega) (by omega) (by omega)]); omega))) (zr_rc hC hP.eq) hP.eq ?_
      refine zx_bipush (z := 36) hC dX2_buriedOf_9 rfl ?_
      refine zx_imul hC dX2_buriedOf_11 ?_
      refine zx_icmp_geF (tgt := 74) hC dX2_buriedOf_12 (by decide) (by first | assumption | exact gI _ (by omega) | exact iRm (by omega) (by omega)) (by first | assumption | exact gI _ (by omega) | exact iRm (by omega) (by omega)) (by omega) ?_
      refine zx_aload_n hC dX2_buriedOf_15 rfl ?_
      refine zx_iload_n hC dX2_buriedOf_16 rfl ?_
      refine zx_iload_n hC dX2_buriedOf_17 rfl ?_
      refine zx_bipush (z := 36) hC dX2_buriedOf_18 rfl ?_
      refine zx_idiv hC dX2_buriedOf_20 (by first | assumption | exact gI _ (by omega) | exact iRm (by omega) (by omega)) (by first | assumption | exact gI _ (by omega) | exact iRm (by omega) (by omega)) (by omega) (by omega) ?_
      refine zx_iload_n hC dX2_buriedOf_21 rfl ?_
      refine zx_bipush (z := 36) hC dX2_buriedOf_22 rfl ?_
      refine zx_irem hC dX2_buriedOf_24 (by first | assumption | exact gI _ (by omega) | exact iRm (by omega) (by omega)) (by first | assumption | exact gI _ (by omega) | exact iRm (by omega) (by omega)) (by omega) (by omega) ?_
      refine zx_rd1 (r := .int (iI ((rAdds h F l (i / 36) (i % 36) : Nat) : Int))) hC zNoA (zcV 3 (As := [.int (iI ((l : Nat) : Int)), .int (iI ((i / 36 : Nat) : Int)), .int (iI ((i % 36 : Nat) : Int))]) hC (lw_V q1887 q1889 qs74 q93 q1890) (by decide +kernel) rfl (by rw [hRm]; decide) (by rw [hRm]; decide) rfl (Nat.le_of_ble_eq_true rfl) dX2_buriedOf_25) (m_X2_adds (zl X) G ad h F r l (i / 36) (i % 36) (by first | assumption | omega | exact iRm (by omega) (by omega) | (repeat (first | exact gL | refine rLs.up ?_ (by omega) (by omega) | refine rLs.fad ?_)) | (repeat (first | exact gM | refine rHM.up ?_ (by omega))) | exact gT _ (by omega) | exact rFadF_le gF _ | ((repeat first | rw [va_up_ne _ _ (by omega)] | rw [va_up_self] | rw [rFadH_o (by omega)] | rw [rAge_o _ _ (by omega)] | rw [rLayH_o (by omega) (by omega) (by omega) (by omega)]); omega)) (by first | assumption | omega | exact iRm (by omega) (by omega) | (repeat (first | exact gL | refine rLs.up ?_ (by omega) (by omega) | refine rLs.fad ?_)) | (repeat (first | exact gM | refine rHM.up ?_ (by omega))) | exact gT _ (by omega) | exact rFadF_le gF _ | ((repeat first | rw [va_up_ne _ _ (by omega)] | rw [va_up_self] | rw [rFadH_o (by omega)] | rw [rAge_o _ _ (by omega)] | rw [rLayH_o (by omega) (by omega) (by omega) (by omega)]); omega)) (by first | assumption | omega | exact iRm (by omega) (by omega) | (repeat (first | exact gL | refine rLs.up ?_ (by omega) (by omega) | refine rLs.fad ?_)) | (repeat (first | exact gM | refine rHM.up ?_ (by omega))) | exact gT _ (by omega) | exact rFadF_le gF _ | ((repeat first | rw [va_up_ne _ _ (by omega)] | rw [va_up_self] | rw [rFadH_o (by omega)] | rw [rAge_o _ _ (by omega)] | rw [rLayH_o (by omega) (by omega) (by omega) (by omega)]); omega)) (by first | assumption | omega | exact iRm (by omega) (by omega) | (repeat (first | exact gL | refine rLs.up ?_ (by omega) (by omega) | refine rLs.fad ?_)) | (repeat (first | exact gM | refine rHM.up ?_ (by omega))) | exact gT _ (by omega) | exact rFadF_le gF _ | ((repeat first | rw [va_up_ne _ _ (by omega)] | rw [va_up_self] | rw [rFadH_o (by omega)] | rw [rAge_o _ _ (by omega)] | rw [rLayH_o (by omega) (by omega) (by omega) (by omega)]); omega)) (by first | assumption | omega | exact iRm (by omega) (by omega) | (repeat (first | exact gL | refine rLs.up ?_ (by omega) (by omega) | refine rLs.fad ?_)) | (repeat (first | exact gM | refine rHM.up ?_ (by omega))) | exact gT _ (by omega) | exact rFadF_le gF _ | ((repeat first | rw [va_up_ne _ _ (by omega)] | rw [va_up_self] | rw [rFadH_o (by omega)] | rw [rAge_o _ _ (by omega)] | rw [rLayH_o (by omega) (by omega) (by omega) (by omega)]); omega)) (by first | assumption | omega | exact iRm (by omega) (by omega) | (repeat (first | exact gL | refine rLs.up ?_ (by omega) (by omega) | refine rLs.fad ?_)) | (repeat (first | exact gM | refine rHM.up ?_ (by omega))) | exact gT _ (by omega) | exact rFadF_le gF _ | ((repeat first | rw [va_up_ne _ _ (by omega)] | rw [va_up_self] | rw [rFadH_o (by omega)] | rw [rAge_o _ _ (by omega)] | rw [rLayH_o (by omega) (by omega) (by omega) (by omega)]); omega))) (zr_rc hC hP.eq) hP.eq ?_
      refine zx_istore (L' := [some (.ref (ad 0)), some (.int (iI ((l : Nat) : Int))), some (.int (iI ((zsumT (fun k => zN (0 < rAdds h F l (k / 36) (k % 36) ∧ 2 * rAdds h F l (k / 36) (k % 36) < rRing h F (h 7) (k / 36) (k % 36))) i : Nat) : Int))), some (.int (iI ((i : Nat) : Int))), some (.int (iI ((rAdds h F l (i / 36) (i % 36) : Nat) : Int)))]) hC dX2_buriedOf_28 (by decide) rfl ?_
      refine zx_iload_n hC dX2_buriedOf_30 rfl ?_
      have J31 : zVr X 5 66 [some (.ref (ad 0)), some (.int (iI ((l : Nat) : Int))), some (.int (iI ((zsumT (fun k => zN (0 < rAdds h F l (k / 36) (k % 36) ∧ 2 * rAdds h F l (k / 36) (k % 36) < rRing h F (h 7) (k / 36) (k % 36))) i : Nat) : Int))), some (.int (iI ((i : Nat) : Int))), some (.int (iI ((rAdds h F l (i / 36) (i % 36) : Nat) : Int)))] [.int (iI ((zN (0 < rAdds h F l (i / 36) (i % 36) ∧ 2 * rAdds h F l (i / 36) (i % 36) < rRing h F (h 7) (i / 36) (i % 36)) : Nat) : Int)), .int (iI ((zsumT (fun k => zN (0 < rAdds h F l (k / 36) (k % 36) ∧ 2 * rAdds h F l (k / 36) (k % 36) < rRing h F (h 7) (k / 36) (k % 36))) i : Nat) : Int))] := by
        refine zx_iadd hC dX2_buriedOf_66 ?_
        refine zx_istore_n (L' := [some (.ref (ad 0)), some (.int (iI ((l : Nat) : Int))), some (.int (iI (((zsumT (fun k => zN (0 < rAdds h F l (k / 36) (k % 36) ∧ 2 * rAdds h F l (k / 36) (k % 36) < rRing h F (h 7) (k / 36) (k % 36))) i) + (zN (0 < rAdds h F l (i / 36) (i % 36) ∧ 2 * rAdds h F l (i / 36) (i % 36) < rRing h F (h 7) (i / 36) (i % 36))) : Nat) : Int))), some (.int (iI ((i : Nat) : Int))), some (.int (iI ((rAdds h F l (i / 36) (i % 36) : Nat) : Int)))]) hC dX2_buriedOf_67 (by decide) rfl ?_
        refine zx_iinc (b := ((i + 1 : Nat) : Int)) (L' := [some (.ref (ad 0)), some (.int (iI ((l : Nat) : Int))), some (.int (iI (((zsumT (fun k => zN (0 < rAdds h F l (k / 36) (k % 36) ∧ 2 * rAdds h F l (k / 36) (k % 36) < rRing h F (h 7) (k / 36) (k % 36))) i) + (zN (0 < rAdds h F l (i / 36) (i % 36) ∧ 2 * rAdds h F l (i / 36) (i % 36) < rRing h F (h 7) (i / 36) (i % 36))) : Nat) : Int))), some (.int (iI ((i + 1 : Nat) : Int))), some (.int (iI ((rAdds h F l (i / 36) (i % 36) : Nat) : Int)))]) hC dX2_buriedOf_68 rfl (by first | rfl | omega) (by decide) rfl ?_
        refine zx_goto (tgt := 4) hC dX2_buriedOf_71 (by decide) ?_
        refine zx_le (L' := [some (.ref (ad 0)), some (.int (iI ((l : Nat) : Int))), some (.int (iI (((zsumT (fun k => zN (0 < rAdds h F l (k / 36) (k % 36) ∧ 2 * rAdds h F l (k / 36) (k % 36) < rRing h F (h 7) (k / 36) (k % 36))) i) + (zN (0 < rAdds h F l (i / 36) (i % 36) ∧ 2 * rAdds h F l (i / 36) (i % 36) < rRing h F (h 7) (i / 36) (i % 36))) : Nat) : Int))), some (.int (iI ((i + 1 : Nat) : Int))), none]) (zle_s (zle_s (zle_s (zle_s (zle_n zle_0))))) ?_
        exact ih (i + 1) (by omega) 
      refine zx_iload hC dX2_buriedOf_31 rfl ?_
      refine zx_if_le (tgt := 65) hC dX2_buriedOf_33 (by decide) (by first | assumption | exact gI _ (by omega) | exact iRm (by omega) (by omega)) (fun c33 => ?_) (fun c33 => ?_)
      · refine zx_iconst (z := 0) hC dX2_buriedOf_65 ?_
        refine zx_topi (b := ((zN (0 < rAdds h F l (i / 36) (i % 36) ∧ 2 * rAdds h F l (i / 36) (i % 36) < rRing h F (h 7) (i / 36) (i % 36)) : Nat) : Int)) (by first | (rw [zN_t (by omega)]; first | done | rfl) | (rw [zN_f (by omega)]; first | done | rfl)) ?_
        exact J31
      · refine zx_iconst (z := 2) hC dX2_buriedOf_36 ?_
        refine zx_iload hC dX2_buriedOf_37 rfl ?_
        refine zx_imul hC dX2_buriedOf_39 ?_
        refine zx_aload_n hC dX2_buriedOf_40 rfl ?_
        refine zx_aload_n hC dX2_buriedOf_41 rfl ?_
        refine zx_bipush (z := 7) hC dX2_buriedOf_42 rfl ?_
        refine zx_rd1 (r := .int (iI ((h 7 : Nat) : Int))) hC zNoA (zcV 1 (As := [.int (iI 7)]) hC (lw_V q1651 q1653 qs35 q93 q1654) (by decide +kernel) rfl (by rw [hRm]; decide) (by rw [hRm]; decide) rfl (Nat.le_of_ble_eq_true rfl) dX2_buriedOf_44) (m_X2_of (zl X) G ad h F r 7 (by first | assumption | omega | exact iRm (by omega) (by omega) | (repeat (first | exact gL | refine rLs.up ?_ (by omega) (by omega) | refine rLs.fad ?_)) | (repeat (first | exact gM | refine rHM.up ?_ (by omega))) | exact gT _ (by omega) | exact rFadF_le gF _ | ((repeat first | rw [va_up_ne _ _ (by omega)] | rw [va_up_self] | rw [rFadH_o (by omega)] | rw [rAge_o _ _ (by omega)] | rw [rLayH_o (by omega) (by omega) (by omega) (by omega)]); omega))) (zr_rc hC hP.eq) hP.eq ?_
        refine zx_iload_n hC dX2_buriedOf_47 rfl ?_
        refine zx_bipush (z := 36) hC dX2_buriedOf_48 rfl ?_
        refine zx_idiv hC dX2_buriedOf_50 (by first | assumption | exact gI _ (by omega) | exact iRm (by omega) (by omega)) (by first | assumption | exact gI _ (by omega) | exact iRm (by omega) (by omega)) (by omega) (by omega) ?_
        refine zx_iload_n hC dX2_buriedOf_51 rfl ?_
        refine zx_bipush (z := 36) hC dX2_buriedOf_52 rfl ?_
        refine zx_irem hC dX2_buriedOf_54 (by first | assumption | exact gI _ (by omega) | exact iRm (by omega) (by omega)) (by first | assumption | exact gI _ (by omega) | exact iRm (by omega) (by omega)) (by omega) (by omega) ?_
        refine zx_rd1 (r := .int (iI ((rRing h F (h 7) (i / 36) (i % 36) : Nat) : Int))) hC zNoA (zcV 3 (As := [.int (iI ((h 7 : Nat) : Int)), .int (iI ((i / 36 : Nat) : Int)), .int (iI ((i % 36 : Nat) : Int))]) hC (lw_V q1883 q1885 qs73 q93 q1886) (by decide +kernel) rfl (by rw [hRm]; decide) (by rw [hRm]; decide) rfl (Nat.le_of_ble_eq_true rfl) dX2_buriedOf_55) (m_X2_ringOf (zl X) G ad h F r (h 7) (i / 36) (i % 36) (by first | assumption | omega | exact iRm (by omega) (by omega) | (repeat (first | exact gL | refine rLs.up ?_ (by omega) (by omega) | refine rLs.fad ?_)) | (repeat (first | exact gM | refine rHM.up ?_ (by omega))) | exact gT _ (by omega) | exact rFadF_le gF _ | ((repeat first | rw [va_up_ne _ _ (by omega)] | rw [va_up_self] | rw [rFadH_o (by omega)] | rw [rAge_o _ _ (by omega)] | rw [rLayH_o (by omega) (by omega) (by omega) (by omega)]); omega)) (by first | assumption | omega | exact iRm (by omega) (by omega) | (repeat (first | exact gL | refine rLs.up ?_ (by omega) (by omega) | refine rLs.fad ?_)) | (repeat (first | exact gM | refine rHM.up ?_ (by omega))) | exact gT _ (by omega) | exact rFadF_le gF _ | ((repeat first | rw [va_up_ne _ _ (by omega)] | rw [va_up_self] | rw [rFadH_o (by omega)] | rw [rAge_o _ _ (by omega)] | rw [rLayH_o (by omega) (by omega) (by omega) (by omega)]); omega)) (by first | assumption | omega | exact iRm (by omega) (by omega) | (repeat (first | exact gL | refine rLs.up ?_ (by omega) (by omega) | refine rLs.fad ?_)) | (repeat (first | exact gM | refine rHM.up ?_ (by omega))) | exact gT _ (by omega) | exact rFadF_le gF _ | ((repeat first | rw [va_up_ne _ _ (by omega)] | rw [va_up_self] | rw [rFadH_o (by omega)] | rw [rAge_o _ _ (by omega)] | rw [rLayH_o (by omega) (by omega) (by omega) (by omega)]); omega)) (by first | assumption | omega | exact iRm (by omega) (by omega) | (repeat (first | exact gL | refine rLs.up ?_ (by omega) (by omega) | refine rLs.fad ?_)) | (repeat (first | exact gM | refine rHM.up ?_ (by omega))) | exact gT _ (by omega) | exact rFadF_le gF _ | ((repeat first | rw [va_up_ne _ _ (by omega)] | rw [va_up_self] | rw [rFadH_o (by omega)] | rw [rAge_o _ _ (by omega)] | rw [rLayH_o (by omega) (by omega) (by omega) (by omega)]); omega)) (by first | assumption | omega | exact iRm (by omega) (by omega) | (repeat (first | exact gL | refine rLs.up ?_ (by omega) (by omega) | refine rLs.fad ?_)) | (repeat (first | exact gM | refine rHM.up ?_ (by omega))) | exact gT _ (by omega) | exact rFadF_le gF _ | ((repeat first | rw [va_up_ne _ _ (by omega)] | rw [va_up_self] | rw [rFadH_o (by omega)] | rw [rAge_o _ _ (by omega)] | rw [rLayH_o (by omega) (by omega) (by omega) (by omega)]); omega)) (by first | assumption | omega | exact iRm (by omega) (by omega) | (repeat (first | exact gL | refine rLs.up ?_ (by omega) (by omega) | refine rLs.fad ?_)) | (repeat (first | exact gM | refine rHM.up ?_ (by omega))) | exact gT _ (by omega) | exact rFadF_le gF _ | ((repeat first | rw [va_up_ne _ _ (by omega)] | rw [va_up_self] | rw [rFadH_o (by omega)] | rw [rAge_o _ _ (by omega)] | rw [rLayH_o (by omega) (by omega) (by omega) (by omega)]); omega))) (zr_rc hC hP.eq) hP.eq ?_
        refine zx_icmp_ge (tgt := 65) hC dX2_buriedOf_58 (by decide) (by first | assumption | exact gI _ (by omega) | exact iRm (by omega) (by omega)) (by first | assumption | exact gI _ (by omega) | exact iRm (by omega) (by omega)) (fun c58 => ?_) (fun c58 => ?_)
        · refine zx_iconst (z := 0) hC dX2_buriedOf_65 ?_
          refine zx_topi (b := ((zN (0 < rAdds h F l (i / 36) (i % 36) ∧ 2 * rAdds h F l (i / 36) (i % 36) < rRing h F (h 7) (i / 36) (i % 36)) : Nat) : Int)) (by first | (rw [zN_t (by omega)]; first | done | rfl) | (rw [zN_f (by omega)]; first | done | rfl)) ?_
          exact J31
        · refine zx_iconst (z := 1) hC dX2_buriedOf_61 ?_
          refine zx_goto (tgt := 66) hC dX2_buriedOf_62 (by decide) ?_
          refine zx_topi (b := ((zN (0 < rAdds h F l (i / 36) (i % 36) ∧ 2 * rAdds h F l (i / 36) (i % 36) < rRing h F (h 7) (i / 36) (i % 36)) : Nat) : Int)) (by first | (rw [zN_t (by omega)]; first | done | rfl) | (rw [zN_f (by omega)]; first | done | rfl)) ?_
          exact J31
  exact loop (rLoop h * 36) 0 (by omega) 
set_option maxHeartbeats 4000000 in
theorem m_X2_sumOf (la : Launch) (G : zG) (ad : Nat → Nat) (h : Nat → Nat) (F : Nat → Nat → Nat → Nat) (r : zR5) (m : Nat) (g0 : m ≤ h 7) (g1 : h 2 ≤ 1) (gM : rHM h) (gL : rLs h) : zRd la yX2_sumOf cX2_sumOf 4 (some .int) 4 96 G [.ref (ad 0), .int (iI ((m : Nat) : Int))] (zRf G ad ((h, F), r)) (fun v9 => v9 = some (.int (iI ((rSumOf h F m : Nat) : Int)))) := by
  refine zRd.of [some (.ref (ad 0)), some (.int (iI ((m : Nat) : Int))), none, none] (by decide) (Nat.le_of_ble_eq_true rfl) rfl (fun X hl hC hRm hP hE => ?_)
  have g7 := gL.1
  have gl := rLen_le gL (n := m) (by omega)
  refine zx_iconst (z := 0) hC dX2_sumOf_0 ?_
  refine zx_istore_n (L' := [some (.ref (ad 0)), some (.int (iI ((m : Nat) : Int))), some (.int (iI 0)), none]) hC dX2_sumOf_1 (by decide) rfl ?_
  refine zx_iconst (z := 0) hC dX2_sumOf_2 ?_
  refine zx_istore_n (L' := [some (.ref (ad 0)), some (.int (iI ((m : Nat) : Int))), some (.int (iI 0)), some (.int (iI 0))]) hC dX2_sumOf_3 (by decide) rfl ?_
  have loop : ∀ n i : Nat, i + n = rLen h m → zVr X 4 4 [some (.ref (ad 0)), some (.int (iI ((m : Nat) : Int))), some (.int (iI ((zsumT (fun c => rSum h F m c) i : Nat) : Int))), some (.int (iI ((i : Nat) : Int)))] [] := by
    intro n
    induction n with
    | zero =>
      intro i hi 
      have hiN : i = rLen h m := by omega
      rw [hiN]
      refine zx_iload_n hC dX2_sumOf_4 rfl ?_
      refine zx_aload_n hC dX2_sumOf_5 rfl ?_
      refine zx_iload_n hC dX2_sumOf_6 rfl ?_
      refine zx_rd1 (r := .int (iI ((rLen h m : Nat) : Int))) hC zNoA (zcV 1 (As := [.int (iI ((m : Nat) : Int))]) hC (lw_V q1709 q1711 qs48 q93 q1712) (by decide +kernel) rfl (by rw [hRm]; decide) (by rw [hRm]; decide) rfl (Nat.le_of_ble_eq_true rfl) dX2_sumOf_7) (m_X2_lengthOf (zl X) G ad h F r m (by first | assumption | omega | exact iRm (by omega) (by omega) | (repeat (first | exact gL | refine rLs.up ?_ (by omega) (by omega) | refine rLs.fad ?_)) | (repeat (first | exact gM | refine rHM.up ?_ (by omega))) | exact gT _ (by omega) | exact rFadF_le gF _ | ((repeat first | rw [va_up_ne _ _ (by omega)] | rw [va_up_self] | rw [rFadH_o (by omega)] | rw [rAge_o _ _ (by omega)] | rw [rLayH_o (by omega) (by omega) (by omega) (by omega)]); omega)) (by first | assumption | omega | exact iRm (by omega) (by omega) | (repeat (first | exact gL | refine rLs.up ?_ (by omega) (by omega) | refine rLs.fad ?_)) | (repeat (first | exact gM | refine rHM.up ?_ (by omega))) | exact gT _ (by omega) | exact rFadF_le gF _ | ((repeat first | rw [va_up_ne _ _ (by omega)] | rw [va_up_self] | rw [rFadH_o (by omega)] | rw [rAge_o _ _ (by omega)] | rw [rLayH_o (by omega) (by omega) (by omega) (by omega)]); omega))) (zr_rc hC hP.eq) hP.eq ?_
      refine zx_icmp_geT (tgt := 28) hC dX2_sumOf_10 (by decide) (by first | assumption | exact gI _ (by omega) | exact iRm (by omega) (by omega)) (by first | assumption | exact gI _ (by omega) | exact iRm (by omega) (by omega)) (by omega) ?_
      refine zx_iload_n hC dX2_sumOf_28 rfl ?_
      refine zx_topi (b := ((rSumOf h F m : Nat) : Int)) (by rfl) ?_
      exact zx_iret hC hE (Nat.le_refl _) (Nat.le_refl _) (fun H h => ⟨h, rfl⟩) dX2_sumOf_29
    | succ n ih =>
      intro i hi 
      refine zx_iload_n hC dX2_sumOf_4 rfl ?_
      refine zx_aload_n hC dX2_sumOf_5 rfl ?_
      refine zx_iload_n hC dX2_sumOf_6 rfl ?_
      refine zx_rd1 (r := .int (iI ((rLen h m : Nat) : Int))) hC zNoA (zcV 1 (As := [.int (iI ((m : Nat) : Int))]) hC (lw_V q1709 q1711 qs48 q93 q1712) (by decide +kernel) rfl (by rw [hRm]; decide) (by rw [hRm]; decide) rfl (Nat.le_of_ble_eq_true rfl) dX2_sumOf_7) (m_X2_lengthOf (zl X) G ad h F r m (by first | assumption | omega | exact iRm (by omega) (by omega) | (repeat (first | exact gL | refine rLs.up ?_ (by omega) (by omega) | refine rLs.fad ?_)) | (repeat (first | exact gM | refine rHM.up ?_ (by omega))) | exact gT _ (by omega) | exact rFadF_le gF _ | ((repeat first | rw [va_up_ne _ _ (by omega)] | rw [va_up_self] | rw [rFadH_o (by omega)] | rw [rAge_o _ _ (by omega)] | rw [rLayH_o (by omega) (by omega) (by omega) (by omega)]); omega)) (by first | assumption | omega | exact iRm (by omega) (by omega) | (repeat (first | exact gL | refine rLs.up ?_ (by omega) (by omega) | refine rLs.fad ?_)) | (repeat (first | exact gM | refine rHM.up ?_ (by omega))) | exact gT _ (by omega) | exact rFadF_le gF _ | ((repeat first | rw [va_up_ne _ _ (by omega)] | rw [va_up_self] | rw [rFadH_o (by omega)] | rw [rAge_o _ _ (by omega)] | rw [rLayH_o (by omega) (by omega) (by omega) (by omega)]); omega))) (zr_rc hC hP.eq) hP.eq ?_
      refine zx_icmp_geF (tgt := 28) hC dX2_sumOf_10 (by decide) (by first | assumption | exact gI _ (by omega) | exact iRm (by omega) (by omega)) (by first | assumption | exact gI _ (by omega) | exact iRm (by omega) (by omega)) (by omega) ?_
      refine zx_iload_n hC dX2_sumOf_13 rfl ?_
      refine zx_aload_n hC dX2_sumOf_14 rfl ?_
      refine zx_iload_n hC dX2_sumOf_15 rfl ?_
      refine zx_iload_n hC dX2_sumOf_16 rfl ?_
      refine zx_rd1 (r := .int (iI ((rSum h F m i : Nat) : Int))) hC zNoA (zcV 2 (As := [.int (iI ((m : Nat) : Int)), .int (iI ((i : Nat) : Int))]) hC (lw_V q1895 q1897 qs75 q93 q1898) (by decide +kernel) rfl (by rw [hRm]; decide) (by rw [hRm]; decide) rfl (Nat.le_of_ble_eq_true rfl) dX2_sumOf_17) (m_X2_sumIn (zl X) G ad h F r m i (by first | assumption | omega | exact iRm (by omega) (by omega) | (repeat (first | exact gL | refine rLs.up ?_ (by omega) (by omega) | refine rLs.fad ?_)) | (repeat (first | exact gM | refine rHM.up ?_ (by omega))) | exact gT _ (by omega) | exact rFadF_le gF _ | ((repeat first | rw [va_up_ne _ _ (by omega)] | rw [va_up_self] | rw [rFadH_o (by omega)] | rw [rAge_o _ _ (by omega)] | rw [rLayH_o (by omega) (by omega) (by omega) (by omega)]); omega)) (by first | assumption | omega | exact iRm (by omega) (by omega) | (repeat (first | exact gL | refine rLs.up ?_ (by omega) (by omega) | refine rLs.fad ?_)) | (repeat (first | exact gM | refine rHM.up ?_ (by omega))) | exact gT _ (by omega) | exact rFadF_le gF _ | ((repeat first | rw [va_up_ne _ _ (by omega)] | rw [va_up_self] | rw [rFadH_o (by omega)] | rw [rAge_o _ _ (by omega)] | rw [rLayH_o (by omega) (by omega) (by omega) (by omega)]); omega)) (by first | assumption | omega | exact iRm (by omega) (by omega) | (repeat (first | exact gL | refine rLs.up ?_ (by omega) (by omega) | refine rLs.fad ?_)) | (repeat (first | exact gM | refine rHM.up ?_ (by omega))) | exact gT _ (by omega) | exact rFadF_le gF _ | ((repeat first | rw [va_up_ne _ _ (by omega)] | rw [va_up_self] | rw [rFadH_o (by omega)] | rw [rAge_o _ _ (by omega)] | rw [rLayH_o (by omega) (by omega) (by omega) (by omega)]); omega)) (by first | assumption | omega | exact iRm (by omega) (by omega) | (repeat (first | exact gL | refine rLs.up ?_ (by omega) (by omega) | refine rLs.fad ?_)) | (repeat (first | exact gM | refine rHM.up ?_ (by omega))) | exact gT _ (by omega) | exact rFadF_le gF _ | ((repeat first | rw [va_up_ne _ _ (by omega)] | rw [va_up_self] | rw [rFadH_o (by omega)] | rw [rAge_o _ _ (by omega)] | rw [rLayH_o (by omega) (by omega) (by omega) (by omega)]); omega)) (by first | assumption | omega | exact iRm (by omega) (by omega) | (repeat (first | exact gL | refine rLs.up ?_ (by omega) (by omega) | refine rLs.fad ?_)) | (repeat (first | exact gM | refine rHM.up ?_ (by omega))) | exact gT _ (by omega) | exact rFadF_le gF _ | ((repeat first | rw [va_up_ne _ _ (by omega)] | rw [va_up_self] | rw [rFadH_o (by omega)] | rw [rAge_o _ _ (by omega)] | rw [rLayH_o (by omega) (by omega) (by omega) (by omega)]); omega))) (zr_rc hC hP.eq) hP.eq ?_
      refine zx_iadd hC dX2_sumOf_20 ?_
      refine zx_istore_n (L' := [some (.ref (ad 0)), some (.int (iI ((m : Nat) : Int))), some (.int (iI (((zsumT (fun c => rSum h F m c) i) + (rSum h F m i) : Nat) : Int))), some (.int (iI ((i : Nat) : Int)))]) hC dX2_sumOf_21 (by decide) rfl ?_
      refine zx_iinc (b := ((i + 1 : Nat) : Int)) (L' := [some (.ref (ad 0)), some (.int (iI ((m : Nat) : Int))), some (.int (iI (((zsumT (fun c => rSum h F m c) i) + (rSum h F m i) : Nat) : Int))), some (.int (iI ((i + 1 : Nat) : Int)))]) hC dX2_sumOf_22 rfl (by first | rfl | omega) (by decide) rfl ?_
      refine zx_goto (tgt := 4) hC dX2_sumOf_25 (by decide) ?_
      exact ih (i + 1) (by omega) 
  exact loop (rLen h m) 0 (by omega) 
set_option maxHeartbeats 4000000 in
theorem m_X2_greatest (la : Launch) (G : zG) (ad : Nat → Nat) (h : Nat → Nat) (F : Nat → Nat → Nat → Nat) (r : zR5)  (g0 : h 2 ≤ 1) (gM : rHM h) (gL : rLs h) (gF : rFb F) : zRd la yX2_greatest cX2_greatest 5 (some .int) 2 47 G [.ref (ad 0)] (zRf G ad ((h, F), r)) (fun v9 => v9 = some (.int (iI ((rGreat h F : Nat) : Int)))) := by
  refine zRd.of [some (.ref (ad 0)), none, none, none, none] (by decide) (Nat.le_of_ble_eq_true rfl) rfl (fun X hl hC hRm hP hE => ?_)
  have g7 := gL.1
  refine zx_iconst (z := 0) hC dX2_greatest_0 ?_
  refine zx_istore_n (L' := [some (.ref (ad 0)), some (.int (iI 0)), none, none, none]) hC dX2_greatest_1 (by decide) rfl ?_
  refine zx_iconst (z := 0) hC dX2_greatest_2 ?_
  refine zx_istore_n (L' := [some (.ref (ad 0)), some (.int (iI 0)), some (.int (iI 0)), none, none]) hC dX2_greatest_3 (by decide) rfl ?_
  have loop1 : ∀ n j : Nat, j + n = h 7 → zVr X 5 4 [some (.ref (ad 0)), some (.int (iI ((rGreatL h F j : Nat) : Int))), some (.int (iI ((j : Nat) : Int))), none, none] [] := by
    intro n
    induction n with
    | zero =>
      intro j hj 
      have hjN : j = h 7 := by omega
      rw [hjN]
      refine zx_iload_n hC dX2_greatest_4 rfl ?_
      refine zx_aload_n hC dX2_greatest_5 rfl ?_
      refine zx_bipush (z := 7) hC dX2_greatest_6 rfl ?_
      refine zx_rd1 (r := .int (iI ((h 7 : Nat) : Int))) hC zNoA (zcV 1 (As := [.int (iI 7)]) hC (lw_V q1651 q1653 qs35 q93 q1654) (by decide +kernel) rfl (by rw [hRm]; decide) (by rw [hRm]; decide) rfl (Nat.le_of_ble_eq_true rfl) dX2_greatest_8) (m_X2_of (zl X) G ad h F r 7 (by first | assumption | omega | exact iRm (by omega) (by omega) | (repeat (first | exact gL | refine rLs.up ?_ (by omega) (by omega) | refine rLs.fad ?_)) | (repeat (first | exact gM | refine rHM.up ?_ (by omega))) | exact gT _ (by omega) | exact rFadF_le gF _ | ((repeat first | rw [va_up_ne _ _ (by omega)] | rw [va_up_self] | rw [rFadH_o (by omega)] | rw [rAge_o _ _ (by omega)] | rw [rLayH_o (by omega) (by omega) (by omega) (by omega)]); omega))) (zr_rc hC hP.eq) hP.eq ?_
      refine zx_icmp_geT (tgt := 71) hC dX2_greatest_11 (by decide) (by first | assumption | exact gI _ (by omega) | exact iRm (by omega) (by omega)) (by first | assumption | exact gI _ (by omega) | exact iRm (by omega) (by omega)) (by omega) ?_
      refine zx_iload_n hC dX2_greatest_71 rfl ?_
      refine zx_topi (b := ((rGreat h F : Nat) : Int)) (by rfl) ?_
      exact zx_iret hC hE (Nat.le_refl _) (Nat.le_refl _) (fun H h => ⟨h, rfl⟩) dX2_greatest_72
    | succ n ih =>
      intro j hj 
      have gj := gL.2.1 j (by omega)
      have gmj := gM j (by omega)
      refine zx_iload_n hC dX2_greatest_4 rfl ?_
      refine zx_aload_n hC dX2_greatest_5 rfl ?_
      refine zx_bipush (z := 7) hC dX2_greatest_6 rfl ?_
      refine zx_rd1 (r := .int (iI ((h 7 : Nat) : Int))) hC zNoA (zcV 1 (As := [.int (iI 7)]) hC (lw_V q1651 q1653 qs35 q93 q1654) (by decide +kernel) rfl (by rw [hRm]; decide) (by rw [hRm]; decide) rfl (Nat.le_of_ble_eq_true rfl) dX2_greatest_8) (m_X2_of (zl X) G ad h F r 7 (by first | assumption | omega | exact iRm (by omega) (by omega) | (repeat (first | exact gL | refine rLs.up ?_ (by omega) (by omega) | refine rLs.fad ?_)) | (repeat (first | exact gM | refine rHM.up ?_ (by omega))) | exact gT _ (by omega) | exact rFadF_le gF _ | ((repeat first | rw [va_up_ne _ _ (by omega)] | rw [va_up_self] | rw [rFadH_o (by omega)] | rw [rAge_o _ _ (by omega)] | rw [rLayH_o (by omega) (by omega) (by omega) (by omega)]); omega))) (zr_rc hC hP.eq) hP.eq ?_
      refine zx_icmp_geF (tgt := 71) hC dX2_greatest_11 (by decide) (by first | assumption | exact gI _ (by omega) | exact iRm (by omega) (by omega)) (by first | assumption | exact gI _ (by omega) | exact iRm (by omega) (by omega)) (by omega) ?_
      refine zx_iconst (z := 0) hC dX2_greatest_14 ?_
      refine zx_istore_n (L' := [some (.ref (ad 0)), some (.int (iI ((rGreatL h F j : Nat) : Int))), some (.int (iI ((j : Nat) : Int))), some (.int (iI 0)), none]) hC dX2_greatest_15 (by decide) rfl ?_
      have loop2 : ∀ n i : Nat, i + n = h (14 + j) * 36 → zVr X 5 16 [some (.ref (ad 0)), some (.int (iI ((zmaxF (rGreatL h F j) (fun k => rAdds h F j (k / 36) (k % 36)) i : Nat) : Int))), some (.int (iI ((j : Nat) : Int))), some (.int (iI ((i : Nat) : Int))), none] [] := by
        intro n
        induction n with
        | zero =>
          intro i hi 
          have hiN : i = h (14 + j) * 36 := by omega
          rw [hiN]
          refine zx_iload_n hC dX2_greatest_16 rfl ?_
          refine zx_aload_n hC dX2_greatest_17 rfl ?_
          refine zx_bipush (z := 14) hC dX2_greatest_18 rfl ?_
          refine zx_iload_n hC dX2_greatest_20 rfl ?_
          refine zx_iadd hC dX2_greatest_21 ?_
          refine zx_rd1 (r := .int (iI ((h (14 + j) : Nat) : Int))) hC zNoA (zcV 1 (As := [.int (iI ((14 + j : Nat) : Int))]) hC (lw_V q1651 q1653 qs35 q93 q1654) (by decide +kernel) rfl (by rw [hRm]; decide) (by rw [hRm]; decide) rfl (Nat.le_of_ble_eq_true rfl) dX2_greatest_22) (m_X2_of (zl X) G ad h F r (14 + j) (by first | assumption | omega | exact iRm (by omega) (by omega) | (repeat (first | exact gL | refine rLs.up ?_ (by omega) (by omega) | refine rLs.fad ?_)) | (repeat (first | exact gM | refine rHM.up ?_ (by omega))) | exact gT _ (by omega) | exact rFadF_le gF _ | ((repeat first | rw [va_up_ne _ _ (by omega)] | rw [va_up_self] | rw [rFadH_o (by omega)] | rw [rAge_o _ _ (by omega)] | rw [rLayH_o (by omega) (by omega) (by omega) (by omega)]); omega))) (zr_rc hC hP.eq) hP.eq ?_
          refine zx_bipush (z := 36) hC dX2_greatest_25 rfl ?_
          refine zx_imul hC dX2_greatest_27 ?_
          refine zx_icmp_geT (tgt := 65) hC dX2_greatest_28 (by decide) (by first | assumption | exact gI _ (by omega) | exact iRm (by omega) (by omega)) (by first | assumption | exact gI _ (by omega) | exact iRm (by omega) (by omega)) (by omega) ?_
          refine zx_iinc (b := ((j + 1 : Nat) : Int)) (L' := [some (.ref (ad 0)), some (.int (iI ((zmaxF (rGreatL h F j) (fun k => rAdds h F j (k / 36) (k % 36)) (h (14 + j) * 36) : Nat) : Int))), some (.int (iI ((j + 1 : Nat) : Int))), some (.int (iI ((h (14 + j) * 36 : Nat) : Int))), none]) hC dX2_greatest_65 rfl (by first | rfl | omega) (by decide) rfl ?_
          refine zx_goto (tgt := 4) hC dX2_greatest_68 (by decide) ?_
          refine zx_le (L' := [some (.ref (ad 0)), some (.int (iI ((zmaxF (rGreatL h F j) (fun k => rAdds h F j (k / 36) (k % 36)) (h (14 + j) * 36) : Nat) : Int))), some (.int (iI ((j + 1 : Nat) : Int))), none, none]) (zle_s (zle_s (zle_s (zle_n (zle_n zle_0))))) ?_
          exact ih (j + 1) (by omega) 
        | succ n ih =>
          intro i hi 
          have ga := rAdds_le (h := h) gF j (i / 36) (i % 36)
          have gz := zmaxF_le (g := fun k => rAdds h F j (k / 36) (k % 36)) (B := 99) (rGreatL_le (h := h) gF j) i (fun q _ => rAdds_le gF _ _ _)
          refine zx_iload_n hC dX2_greatest_16 rfl ?_
          refine zx_aload_n hC dX2_greatest_17 rfl ?_
          refine zx_bipush (z := 14) hC dX2_greatest_18 rfl ?_
          refine zx_iload_n hC dX2_greatest_20 rfl ?_
          refine zx_iadd hC dX2_greatest_21 ?_
          refine zx_rd1 (r := .int (iI ((h (14 + j) : Nat) : Int))) hC zNoA (zcV 1 (As := [.int (iI ((14 + j : Nat) : Int))]) hC (lw_V q1651 q1653 qs35 q93 q1654) (by decide +kernel) rfl (by rw [hRm]; decide) (by rw [hRm]; decide) rfl (Nat.le_of_ble_eq_true rfl) dX2_greatest_22) (m_X2_of (zl X) G ad h F r (14 + j) (by first | assumption | omega | exact iRm (by omega) (by omega) | (repeat (first | exact gL | refine rLs.up ?_ (by omega) (by omega) | refine rLs.fad ?_)) | (repeat (first | exact gM | refine rHM.up ?_ (by omega))) | exact gT _ (by omega) | exact rFadF_le gF _ | ((repeat first | rw [va_up_ne _ _ (by omega)] | rw [va_up_self] | rw [rFadH_o (by omega)] | rw [rAge_o _ _ (by omega)] | rw [rLayH_o (by omega) (by omega) (by omega) (by omega)]); omega))) (zr_rc hC hP.eq) hP.eq ?_
          refine zx_bipush (z := 36) hC dX2_greatest_25 rfl ?_
          refine zx_imul hC dX2_greatest_27 ?_
          refine zx_icmp_geF (tgt := 65) hC dX2_greatest_28 (by decide) (by first | assumption | exact gI _ (by omega) | exact iRm (by omega) (by omega)) (by first | assumption | exact gI _ (by omega) | exact iRm (by omega) (by omega)) (by omega) ?_
          refine zx_aload_n hC dX2_greatest_31 rfl ?_
          refine zx_iload_n hC dX2_greatest_32 rfl ?_
          refine zx_iload_n hC dX2_greatest_33 rfl ?_
          refine zx_bipush (z := 36) hC dX2_greatest_34 rfl ?_
          refine zx_idiv hC dX2_greatest_36 (by first | assumption | exact gI _ (by omega) | exact iRm (by omega) (by omega)) (by first | assumption | exact gI _ (by omega) | exact iRm (by omega) (by omega)) (by omega) (by omega) ?_
          refine zx_iload_n hC dX2_greatest_37 rfl ?_
          refine zx_bipush (z := 36) hC dX2_greatest_38 rfl ?_
          refine zx_irem hC dX2_greatest_40 (by first | assumption | exact gI _ (by omega) | exact iRm (by omega) (by omega)) (by first | assumption | exact gI _ (by omega) | exact iRm (by omega) (by omega)) (by omega) (by omega) ?_
          refine zx_rd1 (r := .int (iI ((rAdds h F j (i / 36) (i % 36) : Nat) : Int))) hC zNoA (zcV 3 (As := [.int (iI ((j : Nat) : Int)), .int (iI ((i / 36 : Nat) : Int)), .int (iI ((i % 36 : Nat) : Int))]) hC (lw_V q1887 q1889 qs74 q93 q1890) (by decide +kernel) rfl (by rw [hRm]; decide) (by rw [hRm]; decide) rfl (Nat.le_of_ble_eq_true rfl) dX2_greatest_41) (m_X2_adds (zl X) G ad h F r j (i / 36) (i % 36) (by first | assumption | omega | exact iRm (by omega) (by omega) | (repeat (first | exact gL | refine rLs.up ?_ (by omega) (by omega) | refine rLs.fad ?_)) | (repeat (first | exact gM | refine rHM.up ?_ (by omega))) | exact gT _ (by omega) | exact rFadF_le gF _ | ((repeat first | rw [va_up_ne _ _ (by omega)] | rw [va_up_self] | rw [rFadH_o (by omega)] | rw [rAge_o _ _ (by omega)] | rw [rLayH_o (by omega) (by omega) (by omega) (by omega)]); omega)) (by first | assumption | omega | exact iRm (by omega) (by omega) | (repeat (first | exact gL | refine rLs.up ?_ (by omega) (by omega) | refine rLs.fad ?_)) | (repeat (first | exact gM | refine rHM.up ?_ (by omega))) | exact gT _ (by omega) | exact rFadF_le gF _ | ((repeat first | rw [va_up_ne _ _ (by omega)] | rw [va_up_self] | rw [rFadH_o (by omega)] | rw [rAge_o _ _ (by omega)] | rw [rLayH_o (by omega) (by omega) (by omega) (by omega)]); omega)) (by first | assumption | omega | exact iRm (by omega) (by omega) | (repeat (first | exact gL | refine rLs.up ?_ (by omega) (by omega) | refine rLs.fad ?_)) | (repeat (first | exact gM | refine rHM.up ?_ (by omega))) | exact gT _ (by omega) | exact rFadF_le gF _ | ((repeat first | rw [va_up_ne _ _ (by omega)] | rw [va_up_self] | rw [rFadH_o (by omega)] | rw [rAge_o _ _ (by omega)] | rw [rLayH_o (by omega) (by omega) (by omega) (by omega)]); omega)) (by first | assumption | omega | exact iRm (by omega) (by omega) | (repeat (first | exact gL | refine rLs.up ?_ (by omega) (by omega) | refine rLs.fad ?_)) | (repeat (first | exact gM | refine rHM.up ?_ (by omega))) | exact gT _ (by omega) | exact rFadF_le gF _ | ((repeat first | rw [va_up_ne _ _ (by omega)] | rw [va_up_self] | rw [rFadH_o (by omega)] | rw [rAge_o _ _ (by omega)] | rw [rLayH_o (by omega) (by omega) (by omega) (by omega)]); omega)) (by first | assumption | omega | exact iRm (by omega) (by omega) | (repeat (first | exact gL | refine rLs.up ?_ (by omega) (by omega) | refine rLs.fad ?_)) | (repeat (first | exact gM | refine rHM.up ?_ (by omega))) | exact gT _ (by omega) | exact rFadF_le gF _ | ((repeat first | rw [va_up_ne _ _ (by omega)] | rw [va_up_self] | rw [rFadH_o (by omega)] | rw [rAge_o _ _ (by omega)] | rw [rLayH_o (by omega) (by omega) (by omega) (by omega)]); omega)) (by first | assumption | omega | exact iRm (by omega) (by omega) | (repeat (first | exact gL | refine rLs.up ?_ (by omega) (by omega) | refine rLs.fad ?_)) | (repeat (first | exact gM | refine rHM.up ?_ (by omega))) | exact gT _ (by omega) | exact rFadF_le gF _ | ((repeat first | rw [va_up_ne _ _ (by omega)] | rw [va_up_self] | rw [rFadH_o (by omega)] | rw [rAge_o _ _ (by omega)] | rw [rLayH_o (by omega) (by omega) (by omega) (by omega)]); omega))) (zr_rc hC hP.eq) hP.eq ?_
          refine zx_istore (L' := [some (.ref (ad 0)), some (.int (iI ((zmaxF (rGreatL h F j) (fun k => rAdds h F j (k / 36) (k % 36)) i : Nat) : Int))), some (.int (iI ((j : Nat) : Int))), some (.int (iI ((i : Nat) : Int))), some (.int (iI ((rAdds h F j (i / 36) (i % 36) : Nat) : Int)))]) hC dX2_greatest_44 (by decide) rfl ?_
          have J46 : zVr X 5 58 [some (.ref (ad 0)), some (.int (iI ((zmaxF (rGreatL h F j) (fun k => rAdds h F j (k / 36) (k % 36)) i : Nat) : Int))), some (.int (iI ((j : Nat) : Int))), some (.int (iI ((i : Nat) : Int))), some (.int (iI ((rAdds h F j (i / 36) (i % 36) : Nat) : Int)))] [.int (iI ((zmaxF (rGreatL h F j) (fun k => rAdds h F j (k / 36) (k % 36)) (i + 1) : Nat) : Int))] := by
            refine zx_istore_n (L' := [some (.ref (ad 0)), some (.int (iI ((zmaxF (rGreatL h F j) (fun k => rAdds h F j (k / 36) (k % 36)) (i + 1) : Nat) : Int))), some (.int (iI ((j : Nat) : Int))), some (.int (iI ((i : Nat) : Int))), some (.int (iI ((rAdds h F j (i / 36) (i % 36) : Nat) : Int)))]) hC dX2_greatest_58 (by decide) rfl ?_
            refine zx_iinc (b := ((i + 1 : Nat) : Int)) (L' := [some (.ref (ad 0)), some (.int (iI ((zmaxF (rGreatL h F j) (fun k => rAdds h F j (k / 36) (k % 36)) (i + 1) : Nat) : Int))), some (.int (iI ((j : Nat) : Int))), some (.int (iI ((i + 1 : Nat) : Int))), some (.int (iI ((rAdds h F j (i / 36) (i % 36) : Nat) : Int)))]) hC dX2_greatest_59 rfl (by first | rfl | omega) (by decide) rfl ?_
            refine zx_goto (tgt := 16) hC dX2_greatest_62 (by decide) ?_
            refine zx_le (L' := [some (.ref (ad 0)), some (.int (iI ((zmaxF (rGreatL h F j) (fun k => rAdds h F j (k / 36) (k % 36)) (i + 1) : Nat) : Int))), some (.int (iI ((j : Nat) : Int))), some (.int (iI ((i + 1 : Nat) : Int))), none]) (zle_s (zle_s (zle_s (zle_s (zle_n zle_0))))) ?_
            exact ih (i + 1) (by omega) 
          refine zx_iload hC dX2_greatest_46 rfl ?_
          refine zx_iload_n hC dX2_greatest_48 rfl ?_
          refine zx_icmp_le (tgt := 57) hC dX2_greatest_49 (by decide) (by first | assumption | exact gI _ (by omega) | exact iRm (by omega) (by omega)) (by first | assumption | exact gI _ (by omega) | exact iRm (by omega) (by omega)) (fun c49 => ?_) (fun c49 => ?_)
          · refine zx_iload_n hC dX2_greatest_57 rfl ?_
            refine zx_topi (b := ((zmaxF (rGreatL h F j) (fun k => rAdds h F j (k / 36) (k % 36)) (i + 1) : Nat) : Int)) (by simp only [zmaxF]; first | (rw [if_pos (by omega)]; first | done | rfl) | (rw [if_neg (by omega)]; first | done | rfl)) ?_
            exact J46
          · refine zx_iload hC dX2_greatest_52 rfl ?_
            refine zx_goto (tgt := 58) hC dX2_greatest_54 (by decide) ?_
            refine zx_topi (b := ((zmaxF (rGreatL h F j) (fun k => rAdds h F j (k / 36) (k % 36)) (i + 1) : Nat) : Int)) (by simp only [zmaxF]; first | (rw [if_pos (by omega)]; first | done | rfl) | (rw [if_neg (by omega)]; first | done | rfl)) ?_
            exact J46
      exact loop2 (h (14 + j) * 36) 0 (by omega) 
  exact loop1 (h 7) 0 (by omega) 
set_option maxHeartbeats 4000000 in
theorem m_X2_forces1 (la : Launch) (G : zG) (ad : Nat → Nat) (h : Nat → Nat) (F : Nat → Nat → Nat → Nat) (r : zR5) (layer : Nat) (cells : Nat) (g0 : layer < 7) (g1 : cells ≤ 48) (gF : rFb F) : zRd la yX2_forces cX2_forces 8 (some .int) 1 23 G [.ref (ad 0), .int (iI ((layer : Nat) : Int)), .int (iI ((cells : Nat) : Int)), .int (iI 1)] (zRf G ad ((h, F), r)) (fun v9 => v9 = some (.int (iI ((rCnt F layer cells : Nat) : Int)))) := by
  refine zRd.of [some (.ref (ad 0)), some (.int (iI ((layer : Nat) : Int))), some (.int (iI ((cells : Nat) : Int))), some (.int (iI 1)), none, none, none, none] (by decide) (Nat.le_of_ble_eq_true rfl) rfl (fun X hl hC hRm hP hE => ?_)
  refine zx_iconst (z := 0) hC dX2_forces_0 ?_
  refine zx_istore (L' := [some (.ref (ad 0)), some (.int (iI ((layer : Nat) : Int))), some (.int (iI ((cells : Nat) : Int))), some (.int (iI 1)), some (.int (iI 0)), none, none, none]) hC dX2_forces_1 (by decide) rfl ?_
  refine zx_iconst (z := 0) hC dX2_forces_3 ?_
  refine zx_istore (L' := [some (.ref (ad 0)), some (.int (iI ((layer : Nat) : Int))), some (.int (iI ((cells : Nat) : Int))), some (.int (iI 1)), some (.int (iI 0)), some (.int (iI 0)), none, none]) hC dX2_forces_4 (by decide) rfl ?_
  have loop : ∀ n i : Nat, i + n = cells * 36 → zVr X 8 6 [some (.ref (ad 0)), some (.int (iI ((layer : Nat) : Int))), some (.int (iI ((cells : Nat) : Int))), some (.int (iI 1)), some (.int (iI ((zsumT (fun k => zN (0 < F layer (k / 36) (k % 36))) i : Nat) : Int))), some (.int (iI ((i : Nat) : Int))), none, none] [] := by
    intro n
    induction n with
    | zero =>
      intro i hi 
      have hiN : i = cells * 36 := by omega
      rw [hiN]
      refine zx_iload hC dX2_forces_6 rfl ?_
      refine zx_iload_n hC dX2_forces_8 rfl ?_
      refine zx_bipush (z := 36) hC dX2_forces_9 rfl ?_
      refine zx_imul hC dX2_forces_11 ?_
      refine zx_icmp_geT (tgt := 89) hC dX2_forces_12 (by decide) (by first | assumption | exact gI _ (by omega) | exact iRm (by omega) (by omega)) (by first | assumption | exact gI _ (by omega) | exact iRm (by omega) (by omega)) (by omega) ?_
      refine zx_iload hC dX2_forces_89 rfl ?_
      refine zx_topi (b := ((rCnt F layer cells : Nat) : Int)) (by rfl) ?_
      exact zx_iret hC hE (Nat.le_refl _) (Nat.le_refl _) (fun H h => ⟨h, rfl⟩) dX2_forces_91
    | succ n ih =>
      intro i hi 
      have ga := gF layer (i / 36) (i % 36)
      
      refine zx_iload hC dX2_forces_6 rfl ?_
      refine zx_iload_n hC dX2_forces_8 rfl ?_
      refine zx_bipush (z := 36) hC dX2_forces_9 rfl ?_
      refine zx_imul hC dX2_forces_11 ?_
      refine zx_icmp_geF (tgt := 89) hC dX2_forces_12 (by decide) (by first | assumption | exact gI _ (by omega) | exact iRm (by omega) (by omega)) (by first | assumption | exact gI _ (by omega) | exact iRm (by omega) (by omega)) (by omega) ?_
      refine zx_aload_n hC dX2_forces_15 rfl ?_
      refine zx_iload_n hC dX2_forces_16 rfl ?_
      refine zx_iload hC dX2_forces_17 rfl ?_
      refine zx_bipush (z := 36) hC dX2_forces_19 rfl ?_
      refine zx_idiv hC dX2_forces_21 (by first | assumption | exact gI _ (by omega) | exact iRm (by omega) (by omega)) (by first | assumption | exact gI _ (by omega) | exact iRm (by omega) (by omega)) (by omega) (by omega) ?_
      refine zx_iload hC dX2_forces_22 rfl ?_
      refine zx_bipush (z := 36) hC dX2_forces_24 rfl ?_
      refine zx_irem hC dX2_forces_26 (by first | assumption | exact gI _ (by omega) | exact iRm (by omega) (by omega)) (by first | assumption | exact gI _ (by omega) | exact iRm (by omega) (by omega)) (by omega) (by omega) ?_
      refine zx_rd1 (r := .int (iI ((F layer (i / 36) (i % 36) : Nat) : Int))) hC zNoA (zcV 3 (As := [.int (iI ((layer : Nat) : Int)), .int (iI ((i / 36 : Nat) : Int)), .int (iI ((i % 36 : Nat) : Int))]) hC (lw_V q1679 q1681 qs42 q93 q1682) (by decide +kernel) rfl (by rw [hRm]; decide) (by rw [hRm]; decide) rfl (Nat.le_of_ble_eq_true rfl) dX2_forces_27) (m_X2_force (zl X) G ad h F r layer (i / 36) (i % 36) (by first | assumption | omega | exact iRm (by omega) (by omega) | (repeat (first | exact gL | refine rLs.up ?_ (by omega) (by omega) | refine rLs.fad ?_)) | (repeat (first | exact gM | refine rHM.up ?_ (by omega))) | exact gT _ (by omega) | exact rFadF_le gF _ | ((repeat first | rw [va_up_ne _ _ (by omega)] | rw [va_up_self] | rw [rFadH_o (by omega)] | rw [rAge_o _ _ (by omega)] | rw [rLayH_o (by omega) (by omega) (by omega) (by omega)]); omega)) (by first | assumption | omega | exact iRm (by omega) (by omega) | (repeat (first | exact gL | refine rLs.up ?_ (by omega) (by omega) | refine rLs.fad ?_)) | (repeat (first | exact gM | refine rHM.up ?_ (by omega))) | exact gT _ (by omega) | exact rFadF_le gF _ | ((repeat first | rw [va_up_ne _ _ (by omega)] | rw [va_up_self] | rw [rFadH_o (by omega)] | rw [rAge_o _ _ (by omega)] | rw [rLayH_o (by omega) (by omega) (by omega) (by omega)]); omega)) (by first | assumption | omega | exact iRm (by omega) (by omega) | (repeat (first | exact gL | refine rLs.up ?_ (by omega) (by omega) | refine rLs.fad ?_)) | (repeat (first | exact gM | refine rHM.up ?_ (by omega))) | exact gT _ (by omega) | exact rFadF_le gF _ | ((repeat first | rw [va_up_ne _ _ (by omega)] | rw [va_up_self] | rw [rFadH_o (by omega)] | rw [rAge_o _ _ (by omega)] | rw [rLayH_o (by omega) (by omega) (by omega) (by omega)]); omega))) (zr_rc hC hP.eq) hP.eq ?_
      refine zx_istore (L' := [some (.ref (ad 0)), some (.int (iI ((layer : Nat) : Int))), some (.int (iI ((cells : Nat) : Int))), some (.int (iI 1)), some (.int (iI ((zsumT (fun k => zN (0 < F layer (k / 36) (k % 36))) i : Nat) : Int))), some (.int (iI ((i : Nat) : Int))), some (.int (iI ((F layer (i / 36) (i % 36) : Nat) : Int))), none]) hC dX2_forces_30 (by decide) rfl ?_
      refine zx_iload_n hC dX2_forces_32 rfl ?_
      refine zx_iconst (z := 1) hC dX2_forces_33 ?_
      refine zx_icmp_neF (tgt := 50) hC dX2_forces_34 (by decide) (by first | assumption | exact gI _ (by omega) | exact iRm (by omega) (by omega)) (by first | assumption | exact gI _ (by omega) | exact iRm (by omega) (by omega)) (by omega) ?_
      have J37 : zVr X 8 52 [some (.ref (ad 0)), some (.int (iI ((layer : Nat) : Int))), some (.int (iI ((cells : Nat) : Int))), some (.int (iI 1)), some (.int (iI ((zsumT (fun k => zN (0 < F layer (k / 36) (k % 36))) i : Nat) : Int))), some (.int (iI ((i : Nat) : Int))), some (.int (iI ((F layer (i / 36) (i % 36) : Nat) : Int))), none] [.int (iI ((zN (0 < F layer (i / 36) (i % 36)) : Nat) : Int))] := by
        refine zx_istore (L' := [some (.ref (ad 0)), some (.int (iI ((layer : Nat) : Int))), some (.int (iI ((cells : Nat) : Int))), some (.int (iI 1)), some (.int (iI ((zsumT (fun k => zN (0 < F layer (k / 36) (k % 36))) i : Nat) : Int))), some (.int (iI ((i : Nat) : Int))), some (.int (iI ((F layer (i / 36) (i % 36) : Nat) : Int))), some (.int (iI ((zN (0 < F layer (i / 36) (i % 36)) : Nat) : Int)))]) hC dX2_forces_52 (by decide) rfl ?_
        refine zx_iload_n hC dX2_forces_54 rfl ?_
        refine zx_iconst (z := 3) hC dX2_forces_55 ?_
        refine zx_icmp_neT (tgt := 76) hC dX2_forces_56 (by decide) (by first | assumption | exact gI _ (by omega) | exact iRm (by omega) (by omega)) (by first | assumption | exact gI _ (by omega) | exact iRm (by omega) (by omega)) (by omega) ?_
        refine zx_iload hC dX2_forces_76 rfl ?_
        refine zx_iload hC dX2_forces_78 rfl ?_
        refine zx_iadd hC dX2_forces_80 ?_
        refine zx_istore (L' := [some (.ref (ad 0)), some (.int (iI ((layer : Nat) : Int))), some (.int (iI ((cells : Nat) : Int))), some (.int (iI 1)), some (.int (iI (((zsumT (fun k => zN (0 < F layer (k / 36) (k % 36))) i) + (zN (0 < F layer (i / 36) (i % 36))) : Nat) : Int))), some (.int (iI ((i : Nat) : Int))), some (.int (iI ((F layer (i / 36) (i % 36) : Nat) : Int))), some (.int (iI ((zN (0 < F layer (i / 36) (i % 36)) : Nat) : Int)))]) hC dX2_forces_81 (by decide) rfl ?_
        refine zx_iinc (b := ((i + 1 : Nat) : Int)) (L' := [some (.ref (ad 0)), some (.int (iI ((layer : Nat) : Int))), some (.int (iI ((cells : Nat) : Int))), some (.int (iI 1)), some (.int (iI (((zsumT (fun k => zN (0 < F layer (k / 36) (k % 36))) i) + (zN (0 < F layer (i / 36) (i % 36))) : Nat) : Int))), some (.int (iI ((i + 1 : Nat) : Int))), some (.int (iI ((F layer (i / 36) (i % 36) : Nat) : Int))), some (.int (iI ((zN (0 < F layer (i / 36) (i % 36)) : Nat) : Int)))]) hC dX2_forces_83 rfl (by first | rfl | omega) (by decide) rfl ?_
        refine zx_goto (tgt := 6) hC dX2_forces_86 (by decide) ?_
        refine zx_le (L' := [some (.ref (ad 0)), some (.int (iI ((layer : Nat) : Int))), some (.int (iI ((cells : Nat) : Int))), some (.int (iI 1)), some (.int (iI (((zsumT (fun k => zN (0 < F layer (k / 36) (k % 36))) i) + (zN (0 < F layer (i / 36) (i % 36))) : Nat) : Int))), some (.int (iI ((i + 1 : Nat) : Int))), none, none]) (zle_s (zle_s (zle_s (zle_s (zle_s (zle_s (zle_n (zle_n zle_0)))))))) ?_
        exact ih (i + 1) (by omega) 
      refine zx_iload hC dX2_forces_37 rfl ?_
      refine zx_if_le (tgt := 46) hC dX2_forces_39 (by decide) (by first | assumption | exact gI _ (by omega) | exact iRm (by omega) (by omega)) (fun c39 => ?_) (fun c39 => ?_)
      · refine zx_iconst (z := 0) hC dX2_forces_46 ?_
        refine zx_goto (tgt := 52) hC dX2_forces_47 (by decide) ?_
        refine zx_topi (b := ((zN (0 < F layer (i / 36) (i % 36)) : Nat) : Int)) (by first | (rw [zN_t (by omega)]; first | done | rfl) | (rw [zN_f (by omega)]; first | done | rfl)) ?_
        exact J37
      · refine zx_iconst (z := 1) hC dX2_forces_42 ?_
        refine zx_goto (tgt := 52) hC dX2_forces_43 (by decide) ?_
        refine zx_topi (b := ((zN (0 < F layer (i / 36) (i % 36)) : Nat) : Int)) (by first | (rw [zN_t (by omega)]; first | done | rfl) | (rw [zN_f (by omega)]; first | done | rfl)) ?_
        exact J37
  exact loop (cells * 36) 0 (by omega) 
set_option maxHeartbeats 4000000 in
theorem m_X2_forces2 (la : Launch) (G : zG) (ad : Nat → Nat) (h : Nat → Nat) (F : Nat → Nat → Nat → Nat) (r : zR5) (layer : Nat) (cells : Nat) (g0 : layer < 7) (g1 : cells ≤ 48) (gF : rFb F) : zRd la yX2_forces cX2_forces 8 (some .int) 1 23 G [.ref (ad 0), .int (iI ((layer : Nat) : Int)), .int (iI ((cells : Nat) : Int)), .int (iI 2)] (zRf G ad ((h, F), r)) (fun v9 => v9 = some (.int (iI ((rTot F layer cells : Nat) : Int)))) := by
  refine zRd.of [some (.ref (ad 0)), some (.int (iI ((layer : Nat) : Int))), some (.int (iI ((cells : Nat) : Int))), some (.int (iI 2)), none, none, none, none] (by decide) (Nat.le_of_ble_eq_true rfl) rfl (fun X hl hC hRm hP hE => ?_)
  refine zx_iconst (z := 0) hC dX2_forces_0 ?_
  refine zx_istore (L' := [some (.ref (ad 0)), some (.int (iI ((layer : Nat) : Int))), some (.int (iI ((cells : Nat) : Int))), some (.int (iI 2)), some (.int (iI 0)), none, none, none]) hC dX2_forces_1 (by decide) rfl ?_
  refine zx_iconst (z := 0) hC dX2_forces_3 ?_
  refine zx_istore (L' := [some (.ref (ad 0)), some (.int (iI ((layer : Nat) : Int))), some (.int (iI ((cells : Nat) : Int))), some (.int (iI 2)), some (.int (iI 0)), some (.int (iI 0)), none, none]) hC dX2_forces_4 (by decide) rfl ?_
  have loop : ∀ n i : Nat, i + n = cells * 36 → zVr X 8 6 [some (.ref (ad 0)), some (.int (iI ((layer : Nat) : Int))), some (.int (iI ((cells : Nat) : Int))), some (.int (iI 2)), some (.int (iI ((zsumT (fun k => F layer (k / 36) (k % 36)) i : Nat) : Int))), some (.int (iI ((i : Nat) : Int))), none, none] [] := by
    intro n
    induction n with
    | zero =>
      intro i hi 
      have hiN : i = cells * 36 := by omega
      rw [hiN]
      refine zx_iload hC dX2_forces_6 rfl ?_
      refine zx_iload_n hC dX2_forces_8 rfl ?_
      refine zx_bipush (z := 36) hC dX2_forces_9 rfl ?_
      refine zx_imul hC dX2_forces_11 ?_
      refine zx_icmp_geT (tgt := 89) hC dX2_forces_12 (by decide) (by first | assumption | exact gI _ (by omega) | exact iRm (by omega) (by omega)) (by first | assumption | exact gI _ (by omega) | exact iRm (by omega) (by omega)) (by omega) ?_
      refine zx_iload hC dX2_forces_89 rfl ?_
      refine zx_topi (b := ((rTot F layer cells : Nat) : Int)) (by rfl) ?_
      exact zx_iret hC hE (Nat.le_refl _) (Nat.le_refl _) (fun H h => ⟨h, rfl⟩) dX2_forces_91
    | succ n ih =>
      intro i hi 
      have ga := gF layer (i / 36) (i % 36)
      
      refine zx_iload hC dX2_forces_6 rfl ?_
      refine zx_iload_n hC dX2_forces_8 rfl ?_
      refine zx_bipush (z := 36) hC dX2_forces_9 rfl ?_
      refine zx_imul hC dX2_forces_11 ?_
      refine zx_icmp_geF (tgt := 89) hC dX2_forces_12 (by decide) (by first | assumption | exact gI _ (by omega) | exact iRm (by omega) (by omega)) (by first | assumption | exact gI _ (by omega) | exact iRm (by omega) (by omega)) (by omega) ?_
      refine zx_aload_n hC dX2_forces_15 rfl ?_
      refine zx_iload_n hC dX2_forces_16 rfl ?_
      refine zx_iload hC dX2_forces_17 rfl ?_
      refine zx_bipush (z := 36) hC dX2_forces_19 rfl ?_
      refine zx_idiv hC dX2_forces_21 (by first | assumption | exact gI _ (by omega) | exact iRm (by omega) (by omega)) (by first | assumption | exact gI _ (by omega) | exact iRm (by omega) (by omega)) (by omega) (by omega) ?_
      refine zx_iload hC dX2_forces_22 rfl ?_
      refine zx_bipush (z := 36) hC dX2_forces_24 rfl ?_
      refine zx_irem hC dX2_forces_26 (by first | assumption | exact gI _ (by omega) | exact iRm (by omega) (by omega)) (by first | assumption | exact gI _ (by omega) | exact iRm (by omega) (by omega)) (by omega) (by omega) ?_
      refine zx_rd1 (r := .int (iI ((F layer (i / 36) (i % 36) : Nat) : Int))) hC zNoA (zcV 3 (As := [.int (iI ((layer : Nat) : Int)), .int (iI ((i / 36 : Nat) : Int)), .int (iI ((i % 36 : Nat) : Int))]) hC (lw_V q1679 q1681 qs42 q93 q1682) (by decide +kernel) rfl (by rw [hRm]; decide) (by rw [hRm]; decide) rfl (Nat.le_of_ble_eq_true rfl) dX2_forces_27) (m_X2_force (zl X) G ad h F r layer (i / 36) (i % 36) (by first | assumption | omega | exact iRm (by omega) (by omega) | (repeat (first | exact gL | refine rLs.up ?_ (by omega) (by omega) | refine rLs.fad ?_)) | (repeat (first | exact gM | refine rHM.up ?_ (by omega))) | exact gT _ (by omega) | exact rFadF_le gF _ | ((repeat first | rw [va_up_ne _ _ (by omega)] | rw [va_up_self] | rw [rFadH_o (by omega)] | rw [rAge_o _ _ (by omega)] | rw [rLayH_o (by omega) (by omega) (by omega) (by omega)]); omega)) (by first | assumption | omega | exact iRm (by omega) (by omega) | (repeat (first | exact gL | refine rLs.up ?_ (by omega) (by omega) | refine rLs.fad ?_)) | (repeat (first | exact gM | refine rHM.up ?_ (by omega))) | exact gT _ (by omega) | exact rFadF_le gF _ | ((repeat first | rw [va_up_ne _ _ (by omega)] | rw [va_up_self] | rw [rFadH_o (by omega)] | rw [rAge_o _ _ (by omega)] | rw [rLayH_o (by omega) (by omega) (by omega) (by omega)]); omega)) (by first | assumption | omega | exact iRm (by omega) (by omega) | (repeat (first | exact gL | refine rLs.up ?_ (by omega) (by omega) | refine rLs.fad ?_)) | (repeat (first | exact gM | refine rHM.up ?_ (by omega))) | exact gT _ (by omega) | exact rFadF_le gF _ | ((repeat first | rw [va_up_ne _ _ (by omega)] | rw [va_up_self] | rw [rFadH_o (by omega)] | rw [rAge_o _ _ (by omega)] | rw [rLayH_o (by omega) (by omega) (by omega) (by omega)]); omega))) (zr_rc hC hP.eq) hP.eq ?_
      refine zx_istore (L' := [some (.ref (ad 0)), some (.int (iI ((layer : Nat) : Int))), some (.int (iI ((cells : Nat) : Int))), some (.int (iI 2)), some (.int (iI ((zsumT (fun k => F layer (k / 36) (k % 36)) i : Nat) : Int))), some (.int (iI ((i : Nat) : Int))), some (.int (iI ((F layer (i / 36) (i % 36) : Nat) : Int))), none]) hC dX2_forces_30 (by decide) rfl ?_
      refine zx_iload_n hC dX2_forces_32 rfl ?_
      refine zx_iconst (z := 1) hC dX2_forces_33 ?_
      refine zx_icmp_neT (tgt := 50) hC dX2_forces_34 (by decide) (by first | assumption | exact gI _ (by omega) | exact iRm (by omega) (by omega)) (by first | assumption | exact gI _ (by omega) | exact iRm (by omega) (by omega)) (by omega) ?_
      refine zx_iload hC dX2_forces_50 rfl ?_
      refine zx_istore (L' := [some (.ref (ad 0)), some (.int (iI ((layer : Nat) : Int))), some (.int (iI ((cells : Nat) : Int))), some (.int (iI 2)), some (.int (iI ((zsumT (fun k => F layer (k / 36) (k % 36)) i : Nat) : Int))), some (.int (iI ((i : Nat) : Int))), some (.int (iI ((F layer (i / 36) (i % 36) : Nat) : Int))), some (.int (iI ((F layer (i / 36) (i % 36) : Nat) : Int)))]) hC dX2_forces_52 (by decide) rfl ?_
      refine zx_iload_n hC dX2_forces_54 rfl ?_
      refine zx_iconst (z := 3) hC dX2_forces_55 ?_
      refine zx_icmp_neT (tgt := 76) hC dX2_forces_56 (by decide) (by first | assumption | exact gI _ (by omega) | exact iRm (by omega) (by omega)) (by first | assumption | exact gI _ (by omega) | exact iRm (by omega) (by omega)) (by omega) ?_
      refine zx_iload hC dX2_forces_76 rfl ?_
      refine zx_iload hC dX2_forces_78 rfl ?_
      refine zx_iadd hC dX2_forces_80 ?_
      refine zx_istore (L' := [some (.ref (ad 0)), some (.int (iI ((layer : Nat) : Int))), some (.int (iI ((cells : Nat) : Int))), some (.int (iI 2)), some (.int (iI (((zsumT (fun k => F layer (k / 36) (k % 36)) i) + (F layer (i / 36) (i % 36)) : Nat) : Int))), some (.int (iI ((i : Nat) : Int))), some (.int (iI ((F layer (i / 36) (i % 36) : Nat) : Int))), some (.int (iI ((F layer (i / 36) (i % 36) : Nat) : Int)))]) hC dX2_forces_81 (by decide) rfl ?_
      refine zx_iinc (b := ((i + 1 : Nat) : Int)) (L' := [some (.ref (ad 0)), some (.int (iI ((layer : Nat) : Int))), some (.int (iI ((cells : Nat) : Int))), some (.int (iI 2)), some (.int (iI (((zsumT (fun k => F layer (k / 36) (k % 36)) i) + (F layer (i / 36) (i % 36)) : Nat) : Int))), some (.int (iI ((i + 1 : Nat) : Int))), some (.int (iI ((F layer (i / 36) (i % 36) : Nat) : Int))), some (.int (iI ((F layer (i / 36) (i % 36) : Nat) : Int)))]) hC dX2_forces_83 rfl (by first | rfl | omega) (by decide) rfl ?_
      refine zx_goto (tgt := 6) hC dX2_forces_86 (by decide) ?_
      refine zx_le (L' := [some (.ref (ad 0)), some (.int (iI ((layer : Nat) : Int))), some (.int (iI ((cells : Nat) : Int))), some (.int (iI 2)), some (.int (iI (((zsumT (fun k => F layer (k / 36) (k % 36)) i) + (F layer (i / 36) (i % 36)) : Nat) : Int))), some (.int (iI ((i + 1 : Nat) : Int))), none, none]) (zle_s (zle_s (zle_s (zle_s (zle_s (zle_s (zle_n (zle_n zle_0)))))))) ?_
      exact ih (i + 1) (by omega) 
  exact loop (cells * 36) 0 (by omega) 
set_option maxHeartbeats 4000000 in
theorem m_X2_forces3 (la : Launch) (G : zG) (ad : Nat → Nat) (h : Nat → Nat) (F : Nat → Nat → Nat → Nat) (r : zR5) (layer : Nat) (cells : Nat) (g0 : layer < 7) (g1 : cells ≤ 48) (gF : rFb F) : zRd la yX2_forces cX2_forces 8 (some .int) 1 23 G [.ref (ad 0), .int (iI ((layer : Nat) : Int)), .int (iI ((cells : Nat) : Int)), .int (iI 3)] (zRf G ad ((h, F), r)) (fun v9 => v9 = some (.int (iI ((rMax F layer cells : Nat) : Int)))) := by
  refine zRd.of [some (.ref (ad 0)), some (.int (iI ((layer : Nat) : Int))), some (.int (iI ((cells : Nat) : Int))), some (.int (iI 3)), none, none, none, none] (by decide) (Nat.le_of_ble_eq_true rfl) rfl (fun X hl hC hRm hP hE => ?_)
  refine zx_iconst (z := 0) hC dX2_forces_0 ?_
  refine zx_istore (L' := [some (.ref (ad 0)), some (.int (iI ((layer : Nat) : Int))), some (.int (iI ((cells : Nat) : Int))), some (.int (iI 3)), some (.int (iI 0)), none, none, none]) hC dX2_forces_1 (by decide) rfl ?_
  refine zx_iconst (z := 0) hC dX2_forces_3 ?_
  refine zx_istore (L' := [some (.ref (ad 0)), some (.int (iI ((layer : Nat) : Int))), some (.int (iI ((cells : Nat) : Int))), some (.int (iI 3)), some (.int (iI 0)), some (.int (iI 0)), none, none]) hC dX2_forces_4 (by decide) rfl ?_
  have loop : ∀ n i : Nat, i + n = cells * 36 → zVr X 8 6 [some (.ref (ad 0)), some (.int (iI ((layer : Nat) : Int))), some (.int (iI ((cells : Nat) : Int))), some (.int (iI 3)), some (.int (iI ((zmaxT (fun k => F layer (k / 36) (k % 36)) i : Nat) : Int))), some (.int (iI ((i : Nat) : Int))), none, none] [] := by
    intro n
    induction n with
    | zero =>
      intro i hi 
      have hiN : i = cells * 36 := by omega
      rw [hiN]
      refine zx_iload hC dX2_forces_6 rfl ?_
      refine zx_iload_n hC dX2_forces_8 rfl ?_
      refine zx_bipush (z := 36) hC dX2_forces_9 rfl ?_
      refine zx_imul hC dX2_forces_11 ?_
      refine zx_icmp_geT (tgt := 89) hC dX2_forces_12 (by decide) (by first | assumption | exact gI _ (by omega) | exact iRm (by omega) (by omega)) (by first | assumption | exact gI _ (by omega) | exact iRm (by omega) (by omega)) (by omega) ?_
      refine zx_iload hC dX2_forces_89 rfl ?_
      refine zx_topi (b := ((rMax F layer cells : Nat) : Int)) (by rfl) ?_
      exact zx_iret hC hE (Nat.le_refl _) (Nat.le_refl _) (fun H h => ⟨h, rfl⟩) dX2_forces_91
    | succ n ih =>
      intro i hi 
      have ga := gF layer (i / 36) (i % 36)
      have gz := zmaxT_le (g := fun k => F layer (k / 36) (k % 36)) (B := 99) i (fun q _ => gF _ _ _)
      refine zx_iload hC dX2_forces_6 rfl ?_
      refine zx_iload_n hC dX2_forces_8 rfl ?_
      refine zx_bipush (z := 36) hC dX2_forces_9 rfl ?_
      refine zx_imul hC dX2_forces_11 ?_
      refine zx_icmp_geF (tgt := 89) hC dX2_forces_12 (by decide) (by first | assumption | exact gI _ (by omega) | exact iRm (by omega) (by omega)) (by first | assumption | exact gI _ (by omega) | exact iRm (by omega) (by omega)) (by omega) ?_
      refine zx_aload_n hC dX2_forces_15 rfl ?_
      refine zx_iload_n hC dX2_forces_16 rfl ?_
      refine zx_iload hC dX2_forces_17 rfl ?_
      refine zx_bipush (z := 36) hC dX2_forces_19 rfl ?_
      refine zx_idiv hC dX2_forces_21 (by first | assumption | exact gI _ (by omega) | exact iRm (by omega) (by omega)) (by first | assumption | exact gI _ (by omega) | exact iRm (by omega) (by omega)) (by omega) (by omega) ?_
      refine zx_iload hC dX2_forces_22 rfl ?_
      refine zx_bipush (z := 36) hC dX2_forces_24 rfl ?_
      refine zx_irem hC dX2_forces_26 (by first | assumption | exact gI _ (by omega) | exact iRm (by omega) (by omega)) (by first | assumption | exact gI _ (by omega) | exact iRm (by omega) (by omega)) (by omega) (by omega) ?_
      refine zx_rd1 (r := .int (iI ((F layer (i / 36) (i % 36) : Nat) : Int))) hC zNoA (zcV 3 (As := [.int (iI ((layer : Nat) : Int)), .int (iI ((i / 36 : Nat) : Int)), .int (iI ((i % 36 : Nat) : Int))]) hC (lw_V q1679 q1681 qs42 q93 q1682) (by decide +kernel) rfl (by rw [hRm]; decide) (by rw [hRm]; decide) rfl (Nat.le_of_ble_eq_true rfl) dX2_forces_27) (m_X2_force (zl X) G ad h F r layer (i / 36) (i % 36) (by first | assumption | omega | exact iRm (by omega) (by omega) | (repeat (first | exact gL | refine rLs.up ?_ (by omega) (by omega) | refine rLs.fad ?_)) | (repeat (first | exact gM | refine rHM.up ?_ (by omega))) | exact gT _ (by omega) | exact rFadF_le gF _ | ((repeat first | rw [va_up_ne _ _ (by omega)] | rw [va_up_self] | rw [rFadH_o (by omega)] | rw [rAge_o _ _ (by omega)] | rw [rLayH_o (by omega) (by omega) (by omega) (by omega)]); omega)) (by first | assumption | omega | exact iRm (by omega) (by omega) | (repeat (first | exact gL | refine rLs.up ?_ (by omega) (by omega) | refine rLs.fad ?_)) | (repeat (first | exact gM | refine rHM.up ?_ (by omega))) | exact gT _ (by omega) | exact rFadF_le gF _ | ((repeat first | rw [va_up_ne _ _ (by omega)] | rw [va_up_self] | rw [rFadH_o (by omega)] | rw [rAge_o _ _ (by omega)] | rw [rLayH_o (by omega) (by omega) (by omega) (by omega)]); omega)) (by first | assumption | omega | exact iRm (by omega) (by omega) | (repeat (first | exact gL | refine rLs.up ?_ (by omega) (by omega) | refine rLs.fad ?_)) | (repeat (first | exact gM | refine rHM.up ?_ (by omega))) | exact gT _ (by omega) | exact rFadF_le gF _ | ((repeat first | rw [va_up_ne _ _ (by omega)] | rw [va_up_self] | rw [rFadH_o (by omega)] | rw [rAge_o _ _ (by omega)] | rw [rLayH_o (by omega) (by omega) (by omega) (by omega)]); omega))) (zr_rc hC hP.eq) hP.eq ?_
      refine zx_istore (L' := [some (.ref (ad 0)), some (.int (iI ((layer : Nat) : Int))), some (.int (iI ((cells : Nat) : Int))), some (.int (iI 3)), some (.int (iI ((zmaxT (fun k => F layer (k / 36) (k % 36)) i : Nat) : Int))), some (.int (iI ((i : Nat) : Int))), some (.int (iI ((F layer (i / 36) (i % 36) : Nat) : Int))), none]) hC dX2_forces_30 (by decide) rfl ?_
      refine zx_iload_n hC dX2_forces_32 rfl ?_
      refine zx_iconst (z := 1) hC dX2_forces_33 ?_
      refine zx_icmp_neT (tgt := 50) hC dX2_forces_34 (by decide) (by first | assumption | exact gI _ (by omega) | exact iRm (by omega) (by omega)) (by first | assumption | exact gI _ (by omega) | exact iRm (by omega) (by omega)) (by omega) ?_
      refine zx_iload hC dX2_forces_50 rfl ?_
      refine zx_istore (L' := [some (.ref (ad 0)), some (.int (iI ((layer : Nat) : Int))), some (.int (iI ((cells : Nat) : Int))), some (.int (iI 3)), some (.int (iI ((zmaxT (fun k => F layer (k / 36) (k % 36)) i : Nat) : Int))), some (.int (iI ((i : Nat) : Int))), some (.int (iI ((F layer (i / 36) (i % 36) : Nat) : Int))), some (.int (iI ((F layer (i / 36) (i % 36) : Nat) : Int)))]) hC dX2_forces_52 (by decide) rfl ?_
      refine zx_iload_n hC dX2_forces_54 rfl ?_
      refine zx_iconst (z := 3) hC dX2_forces_55 ?_
      refine zx_icmp_neF (tgt := 76) hC dX2_forces_56 (by decide) (by first | assumption | exact gI _ (by omega) | exact iRm (by omega) (by omega)) (by first | assumption | exact gI _ (by omega) | exact iRm (by omega) (by omega)) (by omega) ?_
      have J59 : zVr X 8 81 [some (.ref (ad 0)), some (.int (iI ((layer : Nat) : Int))), some (.int (iI ((cells : Nat) : Int))), some (.int (iI 3)), some (.int (iI ((zmaxT (fun k => F layer (k / 36) (k % 36)) i : Nat) : Int))), some (.int (iI ((i : Nat) : Int))), some (.int (iI ((F layer (i / 36) (i % 36) : Nat) : Int))), some (.int (iI ((F layer (i / 36) (i % 36) : Nat) : Int)))] [.int (iI ((zmaxT (fun k => F layer (k / 36) (k % 36)) (i + 1) : Nat) : Int))] := by
        refine zx_istore (L' := [some (.ref (ad 0)), some (.int (iI ((layer : Nat) : Int))), some (.int (iI ((cells : Nat) : Int))), some (.int (iI 3)), some (.int (iI ((zmaxT (fun k => F layer (k / 36) (k % 36)) (i + 1) : Nat) : Int))), some (.int (iI ((i : Nat) : Int))), some (.int (iI ((F layer (i / 36) (i % 36) : Nat) : Int))), some (.int (iI ((F layer (i / 36) (i % 36) : Nat) : Int)))]) hC dX2_forces_81 (by decide) rfl ?_
        refine zx_iinc (b := ((i + 1 : Nat) : Int)) (L' := [some (.ref (ad 0)), some (.int (iI ((layer : Nat) : Int))), some (.int (iI ((cells : Nat) : Int))), some (.int (iI 3)), some (.int (iI ((zmaxT (fun k => F layer (k / 36) (k % 36)) (i + 1) : Nat) : Int))), some (.int (iI ((i + 1 : Nat) : Int))), some (.int (iI ((F layer (i / 36) (i % 36) : Nat) : Int))), some (.int (iI ((F layer (i / 36) (i % 36) : Nat) : Int)))]) hC dX2_forces_83 rfl (by first | rfl | omega) (by decide) rfl ?_
        refine zx_goto (tgt := 6) hC dX2_forces_86 (by decide) ?_
        refine zx_le (L' := [some (.ref (ad 0)), some (.int (iI ((layer : Nat) : Int))), some (.int (iI ((cells : Nat) : Int))), some (.int (iI 3)), some (.int (iI ((zmaxT (fun k => F layer (k / 36) (k % 36)) (i + 1) : Nat) : Int))), some (.int (iI ((i + 1 : Nat) : Int))), none, none]) (zle_s (zle_s (zle_s (zle_s (zle_s (zle_s (zle_n (zle_n zle_0)))))))) ?_
        exact ih (i + 1) (by omega) 
      refine zx_iload hC dX2_forces_59 rfl ?_
      refine zx_iload hC dX2_forces_61 rfl ?_
      refine zx_icmp_le (tgt := 71) hC dX2_forces_63 (by decide) (by first | assumption | exact gI _ (by omega) | exact iRm (by omega) (by omega)) (by first | assumption | exact gI _ (by omega) | exact iRm (by omega) (by omega)) (fun c63 => ?_) (fun c63 => ?_)
      · refine zx_iload hC dX2_forces_71 rfl ?_
        refine zx_goto (tgt := 81) hC dX2_forces_73 (by decide) ?_
        refine zx_topi (b := ((zmaxT (fun k => F layer (k / 36) (k % 36)) (i + 1) : Nat) : Int)) (by simp only [zmaxT]; first | (rw [if_pos (by omega)]; first | done | rfl) | (rw [if_neg (by omega)]; first | done | rfl)) ?_
        exact J59
      · refine zx_iload hC dX2_forces_66 rfl ?_
        refine zx_goto (tgt := 81) hC dX2_forces_68 (by decide) ?_
        refine zx_topi (b := ((zmaxT (fun k => F layer (k / 36) (k % 36)) (i + 1) : Nat) : Int)) (by simp only [zmaxT]; first | (rw [if_pos (by omega)]; first | done | rfl) | (rw [if_neg (by omega)]; first | done | rfl)) ?_
        exact J59
  exact loop (cells * 36) 0 (by omega) 
