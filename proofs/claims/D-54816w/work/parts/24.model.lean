/-! the reference, walked: part 24 (printed by gen/gen.py) -/
set_option maxRecDepth 100000
set_option maxHeartbeats 4000000 in
theorem m_X2_hits (la : Launch) (G : zG) (ad : Nat → Nat) (h : Nat → Nat) (F : Nat → Nat → Nat → Nat) (r : zR5) (key : Nat) (force : Nat) (g0 : key < 24) (g1 : force ≤ 1000) (g2 : h 2 ≤ 1) (g3 : h 0 ≤ 4) (g4 : h 11 < 1000) (g5 : h 12 < 1000) (g6 : h 0 = 1 → h 11 < 48) (g7 : ¬ h 0 = 1 → 1 ≤ h 6) (g8 : h 6 ≤ 24) (gF : rFb F) : zMA la yX2_hits cX2_hits 6 (some .int) 1 26 G [.ref (ad 0), .int (iI ((key : Nat) : Int)), .int (iI ((force : Nat) : Int))] [REF G ad ((h, F), r)] (fun v9 => v9 = some (.int (iI ((rThen h F key force : Nat) : Int)))) (fun _ => [REF G ad ((h, (zupF F 6 (rCell h) (key + 12 * h 2) (rThen h F key force))), r)]) 0 0 := by
  refine zMA.of [some (.ref (ad 0)), some (.int (iI ((key : Nat) : Int))), some (.int (iI ((force : Nat) : Int))), none, none, none] (by decide) (Nat.le_of_ble_eq_true rfl) rfl (fun X A hl hC hnm hA hRm hE => ?_)
  have J0 : zVm X G ad A 6 ((h, F), r) 44 [some (.ref (ad 0)), some (.int (iI ((key : Nat) : Int))), some (.int (iI ((force : Nat) : Int))), none, none, none] [.int (iI ((rCell h : Nat) : Int))] := by
    have gc : rCell h < 48 := by
      unfold rCell
      split
      · omega
      · have := Nat.mod_lt ((h 12 + h 11) / 2) (show 0 < 2 * h 6 by omega)
        omega
    have gf := gF 6 (rCell h) (key + 12 * h 2)
    refine zx_istore_n (L' := [some (.ref (ad 0)), some (.int (iI ((key : Nat) : Int))), some (.int (iI ((force : Nat) : Int))), some (.int (iI ((rCell h : Nat) : Int))), none, none]) hC dX2_hits_44 (by decide) rfl ?_
    refine zx_iload_n hC dX2_hits_45 rfl ?_
    refine zx_bipush (z := 12) hC dX2_hits_46 rfl ?_
    refine zx_aload_n hC dX2_hits_48 rfl ?_
    refine zx_iconst (z := 2) hC dX2_hits_49 ?_
    refine zx_rd1 (r := .int (iI ((h 2 : Nat) : Int))) hC hA.2 (zcV 1 (As := [.int (iI 2)]) hC (lw_V q1651 q1653 qs35 q93 q1654) (by decide +kernel) rfl (by rw [hRm]; decide) (by rw [hRm]; decide) rfl (Nat.le_of_ble_eq_true rfl) dX2_hits_50) (m_X2_of (zl X) G ad h F r 2 (by first | assumption | omega | exact iRm (by omega) (by omega) | (repeat (first | exact gL | refine rLs.up ?_ (by omega) (by omega) | refine rLs.fad ?_)) | (repeat (first | exact gM | refine rHM.up ?_ (by omega))) | exact gT _ (by omega) | exact rFadF_le gF _ | ((repeat first | rw [va_up_ne _ _ (by omega)] | rw [va_up_self] | rw [rFadH_o (by omega)] | rw [rAge_o _ _ (by omega)] | rw [rLayH_o (by omega) (by omega) (by omega) (by omega)]); omega))) (zr_rc hC (zRf.ofH (Rs := []))) (zRf.ofH (Rs := [])) ?_
    refine zx_imul hC dX2_hits_53 ?_
    refine zx_iadd hC dX2_hits_54 ?_
    refine zx_istore (L' := [some (.ref (ad 0)), some (.int (iI ((key : Nat) : Int))), some (.int (iI ((force : Nat) : Int))), some (.int (iI ((rCell h : Nat) : Int))), some (.int (iI ((key + (12 * (h 2)) : Nat) : Int))), none]) hC dX2_hits_55 (by decide) rfl ?_
    refine zx_aload_n hC dX2_hits_57 rfl ?_
    refine zx_bipush (z := 6) hC dX2_hits_58 rfl ?_
    refine zx_iload_n hC dX2_hits_60 rfl ?_
    refine zx_iload hC dX2_hits_61 rfl ?_
    refine zx_rd1 (r := .int (iI ((F 6 (rCell h) (key + (12 * (h 2))) : Nat) : Int))) hC hA.2 (zcV 3 (As := [.int (iI 6), .int (iI ((rCell h : Nat) : Int)), .int (iI ((key + (12 * (h 2)) : Nat) : Int))]) hC (lw_V q1679 q1681 qs42 q93 q1682) (by decide +kernel) rfl (by rw [hRm]; decide) (by rw [hRm]; decide) rfl (Nat.le_of_ble_eq_true rfl) dX2_hits_63) (m_X2_force (zl X) G ad h F r 6 (rCell h) (key + (12 * (h 2))) (by first | assumption | omega | exact iRm (by omega) (by omega) | (repeat (first | exact gL | refine rLs.up ?_ (by omega) (by omega) | refine rLs.fad ?_)) | (repeat (first | exact gM | refine rHM.up ?_ (by omega))) | exact gT _ (by omega) | exact rFadF_le gF _ | ((repeat first | rw [va_up_ne _ _ (by omega)] | rw [va_up_self] | rw [rFadH_o (by omega)] | rw [rAge_o _ _ (by omega)] | rw [rLayH_o (by omega) (by omega) (by omega) (by omega)]); omega)) (by first | assumption | omega | exact iRm (by omega) (by omega) | (repeat (first | exact gL | refine rLs.up ?_ (by omega) (by omega) | refine rLs.fad ?_)) | (repeat (first | exact gM | refine rHM.up ?_ (by omega))) | exact gT _ (by omega) | exact rFadF_le gF _ | ((repeat first | rw [va_up_ne _ _ (by omega)] | rw [va_up_self] | rw [rFadH_o (by omega)] | rw [rAge_o _ _ (by omega)] | rw [rLayH_o (by omega) (by omega) (by omega) (by omega)]); omega)) (by first | assumption | omega | exact iRm (by omega) (by omega) | (repeat (first | exact gL | refine rLs.up ?_ (by omega) (by omega) | refine rLs.fad ?_)) | (repeat (first | exact gM | refine rHM.up ?_ (by omega))) | exact gT _ (by omega) | exact rFadF_le gF _ | ((repeat first | rw [va_up_ne _ _ (by omega)] | rw [va_up_self] | rw [rFadH_o (by omega)] | rw [rAge_o _ _ (by omega)] | rw [rLayH_o (by omega) (by omega) (by omega) (by omega)]); omega))) (zr_rc hC (zRf.ofH (Rs := []))) (zRf.ofH (Rs := [])) ?_
    refine zx_iload_n hC dX2_hits_66 rfl ?_
    refine zx_rd1 (r := .int (iI ((rBoth (F 6 (rCell h) (key + (12 * (h 2)))) force : Nat) : Int))) hC hA.2 (zcS 2 (As := [.int (iI ((F 6 (rCell h) (key + (12 * (h 2))) : Nat) : Int)), .int (iI ((force : Nat) : Int))]) hC (lw_S q1684 q1685 q93 q1686) (by decide +kernel) rfl (by rw [hRm]; decide) (by rw [hRm]; decide) rfl (Nat.le_of_ble_eq_true rfl) dX2_hits_67) (m_X2_both (zl X) G (F 6 (rCell h) (key + (12 * (h 2)))) force (by first | assumption | omega | exact iRm (by omega) (by omega) | (repeat (first | exact gL | refine rLs.up ?_ (by omega) (by omega) | refine rLs.fad ?_)) | (repeat (first | exact gM | refine rHM.up ?_ (by omega))) | exact gT _ (by omega) | exact rFadF_le gF _ | ((repeat first | rw [va_up_ne _ _ (by omega)] | rw [va_up_self] | rw [rFadH_o (by omega)] | rw [rAge_o _ _ (by omega)] | rw [rLayH_o (by omega) (by omega) (by omega) (by omega)]); omega))) (fun _ _ => trivial) (fun _ _ => trivial) ?_
    refine zx_topi (b := ((rThen h F key force : Nat) : Int)) (congrArg (fun z : Nat => (z : Int)) (rfl)) ?_
    have gt := rBoth_le (F 6 (rCell h) (key + 12 * h 2)) force
    have gt2 : rThen h F key force ≤ 99 := gt
    refine zx_istore (L' := [some (.ref (ad 0)), some (.int (iI ((key : Nat) : Int))), some (.int (iI ((force : Nat) : Int))), some (.int (iI ((rCell h : Nat) : Int))), some (.int (iI ((key + (12 * (h 2)) : Nat) : Int))), some (.int (iI ((rThen h F key force : Nat) : Int)))]) hC dX2_hits_70 (by decide) rfl ?_
    refine zx_aload_n hC dX2_hits_72 rfl ?_
    refine zx_bipush (z := 6) hC dX2_hits_73 rfl ?_
    refine zx_iload_n hC dX2_hits_75 rfl ?_
    refine zx_iload hC dX2_hits_76 rfl ?_
    refine zx_iload hC dX2_hits_78 rfl ?_
    refine zx_ma0 (Q := fun _ => [REF G ad ((h, (zupF F 6 (rCell h) (key + (12 * (h 2))) (rThen h F key force))), r)]) hC hA [0] [] (zcV 4 (As := [.int (iI 6), .int (iI ((rCell h : Nat) : Int)), .int (iI ((key + (12 * (h 2)) : Nat) : Int)), .int (iI ((rThen h F key force : Nat) : Int))]) hC (lw_V q1687 q1689 qs43 q93 q1690) (by decide +kernel) rfl (by rw [hRm]; decide) (by rw [hRm]; decide) rfl (Nat.le_of_ble_eq_true rfl) dX2_hits_80) (m_X2_sets (zl X) G ad h F r 6 (rCell h) (key + (12 * (h 2))) (rThen h F key force) (by first | assumption | omega | exact iRm (by omega) (by omega) | (repeat (first | exact gL | refine rLs.up ?_ (by omega) (by omega) | refine rLs.fad ?_)) | (repeat (first | exact gM | refine rHM.up ?_ (by omega))) | exact gT _ (by omega) | exact rFadF_le gF _ | ((repeat first | rw [va_up_ne _ _ (by omega)] | rw [va_up_self] | rw [rFadH_o (by omega)] | rw [rAge_o _ _ (by omega)] | rw [rLayH_o (by omega) (by omega) (by omega) (by omega)]); omega)) (by first | assumption | omega | exact iRm (by omega) (by omega) | (repeat (first | exact gL | refine rLs.up ?_ (by omega) (by omega) | refine rLs.fad ?_)) | (repeat (first | exact gM | refine rHM.up ?_ (by omega))) | exact gT _ (by omega) | exact rFadF_le gF _ | ((repeat first | rw [va_up_ne _ _ (by omega)] | rw [va_up_self] | rw [rFadH_o (by omega)] | rw [rAge_o _ _ (by omega)] | rw [rLayH_o (by omega) (by omega) (by omega) (by omega)]); omega)) (by first | assumption | omega | exact iRm (by omega) (by omega) | (repeat (first | exact gL | refine rLs.up ?_ (by omega) (by omega) | refine rLs.fad ?_)) | (repeat (first | exact gM | refine rHM.up ?_ (by omega))) | exact gT _ (by omega) | exact rFadF_le gF _ | ((repeat first | rw [va_up_ne _ _ (by omega)] | rw [va_up_self] | rw [rFadH_o (by omega)] | rw [rAge_o _ _ (by omega)] | rw [rLayH_o (by omega) (by omega) (by omega) (by omega)]); omega)) (by first | assumption | omega | exact iRm (by omega) (by omega) | (repeat (first | exact gL | refine rLs.up ?_ (by omega) (by omega) | refine rLs.fad ?_)) | (repeat (first | exact gM | refine rHM.up ?_ (by omega))) | exact gT _ (by omega) | exact rFadF_le gF _ | ((repeat first | rw [va_up_ne _ _ (by omega)] | rw [va_up_self] | rw [rFadH_o (by omega)] | rw [rAge_o _ _ (by omega)] | rw [rLayH_o (by omega) (by omega) (by omega) (by omega)]); omega))) (zr_rc hC (zRf.ofH (Rs := []))) rfl rfl rfl ?_
    show zVm X G ad A 6 ((h, (zupF F 6 (rCell h) (key + (12 * (h 2))) (rThen h F key force))), r) 83 [some (.ref (ad 0)), some (.int (iI ((key : Nat) : Int))), some (.int (iI ((force : Nat) : Int))), some (.int (iI ((rCell h : Nat) : Int))), some (.int (iI ((key + (12 * (h 2)) : Nat) : Int))), some (.int (iI ((rThen h F key force : Nat) : Int)))] []
    refine zx_iload hC dX2_hits_83 rfl ?_
    exact zx_iret hC hE (Nat.le_refl _) (Nat.le_refl _) (fun H h => ⟨rfl, h⟩) dX2_hits_85
  refine zx_aload_n hC dX2_hits_0 rfl ?_
  refine zx_iconst (z := 0) hC dX2_hits_1 ?_
  refine zx_rd1 (r := .int (iI ((h 0 : Nat) : Int))) hC hA.2 (zcV 1 (As := [.int (iI 0)]) hC (lw_V q1651 q1653 qs35 q93 q1654) (by decide +kernel) rfl (by rw [hRm]; decide) (by rw [hRm]; decide) rfl (Nat.le_of_ble_eq_true rfl) dX2_hits_2) (m_X2_of (zl X) G ad h F r 0 (by first | assumption | omega | exact iRm (by omega) (by omega) | (repeat (first | exact gL | refine rLs.up ?_ (by omega) (by omega) | refine rLs.fad ?_)) | (repeat (first | exact gM | refine rHM.up ?_ (by omega))) | exact gT _ (by omega) | exact rFadF_le gF _ | ((repeat first | rw [va_up_ne _ _ (by omega)] | rw [va_up_self] | rw [rFadH_o (by omega)] | rw [rAge_o _ _ (by omega)] | rw [rLayH_o (by omega) (by omega) (by omega) (by omega)]); omega))) (zr_rc hC (zRf.ofH (Rs := []))) (zRf.ofH (Rs := [])) ?_
  refine zx_iconst (z := 1) hC dX2_hits_5 ?_
  refine zx_icmp_ne (tgt := 20) hC dX2_hits_6 (by decide) (by first | assumption | exact gI _ (by omega) | exact iRm (by omega) (by omega)) (by first | assumption | exact gI _ (by omega) | exact iRm (by omega) (by omega)) (fun c6 => ?_) (fun c6 => ?_)
  · refine zx_aload_n hC dX2_hits_20 rfl ?_
    refine zx_bipush (z := 12) hC dX2_hits_21 rfl ?_
    refine zx_rd1 (r := .int (iI ((h 12 : Nat) : Int))) hC hA.2 (zcV 1 (As := [.int (iI 12)]) hC (lw_V q1651 q1653 qs35 q93 q1654) (by decide +kernel) rfl (by rw [hRm]; decide) (by rw [hRm]; decide) rfl (Nat.le_of_ble_eq_true rfl) dX2_hits_23) (m_X2_of (zl X) G ad h F r 12 (by first | assumption | omega | exact iRm (by omega) (by omega) | (repeat (first | exact gL | refine rLs.up ?_ (by omega) (by omega) | refine rLs.fad ?_)) | (repeat (first | exact gM | refine rHM.up ?_ (by omega))) | exact gT _ (by omega) | exact rFadF_le gF _ | ((repeat first | rw [va_up_ne _ _ (by omega)] | rw [va_up_self] | rw [rFadH_o (by omega)] | rw [rAge_o _ _ (by omega)] | rw [rLayH_o (by omega) (by omega) (by omega) (by omega)]); omega))) (zr_rc hC (zRf.ofH (Rs := []))) (zRf.ofH (Rs := [])) ?_
    refine zx_aload_n hC dX2_hits_26 rfl ?_
    refine zx_bipush (z := 11) hC dX2_hits_27 rfl ?_
    refine zx_rd1 (r := .int (iI ((h 11 : Nat) : Int))) hC hA.2 (zcV 1 (As := [.int (iI 11)]) hC (lw_V q1651 q1653 qs35 q93 q1654) (by decide +kernel) rfl (by rw [hRm]; decide) (by rw [hRm]; decide) rfl (Nat.le_of_ble_eq_true rfl) dX2_hits_29) (m_X2_of (zl X) G ad h F r 11 (by first | assumption | omega | exact iRm (by omega) (by omega) | (repeat (first | exact gL | refine rLs.up ?_ (by omega) (by omega) | refine rLs.fad ?_)) | (repeat (first | exact gM | refine rHM.up ?_ (by omega))) | exact gT _ (by omega) | exact rFadF_le gF _ | ((repeat first | rw [va_up_ne _ _ (by omega)] | rw [va_up_self] | rw [rFadH_o (by omega)] | rw [rAge_o _ _ (by omega)] | rw [rLayH_o (by omega) (by omega) (by omega) (by omega)]); omega))) (zr_rc hC (zRf.ofH (Rs := []))) (zRf.ofH (Rs := [])) ?_
    refine zx_iadd hC dX2_hits_32 ?_
    refine zx_iconst (z := 2) hC dX2_hits_33 ?_
    refine zx_idiv hC dX2_hits_34 (by first | assumption | exact gI _ (by omega) | exact iRm (by omega) (by omega)) (by first | assumption | exact gI _ (by omega) | exact iRm (by omega) (by omega)) (by omega) (by omega) ?_
    refine zx_iconst (z := 2) hC dX2_hits_35 ?_
    refine zx_aload_n hC dX2_hits_36 rfl ?_
    refine zx_bipush (z := 6) hC dX2_hits_37 rfl ?_
    refine zx_rd1 (r := .int (iI ((h 6 : Nat) : Int))) hC hA.2 (zcV 1 (As := [.int (iI 6)]) hC (lw_V q1651 q1653 qs35 q93 q1654) (by decide +kernel) rfl (by rw [hRm]; decide) (by rw [hRm]; decide) rfl (Nat.le_of_ble_eq_true rfl) dX2_hits_39) (m_X2_of (zl X) G ad h F r 6 (by first | assumption | omega | exact iRm (by omega) (by omega) | (repeat (first | exact gL | refine rLs.up ?_ (by omega) (by omega) | refine rLs.fad ?_)) | (repeat (first | exact gM | refine rHM.up ?_ (by omega))) | exact gT _ (by omega) | exact rFadF_le gF _ | ((repeat first | rw [va_up_ne _ _ (by omega)] | rw [va_up_self] | rw [rFadH_o (by omega)] | rw [rAge_o _ _ (by omega)] | rw [rLayH_o (by omega) (by omega) (by omega) (by omega)]); omega))) (zr_rc hC (zRf.ofH (Rs := []))) (zRf.ofH (Rs := [])) ?_
    refine zx_imul hC dX2_hits_42 ?_
    refine zx_irem hC dX2_hits_43 (by first | assumption | exact gI _ (by omega) | exact iRm (by omega) (by omega)) (by first | assumption | exact gI _ (by omega) | exact iRm (by omega) (by omega)) (by omega) (by omega) ?_
    refine zx_topi (b := ((rCell h : Nat) : Int)) (by unfold rCell; first | (rw [if_pos (by omega)]; first | done | rfl) | (rw [if_neg (by omega)]; first | done | rfl)) ?_
    exact J0
  · refine zx_aload_n hC dX2_hits_9 rfl ?_
    refine zx_bipush (z := 11) hC dX2_hits_10 rfl ?_
    refine zx_rd1 (r := .int (iI ((h 11 : Nat) : Int))) hC hA.2 (zcV 1 (As := [.int (iI 11)]) hC (lw_V q1651 q1653 qs35 q93 q1654) (by decide +kernel) rfl (by rw [hRm]; decide) (by rw [hRm]; decide) rfl (Nat.le_of_ble_eq_true rfl) dX2_hits_12) (m_X2_of (zl X) G ad h F r 11 (by first | assumption | omega | exact iRm (by omega) (by omega) | (repeat (first | exact gL | refine rLs.up ?_ (by omega) (by omega) | refine rLs.fad ?_)) | (repeat (first | exact gM | refine rHM.up ?_ (by omega))) | exact gT _ (by omega) | exact rFadF_le gF _ | ((repeat first | rw [va_up_ne _ _ (by omega)] | rw [va_up_self] | rw [rFadH_o (by omega)] | rw [rAge_o _ _ (by omega)] | rw [rLayH_o (by omega) (by omega) (by omega) (by omega)]); omega))) (zr_rc hC (zRf.ofH (Rs := []))) (zRf.ofH (Rs := [])) ?_
    refine zx_iconst (z := 2) hC dX2_hits_15 ?_
    refine zx_idiv hC dX2_hits_16 (by first | assumption | exact gI _ (by omega) | exact iRm (by omega) (by omega)) (by first | assumption | exact gI _ (by omega) | exact iRm (by omega) (by omega)) (by omega) (by omega) ?_
    refine zx_goto (tgt := 44) hC dX2_hits_17 (by decide) ?_
    refine zx_topi (b := ((rCell h : Nat) : Int)) (by unfold rCell; first | (rw [if_pos (by omega)]; first | done | rfl) | (rw [if_neg (by omega)]; first | done | rfl)) ?_
    exact J0
set_option maxHeartbeats 4000000 in
theorem m_X2_peels (la : Launch) (G : zG) (ad : Nat → Nat) (h : Nat → Nat) (F : Nat → Nat → Nat → Nat) (r : zR5)  (g0 : 2 ≤ h 7) (g1 : h 1 < 1000) (gL : rLs h) : zMA la yX2_peels cX2_peels 2 none 3 64 G [.ref (ad 0)] [REF G ad ((h, F), r)] (fun v9 => v9 = none) (fun _ => [REF G ad (((rPeelH h), F), r)]) 0 0 := by
  refine zMA.of [some (.ref (ad 0)), none] (by decide) (Nat.le_of_ble_eq_true rfl) rfl (fun X A hl hC hnm hA hRm hE => ?_)
  have gP := rLs.peel gL (h 8 + 1)
  have gl := rLoop_le gP
  have gl0 := rLoop_le gL
  have gp := rLoop_pos gP (by rw [va_up_ne _ _ (by omega), va_up_self]; omega)
  refine zx_aload_n hC dX2_peels_0 rfl ?_
  refine zx_rd1 (r := .int (iI ((rLoop h : Nat) : Int))) hC hA.2 (zcV 0 (As := []) hC (lw_V q1705 q1707 qs47 q93 q1708) (by decide +kernel) rfl (by rw [hRm]; decide) (by rw [hRm]; decide) rfl (Nat.le_of_ble_eq_true rfl) dX2_peels_1) (m_X2_loop (zl X) G ad h F r  (by first | assumption | omega | exact iRm (by omega) (by omega) | (repeat (first | exact gL | refine rLs.up ?_ (by omega) (by omega) | refine rLs.fad ?_)) | (repeat (first | exact gM | refine rHM.up ?_ (by omega))) | exact gT _ (by omega) | exact rFadF_le gF _ | ((repeat first | rw [va_up_ne _ _ (by omega)] | rw [va_up_self] | rw [rFadH_o (by omega)] | rw [rAge_o _ _ (by omega)] | rw [rLayH_o (by omega) (by omega) (by omega) (by omega)]); omega))) (zr_rc hC (zRf.ofH (Rs := []))) (zRf.ofH (Rs := [])) ?_
  refine zx_istore_n (L' := [some (.ref (ad 0)), some (.int (iI ((rLoop h : Nat) : Int)))]) hC dX2_peels_4 (by decide) rfl ?_
  refine zx_aload_n hC dX2_peels_5 rfl ?_
  refine zr_get (v := .ref (ad 1)) hC (zRf.ofH (Rs := [])) 0 (by decide) dX2_peels_6 q1610 rfl ?_
  refine zx_bipush (z := 7) hC dX2_peels_9 rfl ?_
  refine zx_dup2 hC dX2_peels_11 rfl rfl ?_
  refine zr_sldN (x := h 7) hC (zRf.ofH (Rs := [])) 7 dX2_peels_12 (by omega) rfl ?_
  refine zx_lconst1 hC dX2_peels_13 ?_
  refine zx_lsub hC dX2_peels_14 ?_
  refine zx_topl (b := (((h 7) - 1 : Nat) : Int)) (by omega) ?_
  refine zr_sstN (v := (h 7) - 1) hC 7 dX2_peels_15 (by omega) ?_
  refine zx_aload_n hC dX2_peels_16 rfl ?_
  refine zr_get (v := .ref (ad 1)) hC (zRf.ofH (Rs := [])) 0 (by decide) dX2_peels_17 q1610 rfl ?_
  refine zx_bipush (z := 8) hC dX2_peels_20 rfl ?_
  refine zx_dup2 hC dX2_peels_22 rfl rfl ?_
  refine zr_sldN (x := h 8) hC (zRf.ofH (Rs := [])) 8 dX2_peels_23 (by omega) (by first | rfl | ((repeat first | rw [va_up_ne _ _ (by omega)] | rw [va_up_self] | rw [rFadH_o (by omega)] | rw [rAge_o _ _ (by omega)] | rw [rLayH_o (by omega) (by omega) (by omega) (by omega)]); done)) ?_
  refine zx_lconst1 hC dX2_peels_24 ?_
  refine zx_ladd hC dX2_peels_25 ?_
  refine zr_sstN (v := (h 8) + 1) hC 8 dX2_peels_26 (by omega) ?_
  refine zx_aload_n hC dX2_peels_27 rfl ?_
  refine zx_rd1 (r := .int (iI ((rLoop (va_up (va_up h 7 ((h 7) - 1)) 8 ((h 8) + 1)) : Nat) : Int))) hC hA.2 (zcV 0 (As := []) hC (lw_V q1705 q1707 qs47 q93 q1708) (by decide +kernel) rfl (by rw [hRm]; decide) (by rw [hRm]; decide) rfl (Nat.le_of_ble_eq_true rfl) dX2_peels_28) (m_X2_loop (zl X) G ad (va_up (va_up h 7 ((h 7) - 1)) 8 ((h 8) + 1)) F r  (by first | assumption | omega | exact iRm (by omega) (by omega) | (repeat (first | exact gL | refine rLs.up ?_ (by omega) (by omega) | refine rLs.fad ?_)) | (repeat (first | exact gM | refine rHM.up ?_ (by omega))) | exact gT _ (by omega) | exact rFadF_le gF _ | ((repeat first | rw [va_up_ne _ _ (by omega)] | rw [va_up_self] | rw [rFadH_o (by omega)] | rw [rAge_o _ _ (by omega)] | rw [rLayH_o (by omega) (by omega) (by omega) (by omega)]); omega))) (zr_rc hC (zRf.ofH (Rs := []))) (zRf.ofH (Rs := [])) ?_
  refine zx_iload_n hC dX2_peels_31 rfl ?_
  refine zx_icmp_ge (tgt := 51) hC dX2_peels_32 (by decide) (by first | assumption | exact gI _ (by omega) | exact iRm (by omega) (by omega)) (by first | assumption | exact gI _ (by omega) | exact iRm (by omega) (by omega)) (fun c32 => ?_) (fun c32 => ?_)
  · have eR : rPeelH h = (va_up (va_up h 7 ((h 7) - 1)) 8 ((h 8) + 1)) := by unfold rPeelH; first | (rw [if_pos (by omega)]; first | done | rfl) | (rw [if_neg (by omega)]; first | done | rfl)
    rw [eR] at hE
    exact zx_vret hC hE (Nat.le_refl _) (Nat.le_refl _) (fun H h => ⟨rfl, h⟩) dX2_peels_51
  · refine zx_aload_n hC dX2_peels_35 rfl ?_
    refine zr_get (v := .ref (ad 1)) hC (zRf.ofH (Rs := [])) 0 (by decide) dX2_peels_36 q1610 rfl ?_
    refine zx_iconst (z := 1) hC dX2_peels_39 ?_
    refine zx_dup2 hC dX2_peels_40 rfl rfl ?_
    refine zr_sldN (x := h 1) hC (zRf.ofH (Rs := [])) 1 dX2_peels_41 (by omega) (by first | rfl | ((repeat first | rw [va_up_ne _ _ (by omega)] | rw [va_up_self] | rw [rFadH_o (by omega)] | rw [rAge_o _ _ (by omega)] | rw [rLayH_o (by omega) (by omega) (by omega) (by omega)]); done)) ?_
    refine zx_iconst (z := 2) hC dX2_peels_42 ?_
    refine zx_aload_n hC dX2_peels_43 rfl ?_
    refine zx_rd1 (r := .int (iI ((rLoop (va_up (va_up h 7 ((h 7) - 1)) 8 ((h 8) + 1)) : Nat) : Int))) hC hA.2 (zcV 0 (As := []) hC (lw_V q1705 q1707 qs47 q93 q1708) (by decide +kernel) rfl (by rw [hRm]; decide) (by rw [hRm]; decide) rfl (Nat.le_of_ble_eq_true rfl) dX2_peels_44) (m_X2_loop (zl X) G ad (va_up (va_up h 7 ((h 7) - 1)) 8 ((h 8) + 1)) F r  (by first | assumption | omega | exact iRm (by omega) (by omega) | (repeat (first | exact gL | refine rLs.up ?_ (by omega) (by omega) | refine rLs.fad ?_)) | (repeat (first | exact gM | refine rHM.up ?_ (by omega))) | exact gT _ (by omega) | exact rFadF_le gF _ | ((repeat first | rw [va_up_ne _ _ (by omega)] | rw [va_up_self] | rw [rFadH_o (by omega)] | rw [rAge_o _ _ (by omega)] | rw [rLayH_o (by omega) (by omega) (by omega) (by omega)]); omega))) (zr_rc hC (zRf.ofH (Rs := []))) (zRf.ofH (Rs := [])) ?_
    refine zx_imul hC dX2_peels_47 ?_
    refine zx_i2l hC dX2_peels_48 (by first | assumption | exact gI _ (by omega) | exact iRm (by omega) (by omega)) ?_
    refine zx_lrem hC dX2_peels_49 (by first | assumption | exact lRm (by omega) (by omega)) (by first | assumption | exact lRm (by omega) (by omega)) (by omega) (by omega) ?_
    refine zr_sstN (v := (h 1) % (2 * (rLoop (va_up (va_up h 7 ((h 7) - 1)) 8 ((h 8) + 1))))) hC 1 dX2_peels_50 (by omega) ?_
    have eR : rPeelH h = (va_up (va_up (va_up h 7 ((h 7) - 1)) 8 ((h 8) + 1)) 1 ((h 1) % (2 * (rLoop (va_up (va_up h 7 ((h 7) - 1)) 8 ((h 8) + 1)))))) := by unfold rPeelH; first | (rw [if_pos (by omega)]; first | done | rfl) | (rw [if_neg (by omega)]; first | done | rfl)
    rw [eR] at hE
    exact zx_vret hC hE (Nat.le_refl _) (Nat.le_refl _) (fun H h => ⟨rfl, h⟩) dX2_peels_51
set_option maxHeartbeats 4000000 in
theorem m_X2_backs (la : Launch) (G : zG) (ad : Nat → Nat) (h : Nat → Nat) (F : Nat → Nat → Nat → Nat) (r : zR5)  (g0 : 1 ≤ h 8) : zMA la yX2_backs cX2_backs 1 none 0 0 G [.ref (ad 0)] [REF G ad ((h, F), r)] (fun v9 => v9 = none) (fun _ => [REF G ad (((va_up (va_up h 7 (h 7 + 1)) 8 (h 8 - 1)), F), r)]) 0 0 := by
  refine zMA.of [some (.ref (ad 0))] (by decide) (Nat.le_of_ble_eq_true rfl) rfl (fun X A hl hC hnm hA hRm hE => ?_)
  refine zx_aload_n hC dX2_backs_0 rfl ?_
  refine zr_get (v := .ref (ad 1)) hC (zRf.ofH (Rs := [])) 0 (by decide) dX2_backs_1 q1610 rfl ?_
  refine zx_bipush (z := 7) hC dX2_backs_4 rfl ?_
  refine zx_dup2 hC dX2_backs_6 rfl rfl ?_
  refine zr_sldN (x := h 7) hC (zRf.ofH (Rs := [])) 7 dX2_backs_7 (by omega) rfl ?_
  refine zx_lconst1 hC dX2_backs_8 ?_
  refine zx_ladd hC dX2_backs_9 ?_
  refine zr_sstN (v := (h 7) + 1) hC 7 dX2_backs_10 (by omega) ?_
  refine zx_aload_n hC dX2_backs_11 rfl ?_
  refine zr_get (v := .ref (ad 1)) hC (zRf.ofH (Rs := [])) 0 (by decide) dX2_backs_12 q1610 rfl ?_
  refine zx_bipush (z := 8) hC dX2_backs_15 rfl ?_
  refine zx_dup2 hC dX2_backs_17 rfl rfl ?_
  refine zr_sldN (x := h 8) hC (zRf.ofH (Rs := [])) 8 dX2_backs_18 (by omega) (by first | rfl | ((repeat first | rw [va_up_ne _ _ (by omega)] | rw [va_up_self] | rw [rFadH_o (by omega)] | rw [rAge_o _ _ (by omega)] | rw [rLayH_o (by omega) (by omega) (by omega) (by omega)]); done)) ?_
  refine zx_lconst1 hC dX2_backs_19 ?_
  refine zx_lsub hC dX2_backs_20 ?_
  refine zx_topl (b := (((h 8) - 1 : Nat) : Int)) (by omega) ?_
  refine zr_sstN (v := (h 8) - 1) hC 8 dX2_backs_21 (by omega) ?_
  exact zx_vret hC hE (Nat.le_refl _) (Nat.le_refl _) (fun H h => ⟨rfl, h⟩) dX2_backs_22
