/-! the reference, walked: part 27 (printed by gen/gen.py) -/
set_option maxRecDepth 100000
set_option maxHeartbeats 4000000 in
theorem m_X2_goes (la : Launch) (G : zG) (ad : Nat → Nat) (h : Nat → Nat) (F : Nat → Nat → Nat → Nat) (ps : Nat → zRS) (sn : zRS) (iv pd : Nat → Nat) (sp : Nat → Int) (p : Nat) (one : Int) (g0 : iv 2 ≤ 60) (g1 : p ≤ 300) (gP : tPd pd) (gO : rGoOK h F pd (iv 2) p one) : zMA la yX2_goes cX2_goes 3 (some .int) 6 132 G [.ref (ad 0), .int (iI ((p : Nat) : Int)), .int (iI one)] [REF G ad ((h, F), ps, sn, iv, pd, sp)] (fun v9 => v9 = some (.int (iI ((rGoV h F pd (iv 2) p one : Nat) : Int)))) (fun _ => [REF G ad (((rGoS h F pd (iv 2) p one).1, (rGoS h F pd (iv 2) p one).2), ps, sn, iv, pd, sp)]) 0 0 := by
  refine zMA.of [some (.ref (ad 0)), some (.int (iI ((p : Nat) : Int))), some (.int (iI one))] (by decide) (Nat.le_of_ble_eq_true rfl) rfl (fun X A hl hC hnm hA hRm hE => ?_)
  obtain ⟨gK, gp2, gp3, gp4, gp5⟩ := gO
  obtain ⟨k0, k1, k2, k3, k4, k5, k6, k7, k8, k9, k11, k12, gL, gF⟩ := id gK
  dsimp only at k0 k1 k2 k3 k4 k5 k6 k7 k8 k9 k11 k12 gL gF
  have gs := tSg_r gP (iv 2) p
  refine zx_aload_n hC dX2_goes_0 rfl ?_
  refine zx_iload_n hC dX2_goes_1 rfl ?_
  refine zx_rd1 (r := .int (iI (tSg pd (iv 2) p))) hC hA.2 (zcV 1 (As := [.int (iI ((p : Nat) : Int))]) hC (lw_V q1827 q1829 qs64 q93 q1830) (by decide +kernel) rfl (by rw [hRm]; decide) (by rw [hRm]; decide) rfl (Nat.le_of_ble_eq_true rfl) dX2_goes_2) (m_X2_sign (zl X) G ad h F ps sn iv pd sp p (by first | assumption | omega | exact iRm (by omega) (by omega) | ((repeat (first | exact gL | refine rLs.up ?_ (by omega) (by omega) | refine rLs.fad ?_)); done) | ((repeat (first | exact gM | refine rHM.up ?_ (by omega))); done) | exact gT _ (by omega) | exact rFadF_le gF _ | ((repeat first | rw [va_up_ne _ _ (by omega)] | rw [va_up_self] | rw [rFadH_o (by omega)] | rw [rAge_o _ _ (by omega)] | rw [rLayH_o (by omega) (by omega) (by omega) (by omega)]); omega)) (by first | assumption | omega | exact iRm (by omega) (by omega) | ((repeat (first | exact gL | refine rLs.up ?_ (by omega) (by omega) | refine rLs.fad ?_)); done) | ((repeat (first | exact gM | refine rHM.up ?_ (by omega))); done) | exact gT _ (by omega) | exact rFadF_le gF _ | ((repeat first | rw [va_up_ne _ _ (by omega)] | rw [va_up_self] | rw [rFadH_o (by omega)] | rw [rAge_o _ _ (by omega)] | rw [rLayH_o (by omega) (by omega) (by omega) (by omega)]); omega))) (zr_rc hC (zRf.ofH (Rs := []))) (zRf.ofH (Rs := [])) ?_
  rcases (show tSg pd (iv 2) p = 104 ∨ tSg pd (iv 2) p = 105 ∨ tSg pd (iv 2) p = 106 ∨ tSg pd (iv 2) p = 107 ∨ tSg pd (iv 2) p = 108 ∨ tSg pd (iv 2) p = 109 ∨ tSg pd (iv 2) p = 110 ∨ tSg pd (iv 2) p = 111 ∨ tSg pd (iv 2) p = 112 ∨ tSg pd (iv 2) p = 113 ∨ tSg pd (iv 2) p = 114 ∨ tSg pd (iv 2) p = 115 ∨ tSg pd (iv 2) p = 116 ∨ tSg pd (iv 2) p = 117 ∨ tSg pd (iv 2) p = 118 ∨ tSg pd (iv 2) p = 119 ∨ tSg pd (iv 2) p = 120 ∨ tSg pd (iv 2) p = 121 ∨ (tSg pd (iv 2) p < 104 ∨ 121 < tSg pd (iv 2) p) by omega) with hs | hs | hs | hs | hs | hs | hs | hs | hs | hs | hs | hs | hs | hs | hs | hs | hs | hs | hs
  · refine zx_tableIn (off := 111) (tgt := 116) hC 0 dX2_goes_5 (by first | assumption | exact gI _ (by omega) | exact iRm (by omega) (by omega)) (by omega) (by decide) rfl (by decide) ?_
    refine zx_aload_n hC dX2_goes_116 rfl ?_
    obtain ⟨a1, a2, a3, a4, a5, a6, a7⟩ := gp4 (by omega)
    have a8 := tNuE_in a5 (by omega)
    refine zx_iload_n hC dX2_goes_117 rfl ?_
    obtain ⟨k1n, ek1n⟩ : ∃ k1n : Nat, one = (k1n : Int) := ⟨(one).toNat, by omega⟩
    rw [ek1n]
    refine zx_aload_n hC dX2_goes_118 rfl ?_
    refine zx_aload_n hC dX2_goes_119 rfl ?_
    refine zx_iload_n hC dX2_goes_120 rfl ?_
    refine zx_iconst (z := 1) hC dX2_goes_121 ?_
    refine zx_iadd hC dX2_goes_122 ?_
    refine zx_iconst (z := 0) hC dX2_goes_123 ?_
    refine zx_bipush (z := 99) hC dX2_goes_124 rfl ?_
    refine zx_rd1 (r := .int (iI (tNuE pd (iv 2) ((p + 1 : Nat) : Int) 0 99))) hC hA.2 (zcV 3 (As := [.int (iI ((p + 1 : Nat) : Int)), .int (iI 0), .int (iI 99)]) hC (lw_V q1831 q1833 qs65 q93 q1834) (by decide +kernel) rfl (by rw [hRm]; decide) (by rw [hRm]; decide) rfl (Nat.le_of_ble_eq_true rfl) dX2_goes_126) (m_X2_numberEnd (zl X) G ad h F ps sn iv pd sp ((p + 1 : Nat) : Int) 0 99 (by first | assumption | omega | exact iRm (by omega) (by omega) | ((repeat (first | exact gL | refine rLs.up ?_ (by omega) (by omega) | refine rLs.fad ?_)); done) | ((repeat (first | exact gM | refine rHM.up ?_ (by omega))); done) | exact gT _ (by omega) | exact rFadF_le gF _ | ((repeat first | rw [va_up_ne _ _ (by omega)] | rw [va_up_self] | rw [rFadH_o (by omega)] | rw [rAge_o _ _ (by omega)] | rw [rLayH_o (by omega) (by omega) (by omega) (by omega)]); omega)) (by first | assumption | omega | exact iRm (by omega) (by omega) | ((repeat (first | exact gL | refine rLs.up ?_ (by omega) (by omega) | refine rLs.fad ?_)); done) | ((repeat (first | exact gM | refine rHM.up ?_ (by omega))); done) | exact gT _ (by omega) | exact rFadF_le gF _ | ((repeat first | rw [va_up_ne _ _ (by omega)] | rw [va_up_self] | rw [rFadH_o (by omega)] | rw [rAge_o _ _ (by omega)] | rw [rLayH_o (by omega) (by omega) (by omega) (by omega)]); omega)) (by first | assumption | omega | exact iRm (by omega) (by omega) | ((repeat (first | exact gL | refine rLs.up ?_ (by omega) (by omega) | refine rLs.fad ?_)); done) | ((repeat (first | exact gM | refine rHM.up ?_ (by omega))); done) | exact gT _ (by omega) | exact rFadF_le gF _ | ((repeat first | rw [va_up_ne _ _ (by omega)] | rw [va_up_self] | rw [rFadH_o (by omega)] | rw [rAge_o _ _ (by omega)] | rw [rLayH_o (by omega) (by omega) (by omega) (by omega)]); omega)) (by first | assumption | omega | exact iRm (by omega) (by omega) | ((repeat (first | exact gL | refine rLs.up ?_ (by omega) (by omega) | refine rLs.fad ?_)); done) | ((repeat (first | exact gM | refine rHM.up ?_ (by omega))); done) | exact gT _ (by omega) | exact rFadF_le gF _ | ((repeat first | rw [va_up_ne _ _ (by omega)] | rw [va_up_self] | rw [rFadH_o (by omega)] | rw [rAge_o _ _ (by omega)] | rw [rLayH_o (by omega) (by omega) (by omega) (by omega)]); omega)) (by first | assumption | omega | exact iRm (by omega) (by omega) | ((repeat (first | exact gL | refine rLs.up ?_ (by omega) (by omega) | refine rLs.fad ?_)); done) | ((repeat (first | exact gM | refine rHM.up ?_ (by omega))); done) | exact gT _ (by omega) | exact rFadF_le gF _ | ((repeat first | rw [va_up_ne _ _ (by omega)] | rw [va_up_self] | rw [rFadH_o (by omega)] | rw [rAge_o _ _ (by omega)] | rw [rLayH_o (by omega) (by omega) (by omega) (by omega)]); omega)) (by first | assumption | omega | exact iRm (by omega) (by omega) | ((repeat (first | exact gL | refine rLs.up ?_ (by omega) (by omega) | refine rLs.fad ?_)); done) | ((repeat (first | exact gM | refine rHM.up ?_ (by omega))); done) | exact gT _ (by omega) | exact rFadF_le gF _ | ((repeat first | rw [va_up_ne _ _ (by omega)] | rw [va_up_self] | rw [rFadH_o (by omega)] | rw [rAge_o _ _ (by omega)] | rw [rLayH_o (by omega) (by omega) (by omega) (by omega)]); omega))) (zr_rc hC (zRf.ofH (Rs := []))) (zRf.ofH (Rs := [])) ?_
    obtain ⟨q1, eq1⟩ : ∃ q1 : Nat, tNuE pd (iv 2) ((p + 1 : Nat) : Int) 0 99 = (q1 : Int) := ⟨(tNuE pd (iv 2) ((p + 1 : Nat) : Int) 0 99).toNat, by omega⟩
    rw [eq1]
    refine zx_iconst (z := 1) hC dX2_goes_129 ?_
    refine zx_iadd hC dX2_goes_130 ?_
    refine zx_rd1 (r := .int (iI (tNaA pd (iv 2) (q1 + 1)))) hC hA.2 (zcV 1 (As := [.int (iI ((q1 + 1 : Nat) : Int))]) hC (lw_V q1851 q1853 qs69 q93 q1854) (by decide +kernel) rfl (by rw [hRm]; decide) (by rw [hRm]; decide) rfl (Nat.le_of_ble_eq_true rfl) dX2_goes_131) (m_X2_numberAt (zl X) G ad h F ps sn iv pd sp (q1 + 1) (by first | assumption | omega | exact iRm (by omega) (by omega) | ((repeat (first | exact gL | refine rLs.up ?_ (by omega) (by omega) | refine rLs.fad ?_)); done) | ((repeat (first | exact gM | refine rHM.up ?_ (by omega))); done) | exact gT _ (by omega) | exact rFadF_le gF _ | ((repeat first | rw [va_up_ne _ _ (by omega)] | rw [va_up_self] | rw [rFadH_o (by omega)] | rw [rAge_o _ _ (by omega)] | rw [rLayH_o (by omega) (by omega) (by omega) (by omega)]); omega)) (by first | assumption | omega | exact iRm (by omega) (by omega) | ((repeat (first | exact gL | refine rLs.up ?_ (by omega) (by omega) | refine rLs.fad ?_)); done) | ((repeat (first | exact gM | refine rHM.up ?_ (by omega))); done) | exact gT _ (by omega) | exact rFadF_le gF _ | ((repeat first | rw [va_up_ne _ _ (by omega)] | rw [va_up_self] | rw [rFadH_o (by omega)] | rw [rAge_o _ _ (by omega)] | rw [rLayH_o (by omega) (by omega) (by omega) (by omega)]); omega)) (by first | assumption | omega | exact iRm (by omega) (by omega) | ((repeat (first | exact gL | refine rLs.up ?_ (by omega) (by omega) | refine rLs.fad ?_)); done) | ((repeat (first | exact gM | refine rHM.up ?_ (by omega))); done) | exact gT _ (by omega) | exact rFadF_le gF _ | ((repeat first | rw [va_up_ne _ _ (by omega)] | rw [va_up_self] | rw [rFadH_o (by omega)] | rw [rAge_o _ _ (by omega)] | rw [rLayH_o (by omega) (by omega) (by omega) (by omega)]); omega))) (zr_rc hC (zRf.ofH (Rs := []))) (zRf.ofH (Rs := [])) ?_
    have et2 : tTwo pd (iv 2) p = tNaA pd (iv 2) (q1 + 1) := by unfold tTwo; rw [eq1, Int.toNat_natCast]
    obtain ⟨q2, eq2⟩ : ∃ q2 : Nat, tNaA pd (iv 2) (q1 + 1) = (q2 : Int) := ⟨(tNaA pd (iv 2) (q1 + 1)).toNat, by omega⟩
    rw [eq2]
    refine zx_ma1 (r := .int (iI ((rThen h F k1n q2 : Nat) : Int))) (Q := fun _ => [REF G ad ((h, (zupF F 6 (rCell h) (k1n + 12 * h 2) (rThen h F k1n q2))), ps, sn, iv, pd, sp)]) hC hA [0] [] (zcV 2 (As := [.int (iI ((k1n : Nat) : Int)), .int (iI ((q2 : Nat) : Int))]) hC (lw_V q1746 q1748 qs53 q93 q1749) (by decide +kernel) rfl (by rw [hRm]; decide) (by rw [hRm]; decide) rfl (Nat.le_of_ble_eq_true rfl) dX2_goes_134) (m_X2_hits (zl X) G ad h F (ps, sn, iv, pd, sp) k1n q2 (by first | assumption | omega | exact iRm (by omega) (by omega) | ((repeat (first | exact gL | refine rLs.up ?_ (by omega) (by omega) | refine rLs.fad ?_)); done) | ((repeat (first | exact gM | refine rHM.up ?_ (by omega))); done) | exact gT _ (by omega) | exact rFadF_le gF _ | ((repeat first | rw [va_up_ne _ _ (by omega)] | rw [va_up_self] | rw [rFadH_o (by omega)] | rw [rAge_o _ _ (by omega)] | rw [rLayH_o (by omega) (by omega) (by omega) (by omega)]); omega)) (by first | assumption | omega | exact iRm (by omega) (by omega) | ((repeat (first | exact gL | refine rLs.up ?_ (by omega) (by omega) | refine rLs.fad ?_)); done) | ((repeat (first | exact gM | refine rHM.up ?_ (by omega))); done) | exact gT _ (by omega) | exact rFadF_le gF _ | ((repeat first | rw [va_up_ne _ _ (by omega)] | rw [va_up_self] | rw [rFadH_o (by omega)] | rw [rAge_o _ _ (by omega)] | rw [rLayH_o (by omega) (by omega) (by omega) (by omega)]); omega)) (by first | assumption | omega | exact iRm (by omega) (by omega) | ((repeat (first | exact gL | refine rLs.up ?_ (by omega) (by omega) | refine rLs.fad ?_)); done) | ((repeat (first | exact gM | refine rHM.up ?_ (by omega))); done) | exact gT _ (by omega) | exact rFadF_le gF _ | ((repeat first | rw [va_up_ne _ _ (by omega)] | rw [va_up_self] | rw [rFadH_o (by omega)] | rw [rAge_o _ _ (by omega)] | rw [rLayH_o (by omega) (by omega) (by omega) (by omega)]); omega)) (by first | assumption | omega | exact iRm (by omega) (by omega) | ((repeat (first | exact gL | refine rLs.up ?_ (by omega) (by omega) | refine rLs.fad ?_)); done) | ((repeat (first | exact gM | refine rHM.up ?_ (by omega))); done) | exact gT _ (by omega) | exact rFadF_le gF _ | ((repeat first | rw [va_up_ne _ _ (by omega)] | rw [va_up_self] | rw [rFadH_o (by omega)] | rw [rAge_o _ _ (by omega)] | rw [rLayH_o (by omega) (by omega) (by omega) (by omega)]); omega)) (by first | assumption | omega | exact iRm (by omega) (by omega) | ((repeat (first | exact gL | refine rLs.up ?_ (by omega) (by omega) | refine rLs.fad ?_)); done) | ((repeat (first | exact gM | refine rHM.up ?_ (by omega))); done) | exact gT _ (by omega) | exact rFadF_le gF _ | ((repeat first | rw [va_up_ne _ _ (by omega)] | rw [va_up_self] | rw [rFadH_o (by omega)] | rw [rAge_o _ _ (by omega)] | rw [rLayH_o (by omega) (by omega) (by omega) (by omega)]); omega)) (by first | assumption | omega | exact iRm (by omega) (by omega) | ((repeat (first | exact gL | refine rLs.up ?_ (by omega) (by omega) | refine rLs.fad ?_)); done) | ((repeat (first | exact gM | refine rHM.up ?_ (by omega))); done) | exact gT _ (by omega) | exact rFadF_le gF _ | ((repeat first | rw [va_up_ne _ _ (by omega)] | rw [va_up_self] | rw [rFadH_o (by omega)] | rw [rAge_o _ _ (by omega)] | rw [rLayH_o (by omega) (by omega) (by omega) (by omega)]); omega)) (by first | assumption | omega | exact iRm (by omega) (by omega) | ((repeat (first | exact gL | refine rLs.up ?_ (by omega) (by omega) | refine rLs.fad ?_)); done) | ((repeat (first | exact gM | refine rHM.up ?_ (by omega))); done) | exact gT _ (by omega) | exact rFadF_le gF _ | ((repeat first | rw [va_up_ne _ _ (by omega)] | rw [va_up_self] | rw [rFadH_o (by omega)] | rw [rAge_o _ _ (by omega)] | rw [rLayH_o (by omega) (by omega) (by omega) (by omega)]); omega)) (by first | assumption | omega | exact iRm (by omega) (by omega) | ((repeat (first | exact gL | refine rLs.up ?_ (by omega) (by omega) | refine rLs.fad ?_)); done) | ((repeat (first | exact gM | refine rHM.up ?_ (by omega))); done) | exact gT _ (by omega) | exact rFadF_le gF _ | ((repeat first | rw [va_up_ne _ _ (by omega)] | rw [va_up_self] | rw [rFadH_o (by omega)] | rw [rAge_o _ _ (by omega)] | rw [rLayH_o (by omega) (by omega) (by omega) (by omega)]); omega)) (by first | assumption | omega | exact iRm (by omega) (by omega) | ((repeat (first | exact gL | refine rLs.up ?_ (by omega) (by omega) | refine rLs.fad ?_)); done) | ((repeat (first | exact gM | refine rHM.up ?_ (by omega))); done) | exact gT _ (by omega) | exact rFadF_le gF _ | ((repeat first | rw [va_up_ne _ _ (by omega)] | rw [va_up_self] | rw [rFadH_o (by omega)] | rw [rAge_o _ _ (by omega)] | rw [rLayH_o (by omega) (by omega) (by omega) (by omega)]); omega)) (by first | assumption | omega | exact iRm (by omega) (by omega) | ((repeat (first | exact gL | refine rLs.up ?_ (by omega) (by omega) | refine rLs.fad ?_)); done) | ((repeat (first | exact gM | refine rHM.up ?_ (by omega))); done) | exact gT _ (by omega) | exact rFadF_le gF _ | ((repeat first | rw [va_up_ne _ _ (by omega)] | rw [va_up_self] | rw [rFadH_o (by omega)] | rw [rAge_o _ _ (by omega)] | rw [rLayH_o (by omega) (by omega) (by omega) (by omega)]); omega))) (zr_rc hC (zRf.ofH (Rs := []))) rfl rfl rfl ?_
    show zVm X G ad A 3 ((h, (zupF F 6 (rCell h) (k1n + 12 * h 2) (rThen h F k1n q2))), ps, sn, iv, pd, sp) 137 [some (.ref (ad 0)), some (.int (iI ((p : Nat) : Int))), some (.int (iI ((k1n : Nat) : Int)))] [.int (iI ((rThen h F k1n q2 : Nat) : Int))]
    have eR : rGoS h F pd (iv 2) p one = (h, (zupF F 6 (rCell h) (k1n + 12 * h 2) (rThen h F k1n q2))) := by unfold rGoS; (repeat first | rw [if_pos (by omega)] | rw [if_neg (by omega)]); first | done | (simp only [et2, eq2, ek1n, Int.toNat_natCast]; done) | (simp only [ek1n, Int.toNat_natCast]; done)
    rw [eR] at hE
    have eV : rGoV h F pd (iv 2) p one = rThen h F k1n q2 := by unfold rGoV; (repeat first | rw [if_pos (by omega)] | rw [if_neg (by omega)]); first | done | (simp only [et2, eq2, ek1n, Int.toNat_natCast]; done) | (simp only [ek1n, Int.toNat_natCast]; done)
    rw [eV] at hE
    exact zx_iret hC hE (Nat.le_refl _) (Nat.le_refl _) (fun H h => ⟨rfl, h⟩) dX2_goes_137
  · refine zx_tableIn (off := 139) (tgt := 144) hC 1 dX2_goes_5 (by first | assumption | exact gI _ (by omega) | exact iRm (by omega) (by omega)) (by omega) (by decide) rfl (by decide) ?_
    refine zx_aload_n hC dX2_goes_144 rfl ?_
    refine zr_get (v := .ref (ad 1)) hC (zRf.ofH (Rs := [])) 0 (by decide) dX2_goes_145 q1610 rfl ?_
    refine zx_iconst (z := 2) hC dX2_goes_148 ?_
    refine zx_lconst1 hC dX2_goes_149 ?_
    refine zx_aload_n hC dX2_goes_150 rfl ?_
    refine zr_get (v := .ref (ad 1)) hC (zRf.ofH (Rs := [])) 0 (by decide) dX2_goes_151 q1610 rfl ?_
    refine zx_iconst (z := 2) hC dX2_goes_154 ?_
    refine zr_sldN (x := h 2) hC (zRf.ofH (Rs := [])) 2 dX2_goes_155 (by omega) rfl ?_
    refine zx_lsub hC dX2_goes_156 ?_
    refine zx_topl (b := ((1 - (h 2) : Nat) : Int)) (by omega) ?_
    refine zr_sstN (v := 1 - (h 2)) hC 2 dX2_goes_157 (by omega) ?_
    refine zx_iconst (z := 0) hC dX2_goes_158 ?_
    have eR : rGoS h F pd (iv 2) p one = ((va_up h 2 (1 - (h 2))), F) := by unfold rGoS; (repeat first | rw [if_pos (by omega)] | rw [if_neg (by omega)]); first | done | (simp only [et2, eq2, ek1n, Int.toNat_natCast]; done) | (simp only [ek1n, Int.toNat_natCast]; done)
    rw [eR] at hE
    have eV : rGoV h F pd (iv 2) p one = 0 := by unfold rGoV; (repeat first | rw [if_pos (by omega)] | rw [if_neg (by omega)]); first | done | (simp only [et2, eq2, ek1n, Int.toNat_natCast]; done) | (simp only [ek1n, Int.toNat_natCast]; done)
    rw [eV] at hE
    exact zx_iret hC hE (Nat.le_refl _) (Nat.le_refl _) (fun H h => ⟨rfl, h⟩) dX2_goes_159
  · refine zx_tableIn (off := 139) (tgt := 144) hC 2 dX2_goes_5 (by first | assumption | exact gI _ (by omega) | exact iRm (by omega) (by omega)) (by omega) (by decide) rfl (by decide) ?_
    refine zx_aload_n hC dX2_goes_144 rfl ?_
    refine zr_get (v := .ref (ad 1)) hC (zRf.ofH (Rs := [])) 0 (by decide) dX2_goes_145 q1610 rfl ?_
    refine zx_iconst (z := 2) hC dX2_goes_148 ?_
    refine zx_lconst1 hC dX2_goes_149 ?_
    refine zx_aload_n hC dX2_goes_150 rfl ?_
    refine zr_get (v := .ref (ad 1)) hC (zRf.ofH (Rs := [])) 0 (by decide) dX2_goes_151 q1610 rfl ?_
    refine zx_iconst (z := 2) hC dX2_goes_154 ?_
    refine zr_sldN (x := h 2) hC (zRf.ofH (Rs := [])) 2 dX2_goes_155 (by omega) rfl ?_
    refine zx_lsub hC dX2_goes_156 ?_
    refine zx_topl (b := ((1 - (h 2) : Nat) : Int)) (by omega) ?_
    refine zr_sstN (v := 1 - (h 2)) hC 2 dX2_goes_157 (by omega) ?_
    refine zx_iconst (z := 0) hC dX2_goes_158 ?_
    have eR : rGoS h F pd (iv 2) p one = ((va_up h 2 (1 - (h 2))), F) := by unfold rGoS; (repeat first | rw [if_pos (by omega)] | rw [if_neg (by omega)]); first | done | (simp only [et2, eq2, ek1n, Int.toNat_natCast]; done) | (simp only [ek1n, Int.toNat_natCast]; done)
    rw [eR] at hE
    have eV : rGoV h F pd (iv 2) p one = 0 := by unfold rGoV; (repeat first | rw [if_pos (by omega)] | rw [if_neg (by omega)]); first | done | (simp only [et2, eq2, ek1n, Int.toNat_natCast]; done) | (simp only [ek1n, Int.toNat_natCast]; done)
    rw [eV] at hE
    exact zx_iret hC hE (Nat.le_refl _) (Nat.le_refl _) (fun H h => ⟨rfl, h⟩) dX2_goes_159
  · refine zx_tableIn (off := 139) (tgt := 144) hC 3 dX2_goes_5 (by first | assumption | exact gI _ (by omega) | exact iRm (by omega) (by omega)) (by omega) (by decide) rfl (by decide) ?_
    refine zx_aload_n hC dX2_goes_144 rfl ?_
    refine zr_get (v := .ref (ad 1)) hC (zRf.ofH (Rs := [])) 0 (by decide) dX2_goes_145 q1610 rfl ?_
    refine zx_iconst (z := 2) hC dX2_goes_148 ?_
    refine zx_lconst1 hC dX2_goes_149 ?_
    refine zx_aload_n hC dX2_goes_150 rfl ?_
    refine zr_get (v := .ref (ad 1)) hC (zRf.ofH (Rs := [])) 0 (by decide) dX2_goes_151 q1610 rfl ?_
    refine zx_iconst (z := 2) hC dX2_goes_154 ?_
    refine zr_sldN (x := h 2) hC (zRf.ofH (Rs := [])) 2 dX2_goes_155 (by omega) rfl ?_
    refine zx_lsub hC dX2_goes_156 ?_
    refine zx_topl (b := ((1 - (h 2) : Nat) : Int)) (by omega) ?_
    refine zr_sstN (v := 1 - (h 2)) hC 2 dX2_goes_157 (by omega) ?_
    refine zx_iconst (z := 0) hC dX2_goes_158 ?_
    have eR : rGoS h F pd (iv 2) p one = ((va_up h 2 (1 - (h 2))), F) := by unfold rGoS; (repeat first | rw [if_pos (by omega)] | rw [if_neg (by omega)]); first | done | (simp only [et2, eq2, ek1n, Int.toNat_natCast]; done) | (simp only [ek1n, Int.toNat_natCast]; done)
    rw [eR] at hE
    have eV : rGoV h F pd (iv 2) p one = 0 := by unfold rGoV; (repeat first | rw [if_pos (by omega)] | rw [if_neg (by omega)]); first | done | (simp only [et2, eq2, ek1n, Int.toNat_natCast]; done) | (simp only [ek1n, Int.toNat_natCast]; done)
    rw [eV] at hE
    exact zx_iret hC hE (Nat.le_refl _) (Nat.le_refl _) (fun H h => ⟨rfl, h⟩) dX2_goes_159
  · refine zx_tableIn (off := 139) (tgt := 144) hC 4 dX2_goes_5 (by first | assumption | exact gI _ (by omega) | exact iRm (by omega) (by omega)) (by omega) (by decide) rfl (by decide) ?_
    refine zx_aload_n hC dX2_goes_144 rfl ?_
    refine zr_get (v := .ref (ad 1)) hC (zRf.ofH (Rs := [])) 0 (by decide) dX2_goes_145 q1610 rfl ?_
    refine zx_iconst (z := 2) hC dX2_goes_148 ?_
    refine zx_lconst1 hC dX2_goes_149 ?_
    refine zx_aload_n hC dX2_goes_150 rfl ?_
    refine zr_get (v := .ref (ad 1)) hC (zRf.ofH (Rs := [])) 0 (by decide) dX2_goes_151 q1610 rfl ?_
    refine zx_iconst (z := 2) hC dX2_goes_154 ?_
    refine zr_sldN (x := h 2) hC (zRf.ofH (Rs := [])) 2 dX2_goes_155 (by omega) rfl ?_
    refine zx_lsub hC dX2_goes_156 ?_
    refine zx_topl (b := ((1 - (h 2) : Nat) : Int)) (by omega) ?_
    refine zr_sstN (v := 1 - (h 2)) hC 2 dX2_goes_157 (by omega) ?_
    refine zx_iconst (z := 0) hC dX2_goes_158 ?_
    have eR : rGoS h F pd (iv 2) p one = ((va_up h 2 (1 - (h 2))), F) := by unfold rGoS; (repeat first | rw [if_pos (by omega)] | rw [if_neg (by omega)]); first | done | (simp only [et2, eq2, ek1n, Int.toNat_natCast]; done) | (simp only [ek1n, Int.toNat_natCast]; done)
    rw [eR] at hE
    have eV : rGoV h F pd (iv 2) p one = 0 := by unfold rGoV; (repeat first | rw [if_pos (by omega)] | rw [if_neg (by omega)]); first | done | (simp only [et2, eq2, ek1n, Int.toNat_natCast]; done) | (simp only [ek1n, Int.toNat_natCast]; done)
    rw [eV] at hE
    exact zx_iret hC hE (Nat.le_refl _) (Nat.le_refl _) (fun H h => ⟨rfl, h⟩) dX2_goes_159
  · refine zx_tableIn (off := 139) (tgt := 144) hC 5 dX2_goes_5 (by first | assumption | exact gI _ (by omega) | exact iRm (by omega) (by omega)) (by omega) (by decide) rfl (by decide) ?_
    refine zx_aload_n hC dX2_goes_144 rfl ?_
    refine zr_get (v := .ref (ad 1)) hC (zRf.ofH (Rs := [])) 0 (by decide) dX2_goes_145 q1610 rfl ?_
    refine zx_iconst (z := 2) hC dX2_goes_148 ?_
    refine zx_lconst1 hC dX2_goes_149 ?_
    refine zx_aload_n hC dX2_goes_150 rfl ?_
    refine zr_get (v := .ref (ad 1)) hC (zRf.ofH (Rs := [])) 0 (by decide) dX2_goes_151 q1610 rfl ?_
    refine zx_iconst (z := 2) hC dX2_goes_154 ?_
    refine zr_sldN (x := h 2) hC (zRf.ofH (Rs := [])) 2 dX2_goes_155 (by omega) rfl ?_
    refine zx_lsub hC dX2_goes_156 ?_
    refine zx_topl (b := ((1 - (h 2) : Nat) : Int)) (by omega) ?_
    refine zr_sstN (v := 1 - (h 2)) hC 2 dX2_goes_157 (by omega) ?_
    refine zx_iconst (z := 0) hC dX2_goes_158 ?_
    have eR : rGoS h F pd (iv 2) p one = ((va_up h 2 (1 - (h 2))), F) := by unfold rGoS; (repeat first | rw [if_pos (by omega)] | rw [if_neg (by omega)]); first | done | (simp only [et2, eq2, ek1n, Int.toNat_natCast]; done) | (simp only [ek1n, Int.toNat_natCast]; done)
    rw [eR] at hE
    have eV : rGoV h F pd (iv 2) p one = 0 := by unfold rGoV; (repeat first | rw [if_pos (by omega)] | rw [if_neg (by omega)]); first | done | (simp only [et2, eq2, ek1n, Int.toNat_natCast]; done) | (simp only [ek1n, Int.toNat_natCast]; done)
    rw [eV] at hE
    exact zx_iret hC hE (Nat.le_refl _) (Nat.le_refl _) (fun H h => ⟨rfl, h⟩) dX2_goes_159
  · refine zx_tableIn (off := 139) (tgt := 144) hC 6 dX2_goes_5 (by first | assumption | exact gI _ (by omega) | exact iRm (by omega) (by omega)) (by omega) (by decide) rfl (by decide) ?_
    refine zx_aload_n hC dX2_goes_144 rfl ?_
    refine zr_get (v := .ref (ad 1)) hC (zRf.ofH (Rs := [])) 0 (by decide) dX2_goes_145 q1610 rfl ?_
    refine zx_iconst (z := 2) hC dX2_goes_148 ?_
    refine zx_lconst1 hC dX2_goes_149 ?_
    refine zx_aload_n hC dX2_goes_150 rfl ?_
    refine zr_get (v := .ref (ad 1)) hC (zRf.ofH (Rs := [])) 0 (by decide) dX2_goes_151 q1610 rfl ?_
    refine zx_iconst (z := 2) hC dX2_goes_154 ?_
    refine zr_sldN (x := h 2) hC (zRf.ofH (Rs := [])) 2 dX2_goes_155 (by omega) rfl ?_
    refine zx_lsub hC dX2_goes_156 ?_
    refine zx_topl (b := ((1 - (h 2) : Nat) : Int)) (by omega) ?_
    refine zr_sstN (v := 1 - (h 2)) hC 2 dX2_goes_157 (by omega) ?_
    refine zx_iconst (z := 0) hC dX2_goes_158 ?_
    have eR : rGoS h F pd (iv 2) p one = ((va_up h 2 (1 - (h 2))), F) := by unfold rGoS; (repeat first | rw [if_pos (by omega)] | rw [if_neg (by omega)]); first | done | (simp only [et2, eq2, ek1n, Int.toNat_natCast]; done) | (simp only [ek1n, Int.toNat_natCast]; done)
    rw [eR] at hE
    have eV : rGoV h F pd (iv 2) p one = 0 := by unfold rGoV; (repeat first | rw [if_pos (by omega)] | rw [if_neg (by omega)]); first | done | (simp only [et2, eq2, ek1n, Int.toNat_natCast]; done) | (simp only [ek1n, Int.toNat_natCast]; done)
    rw [eV] at hE
    exact zx_iret hC hE (Nat.le_refl _) (Nat.le_refl _) (fun H h => ⟨rfl, h⟩) dX2_goes_159
  · refine zx_tableIn (off := 139) (tgt := 144) hC 7 dX2_goes_5 (by first | assumption | exact gI _ (by omega) | exact iRm (by omega) (by omega)) (by omega) (by decide) rfl (by decide) ?_
    refine zx_aload_n hC dX2_goes_144 rfl ?_
    refine zr_get (v := .ref (ad 1)) hC (zRf.ofH (Rs := [])) 0 (by decide) dX2_goes_145 q1610 rfl ?_
    refine zx_iconst (z := 2) hC dX2_goes_148 ?_
    refine zx_lconst1 hC dX2_goes_149 ?_
    refine zx_aload_n hC dX2_goes_150 rfl ?_
    refine zr_get (v := .ref (ad 1)) hC (zRf.ofH (Rs := [])) 0 (by decide) dX2_goes_151 q1610 rfl ?_
    refine zx_iconst (z := 2) hC dX2_goes_154 ?_
    refine zr_sldN (x := h 2) hC (zRf.ofH (Rs := [])) 2 dX2_goes_155 (by omega) rfl ?_
    refine zx_lsub hC dX2_goes_156 ?_
    refine zx_topl (b := ((1 - (h 2) : Nat) : Int)) (by omega) ?_
    refine zr_sstN (v := 1 - (h 2)) hC 2 dX2_goes_157 (by omega) ?_
    refine zx_iconst (z := 0) hC dX2_goes_158 ?_
    have eR : rGoS h F pd (iv 2) p one = ((va_up h 2 (1 - (h 2))), F) := by unfold rGoS; (repeat first | rw [if_pos (by omega)] | rw [if_neg (by omega)]); first | done | (simp only [et2, eq2, ek1n, Int.toNat_natCast]; done) | (simp only [ek1n, Int.toNat_natCast]; done)
    rw [eR] at hE
    have eV : rGoV h F pd (iv 2) p one = 0 := by unfold rGoV; (repeat first | rw [if_pos (by omega)] | rw [if_neg (by omega)]); first | done | (simp only [et2, eq2, ek1n, Int.toNat_natCast]; done) | (simp only [ek1n, Int.toNat_natCast]; done)
    rw [eV] at hE
    exact zx_iret hC hE (Nat.le_refl _) (Nat.le_refl _) (fun H h => ⟨rfl, h⟩) dX2_goes_159
  · refine zx_tableIn (off := 87) (tgt := 92) hC 8 dX2_goes_5 (by first | assumption | exact gI _ (by omega) | exact iRm (by omega) (by omega)) (by omega) (by decide) rfl (by decide) ?_
    refine zx_aload_n hC dX2_goes_92 rfl ?_
    refine zx_ma0 (Q := fun _ => [REF G ad (((rPress h F).1, (rPress h F).2), ps, sn, iv, pd, sp)]) hC hA [0] [] (zcV 0 (As := []) hC (lw_V q1659 q1661 qs37 q93 q1662) (by decide +kernel) rfl (by rw [hRm]; decide) (by rw [hRm]; decide) rfl (Nat.le_of_ble_eq_true rfl) dX2_goes_93) (m_X2_presses (zl X) G ad h F (ps, sn, iv, pd, sp)  (by first | assumption | omega | exact iRm (by omega) (by omega) | ((repeat (first | exact gL | refine rLs.up ?_ (by omega) (by omega) | refine rLs.fad ?_)); done) | ((repeat (first | exact gM | refine rHM.up ?_ (by omega))); done) | exact gT _ (by omega) | exact rFadF_le gF _ | ((repeat first | rw [va_up_ne _ _ (by omega)] | rw [va_up_self] | rw [rFadH_o (by omega)] | rw [rAge_o _ _ (by omega)] | rw [rLayH_o (by omega) (by omega) (by omega) (by omega)]); omega)) (by first | assumption | omega | exact iRm (by omega) (by omega) | ((repeat (first | exact gL | refine rLs.up ?_ (by omega) (by omega) | refine rLs.fad ?_)); done) | ((repeat (first | exact gM | refine rHM.up ?_ (by omega))); done) | exact gT _ (by omega) | exact rFadF_le gF _ | ((repeat first | rw [va_up_ne _ _ (by omega)] | rw [va_up_self] | rw [rFadH_o (by omega)] | rw [rAge_o _ _ (by omega)] | rw [rLayH_o (by omega) (by omega) (by omega) (by omega)]); omega)) (by first | assumption | omega | exact iRm (by omega) (by omega) | ((repeat (first | exact gL | refine rLs.up ?_ (by omega) (by omega) | refine rLs.fad ?_)); done) | ((repeat (first | exact gM | refine rHM.up ?_ (by omega))); done) | exact gT _ (by omega) | exact rFadF_le gF _ | ((repeat first | rw [va_up_ne _ _ (by omega)] | rw [va_up_self] | rw [rFadH_o (by omega)] | rw [rAge_o _ _ (by omega)] | rw [rLayH_o (by omega) (by omega) (by omega) (by omega)]); omega)) (by first | assumption | omega | exact iRm (by omega) (by omega) | ((repeat (first | exact gL | refine rLs.up ?_ (by omega) (by omega) | refine rLs.fad ?_)); done) | ((repeat (first | exact gM | refine rHM.up ?_ (by omega))); done) | exact gT _ (by omega) | exact rFadF_le gF _ | ((repeat first | rw [va_up_ne _ _ (by omega)] | rw [va_up_self] | rw [rFadH_o (by omega)] | rw [rAge_o _ _ (by omega)] | rw [rLayH_o (by omega) (by omega) (by omega) (by omega)]); omega)) (by first | assumption | omega | exact iRm (by omega) (by omega) | ((repeat (first | exact gL | refine rLs.up ?_ (by omega) (by omega) | refine rLs.fad ?_)); done) | ((repeat (first | exact gM | refine rHM.up ?_ (by omega))); done) | exact gT _ (by omega) | exact rFadF_le gF _ | ((repeat first | rw [va_up_ne _ _ (by omega)] | rw [va_up_self] | rw [rFadH_o (by omega)] | rw [rAge_o _ _ (by omega)] | rw [rLayH_o (by omega) (by omega) (by omega) (by omega)]); omega)) (by first | assumption | omega | exact iRm (by omega) (by omega) | ((repeat (first | exact gL | refine rLs.up ?_ (by omega) (by omega) | refine rLs.fad ?_)); done) | ((repeat (first | exact gM | refine rHM.up ?_ (by omega))); done) | exact gT _ (by omega) | exact rFadF_le gF _ | ((repeat first | rw [va_up_ne _ _ (by omega)] | rw [va_up_self] | rw [rFadH_o (by omega)] | rw [rAge_o _ _ (by omega)] | rw [rLayH_o (by omega) (by omega) (by omega) (by omega)]); omega)) (by first | assumption | omega | exact iRm (by omega) (by omega) | ((repeat (first | exact gL | refine rLs.up ?_ (by omega) (by omega) | refine rLs.fad ?_)); done) | ((repeat (first | exact gM | refine rHM.up ?_ (by omega))); done) | exact gT _ (by omega) | exact rFadF_le gF _ | ((repeat first | rw [va_up_ne _ _ (by omega)] | rw [va_up_self] | rw [rFadH_o (by omega)] | rw [rAge_o _ _ (by omega)] | rw [rLayH_o (by omega) (by omega) (by omega) (by omega)]); omega)) (by first | assumption | omega | exact iRm (by omega) (by omega) | ((repeat (first | exact gL | refine rLs.up ?_ (by omega) (by omega) | refine rLs.fad ?_)); done) | ((repeat (first | exact gM | refine rHM.up ?_ (by omega))); done) | exact gT _ (by omega) | exact rFadF_le gF _ | ((repeat first | rw [va_up_ne _ _ (by omega)] | rw [va_up_self] | rw [rFadH_o (by omega)] | rw [rAge_o _ _ (by omega)] | rw [rLayH_o (by omega) (by omega) (by omega) (by omega)]); omega)) (by first | assumption | omega | exact iRm (by omega) (by omega) | ((repeat (first | exact gL | refine rLs.up ?_ (by omega) (by omega) | refine rLs.fad ?_)); done) | ((repeat (first | exact gM | refine rHM.up ?_ (by omega))); done) | exact gT _ (by omega) | exact rFadF_le gF _ | ((repeat first | rw [va_up_ne _ _ (by omega)] | rw [va_up_self] | rw [rFadH_o (by omega)] | rw [rAge_o _ _ (by omega)] | rw [rLayH_o (by omega) (by omega) (by omega) (by omega)]); omega)) (by first | assumption | omega | exact iRm (by omega) (by omega) | ((repeat (first | exact gL | refine rLs.up ?_ (by omega) (by omega) | refine rLs.fad ?_)); done) | ((repeat (first | exact gM | refine rHM.up ?_ (by omega))); done) | exact gT _ (by omega) | exact rFadF_le gF _ | ((repeat first | rw [va_up_ne _ _ (by omega)] | rw [va_up_self] | rw [rFadH_o (by omega)] | rw [rAge_o _ _ (by omega)] | rw [rLayH_o (by omega) (by omega) (by omega) (by omega)]); omega)) (by first | assumption | omega | exact iRm (by omega) (by omega) | ((repeat (first | exact gL | refine rLs.up ?_ (by omega) (by omega) | refine rLs.fad ?_)); done) | ((repeat (first | exact gM | refine rHM.up ?_ (by omega))); done) | exact gT _ (by omega) | exact rFadF_le gF _ | ((repeat first | rw [va_up_ne _ _ (by omega)] | rw [va_up_self] | rw [rFadH_o (by omega)] | rw [rAge_o _ _ (by omega)] | rw [rLayH_o (by omega) (by omega) (by omega) (by omega)]); omega))) (zr_rc hC (zRf.ofH (Rs := []))) rfl rfl rfl ?_
    show zVm X G ad A 3 (((rPress h F).1, (rPress h F).2), ps, sn, iv, pd, sp) 96 [some (.ref (ad 0)), some (.int (iI ((p : Nat) : Int))), some (.int (iI one))] []
    refine zx_iconst (z := 0) hC dX2_goes_96 ?_
    have eR : rGoS h F pd (iv 2) p one = ((rPress h F).1, (rPress h F).2) := by unfold rGoS; (repeat first | rw [if_pos (by omega)] | rw [if_neg (by omega)]); first | done | (simp only [et2, eq2, ek1n, Int.toNat_natCast]; done) | (simp only [ek1n, Int.toNat_natCast]; done)
    rw [eR] at hE
    have eV : rGoV h F pd (iv 2) p one = 0 := by unfold rGoV; (repeat first | rw [if_pos (by omega)] | rw [if_neg (by omega)]); first | done | (simp only [et2, eq2, ek1n, Int.toNat_natCast]; done) | (simp only [ek1n, Int.toNat_natCast]; done)
    rw [eV] at hE
    exact zx_iret hC hE (Nat.le_refl _) (Nat.le_refl _) (fun H h => ⟨rfl, h⟩) dX2_goes_97
  · refine zx_tableIn (off := 139) (tgt := 144) hC 9 dX2_goes_5 (by first | assumption | exact gI _ (by omega) | exact iRm (by omega) (by omega)) (by omega) (by decide) rfl (by decide) ?_
    refine zx_aload_n hC dX2_goes_144 rfl ?_
    refine zr_get (v := .ref (ad 1)) hC (zRf.ofH (Rs := [])) 0 (by decide) dX2_goes_145 q1610 rfl ?_
    refine zx_iconst (z := 2) hC dX2_goes_148 ?_
    refine zx_lconst1 hC dX2_goes_149 ?_
    refine zx_aload_n hC dX2_goes_150 rfl ?_
    refine zr_get (v := .ref (ad 1)) hC (zRf.ofH (Rs := [])) 0 (by decide) dX2_goes_151 q1610 rfl ?_
    refine zx_iconst (z := 2) hC dX2_goes_154 ?_
    refine zr_sldN (x := h 2) hC (zRf.ofH (Rs := [])) 2 dX2_goes_155 (by omega) rfl ?_
    refine zx_lsub hC dX2_goes_156 ?_
    refine zx_topl (b := ((1 - (h 2) : Nat) : Int)) (by omega) ?_
    refine zr_sstN (v := 1 - (h 2)) hC 2 dX2_goes_157 (by omega) ?_
    refine zx_iconst (z := 0) hC dX2_goes_158 ?_
    have eR : rGoS h F pd (iv 2) p one = ((va_up h 2 (1 - (h 2))), F) := by unfold rGoS; (repeat first | rw [if_pos (by omega)] | rw [if_neg (by omega)]); first | done | (simp only [et2, eq2, ek1n, Int.toNat_natCast]; done) | (simp only [ek1n, Int.toNat_natCast]; done)
    rw [eR] at hE
    have eV : rGoV h F pd (iv 2) p one = 0 := by unfold rGoV; (repeat first | rw [if_pos (by omega)] | rw [if_neg (by omega)]); first | done | (simp only [et2, eq2, ek1n, Int.toNat_natCast]; done) | (simp only [ek1n, Int.toNat_natCast]; done)
    rw [eV] at hE
    exact zx_iret hC hE (Nat.le_refl _) (Nat.le_refl _) (fun H h => ⟨rfl, h⟩) dX2_goes_159
  · refine zx_tableIn (off := 139) (tgt := 144) hC 10 dX2_goes_5 (by first | assumption | exact gI _ (by omega) | exact iRm (by omega) (by omega)) (by omega) (by decide) rfl (by decide) ?_
    refine zx_aload_n hC dX2_goes_144 rfl ?_
    refine zr_get (v := .ref (ad 1)) hC (zRf.ofH (Rs := [])) 0 (by decide) dX2_goes_145 q1610 rfl ?_
    refine zx_iconst (z := 2) hC dX2_goes_148 ?_
    refine zx_lconst1 hC dX2_goes_149 ?_
    refine zx_aload_n hC dX2_goes_150 rfl ?_
    refine zr_get (v := .ref (ad 1)) hC (zRf.ofH (Rs := [])) 0 (by decide) dX2_goes_151 q1610 rfl ?_
    refine zx_iconst (z := 2) hC dX2_goes_154 ?_
    refine zr_sldN (x := h 2) hC (zRf.ofH (Rs := [])) 2 dX2_goes_155 (by omega) rfl ?_
    refine zx_lsub hC dX2_goes_156 ?_
    refine zx_topl (b := ((1 - (h 2) : Nat) : Int)) (by omega) ?_
    refine zr_sstN (v := 1 - (h 2)) hC 2 dX2_goes_157 (by omega) ?_
    refine zx_iconst (z := 0) hC dX2_goes_158 ?_
    have eR : rGoS h F pd (iv 2) p one = ((va_up h 2 (1 - (h 2))), F) := by unfold rGoS; (repeat first | rw [if_pos (by omega)] | rw [if_neg (by omega)]); first | done | (simp only [et2, eq2, ek1n, Int.toNat_natCast]; done) | (simp only [ek1n, Int.toNat_natCast]; done)
    rw [eR] at hE
    have eV : rGoV h F pd (iv 2) p one = 0 := by unfold rGoV; (repeat first | rw [if_pos (by omega)] | rw [if_neg (by omega)]); first | done | (simp only [et2, eq2, ek1n, Int.toNat_natCast]; done) | (simp only [ek1n, Int.toNat_natCast]; done)
    rw [eV] at hE
    exact zx_iret hC hE (Nat.le_refl _) (Nat.le_refl _) (fun H h => ⟨rfl, h⟩) dX2_goes_159
  · refine zx_tableIn (off := 93) (tgt := 98) hC 11 dX2_goes_5 (by first | assumption | exact gI _ (by omega) | exact iRm (by omega) (by omega)) (by omega) (by decide) rfl (by decide) ?_
    refine zx_aload_n hC dX2_goes_98 rfl ?_
    refine zx_ma0 (Q := fun _ => [REF G ad (((rStopH h), (zclF F 6)), ps, sn, iv, pd, sp)]) hC hA [0] [] (zcV 0 (As := []) hC (lw_V q1726 q1728 qs51 q93 q1729) (by decide +kernel) rfl (by rw [hRm]; decide) (by rw [hRm]; decide) rfl (Nat.le_of_ble_eq_true rfl) dX2_goes_99) (m_X2_stops (zl X) G ad h F (ps, sn, iv, pd, sp)  (by first | assumption | omega | exact iRm (by omega) (by omega) | ((repeat (first | exact gL | refine rLs.up ?_ (by omega) (by omega) | refine rLs.fad ?_)); done) | ((repeat (first | exact gM | refine rHM.up ?_ (by omega))); done) | exact gT _ (by omega) | exact rFadF_le gF _ | ((repeat first | rw [va_up_ne _ _ (by omega)] | rw [va_up_self] | rw [rFadH_o (by omega)] | rw [rAge_o _ _ (by omega)] | rw [rLayH_o (by omega) (by omega) (by omega) (by omega)]); omega))) (zr_rc hC (zRf.ofH (Rs := []))) rfl rfl rfl ?_
    show zVm X G ad A 3 (((rStopH h), (zclF F 6)), ps, sn, iv, pd, sp) 102 [some (.ref (ad 0)), some (.int (iI ((p : Nat) : Int))), some (.int (iI one))] []
    refine zx_iconst (z := 0) hC dX2_goes_102 ?_
    have eR : rGoS h F pd (iv 2) p one = ((rStopH h), (zclF F 6)) := by unfold rGoS; (repeat first | rw [if_pos (by omega)] | rw [if_neg (by omega)]); first | done | (simp only [et2, eq2, ek1n, Int.toNat_natCast]; done) | (simp only [ek1n, Int.toNat_natCast]; done)
    rw [eR] at hE
    have eV : rGoV h F pd (iv 2) p one = 0 := by unfold rGoV; (repeat first | rw [if_pos (by omega)] | rw [if_neg (by omega)]); first | done | (simp only [et2, eq2, ek1n, Int.toNat_natCast]; done) | (simp only [ek1n, Int.toNat_natCast]; done)
    rw [eV] at hE
    exact zx_iret hC hE (Nat.le_refl _) (Nat.le_refl _) (fun H h => ⟨rfl, h⟩) dX2_goes_103
  · refine zx_tableIn (off := 133) (tgt := 138) hC 12 dX2_goes_5 (by first | assumption | exact gI _ (by omega) | exact iRm (by omega) (by omega)) (by omega) (by decide) rfl (by decide) ?_
    refine zx_aload_n hC dX2_goes_138 rfl ?_
    obtain ⟨b1, b2, b3⟩ := gp5 (by omega)
    refine zx_iload_n hC dX2_goes_139 rfl ?_
    obtain ⟨k1n, ek1n⟩ : ∃ k1n : Nat, one = (k1n : Int) := ⟨(one).toNat, by omega⟩
    rw [ek1n]
    have gT : ∀ i, i < k1n → rTkOK (rPass h F i).1 := fun i hi => b3 i (by omega)
    refine zx_ma1 (r := .int (iI (((rPass h F k1n).2 : Nat) : Int))) (Q := fun _ => [REF G ad (((rPass h F k1n).1.1, (rPass h F k1n).1.2), ps, sn, iv, pd, sp)]) hC hA [0] [] (zcV 1 (As := [.int (iI ((k1n : Nat) : Int))]) hC (lw_V q1754 q1756 qs54 q93 q1757) (by decide +kernel) rfl (by rw [hRm]; decide) (by rw [hRm]; decide) rfl (Nat.le_of_ble_eq_true rfl) dX2_goes_140) (m_X2_passes (zl X) G ad h F (ps, sn, iv, pd, sp) k1n (by first | assumption | omega | exact iRm (by omega) (by omega) | ((repeat (first | exact gL | refine rLs.up ?_ (by omega) (by omega) | refine rLs.fad ?_)); done) | ((repeat (first | exact gM | refine rHM.up ?_ (by omega))); done) | exact gT _ (by omega) | exact rFadF_le gF _ | ((repeat first | rw [va_up_ne _ _ (by omega)] | rw [va_up_self] | rw [rFadH_o (by omega)] | rw [rAge_o _ _ (by omega)] | rw [rLayH_o (by omega) (by omega) (by omega) (by omega)]); omega)) (by first | assumption | omega | exact iRm (by omega) (by omega) | ((repeat (first | exact gL | refine rLs.up ?_ (by omega) (by omega) | refine rLs.fad ?_)); done) | ((repeat (first | exact gM | refine rHM.up ?_ (by omega))); done) | exact gT _ (by omega) | exact rFadF_le gF _ | ((repeat first | rw [va_up_ne _ _ (by omega)] | rw [va_up_self] | rw [rFadH_o (by omega)] | rw [rAge_o _ _ (by omega)] | rw [rLayH_o (by omega) (by omega) (by omega) (by omega)]); omega))) (zr_rc hC (zRf.ofH (Rs := []))) rfl rfl rfl ?_
    show zVm X G ad A 3 (((rPass h F k1n).1.1, (rPass h F k1n).1.2), ps, sn, iv, pd, sp) 143 [some (.ref (ad 0)), some (.int (iI ((p : Nat) : Int))), some (.int (iI ((k1n : Nat) : Int)))] [.int (iI (((rPass h F k1n).2 : Nat) : Int))]
    have eR : rGoS h F pd (iv 2) p one = ((rPass h F k1n).1.1, (rPass h F k1n).1.2) := by unfold rGoS; (repeat first | rw [if_pos (by omega)] | rw [if_neg (by omega)]); first | done | (simp only [et2, eq2, ek1n, Int.toNat_natCast]; done) | (simp only [ek1n, Int.toNat_natCast]; done)
    rw [eR] at hE
    have eV : rGoV h F pd (iv 2) p one = (rPass h F k1n).2 := by unfold rGoV; (repeat first | rw [if_pos (by omega)] | rw [if_neg (by omega)]); first | done | (simp only [et2, eq2, ek1n, Int.toNat_natCast]; done) | (simp only [ek1n, Int.toNat_natCast]; done)
    rw [eV] at hE
    exact zx_iret hC hE (Nat.le_refl _) (Nat.le_refl _) (fun H h => ⟨rfl, h⟩) dX2_goes_143
  · refine zx_tableIn (off := 139) (tgt := 144) hC 13 dX2_goes_5 (by first | assumption | exact gI _ (by omega) | exact iRm (by omega) (by omega)) (by omega) (by decide) rfl (by decide) ?_
    refine zx_aload_n hC dX2_goes_144 rfl ?_
    refine zr_get (v := .ref (ad 1)) hC (zRf.ofH (Rs := [])) 0 (by decide) dX2_goes_145 q1610 rfl ?_
    refine zx_iconst (z := 2) hC dX2_goes_148 ?_
    refine zx_lconst1 hC dX2_goes_149 ?_
    refine zx_aload_n hC dX2_goes_150 rfl ?_
    refine zr_get (v := .ref (ad 1)) hC (zRf.ofH (Rs := [])) 0 (by decide) dX2_goes_151 q1610 rfl ?_
    refine zx_iconst (z := 2) hC dX2_goes_154 ?_
    refine zr_sldN (x := h 2) hC (zRf.ofH (Rs := [])) 2 dX2_goes_155 (by omega) rfl ?_
    refine zx_lsub hC dX2_goes_156 ?_
    refine zx_topl (b := ((1 - (h 2) : Nat) : Int)) (by omega) ?_
    refine zr_sstN (v := 1 - (h 2)) hC 2 dX2_goes_157 (by omega) ?_
    refine zx_iconst (z := 0) hC dX2_goes_158 ?_
    have eR : rGoS h F pd (iv 2) p one = ((va_up h 2 (1 - (h 2))), F) := by unfold rGoS; (repeat first | rw [if_pos (by omega)] | rw [if_neg (by omega)]); first | done | (simp only [et2, eq2, ek1n, Int.toNat_natCast]; done) | (simp only [ek1n, Int.toNat_natCast]; done)
    rw [eR] at hE
    have eV : rGoV h F pd (iv 2) p one = 0 := by unfold rGoV; (repeat first | rw [if_pos (by omega)] | rw [if_neg (by omega)]); first | done | (simp only [et2, eq2, ek1n, Int.toNat_natCast]; done) | (simp only [ek1n, Int.toNat_natCast]; done)
    rw [eV] at hE
    exact zx_iret hC hE (Nat.le_refl _) (Nat.le_refl _) (fun H h => ⟨rfl, h⟩) dX2_goes_159
  · refine zx_tableIn (off := 139) (tgt := 144) hC 14 dX2_goes_5 (by first | assumption | exact gI _ (by omega) | exact iRm (by omega) (by omega)) (by omega) (by decide) rfl (by decide) ?_
    refine zx_aload_n hC dX2_goes_144 rfl ?_
    refine zr_get (v := .ref (ad 1)) hC (zRf.ofH (Rs := [])) 0 (by decide) dX2_goes_145 q1610 rfl ?_
    refine zx_iconst (z := 2) hC dX2_goes_148 ?_
    refine zx_lconst1 hC dX2_goes_149 ?_
    refine zx_aload_n hC dX2_goes_150 rfl ?_
    refine zr_get (v := .ref (ad 1)) hC (zRf.ofH (Rs := [])) 0 (by decide) dX2_goes_151 q1610 rfl ?_
    refine zx_iconst (z := 2) hC dX2_goes_154 ?_
    refine zr_sldN (x := h 2) hC (zRf.ofH (Rs := [])) 2 dX2_goes_155 (by omega) rfl ?_
    refine zx_lsub hC dX2_goes_156 ?_
    refine zx_topl (b := ((1 - (h 2) : Nat) : Int)) (by omega) ?_
    refine zr_sstN (v := 1 - (h 2)) hC 2 dX2_goes_157 (by omega) ?_
    refine zx_iconst (z := 0) hC dX2_goes_158 ?_
    have eR : rGoS h F pd (iv 2) p one = ((va_up h 2 (1 - (h 2))), F) := by unfold rGoS; (repeat first | rw [if_pos (by omega)] | rw [if_neg (by omega)]); first | done | (simp only [et2, eq2, ek1n, Int.toNat_natCast]; done) | (simp only [ek1n, Int.toNat_natCast]; done)
    rw [eR] at hE
    have eV : rGoV h F pd (iv 2) p one = 0 := by unfold rGoV; (repeat first | rw [if_pos (by omega)] | rw [if_neg (by omega)]); first | done | (simp only [et2, eq2, ek1n, Int.toNat_natCast]; done) | (simp only [ek1n, Int.toNat_natCast]; done)
    rw [eV] at hE
    exact zx_iret hC hE (Nat.le_refl _) (Nat.le_refl _) (fun H h => ⟨rfl, h⟩) dX2_goes_159
  · refine zx_tableIn (off := 139) (tgt := 144) hC 15 dX2_goes_5 (by first | assumption | exact gI _ (by omega) | exact iRm (by omega) (by omega)) (by omega) (by decide) rfl (by decide) ?_
    refine zx_aload_n hC dX2_goes_144 rfl ?_
    refine zr_get (v := .ref (ad 1)) hC (zRf.ofH (Rs := [])) 0 (by decide) dX2_goes_145 q1610 rfl ?_
    refine zx_iconst (z := 2) hC dX2_goes_148 ?_
    refine zx_lconst1 hC dX2_goes_149 ?_
    refine zx_aload_n hC dX2_goes_150 rfl ?_
    refine zr_get (v := .ref (ad 1)) hC (zRf.ofH (Rs := [])) 0 (by decide) dX2_goes_151 q1610 rfl ?_
    refine zx_iconst (z := 2) hC dX2_goes_154 ?_
    refine zr_sldN (x := h 2) hC (zRf.ofH (Rs := [])) 2 dX2_goes_155 (by omega) rfl ?_
    refine zx_lsub hC dX2_goes_156 ?_
    refine zx_topl (b := ((1 - (h 2) : Nat) : Int)) (by omega) ?_
    refine zr_sstN (v := 1 - (h 2)) hC 2 dX2_goes_157 (by omega) ?_
    refine zx_iconst (z := 0) hC dX2_goes_158 ?_
    have eR : rGoS h F pd (iv 2) p one = ((va_up h 2 (1 - (h 2))), F) := by unfold rGoS; (repeat first | rw [if_pos (by omega)] | rw [if_neg (by omega)]); first | done | (simp only [et2, eq2, ek1n, Int.toNat_natCast]; done) | (simp only [ek1n, Int.toNat_natCast]; done)
    rw [eR] at hE
    have eV : rGoV h F pd (iv 2) p one = 0 := by unfold rGoV; (repeat first | rw [if_pos (by omega)] | rw [if_neg (by omega)]); first | done | (simp only [et2, eq2, ek1n, Int.toNat_natCast]; done) | (simp only [ek1n, Int.toNat_natCast]; done)
    rw [eV] at hE
    exact zx_iret hC hE (Nat.le_refl _) (Nat.le_refl _) (fun H h => ⟨rfl, h⟩) dX2_goes_159
  · refine zx_tableIn (off := 99) (tgt := 104) hC 16 dX2_goes_5 (by first | assumption | exact gI _ (by omega) | exact iRm (by omega) (by omega)) (by omega) (by decide) rfl (by decide) ?_
    refine zx_aload_n hC dX2_goes_104 rfl ?_
    refine zx_ma0 (Q := fun _ => [REF G ad (((rPeelH h), F), ps, sn, iv, pd, sp)]) hC hA [0] [] (zcV 0 (As := []) hC (lw_V q1775 q1777 qs58 q93 q1778) (by decide +kernel) rfl (by rw [hRm]; decide) (by rw [hRm]; decide) rfl (Nat.le_of_ble_eq_true rfl) dX2_goes_105) (m_X2_peels (zl X) G ad h F (ps, sn, iv, pd, sp)  (by first | assumption | omega | exact iRm (by omega) (by omega) | ((repeat (first | exact gL | refine rLs.up ?_ (by omega) (by omega) | refine rLs.fad ?_)); done) | ((repeat (first | exact gM | refine rHM.up ?_ (by omega))); done) | exact gT _ (by omega) | exact rFadF_le gF _ | ((repeat first | rw [va_up_ne _ _ (by omega)] | rw [va_up_self] | rw [rFadH_o (by omega)] | rw [rAge_o _ _ (by omega)] | rw [rLayH_o (by omega) (by omega) (by omega) (by omega)]); omega)) (by first | assumption | omega | exact iRm (by omega) (by omega) | ((repeat (first | exact gL | refine rLs.up ?_ (by omega) (by omega) | refine rLs.fad ?_)); done) | ((repeat (first | exact gM | refine rHM.up ?_ (by omega))); done) | exact gT _ (by omega) | exact rFadF_le gF _ | ((repeat first | rw [va_up_ne _ _ (by omega)] | rw [va_up_self] | rw [rFadH_o (by omega)] | rw [rAge_o _ _ (by omega)] | rw [rLayH_o (by omega) (by omega) (by omega) (by omega)]); omega)) (by first | assumption | omega | exact iRm (by omega) (by omega) | ((repeat (first | exact gL | refine rLs.up ?_ (by omega) (by omega) | refine rLs.fad ?_)); done) | ((repeat (first | exact gM | refine rHM.up ?_ (by omega))); done) | exact gT _ (by omega) | exact rFadF_le gF _ | ((repeat first | rw [va_up_ne _ _ (by omega)] | rw [va_up_self] | rw [rFadH_o (by omega)] | rw [rAge_o _ _ (by omega)] | rw [rLayH_o (by omega) (by omega) (by omega) (by omega)]); omega))) (zr_rc hC (zRf.ofH (Rs := []))) rfl rfl rfl ?_
    show zVm X G ad A 3 (((rPeelH h), F), ps, sn, iv, pd, sp) 108 [some (.ref (ad 0)), some (.int (iI ((p : Nat) : Int))), some (.int (iI one))] []
    refine zx_iconst (z := 0) hC dX2_goes_108 ?_
    have eR : rGoS h F pd (iv 2) p one = ((rPeelH h), F) := by unfold rGoS; (repeat first | rw [if_pos (by omega)] | rw [if_neg (by omega)]); first | done | (simp only [et2, eq2, ek1n, Int.toNat_natCast]; done) | (simp only [ek1n, Int.toNat_natCast]; done)
    rw [eR] at hE
    have eV : rGoV h F pd (iv 2) p one = 0 := by unfold rGoV; (repeat first | rw [if_pos (by omega)] | rw [if_neg (by omega)]); first | done | (simp only [et2, eq2, ek1n, Int.toNat_natCast]; done) | (simp only [ek1n, Int.toNat_natCast]; done)
    rw [eV] at hE
    exact zx_iret hC hE (Nat.le_refl _) (Nat.le_refl _) (fun H h => ⟨rfl, h⟩) dX2_goes_109
  · refine zx_tableIn (off := 105) (tgt := 110) hC 17 dX2_goes_5 (by first | assumption | exact gI _ (by omega) | exact iRm (by omega) (by omega)) (by omega) (by decide) rfl (by decide) ?_
    refine zx_aload_n hC dX2_goes_110 rfl ?_
    refine zx_ma0 (Q := fun _ => [REF G ad (((va_up (va_up h 7 (h 7 + 1)) 8 (h 8 - 1)), F), ps, sn, iv, pd, sp)]) hC hA [0] [] (zcV 0 (As := []) hC (lw_V q1787 q1789 qs60 q93 q1790) (by decide +kernel) rfl (by rw [hRm]; decide) (by rw [hRm]; decide) rfl (Nat.le_of_ble_eq_true rfl) dX2_goes_111) (m_X2_backs (zl X) G ad h F (ps, sn, iv, pd, sp)  (by first | assumption | omega | exact iRm (by omega) (by omega) | ((repeat (first | exact gL | refine rLs.up ?_ (by omega) (by omega) | refine rLs.fad ?_)); done) | ((repeat (first | exact gM | refine rHM.up ?_ (by omega))); done) | exact gT _ (by omega) | exact rFadF_le gF _ | ((repeat first | rw [va_up_ne _ _ (by omega)] | rw [va_up_self] | rw [rFadH_o (by omega)] | rw [rAge_o _ _ (by omega)] | rw [rLayH_o (by omega) (by omega) (by omega) (by omega)]); omega))) (zr_rc hC (zRf.ofH (Rs := []))) rfl rfl rfl ?_
    show zVm X G ad A 3 (((va_up (va_up h 7 (h 7 + 1)) 8 (h 8 - 1)), F), ps, sn, iv, pd, sp) 114 [some (.ref (ad 0)), some (.int (iI ((p : Nat) : Int))), some (.int (iI one))] []
    refine zx_iconst (z := 0) hC dX2_goes_114 ?_
    have eR : rGoS h F pd (iv 2) p one = ((va_up (va_up h 7 (h 7 + 1)) 8 (h 8 - 1)), F) := by unfold rGoS; (repeat first | rw [if_pos (by omega)] | rw [if_neg (by omega)]); first | done | (simp only [et2, eq2, ek1n, Int.toNat_natCast]; done) | (simp only [ek1n, Int.toNat_natCast]; done)
    rw [eR] at hE
    have eV : rGoV h F pd (iv 2) p one = 0 := by unfold rGoV; (repeat first | rw [if_pos (by omega)] | rw [if_neg (by omega)]); first | done | (simp only [et2, eq2, ek1n, Int.toNat_natCast]; done) | (simp only [ek1n, Int.toNat_natCast]; done)
    rw [eV] at hE
    exact zx_iret hC hE (Nat.le_refl _) (Nat.le_refl _) (fun H h => ⟨rfl, h⟩) dX2_goes_115
  · refine zx_tableOut (tgt := 144) hC dX2_goes_5 (by first | assumption | exact gI _ (by omega) | exact iRm (by omega) (by omega)) (by omega) (by decide) ?_
    refine zx_aload_n hC dX2_goes_144 rfl ?_
    refine zr_get (v := .ref (ad 1)) hC (zRf.ofH (Rs := [])) 0 (by decide) dX2_goes_145 q1610 rfl ?_
    refine zx_iconst (z := 2) hC dX2_goes_148 ?_
    refine zx_lconst1 hC dX2_goes_149 ?_
    refine zx_aload_n hC dX2_goes_150 rfl ?_
    refine zr_get (v := .ref (ad 1)) hC (zRf.ofH (Rs := [])) 0 (by decide) dX2_goes_151 q1610 rfl ?_
    refine zx_iconst (z := 2) hC dX2_goes_154 ?_
    refine zr_sldN (x := h 2) hC (zRf.ofH (Rs := [])) 2 dX2_goes_155 (by omega) rfl ?_
    refine zx_lsub hC dX2_goes_156 ?_
    refine zx_topl (b := ((1 - (h 2) : Nat) : Int)) (by omega) ?_
    refine zr_sstN (v := 1 - (h 2)) hC 2 dX2_goes_157 (by omega) ?_
    refine zx_iconst (z := 0) hC dX2_goes_158 ?_
    have eR : rGoS h F pd (iv 2) p one = ((va_up h 2 (1 - (h 2))), F) := by unfold rGoS; (repeat first | rw [if_pos (by omega)] | rw [if_neg (by omega)]); first | done | (simp only [et2, eq2, ek1n, Int.toNat_natCast]; done) | (simp only [ek1n, Int.toNat_natCast]; done)
    rw [eR] at hE
    have eV : rGoV h F pd (iv 2) p one = 0 := by unfold rGoV; (repeat first | rw [if_pos (by omega)] | rw [if_neg (by omega)]); first | done | (simp only [et2, eq2, ek1n, Int.toNat_natCast]; done) | (simp only [ek1n, Int.toNat_natCast]; done)
    rw [eV] at hE
    exact zx_iret hC hE (Nat.le_refl _) (Nat.le_refl _) (fun H h => ⟨rfl, h⟩) dX2_goes_159
set_option maxHeartbeats 4000000 in
theorem m_X2_carries (la : Launch) (G : zG) (ad : Nat → Nat) (h : Nat → Nat) (F : Nat → Nat → Nat → Nat) (ps : Nat → zRS) (sn : zRS) (iv pd : Nat → Nat) (sp : Nat → Int) (p : Nat) (g0 : iv 2 ≤ 60) (g1 : p ≤ 300) (gP : tPd pd) (gO : rCarOK h F pd (iv 2) p) : zMA la yX2_carries cX2_carries 5 (some .int) 7 154 G [.ref (ad 0), .int (iI ((p : Nat) : Int))] [REF G ad ((h, F), ps, sn, iv, pd, sp)] (fun v9 => v9 = some (.int (iI (rWhyC h pd (iv 2) p)))) (fun _ => [REF G ad (((rCarS h F pd (iv 2) p).1, (rCarS h F pd (iv 2) p).2), ps, sn, iv, pd, sp)]) 0 0 := by
  refine zMA.of [some (.ref (ad 0)), some (.int (iI ((p : Nat) : Int))), none, none, none] (by decide) (Nat.le_of_ble_eq_true rfl) rfl (fun X A hl hC hnm hA hRm hE => ?_)
  obtain ⟨gK, gp1, gp2, gp3⟩ := gO
  obtain ⟨k0, k1, k2, k3, k4, k5, k6, k7, k8, k9, k11, k12, gL, gF⟩ := id gK
  dsimp only at k0 k1 k2 k3 k4 k5 k6 k7 k8 k9 k11 k12 gL gF
  have g7 := gL.1
  have gs := tSg_r gP (iv 2) p
  have gw : -4 ≤ rWhyC h pd (iv 2) p ∧ rWhyC h pd (iv 2) p ≤ 0 := by unfold rWhyC rWhyPress rWhyStop rWhyPeel rWhyBack rWhyHit; (repeat' split) <;> omega
  refine zx_aload_n hC dX2_carries_0 rfl ?_
  refine zx_iload_n hC dX2_carries_1 rfl ?_
  refine zx_iconst (z := 1) hC dX2_carries_2 ?_
  refine zx_iadd hC dX2_carries_3 ?_
  refine zx_rd1 (r := .int (iI (tNaA pd (iv 2) (p + 1)))) hC hA.2 (zcV 1 (As := [.int (iI ((p + 1 : Nat) : Int))]) hC (lw_V q1851 q1853 qs69 q93 q1854) (by decide +kernel) rfl (by rw [hRm]; decide) (by rw [hRm]; decide) rfl (Nat.le_of_ble_eq_true rfl) dX2_carries_4) (m_X2_numberAt (zl X) G ad h F ps sn iv pd sp (p + 1) (by first | assumption | omega | exact iRm (by omega) (by omega) | ((repeat (first | exact gL | refine rLs.up ?_ (by omega) (by omega) | refine rLs.fad ?_)); done) | ((repeat (first | exact gM | refine rHM.up ?_ (by omega))); done) | exact gT _ (by omega) | exact rFadF_le gF _ | ((repeat first | rw [va_up_ne _ _ (by omega)] | rw [va_up_self] | rw [rFadH_o (by omega)] | rw [rAge_o _ _ (by omega)] | rw [rLayH_o (by omega) (by omega) (by omega) (by omega)]); omega)) (by first | assumption | omega | exact iRm (by omega) (by omega) | ((repeat (first | exact gL | refine rLs.up ?_ (by omega) (by omega) | refine rLs.fad ?_)); done) | ((repeat (first | exact gM | refine rHM.up ?_ (by omega))); done) | exact gT _ (by omega) | exact rFadF_le gF _ | ((repeat first | rw [va_up_ne _ _ (by omega)] | rw [va_up_self] | rw [rFadH_o (by omega)] | rw [rAge_o _ _ (by omega)] | rw [rLayH_o (by omega) (by omega) (by omega) (by omega)]); omega)) (by first | assumption | omega | exact iRm (by omega) (by omega) | ((repeat (first | exact gL | refine rLs.up ?_ (by omega) (by omega) | refine rLs.fad ?_)); done) | ((repeat (first | exact gM | refine rHM.up ?_ (by omega))); done) | exact gT _ (by omega) | exact rFadF_le gF _ | ((repeat first | rw [va_up_ne _ _ (by omega)] | rw [va_up_self] | rw [rFadH_o (by omega)] | rw [rAge_o _ _ (by omega)] | rw [rLayH_o (by omega) (by omega) (by omega) (by omega)]); omega))) (zr_rc hC (zRf.ofH (Rs := []))) (zRf.ofH (Rs := [])) ?_
  refine zx_istore_n (L' := [some (.ref (ad 0)), some (.int (iI ((p : Nat) : Int))), some (.int (iI (tNaA pd (iv 2) (p + 1)))), none, none]) hC dX2_carries_7 (by decide) rfl ?_
  refine zx_iconst (z := 0) hC dX2_carries_8 ?_
  refine zx_istore_n (L' := [some (.ref (ad 0)), some (.int (iI ((p : Nat) : Int))), some (.int (iI (tNaA pd (iv 2) (p + 1)))), some (.int (iI 0)), none]) hC dX2_carries_9 (by decide) rfl ?_
  refine zx_iconst (z := 0) hC dX2_carries_10 ?_
  refine zx_istore (L' := [some (.ref (ad 0)), some (.int (iI ((p : Nat) : Int))), some (.int (iI (tNaA pd (iv 2) (p + 1)))), some (.int (iI 0)), some (.int (iI 0))]) hC dX2_carries_11 (by decide) rfl ?_
  refine zx_aload_n hC dX2_carries_13 rfl ?_
  refine zx_iload_n hC dX2_carries_14 rfl ?_
  refine zx_rd1 (r := .int (iI (tSg pd (iv 2) p))) hC hA.2 (zcV 1 (As := [.int (iI ((p : Nat) : Int))]) hC (lw_V q1827 q1829 qs64 q93 q1830) (by decide +kernel) rfl (by rw [hRm]; decide) (by rw [hRm]; decide) rfl (Nat.le_of_ble_eq_true rfl) dX2_carries_15) (m_X2_sign (zl X) G ad h F ps sn iv pd sp p (by first | assumption | omega | exact iRm (by omega) (by omega) | ((repeat (first | exact gL | refine rLs.up ?_ (by omega) (by omega) | refine rLs.fad ?_)); done) | ((repeat (first | exact gM | refine rHM.up ?_ (by omega))); done) | exact gT _ (by omega) | exact rFadF_le gF _ | ((repeat first | rw [va_up_ne _ _ (by omega)] | rw [va_up_self] | rw [rFadH_o (by omega)] | rw [rAge_o _ _ (by omega)] | rw [rLayH_o (by omega) (by omega) (by omega) (by omega)]); omega)) (by first | assumption | omega | exact iRm (by omega) (by omega) | ((repeat (first | exact gL | refine rLs.up ?_ (by omega) (by omega) | refine rLs.fad ?_)); done) | ((repeat (first | exact gM | refine rHM.up ?_ (by omega))); done) | exact gT _ (by omega) | exact rFadF_le gF _ | ((repeat first | rw [va_up_ne _ _ (by omega)] | rw [va_up_self] | rw [rFadH_o (by omega)] | rw [rAge_o _ _ (by omega)] | rw [rLayH_o (by omega) (by omega) (by omega) (by omega)]); omega))) (zr_rc hC (zRf.ofH (Rs := []))) (zRf.ofH (Rs := [])) ?_
  have J18 : zVm X G ad A 5 ((h, F), ps, sn, iv, pd, sp) 127 [some (.ref (ad 0)), some (.int (iI ((p : Nat) : Int))), some (.int (iI (tNaA pd (iv 2) (p + 1)))), some (.int (iI (rWhyC h pd (iv 2) p))), some (.int (iI 0))] [] := by
    refine zx_iload_n hC dX2_carries_127 rfl ?_
    refine zx_if_ne (tgt := 139) hC dX2_carries_128 (by decide) (by first | assumption | exact gI _ (by omega) | exact iRm (by omega) (by omega)) (fun c128 => ?_) (fun c128 => ?_)
    · refine zx_iload_n hC dX2_carries_139 rfl ?_
      have eR : rCarS h F pd (iv 2) p = (h, F) := by unfold rCarS; first | (rw [if_pos (by omega)]; first | done | rfl) | (rw [if_neg (by omega)]; first | done | rfl)
      rw [eR] at hE
      exact zx_iret hC hE (Nat.le_refl _) (Nat.le_refl _) (fun H h => ⟨rfl, h⟩) dX2_carries_140
    · have gO2 := gp3 (by omega)
      refine zx_aload_n hC dX2_carries_131 rfl ?_
      refine zx_iload_n hC dX2_carries_132 rfl ?_
      refine zx_iload_n hC dX2_carries_133 rfl ?_
      refine zx_ma1 (r := .int (iI ((rGoV h F pd (iv 2) p (tNaA pd (iv 2) (p + 1)) : Nat) : Int))) (Q := fun _ => [REF G ad (((rGoS h F pd (iv 2) p (tNaA pd (iv 2) (p + 1))).1, (rGoS h F pd (iv 2) p (tNaA pd (iv 2) (p + 1))).2), ps, sn, iv, pd, sp)]) hC hA [0] [] (zcV 2 (As := [.int (iI ((p : Nat) : Int)), .int (iI (tNaA pd (iv 2) (p + 1)))]) hC (lw_V q1855 q1857 qs70 q93 q1858) (by decide +kernel) rfl (by rw [hRm]; decide) (by rw [hRm]; decide) rfl (Nat.le_of_ble_eq_true rfl) dX2_carries_134) (m_X2_goes (zl X) G ad h F ps sn iv pd sp p (tNaA pd (iv 2) (p + 1)) (by first | assumption | omega | exact iRm (by omega) (by omega) | ((repeat (first | exact gL | refine rLs.up ?_ (by omega) (by omega) | refine rLs.fad ?_)); done) | ((repeat (first | exact gM | refine rHM.up ?_ (by omega))); done) | exact gT _ (by omega) | exact rFadF_le gF _ | ((repeat first | rw [va_up_ne _ _ (by omega)] | rw [va_up_self] | rw [rFadH_o (by omega)] | rw [rAge_o _ _ (by omega)] | rw [rLayH_o (by omega) (by omega) (by omega) (by omega)]); omega)) (by first | assumption | omega | exact iRm (by omega) (by omega) | ((repeat (first | exact gL | refine rLs.up ?_ (by omega) (by omega) | refine rLs.fad ?_)); done) | ((repeat (first | exact gM | refine rHM.up ?_ (by omega))); done) | exact gT _ (by omega) | exact rFadF_le gF _ | ((repeat first | rw [va_up_ne _ _ (by omega)] | rw [va_up_self] | rw [rFadH_o (by omega)] | rw [rAge_o _ _ (by omega)] | rw [rLayH_o (by omega) (by omega) (by omega) (by omega)]); omega)) (by first | assumption | omega | exact iRm (by omega) (by omega) | ((repeat (first | exact gL | refine rLs.up ?_ (by omega) (by omega) | refine rLs.fad ?_)); done) | ((repeat (first | exact gM | refine rHM.up ?_ (by omega))); done) | exact gT _ (by omega) | exact rFadF_le gF _ | ((repeat first | rw [va_up_ne _ _ (by omega)] | rw [va_up_self] | rw [rFadH_o (by omega)] | rw [rAge_o _ _ (by omega)] | rw [rLayH_o (by omega) (by omega) (by omega) (by omega)]); omega)) (by first | assumption | omega | exact iRm (by omega) (by omega) | ((repeat (first | exact gL | refine rLs.up ?_ (by omega) (by omega) | refine rLs.fad ?_)); done) | ((repeat (first | exact gM | refine rHM.up ?_ (by omega))); done) | exact gT _ (by omega) | exact rFadF_le gF _ | ((repeat first | rw [va_up_ne _ _ (by omega)] | rw [va_up_self] | rw [rFadH_o (by omega)] | rw [rAge_o _ _ (by omega)] | rw [rLayH_o (by omega) (by omega) (by omega) (by omega)]); omega))) (zr_rc hC (zRf.ofH (Rs := []))) rfl rfl rfl ?_
      show zVm X G ad A 5 (((rGoS h F pd (iv 2) p (tNaA pd (iv 2) (p + 1))).1, (rGoS h F pd (iv 2) p (tNaA pd (iv 2) (p + 1))).2), ps, sn, iv, pd, sp) 137 [some (.ref (ad 0)), some (.int (iI ((p : Nat) : Int))), some (.int (iI (tNaA pd (iv 2) (p + 1)))), some (.int (iI (rWhyC h pd (iv 2) p))), some (.int (iI 0))] [.int (iI ((rGoV h F pd (iv 2) p (tNaA pd (iv 2) (p + 1)) : Nat) : Int))]
      refine zx_istore (L' := [some (.ref (ad 0)), some (.int (iI ((p : Nat) : Int))), some (.int (iI (tNaA pd (iv 2) (p + 1)))), some (.int (iI (rWhyC h pd (iv 2) p))), some (.int (iI ((rGoV h F pd (iv 2) p (tNaA pd (iv 2) (p + 1)) : Nat) : Int)))]) hC dX2_carries_137 (by decide) rfl ?_
      refine zx_iload_n hC dX2_carries_139 rfl ?_
      have eR : rCarS h F pd (iv 2) p = ((rGoS h F pd (iv 2) p (tNaA pd (iv 2) (p + 1))).1, (rGoS h F pd (iv 2) p (tNaA pd (iv 2) (p + 1))).2) := by unfold rCarS; first | (rw [if_pos (by omega)]; first | done | rfl) | (rw [if_neg (by omega)]; first | done | rfl)
      rw [eR] at hE
      exact zx_iret hC hE (Nat.le_refl _) (Nat.le_refl _) (fun H h => ⟨rfl, h⟩) dX2_carries_140
  rcases (show tSg pd (iv 2) p = 104 ∨ tSg pd (iv 2) p = 112 ∨ tSg pd (iv 2) p = 115 ∨ tSg pd (iv 2) p = 120 ∨ tSg pd (iv 2) p = 121 ∨ (¬ tSg pd (iv 2) p = 104 ∧ ¬ tSg pd (iv 2) p = 112 ∧ ¬ tSg pd (iv 2) p = 115 ∧ ¬ tSg pd (iv 2) p = 120 ∧ ¬ tSg pd (iv 2) p = 121) by omega) with hs | hs | hs | hs | hs | hs
  · refine zx_lookup (off := 82) (tgt := 100) hC dX2_carries_18 (by decide) (by first | assumption | exact gI _ (by omega) | exact iRm (by omega) (by omega)) (by rw [hs]; rfl) (by decide) ?_
    refine zx_aload_n hC dX2_carries_100 rfl ?_
    obtain ⟨a1, a2, a3⟩ := gp2 (by omega)
    have a8 := tNuE_in a3 (by omega)
    refine zx_iload_n hC dX2_carries_101 rfl ?_
    refine zx_aload_n hC dX2_carries_102 rfl ?_
    refine zx_aload_n hC dX2_carries_103 rfl ?_
    refine zx_iload_n hC dX2_carries_104 rfl ?_
    refine zx_iconst (z := 1) hC dX2_carries_105 ?_
    refine zx_iadd hC dX2_carries_106 ?_
    refine zx_iconst (z := 0) hC dX2_carries_107 ?_
    refine zx_bipush (z := 99) hC dX2_carries_108 rfl ?_
    refine zx_rd1 (r := .int (iI (tNuE pd (iv 2) ((p + 1 : Nat) : Int) 0 99))) hC hA.2 (zcV 3 (As := [.int (iI ((p + 1 : Nat) : Int)), .int (iI 0), .int (iI 99)]) hC (lw_V q1831 q1833 qs65 q93 q1834) (by decide +kernel) rfl (by rw [hRm]; decide) (by rw [hRm]; decide) rfl (Nat.le_of_ble_eq_true rfl) dX2_carries_110) (m_X2_numberEnd (zl X) G ad h F ps sn iv pd sp ((p + 1 : Nat) : Int) 0 99 (by first | assumption | omega | exact iRm (by omega) (by omega) | ((repeat (first | exact gL | refine rLs.up ?_ (by omega) (by omega) | refine rLs.fad ?_)); done) | ((repeat (first | exact gM | refine rHM.up ?_ (by omega))); done) | exact gT _ (by omega) | exact rFadF_le gF _ | ((repeat first | rw [va_up_ne _ _ (by omega)] | rw [va_up_self] | rw [rFadH_o (by omega)] | rw [rAge_o _ _ (by omega)] | rw [rLayH_o (by omega) (by omega) (by omega) (by omega)]); omega)) (by first | assumption | omega | exact iRm (by omega) (by omega) | ((repeat (first | exact gL | refine rLs.up ?_ (by omega) (by omega) | refine rLs.fad ?_)); done) | ((repeat (first | exact gM | refine rHM.up ?_ (by omega))); done) | exact gT _ (by omega) | exact rFadF_le gF _ | ((repeat first | rw [va_up_ne _ _ (by omega)] | rw [va_up_self] | rw [rFadH_o (by omega)] | rw [rAge_o _ _ (by omega)] | rw [rLayH_o (by omega) (by omega) (by omega) (by omega)]); omega)) (by first | assumption | omega | exact iRm (by omega) (by omega) | ((repeat (first | exact gL | refine rLs.up ?_ (by omega) (by omega) | refine rLs.fad ?_)); done) | ((repeat (first | exact gM | refine rHM.up ?_ (by omega))); done) | exact gT _ (by omega) | exact rFadF_le gF _ | ((repeat first | rw [va_up_ne _ _ (by omega)] | rw [va_up_self] | rw [rFadH_o (by omega)] | rw [rAge_o _ _ (by omega)] | rw [rLayH_o (by omega) (by omega) (by omega) (by omega)]); omega)) (by first | assumption | omega | exact iRm (by omega) (by omega) | ((repeat (first | exact gL | refine rLs.up ?_ (by omega) (by omega) | refine rLs.fad ?_)); done) | ((repeat (first | exact gM | refine rHM.up ?_ (by omega))); done) | exact gT _ (by omega) | exact rFadF_le gF _ | ((repeat first | rw [va_up_ne _ _ (by omega)] | rw [va_up_self] | rw [rFadH_o (by omega)] | rw [rAge_o _ _ (by omega)] | rw [rLayH_o (by omega) (by omega) (by omega) (by omega)]); omega)) (by first | assumption | omega | exact iRm (by omega) (by omega) | ((repeat (first | exact gL | refine rLs.up ?_ (by omega) (by omega) | refine rLs.fad ?_)); done) | ((repeat (first | exact gM | refine rHM.up ?_ (by omega))); done) | exact gT _ (by omega) | exact rFadF_le gF _ | ((repeat first | rw [va_up_ne _ _ (by omega)] | rw [va_up_self] | rw [rFadH_o (by omega)] | rw [rAge_o _ _ (by omega)] | rw [rLayH_o (by omega) (by omega) (by omega) (by omega)]); omega)) (by first | assumption | omega | exact iRm (by omega) (by omega) | ((repeat (first | exact gL | refine rLs.up ?_ (by omega) (by omega) | refine rLs.fad ?_)); done) | ((repeat (first | exact gM | refine rHM.up ?_ (by omega))); done) | exact gT _ (by omega) | exact rFadF_le gF _ | ((repeat first | rw [va_up_ne _ _ (by omega)] | rw [va_up_self] | rw [rFadH_o (by omega)] | rw [rAge_o _ _ (by omega)] | rw [rLayH_o (by omega) (by omega) (by omega) (by omega)]); omega))) (zr_rc hC (zRf.ofH (Rs := []))) (zRf.ofH (Rs := [])) ?_
    obtain ⟨q1, eq1⟩ : ∃ q1 : Nat, tNuE pd (iv 2) ((p + 1 : Nat) : Int) 0 99 = (q1 : Int) := ⟨(tNuE pd (iv 2) ((p + 1 : Nat) : Int) 0 99).toNat, by omega⟩
    rw [eq1]
    refine zx_iconst (z := 1) hC dX2_carries_113 ?_
    refine zx_iadd hC dX2_carries_114 ?_
    refine zx_rd1 (r := .int (iI (tNaA pd (iv 2) (q1 + 1)))) hC hA.2 (zcV 1 (As := [.int (iI ((q1 + 1 : Nat) : Int))]) hC (lw_V q1851 q1853 qs69 q93 q1854) (by decide +kernel) rfl (by rw [hRm]; decide) (by rw [hRm]; decide) rfl (Nat.le_of_ble_eq_true rfl) dX2_carries_115) (m_X2_numberAt (zl X) G ad h F ps sn iv pd sp (q1 + 1) (by first | assumption | omega | exact iRm (by omega) (by omega) | ((repeat (first | exact gL | refine rLs.up ?_ (by omega) (by omega) | refine rLs.fad ?_)); done) | ((repeat (first | exact gM | refine rHM.up ?_ (by omega))); done) | exact gT _ (by omega) | exact rFadF_le gF _ | ((repeat first | rw [va_up_ne _ _ (by omega)] | rw [va_up_self] | rw [rFadH_o (by omega)] | rw [rAge_o _ _ (by omega)] | rw [rLayH_o (by omega) (by omega) (by omega) (by omega)]); omega)) (by first | assumption | omega | exact iRm (by omega) (by omega) | ((repeat (first | exact gL | refine rLs.up ?_ (by omega) (by omega) | refine rLs.fad ?_)); done) | ((repeat (first | exact gM | refine rHM.up ?_ (by omega))); done) | exact gT _ (by omega) | exact rFadF_le gF _ | ((repeat first | rw [va_up_ne _ _ (by omega)] | rw [va_up_self] | rw [rFadH_o (by omega)] | rw [rAge_o _ _ (by omega)] | rw [rLayH_o (by omega) (by omega) (by omega) (by omega)]); omega)) (by first | assumption | omega | exact iRm (by omega) (by omega) | ((repeat (first | exact gL | refine rLs.up ?_ (by omega) (by omega) | refine rLs.fad ?_)); done) | ((repeat (first | exact gM | refine rHM.up ?_ (by omega))); done) | exact gT _ (by omega) | exact rFadF_le gF _ | ((repeat first | rw [va_up_ne _ _ (by omega)] | rw [va_up_self] | rw [rFadH_o (by omega)] | rw [rAge_o _ _ (by omega)] | rw [rLayH_o (by omega) (by omega) (by omega) (by omega)]); omega))) (zr_rc hC (zRf.ofH (Rs := []))) (zRf.ofH (Rs := [])) ?_
    have et2 : tTwo pd (iv 2) p = tNaA pd (iv 2) (q1 + 1) := by unfold tTwo; rw [eq1, Int.toNat_natCast]
    rw [et2] at a2
    refine zx_rd1 (r := .int (iI (rWhyHit h (tNaA pd (iv 2) (p + 1)) (tNaA pd (iv 2) (q1 + 1))))) hC hA.2 (zcV 2 (As := [.int (iI (tNaA pd (iv 2) (p + 1))), .int (iI (tNaA pd (iv 2) (q1 + 1)))]) hC (lw_V q1739 q1741 qs52 q93 q1742) (by decide +kernel) rfl (by rw [hRm]; decide) (by rw [hRm]; decide) rfl (Nat.le_of_ble_eq_true rfl) dX2_carries_118) (m_X2_whyNotHit (zl X) G ad h F (ps, sn, iv, pd, sp) (tNaA pd (iv 2) (p + 1)) (tNaA pd (iv 2) (q1 + 1)) (by first | assumption | omega | exact iRm (by omega) (by omega) | ((repeat (first | exact gL | refine rLs.up ?_ (by omega) (by omega) | refine rLs.fad ?_)); done) | ((repeat (first | exact gM | refine rHM.up ?_ (by omega))); done) | exact gT _ (by omega) | exact rFadF_le gF _ | ((repeat first | rw [va_up_ne _ _ (by omega)] | rw [va_up_self] | rw [rFadH_o (by omega)] | rw [rAge_o _ _ (by omega)] | rw [rLayH_o (by omega) (by omega) (by omega) (by omega)]); omega)) (by first | assumption | omega | exact iRm (by omega) (by omega) | ((repeat (first | exact gL | refine rLs.up ?_ (by omega) (by omega) | refine rLs.fad ?_)); done) | ((repeat (first | exact gM | refine rHM.up ?_ (by omega))); done) | exact gT _ (by omega) | exact rFadF_le gF _ | ((repeat first | rw [va_up_ne _ _ (by omega)] | rw [va_up_self] | rw [rFadH_o (by omega)] | rw [rAge_o _ _ (by omega)] | rw [rLayH_o (by omega) (by omega) (by omega) (by omega)]); omega)) (by first | assumption | omega | exact iRm (by omega) (by omega) | ((repeat (first | exact gL | refine rLs.up ?_ (by omega) (by omega) | refine rLs.fad ?_)); done) | ((repeat (first | exact gM | refine rHM.up ?_ (by omega))); done) | exact gT _ (by omega) | exact rFadF_le gF _ | ((repeat first | rw [va_up_ne _ _ (by omega)] | rw [va_up_self] | rw [rFadH_o (by omega)] | rw [rAge_o _ _ (by omega)] | rw [rLayH_o (by omega) (by omega) (by omega) (by omega)]); omega))) (zr_rc hC (zRf.ofH (Rs := []))) (zRf.ofH (Rs := [])) ?_
    refine zx_istore_n (L' := [some (.ref (ad 0)), some (.int (iI ((p : Nat) : Int))), some (.int (iI (tNaA pd (iv 2) (p + 1)))), some (.int (iI (rWhyHit h (tNaA pd (iv 2) (p + 1)) (tNaA pd (iv 2) (q1 + 1))))), some (.int (iI 0))]) hC dX2_carries_121 (by decide) rfl ?_
    refine zx_goto (tgt := 127) hC dX2_carries_122 (by decide) ?_
    refine zx_eq (L' := [some (.ref (ad 0)), some (.int (iI ((p : Nat) : Int))), some (.int (iI (tNaA pd (iv 2) (p + 1)))), some (.int (iI (rWhyC h pd (iv 2) p))), some (.int (iI 0))]) (by rw [show rWhyHit h (tNaA pd (iv 2) (p + 1)) (tNaA pd (iv 2) (q1 + 1)) = rWhyC h pd (iv 2) p from (by symm; unfold rWhyC; (repeat first | rw [if_pos (by omega)] | rw [if_neg (by omega)]); first | done | rfl | (rw [et2]; first | done | rfl))]) rfl ?_
    exact J18
  · refine zx_lookup (off := 50) (tgt := 68) hC dX2_carries_18 (by decide) (by first | assumption | exact gI _ (by omega) | exact iRm (by omega) (by omega)) (by rw [hs]; rfl) (by decide) ?_
    refine zx_aload_n hC dX2_carries_68 rfl ?_
    refine zx_rd1 (r := .int (iI (rWhyPress h))) hC hA.2 (zcV 0 (As := []) hC (lw_V q1643 q1645 qs33 q93 q1646) (by decide +kernel) rfl (by rw [hRm]; decide) (by rw [hRm]; decide) rfl (Nat.le_of_ble_eq_true rfl) dX2_carries_69) (m_X2_whyNotPress (zl X) G ad h F (ps, sn, iv, pd, sp)  (by first | assumption | omega | exact iRm (by omega) (by omega) | ((repeat (first | exact gL | refine rLs.up ?_ (by omega) (by omega) | refine rLs.fad ?_)); done) | ((repeat (first | exact gM | refine rHM.up ?_ (by omega))); done) | exact gT _ (by omega) | exact rFadF_le gF _ | ((repeat first | rw [va_up_ne _ _ (by omega)] | rw [va_up_self] | rw [rFadH_o (by omega)] | rw [rAge_o _ _ (by omega)] | rw [rLayH_o (by omega) (by omega) (by omega) (by omega)]); omega)) (by first | assumption | omega | exact iRm (by omega) (by omega) | ((repeat (first | exact gL | refine rLs.up ?_ (by omega) (by omega) | refine rLs.fad ?_)); done) | ((repeat (first | exact gM | refine rHM.up ?_ (by omega))); done) | exact gT _ (by omega) | exact rFadF_le gF _ | ((repeat first | rw [va_up_ne _ _ (by omega)] | rw [va_up_self] | rw [rFadH_o (by omega)] | rw [rAge_o _ _ (by omega)] | rw [rLayH_o (by omega) (by omega) (by omega) (by omega)]); omega)) (by first | assumption | omega | exact iRm (by omega) (by omega) | ((repeat (first | exact gL | refine rLs.up ?_ (by omega) (by omega) | refine rLs.fad ?_)); done) | ((repeat (first | exact gM | refine rHM.up ?_ (by omega))); done) | exact gT _ (by omega) | exact rFadF_le gF _ | ((repeat first | rw [va_up_ne _ _ (by omega)] | rw [va_up_self] | rw [rFadH_o (by omega)] | rw [rAge_o _ _ (by omega)] | rw [rLayH_o (by omega) (by omega) (by omega) (by omega)]); omega))) (zr_rc hC (zRf.ofH (Rs := []))) (zRf.ofH (Rs := [])) ?_
    refine zx_istore_n (L' := [some (.ref (ad 0)), some (.int (iI ((p : Nat) : Int))), some (.int (iI (tNaA pd (iv 2) (p + 1)))), some (.int (iI (rWhyPress h))), some (.int (iI 0))]) hC dX2_carries_72 (by decide) rfl ?_
    refine zx_goto (tgt := 127) hC dX2_carries_73 (by decide) ?_
    refine zx_eq (L' := [some (.ref (ad 0)), some (.int (iI ((p : Nat) : Int))), some (.int (iI (tNaA pd (iv 2) (p + 1)))), some (.int (iI (rWhyC h pd (iv 2) p))), some (.int (iI 0))]) (by rw [show rWhyPress h = rWhyC h pd (iv 2) p from (by symm; unfold rWhyC; (repeat first | rw [if_pos (by omega)] | rw [if_neg (by omega)]); first | done | rfl | (rw [et2]; first | done | rfl))]) rfl ?_
    exact J18
  · refine zx_lookup (off := 58) (tgt := 76) hC dX2_carries_18 (by decide) (by first | assumption | exact gI _ (by omega) | exact iRm (by omega) (by omega)) (by rw [hs]; rfl) (by decide) ?_
    refine zx_aload_n hC dX2_carries_76 rfl ?_
    refine zx_rd1 (r := .int (iI (rWhyStop h))) hC hA.2 (zcV 0 (As := []) hC (lw_V q1722 q1724 qs50 q93 q1725) (by decide +kernel) rfl (by rw [hRm]; decide) (by rw [hRm]; decide) rfl (Nat.le_of_ble_eq_true rfl) dX2_carries_77) (m_X2_whyNotStop (zl X) G ad h F (ps, sn, iv, pd, sp)  (by first | assumption | omega | exact iRm (by omega) (by omega) | ((repeat (first | exact gL | refine rLs.up ?_ (by omega) (by omega) | refine rLs.fad ?_)); done) | ((repeat (first | exact gM | refine rHM.up ?_ (by omega))); done) | exact gT _ (by omega) | exact rFadF_le gF _ | ((repeat first | rw [va_up_ne _ _ (by omega)] | rw [va_up_self] | rw [rFadH_o (by omega)] | rw [rAge_o _ _ (by omega)] | rw [rLayH_o (by omega) (by omega) (by omega) (by omega)]); omega))) (zr_rc hC (zRf.ofH (Rs := []))) (zRf.ofH (Rs := [])) ?_
    refine zx_istore_n (L' := [some (.ref (ad 0)), some (.int (iI ((p : Nat) : Int))), some (.int (iI (tNaA pd (iv 2) (p + 1)))), some (.int (iI (rWhyStop h))), some (.int (iI 0))]) hC dX2_carries_80 (by decide) rfl ?_
    refine zx_goto (tgt := 127) hC dX2_carries_81 (by decide) ?_
    refine zx_eq (L' := [some (.ref (ad 0)), some (.int (iI ((p : Nat) : Int))), some (.int (iI (tNaA pd (iv 2) (p + 1)))), some (.int (iI (rWhyC h pd (iv 2) p))), some (.int (iI 0))]) (by rw [show rWhyStop h = rWhyC h pd (iv 2) p from (by symm; unfold rWhyC; (repeat first | rw [if_pos (by omega)] | rw [if_neg (by omega)]); first | done | rfl | (rw [et2]; first | done | rfl))]) rfl ?_
    exact J18
  · refine zx_lookup (off := 66) (tgt := 84) hC dX2_carries_18 (by decide) (by first | assumption | exact gI _ (by omega) | exact iRm (by omega) (by omega)) (by rw [hs]; rfl) (by decide) ?_
    refine zx_aload_n hC dX2_carries_84 rfl ?_
    refine zx_rd1 (r := .int (iI (rWhyPeel h))) hC hA.2 (zcV 0 (As := []) hC (lw_V q1771 q1773 qs57 q93 q1774) (by decide +kernel) rfl (by rw [hRm]; decide) (by rw [hRm]; decide) rfl (Nat.le_of_ble_eq_true rfl) dX2_carries_85) (m_X2_whyNotPeel (zl X) G ad h F (ps, sn, iv, pd, sp)  (by first | assumption | omega | exact iRm (by omega) (by omega) | ((repeat (first | exact gL | refine rLs.up ?_ (by omega) (by omega) | refine rLs.fad ?_)); done) | ((repeat (first | exact gM | refine rHM.up ?_ (by omega))); done) | exact gT _ (by omega) | exact rFadF_le gF _ | ((repeat first | rw [va_up_ne _ _ (by omega)] | rw [va_up_self] | rw [rFadH_o (by omega)] | rw [rAge_o _ _ (by omega)] | rw [rLayH_o (by omega) (by omega) (by omega) (by omega)]); omega)) (by first | assumption | omega | exact iRm (by omega) (by omega) | ((repeat (first | exact gL | refine rLs.up ?_ (by omega) (by omega) | refine rLs.fad ?_)); done) | ((repeat (first | exact gM | refine rHM.up ?_ (by omega))); done) | exact gT _ (by omega) | exact rFadF_le gF _ | ((repeat first | rw [va_up_ne _ _ (by omega)] | rw [va_up_self] | rw [rFadH_o (by omega)] | rw [rAge_o _ _ (by omega)] | rw [rLayH_o (by omega) (by omega) (by omega) (by omega)]); omega))) (zr_rc hC (zRf.ofH (Rs := []))) (zRf.ofH (Rs := [])) ?_
    refine zx_istore_n (L' := [some (.ref (ad 0)), some (.int (iI ((p : Nat) : Int))), some (.int (iI (tNaA pd (iv 2) (p + 1)))), some (.int (iI (rWhyPeel h))), some (.int (iI 0))]) hC dX2_carries_88 (by decide) rfl ?_
    refine zx_goto (tgt := 127) hC dX2_carries_89 (by decide) ?_
    refine zx_eq (L' := [some (.ref (ad 0)), some (.int (iI ((p : Nat) : Int))), some (.int (iI (tNaA pd (iv 2) (p + 1)))), some (.int (iI (rWhyC h pd (iv 2) p))), some (.int (iI 0))]) (by rw [show rWhyPeel h = rWhyC h pd (iv 2) p from (by symm; unfold rWhyC; (repeat first | rw [if_pos (by omega)] | rw [if_neg (by omega)]); first | done | rfl | (rw [et2]; first | done | rfl))]) rfl ?_
    exact J18
  · refine zx_lookup (off := 74) (tgt := 92) hC dX2_carries_18 (by decide) (by first | assumption | exact gI _ (by omega) | exact iRm (by omega) (by omega)) (by rw [hs]; rfl) (by decide) ?_
    refine zx_aload_n hC dX2_carries_92 rfl ?_
    refine zx_rd1 (r := .int (iI (rWhyBack h))) hC hA.2 (zcV 0 (As := []) hC (lw_V q1783 q1785 qs59 q93 q1786) (by decide +kernel) rfl (by rw [hRm]; decide) (by rw [hRm]; decide) rfl (Nat.le_of_ble_eq_true rfl) dX2_carries_93) (m_X2_whyNotBack (zl X) G ad h F (ps, sn, iv, pd, sp)  (by first | assumption | omega | exact iRm (by omega) (by omega) | ((repeat (first | exact gL | refine rLs.up ?_ (by omega) (by omega) | refine rLs.fad ?_)); done) | ((repeat (first | exact gM | refine rHM.up ?_ (by omega))); done) | exact gT _ (by omega) | exact rFadF_le gF _ | ((repeat first | rw [va_up_ne _ _ (by omega)] | rw [va_up_self] | rw [rFadH_o (by omega)] | rw [rAge_o _ _ (by omega)] | rw [rLayH_o (by omega) (by omega) (by omega) (by omega)]); omega)) (by first | assumption | omega | exact iRm (by omega) (by omega) | ((repeat (first | exact gL | refine rLs.up ?_ (by omega) (by omega) | refine rLs.fad ?_)); done) | ((repeat (first | exact gM | refine rHM.up ?_ (by omega))); done) | exact gT _ (by omega) | exact rFadF_le gF _ | ((repeat first | rw [va_up_ne _ _ (by omega)] | rw [va_up_self] | rw [rFadH_o (by omega)] | rw [rAge_o _ _ (by omega)] | rw [rLayH_o (by omega) (by omega) (by omega) (by omega)]); omega))) (zr_rc hC (zRf.ofH (Rs := []))) (zRf.ofH (Rs := [])) ?_
    refine zx_istore_n (L' := [some (.ref (ad 0)), some (.int (iI ((p : Nat) : Int))), some (.int (iI (tNaA pd (iv 2) (p + 1)))), some (.int (iI (rWhyBack h))), some (.int (iI 0))]) hC dX2_carries_96 (by decide) rfl ?_
    refine zx_goto (tgt := 127) hC dX2_carries_97 (by decide) ?_
    refine zx_eq (L' := [some (.ref (ad 0)), some (.int (iI ((p : Nat) : Int))), some (.int (iI (tNaA pd (iv 2) (p + 1)))), some (.int (iI (rWhyC h pd (iv 2) p))), some (.int (iI 0))]) (by rw [show rWhyBack h = rWhyC h pd (iv 2) p from (by symm; unfold rWhyC; (repeat first | rw [if_pos (by omega)] | rw [if_neg (by omega)]); first | done | rfl | (rw [et2]; first | done | rfl))]) rfl ?_
    exact J18
  · refine zx_lookup (off := 107) (tgt := 125) hC dX2_carries_18 (by decide) (by first | assumption | exact gI _ (by omega) | exact iRm (by omega) (by omega)) ((zosw (by omega)).trans ((zosw (by omega)).trans ((zosw (by omega)).trans ((zosw (by omega)).trans ((zosw (by omega)).trans (rfl)))))) (by decide) ?_
    refine zx_iconst (z := 0) hC dX2_carries_125 ?_
    refine zx_istore_n (L' := [some (.ref (ad 0)), some (.int (iI ((p : Nat) : Int))), some (.int (iI (tNaA pd (iv 2) (p + 1)))), some (.int (iI 0)), some (.int (iI 0))]) hC dX2_carries_126 (by decide) rfl ?_
    refine zx_eq (L' := [some (.ref (ad 0)), some (.int (iI ((p : Nat) : Int))), some (.int (iI (tNaA pd (iv 2) (p + 1)))), some (.int (iI (rWhyC h pd (iv 2) p))), some (.int (iI 0))]) (by rw [show 0 = rWhyC h pd (iv 2) p from (by symm; unfold rWhyC; (repeat first | rw [if_pos (by omega)] | rw [if_neg (by omega)]); first | done | rfl | (rw [et2]; first | done | rfl))]) rfl ?_
    exact J18
