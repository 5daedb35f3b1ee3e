/-! the reference, walked: part 23 (printed by gen/gen.py) -/
set_option maxRecDepth 100000
set_option maxHeartbeats 4000000 in
theorem m_X2_starts (la : Launch) (G : zG) (ad : Nat → Nat) (h : Nat → Nat) (F : Nat → Nat → Nat → Nat) (r : zR5)   : zMA la yX2_starts cX2_starts 1 none 0 0 G [.ref (ad 0)] [REF G ad ((h, F), r)] (fun v9 => v9 = none) (fun _ => [REF G ad (((rStarts h), F), r)]) 0 0 := by
  refine zMA.of [some (.ref (ad 0))] (by decide) (Nat.le_of_ble_eq_true rfl) rfl (fun X A hl hC hnm hA hRm hE => ?_)
  refine zx_aload_n hC dX2_starts_0 rfl ?_
  refine zr_get (v := .ref (ad 1)) hC (zRf.ofH (Rs := [])) 0 (by decide) dX2_starts_1 q1610 rfl ?_
  refine zx_iconst (z := 0) hC dX2_starts_4 ?_
  refine zx_ldc2 (z := 2) hC dX2_starts_5 q1700 rfl ?_
  refine zr_sstN (v := 2) hC 0 dX2_starts_8 (by omega) ?_
  refine zx_aload_n hC dX2_starts_9 rfl ?_
  refine zr_get (v := .ref (ad 1)) hC (zRf.ofH (Rs := [])) 0 (by decide) dX2_starts_10 q1610 rfl ?_
  refine zx_iconst (z := 1) hC dX2_starts_13 ?_
  refine zx_lconst0 hC dX2_starts_14 ?_
  refine zr_sstN (v := 0) hC 1 dX2_starts_15 (by omega) ?_
  refine zx_aload_n hC dX2_starts_16 rfl ?_
  refine zr_get (v := .ref (ad 1)) hC (zRf.ofH (Rs := [])) 0 (by decide) dX2_starts_17 q1610 rfl ?_
  refine zx_bipush (z := 9) hC dX2_starts_20 rfl ?_
  refine zx_lconst0 hC dX2_starts_22 ?_
  refine zr_sstN (v := 0) hC 9 dX2_starts_23 (by omega) ?_
  refine zx_aload_n hC dX2_starts_24 rfl ?_
  refine zr_get (v := .ref (ad 1)) hC (zRf.ofH (Rs := [])) 0 (by decide) dX2_starts_25 q1610 rfl ?_
  refine zx_bipush (z := 10) hC dX2_starts_28 rfl ?_
  refine zx_lconst0 hC dX2_starts_30 ?_
  refine zr_sstN (v := 0) hC 10 dX2_starts_31 (by omega) ?_
  exact zx_vret hC hE (Nat.le_refl _) (Nat.le_refl _) (fun H h => ⟨rfl, h⟩) dX2_starts_32
set_option maxHeartbeats 4000000 in
theorem m_X2_endsTake (la : Launch) (G : zG) (ad : Nat → Nat) (h : Nat → Nat) (F : Nat → Nat → Nat → Nat) (r : zR5)   : zMA la yX2_endsTake cX2_endsTake 1 none 1 22 G [.ref (ad 0)] [REF G ad ((h, F), r)] (fun v9 => v9 = none) (fun _ => [REF G ad (((va_up h 11 0), (zclF F 6)), r)]) 0 0 := by
  refine zMA.of [some (.ref (ad 0))] (by decide) (Nat.le_of_ble_eq_true rfl) rfl (fun X A hl hC hnm hA hRm hE => ?_)
  refine zx_aload_n hC dX2_endsTake_0 rfl ?_
  refine zr_get (v := .ref (ad 1)) hC (zRf.ofH (Rs := [])) 0 (by decide) dX2_endsTake_1 q1610 rfl ?_
  refine zx_bipush (z := 11) hC dX2_endsTake_4 rfl ?_
  refine zx_lconst0 hC dX2_endsTake_6 ?_
  refine zr_sstN (v := 0) hC 11 dX2_endsTake_7 (by omega) ?_
  refine zx_aload_n hC dX2_endsTake_8 rfl ?_
  refine zx_bipush (z := 6) hC dX2_endsTake_9 rfl ?_
  refine zx_ma0 (Q := fun _ => [REF G ad (((va_up h 11 0), (zclF F 6)), r)]) hC hA [0] [] (zcV 1 (As := [.int (iI 6)]) hC (lw_V q1675 q1677 qs41 q93 q1678) (by decide +kernel) rfl (by rw [hRm]; decide) (by rw [hRm]; decide) rfl (Nat.le_of_ble_eq_true rfl) dX2_endsTake_11) (m_X2_clears (zl X) G ad (va_up h 11 0) F r 6 (by first | assumption | omega | exact iRm (by omega) (by omega) | ((repeat (first | exact gL | refine rLs.up ?_ (by omega) (by omega) | refine rLs.fad ?_)); done) | ((repeat (first | exact gM | refine rHM.up ?_ (by omega))); done) | exact gT _ (by omega) | exact rFadF_le gF _ | ((repeat first | rw [va_up_ne _ _ (by omega)] | rw [va_up_self] | rw [rFadH_o (by omega)] | rw [rAge_o _ _ (by omega)] | rw [rLayH_o (by omega) (by omega) (by omega) (by omega)]); omega))) (zr_rc hC (zRf.ofH (Rs := []))) rfl rfl rfl ?_
  show zVm X G ad A 1 (((va_up h 11 0), (zclF F 6)), r) 14 [some (.ref (ad 0))] []
  exact zx_vret hC hE (Nat.le_refl _) (Nat.le_refl _) (fun H h => ⟨rfl, h⟩) dX2_endsTake_14
set_option maxHeartbeats 4000000 in
theorem m_X2_beginsTake (la : Launch) (G : zG) (ad : Nat → Nat) (h : Nat → Nat) (F : Nat → Nat → Nat → Nat) (r : zR5)  (g0 : h 0 ≤ 4) : zMA la yX2_beginsTake cX2_beginsTake 1 none 1 22 G [.ref (ad 0)] [REF G ad ((h, F), r)] (fun v9 => v9 = none) (fun _ => [REF G ad (((rBegH h), (zclF F 6)), r)]) 0 0 := by
  refine zMA.of [some (.ref (ad 0))] (by decide) (Nat.le_of_ble_eq_true rfl) rfl (fun X A hl hC hnm hA hRm hE => ?_)
  refine zx_aload_n hC dX2_beginsTake_0 rfl ?_
  refine zr_get (v := .ref (ad 1)) hC (zRf.ofH (Rs := [])) 0 (by decide) dX2_beginsTake_1 q1610 rfl ?_
  refine zx_iconst (z := 0) hC dX2_beginsTake_4 ?_
  have J5 : zVm X G ad A 1 ((h, F), r) 20 [some (.ref (ad 0))] [.long (lI ((if h 0 = 0 then 1 else 3 : Nat) : Int)), .int (iI 0), .ref (ad 1)] := by
    refine zr_sstN (v := if h 0 = 0 then 1 else 3) hC 0 dX2_beginsTake_20 (by omega) ?_
    refine zx_aload_n hC dX2_beginsTake_21 rfl ?_
    refine zr_get (v := .ref (ad 1)) hC (zRf.ofH (Rs := [])) 0 (by decide) dX2_beginsTake_22 q1610 rfl ?_
    refine zx_bipush (z := 12) hC dX2_beginsTake_25 rfl ?_
    refine zx_aload_n hC dX2_beginsTake_27 rfl ?_
    refine zr_get (v := .ref (ad 1)) hC (zRf.ofH (Rs := [])) 0 (by decide) dX2_beginsTake_28 q1610 rfl ?_
    refine zx_iconst (z := 1) hC dX2_beginsTake_31 ?_
    refine zr_sldN (x := h 1) hC (zRf.ofH (Rs := [])) 1 dX2_beginsTake_32 (by omega) (by first | rfl | ((repeat first | rw [va_up_ne _ _ (by omega)] | rw [va_up_self] | rw [rFadH_o (by omega)] | rw [rAge_o _ _ (by omega)] | rw [rLayH_o (by omega) (by omega) (by omega) (by omega)]); done)) ?_
    refine zr_sstN (v := h 1) hC 12 dX2_beginsTake_33 (by omega) ?_
    refine zx_aload_n hC dX2_beginsTake_34 rfl ?_
    refine zr_get (v := .ref (ad 1)) hC (zRf.ofH (Rs := [])) 0 (by decide) dX2_beginsTake_35 q1610 rfl ?_
    refine zx_bipush (z := 11) hC dX2_beginsTake_38 rfl ?_
    refine zx_lconst0 hC dX2_beginsTake_40 ?_
    refine zr_sstN (v := 0) hC 11 dX2_beginsTake_41 (by omega) ?_
    refine zx_aload_n hC dX2_beginsTake_42 rfl ?_
    refine zx_bipush (z := 6) hC dX2_beginsTake_43 rfl ?_
    refine zx_ma0 (Q := fun _ => [REF G ad (((va_up (va_up (va_up h 0 (if h 0 = 0 then 1 else 3)) 12 (h 1)) 11 0), (zclF F 6)), r)]) hC hA [0] [] (zcV 1 (As := [.int (iI 6)]) hC (lw_V q1675 q1677 qs41 q93 q1678) (by decide +kernel) rfl (by rw [hRm]; decide) (by rw [hRm]; decide) rfl (Nat.le_of_ble_eq_true rfl) dX2_beginsTake_45) (m_X2_clears (zl X) G ad (va_up (va_up (va_up h 0 (if h 0 = 0 then 1 else 3)) 12 (h 1)) 11 0) F r 6 (by first | assumption | omega | exact iRm (by omega) (by omega) | ((repeat (first | exact gL | refine rLs.up ?_ (by omega) (by omega) | refine rLs.fad ?_)); done) | ((repeat (first | exact gM | refine rHM.up ?_ (by omega))); done) | exact gT _ (by omega) | exact rFadF_le gF _ | ((repeat first | rw [va_up_ne _ _ (by omega)] | rw [va_up_self] | rw [rFadH_o (by omega)] | rw [rAge_o _ _ (by omega)] | rw [rLayH_o (by omega) (by omega) (by omega) (by omega)]); omega))) (zr_rc hC (zRf.ofH (Rs := []))) rfl rfl rfl ?_
    show zVm X G ad A 1 (((va_up (va_up (va_up h 0 (if h 0 = 0 then 1 else 3)) 12 (h 1)) 11 0), (zclF F 6)), r) 48 [some (.ref (ad 0))] []
    exact zx_vret hC hE (Nat.le_refl _) (Nat.le_refl _) (fun H h => ⟨rfl, h⟩) dX2_beginsTake_48
  refine zx_aload_n hC dX2_beginsTake_5 rfl ?_
  refine zx_iconst (z := 0) hC dX2_beginsTake_6 ?_
  refine zx_rd1 (r := .int (iI ((h 0 : Nat) : Int))) hC hA.2 (zcV 1 (As := [.int (iI 0)]) hC (lw_V q1651 q1653 qs35 q93 q1654) (by decide +kernel) rfl (by rw [hRm]; decide) (by rw [hRm]; decide) rfl (Nat.le_of_ble_eq_true rfl) dX2_beginsTake_7) (m_X2_of (zl X) G ad h F r 0 (by first | assumption | omega | exact iRm (by omega) (by omega) | ((repeat (first | exact gL | refine rLs.up ?_ (by omega) (by omega) | refine rLs.fad ?_)); done) | ((repeat (first | exact gM | refine rHM.up ?_ (by omega))); done) | exact gT _ (by omega) | exact rFadF_le gF _ | ((repeat first | rw [va_up_ne _ _ (by omega)] | rw [va_up_self] | rw [rFadH_o (by omega)] | rw [rAge_o _ _ (by omega)] | rw [rLayH_o (by omega) (by omega) (by omega) (by omega)]); omega))) (zr_rc hC (zRf.ofH (Rs := []))) (zRf.ofH (Rs := [])) ?_
  refine zx_if_ne (tgt := 17) hC dX2_beginsTake_10 (by decide) (by first | assumption | exact gI _ (by omega) | exact iRm (by omega) (by omega)) (fun c10 => ?_) (fun c10 => ?_)
  · refine zx_ldc2 (z := 3) hC dX2_beginsTake_17 q1717 rfl ?_
    refine zx_topl (b := ((if h 0 = 0 then 1 else 3 : Nat) : Int)) (by first | (rw [if_pos (by omega)]; first | done | rfl) | (rw [if_neg (by omega)]; first | done | rfl)) ?_
    exact J5
  · refine zx_lconst1 hC dX2_beginsTake_13 ?_
    refine zx_goto (tgt := 20) hC dX2_beginsTake_14 (by decide) ?_
    refine zx_topl (b := ((if h 0 = 0 then 1 else 3 : Nat) : Int)) (by first | (rw [if_pos (by omega)]; first | done | rfl) | (rw [if_neg (by omega)]; first | done | rfl)) ?_
    exact J5
set_option maxHeartbeats 4000000 in
theorem m_X2_lays (la : Launch) (G : zG) (ad : Nat → Nat) (h : Nat → Nat) (F : Nat → Nat → Nat → Nat) (r : zR5) (cells : Nat) (on : Nat) (g0 : h 7 < 6) (g1 : cells + on ≤ 48) (gF : rFb F) : zMA la yX2_lays cX2_lays 7 none 1 26 G [.ref (ad 0), .int (iI ((cells : Nat) : Int)), .int (iI ((on : Nat) : Int))] [REF G ad ((h, F), r)] (fun v9 => v9 = none) (fun _ => [REF G ad (((rLayH h cells), (rLayF F (h 7) on (zclF F (h 7)) (cells * 36))), r)]) 0 0 := by
  refine zMA.of [some (.ref (ad 0)), some (.int (iI ((cells : Nat) : Int))), some (.int (iI ((on : Nat) : Int))), none, none, none, none] (by decide) (Nat.le_of_ble_eq_true rfl) rfl (fun X A hl hC hnm hA hRm hE => ?_)
  refine zx_aload_n hC dX2_lays_0 rfl ?_
  refine zx_bipush (z := 7) hC dX2_lays_1 rfl ?_
  refine zx_rd1 (r := .int (iI ((h 7 : Nat) : Int))) hC hA.2 (zcV 1 (As := [.int (iI 7)]) hC (lw_V q1651 q1653 qs35 q93 q1654) (by decide +kernel) rfl (by rw [hRm]; decide) (by rw [hRm]; decide) rfl (Nat.le_of_ble_eq_true rfl) dX2_lays_3) (m_X2_of (zl X) G ad h F r 7 (by first | assumption | omega | exact iRm (by omega) (by omega) | ((repeat (first | exact gL | refine rLs.up ?_ (by omega) (by omega) | refine rLs.fad ?_)); done) | ((repeat (first | exact gM | refine rHM.up ?_ (by omega))); done) | exact gT _ (by omega) | exact rFadF_le gF _ | ((repeat first | rw [va_up_ne _ _ (by omega)] | rw [va_up_self] | rw [rFadH_o (by omega)] | rw [rAge_o _ _ (by omega)] | rw [rLayH_o (by omega) (by omega) (by omega) (by omega)]); omega))) (zr_rc hC (zRf.ofH (Rs := []))) (zRf.ofH (Rs := [])) ?_
  refine zx_istore_n (L' := [some (.ref (ad 0)), some (.int (iI ((cells : Nat) : Int))), some (.int (iI ((on : Nat) : Int))), some (.int (iI ((h 7 : Nat) : Int))), none, none, none]) hC dX2_lays_6 (by decide) rfl ?_
  refine zx_aload_n hC dX2_lays_7 rfl ?_
  refine zx_iload_n hC dX2_lays_8 rfl ?_
  refine zx_ma0 (Q := fun _ => [REF G ad ((h, (zclF F (h 7))), r)]) hC hA [0] [] (zcV 1 (As := [.int (iI ((h 7 : Nat) : Int))]) hC (lw_V q1675 q1677 qs41 q93 q1678) (by decide +kernel) rfl (by rw [hRm]; decide) (by rw [hRm]; decide) rfl (Nat.le_of_ble_eq_true rfl) dX2_lays_9) (m_X2_clears (zl X) G ad h F r (h 7) (by first | assumption | omega | exact iRm (by omega) (by omega) | ((repeat (first | exact gL | refine rLs.up ?_ (by omega) (by omega) | refine rLs.fad ?_)); done) | ((repeat (first | exact gM | refine rHM.up ?_ (by omega))); done) | exact gT _ (by omega) | exact rFadF_le gF _ | ((repeat first | rw [va_up_ne _ _ (by omega)] | rw [va_up_self] | rw [rFadH_o (by omega)] | rw [rAge_o _ _ (by omega)] | rw [rLayH_o (by omega) (by omega) (by omega) (by omega)]); omega))) (zr_rc hC (zRf.ofH (Rs := []))) rfl rfl rfl ?_
  show zVm X G ad A 7 ((h, (zclF F (h 7))), r) 12 [some (.ref (ad 0)), some (.int (iI ((cells : Nat) : Int))), some (.int (iI ((on : Nat) : Int))), some (.int (iI ((h 7 : Nat) : Int))), none, none, none] []
  rw [← rLayF_0 F (h 7) on (zclF F (h 7))]
  refine zx_iconst (z := 0) hC dX2_lays_12 ?_
  refine zx_istore (L' := [some (.ref (ad 0)), some (.int (iI ((cells : Nat) : Int))), some (.int (iI ((on : Nat) : Int))), some (.int (iI ((h 7 : Nat) : Int))), some (.int (iI 0)), none, none]) hC dX2_lays_13 (by decide) rfl ?_
  have loop : ∀ n i : Nat, i + n = cells * 36 → zVm X G ad A 7 ((h, (rLayF F (h 7) on (zclF F (h 7)) i)), r) 15 [some (.ref (ad 0)), some (.int (iI ((cells : Nat) : Int))), some (.int (iI ((on : Nat) : Int))), some (.int (iI ((h 7 : Nat) : Int))), some (.int (iI ((i : Nat) : Int))), none, none] [] := by
    intro n
    induction n with
    | zero =>
      intro i hi 
      have hiN : i = cells * 36 := by omega
      rw [hiN]
      refine zx_iload hC dX2_lays_15 rfl ?_
      refine zx_iload_n hC dX2_lays_17 rfl ?_
      refine zx_bipush (z := 36) hC dX2_lays_18 rfl ?_
      refine zx_imul hC dX2_lays_20 ?_
      refine zx_icmp_geT (tgt := 98) hC dX2_lays_21 (by decide) (by first | assumption | exact gI _ (by omega) | exact iRm (by omega) (by omega)) (by first | assumption | exact gI _ (by omega) | exact iRm (by omega) (by omega)) (by omega) ?_
      refine zx_aload_n hC dX2_lays_98 rfl ?_
      refine zr_get (v := .ref (ad 1)) hC (zRf.ofH (Rs := [])) 0 (by decide) dX2_lays_99 q1610 rfl ?_
      refine zx_bipush (z := 14) hC dX2_lays_102 rfl ?_
      refine zx_iload_n hC dX2_lays_104 rfl ?_
      refine zx_iadd hC dX2_lays_105 ?_
      refine zx_iload_n hC dX2_lays_106 rfl ?_
      refine zx_i2l hC dX2_lays_107 (by first | assumption | exact gI _ (by omega) | exact iRm (by omega) (by omega)) ?_
      refine zr_sstN (v := cells) hC (14 + (h 7)) dX2_lays_108 (by omega) ?_
      refine zx_aload_n hC dX2_lays_109 rfl ?_
      refine zr_get (v := .ref (ad 1)) hC (zRf.ofH (Rs := [])) 0 (by decide) dX2_lays_110 q1610 rfl ?_
      refine zx_bipush (z := 20) hC dX2_lays_113 rfl ?_
      refine zx_iload_n hC dX2_lays_115 rfl ?_
      refine zx_iadd hC dX2_lays_116 ?_
      refine zx_lconst0 hC dX2_lays_117 ?_
      refine zr_sstN (v := 0) hC (20 + (h 7)) dX2_lays_118 (by omega) ?_
      refine zx_aload_n hC dX2_lays_119 rfl ?_
      refine zr_get (v := .ref (ad 1)) hC (zRf.ofH (Rs := [])) 0 (by decide) dX2_lays_120 q1610 rfl ?_
      refine zx_bipush (z := 26) hC dX2_lays_123 rfl ?_
      refine zx_iload_n hC dX2_lays_125 rfl ?_
      refine zx_iadd hC dX2_lays_126 ?_
      refine zx_lconst0 hC dX2_lays_127 ?_
      refine zr_sstN (v := 0) hC (26 + (h 7)) dX2_lays_128 (by omega) ?_
      refine zx_aload_n hC dX2_lays_129 rfl ?_
      refine zr_get (v := .ref (ad 1)) hC (zRf.ofH (Rs := [])) 0 (by decide) dX2_lays_130 q1610 rfl ?_
      refine zx_bipush (z := 7) hC dX2_lays_133 rfl ?_
      refine zx_dup2 hC dX2_lays_135 rfl rfl ?_
      refine zr_sldN (x := h 7) hC (zRf.ofH (Rs := [])) 7 dX2_lays_136 (by omega) (by first | rfl | ((repeat first | rw [va_up_ne _ _ (by omega)] | rw [va_up_self] | rw [rFadH_o (by omega)] | rw [rAge_o _ _ (by omega)] | rw [rLayH_o (by omega) (by omega) (by omega) (by omega)]); done)) ?_
      refine zx_lconst1 hC dX2_lays_137 ?_
      refine zx_ladd hC dX2_lays_138 ?_
      refine zr_sstN (v := (h 7) + 1) hC 7 dX2_lays_139 (by omega) ?_
      refine zx_aload_n hC dX2_lays_140 rfl ?_
      refine zr_get (v := .ref (ad 1)) hC (zRf.ofH (Rs := [])) 0 (by decide) dX2_lays_141 q1610 rfl ?_
      refine zx_bipush (z := 8) hC dX2_lays_144 rfl ?_
      refine zx_lconst0 hC dX2_lays_146 ?_
      refine zr_sstN (v := 0) hC 8 dX2_lays_147 (by omega) ?_
      refine zx_aload_n hC dX2_lays_148 rfl ?_
      refine zr_get (v := .ref (ad 1)) hC (zRf.ofH (Rs := [])) 0 (by decide) dX2_lays_149 q1610 rfl ?_
      refine zx_bipush (z := 13) hC dX2_lays_152 rfl ?_
      refine zx_dup2 hC dX2_lays_154 rfl rfl ?_
      refine zr_sldN (x := h 13) hC (zRf.ofH (Rs := [])) 13 dX2_lays_155 (by omega) (by first | rfl | ((repeat first | rw [va_up_ne _ _ (by omega)] | rw [va_up_self] | rw [rFadH_o (by omega)] | rw [rAge_o _ _ (by omega)] | rw [rLayH_o (by omega) (by omega) (by omega) (by omega)]); done)) ?_
      refine zx_lconst1 hC dX2_lays_156 ?_
      refine zx_ladd hC dX2_lays_157 ?_
      refine zr_sstN (v := (h 13) + 1) hC 13 dX2_lays_158 (by omega) ?_
      exact zx_vret hC hE (Nat.le_refl _) (Nat.le_refl _) (fun H h => ⟨rfl, h⟩) dX2_lays_159
    | succ n ih =>
      intro i hi 
      have ga := gF 6 (i / 36) (i % 36)
      have gb := gF 6 (i / 36 + on) (i % 36)
      have gc := rBoth_le (F 6 (i / 36) (i % 36)) (if on = 0 then 0 else F 6 (i / 36 + on) (i % 36))
      have gd : (if on = 0 then 0 else F 6 (i / 36 + on) (i % 36)) ≤ 99 := by split <;> omega
      refine zx_iload hC dX2_lays_15 rfl ?_
      refine zx_iload_n hC dX2_lays_17 rfl ?_
      refine zx_bipush (z := 36) hC dX2_lays_18 rfl ?_
      refine zx_imul hC dX2_lays_20 ?_
      refine zx_icmp_geF (tgt := 98) hC dX2_lays_21 (by decide) (by first | assumption | exact gI _ (by omega) | exact iRm (by omega) (by omega)) (by first | assumption | exact gI _ (by omega) | exact iRm (by omega) (by omega)) (by omega) ?_
      refine zx_aload_n hC dX2_lays_24 rfl ?_
      refine zx_bipush (z := 6) hC dX2_lays_25 rfl ?_
      refine zx_iload hC dX2_lays_27 rfl ?_
      refine zx_bipush (z := 36) hC dX2_lays_29 rfl ?_
      refine zx_idiv hC dX2_lays_31 (by first | assumption | exact gI _ (by omega) | exact iRm (by omega) (by omega)) (by first | assumption | exact gI _ (by omega) | exact iRm (by omega) (by omega)) (by omega) (by omega) ?_
      refine zx_iload hC dX2_lays_32 rfl ?_
      refine zx_bipush (z := 36) hC dX2_lays_34 rfl ?_
      refine zx_irem hC dX2_lays_36 (by first | assumption | exact gI _ (by omega) | exact iRm (by omega) (by omega)) (by first | assumption | exact gI _ (by omega) | exact iRm (by omega) (by omega)) (by omega) (by omega) ?_
      refine zx_rd1 (r := .int (iI (((rLayF F (h 7) on (zclF F (h 7)) i) 6 (i / 36) (i % 36) : Nat) : Int))) hC hA.2 (zcV 3 (As := [.int (iI 6), .int (iI ((i / 36 : Nat) : Int)), .int (iI ((i % 36 : Nat) : Int))]) hC (lw_V q1679 q1681 qs42 q93 q1682) (by decide +kernel) rfl (by rw [hRm]; decide) (by rw [hRm]; decide) rfl (Nat.le_of_ble_eq_true rfl) dX2_lays_37) (m_X2_force (zl X) G ad h (rLayF F (h 7) on (zclF F (h 7)) i) r 6 (i / 36) (i % 36) (by first | assumption | omega | exact iRm (by omega) (by omega) | ((repeat (first | exact gL | refine rLs.up ?_ (by omega) (by omega) | refine rLs.fad ?_)); done) | ((repeat (first | exact gM | refine rHM.up ?_ (by omega))); done) | exact gT _ (by omega) | exact rFadF_le gF _ | ((repeat first | rw [va_up_ne _ _ (by omega)] | rw [va_up_self] | rw [rFadH_o (by omega)] | rw [rAge_o _ _ (by omega)] | rw [rLayH_o (by omega) (by omega) (by omega) (by omega)]); omega)) (by first | assumption | omega | exact iRm (by omega) (by omega) | ((repeat (first | exact gL | refine rLs.up ?_ (by omega) (by omega) | refine rLs.fad ?_)); done) | ((repeat (first | exact gM | refine rHM.up ?_ (by omega))); done) | exact gT _ (by omega) | exact rFadF_le gF _ | ((repeat first | rw [va_up_ne _ _ (by omega)] | rw [va_up_self] | rw [rFadH_o (by omega)] | rw [rAge_o _ _ (by omega)] | rw [rLayH_o (by omega) (by omega) (by omega) (by omega)]); omega)) (by first | assumption | omega | exact iRm (by omega) (by omega) | ((repeat (first | exact gL | refine rLs.up ?_ (by omega) (by omega) | refine rLs.fad ?_)); done) | ((repeat (first | exact gM | refine rHM.up ?_ (by omega))); done) | exact gT _ (by omega) | exact rFadF_le gF _ | ((repeat first | rw [va_up_ne _ _ (by omega)] | rw [va_up_self] | rw [rFadH_o (by omega)] | rw [rAge_o _ _ (by omega)] | rw [rLayH_o (by omega) (by omega) (by omega) (by omega)]); omega))) (zr_rc hC (zRf.ofH (Rs := []))) (zRf.ofH (Rs := [])) ?_
      refine zx_topi (b := ((F 6 (i / 36) (i % 36) : Nat) : Int)) (congrArg (fun z : Nat => (z : Int)) (rLayF_6 (by omega))) ?_
      refine zx_istore (L' := [some (.ref (ad 0)), some (.int (iI ((cells : Nat) : Int))), some (.int (iI ((on : Nat) : Int))), some (.int (iI ((h 7 : Nat) : Int))), some (.int (iI ((i : Nat) : Int))), some (.int (iI ((F 6 (i / 36) (i % 36) : Nat) : Int))), none]) hC dX2_lays_40 (by decide) rfl ?_
      have J42 : zVm X G ad A 7 ((h, (rLayF F (h 7) on (zclF F (h 7)) i)), r) 68 [some (.ref (ad 0)), some (.int (iI ((cells : Nat) : Int))), some (.int (iI ((on : Nat) : Int))), some (.int (iI ((h 7 : Nat) : Int))), some (.int (iI ((i : Nat) : Int))), some (.int (iI ((F 6 (i / 36) (i % 36) : Nat) : Int))), none] [.int (iI ((if on = 0 then 0 else F 6 (i / 36 + on) (i % 36) : Nat) : Int))] := by
        refine zx_istore (L' := [some (.ref (ad 0)), some (.int (iI ((cells : Nat) : Int))), some (.int (iI ((on : Nat) : Int))), some (.int (iI ((h 7 : Nat) : Int))), some (.int (iI ((i : Nat) : Int))), some (.int (iI ((F 6 (i / 36) (i % 36) : Nat) : Int))), some (.int (iI ((if on = 0 then 0 else F 6 (i / 36 + on) (i % 36) : Nat) : Int)))]) hC dX2_lays_68 (by decide) rfl ?_
        refine zx_aload_n hC dX2_lays_70 rfl ?_
        refine zx_iload_n hC dX2_lays_71 rfl ?_
        refine zx_iload hC dX2_lays_72 rfl ?_
        refine zx_bipush (z := 36) hC dX2_lays_74 rfl ?_
        refine zx_idiv hC dX2_lays_76 (by first | assumption | exact gI _ (by omega) | exact iRm (by omega) (by omega)) (by first | assumption | exact gI _ (by omega) | exact iRm (by omega) (by omega)) (by omega) (by omega) ?_
        refine zx_iload hC dX2_lays_77 rfl ?_
        refine zx_bipush (z := 36) hC dX2_lays_79 rfl ?_
        refine zx_irem hC dX2_lays_81 (by first | assumption | exact gI _ (by omega) | exact iRm (by omega) (by omega)) (by first | assumption | exact gI _ (by omega) | exact iRm (by omega) (by omega)) (by omega) (by omega) ?_
        refine zx_iload hC dX2_lays_82 rfl ?_
        refine zx_iload hC dX2_lays_84 rfl ?_
        refine zx_rd1 (r := .int (iI ((rBoth (F 6 (i / 36) (i % 36)) (if on = 0 then 0 else F 6 (i / 36 + on) (i % 36)) : Nat) : Int))) hC hA.2 (zcS 2 (As := [.int (iI ((F 6 (i / 36) (i % 36) : Nat) : Int)), .int (iI ((if on = 0 then 0 else F 6 (i / 36 + on) (i % 36) : Nat) : Int))]) hC (lw_S q1684 q1685 q93 q1686) (by decide +kernel) rfl (by rw [hRm]; decide) (by rw [hRm]; decide) rfl (Nat.le_of_ble_eq_true rfl) dX2_lays_86) (m_X2_both (zl X) G (F 6 (i / 36) (i % 36)) (if on = 0 then 0 else F 6 (i / 36 + on) (i % 36)) (by first | assumption | omega | exact iRm (by omega) (by omega) | ((repeat (first | exact gL | refine rLs.up ?_ (by omega) (by omega) | refine rLs.fad ?_)); done) | ((repeat (first | exact gM | refine rHM.up ?_ (by omega))); done) | exact gT _ (by omega) | exact rFadF_le gF _ | ((repeat first | rw [va_up_ne _ _ (by omega)] | rw [va_up_self] | rw [rFadH_o (by omega)] | rw [rAge_o _ _ (by omega)] | rw [rLayH_o (by omega) (by omega) (by omega) (by omega)]); omega))) (fun _ _ => trivial) (fun _ _ => trivial) ?_
        refine zx_ma0 (Q := fun _ => [REF G ad ((h, (zupF (rLayF F (h 7) on (zclF F (h 7)) i) (h 7) (i / 36) (i % 36) (rBoth (F 6 (i / 36) (i % 36)) (if on = 0 then 0 else F 6 (i / 36 + on) (i % 36))))), r)]) hC hA [0] [] (zcV 4 (As := [.int (iI ((h 7 : Nat) : Int)), .int (iI ((i / 36 : Nat) : Int)), .int (iI ((i % 36 : Nat) : Int)), .int (iI ((rBoth (F 6 (i / 36) (i % 36)) (if on = 0 then 0 else F 6 (i / 36 + on) (i % 36)) : Nat) : Int))]) hC (lw_V q1687 q1689 qs43 q93 q1690) (by decide +kernel) rfl (by rw [hRm]; decide) (by rw [hRm]; decide) rfl (Nat.le_of_ble_eq_true rfl) dX2_lays_89) (m_X2_sets (zl X) G ad h (rLayF F (h 7) on (zclF F (h 7)) i) r (h 7) (i / 36) (i % 36) (rBoth (F 6 (i / 36) (i % 36)) (if on = 0 then 0 else F 6 (i / 36 + on) (i % 36))) (by first | assumption | omega | exact iRm (by omega) (by omega) | ((repeat (first | exact gL | refine rLs.up ?_ (by omega) (by omega) | refine rLs.fad ?_)); done) | ((repeat (first | exact gM | refine rHM.up ?_ (by omega))); done) | exact gT _ (by omega) | exact rFadF_le gF _ | ((repeat first | rw [va_up_ne _ _ (by omega)] | rw [va_up_self] | rw [rFadH_o (by omega)] | rw [rAge_o _ _ (by omega)] | rw [rLayH_o (by omega) (by omega) (by omega) (by omega)]); omega)) (by first | assumption | omega | exact iRm (by omega) (by omega) | ((repeat (first | exact gL | refine rLs.up ?_ (by omega) (by omega) | refine rLs.fad ?_)); done) | ((repeat (first | exact gM | refine rHM.up ?_ (by omega))); done) | exact gT _ (by omega) | exact rFadF_le gF _ | ((repeat first | rw [va_up_ne _ _ (by omega)] | rw [va_up_self] | rw [rFadH_o (by omega)] | rw [rAge_o _ _ (by omega)] | rw [rLayH_o (by omega) (by omega) (by omega) (by omega)]); omega)) (by first | assumption | omega | exact iRm (by omega) (by omega) | ((repeat (first | exact gL | refine rLs.up ?_ (by omega) (by omega) | refine rLs.fad ?_)); done) | ((repeat (first | exact gM | refine rHM.up ?_ (by omega))); done) | exact gT _ (by omega) | exact rFadF_le gF _ | ((repeat first | rw [va_up_ne _ _ (by omega)] | rw [va_up_self] | rw [rFadH_o (by omega)] | rw [rAge_o _ _ (by omega)] | rw [rLayH_o (by omega) (by omega) (by omega) (by omega)]); omega)) (by first | assumption | omega | exact iRm (by omega) (by omega) | ((repeat (first | exact gL | refine rLs.up ?_ (by omega) (by omega) | refine rLs.fad ?_)); done) | ((repeat (first | exact gM | refine rHM.up ?_ (by omega))); done) | exact gT _ (by omega) | exact rFadF_le gF _ | ((repeat first | rw [va_up_ne _ _ (by omega)] | rw [va_up_self] | rw [rFadH_o (by omega)] | rw [rAge_o _ _ (by omega)] | rw [rLayH_o (by omega) (by omega) (by omega) (by omega)]); omega))) (zr_rc hC (zRf.ofH (Rs := []))) rfl rfl rfl ?_
        show zVm X G ad A 7 ((h, (zupF (rLayF F (h 7) on (zclF F (h 7)) i) (h 7) (i / 36) (i % 36) (rBoth (F 6 (i / 36) (i % 36)) (if on = 0 then 0 else F 6 (i / 36 + on) (i % 36))))), r) 92 [some (.ref (ad 0)), some (.int (iI ((cells : Nat) : Int))), some (.int (iI ((on : Nat) : Int))), some (.int (iI ((h 7 : Nat) : Int))), some (.int (iI ((i : Nat) : Int))), some (.int (iI ((F 6 (i / 36) (i % 36) : Nat) : Int))), some (.int (iI ((if on = 0 then 0 else F 6 (i / 36 + on) (i % 36) : Nat) : Int)))] []
        rw [show zupF (rLayF F (h 7) on (zclF F (h 7)) i) (h 7) (i / 36) (i % 36) (rBoth (F 6 (i / 36) (i % 36)) (if on = 0 then 0 else F 6 (i / 36 + on) (i % 36))) = rLayF F (h 7) on (zclF F (h 7)) (i + 1) from zfil_s _ _ (fun c k => rBoth (F 6 c k) (if on = 0 then 0 else F 6 (c + on) k)) _]
        refine zx_iinc (b := ((i + 1 : Nat) : Int)) (L' := [some (.ref (ad 0)), some (.int (iI ((cells : Nat) : Int))), some (.int (iI ((on : Nat) : Int))), some (.int (iI ((h 7 : Nat) : Int))), some (.int (iI ((i + 1 : Nat) : Int))), some (.int (iI ((F 6 (i / 36) (i % 36) : Nat) : Int))), some (.int (iI ((if on = 0 then 0 else F 6 (i / 36 + on) (i % 36) : Nat) : Int)))]) hC dX2_lays_92 rfl (by first | rfl | omega) (by decide) rfl ?_
        refine zx_goto (tgt := 15) hC dX2_lays_95 (by decide) ?_
        refine zx_le (L' := [some (.ref (ad 0)), some (.int (iI ((cells : Nat) : Int))), some (.int (iI ((on : Nat) : Int))), some (.int (iI ((h 7 : Nat) : Int))), some (.int (iI ((i + 1 : Nat) : Int))), none, none]) (zle_s (zle_s (zle_s (zle_s (zle_s (zle_n (zle_n zle_0))))))) ?_
        exact ih (i + 1) (by omega) 
      refine zx_iload_n hC dX2_lays_42 rfl ?_
      refine zx_if_ne (tgt := 50) hC dX2_lays_43 (by decide) (by first | assumption | exact gI _ (by omega) | exact iRm (by omega) (by omega)) (fun c43 => ?_) (fun c43 => ?_)
      · refine zx_aload_n hC dX2_lays_50 rfl ?_
        refine zx_bipush (z := 6) hC dX2_lays_51 rfl ?_
        refine zx_iload hC dX2_lays_53 rfl ?_
        refine zx_bipush (z := 36) hC dX2_lays_55 rfl ?_
        refine zx_idiv hC dX2_lays_57 (by first | assumption | exact gI _ (by omega) | exact iRm (by omega) (by omega)) (by first | assumption | exact gI _ (by omega) | exact iRm (by omega) (by omega)) (by omega) (by omega) ?_
        refine zx_iload_n hC dX2_lays_58 rfl ?_
        refine zx_iadd hC dX2_lays_59 ?_
        refine zx_iload hC dX2_lays_60 rfl ?_
        refine zx_bipush (z := 36) hC dX2_lays_62 rfl ?_
        refine zx_irem hC dX2_lays_64 (by first | assumption | exact gI _ (by omega) | exact iRm (by omega) (by omega)) (by first | assumption | exact gI _ (by omega) | exact iRm (by omega) (by omega)) (by omega) (by omega) ?_
        refine zx_rd1 (r := .int (iI (((rLayF F (h 7) on (zclF F (h 7)) i) 6 ((i / 36) + on) (i % 36) : Nat) : Int))) hC hA.2 (zcV 3 (As := [.int (iI 6), .int (iI (((i / 36) + on : Nat) : Int)), .int (iI ((i % 36 : Nat) : Int))]) hC (lw_V q1679 q1681 qs42 q93 q1682) (by decide +kernel) rfl (by rw [hRm]; decide) (by rw [hRm]; decide) rfl (Nat.le_of_ble_eq_true rfl) dX2_lays_65) (m_X2_force (zl X) G ad h (rLayF F (h 7) on (zclF F (h 7)) i) r 6 ((i / 36) + on) (i % 36) (by first | assumption | omega | exact iRm (by omega) (by omega) | ((repeat (first | exact gL | refine rLs.up ?_ (by omega) (by omega) | refine rLs.fad ?_)); done) | ((repeat (first | exact gM | refine rHM.up ?_ (by omega))); done) | exact gT _ (by omega) | exact rFadF_le gF _ | ((repeat first | rw [va_up_ne _ _ (by omega)] | rw [va_up_self] | rw [rFadH_o (by omega)] | rw [rAge_o _ _ (by omega)] | rw [rLayH_o (by omega) (by omega) (by omega) (by omega)]); omega)) (by first | assumption | omega | exact iRm (by omega) (by omega) | ((repeat (first | exact gL | refine rLs.up ?_ (by omega) (by omega) | refine rLs.fad ?_)); done) | ((repeat (first | exact gM | refine rHM.up ?_ (by omega))); done) | exact gT _ (by omega) | exact rFadF_le gF _ | ((repeat first | rw [va_up_ne _ _ (by omega)] | rw [va_up_self] | rw [rFadH_o (by omega)] | rw [rAge_o _ _ (by omega)] | rw [rLayH_o (by omega) (by omega) (by omega) (by omega)]); omega)) (by first | assumption | omega | exact iRm (by omega) (by omega) | ((repeat (first | exact gL | refine rLs.up ?_ (by omega) (by omega) | refine rLs.fad ?_)); done) | ((repeat (first | exact gM | refine rHM.up ?_ (by omega))); done) | exact gT _ (by omega) | exact rFadF_le gF _ | ((repeat first | rw [va_up_ne _ _ (by omega)] | rw [va_up_self] | rw [rFadH_o (by omega)] | rw [rAge_o _ _ (by omega)] | rw [rLayH_o (by omega) (by omega) (by omega) (by omega)]); omega))) (zr_rc hC (zRf.ofH (Rs := []))) (zRf.ofH (Rs := [])) ?_
        refine zx_topi (b := ((F 6 (i / 36 + on) (i % 36) : Nat) : Int)) (congrArg (fun z : Nat => (z : Int)) (rLayF_6 (by omega))) ?_
        refine zx_topi (b := ((if on = 0 then 0 else F 6 (i / 36 + on) (i % 36) : Nat) : Int)) (by first | (rw [if_pos (by omega)]; first | done | rfl) | (rw [if_neg (by omega)]; first | done | rfl)) ?_
        exact J42
      · refine zx_iconst (z := 0) hC dX2_lays_46 ?_
        refine zx_goto (tgt := 68) hC dX2_lays_47 (by decide) ?_
        refine zx_topi (b := ((if on = 0 then 0 else F 6 (i / 36 + on) (i % 36) : Nat) : Int)) (by first | (rw [if_pos (by omega)]; first | done | rfl) | (rw [if_neg (by omega)]; first | done | rfl)) ?_
        exact J42
  exact loop (cells * 36) 0 (by omega) 
set_option maxHeartbeats 4000000 in
theorem m_X2_endsFirst (la : Launch) (G : zG) (ad : Nat → Nat) (h : Nat → Nat) (F : Nat → Nat → Nat → Nat) (r : zR5)  (g0 : h 7 < 6) (g1 : 2 ≤ h 3) (g2 : h 3 ≤ 16) (g3 : h 4 ≤ 8) (g4 : h 11 < 1000) (gF : rFb F) : zMA la yX2_endsFirst cX2_endsFirst 3 none 2 52 G [.ref (ad 0)] [REF G ad ((h, F), r)] (fun v9 => v9 = none) (fun _ => [REF G ad (((rEndFH h), (rEndFF h F)), r)]) 0 0 := by
  refine zMA.of [some (.ref (ad 0)), none, none] (by decide) (Nat.le_of_ble_eq_true rfl) rfl (fun X A hl hC hnm hA hRm hE => ?_)
  have gc := rEndFC_le h
  refine zx_aload_n hC dX2_endsFirst_0 rfl ?_
  refine zx_bipush (z := 11) hC dX2_endsFirst_1 rfl ?_
  refine zx_rd1 (r := .int (iI ((h 11 : Nat) : Int))) hC hA.2 (zcV 1 (As := [.int (iI 11)]) hC (lw_V q1651 q1653 qs35 q93 q1654) (by decide +kernel) rfl (by rw [hRm]; decide) (by rw [hRm]; decide) rfl (Nat.le_of_ble_eq_true rfl) dX2_endsFirst_3) (m_X2_of (zl X) G ad h F r 11 (by first | assumption | omega | exact iRm (by omega) (by omega) | ((repeat (first | exact gL | refine rLs.up ?_ (by omega) (by omega) | refine rLs.fad ?_)); done) | ((repeat (first | exact gM | refine rHM.up ?_ (by omega))); done) | exact gT _ (by omega) | exact rFadF_le gF _ | ((repeat first | rw [va_up_ne _ _ (by omega)] | rw [va_up_self] | rw [rFadH_o (by omega)] | rw [rAge_o _ _ (by omega)] | rw [rLayH_o (by omega) (by omega) (by omega) (by omega)]); omega))) (zr_rc hC (zRf.ofH (Rs := []))) (zRf.ofH (Rs := [])) ?_
  refine zx_iconst (z := 1) hC dX2_endsFirst_6 ?_
  refine zx_iadd hC dX2_endsFirst_7 ?_
  refine zx_iconst (z := 2) hC dX2_endsFirst_8 ?_
  refine zx_idiv hC dX2_endsFirst_9 (by first | assumption | exact gI _ (by omega) | exact iRm (by omega) (by omega)) (by first | assumption | exact gI _ (by omega) | exact iRm (by omega) (by omega)) (by omega) (by omega) ?_
  refine zx_istore_n (L' := [some (.ref (ad 0)), some (.int (iI ((((h 11) + 1) / 2 : Nat) : Int))), none]) hC dX2_endsFirst_10 (by decide) rfl ?_
  refine zx_aload_n hC dX2_endsFirst_11 rfl ?_
  have J12 : zVm X G ad A 3 ((h, F), r) 24 [some (.ref (ad 0)), some (.int (iI ((((h 11) + 1) / 2 : Nat) : Int))), none] [.int (iI ((if (h 11 + 1) / 2 < 24 then (h 11 + 1) / 2 else 24 : Nat) : Int)), .ref (ad 0)] := by
    have gm : (if (h 11 + 1) / 2 < 24 then (h 11 + 1) / 2 else 24) ≤ 24 := by split <;> omega
    refine zx_rd1 (r := .int (iI ((rRnd (h 3) (h 4) (if (h 11 + 1) / 2 < 24 then (h 11 + 1) / 2 else 24) : Nat) : Int))) hC hA.2 (zcV 1 (As := [.int (iI ((if (h 11 + 1) / 2 < 24 then (h 11 + 1) / 2 else 24 : Nat) : Int))]) hC (lw_V q1667 q1669 qs39 q93 q1670) (by decide +kernel) rfl (by rw [hRm]; decide) (by rw [hRm]; decide) rfl (Nat.le_of_ble_eq_true rfl) dX2_endsFirst_24) (m_X2_roundedOf (zl X) G ad h F r (if (h 11 + 1) / 2 < 24 then (h 11 + 1) / 2 else 24) (by first | assumption | omega | exact iRm (by omega) (by omega) | ((repeat (first | exact gL | refine rLs.up ?_ (by omega) (by omega) | refine rLs.fad ?_)); done) | ((repeat (first | exact gM | refine rHM.up ?_ (by omega))); done) | exact gT _ (by omega) | exact rFadF_le gF _ | ((repeat first | rw [va_up_ne _ _ (by omega)] | rw [va_up_self] | rw [rFadH_o (by omega)] | rw [rAge_o _ _ (by omega)] | rw [rLayH_o (by omega) (by omega) (by omega) (by omega)]); omega)) (by first | assumption | omega | exact iRm (by omega) (by omega) | ((repeat (first | exact gL | refine rLs.up ?_ (by omega) (by omega) | refine rLs.fad ?_)); done) | ((repeat (first | exact gM | refine rHM.up ?_ (by omega))); done) | exact gT _ (by omega) | exact rFadF_le gF _ | ((repeat first | rw [va_up_ne _ _ (by omega)] | rw [va_up_self] | rw [rFadH_o (by omega)] | rw [rAge_o _ _ (by omega)] | rw [rLayH_o (by omega) (by omega) (by omega) (by omega)]); omega)) (by first | assumption | omega | exact iRm (by omega) (by omega) | ((repeat (first | exact gL | refine rLs.up ?_ (by omega) (by omega) | refine rLs.fad ?_)); done) | ((repeat (first | exact gM | refine rHM.up ?_ (by omega))); done) | exact gT _ (by omega) | exact rFadF_le gF _ | ((repeat first | rw [va_up_ne _ _ (by omega)] | rw [va_up_self] | rw [rFadH_o (by omega)] | rw [rAge_o _ _ (by omega)] | rw [rLayH_o (by omega) (by omega) (by omega) (by omega)]); omega)) (by first | assumption | omega | exact iRm (by omega) (by omega) | ((repeat (first | exact gL | refine rLs.up ?_ (by omega) (by omega) | refine rLs.fad ?_)); done) | ((repeat (first | exact gM | refine rHM.up ?_ (by omega))); done) | exact gT _ (by omega) | exact rFadF_le gF _ | ((repeat first | rw [va_up_ne _ _ (by omega)] | rw [va_up_self] | rw [rFadH_o (by omega)] | rw [rAge_o _ _ (by omega)] | rw [rLayH_o (by omega) (by omega) (by omega) (by omega)]); omega))) (zr_rc hC (zRf.ofH (Rs := []))) (zRf.ofH (Rs := [])) ?_
    refine zx_topi (b := ((rEndFC h : Nat) : Int)) (congrArg (fun z : Nat => (z : Int)) (rfl)) ?_
    refine zx_istore_n (L' := [some (.ref (ad 0)), some (.int (iI ((((h 11) + 1) / 2 : Nat) : Int))), some (.int (iI ((rEndFC h : Nat) : Int)))]) hC dX2_endsFirst_27 (by decide) rfl ?_
    refine zx_aload_n hC dX2_endsFirst_28 rfl ?_
    refine zx_iload_n hC dX2_endsFirst_29 rfl ?_
    refine zx_iconst (z := 0) hC dX2_endsFirst_30 ?_
    refine zx_ma0 (Q := fun _ => [REF G ad (((rLayH h (rEndFC h)), (rLayF F (h 7) 0 (zclF F (h 7)) ((rEndFC h) * 36))), r)]) hC hA [0] [] (zcV 2 (As := [.int (iI ((rEndFC h : Nat) : Int)), .int (iI 0)]) hC (lw_V q1671 q1673 qs40 q93 q1674) (by decide +kernel) rfl (by rw [hRm]; decide) (by rw [hRm]; decide) rfl (Nat.le_of_ble_eq_true rfl) dX2_endsFirst_31) (m_X2_lays (zl X) G ad h F r (rEndFC h) 0 (by first | assumption | omega | exact iRm (by omega) (by omega) | ((repeat (first | exact gL | refine rLs.up ?_ (by omega) (by omega) | refine rLs.fad ?_)); done) | ((repeat (first | exact gM | refine rHM.up ?_ (by omega))); done) | exact gT _ (by omega) | exact rFadF_le gF _ | ((repeat first | rw [va_up_ne _ _ (by omega)] | rw [va_up_self] | rw [rFadH_o (by omega)] | rw [rAge_o _ _ (by omega)] | rw [rLayH_o (by omega) (by omega) (by omega) (by omega)]); omega)) (by first | assumption | omega | exact iRm (by omega) (by omega) | ((repeat (first | exact gL | refine rLs.up ?_ (by omega) (by omega) | refine rLs.fad ?_)); done) | ((repeat (first | exact gM | refine rHM.up ?_ (by omega))); done) | exact gT _ (by omega) | exact rFadF_le gF _ | ((repeat first | rw [va_up_ne _ _ (by omega)] | rw [va_up_self] | rw [rFadH_o (by omega)] | rw [rAge_o _ _ (by omega)] | rw [rLayH_o (by omega) (by omega) (by omega) (by omega)]); omega)) (by first | assumption | omega | exact iRm (by omega) (by omega) | ((repeat (first | exact gL | refine rLs.up ?_ (by omega) (by omega) | refine rLs.fad ?_)); done) | ((repeat (first | exact gM | refine rHM.up ?_ (by omega))); done) | exact gT _ (by omega) | exact rFadF_le gF _ | ((repeat first | rw [va_up_ne _ _ (by omega)] | rw [va_up_self] | rw [rFadH_o (by omega)] | rw [rAge_o _ _ (by omega)] | rw [rLayH_o (by omega) (by omega) (by omega) (by omega)]); omega))) (zr_rc hC (zRf.ofH (Rs := []))) rfl rfl rfl ?_
    show zVm X G ad A 3 (((rLayH h (rEndFC h)), (rLayF F (h 7) 0 (zclF F (h 7)) ((rEndFC h) * 36))), r) 34 [some (.ref (ad 0)), some (.int (iI ((((h 11) + 1) / 2 : Nat) : Int))), some (.int (iI ((rEndFC h : Nat) : Int)))] []
    refine zx_aload_n hC dX2_endsFirst_34 rfl ?_
    refine zr_get (v := .ref (ad 1)) hC (zRf.ofH (Rs := [])) 0 (by decide) dX2_endsFirst_35 q1610 rfl ?_
    refine zx_bipush (z := 6) hC dX2_endsFirst_38 rfl ?_
    refine zx_iload_n hC dX2_endsFirst_40 rfl ?_
    refine zx_i2l hC dX2_endsFirst_41 (by first | assumption | exact gI _ (by omega) | exact iRm (by omega) (by omega)) ?_
    refine zr_sstN (v := rEndFC h) hC 6 dX2_endsFirst_42 (by omega) ?_
    refine zx_aload_n hC dX2_endsFirst_43 rfl ?_
    refine zx_ma0 (Q := fun _ => [REF G ad (((va_up (va_up (rLayH h (rEndFC h)) 6 (rEndFC h)) 11 0), (zclF (rLayF F (h 7) 0 (zclF F (h 7)) ((rEndFC h) * 36)) 6)), r)]) hC hA [0] [] (zcV 0 (As := []) hC (lw_V q1692 q1694 qs44 q93 q1695) (by decide +kernel) rfl (by rw [hRm]; decide) (by rw [hRm]; decide) rfl (Nat.le_of_ble_eq_true rfl) dX2_endsFirst_44) (m_X2_endsTake (zl X) G ad (va_up (rLayH h (rEndFC h)) 6 (rEndFC h)) (rLayF F (h 7) 0 (zclF F (h 7)) ((rEndFC h) * 36)) r) (zr_rc hC (zRf.ofH (Rs := []))) rfl rfl rfl ?_
    show zVm X G ad A 3 (((va_up (va_up (rLayH h (rEndFC h)) 6 (rEndFC h)) 11 0), (zclF (rLayF F (h 7) 0 (zclF F (h 7)) ((rEndFC h) * 36)) 6)), r) 47 [some (.ref (ad 0)), some (.int (iI ((((h 11) + 1) / 2 : Nat) : Int))), some (.int (iI ((rEndFC h : Nat) : Int)))] []
    refine zx_aload_n hC dX2_endsFirst_47 rfl ?_
    refine zx_ma0 (Q := fun _ => [REF G ad (((rStarts (va_up (va_up (rLayH h (rEndFC h)) 6 (rEndFC h)) 11 0)), (zclF (rLayF F (h 7) 0 (zclF F (h 7)) ((rEndFC h) * 36)) 6)), r)]) hC hA [0] [] (zcV 0 (As := []) hC (lw_V q1696 q1698 qs45 q93 q1699) (by decide +kernel) rfl (by rw [hRm]; decide) (by rw [hRm]; decide) rfl (Nat.le_of_ble_eq_true rfl) dX2_endsFirst_48) (m_X2_starts (zl X) G ad (va_up (va_up (rLayH h (rEndFC h)) 6 (rEndFC h)) 11 0) (zclF (rLayF F (h 7) 0 (zclF F (h 7)) ((rEndFC h) * 36)) 6) r) (zr_rc hC (zRf.ofH (Rs := []))) rfl rfl rfl ?_
    show zVm X G ad A 3 (((rStarts (va_up (va_up (rLayH h (rEndFC h)) 6 (rEndFC h)) 11 0)), (zclF (rLayF F (h 7) 0 (zclF F (h 7)) ((rEndFC h) * 36)) 6)), r) 51 [some (.ref (ad 0)), some (.int (iI ((((h 11) + 1) / 2 : Nat) : Int))), some (.int (iI ((rEndFC h : Nat) : Int)))] []
    exact zx_vret hC hE (Nat.le_refl _) (Nat.le_refl _) (fun H h => ⟨rfl, h⟩) dX2_endsFirst_51
  refine zx_iload_n hC dX2_endsFirst_12 rfl ?_
  refine zx_bipush (z := 24) hC dX2_endsFirst_13 rfl ?_
  refine zx_icmp_ge (tgt := 22) hC dX2_endsFirst_15 (by decide) (by first | assumption | exact gI _ (by omega) | exact iRm (by omega) (by omega)) (by first | assumption | exact gI _ (by omega) | exact iRm (by omega) (by omega)) (fun c15 => ?_) (fun c15 => ?_)
  · refine zx_bipush (z := 24) hC dX2_endsFirst_22 rfl ?_
    refine zx_topi (b := ((if (h 11 + 1) / 2 < 24 then (h 11 + 1) / 2 else 24 : Nat) : Int)) (by first | (rw [if_pos (by omega)]; first | done | rfl) | (rw [if_neg (by omega)]; first | done | rfl)) ?_
    exact J12
  · refine zx_iload_n hC dX2_endsFirst_18 rfl ?_
    refine zx_goto (tgt := 24) hC dX2_endsFirst_19 (by decide) ?_
    refine zx_topi (b := ((if (h 11 + 1) / 2 < 24 then (h 11 + 1) / 2 else 24 : Nat) : Int)) (by first | (rw [if_pos (by omega)]; first | done | rfl) | (rw [if_neg (by omega)]; first | done | rfl)) ?_
    exact J12
set_option maxHeartbeats 4000000 in
theorem m_X2_endsOver (la : Launch) (G : zG) (ad : Nat → Nat) (h : Nat → Nat) (F : Nat → Nat → Nat → Nat) (r : zR5)  (g0 : h 7 < 6) (g1 : 1 ≤ h 6) (g2 : h 6 ≤ 24) (g3 : h 11 < 1000) (g4 : h 12 < 1000) (gL : rLs h) (gF : rFb F) : zMA la yX2_endsOver cX2_endsOver 2 none 3 64 G [.ref (ad 0)] [REF G ad ((h, F), r)] (fun v9 => v9 = none) (fun _ => [REF G ad (((rEndOv h F).1, (rEndOv h F).2), r)]) 0 0 := by
  refine zMA.of [some (.ref (ad 0)), none] (by decide) (Nat.le_of_ble_eq_true rfl) rfl (fun X A hl hC hnm hA hRm hE => ?_)
  have gl := rLoop_le gL
  refine zx_aload_n hC dX2_endsOver_0 rfl ?_
  refine zx_bipush (z := 6) hC dX2_endsOver_1 rfl ?_
  refine zx_rd1 (r := .int (iI ((h 6 : Nat) : Int))) hC hA.2 (zcV 1 (As := [.int (iI 6)]) hC (lw_V q1651 q1653 qs35 q93 q1654) (by decide +kernel) rfl (by rw [hRm]; decide) (by rw [hRm]; decide) rfl (Nat.le_of_ble_eq_true rfl) dX2_endsOver_3) (m_X2_of (zl X) G ad h F r 6 (by first | assumption | omega | exact iRm (by omega) (by omega) | ((repeat (first | exact gL | refine rLs.up ?_ (by omega) (by omega) | refine rLs.fad ?_)); done) | ((repeat (first | exact gM | refine rHM.up ?_ (by omega))); done) | exact gT _ (by omega) | exact rFadF_le gF _ | ((repeat first | rw [va_up_ne _ _ (by omega)] | rw [va_up_self] | rw [rFadH_o (by omega)] | rw [rAge_o _ _ (by omega)] | rw [rLayH_o (by omega) (by omega) (by omega) (by omega)]); omega))) (zr_rc hC (zRf.ofH (Rs := []))) (zRf.ofH (Rs := [])) ?_
  refine zx_istore_n (L' := [some (.ref (ad 0)), some (.int (iI ((h 6 : Nat) : Int)))]) hC dX2_endsOver_6 (by decide) rfl ?_
  refine zx_aload_n hC dX2_endsOver_7 rfl ?_
  refine zx_rd1 (r := .int (iI ((rLoop h : Nat) : Int))) hC hA.2 (zcV 0 (As := []) hC (lw_V q1705 q1707 qs47 q93 q1708) (by decide +kernel) rfl (by rw [hRm]; decide) (by rw [hRm]; decide) rfl (Nat.le_of_ble_eq_true rfl) dX2_endsOver_8) (m_X2_loop (zl X) G ad h F r  (by first | assumption | omega | exact iRm (by omega) (by omega) | ((repeat (first | exact gL | refine rLs.up ?_ (by omega) (by omega) | refine rLs.fad ?_)); done) | ((repeat (first | exact gM | refine rHM.up ?_ (by omega))); done) | exact gT _ (by omega) | exact rFadF_le gF _ | ((repeat first | rw [va_up_ne _ _ (by omega)] | rw [va_up_self] | rw [rFadH_o (by omega)] | rw [rAge_o _ _ (by omega)] | rw [rLayH_o (by omega) (by omega) (by omega) (by omega)]); omega))) (zr_rc hC (zRf.ofH (Rs := []))) (zRf.ofH (Rs := [])) ?_
  refine zx_iconst (z := 2) hC dX2_endsOver_11 ?_
  refine zx_iload_n hC dX2_endsOver_12 rfl ?_
  refine zx_imul hC dX2_endsOver_13 ?_
  refine zx_icmp_eq (tgt := 29) hC dX2_endsOver_14 (by decide) (by first | assumption | exact gI _ (by omega) | exact iRm (by omega) (by omega)) (by first | assumption | exact gI _ (by omega) | exact iRm (by omega) (by omega)) (fun c14 => ?_) (fun c14 => ?_)
  · refine zx_aload_n hC dX2_endsOver_29 rfl ?_
    refine zx_iconst (z := 2) hC dX2_endsOver_30 ?_
    refine zx_iload_n hC dX2_endsOver_31 rfl ?_
    refine zx_imul hC dX2_endsOver_32 ?_
    refine zx_iconst (z := 0) hC dX2_endsOver_33 ?_
    refine zx_ma0 (Q := fun _ => [REF G ad (((rLayH h (2 * (h 6))), (rLayF F (h 7) 0 (zclF F (h 7)) ((2 * (h 6)) * 36))), r)]) hC hA [0] [] (zcV 2 (As := [.int (iI ((2 * (h 6) : Nat) : Int)), .int (iI 0)]) hC (lw_V q1671 q1673 qs40 q93 q1674) (by decide +kernel) rfl (by rw [hRm]; decide) (by rw [hRm]; decide) rfl (Nat.le_of_ble_eq_true rfl) dX2_endsOver_34) (m_X2_lays (zl X) G ad h F r (2 * (h 6)) 0 (by first | assumption | omega | exact iRm (by omega) (by omega) | ((repeat (first | exact gL | refine rLs.up ?_ (by omega) (by omega) | refine rLs.fad ?_)); done) | ((repeat (first | exact gM | refine rHM.up ?_ (by omega))); done) | exact gT _ (by omega) | exact rFadF_le gF _ | ((repeat first | rw [va_up_ne _ _ (by omega)] | rw [va_up_self] | rw [rFadH_o (by omega)] | rw [rAge_o _ _ (by omega)] | rw [rLayH_o (by omega) (by omega) (by omega) (by omega)]); omega)) (by first | assumption | omega | exact iRm (by omega) (by omega) | ((repeat (first | exact gL | refine rLs.up ?_ (by omega) (by omega) | refine rLs.fad ?_)); done) | ((repeat (first | exact gM | refine rHM.up ?_ (by omega))); done) | exact gT _ (by omega) | exact rFadF_le gF _ | ((repeat first | rw [va_up_ne _ _ (by omega)] | rw [va_up_self] | rw [rFadH_o (by omega)] | rw [rAge_o _ _ (by omega)] | rw [rLayH_o (by omega) (by omega) (by omega) (by omega)]); omega)) (by first | assumption | omega | exact iRm (by omega) (by omega) | ((repeat (first | exact gL | refine rLs.up ?_ (by omega) (by omega) | refine rLs.fad ?_)); done) | ((repeat (first | exact gM | refine rHM.up ?_ (by omega))); done) | exact gT _ (by omega) | exact rFadF_le gF _ | ((repeat first | rw [va_up_ne _ _ (by omega)] | rw [va_up_self] | rw [rFadH_o (by omega)] | rw [rAge_o _ _ (by omega)] | rw [rLayH_o (by omega) (by omega) (by omega) (by omega)]); omega))) (zr_rc hC (zRf.ofH (Rs := []))) rfl rfl rfl ?_
    show zVm X G ad A 2 (((rLayH h (2 * (h 6))), (rLayF F (h 7) 0 (zclF F (h 7)) ((2 * (h 6)) * 36))), r) 37 [some (.ref (ad 0)), some (.int (iI ((h 6 : Nat) : Int)))] []
    refine zx_aload_n hC dX2_endsOver_37 rfl ?_
    refine zr_get (v := .ref (ad 1)) hC (zRf.ofH (Rs := [])) 0 (by decide) dX2_endsOver_38 q1610 rfl ?_
    refine zx_iconst (z := 1) hC dX2_endsOver_41 ?_
    refine zx_aload_n hC dX2_endsOver_42 rfl ?_
    refine zr_get (v := .ref (ad 1)) hC (zRf.ofH (Rs := [])) 0 (by decide) dX2_endsOver_43 q1610 rfl ?_
    refine zx_bipush (z := 12) hC dX2_endsOver_46 rfl ?_
    refine zr_sldN (x := h 12) hC (zRf.ofH (Rs := [])) 12 dX2_endsOver_48 (by omega) (by first | rfl | ((repeat first | rw [va_up_ne _ _ (by omega)] | rw [va_up_self] | rw [rFadH_o (by omega)] | rw [rAge_o _ _ (by omega)] | rw [rLayH_o (by omega) (by omega) (by omega) (by omega)]); done)) ?_
    refine zx_aload_n hC dX2_endsOver_49 rfl ?_
    refine zr_get (v := .ref (ad 1)) hC (zRf.ofH (Rs := [])) 0 (by decide) dX2_endsOver_50 q1610 rfl ?_
    refine zx_bipush (z := 11) hC dX2_endsOver_53 rfl ?_
    refine zr_sldN (x := h 11) hC (zRf.ofH (Rs := [])) 11 dX2_endsOver_55 (by omega) (by first | rfl | ((repeat first | rw [va_up_ne _ _ (by omega)] | rw [va_up_self] | rw [rFadH_o (by omega)] | rw [rAge_o _ _ (by omega)] | rw [rLayH_o (by omega) (by omega) (by omega) (by omega)]); done)) ?_
    refine zx_ladd hC dX2_endsOver_56 ?_
    refine zx_iconst (z := 4) hC dX2_endsOver_57 ?_
    refine zx_iload_n hC dX2_endsOver_58 rfl ?_
    refine zx_imul hC dX2_endsOver_59 ?_
    refine zx_i2l hC dX2_endsOver_60 (by first | assumption | exact gI _ (by omega) | exact iRm (by omega) (by omega)) ?_
    refine zx_lrem hC dX2_endsOver_61 (by first | assumption | exact lRm (by omega) (by omega)) (by first | assumption | exact lRm (by omega) (by omega)) (by omega) (by omega) ?_
    refine zr_sstN (v := ((h 12) + (h 11)) % (4 * (h 6))) hC 1 dX2_endsOver_62 (by omega) ?_
    refine zx_goto (tgt := 72) hC dX2_endsOver_63 (by decide) ?_
    refine zx_aload_n hC dX2_endsOver_72 rfl ?_
    refine zx_ma0 (Q := fun _ => [REF G ad (((va_up (va_up (rLayH h (2 * (h 6))) 1 (((h 12) + (h 11)) % (4 * (h 6)))) 11 0), (zclF (rLayF F (h 7) 0 (zclF F (h 7)) ((2 * (h 6)) * 36)) 6)), r)]) hC hA [0] [] (zcV 0 (As := []) hC (lw_V q1692 q1694 qs44 q93 q1695) (by decide +kernel) rfl (by rw [hRm]; decide) (by rw [hRm]; decide) rfl (Nat.le_of_ble_eq_true rfl) dX2_endsOver_73) (m_X2_endsTake (zl X) G ad (va_up (rLayH h (2 * (h 6))) 1 (((h 12) + (h 11)) % (4 * (h 6)))) (rLayF F (h 7) 0 (zclF F (h 7)) ((2 * (h 6)) * 36)) r) (zr_rc hC (zRf.ofH (Rs := []))) rfl rfl rfl ?_
    show zVm X G ad A 2 (((va_up (va_up (rLayH h (2 * (h 6))) 1 (((h 12) + (h 11)) % (4 * (h 6)))) 11 0), (zclF (rLayF F (h 7) 0 (zclF F (h 7)) ((2 * (h 6)) * 36)) 6)), r) 76 [some (.ref (ad 0)), some (.int (iI ((h 6 : Nat) : Int)))] []
    refine zx_aload_n hC dX2_endsOver_76 rfl ?_
    refine zr_get (v := .ref (ad 1)) hC (zRf.ofH (Rs := [])) 0 (by decide) dX2_endsOver_77 q1610 rfl ?_
    refine zx_iconst (z := 0) hC dX2_endsOver_80 ?_
    refine zx_ldc2 (z := 2) hC dX2_endsOver_81 q1700 rfl ?_
    refine zr_sstN (v := 2) hC 0 dX2_endsOver_84 (by omega) ?_
    have eR : rEndOv h F = ((va_up (va_up (va_up (rLayH h (2 * (h 6))) 1 (((h 12) + (h 11)) % (4 * (h 6)))) 11 0) 0 2), (zclF (rLayF F (h 7) 0 (zclF F (h 7)) ((2 * (h 6)) * 36)) 6)) := by unfold rEndOv; (repeat first | rw [if_pos (by omega)] | rw [if_neg (by omega)])
    rw [eR] at hE
    exact zx_vret hC hE (Nat.le_refl _) (Nat.le_refl _) (fun H h => ⟨rfl, h⟩) dX2_endsOver_85
  · refine zx_aload_n hC dX2_endsOver_17 rfl ?_
    refine zx_bipush (z := 11) hC dX2_endsOver_18 rfl ?_
    refine zx_rd1 (r := .int (iI ((h 11 : Nat) : Int))) hC hA.2 (zcV 1 (As := [.int (iI 11)]) hC (lw_V q1651 q1653 qs35 q93 q1654) (by decide +kernel) rfl (by rw [hRm]; decide) (by rw [hRm]; decide) rfl (Nat.le_of_ble_eq_true rfl) dX2_endsOver_20) (m_X2_of (zl X) G ad h F r 11 (by first | assumption | omega | exact iRm (by omega) (by omega) | ((repeat (first | exact gL | refine rLs.up ?_ (by omega) (by omega) | refine rLs.fad ?_)); done) | ((repeat (first | exact gM | refine rHM.up ?_ (by omega))); done) | exact gT _ (by omega) | exact rFadF_le gF _ | ((repeat first | rw [va_up_ne _ _ (by omega)] | rw [va_up_self] | rw [rFadH_o (by omega)] | rw [rAge_o _ _ (by omega)] | rw [rLayH_o (by omega) (by omega) (by omega) (by omega)]); omega))) (zr_rc hC (zRf.ofH (Rs := []))) (zRf.ofH (Rs := [])) ?_
    refine zx_iconst (z := 2) hC dX2_endsOver_23 ?_
    refine zx_iload_n hC dX2_endsOver_24 rfl ?_
    refine zx_imul hC dX2_endsOver_25 ?_
    refine zx_icmp_le (tgt := 66) hC dX2_endsOver_26 (by decide) (by first | assumption | exact gI _ (by omega) | exact iRm (by omega) (by omega)) (by first | assumption | exact gI _ (by omega) | exact iRm (by omega) (by omega)) (fun c26 => ?_) (fun c26 => ?_)
    · refine zx_aload_n hC dX2_endsOver_66 rfl ?_
      refine zx_iload_n hC dX2_endsOver_67 rfl ?_
      refine zx_iload_n hC dX2_endsOver_68 rfl ?_
      refine zx_ma0 (Q := fun _ => [REF G ad (((rLayH h (h 6)), (rLayF F (h 7) (h 6) (zclF F (h 7)) ((h 6) * 36))), r)]) hC hA [0] [] (zcV 2 (As := [.int (iI ((h 6 : Nat) : Int)), .int (iI ((h 6 : Nat) : Int))]) hC (lw_V q1671 q1673 qs40 q93 q1674) (by decide +kernel) rfl (by rw [hRm]; decide) (by rw [hRm]; decide) rfl (Nat.le_of_ble_eq_true rfl) dX2_endsOver_69) (m_X2_lays (zl X) G ad h F r (h 6) (h 6) (by first | assumption | omega | exact iRm (by omega) (by omega) | ((repeat (first | exact gL | refine rLs.up ?_ (by omega) (by omega) | refine rLs.fad ?_)); done) | ((repeat (first | exact gM | refine rHM.up ?_ (by omega))); done) | exact gT _ (by omega) | exact rFadF_le gF _ | ((repeat first | rw [va_up_ne _ _ (by omega)] | rw [va_up_self] | rw [rFadH_o (by omega)] | rw [rAge_o _ _ (by omega)] | rw [rLayH_o (by omega) (by omega) (by omega) (by omega)]); omega)) (by first | assumption | omega | exact iRm (by omega) (by omega) | ((repeat (first | exact gL | refine rLs.up ?_ (by omega) (by omega) | refine rLs.fad ?_)); done) | ((repeat (first | exact gM | refine rHM.up ?_ (by omega))); done) | exact gT _ (by omega) | exact rFadF_le gF _ | ((repeat first | rw [va_up_ne _ _ (by omega)] | rw [va_up_self] | rw [rFadH_o (by omega)] | rw [rAge_o _ _ (by omega)] | rw [rLayH_o (by omega) (by omega) (by omega) (by omega)]); omega)) (by first | assumption | omega | exact iRm (by omega) (by omega) | ((repeat (first | exact gL | refine rLs.up ?_ (by omega) (by omega) | refine rLs.fad ?_)); done) | ((repeat (first | exact gM | refine rHM.up ?_ (by omega))); done) | exact gT _ (by omega) | exact rFadF_le gF _ | ((repeat first | rw [va_up_ne _ _ (by omega)] | rw [va_up_self] | rw [rFadH_o (by omega)] | rw [rAge_o _ _ (by omega)] | rw [rLayH_o (by omega) (by omega) (by omega) (by omega)]); omega))) (zr_rc hC (zRf.ofH (Rs := []))) rfl rfl rfl ?_
      show zVm X G ad A 2 (((rLayH h (h 6)), (rLayF F (h 7) (h 6) (zclF F (h 7)) ((h 6) * 36))), r) 72 [some (.ref (ad 0)), some (.int (iI ((h 6 : Nat) : Int)))] []
      refine zx_aload_n hC dX2_endsOver_72 rfl ?_
      refine zx_ma0 (Q := fun _ => [REF G ad (((va_up (rLayH h (h 6)) 11 0), (zclF (rLayF F (h 7) (h 6) (zclF F (h 7)) ((h 6) * 36)) 6)), r)]) hC hA [0] [] (zcV 0 (As := []) hC (lw_V q1692 q1694 qs44 q93 q1695) (by decide +kernel) rfl (by rw [hRm]; decide) (by rw [hRm]; decide) rfl (Nat.le_of_ble_eq_true rfl) dX2_endsOver_73) (m_X2_endsTake (zl X) G ad (rLayH h (h 6)) (rLayF F (h 7) (h 6) (zclF F (h 7)) ((h 6) * 36)) r) (zr_rc hC (zRf.ofH (Rs := []))) rfl rfl rfl ?_
      show zVm X G ad A 2 (((va_up (rLayH h (h 6)) 11 0), (zclF (rLayF F (h 7) (h 6) (zclF F (h 7)) ((h 6) * 36)) 6)), r) 76 [some (.ref (ad 0)), some (.int (iI ((h 6 : Nat) : Int)))] []
      refine zx_aload_n hC dX2_endsOver_76 rfl ?_
      refine zr_get (v := .ref (ad 1)) hC (zRf.ofH (Rs := [])) 0 (by decide) dX2_endsOver_77 q1610 rfl ?_
      refine zx_iconst (z := 0) hC dX2_endsOver_80 ?_
      refine zx_ldc2 (z := 2) hC dX2_endsOver_81 q1700 rfl ?_
      refine zr_sstN (v := 2) hC 0 dX2_endsOver_84 (by omega) ?_
      have eR : rEndOv h F = ((va_up (va_up (rLayH h (h 6)) 11 0) 0 2), (zclF (rLayF F (h 7) (h 6) (zclF F (h 7)) ((h 6) * 36)) 6)) := by unfold rEndOv; (repeat first | rw [if_pos (by omega)] | rw [if_neg (by omega)])
      rw [eR] at hE
      exact zx_vret hC hE (Nat.le_refl _) (Nat.le_refl _) (fun H h => ⟨rfl, h⟩) dX2_endsOver_85
    · refine zx_aload_n hC dX2_endsOver_29 rfl ?_
      refine zx_iconst (z := 2) hC dX2_endsOver_30 ?_
      refine zx_iload_n hC dX2_endsOver_31 rfl ?_
      refine zx_imul hC dX2_endsOver_32 ?_
      refine zx_iconst (z := 0) hC dX2_endsOver_33 ?_
      refine zx_ma0 (Q := fun _ => [REF G ad (((rLayH h (2 * (h 6))), (rLayF F (h 7) 0 (zclF F (h 7)) ((2 * (h 6)) * 36))), r)]) hC hA [0] [] (zcV 2 (As := [.int (iI ((2 * (h 6) : Nat) : Int)), .int (iI 0)]) hC (lw_V q1671 q1673 qs40 q93 q1674) (by decide +kernel) rfl (by rw [hRm]; decide) (by rw [hRm]; decide) rfl (Nat.le_of_ble_eq_true rfl) dX2_endsOver_34) (m_X2_lays (zl X) G ad h F r (2 * (h 6)) 0 (by first | assumption | omega | exact iRm (by omega) (by omega) | ((repeat (first | exact gL | refine rLs.up ?_ (by omega) (by omega) | refine rLs.fad ?_)); done) | ((repeat (first | exact gM | refine rHM.up ?_ (by omega))); done) | exact gT _ (by omega) | exact rFadF_le gF _ | ((repeat first | rw [va_up_ne _ _ (by omega)] | rw [va_up_self] | rw [rFadH_o (by omega)] | rw [rAge_o _ _ (by omega)] | rw [rLayH_o (by omega) (by omega) (by omega) (by omega)]); omega)) (by first | assumption | omega | exact iRm (by omega) (by omega) | ((repeat (first | exact gL | refine rLs.up ?_ (by omega) (by omega) | refine rLs.fad ?_)); done) | ((repeat (first | exact gM | refine rHM.up ?_ (by omega))); done) | exact gT _ (by omega) | exact rFadF_le gF _ | ((repeat first | rw [va_up_ne _ _ (by omega)] | rw [va_up_self] | rw [rFadH_o (by omega)] | rw [rAge_o _ _ (by omega)] | rw [rLayH_o (by omega) (by omega) (by omega) (by omega)]); omega)) (by first | assumption | omega | exact iRm (by omega) (by omega) | ((repeat (first | exact gL | refine rLs.up ?_ (by omega) (by omega) | refine rLs.fad ?_)); done) | ((repeat (first | exact gM | refine rHM.up ?_ (by omega))); done) | exact gT _ (by omega) | exact rFadF_le gF _ | ((repeat first | rw [va_up_ne _ _ (by omega)] | rw [va_up_self] | rw [rFadH_o (by omega)] | rw [rAge_o _ _ (by omega)] | rw [rLayH_o (by omega) (by omega) (by omega) (by omega)]); omega))) (zr_rc hC (zRf.ofH (Rs := []))) rfl rfl rfl ?_
      show zVm X G ad A 2 (((rLayH h (2 * (h 6))), (rLayF F (h 7) 0 (zclF F (h 7)) ((2 * (h 6)) * 36))), r) 37 [some (.ref (ad 0)), some (.int (iI ((h 6 : Nat) : Int)))] []
      refine zx_aload_n hC dX2_endsOver_37 rfl ?_
      refine zr_get (v := .ref (ad 1)) hC (zRf.ofH (Rs := [])) 0 (by decide) dX2_endsOver_38 q1610 rfl ?_
      refine zx_iconst (z := 1) hC dX2_endsOver_41 ?_
      refine zx_aload_n hC dX2_endsOver_42 rfl ?_
      refine zr_get (v := .ref (ad 1)) hC (zRf.ofH (Rs := [])) 0 (by decide) dX2_endsOver_43 q1610 rfl ?_
      refine zx_bipush (z := 12) hC dX2_endsOver_46 rfl ?_
      refine zr_sldN (x := h 12) hC (zRf.ofH (Rs := [])) 12 dX2_endsOver_48 (by omega) (by first | rfl | ((repeat first | rw [va_up_ne _ _ (by omega)] | rw [va_up_self] | rw [rFadH_o (by omega)] | rw [rAge_o _ _ (by omega)] | rw [rLayH_o (by omega) (by omega) (by omega) (by omega)]); done)) ?_
      refine zx_aload_n hC dX2_endsOver_49 rfl ?_
      refine zr_get (v := .ref (ad 1)) hC (zRf.ofH (Rs := [])) 0 (by decide) dX2_endsOver_50 q1610 rfl ?_
      refine zx_bipush (z := 11) hC dX2_endsOver_53 rfl ?_
      refine zr_sldN (x := h 11) hC (zRf.ofH (Rs := [])) 11 dX2_endsOver_55 (by omega) (by first | rfl | ((repeat first | rw [va_up_ne _ _ (by omega)] | rw [va_up_self] | rw [rFadH_o (by omega)] | rw [rAge_o _ _ (by omega)] | rw [rLayH_o (by omega) (by omega) (by omega) (by omega)]); done)) ?_
      refine zx_ladd hC dX2_endsOver_56 ?_
      refine zx_iconst (z := 4) hC dX2_endsOver_57 ?_
      refine zx_iload_n hC dX2_endsOver_58 rfl ?_
      refine zx_imul hC dX2_endsOver_59 ?_
      refine zx_i2l hC dX2_endsOver_60 (by first | assumption | exact gI _ (by omega) | exact iRm (by omega) (by omega)) ?_
      refine zx_lrem hC dX2_endsOver_61 (by first | assumption | exact lRm (by omega) (by omega)) (by first | assumption | exact lRm (by omega) (by omega)) (by omega) (by omega) ?_
      refine zr_sstN (v := ((h 12) + (h 11)) % (4 * (h 6))) hC 1 dX2_endsOver_62 (by omega) ?_
      refine zx_goto (tgt := 72) hC dX2_endsOver_63 (by decide) ?_
      refine zx_aload_n hC dX2_endsOver_72 rfl ?_
      refine zx_ma0 (Q := fun _ => [REF G ad (((va_up (va_up (rLayH h (2 * (h 6))) 1 (((h 12) + (h 11)) % (4 * (h 6)))) 11 0), (zclF (rLayF F (h 7) 0 (zclF F (h 7)) ((2 * (h 6)) * 36)) 6)), r)]) hC hA [0] [] (zcV 0 (As := []) hC (lw_V q1692 q1694 qs44 q93 q1695) (by decide +kernel) rfl (by rw [hRm]; decide) (by rw [hRm]; decide) rfl (Nat.le_of_ble_eq_true rfl) dX2_endsOver_73) (m_X2_endsTake (zl X) G ad (va_up (rLayH h (2 * (h 6))) 1 (((h 12) + (h 11)) % (4 * (h 6)))) (rLayF F (h 7) 0 (zclF F (h 7)) ((2 * (h 6)) * 36)) r) (zr_rc hC (zRf.ofH (Rs := []))) rfl rfl rfl ?_
      show zVm X G ad A 2 (((va_up (va_up (rLayH h (2 * (h 6))) 1 (((h 12) + (h 11)) % (4 * (h 6)))) 11 0), (zclF (rLayF F (h 7) 0 (zclF F (h 7)) ((2 * (h 6)) * 36)) 6)), r) 76 [some (.ref (ad 0)), some (.int (iI ((h 6 : Nat) : Int)))] []
      refine zx_aload_n hC dX2_endsOver_76 rfl ?_
      refine zr_get (v := .ref (ad 1)) hC (zRf.ofH (Rs := [])) 0 (by decide) dX2_endsOver_77 q1610 rfl ?_
      refine zx_iconst (z := 0) hC dX2_endsOver_80 ?_
      refine zx_ldc2 (z := 2) hC dX2_endsOver_81 q1700 rfl ?_
      refine zr_sstN (v := 2) hC 0 dX2_endsOver_84 (by omega) ?_
      have eR : rEndOv h F = ((va_up (va_up (va_up (rLayH h (2 * (h 6))) 1 (((h 12) + (h 11)) % (4 * (h 6)))) 11 0) 0 2), (zclF (rLayF F (h 7) 0 (zclF F (h 7)) ((2 * (h 6)) * 36)) 6)) := by unfold rEndOv; (repeat first | rw [if_pos (by omega)] | rw [if_neg (by omega)])
      rw [eR] at hE
      exact zx_vret hC hE (Nat.le_refl _) (Nat.le_refl _) (fun H h => ⟨rfl, h⟩) dX2_endsOver_85
set_option maxHeartbeats 4000000 in
theorem m_X2_presses (la : Launch) (G : zG) (ad : Nat → Nat) (h : Nat → Nat) (F : Nat → Nat → Nat → Nat) (r : zR5)  (g0 : h 0 ≤ 4) (g1 : h 0 = 1 ∨ h 0 = 3 → h 7 < 6) (g2 : h 0 = 3 → 1 ≤ h 6) (g3 : 2 ≤ h 3) (g4 : h 3 ≤ 16) (g5 : h 4 ≤ 8) (g6 : h 6 ≤ 24) (g7 : h 11 < 1000) (g8 : h 12 < 1000) (gL : rLs h) (gF : rFb F) : zMA la yX2_presses cX2_presses 1 none 4 85 G [.ref (ad 0)] [REF G ad ((h, F), r)] (fun v9 => v9 = none) (fun _ => [REF G ad (((rPress h F).1, (rPress h F).2), r)]) 0 0 := by
  refine zMA.of [some (.ref (ad 0))] (by decide) (Nat.le_of_ble_eq_true rfl) rfl (fun X A hl hC hnm hA hRm hE => ?_)
  refine zx_aload_n hC dX2_presses_0 rfl ?_
  refine zx_iconst (z := 0) hC dX2_presses_1 ?_
  refine zx_rd1 (r := .int (iI ((h 0 : Nat) : Int))) hC hA.2 (zcV 1 (As := [.int (iI 0)]) hC (lw_V q1651 q1653 qs35 q93 q1654) (by decide +kernel) rfl (by rw [hRm]; decide) (by rw [hRm]; decide) rfl (Nat.le_of_ble_eq_true rfl) dX2_presses_2) (m_X2_of (zl X) G ad h F r 0 (by first | assumption | omega | exact iRm (by omega) (by omega) | ((repeat (first | exact gL | refine rLs.up ?_ (by omega) (by omega) | refine rLs.fad ?_)); done) | ((repeat (first | exact gM | refine rHM.up ?_ (by omega))); done) | exact gT _ (by omega) | exact rFadF_le gF _ | ((repeat first | rw [va_up_ne _ _ (by omega)] | rw [va_up_self] | rw [rFadH_o (by omega)] | rw [rAge_o _ _ (by omega)] | rw [rLayH_o (by omega) (by omega) (by omega) (by omega)]); omega))) (zr_rc hC (zRf.ofH (Rs := []))) (zRf.ofH (Rs := [])) ?_
  rcases (show h 0 = 1 ∨ h 0 = 2 ∨ h 0 = 3 ∨ h 0 = 4 ∨ (h 0 < 1 ∨ 4 < h 0) by omega) with hs | hs | hs | hs | hs
  · refine zx_tableIn (off := 31) (tgt := 36) hC 0 dX2_presses_5 (by first | assumption | exact gI _ (by omega) | exact iRm (by omega) (by omega)) (by omega) (by decide) rfl (by decide) ?_
    refine zx_aload_n hC dX2_presses_36 rfl ?_
    refine zx_ma0 (Q := fun _ => [REF G ad (((rEndFH h), (rEndFF h F)), r)]) hC hA [0] [] (zcV 0 (As := []) hC (lw_V q1663 q1665 qs38 q93 q1666) (by decide +kernel) rfl (by rw [hRm]; decide) (by rw [hRm]; decide) rfl (Nat.le_of_ble_eq_true rfl) dX2_presses_37) (m_X2_endsFirst (zl X) G ad h F r  (by first | assumption | omega | exact iRm (by omega) (by omega) | ((repeat (first | exact gL | refine rLs.up ?_ (by omega) (by omega) | refine rLs.fad ?_)); done) | ((repeat (first | exact gM | refine rHM.up ?_ (by omega))); done) | exact gT _ (by omega) | exact rFadF_le gF _ | ((repeat first | rw [va_up_ne _ _ (by omega)] | rw [va_up_self] | rw [rFadH_o (by omega)] | rw [rAge_o _ _ (by omega)] | rw [rLayH_o (by omega) (by omega) (by omega) (by omega)]); omega)) (by first | assumption | omega | exact iRm (by omega) (by omega) | ((repeat (first | exact gL | refine rLs.up ?_ (by omega) (by omega) | refine rLs.fad ?_)); done) | ((repeat (first | exact gM | refine rHM.up ?_ (by omega))); done) | exact gT _ (by omega) | exact rFadF_le gF _ | ((repeat first | rw [va_up_ne _ _ (by omega)] | rw [va_up_self] | rw [rFadH_o (by omega)] | rw [rAge_o _ _ (by omega)] | rw [rLayH_o (by omega) (by omega) (by omega) (by omega)]); omega)) (by first | assumption | omega | exact iRm (by omega) (by omega) | ((repeat (first | exact gL | refine rLs.up ?_ (by omega) (by omega) | refine rLs.fad ?_)); done) | ((repeat (first | exact gM | refine rHM.up ?_ (by omega))); done) | exact gT _ (by omega) | exact rFadF_le gF _ | ((repeat first | rw [va_up_ne _ _ (by omega)] | rw [va_up_self] | rw [rFadH_o (by omega)] | rw [rAge_o _ _ (by omega)] | rw [rLayH_o (by omega) (by omega) (by omega) (by omega)]); omega)) (by first | assumption | omega | exact iRm (by omega) (by omega) | ((repeat (first | exact gL | refine rLs.up ?_ (by omega) (by omega) | refine rLs.fad ?_)); done) | ((repeat (first | exact gM | refine rHM.up ?_ (by omega))); done) | exact gT _ (by omega) | exact rFadF_le gF _ | ((repeat first | rw [va_up_ne _ _ (by omega)] | rw [va_up_self] | rw [rFadH_o (by omega)] | rw [rAge_o _ _ (by omega)] | rw [rLayH_o (by omega) (by omega) (by omega) (by omega)]); omega)) (by first | assumption | omega | exact iRm (by omega) (by omega) | ((repeat (first | exact gL | refine rLs.up ?_ (by omega) (by omega) | refine rLs.fad ?_)); done) | ((repeat (first | exact gM | refine rHM.up ?_ (by omega))); done) | exact gT _ (by omega) | exact rFadF_le gF _ | ((repeat first | rw [va_up_ne _ _ (by omega)] | rw [va_up_self] | rw [rFadH_o (by omega)] | rw [rAge_o _ _ (by omega)] | rw [rLayH_o (by omega) (by omega) (by omega) (by omega)]); omega)) (by first | assumption | omega | exact iRm (by omega) (by omega) | ((repeat (first | exact gL | refine rLs.up ?_ (by omega) (by omega) | refine rLs.fad ?_)); done) | ((repeat (first | exact gM | refine rHM.up ?_ (by omega))); done) | exact gT _ (by omega) | exact rFadF_le gF _ | ((repeat first | rw [va_up_ne _ _ (by omega)] | rw [va_up_self] | rw [rFadH_o (by omega)] | rw [rAge_o _ _ (by omega)] | rw [rLayH_o (by omega) (by omega) (by omega) (by omega)]); omega))) (zr_rc hC (zRf.ofH (Rs := []))) rfl rfl rfl ?_
    show zVm X G ad A 1 (((rEndFH h), (rEndFF h F)), r) 40 [some (.ref (ad 0))] []
    refine zx_goto (tgt := 61) hC dX2_presses_40 (by decide) ?_
    have eR : rPress h F = ((rEndFH h), (rEndFF h F)) := by unfold rPress; (repeat first | rw [if_pos (by omega)] | rw [if_neg (by omega)])
    rw [eR] at hE
    exact zx_vret hC hE (Nat.le_refl _) (Nat.le_refl _) (fun H h => ⟨rfl, h⟩) dX2_presses_61
  · refine zx_tableIn (off := 52) (tgt := 57) hC 1 dX2_presses_5 (by first | assumption | exact gI _ (by omega) | exact iRm (by omega) (by omega)) (by omega) (by decide) rfl (by decide) ?_
    refine zx_aload_n hC dX2_presses_57 rfl ?_
    refine zx_ma0 (Q := fun _ => [REF G ad (((rBegH h), (zclF F 6)), r)]) hC hA [0] [] (zcV 0 (As := []) hC (lw_V q1713 q1715 qs49 q93 q1716) (by decide +kernel) rfl (by rw [hRm]; decide) (by rw [hRm]; decide) rfl (Nat.le_of_ble_eq_true rfl) dX2_presses_58) (m_X2_beginsTake (zl X) G ad h F r  (by first | assumption | omega | exact iRm (by omega) (by omega) | ((repeat (first | exact gL | refine rLs.up ?_ (by omega) (by omega) | refine rLs.fad ?_)); done) | ((repeat (first | exact gM | refine rHM.up ?_ (by omega))); done) | exact gT _ (by omega) | exact rFadF_le gF _ | ((repeat first | rw [va_up_ne _ _ (by omega)] | rw [va_up_self] | rw [rFadH_o (by omega)] | rw [rAge_o _ _ (by omega)] | rw [rLayH_o (by omega) (by omega) (by omega) (by omega)]); omega))) (zr_rc hC (zRf.ofH (Rs := []))) rfl rfl rfl ?_
    show zVm X G ad A 1 (((rBegH h), (zclF F 6)), r) 61 [some (.ref (ad 0))] []
    have eR : rPress h F = ((rBegH h), (zclF F 6)) := by unfold rPress; (repeat first | rw [if_pos (by omega)] | rw [if_neg (by omega)])
    rw [eR] at hE
    exact zx_vret hC hE (Nat.le_refl _) (Nat.le_refl _) (fun H h => ⟨rfl, h⟩) dX2_presses_61
  · refine zx_tableIn (off := 38) (tgt := 43) hC 2 dX2_presses_5 (by first | assumption | exact gI _ (by omega) | exact iRm (by omega) (by omega)) (by omega) (by decide) rfl (by decide) ?_
    refine zx_aload_n hC dX2_presses_43 rfl ?_
    refine zx_ma0 (Q := fun _ => [REF G ad (((rEndOv h F).1, (rEndOv h F).2), r)]) hC hA [0] [] (zcV 0 (As := []) hC (lw_V q1701 q1703 qs46 q93 q1704) (by decide +kernel) rfl (by rw [hRm]; decide) (by rw [hRm]; decide) rfl (Nat.le_of_ble_eq_true rfl) dX2_presses_44) (m_X2_endsOver (zl X) G ad h F r  (by first | assumption | omega | exact iRm (by omega) (by omega) | ((repeat (first | exact gL | refine rLs.up ?_ (by omega) (by omega) | refine rLs.fad ?_)); done) | ((repeat (first | exact gM | refine rHM.up ?_ (by omega))); done) | exact gT _ (by omega) | exact rFadF_le gF _ | ((repeat first | rw [va_up_ne _ _ (by omega)] | rw [va_up_self] | rw [rFadH_o (by omega)] | rw [rAge_o _ _ (by omega)] | rw [rLayH_o (by omega) (by omega) (by omega) (by omega)]); omega)) (by first | assumption | omega | exact iRm (by omega) (by omega) | ((repeat (first | exact gL | refine rLs.up ?_ (by omega) (by omega) | refine rLs.fad ?_)); done) | ((repeat (first | exact gM | refine rHM.up ?_ (by omega))); done) | exact gT _ (by omega) | exact rFadF_le gF _ | ((repeat first | rw [va_up_ne _ _ (by omega)] | rw [va_up_self] | rw [rFadH_o (by omega)] | rw [rAge_o _ _ (by omega)] | rw [rLayH_o (by omega) (by omega) (by omega) (by omega)]); omega)) (by first | assumption | omega | exact iRm (by omega) (by omega) | ((repeat (first | exact gL | refine rLs.up ?_ (by omega) (by omega) | refine rLs.fad ?_)); done) | ((repeat (first | exact gM | refine rHM.up ?_ (by omega))); done) | exact gT _ (by omega) | exact rFadF_le gF _ | ((repeat first | rw [va_up_ne _ _ (by omega)] | rw [va_up_self] | rw [rFadH_o (by omega)] | rw [rAge_o _ _ (by omega)] | rw [rLayH_o (by omega) (by omega) (by omega) (by omega)]); omega)) (by first | assumption | omega | exact iRm (by omega) (by omega) | ((repeat (first | exact gL | refine rLs.up ?_ (by omega) (by omega) | refine rLs.fad ?_)); done) | ((repeat (first | exact gM | refine rHM.up ?_ (by omega))); done) | exact gT _ (by omega) | exact rFadF_le gF _ | ((repeat first | rw [va_up_ne _ _ (by omega)] | rw [va_up_self] | rw [rFadH_o (by omega)] | rw [rAge_o _ _ (by omega)] | rw [rLayH_o (by omega) (by omega) (by omega) (by omega)]); omega)) (by first | assumption | omega | exact iRm (by omega) (by omega) | ((repeat (first | exact gL | refine rLs.up ?_ (by omega) (by omega) | refine rLs.fad ?_)); done) | ((repeat (first | exact gM | refine rHM.up ?_ (by omega))); done) | exact gT _ (by omega) | exact rFadF_le gF _ | ((repeat first | rw [va_up_ne _ _ (by omega)] | rw [va_up_self] | rw [rFadH_o (by omega)] | rw [rAge_o _ _ (by omega)] | rw [rLayH_o (by omega) (by omega) (by omega) (by omega)]); omega)) (by first | assumption | omega | exact iRm (by omega) (by omega) | ((repeat (first | exact gL | refine rLs.up ?_ (by omega) (by omega) | refine rLs.fad ?_)); done) | ((repeat (first | exact gM | refine rHM.up ?_ (by omega))); done) | exact gT _ (by omega) | exact rFadF_le gF _ | ((repeat first | rw [va_up_ne _ _ (by omega)] | rw [va_up_self] | rw [rFadH_o (by omega)] | rw [rAge_o _ _ (by omega)] | rw [rLayH_o (by omega) (by omega) (by omega) (by omega)]); omega)) (by first | assumption | omega | exact iRm (by omega) (by omega) | ((repeat (first | exact gL | refine rLs.up ?_ (by omega) (by omega) | refine rLs.fad ?_)); done) | ((repeat (first | exact gM | refine rHM.up ?_ (by omega))); done) | exact gT _ (by omega) | exact rFadF_le gF _ | ((repeat first | rw [va_up_ne _ _ (by omega)] | rw [va_up_self] | rw [rFadH_o (by omega)] | rw [rAge_o _ _ (by omega)] | rw [rLayH_o (by omega) (by omega) (by omega) (by omega)]); omega))) (zr_rc hC (zRf.ofH (Rs := []))) rfl rfl rfl ?_
    show zVm X G ad A 1 (((rEndOv h F).1, (rEndOv h F).2), r) 47 [some (.ref (ad 0))] []
    refine zx_goto (tgt := 61) hC dX2_presses_47 (by decide) ?_
    have eR : rPress h F = ((rEndOv h F).1, (rEndOv h F).2) := by unfold rPress; (repeat first | rw [if_pos (by omega)] | rw [if_neg (by omega)])
    rw [eR] at hE
    exact zx_vret hC hE (Nat.le_refl _) (Nat.le_refl _) (fun H h => ⟨rfl, h⟩) dX2_presses_61
  · refine zx_tableIn (off := 45) (tgt := 50) hC 3 dX2_presses_5 (by first | assumption | exact gI _ (by omega) | exact iRm (by omega) (by omega)) (by omega) (by decide) rfl (by decide) ?_
    refine zx_aload_n hC dX2_presses_50 rfl ?_
    refine zx_ma0 (Q := fun _ => [REF G ad (((rStarts h), F), r)]) hC hA [0] [] (zcV 0 (As := []) hC (lw_V q1696 q1698 qs45 q93 q1699) (by decide +kernel) rfl (by rw [hRm]; decide) (by rw [hRm]; decide) rfl (Nat.le_of_ble_eq_true rfl) dX2_presses_51) (m_X2_starts (zl X) G ad h F r) (zr_rc hC (zRf.ofH (Rs := []))) rfl rfl rfl ?_
    show zVm X G ad A 1 (((rStarts h), F), r) 54 [some (.ref (ad 0))] []
    refine zx_goto (tgt := 61) hC dX2_presses_54 (by decide) ?_
    have eR : rPress h F = ((rStarts h), F) := by unfold rPress; (repeat first | rw [if_pos (by omega)] | rw [if_neg (by omega)])
    rw [eR] at hE
    exact zx_vret hC hE (Nat.le_refl _) (Nat.le_refl _) (fun H h => ⟨rfl, h⟩) dX2_presses_61
  · refine zx_tableOut (tgt := 57) hC dX2_presses_5 (by first | assumption | exact gI _ (by omega) | exact iRm (by omega) (by omega)) (by omega) (by decide) ?_
    refine zx_aload_n hC dX2_presses_57 rfl ?_
    refine zx_ma0 (Q := fun _ => [REF G ad (((rBegH h), (zclF F 6)), r)]) hC hA [0] [] (zcV 0 (As := []) hC (lw_V q1713 q1715 qs49 q93 q1716) (by decide +kernel) rfl (by rw [hRm]; decide) (by rw [hRm]; decide) rfl (Nat.le_of_ble_eq_true rfl) dX2_presses_58) (m_X2_beginsTake (zl X) G ad h F r  (by first | assumption | omega | exact iRm (by omega) (by omega) | ((repeat (first | exact gL | refine rLs.up ?_ (by omega) (by omega) | refine rLs.fad ?_)); done) | ((repeat (first | exact gM | refine rHM.up ?_ (by omega))); done) | exact gT _ (by omega) | exact rFadF_le gF _ | ((repeat first | rw [va_up_ne _ _ (by omega)] | rw [va_up_self] | rw [rFadH_o (by omega)] | rw [rAge_o _ _ (by omega)] | rw [rLayH_o (by omega) (by omega) (by omega) (by omega)]); omega))) (zr_rc hC (zRf.ofH (Rs := []))) rfl rfl rfl ?_
    show zVm X G ad A 1 (((rBegH h), (zclF F 6)), r) 61 [some (.ref (ad 0))] []
    have eR : rPress h F = ((rBegH h), (zclF F 6)) := by unfold rPress; (repeat first | rw [if_pos (by omega)] | rw [if_neg (by omega)])
    rw [eR] at hE
    exact zx_vret hC hE (Nat.le_refl _) (Nat.le_refl _) (fun H h => ⟨rfl, h⟩) dX2_presses_61
set_option maxHeartbeats 4000000 in
theorem m_X2_stops (la : Launch) (G : zG) (ad : Nat → Nat) (h : Nat → Nat) (F : Nat → Nat → Nat → Nat) (r : zR5)  (g0 : h 0 ≤ 4) : zMA la yX2_stops cX2_stops 1 none 2 42 G [.ref (ad 0)] [REF G ad ((h, F), r)] (fun v9 => v9 = none) (fun _ => [REF G ad (((rStopH h), (zclF F 6)), r)]) 0 0 := by
  refine zMA.of [some (.ref (ad 0))] (by decide) (Nat.le_of_ble_eq_true rfl) rfl (fun X A hl hC hnm hA hRm hE => ?_)
  refine zx_aload_n hC dX2_stops_0 rfl ?_
  refine zr_get (v := .ref (ad 1)) hC (zRf.ofH (Rs := [])) 0 (by decide) dX2_stops_1 q1610 rfl ?_
  refine zx_iconst (z := 0) hC dX2_stops_4 ?_
  have J5 : zVm X G ad A 1 ((h, F), r) 21 [some (.ref (ad 0))] [.long (lI ((if h 0 = 1 then 0 else 4 : Nat) : Int)), .int (iI 0), .ref (ad 1)] := by
    refine zr_sstN (v := if h 0 = 1 then 0 else 4) hC 0 dX2_stops_21 (by omega) ?_
    refine zx_aload_n hC dX2_stops_22 rfl ?_
    refine zx_ma0 (Q := fun _ => [REF G ad (((va_up (va_up h 0 (if h 0 = 1 then 0 else 4)) 11 0), (zclF F 6)), r)]) hC hA [0] [] (zcV 0 (As := []) hC (lw_V q1692 q1694 qs44 q93 q1695) (by decide +kernel) rfl (by rw [hRm]; decide) (by rw [hRm]; decide) rfl (Nat.le_of_ble_eq_true rfl) dX2_stops_23) (m_X2_endsTake (zl X) G ad (va_up h 0 (if h 0 = 1 then 0 else 4)) F r) (zr_rc hC (zRf.ofH (Rs := []))) rfl rfl rfl ?_
    show zVm X G ad A 1 (((va_up (va_up h 0 (if h 0 = 1 then 0 else 4)) 11 0), (zclF F 6)), r) 26 [some (.ref (ad 0))] []
    exact zx_vret hC hE (Nat.le_refl _) (Nat.le_refl _) (fun H h => ⟨rfl, h⟩) dX2_stops_26
  refine zx_aload_n hC dX2_stops_5 rfl ?_
  refine zx_iconst (z := 0) hC dX2_stops_6 ?_
  refine zx_rd1 (r := .int (iI ((h 0 : Nat) : Int))) hC hA.2 (zcV 1 (As := [.int (iI 0)]) hC (lw_V q1651 q1653 qs35 q93 q1654) (by decide +kernel) rfl (by rw [hRm]; decide) (by rw [hRm]; decide) rfl (Nat.le_of_ble_eq_true rfl) dX2_stops_7) (m_X2_of (zl X) G ad h F r 0 (by first | assumption | omega | exact iRm (by omega) (by omega) | ((repeat (first | exact gL | refine rLs.up ?_ (by omega) (by omega) | refine rLs.fad ?_)); done) | ((repeat (first | exact gM | refine rHM.up ?_ (by omega))); done) | exact gT _ (by omega) | exact rFadF_le gF _ | ((repeat first | rw [va_up_ne _ _ (by omega)] | rw [va_up_self] | rw [rFadH_o (by omega)] | rw [rAge_o _ _ (by omega)] | rw [rLayH_o (by omega) (by omega) (by omega) (by omega)]); omega))) (zr_rc hC (zRf.ofH (Rs := []))) (zRf.ofH (Rs := [])) ?_
  refine zx_iconst (z := 1) hC dX2_stops_10 ?_
  refine zx_icmp_ne (tgt := 18) hC dX2_stops_11 (by decide) (by first | assumption | exact gI _ (by omega) | exact iRm (by omega) (by omega)) (by first | assumption | exact gI _ (by omega) | exact iRm (by omega) (by omega)) (fun c11 => ?_) (fun c11 => ?_)
  · refine zx_ldc2 (z := 4) hC dX2_stops_18 q1730 rfl ?_
    refine zx_topl (b := ((if h 0 = 1 then 0 else 4 : Nat) : Int)) (by first | (rw [if_pos (by omega)]; first | done | rfl) | (rw [if_neg (by omega)]; first | done | rfl)) ?_
    exact J5
  · refine zx_lconst0 hC dX2_stops_14 ?_
    refine zx_goto (tgt := 21) hC dX2_stops_15 (by decide) ?_
    refine zx_topl (b := ((if h 0 = 1 then 0 else 4 : Nat) : Int)) (by first | (rw [if_pos (by omega)]; first | done | rfl) | (rw [if_neg (by omega)]; first | done | rfl)) ?_
    exact J5
set_option maxHeartbeats 4000000 in
theorem m_X2_fades (la : Launch) (G : zG) (ad : Nat → Nat) (h : Nat → Nat) (F : Nat → Nat → Nat → Nat) (r : zR5)  (g0 : h 5 ≤ 100) (gL : rLs h) (gF : rFb F) : zMA la yX2_fades cX2_fades 6 none 1 26 G [.ref (ad 0)] [REF G ad ((h, F), r)] (fun v9 => v9 = none) (fun _ => [REF G ad (((rFadH h), (rFadF h F (h 7))), r)]) 0 0 := by
  refine zMA.of [some (.ref (ad 0)), none, none, none, none, none] (by decide) (Nat.le_of_ble_eq_true rfl) rfl (fun X A hl hC hnm hA hRm hE => ?_)
  have g7 := gL.1
  refine zx_ldc2 (z := 100) hC dX2_fades_0 q1766 rfl ?_
  refine zx_aload_n hC dX2_fades_3 rfl ?_
  refine zr_get (v := .ref (ad 1)) hC (zRf.ofH (Rs := [])) 0 (by decide) dX2_fades_4 q1610 rfl ?_
  refine zx_iconst (z := 5) hC dX2_fades_7 ?_
  refine zr_sldN (x := h 5) hC (zRf.ofH (Rs := [])) 5 dX2_fades_8 (by omega) rfl ?_
  refine zx_lsub hC dX2_fades_9 ?_
  refine zx_topl (b := ((100 - (h 5) : Nat) : Int)) (by omega) ?_
  refine zx_lstore_n (L' := [some (.ref (ad 0)), some (.long (lI ((100 - (h 5) : Nat) : Int))), none, none, none, none]) hC dX2_fades_10 (by decide) rfl ?_
  refine zx_iconst (z := 0) hC dX2_fades_11 ?_
  refine zx_istore_n (L' := [some (.ref (ad 0)), some (.long (lI ((100 - (h 5) : Nat) : Int))), none, some (.int (iI 0)), none, none]) hC dX2_fades_12 (by decide) rfl ?_
  have loop1 : ∀ n j : Nat, j + n = h 7 → zVm X G ad A 6 (((rAge h j), (rFadF h F j)), r) 13 [some (.ref (ad 0)), some (.long (lI ((100 - (h 5) : Nat) : Int))), none, some (.int (iI ((j : Nat) : Int))), none, none] [] := by
    intro n
    induction n with
    | zero =>
      intro j hj 
      have hjN : j = h 7 := by omega
      rw [hjN]
      refine zx_iload_n hC dX2_fades_13 rfl ?_
      refine zx_aload_n hC dX2_fades_14 rfl ?_
      refine zx_bipush (z := 7) hC dX2_fades_15 rfl ?_
      refine zx_rd1 (r := .int (iI (((rAge h (h 7)) 7 : Nat) : Int))) hC hA.2 (zcV 1 (As := [.int (iI 7)]) hC (lw_V q1651 q1653 qs35 q93 q1654) (by decide +kernel) rfl (by rw [hRm]; decide) (by rw [hRm]; decide) rfl (Nat.le_of_ble_eq_true rfl) dX2_fades_17) (m_X2_of (zl X) G ad (rAge h (h 7)) (rFadF h F (h 7)) r 7 (by first | assumption | omega | exact iRm (by omega) (by omega) | ((repeat (first | exact gL | refine rLs.up ?_ (by omega) (by omega) | refine rLs.fad ?_)); done) | ((repeat (first | exact gM | refine rHM.up ?_ (by omega))); done) | exact gT _ (by omega) | exact rFadF_le gF _ | ((repeat first | rw [va_up_ne _ _ (by omega)] | rw [va_up_self] | rw [rFadH_o (by omega)] | rw [rAge_o _ _ (by omega)] | rw [rLayH_o (by omega) (by omega) (by omega) (by omega)]); omega))) (zr_rc hC (zRf.ofH (Rs := []))) (zRf.ofH (Rs := [])) ?_
      refine zx_topi (b := ((h 7 : Nat) : Int)) (congrArg (fun z : Nat => (z : Int)) (by first | rfl | ((repeat first | rw [va_up_ne _ _ (by omega)] | rw [va_up_self] | rw [rFadH_o (by omega)] | rw [rAge_o _ _ (by omega)] | rw [rLayH_o (by omega) (by omega) (by omega) (by omega)]); done))) ?_
      refine zx_icmp_geT (tgt := 109) hC dX2_fades_20 (by decide) (by first | assumption | exact gI _ (by omega) | exact iRm (by omega) (by omega)) (by first | assumption | exact gI _ (by omega) | exact iRm (by omega) (by omega)) (by omega) ?_
      exact zx_vret hC hE (Nat.le_refl _) (Nat.le_refl _) (fun H h => ⟨rfl, h⟩) dX2_fades_109
    | succ n ih =>
      intro j hj 
      have gj := gL.2.1 j (by omega)
      refine zx_iload_n hC dX2_fades_13 rfl ?_
      refine zx_aload_n hC dX2_fades_14 rfl ?_
      refine zx_bipush (z := 7) hC dX2_fades_15 rfl ?_
      refine zx_rd1 (r := .int (iI (((rAge h j) 7 : Nat) : Int))) hC hA.2 (zcV 1 (As := [.int (iI 7)]) hC (lw_V q1651 q1653 qs35 q93 q1654) (by decide +kernel) rfl (by rw [hRm]; decide) (by rw [hRm]; decide) rfl (Nat.le_of_ble_eq_true rfl) dX2_fades_17) (m_X2_of (zl X) G ad (rAge h j) (rFadF h F j) r 7 (by first | assumption | omega | exact iRm (by omega) (by omega) | ((repeat (first | exact gL | refine rLs.up ?_ (by omega) (by omega) | refine rLs.fad ?_)); done) | ((repeat (first | exact gM | refine rHM.up ?_ (by omega))); done) | exact gT _ (by omega) | exact rFadF_le gF _ | ((repeat first | rw [va_up_ne _ _ (by omega)] | rw [va_up_self] | rw [rFadH_o (by omega)] | rw [rAge_o _ _ (by omega)] | rw [rLayH_o (by omega) (by omega) (by omega) (by omega)]); omega))) (zr_rc hC (zRf.ofH (Rs := []))) (zRf.ofH (Rs := [])) ?_
      refine zx_topi (b := ((h 7 : Nat) : Int)) (congrArg (fun z : Nat => (z : Int)) (by first | rfl | ((repeat first | rw [va_up_ne _ _ (by omega)] | rw [va_up_self] | rw [rFadH_o (by omega)] | rw [rAge_o _ _ (by omega)] | rw [rLayH_o (by omega) (by omega) (by omega) (by omega)]); done))) ?_
      refine zx_icmp_geF (tgt := 109) hC dX2_fades_20 (by decide) (by first | assumption | exact gI _ (by omega) | exact iRm (by omega) (by omega)) (by first | assumption | exact gI _ (by omega) | exact iRm (by omega) (by omega)) (by omega) ?_
      refine zx_aload_n hC dX2_fades_23 rfl ?_
      refine zr_get (v := .ref (ad 1)) hC (zRf.ofH (Rs := [])) 0 (by decide) dX2_fades_24 q1610 rfl ?_
      refine zx_bipush (z := 26) hC dX2_fades_27 rfl ?_
      refine zx_iload_n hC dX2_fades_29 rfl ?_
      refine zx_iadd hC dX2_fades_30 ?_
      refine zx_dup2 hC dX2_fades_31 rfl rfl ?_
      refine zr_sldN (x := (rAge h j) (26 + j)) hC (zRf.ofH (Rs := [])) (26 + j) dX2_fades_32 (by omega) rfl ?_
      refine zx_lconst1 hC dX2_fades_33 ?_
      refine zx_ladd hC dX2_fades_34 ?_
      refine zr_sstN (v := ((rAge h j) (26 + j)) + 1) hC (26 + j) dX2_fades_35 (by omega) ?_
      rw [← zfil_0 (rFadF h F j) j (fun c k => rFadF h F j j c k * (100 - h 5) / 100)]
      refine zx_iconst (z := 0) hC dX2_fades_36 ?_
      refine zx_istore (L' := [some (.ref (ad 0)), some (.long (lI ((100 - (h 5) : Nat) : Int))), none, some (.int (iI ((j : Nat) : Int))), some (.int (iI 0)), none]) hC dX2_fades_37 (by decide) rfl ?_
      have loop2 : ∀ n i : Nat, i + n = h (14 + j) * 36 → zVm X G ad A 6 (((va_up (rAge h j) (26 + j) (((rAge h j) (26 + j)) + 1)), (zfil (rFadF h F j) j (fun c k => rFadF h F j j c k * (100 - h 5) / 100) i)), r) 39 [some (.ref (ad 0)), some (.long (lI ((100 - (h 5) : Nat) : Int))), none, some (.int (iI ((j : Nat) : Int))), some (.int (iI ((i : Nat) : Int))), none] [] := by
        intro n
        induction n with
        | zero =>
          intro i hi 
          have hiN : i = h (14 + j) * 36 := by omega
          rw [hiN]
          refine zx_iload hC dX2_fades_39 rfl ?_
          refine zx_aload_n hC dX2_fades_41 rfl ?_
          refine zx_bipush (z := 14) hC dX2_fades_42 rfl ?_
          refine zx_iload_n hC dX2_fades_44 rfl ?_
          refine zx_iadd hC dX2_fades_45 ?_
          refine zx_rd1 (r := .int (iI (((va_up (rAge h j) (26 + j) (((rAge h j) (26 + j)) + 1)) (14 + j) : Nat) : Int))) hC hA.2 (zcV 1 (As := [.int (iI ((14 + j : Nat) : Int))]) hC (lw_V q1651 q1653 qs35 q93 q1654) (by decide +kernel) rfl (by rw [hRm]; decide) (by rw [hRm]; decide) rfl (Nat.le_of_ble_eq_true rfl) dX2_fades_46) (m_X2_of (zl X) G ad (va_up (rAge h j) (26 + j) (((rAge h j) (26 + j)) + 1)) (zfil (rFadF h F j) j (fun c k => rFadF h F j j c k * (100 - h 5) / 100) (h (14 + j) * 36)) r (14 + j) (by first | assumption | omega | exact iRm (by omega) (by omega) | ((repeat (first | exact gL | refine rLs.up ?_ (by omega) (by omega) | refine rLs.fad ?_)); done) | ((repeat (first | exact gM | refine rHM.up ?_ (by omega))); done) | exact gT _ (by omega) | exact rFadF_le gF _ | ((repeat first | rw [va_up_ne _ _ (by omega)] | rw [va_up_self] | rw [rFadH_o (by omega)] | rw [rAge_o _ _ (by omega)] | rw [rLayH_o (by omega) (by omega) (by omega) (by omega)]); omega))) (zr_rc hC (zRf.ofH (Rs := []))) (zRf.ofH (Rs := [])) ?_
          refine zx_topi (b := ((h (14 + j) : Nat) : Int)) (congrArg (fun z : Nat => (z : Int)) (by first | rfl | ((repeat first | rw [va_up_ne _ _ (by omega)] | rw [va_up_self] | rw [rFadH_o (by omega)] | rw [rAge_o _ _ (by omega)] | rw [rLayH_o (by omega) (by omega) (by omega) (by omega)]); done))) ?_
          refine zx_bipush (z := 36) hC dX2_fades_49 rfl ?_
          refine zx_imul hC dX2_fades_51 ?_
          refine zx_icmp_geT (tgt := 103) hC dX2_fades_52 (by decide) (by first | assumption | exact gI _ (by omega) | exact iRm (by omega) (by omega)) (by first | assumption | exact gI _ (by omega) | exact iRm (by omega) (by omega)) (by omega) ?_
          refine zx_iinc (b := ((j + 1 : Nat) : Int)) (L' := [some (.ref (ad 0)), some (.long (lI ((100 - (h 5) : Nat) : Int))), none, some (.int (iI ((j + 1 : Nat) : Int))), some (.int (iI ((h (14 + j) * 36 : Nat) : Int))), none]) hC dX2_fades_103 rfl (by first | rfl | omega) (by decide) rfl ?_
          refine zx_goto (tgt := 13) hC dX2_fades_106 (by decide) ?_
          refine zx_le (L' := [some (.ref (ad 0)), some (.long (lI ((100 - (h 5) : Nat) : Int))), none, some (.int (iI ((j + 1 : Nat) : Int))), none, none]) (zle_s (zle_s (zle_n (zle_s (zle_n (zle_n zle_0)))))) ?_
          exact ih (j + 1) (by omega) 
        | succ n ih =>
          intro i hi 
          have ga := rFadF_le (h := h) gF j j (i / 36) (i % 36)
          have gb : rFadF h F j j (i / 36) (i % 36) * (100 - h 5) ≤ 99 * 100 := Nat.mul_le_mul ga (by omega)
          refine zx_iload hC dX2_fades_39 rfl ?_
          refine zx_aload_n hC dX2_fades_41 rfl ?_
          refine zx_bipush (z := 14) hC dX2_fades_42 rfl ?_
          refine zx_iload_n hC dX2_fades_44 rfl ?_
          refine zx_iadd hC dX2_fades_45 ?_
          refine zx_rd1 (r := .int (iI (((va_up (rAge h j) (26 + j) (((rAge h j) (26 + j)) + 1)) (14 + j) : Nat) : Int))) hC hA.2 (zcV 1 (As := [.int (iI ((14 + j : Nat) : Int))]) hC (lw_V q1651 q1653 qs35 q93 q1654) (by decide +kernel) rfl (by rw [hRm]; decide) (by rw [hRm]; decide) rfl (Nat.le_of_ble_eq_true rfl) dX2_fades_46) (m_X2_of (zl X) G ad (va_up (rAge h j) (26 + j) (((rAge h j) (26 + j)) + 1)) (zfil (rFadF h F j) j (fun c k => rFadF h F j j c k * (100 - h 5) / 100) i) r (14 + j) (by first | assumption | omega | exact iRm (by omega) (by omega) | ((repeat (first | exact gL | refine rLs.up ?_ (by omega) (by omega) | refine rLs.fad ?_)); done) | ((repeat (first | exact gM | refine rHM.up ?_ (by omega))); done) | exact gT _ (by omega) | exact rFadF_le gF _ | ((repeat first | rw [va_up_ne _ _ (by omega)] | rw [va_up_self] | rw [rFadH_o (by omega)] | rw [rAge_o _ _ (by omega)] | rw [rLayH_o (by omega) (by omega) (by omega) (by omega)]); omega))) (zr_rc hC (zRf.ofH (Rs := []))) (zRf.ofH (Rs := [])) ?_
          refine zx_topi (b := ((h (14 + j) : Nat) : Int)) (congrArg (fun z : Nat => (z : Int)) (by first | rfl | ((repeat first | rw [va_up_ne _ _ (by omega)] | rw [va_up_self] | rw [rFadH_o (by omega)] | rw [rAge_o _ _ (by omega)] | rw [rLayH_o (by omega) (by omega) (by omega) (by omega)]); done))) ?_
          refine zx_bipush (z := 36) hC dX2_fades_49 rfl ?_
          refine zx_imul hC dX2_fades_51 ?_
          refine zx_icmp_geF (tgt := 103) hC dX2_fades_52 (by decide) (by first | assumption | exact gI _ (by omega) | exact iRm (by omega) (by omega)) (by first | assumption | exact gI _ (by omega) | exact iRm (by omega) (by omega)) (by omega) ?_
          refine zx_aload_n hC dX2_fades_55 rfl ?_
          refine zx_iload_n hC dX2_fades_56 rfl ?_
          refine zx_iload hC dX2_fades_57 rfl ?_
          refine zx_bipush (z := 36) hC dX2_fades_59 rfl ?_
          refine zx_idiv hC dX2_fades_61 (by first | assumption | exact gI _ (by omega) | exact iRm (by omega) (by omega)) (by first | assumption | exact gI _ (by omega) | exact iRm (by omega) (by omega)) (by omega) (by omega) ?_
          refine zx_iload hC dX2_fades_62 rfl ?_
          refine zx_bipush (z := 36) hC dX2_fades_64 rfl ?_
          refine zx_irem hC dX2_fades_66 (by first | assumption | exact gI _ (by omega) | exact iRm (by omega) (by omega)) (by first | assumption | exact gI _ (by omega) | exact iRm (by omega) (by omega)) (by omega) (by omega) ?_
          refine zx_rd1 (r := .int (iI (((zfil (rFadF h F j) j (fun c k => rFadF h F j j c k * (100 - h 5) / 100) i) j (i / 36) (i % 36) : Nat) : Int))) hC hA.2 (zcV 3 (As := [.int (iI ((j : Nat) : Int)), .int (iI ((i / 36 : Nat) : Int)), .int (iI ((i % 36 : Nat) : Int))]) hC (lw_V q1679 q1681 qs42 q93 q1682) (by decide +kernel) rfl (by rw [hRm]; decide) (by rw [hRm]; decide) rfl (Nat.le_of_ble_eq_true rfl) dX2_fades_67) (m_X2_force (zl X) G ad (va_up (rAge h j) (26 + j) (((rAge h j) (26 + j)) + 1)) (zfil (rFadF h F j) j (fun c k => rFadF h F j j c k * (100 - h 5) / 100) i) r j (i / 36) (i % 36) (by first | assumption | omega | exact iRm (by omega) (by omega) | ((repeat (first | exact gL | refine rLs.up ?_ (by omega) (by omega) | refine rLs.fad ?_)); done) | ((repeat (first | exact gM | refine rHM.up ?_ (by omega))); done) | exact gT _ (by omega) | exact rFadF_le gF _ | ((repeat first | rw [va_up_ne _ _ (by omega)] | rw [va_up_self] | rw [rFadH_o (by omega)] | rw [rAge_o _ _ (by omega)] | rw [rLayH_o (by omega) (by omega) (by omega) (by omega)]); omega)) (by first | assumption | omega | exact iRm (by omega) (by omega) | ((repeat (first | exact gL | refine rLs.up ?_ (by omega) (by omega) | refine rLs.fad ?_)); done) | ((repeat (first | exact gM | refine rHM.up ?_ (by omega))); done) | exact gT _ (by omega) | exact rFadF_le gF _ | ((repeat first | rw [va_up_ne _ _ (by omega)] | rw [va_up_self] | rw [rFadH_o (by omega)] | rw [rAge_o _ _ (by omega)] | rw [rLayH_o (by omega) (by omega) (by omega) (by omega)]); omega)) (by first | assumption | omega | exact iRm (by omega) (by omega) | ((repeat (first | exact gL | refine rLs.up ?_ (by omega) (by omega) | refine rLs.fad ?_)); done) | ((repeat (first | exact gM | refine rHM.up ?_ (by omega))); done) | exact gT _ (by omega) | exact rFadF_le gF _ | ((repeat first | rw [va_up_ne _ _ (by omega)] | rw [va_up_self] | rw [rFadH_o (by omega)] | rw [rAge_o _ _ (by omega)] | rw [rLayH_o (by omega) (by omega) (by omega) (by omega)]); omega))) (zr_rc hC (zRf.ofH (Rs := []))) (zRf.ofH (Rs := [])) ?_
          refine zx_topi (b := ((rFadF h F j j (i / 36) (i % 36) : Nat) : Int)) (congrArg (fun z : Nat => (z : Int)) (zfil_at _ _ _ _)) ?_
          refine zx_istore (L' := [some (.ref (ad 0)), some (.long (lI ((100 - (h 5) : Nat) : Int))), none, some (.int (iI ((j : Nat) : Int))), some (.int (iI ((i : Nat) : Int))), some (.int (iI ((rFadF h F j j (i / 36) (i % 36) : Nat) : Int)))]) hC dX2_fades_70 (by decide) rfl ?_
          refine zx_aload_n hC dX2_fades_72 rfl ?_
          refine zx_iload_n hC dX2_fades_73 rfl ?_
          refine zx_iload hC dX2_fades_74 rfl ?_
          refine zx_bipush (z := 36) hC dX2_fades_76 rfl ?_
          refine zx_idiv hC dX2_fades_78 (by first | assumption | exact gI _ (by omega) | exact iRm (by omega) (by omega)) (by first | assumption | exact gI _ (by omega) | exact iRm (by omega) (by omega)) (by omega) (by omega) ?_
          refine zx_iload hC dX2_fades_79 rfl ?_
          refine zx_bipush (z := 36) hC dX2_fades_81 rfl ?_
          refine zx_irem hC dX2_fades_83 (by first | assumption | exact gI _ (by omega) | exact iRm (by omega) (by omega)) (by first | assumption | exact gI _ (by omega) | exact iRm (by omega) (by omega)) (by omega) (by omega) ?_
          refine zx_iload hC dX2_fades_84 rfl ?_
          refine zx_i2l hC dX2_fades_86 (by first | assumption | exact gI _ (by omega) | exact iRm (by omega) (by omega)) ?_
          refine zx_lload_n hC dX2_fades_87 rfl ?_
          refine zx_lmul hC dX2_fades_88 ?_
          refine zx_ldc2 (z := 100) hC dX2_fades_89 q1766 rfl ?_
          refine zx_ldiv hC dX2_fades_92 (by first | assumption | exact lRm (by omega) (by omega)) (by first | assumption | exact lRm (by omega) (by omega)) (by omega) (by omega) ?_
          refine zx_l2i hC dX2_fades_93 ?_
          refine zx_ma0 (Q := fun _ => [REF G ad (((va_up (rAge h j) (26 + j) (((rAge h j) (26 + j)) + 1)), (zupF (zfil (rFadF h F j) j (fun c k => rFadF h F j j c k * (100 - h 5) / 100) i) j (i / 36) (i % 36) (((rFadF h F j j (i / 36) (i % 36)) * (100 - (h 5))) / 100))), r)]) hC hA [0] [] (zcV 4 (As := [.int (iI ((j : Nat) : Int)), .int (iI ((i / 36 : Nat) : Int)), .int (iI ((i % 36 : Nat) : Int)), .int (iI ((((rFadF h F j j (i / 36) (i % 36)) * (100 - (h 5))) / 100 : Nat) : Int))]) hC (lw_V q1687 q1689 qs43 q93 q1690) (by decide +kernel) rfl (by rw [hRm]; decide) (by rw [hRm]; decide) rfl (Nat.le_of_ble_eq_true rfl) dX2_fades_94) (m_X2_sets (zl X) G ad (va_up (rAge h j) (26 + j) (((rAge h j) (26 + j)) + 1)) (zfil (rFadF h F j) j (fun c k => rFadF h F j j c k * (100 - h 5) / 100) i) r j (i / 36) (i % 36) (((rFadF h F j j (i / 36) (i % 36)) * (100 - (h 5))) / 100) (by first | assumption | omega | exact iRm (by omega) (by omega) | ((repeat (first | exact gL | refine rLs.up ?_ (by omega) (by omega) | refine rLs.fad ?_)); done) | ((repeat (first | exact gM | refine rHM.up ?_ (by omega))); done) | exact gT _ (by omega) | exact rFadF_le gF _ | ((repeat first | rw [va_up_ne _ _ (by omega)] | rw [va_up_self] | rw [rFadH_o (by omega)] | rw [rAge_o _ _ (by omega)] | rw [rLayH_o (by omega) (by omega) (by omega) (by omega)]); omega)) (by first | assumption | omega | exact iRm (by omega) (by omega) | ((repeat (first | exact gL | refine rLs.up ?_ (by omega) (by omega) | refine rLs.fad ?_)); done) | ((repeat (first | exact gM | refine rHM.up ?_ (by omega))); done) | exact gT _ (by omega) | exact rFadF_le gF _ | ((repeat first | rw [va_up_ne _ _ (by omega)] | rw [va_up_self] | rw [rFadH_o (by omega)] | rw [rAge_o _ _ (by omega)] | rw [rLayH_o (by omega) (by omega) (by omega) (by omega)]); omega)) (by first | assumption | omega | exact iRm (by omega) (by omega) | ((repeat (first | exact gL | refine rLs.up ?_ (by omega) (by omega) | refine rLs.fad ?_)); done) | ((repeat (first | exact gM | refine rHM.up ?_ (by omega))); done) | exact gT _ (by omega) | exact rFadF_le gF _ | ((repeat first | rw [va_up_ne _ _ (by omega)] | rw [va_up_self] | rw [rFadH_o (by omega)] | rw [rAge_o _ _ (by omega)] | rw [rLayH_o (by omega) (by omega) (by omega) (by omega)]); omega)) (by first | assumption | omega | exact iRm (by omega) (by omega) | ((repeat (first | exact gL | refine rLs.up ?_ (by omega) (by omega) | refine rLs.fad ?_)); done) | ((repeat (first | exact gM | refine rHM.up ?_ (by omega))); done) | exact gT _ (by omega) | exact rFadF_le gF _ | ((repeat first | rw [va_up_ne _ _ (by omega)] | rw [va_up_self] | rw [rFadH_o (by omega)] | rw [rAge_o _ _ (by omega)] | rw [rLayH_o (by omega) (by omega) (by omega) (by omega)]); omega))) (zr_rc hC (zRf.ofH (Rs := []))) rfl rfl rfl ?_
          show zVm X G ad A 6 (((va_up (rAge h j) (26 + j) (((rAge h j) (26 + j)) + 1)), (zupF (zfil (rFadF h F j) j (fun c k => rFadF h F j j c k * (100 - h 5) / 100) i) j (i / 36) (i % 36) (((rFadF h F j j (i / 36) (i % 36)) * (100 - (h 5))) / 100))), r) 97 [some (.ref (ad 0)), some (.long (lI ((100 - (h 5) : Nat) : Int))), none, some (.int (iI ((j : Nat) : Int))), some (.int (iI ((i : Nat) : Int))), some (.int (iI ((rFadF h F j j (i / 36) (i % 36) : Nat) : Int)))] []
          rw [show zupF (zfil (rFadF h F j) j (fun c k => rFadF h F j j c k * (100 - h 5) / 100) i) j (i / 36) (i % 36) (rFadF h F j j (i / 36) (i % 36) * (100 - h 5) / 100) = zfil (rFadF h F j) j (fun c k => rFadF h F j j c k * (100 - h 5) / 100) (i + 1) from zfil_s _ _ (fun c k => rFadF h F j j c k * (100 - h 5) / 100) _]
          refine zx_iinc (b := ((i + 1 : Nat) : Int)) (L' := [some (.ref (ad 0)), some (.long (lI ((100 - (h 5) : Nat) : Int))), none, some (.int (iI ((j : Nat) : Int))), some (.int (iI ((i + 1 : Nat) : Int))), some (.int (iI ((rFadF h F j j (i / 36) (i % 36) : Nat) : Int)))]) hC dX2_fades_97 rfl (by first | rfl | omega) (by decide) rfl ?_
          refine zx_goto (tgt := 39) hC dX2_fades_100 (by decide) ?_
          refine zx_le (L' := [some (.ref (ad 0)), some (.long (lI ((100 - (h 5) : Nat) : Int))), none, some (.int (iI ((j : Nat) : Int))), some (.int (iI ((i + 1 : Nat) : Int))), none]) (zle_s (zle_s (zle_n (zle_s (zle_s (zle_n zle_0)))))) ?_
          exact ih (i + 1) (by omega) 
      exact loop2 (h (14 + j) * 36) 0 (by omega) 
  exact loop1 (h 7) 0 (by omega) 
