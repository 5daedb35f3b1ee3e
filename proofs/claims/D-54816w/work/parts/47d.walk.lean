/-! walked: part 47d (printed by gen/gen2.py) -/
set_option maxRecDepth 100000
set_option maxHeartbeats 4000000 in
theorem m_X0_inRange (la : Launch) (G : zG) (v : Int) (l : Int) (u : Int) (g0 : iR v) (g1 : iR l) (g2 : iR u) : zRd la yX0_inRange cX0_inRange 3 (some .boolean) 0 0 G [.int (iI v), .int (iI l), .int (iI u)] (fun _ => True) (fun v9 => v9 = some (.int (iI (zB (l ≤ v ∧ v ≤ u))))) := by
  refine zRd.of [some (.int (iI v)), some (.int (iI l)), some (.int (iI u))] (by decide) (Nat.le_of_ble_eq_true rfl) rfl (fun X hl hC hRm hP hE => ?_)
  refine zx_iload_n hC dX0_inRange_0 rfl ?_
  refine zx_iload_n hC dX0_inRange_1 rfl ?_
  refine zx_icmp_lt (tgt := 14) hC dX0_inRange_2 (by decide) (by first | assumption | exact gI _ (by omega) | exact iRm (by omega) (by omega)) (by first | assumption | exact gI _ (by omega) | exact iRm (by omega) (by omega)) (fun c2 => ?_) (fun c2 => ?_)
  · refine zx_iconst (z := 0) hC dX0_inRange_14 ?_
    refine zx_topi (b := zB (l ≤ v ∧ v ≤ u)) (by first | exact (zB_t (by omega)).symm | exact (zB_f (by omega)).symm) ?_
    exact zx_nret hC hE (znar (by first | omega | exact zB_01 _)) (Nat.le_refl _) (Nat.le_refl _) (fun H h => ⟨h, rfl⟩) dX0_inRange_15
  · refine zx_iload_n hC dX0_inRange_5 rfl ?_
    refine zx_iload_n hC dX0_inRange_6 rfl ?_
    refine zx_icmp_gt (tgt := 14) hC dX0_inRange_7 (by decide) (by first | assumption | exact gI _ (by omega) | exact iRm (by omega) (by omega)) (by first | assumption | exact gI _ (by omega) | exact iRm (by omega) (by omega)) (fun c7 => ?_) (fun c7 => ?_)
    · refine zx_iconst (z := 0) hC dX0_inRange_14 ?_
      refine zx_topi (b := zB (l ≤ v ∧ v ≤ u)) (by first | exact (zB_t (by omega)).symm | exact (zB_f (by omega)).symm) ?_
      exact zx_nret hC hE (znar (by first | omega | exact zB_01 _)) (Nat.le_refl _) (Nat.le_refl _) (fun H h => ⟨h, rfl⟩) dX0_inRange_15
    · refine zx_iconst (z := 1) hC dX0_inRange_10 ?_
      refine zx_goto (tgt := 15) hC dX0_inRange_11 (by decide) ?_
      refine zx_topi (b := zB (l ≤ v ∧ v ≤ u)) (by first | exact (zB_t (by omega)).symm | exact (zB_f (by omega)).symm) ?_
      exact zx_nret hC hE (znar (by first | omega | exact zB_01 _)) (Nat.le_refl _) (Nat.le_refl _) (fun H h => ⟨h, rfl⟩) dX0_inRange_15
set_option maxHeartbeats 4000000 in
theorem m_X0_wantsT (la : Launch) (G : zG)   : zRd la yX0_wants cX0_wants 1 none 0 0 G [.int (iI 1)] (fun _ => True) (fun v9 => v9 = none) := by
  refine zRd.of [some (.int (iI 1))] (by decide) (Nat.le_of_ble_eq_true rfl) rfl (fun X hl hC hRm hP hE => ?_)
  refine zx_iload_n hC dX0_wants_0 rfl ?_
  refine zx_if_neT (tgt := 12) hC dX0_wants_1 (by decide) (by first | assumption | exact gI _ (by omega) | exact iRm (by omega) (by omega)) (by omega) ?_
  exact zx_vret hC hE (Nat.le_refl _) (Nat.le_refl _) (fun H h => ⟨h, rfl⟩) dX0_wants_12
set_option maxHeartbeats 4000000 in
theorem m_X0_needsT (la : Launch) (G : zG)   : zRd la yX0_needs cX0_needs 1 none 0 0 G [.int (iI 1)] (fun _ => True) (fun v9 => v9 = none) := by
  refine zRd.of [some (.int (iI 1))] (by decide) (Nat.le_of_ble_eq_true rfl) rfl (fun X hl hC hRm hP hE => ?_)
  refine zx_iload_n hC dX0_needs_0 rfl ?_
  refine zx_if_neT (tgt := 12) hC dX0_needs_1 (by decide) (by first | assumption | exact gI _ (by omega) | exact iRm (by omega) (by omega)) (by omega) ?_
  exact zx_vret hC hE (Nat.le_refl _) (Nat.le_refl _) (fun H h => ⟨h, rfl⟩) dX0_needs_12
