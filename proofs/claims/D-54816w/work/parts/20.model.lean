/-! the reference, walked: part 20 (printed by gen/gen.py) -/
set_option maxRecDepth 100000
set_option maxHeartbeats 4000000 in
theorem m_X2_in (la : Launch) (G : zG)  (v : Int) (a : Int) (b : Int) (g0 : iR v) (g1 : iR a) (g2 : iR b) : zRd la yX2_in cX2_in 3 (some .boolean) 0 0 G [.int (iI v), .int (iI a), .int (iI b)] (fun _ => True) (fun v9 => v9 = some (.int (iI (zB (a ≤ v ∧ v ≤ b))))) := by
  refine zRd.of [some (.int (iI v)), some (.int (iI a)), some (.int (iI b))] (by decide) (Nat.le_of_ble_eq_true rfl) rfl (fun X hl hC hRm hP hE => ?_)
  refine zx_iload_n hC dX2_in_0 rfl ?_
  refine zx_iload_n hC dX2_in_1 rfl ?_
  refine zx_icmp_lt (tgt := 14) hC dX2_in_2 (by decide) (by first | assumption | exact gI _ (by omega) | exact iRm (by omega) (by omega)) (by first | assumption | exact gI _ (by omega) | exact iRm (by omega) (by omega)) (fun c2 => ?_) (fun c2 => ?_)
  · refine zx_iconst (z := 0) hC dX2_in_14 ?_
    refine zx_topi (b := zB (a ≤ v ∧ v ≤ b)) (by first | exact (zB_t (by omega)).symm | exact (zB_f (by omega)).symm) ?_
    exact zx_nret hC hE (znar (by exact zB_01 _)) (Nat.le_refl _) (Nat.le_refl _) (fun H h => ⟨h, rfl⟩) dX2_in_15
  · refine zx_iload_n hC dX2_in_5 rfl ?_
    refine zx_iload_n hC dX2_in_6 rfl ?_
    refine zx_icmp_gt (tgt := 14) hC dX2_in_7 (by decide) (by first | assumption | exact gI _ (by omega) | exact iRm (by omega) (by omega)) (by first | assumption | exact gI _ (by omega) | exact iRm (by omega) (by omega)) (fun c7 => ?_) (fun c7 => ?_)
    · refine zx_iconst (z := 0) hC dX2_in_14 ?_
      refine zx_topi (b := zB (a ≤ v ∧ v ≤ b)) (by first | exact (zB_t (by omega)).symm | exact (zB_f (by omega)).symm) ?_
      exact zx_nret hC hE (znar (by exact zB_01 _)) (Nat.le_refl _) (Nat.le_refl _) (fun H h => ⟨h, rfl⟩) dX2_in_15
    · refine zx_iconst (z := 1) hC dX2_in_10 ?_
      refine zx_goto (tgt := 15) hC dX2_in_11 (by decide) ?_
      refine zx_topi (b := zB (a ≤ v ∧ v ≤ b)) (by first | exact (zB_t (by omega)).symm | exact (zB_f (by omega)).symm) ?_
      exact zx_nret hC hE (znar (by exact zB_01 _)) (Nat.le_refl _) (Nat.le_refl _) (fun H h => ⟨h, rfl⟩) dX2_in_15
set_option maxHeartbeats 4000000 in
theorem m_X2_of (la : Launch) (G : zG) (ad : Nat → Nat) (h : Nat → Nat) (F : Nat → Nat → Nat → Nat) (r : zR5) (j : Nat) (g0 : j < 32) : zRd la yX2_of cX2_of 2 (some .int) 0 0 G [.ref (ad 0), .int (iI ((j : Nat) : Int))] (zRf G ad ((h, F), r)) (fun v9 => v9 = some (.int (iI ((h j : Nat) : Int)))) := by
  refine zRd.of [some (.ref (ad 0)), some (.int (iI ((j : Nat) : Int)))] (by decide) (Nat.le_of_ble_eq_true rfl) rfl (fun X hl hC hRm hP hE => ?_)
  refine zx_aload_n hC dX2_of_0 rfl ?_
  refine zr_get (v := .ref (ad 1)) hC hP.eq 0 (by decide) dX2_of_1 q1610 rfl ?_
  refine zx_iload_n hC dX2_of_4 rfl ?_
  refine zr_sldN (x := h j) hC hP.eq j dX2_of_5 (by omega) rfl ?_
  refine zx_l2i hC dX2_of_6 ?_
  exact zx_iret hC hE (Nat.le_refl _) (Nat.le_refl _) (fun H h => ⟨h, rfl⟩) dX2_of_7
set_option maxHeartbeats 4000000 in
theorem m_X2_both (la : Launch) (G : zG)  (a : Nat) (b : Nat) (g0 : a + b < 1000000) : zRd la yX2_both cX2_both 2 (some .int) 0 0 G [.int (iI ((a : Nat) : Int)), .int (iI ((b : Nat) : Int))] (fun _ => True) (fun v9 => v9 = some (.int (iI ((rBoth a b : Nat) : Int)))) := by
  refine zRd.of [some (.int (iI ((a : Nat) : Int))), some (.int (iI ((b : Nat) : Int)))] (by decide) (Nat.le_of_ble_eq_true rfl) rfl (fun X hl hC hRm hP hE => ?_)
  refine zx_iload_n hC dX2_both_0 rfl ?_
  refine zx_iload_n hC dX2_both_1 rfl ?_
  refine zx_iadd hC dX2_both_2 ?_
  refine zx_bipush (z := 99) hC dX2_both_3 rfl ?_
  refine zx_icmp_ge (tgt := 14) hC dX2_both_5 (by decide) (by first | assumption | exact gI _ (by omega) | exact iRm (by omega) (by omega)) (by first | assumption | exact gI _ (by omega) | exact iRm (by omega) (by omega)) (fun c5 => ?_) (fun c5 => ?_)
  · refine zx_bipush (z := 99) hC dX2_both_14 rfl ?_
    refine zx_topi (b := ((rBoth a b : Nat) : Int)) (by unfold rBoth; split <;> omega) ?_
    exact zx_iret hC hE (Nat.le_refl _) (Nat.le_refl _) (fun H h => ⟨h, rfl⟩) dX2_both_16
  · refine zx_iload_n hC dX2_both_8 rfl ?_
    refine zx_iload_n hC dX2_both_9 rfl ?_
    refine zx_iadd hC dX2_both_10 ?_
    refine zx_goto (tgt := 16) hC dX2_both_11 (by decide) ?_
    refine zx_topi (b := ((rBoth a b : Nat) : Int)) (by unfold rBoth; split <;> omega) ?_
    exact zx_iret hC hE (Nat.le_refl _) (Nat.le_refl _) (fun H h => ⟨h, rfl⟩) dX2_both_16
set_option maxHeartbeats 4000000 in
theorem m_X2_lengthOf (la : Launch) (G : zG) (ad : Nat → Nat) (h : Nat → Nat) (F : Nat → Nat → Nat → Nat) (r : zR5) (m : Nat) (g0 : m ≤ 6) (gL : rLs h) : zRd la yX2_lengthOf cX2_lengthOf 4 (some .int) 1 21 G [.ref (ad 0), .int (iI ((m : Nat) : Int))] (zRf G ad ((h, F), r)) (fun v9 => v9 = some (.int (iI ((rLen h m : Nat) : Int)))) := by
  refine zRd.of [some (.ref (ad 0)), some (.int (iI ((m : Nat) : Int))), none, none] (by decide) (Nat.le_of_ble_eq_true rfl) rfl (fun X hl hC hRm hP hE => ?_)
  refine zx_iconst (z := 0) hC dX2_lengthOf_0 ?_
  refine zx_istore_n (L' := [some (.ref (ad 0)), some (.int (iI ((m : Nat) : Int))), some (.int (iI 0)), none]) hC dX2_lengthOf_1 (by decide) rfl ?_
  refine zx_iconst (z := 0) hC dX2_lengthOf_2 ?_
  refine zx_istore_n (L' := [some (.ref (ad 0)), some (.int (iI ((m : Nat) : Int))), some (.int (iI 0)), some (.int (iI 0))]) hC dX2_lengthOf_3 (by decide) rfl ?_
  have loop : ∀ n i : Nat, i + n = m → zVr X 4 4 [some (.ref (ad 0)), some (.int (iI ((m : Nat) : Int))), some (.int (iI ((rLen h i : Nat) : Int))), some (.int (iI ((i : Nat) : Int)))] [] := by
    intro n
    induction n with
    | zero =>
      intro i hi 
      have hiN : i = m := by omega
      rw [hiN]
      refine zx_iload_n hC dX2_lengthOf_4 rfl ?_
      refine zx_iload_n hC dX2_lengthOf_5 rfl ?_
      refine zx_icmp_geT (tgt := 40) hC dX2_lengthOf_6 (by decide) (by first | assumption | exact gI _ (by omega) | exact iRm (by omega) (by omega)) (by first | assumption | exact gI _ (by omega) | exact iRm (by omega) (by omega)) (by omega) ?_
      refine zx_iload_n hC dX2_lengthOf_40 rfl ?_
      exact zx_iret hC hE (Nat.le_refl _) (Nat.le_refl _) (fun H h => ⟨h, rfl⟩) dX2_lengthOf_41
    | succ n ih =>
      intro i hi 
      have gi := gL.le (j := i) (by omega)
      have gm := rLen_le gL (n := i) (by omega)
      refine zx_iload_n hC dX2_lengthOf_4 rfl ?_
      refine zx_iload_n hC dX2_lengthOf_5 rfl ?_
      refine zx_icmp_geF (tgt := 40) hC dX2_lengthOf_6 (by decide) (by first | assumption | exact gI _ (by omega) | exact iRm (by omega) (by omega)) (by first | assumption | exact gI _ (by omega) | exact iRm (by omega) (by omega)) (by omega) ?_
      refine zx_aload_n hC dX2_lengthOf_9 rfl ?_
      refine zx_bipush (z := 14) hC dX2_lengthOf_10 rfl ?_
      refine zx_iload_n hC dX2_lengthOf_12 rfl ?_
      refine zx_iadd hC dX2_lengthOf_13 ?_
      refine zx_rd1 (r := .int (iI ((h (14 + i) : Nat) : Int))) hC zNoA (zcV 1 (As := [.int (iI ((14 + i : Nat) : Int))]) hC (lw_V q1651 q1653 qs35 q93 q1654) (by decide +kernel) rfl (by rw [hRm]; decide) (by rw [hRm]; decide) rfl (Nat.le_of_ble_eq_true rfl) dX2_lengthOf_14) (m_X2_of (zl X) G ad h F r (14 + i) (by first | assumption | omega | exact iRm (by omega) (by omega) | (repeat (first | exact gL | refine rLs.up ?_ (by omega) (by omega) | refine rLs.fad ?_)) | (repeat (first | exact gM | refine rHM.up ?_ (by omega))) | exact gT _ (by omega) | exact rFadF_le gF _ | ((repeat first | rw [va_up_ne _ _ (by omega)] | rw [va_up_self] | rw [rFadH_o (by omega)] | rw [rAge_o _ _ (by omega)] | rw [rLayH_o (by omega) (by omega) (by omega) (by omega)]); omega))) (zr_rc hC hP.eq) hP.eq ?_
      refine zx_iload_n hC dX2_lengthOf_17 rfl ?_
      have J18 : ∀ t : Nat, t = (if h (14 + i) ≤ rLen h i then rLen h i else h (14 + i)) → zVr X 4 33 [some (.ref (ad 0)), some (.int (iI ((m : Nat) : Int))), some (.int (iI ((rLen h i : Nat) : Int))), some (.int (iI ((i : Nat) : Int)))] [.int (iI ((t : Nat) : Int))] := by
        intro t et
        refine zx_istore_n (L' := [some (.ref (ad 0)), some (.int (iI ((m : Nat) : Int))), some (.int (iI ((t : Nat) : Int))), some (.int (iI ((i : Nat) : Int)))]) hC dX2_lengthOf_33 (by decide) rfl ?_
        refine zx_iinc (b := ((i + 1 : Nat) : Int)) (L' := [some (.ref (ad 0)), some (.int (iI ((m : Nat) : Int))), some (.int (iI ((t : Nat) : Int))), some (.int (iI ((i + 1 : Nat) : Int)))]) hC dX2_lengthOf_34 rfl (by first | rfl | omega) (by decide) rfl ?_
        refine zx_goto (tgt := 4) hC dX2_lengthOf_37 (by decide) ?_
        subst et
        exact ih (i + 1) (by omega) 
      refine zx_icmp_le (tgt := 32) hC dX2_lengthOf_18 (by decide) (by first | assumption | exact gI _ (by omega) | exact iRm (by omega) (by omega)) (by first | assumption | exact gI _ (by omega) | exact iRm (by omega) (by omega)) (fun c18 => ?_) (fun c18 => ?_)
      · refine zx_iload_n hC dX2_lengthOf_32 rfl ?_
        exact J18 _ (by rw [if_pos (by omega)])
      · refine zx_aload_n hC dX2_lengthOf_21 rfl ?_
        refine zx_bipush (z := 14) hC dX2_lengthOf_22 rfl ?_
        refine zx_iload_n hC dX2_lengthOf_24 rfl ?_
        refine zx_iadd hC dX2_lengthOf_25 ?_
        refine zx_rd1 (r := .int (iI ((h (14 + i) : Nat) : Int))) hC zNoA (zcV 1 (As := [.int (iI ((14 + i : Nat) : Int))]) hC (lw_V q1651 q1653 qs35 q93 q1654) (by decide +kernel) rfl (by rw [hRm]; decide) (by rw [hRm]; decide) rfl (Nat.le_of_ble_eq_true rfl) dX2_lengthOf_26) (m_X2_of (zl X) G ad h F r (14 + i) (by first | assumption | omega | exact iRm (by omega) (by omega) | (repeat (first | exact gL | refine rLs.up ?_ (by omega) (by omega) | refine rLs.fad ?_)) | (repeat (first | exact gM | refine rHM.up ?_ (by omega))) | exact gT _ (by omega) | exact rFadF_le gF _ | ((repeat first | rw [va_up_ne _ _ (by omega)] | rw [va_up_self] | rw [rFadH_o (by omega)] | rw [rAge_o _ _ (by omega)] | rw [rLayH_o (by omega) (by omega) (by omega) (by omega)]); omega))) (zr_rc hC hP.eq) hP.eq ?_
        refine zx_goto (tgt := 33) hC dX2_lengthOf_29 (by decide) ?_
        exact J18 _ (by rw [if_neg (by omega)])
  exact loop (m) 0 (by omega) 
