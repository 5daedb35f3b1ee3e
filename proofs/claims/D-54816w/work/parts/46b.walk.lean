/-! walked: part 46b (printed by gen/gen2.py) -/
set_option maxRecDepth 100000
set_option maxHeartbeats 4000000 in
theorem m_X1_firstLength (la : Launch) (G : zG) (a : Nat) (h : Nat → Nat) (F : Nat → Nat → Nat → Nat) (gL : rLs h) (gM : rHM h) (gF : rFb F) (g2 : h 2 ≤ 1) : zRd la yX1_firstLength cX1_firstLength 1 (some .int) 3 64 G [.ref a] (fun H => zhp G (PED G a h F) H) (fun v9 => v9 = some (.int (iI ((if h 7 = 0 then 0 else h (14 + 0) : Nat) : Int)))) := by
  refine zRd.of [some (.ref a)] (by decide) (Nat.le_of_ble_eq_true rfl) rfl (fun X hl hC hRm hP hE => ?_)
  have hp0 := hP
  obtain ⟨al, dl, st, tk, xs, ys, ho, hal, hdl, hst, hls, htk⟩ := PED_hp hp0
  have ha := pOb_at ho
  obtain ⟨sg, s0, s1, s2, hsg⟩ := pSe_hp hst
  have g7 := gL.1
  have gl := rLoop_le gL
  have gz : ∀ j, j < h 7 → h (14 + j) ≤ 48 := fun j hj => gL.2.1 j (by omega)
  refine zx_aload_n hC dX1_firstLength_0 rfl ?_
  refine zx_getf (v := .ref al) (T := TX1) (N := 12) (ci := 1) (fs := [.int (iI ((h 0 : Nat) : Int)), .ref al, .ref dl, .int (iI ((pPl h : Nat) : Int)), .int (iI ((h 9 : Nat) : Int)), .int (iI ((h 10 : Nat) : Int)), .int (iI ((h 2 : Nat) : Int)), .int (iI ((h 13 : Nat) : Int)), .ref st, .int (iI ((pBe h : Nat) : Int)), .int (iI ((h 11 : Nat) : Int)), pTv h tk]) hC in_X1 (zeq ha) rfl 1 (by decide) q193 (fun _ h => h) rfl dX1_firstLength_1 ?_
  refine zx_rd1 (r := .int (iI (zB ((h 7) = 0)))) hC zNoA (zcV 0 (As := []) hC (lw_V q997 q998 q999 q86 q1000) (by decide +kernel) rfl (by rw [hRm]; exact ⟨Nat.le_of_ble_eq_true rfl, Nat.le_of_ble_eq_true rfl⟩) (by rw [hRm]; constructor <;> (first | decide | (simp only []; omega) | omega)) rfl (Nat.le_of_ble_eq_true rfl) dX1_firstLength_4) (m_J2_isEmpty (zl X) G al (h 7) xs (by first | assumption | omega | decide | exact iRm (by omega) (by omega) | ((repeat (first | exact gL | refine rLs.up ?_ (by omega) (by omega) | refine rLs.fad ?_)); done) | ((repeat (first | exact gM | refine rHM.up ?_ (by omega))); done) | exact gT _ (by omega) | exact rFadF_le gF _ | ((repeat first | rw [va_up_ne _ _ (by omega)] | rw [va_up_self] | rw [rFadH_o (by omega)] | rw [rAge_o _ _ (by omega)] | rw [rLayH_o (by omega) (by omega) (by omega) (by omega)]); omega))) (fun H h => AL_rc hC.2.1 (h ▸ hal)) (fun H h => (h ▸ hal)) ?_
  refine zx_if_eqB (tgt := 14) hC dX1_firstLength_7 (by decide)  (fun c7 => ?_) (fun c7 => ?_)
  · refine zx_aload_n hC dX1_firstLength_14 rfl ?_
    refine zx_getf (v := .ref al) (T := TX1) (N := 12) (ci := 1) (fs := [.int (iI ((h 0 : Nat) : Int)), .ref al, .ref dl, .int (iI ((pPl h : Nat) : Int)), .int (iI ((h 9 : Nat) : Int)), .int (iI ((h 10 : Nat) : Int)), .int (iI ((h 2 : Nat) : Int)), .int (iI ((h 13 : Nat) : Int)), .ref st, .int (iI ((pBe h : Nat) : Int)), .int (iI ((h 11 : Nat) : Int)), pTv h tk]) hC in_X1 (zeq ha) rfl 1 (by decide) q193 (fun _ h => h) rfl dX1_firstLength_15 ?_
    refine zx_iconst (z := 0) hC dX1_firstLength_18 ?_
    refine zx_rd1 (r := .ref (xs 0)) hC zNoA (zcV 1 (As := [.int (iI 0)]) hC (lw_V q1001 q380 q1985 q86 q381) (by decide +kernel) rfl (by rw [hRm]; exact ⟨Nat.le_of_ble_eq_true rfl, Nat.le_of_ble_eq_true rfl⟩) (by rw [hRm]; constructor <;> (first | decide | (simp only []; omega) | omega)) rfl (Nat.le_of_ble_eq_true rfl) dX1_firstLength_19) (m_J2_get (zl X) G al (h 7) xs 0 (by first | assumption | omega | decide | exact iRm (by omega) (by omega) | ((repeat (first | exact gL | refine rLs.up ?_ (by omega) (by omega) | refine rLs.fad ?_)); done) | ((repeat (first | exact gM | refine rHM.up ?_ (by omega))); done) | exact gT _ (by omega) | exact rFadF_le gF _ | ((repeat first | rw [va_up_ne _ _ (by omega)] | rw [va_up_self] | rw [rFadH_o (by omega)] | rw [rAge_o _ _ (by omega)] | rw [rLayH_o (by omega) (by omega) (by omega) (by omega)]); omega)) (by first | assumption | omega | decide | exact iRm (by omega) (by omega) | ((repeat (first | exact gL | refine rLs.up ?_ (by omega) (by omega) | refine rLs.fad ?_)); done) | ((repeat (first | exact gM | refine rHM.up ?_ (by omega))); done) | exact gT _ (by omega) | exact rFadF_le gF _ | ((repeat first | rw [va_up_ne _ _ (by omega)] | rw [va_up_self] | rw [rFadH_o (by omega)] | rw [rAge_o _ _ (by omega)] | rw [rLayH_o (by omega) (by omega) (by omega) (by omega)]); omega))) (fun H h => AL_rc hC.2.1 (h ▸ hal)) (fun H h => (h ▸ hal)) ?_
    have hlk := hls 0 (by omega)
    obtain ⟨fsK, gK, rwK, -, haK, -, -⟩ := LAY_hp hlk
    have gz0 := gz 0 (by omega)
    refine zx_castS (ci := 3) hC q738 (zeq haK) rfl dX1_firstLength_22 ?_
    refine zx_rd1 (r := .int (iI (((h (14 + 0)) : Nat) : Int))) hC zNoA (zcV 0 (As := []) hC (lw_V q1002 q1003 q1004 q106 q1005) (by decide +kernel) rfl (by rw [hRm]; exact ⟨Nat.le_of_ble_eq_true rfl, Nat.le_of_ble_eq_true rfl⟩) (by rw [hRm]; constructor <;> (first | decide | (simp only []; omega) | omega)) rfl (Nat.le_of_ble_eq_true rfl) dX1_firstLength_25) (m_X3_length (zl X) G (xs 0) (h (14 + 0)) (F 0) (h (20 + 0)) (h (26 + 0)) (by first | assumption | omega | decide | exact iRm (by omega) (by omega) | ((repeat (first | exact gL | refine rLs.up ?_ (by omega) (by omega) | refine rLs.fad ?_)); done) | ((repeat (first | exact gM | refine rHM.up ?_ (by omega))); done) | exact gT _ (by omega) | exact rFadF_le gF _ | ((repeat first | rw [va_up_ne _ _ (by omega)] | rw [va_up_self] | rw [rFadH_o (by omega)] | rw [rAge_o _ _ (by omega)] | rw [rLayH_o (by omega) (by omega) (by omega) (by omega)]); omega))) (fun H h => zrc_of (r := (RX3, TX3, 3)) hC.2.1 ((zeq haK) H h) rfl) (fun H h => (h ▸ hlk)) ?_
    refine zx_topi (b := ((if h 7 = 0 then 0 else h (14 + 0) : Nat) : Int)) (by first | (rw [if_pos (by omega)]; first | done | rfl) | (rw [if_neg (by omega)]; first | done | rfl)) ?_
    exact zx_iret hC hE (Nat.le_refl _) (Nat.le_refl _) (fun H h => ⟨h, rfl⟩) dX1_firstLength_28
  · refine zx_iconst (z := 0) hC dX1_firstLength_10 ?_
    refine zx_goto (tgt := 28) hC dX1_firstLength_11 (by decide) ?_
    refine zx_topi (b := ((if h 7 = 0 then 0 else h (14 + 0) : Nat) : Int)) (by first | (rw [if_pos (by omega)]; first | done | rfl) | (rw [if_neg (by omega)]; first | done | rfl)) ?_
    exact zx_iret hC hE (Nat.le_refl _) (Nat.le_refl _) (fun H h => ⟨h, rfl⟩) dX1_firstLength_28
set_option maxHeartbeats 4000000 in
theorem m_X1_lengthOf (la : Launch) (G : zG) (a : Nat) (h : Nat → Nat) (F : Nat → Nat → Nat → Nat) (m : Nat) (gL : rLs h) (gM : rHM h) (gF : rFb F) (g2 : h 2 ≤ 1) (g4 : m ≤ h 7) : zRd la yX1_lengthOf cX1_lengthOf 4 (some .int) 3 64 G [.ref a, .int (iI ((m : Nat) : Int))] (fun H => zhp G (PED G a h F) H) (fun v9 => v9 = some (.int (iI ((rLen h m : Nat) : Int)))) := by
  refine zRd.of [some (.ref a), some (.int (iI ((m : Nat) : Int))), none, none] (by decide) (Nat.le_of_ble_eq_true rfl) rfl (fun X hl hC hRm hP hE => ?_)
  have hp0 := hP
  obtain ⟨al, dl, st, tk, xs, ys, ho, hal, hdl, hst, hls, htk⟩ := PED_hp hp0
  have ha := pOb_at ho
  obtain ⟨sg, s0, s1, s2, hsg⟩ := pSe_hp hst
  have g7 := gL.1
  have gl := rLoop_le gL
  have gz : ∀ j, j < h 7 → h (14 + j) ≤ 48 := fun j hj => gL.2.1 j (by omega)
  refine zx_iconst (z := 0) hC dX1_lengthOf_0 ?_
  refine zx_istore_n (L' := [some (.ref a), some (.int (iI ((m : Nat) : Int))), some (.int (iI 0)), none]) hC dX1_lengthOf_1 (by decide) rfl ?_
  refine zx_iconst (z := 0) hC dX1_lengthOf_2 ?_
  refine zx_istore_n (L' := [some (.ref a), some (.int (iI ((m : Nat) : Int))), some (.int (iI 0)), some (.int (iI 0))]) hC dX1_lengthOf_3 (by decide) rfl ?_
  have loop : ∀ n i : Nat, i + n = m → zV X 4 (fun _ => False) (fun H => H = (zs X).heap) 0 0 4 [some (.ref a), some (.int (iI ((m : Nat) : Int))), some (.int (iI ((rLen h i : Nat) : Int))), some (.int (iI ((i : Nat) : Int)))] [] := by
    intro n
    induction n with
    | zero =>
      intro i hi 
      have hiN : i = m := by omega
      rw [hiN]
      refine zx_iload_n hC dX1_lengthOf_4 rfl ?_
      refine zx_iload_n hC dX1_lengthOf_5 rfl ?_
      refine zx_icmp_geT (tgt := 34) hC dX1_lengthOf_6 (by decide) (by first | assumption | exact gI _ (by omega) | exact iRm (by omega) (by omega)) (by first | assumption | exact gI _ (by omega) | exact iRm (by omega) (by omega)) (by omega) ?_
      refine zx_iload_n hC dX1_lengthOf_34 rfl ?_
      exact zx_iret hC hE (Nat.le_refl _) (Nat.le_refl _) (fun H h => ⟨h, rfl⟩) dX1_lengthOf_35
    | succ n ih =>
      intro i hi 
      have gi := gz i (by omega)
      have gm := rLen_le gL (n := i) (by omega)
      refine zx_iload_n hC dX1_lengthOf_4 rfl ?_
      refine zx_iload_n hC dX1_lengthOf_5 rfl ?_
      refine zx_icmp_geF (tgt := 34) hC dX1_lengthOf_6 (by decide) (by first | assumption | exact gI _ (by omega) | exact iRm (by omega) (by omega)) (by first | assumption | exact gI _ (by omega) | exact iRm (by omega) (by omega)) (by omega) ?_
      refine zx_iload_n hC dX1_lengthOf_9 rfl ?_
      refine zx_aload_n hC dX1_lengthOf_10 rfl ?_
      refine zx_getf (v := .ref al) (T := TX1) (N := 12) (ci := 1) (fs := [.int (iI ((h 0 : Nat) : Int)), .ref al, .ref dl, .int (iI ((pPl h : Nat) : Int)), .int (iI ((h 9 : Nat) : Int)), .int (iI ((h 10 : Nat) : Int)), .int (iI ((h 2 : Nat) : Int)), .int (iI ((h 13 : Nat) : Int)), .ref st, .int (iI ((pBe h : Nat) : Int)), .int (iI ((h 11 : Nat) : Int)), pTv h tk]) hC in_X1 (zeq ha) rfl 1 (by decide) q193 (fun _ h => h) rfl dX1_lengthOf_11 ?_
      refine zx_iload_n hC dX1_lengthOf_14 rfl ?_
      refine zx_rd1 (r := .ref (xs i)) hC zNoA (zcV 1 (As := [.int (iI ((i : Nat) : Int))]) hC (lw_V q1001 q380 q1985 q86 q381) (by decide +kernel) rfl (by rw [hRm]; exact ⟨Nat.le_of_ble_eq_true rfl, Nat.le_of_ble_eq_true rfl⟩) (by rw [hRm]; constructor <;> (first | decide | (simp only []; omega) | omega)) rfl (Nat.le_of_ble_eq_true rfl) dX1_lengthOf_15) (m_J2_get (zl X) G al (h 7) xs i (by first | assumption | omega | decide | exact iRm (by omega) (by omega) | ((repeat (first | exact gL | refine rLs.up ?_ (by omega) (by omega) | refine rLs.fad ?_)); done) | ((repeat (first | exact gM | refine rHM.up ?_ (by omega))); done) | exact gT _ (by omega) | exact rFadF_le gF _ | ((repeat first | rw [va_up_ne _ _ (by omega)] | rw [va_up_self] | rw [rFadH_o (by omega)] | rw [rAge_o _ _ (by omega)] | rw [rLayH_o (by omega) (by omega) (by omega) (by omega)]); omega)) (by first | assumption | omega | decide | exact iRm (by omega) (by omega) | ((repeat (first | exact gL | refine rLs.up ?_ (by omega) (by omega) | refine rLs.fad ?_)); done) | ((repeat (first | exact gM | refine rHM.up ?_ (by omega))); done) | exact gT _ (by omega) | exact rFadF_le gF _ | ((repeat first | rw [va_up_ne _ _ (by omega)] | rw [va_up_self] | rw [rFadH_o (by omega)] | rw [rAge_o _ _ (by omega)] | rw [rLayH_o (by omega) (by omega) (by omega) (by omega)]); omega))) (fun H h => AL_rc hC.2.1 (h ▸ hal)) (fun H h => (h ▸ hal)) ?_
      have hlk := hls i (by omega)
      obtain ⟨fsK, gK, rwK, -, haK, -, -⟩ := LAY_hp hlk
      refine zx_castS (ci := 3) hC q738 (zeq haK) rfl dX1_lengthOf_18 ?_
      refine zx_rd1 (r := .int (iI (((h (14 + i)) : Nat) : Int))) hC zNoA (zcV 0 (As := []) hC (lw_V q1002 q1003 q1004 q106 q1005) (by decide +kernel) rfl (by rw [hRm]; exact ⟨Nat.le_of_ble_eq_true rfl, Nat.le_of_ble_eq_true rfl⟩) (by rw [hRm]; constructor <;> (first | decide | (simp only []; omega) | omega)) rfl (Nat.le_of_ble_eq_true rfl) dX1_lengthOf_21) (m_X3_length (zl X) G (xs i) (h (14 + i)) (F i) (h (20 + i)) (h (26 + i)) (by first | assumption | omega | decide | exact iRm (by omega) (by omega) | ((repeat (first | exact gL | refine rLs.up ?_ (by omega) (by omega) | refine rLs.fad ?_)); done) | ((repeat (first | exact gM | refine rHM.up ?_ (by omega))); done) | exact gT _ (by omega) | exact rFadF_le gF _ | ((repeat first | rw [va_up_ne _ _ (by omega)] | rw [va_up_self] | rw [rFadH_o (by omega)] | rw [rAge_o _ _ (by omega)] | rw [rLayH_o (by omega) (by omega) (by omega) (by omega)]); omega))) (fun H h => zrc_of (r := (RX3, TX3, 3)) hC.2.1 ((zeq haK) H h) rfl) (fun H h => (h ▸ hlk)) ?_
      refine zx_mmax hC q1018 (by rw [hRm]; exact ⟨Nat.le_of_ble_eq_true rfl, Nat.le_of_ble_eq_true rfl⟩) (Nat.le_of_ble_eq_true rfl) (by rw [hRm]; constructor <;> (first | decide | (simp only []; omega) | omega)) (by first | assumption | exact gI _ (by omega) | exact iRm (by omega) (by omega)) (by first | assumption | exact gI _ (by omega) | exact iRm (by omega) (by omega)) dX1_lengthOf_24 ?_
      refine zx_topi (b := ((if (rLen h i) < (h (14 + i)) then (h (14 + i)) else (rLen h i) : Nat) : Int)) (by first | rfl | (split <;> split <;> omega)) ?_
      refine zx_topi (b := ((rLen h (i + 1) : Nat) : Int)) (by show _ = (((if h (14 + i) ≤ rLen h i then rLen h i else h (14 + i)) : Nat) : Int); split <;> split <;> omega) ?_
      refine zx_istore_n (L' := [some (.ref a), some (.int (iI ((m : Nat) : Int))), some (.int (iI ((rLen h (i + 1) : Nat) : Int))), some (.int (iI ((i : Nat) : Int)))]) hC dX1_lengthOf_27 (by decide) rfl ?_
      refine zx_iinc (b := ((i + 1 : Nat) : Int)) (L' := [some (.ref a), some (.int (iI ((m : Nat) : Int))), some (.int (iI ((rLen h (i + 1) : Nat) : Int))), some (.int (iI ((i + 1 : Nat) : Int)))]) hC dX1_lengthOf_28 rfl (by first | rfl | omega) (by decide) rfl ?_
      refine zx_goto (tgt := 4) hC dX1_lengthOf_31 (by decide) ?_
      exact ih (i + 1) (by omega) 
  exact loop (m) 0 (by omega) 
set_option maxHeartbeats 4000000 in
theorem m_X1_length (la : Launch) (G : zG) (a : Nat) (h : Nat → Nat) (F : Nat → Nat → Nat → Nat) (gL : rLs h) (gM : rHM h) (gF : rFb F) (g2 : h 2 ≤ 1) : zRd la yX1_length cX1_length 1 (some .int) 4 87 G [.ref a] (fun H => zhp G (PED G a h F) H) (fun v9 => v9 = some (.int (iI ((rLoop h : Nat) : Int)))) := by
  refine zRd.of [some (.ref a)] (by decide) (Nat.le_of_ble_eq_true rfl) rfl (fun X hl hC hRm hP hE => ?_)
  have hp0 := hP
  obtain ⟨al, dl, st, tk, xs, ys, ho, hal, hdl, hst, hls, htk⟩ := PED_hp hp0
  have ha := pOb_at ho
  obtain ⟨sg, s0, s1, s2, hsg⟩ := pSe_hp hst
  have g7 := gL.1
  have gl := rLoop_le gL
  refine zx_aload_n hC dX1_length_0 rfl ?_
  refine zx_aload_n hC dX1_length_1 rfl ?_
  refine zx_getf (v := .ref al) (T := TX1) (N := 12) (ci := 1) (fs := [.int (iI ((h 0 : Nat) : Int)), .ref al, .ref dl, .int (iI ((pPl h : Nat) : Int)), .int (iI ((h 9 : Nat) : Int)), .int (iI ((h 10 : Nat) : Int)), .int (iI ((h 2 : Nat) : Int)), .int (iI ((h 13 : Nat) : Int)), .ref st, .int (iI ((pBe h : Nat) : Int)), .int (iI ((h 11 : Nat) : Int)), pTv h tk]) hC in_X1 (zeq ha) rfl 1 (by decide) q193 (fun _ h => h) rfl dX1_length_2 ?_
  refine zx_rd1 (r := .int (iI (((h 7) : Nat) : Int))) hC zNoA (zcV 0 (As := []) hC (lw_V q976 q342 q1984 q86 q343) (by decide +kernel) rfl (by rw [hRm]; exact ⟨Nat.le_of_ble_eq_true rfl, Nat.le_of_ble_eq_true rfl⟩) (by rw [hRm]; constructor <;> (first | decide | (simp only []; omega) | omega)) rfl (Nat.le_of_ble_eq_true rfl) dX1_length_5) (m_J2_size (zl X) G al (h 7) xs ) (fun H h => AL_rc hC.2.1 (h ▸ hal)) (fun H h => (h ▸ hal)) ?_
  refine zx_rd1 (r := .int (iI ((rLen h (h 7) : Nat) : Int))) hC zNoA (zcV 1 (As := [.int (iI (((h 7) : Nat) : Int))]) hC (lw_V q1014 q1015 q1016 q83 q1017) (by decide +kernel) rfl (by rw [hRm]; exact ⟨Nat.le_of_ble_eq_true rfl, Nat.le_of_ble_eq_true rfl⟩) (by rw [hRm]; constructor <;> (first | decide | (simp only []; omega) | omega)) rfl (Nat.le_of_ble_eq_true rfl) dX1_length_8) (m_X1_lengthOf (zl X) G a h F (h 7) (by first | assumption | omega | decide | exact iRm (by omega) (by omega) | ((repeat (first | exact gL | refine rLs.up ?_ (by omega) (by omega) | refine rLs.fad ?_)); done) | ((repeat (first | exact gM | refine rHM.up ?_ (by omega))); done) | exact gT _ (by omega) | exact rFadF_le gF _ | ((repeat first | rw [va_up_ne _ _ (by omega)] | rw [va_up_self] | rw [rFadH_o (by omega)] | rw [rAge_o _ _ (by omega)] | rw [rLayH_o (by omega) (by omega) (by omega) (by omega)]); omega)) (by first | assumption | omega | decide | exact iRm (by omega) (by omega) | ((repeat (first | exact gL | refine rLs.up ?_ (by omega) (by omega) | refine rLs.fad ?_)); done) | ((repeat (first | exact gM | refine rHM.up ?_ (by omega))); done) | exact gT _ (by omega) | exact rFadF_le gF _ | ((repeat first | rw [va_up_ne _ _ (by omega)] | rw [va_up_self] | rw [rFadH_o (by omega)] | rw [rAge_o _ _ (by omega)] | rw [rLayH_o (by omega) (by omega) (by omega) (by omega)]); omega)) (by first | assumption | omega | decide | exact iRm (by omega) (by omega) | ((repeat (first | exact gL | refine rLs.up ?_ (by omega) (by omega) | refine rLs.fad ?_)); done) | ((repeat (first | exact gM | refine rHM.up ?_ (by omega))); done) | exact gT _ (by omega) | exact rFadF_le gF _ | ((repeat first | rw [va_up_ne _ _ (by omega)] | rw [va_up_self] | rw [rFadH_o (by omega)] | rw [rAge_o _ _ (by omega)] | rw [rLayH_o (by omega) (by omega) (by omega) (by omega)]); omega)) (by first | assumption | omega | decide | exact iRm (by omega) (by omega) | ((repeat (first | exact gL | refine rLs.up ?_ (by omega) (by omega) | refine rLs.fad ?_)); done) | ((repeat (first | exact gM | refine rHM.up ?_ (by omega))); done) | exact gT _ (by omega) | exact rFadF_le gF _ | ((repeat first | rw [va_up_ne _ _ (by omega)] | rw [va_up_self] | rw [rFadH_o (by omega)] | rw [rAge_o _ _ (by omega)] | rw [rLayH_o (by omega) (by omega) (by omega) (by omega)]); omega)) (by first | assumption | omega | decide | exact iRm (by omega) (by omega) | ((repeat (first | exact gL | refine rLs.up ?_ (by omega) (by omega) | refine rLs.fad ?_)); done) | ((repeat (first | exact gM | refine rHM.up ?_ (by omega))); done) | exact gT _ (by omega) | exact rFadF_le gF _ | ((repeat first | rw [va_up_ne _ _ (by omega)] | rw [va_up_self] | rw [rFadH_o (by omega)] | rw [rAge_o _ _ (by omega)] | rw [rLayH_o (by omega) (by omega) (by omega) (by omega)]); omega))) (fun H h => zrc_of (r := (RX1, TX1, 12)) hC.2.1 ((zeq ha) H h) rfl) (fun H h => (h ▸ hp0)) ?_
  exact zx_iret hC hE (Nat.le_refl _) (Nat.le_refl _) (fun H h => ⟨h, rfl⟩) dX1_length_11
set_option maxHeartbeats 4000000 in
theorem m_X1_keptRing (la : Launch) (G : zG) (a : Nat) (h : Nat → Nat) (F : Nat → Nat → Nat → Nat) (c : Nat) (key : Nat) (m : Nat) (gL : rLs h) (gM : rHM h) (gF : rFb F) (g2 : h 2 ≤ 1) (g4 : m ≤ h 7) (g5 : c < 1000) (g6 : key < 36) : zRd la yX1_keptRing cX1_keptRing 6 (some .int) 3 64 G [.ref a, .int (iI ((c : Nat) : Int)), .int (iI ((key : Nat) : Int)), .int (iI ((m : Nat) : Int))] (fun H => zhp G (PED G a h F) H) (fun v9 => v9 = some (.int (iI ((kRing h F m c key : Nat) : Int)))) := by
  refine zRd.of [some (.ref a), some (.int (iI ((c : Nat) : Int))), some (.int (iI ((key : Nat) : Int))), some (.int (iI ((m : Nat) : Int))), none, none] (by decide) (Nat.le_of_ble_eq_true rfl) rfl (fun X hl hC hRm hP hE => ?_)
  have hp0 := hP
  obtain ⟨al, dl, st, tk, xs, ys, ho, hal, hdl, hst, hls, htk⟩ := PED_hp hp0
  have ha := pOb_at ho
  obtain ⟨sg, s0, s1, s2, hsg⟩ := pSe_hp hst
  have g7 := gL.1
  have gl := rLoop_le gL
  have gz : ∀ j, j < h 7 → h (14 + j) ≤ 48 ∧ 1 ≤ h (14 + j) ∧ h (20 + j) ≤ 1 := fun j hj => ⟨gL.2.1 j (by omega), gL.2.2 j hj, gM j (by omega)⟩
  refine zx_iconst (z := 0) hC dX1_keptRing_0 ?_
  refine zx_istore (L' := [some (.ref a), some (.int (iI ((c : Nat) : Int))), some (.int (iI ((key : Nat) : Int))), some (.int (iI ((m : Nat) : Int))), some (.int (iI 0)), none]) hC dX1_keptRing_1 (by decide) rfl ?_
  refine zx_iconst (z := 0) hC dX1_keptRing_3 ?_
  refine zx_istore (L' := [some (.ref a), some (.int (iI ((c : Nat) : Int))), some (.int (iI ((key : Nat) : Int))), some (.int (iI ((m : Nat) : Int))), some (.int (iI 0)), some (.int (iI 0))]) hC dX1_keptRing_4 (by decide) rfl ?_
  have loop : ∀ n i : Nat, i + n = m → zV X 6 (fun _ => False) (fun H => H = (zs X).heap) 0 0 6 [some (.ref a), some (.int (iI ((c : Nat) : Int))), some (.int (iI ((key : Nat) : Int))), some (.int (iI ((m : Nat) : Int))), some (.int (iI ((kRing h F i c key : Nat) : Int))), some (.int (iI ((i : Nat) : Int)))] [] := by
    intro n
    induction n with
    | zero =>
      intro i hi 
      have hiN : i = m := by omega
      rw [hiN]
      refine zx_iload hC dX1_keptRing_6 rfl ?_
      refine zx_iload_n hC dX1_keptRing_8 rfl ?_
      refine zx_icmp_geT (tgt := 62) hC dX1_keptRing_9 (by decide) (by first | assumption | exact gI _ (by omega) | exact iRm (by omega) (by omega)) (by first | assumption | exact gI _ (by omega) | exact iRm (by omega) (by omega)) (by omega) ?_
      refine zx_iload hC dX1_keptRing_62 rfl ?_
      exact zx_iret hC hE (Nat.le_refl _) (Nat.le_refl _) (fun H h => ⟨h, rfl⟩) dX1_keptRing_64
    | succ n ih =>
      intro i hi 
      have gi := gz i (by omega)
      have gk := kRing_le (h := h) gF i c key
      have gf := gF i (c % h (14 + i)) key
      refine zx_iload hC dX1_keptRing_6 rfl ?_
      refine zx_iload_n hC dX1_keptRing_8 rfl ?_
      refine zx_icmp_geF (tgt := 62) hC dX1_keptRing_9 (by decide) (by first | assumption | exact gI _ (by omega) | exact iRm (by omega) (by omega)) (by first | assumption | exact gI _ (by omega) | exact iRm (by omega) (by omega)) (by omega) ?_
      refine zx_iload hC dX1_keptRing_12 rfl ?_
      refine zx_aload_n hC dX1_keptRing_14 rfl ?_
      refine zx_getf (v := .ref al) (T := TX1) (N := 12) (ci := 1) (fs := [.int (iI ((h 0 : Nat) : Int)), .ref al, .ref dl, .int (iI ((pPl h : Nat) : Int)), .int (iI ((h 9 : Nat) : Int)), .int (iI ((h 10 : Nat) : Int)), .int (iI ((h 2 : Nat) : Int)), .int (iI ((h 13 : Nat) : Int)), .ref st, .int (iI ((pBe h : Nat) : Int)), .int (iI ((h 11 : Nat) : Int)), pTv h tk]) hC in_X1 (zeq ha) rfl 1 (by decide) q193 (fun _ h => h) rfl dX1_keptRing_15 ?_
      refine zx_iload hC dX1_keptRing_18 rfl ?_
      refine zx_rd1 (r := .ref (xs i)) hC zNoA (zcV 1 (As := [.int (iI ((i : Nat) : Int))]) hC (lw_V q1001 q380 q1985 q86 q381) (by decide +kernel) rfl (by rw [hRm]; exact ⟨Nat.le_of_ble_eq_true rfl, Nat.le_of_ble_eq_true rfl⟩) (by rw [hRm]; constructor <;> (first | decide | (simp only []; omega) | omega)) rfl (Nat.le_of_ble_eq_true rfl) dX1_keptRing_20) (m_J2_get (zl X) G al (h 7) xs i (by first | assumption | omega | decide | exact iRm (by omega) (by omega) | ((repeat (first | exact gL | refine rLs.up ?_ (by omega) (by omega) | refine rLs.fad ?_)); done) | ((repeat (first | exact gM | refine rHM.up ?_ (by omega))); done) | exact gT _ (by omega) | exact rFadF_le gF _ | ((repeat first | rw [va_up_ne _ _ (by omega)] | rw [va_up_self] | rw [rFadH_o (by omega)] | rw [rAge_o _ _ (by omega)] | rw [rLayH_o (by omega) (by omega) (by omega) (by omega)]); omega)) (by first | assumption | omega | decide | exact iRm (by omega) (by omega) | ((repeat (first | exact gL | refine rLs.up ?_ (by omega) (by omega) | refine rLs.fad ?_)); done) | ((repeat (first | exact gM | refine rHM.up ?_ (by omega))); done) | exact gT _ (by omega) | exact rFadF_le gF _ | ((repeat first | rw [va_up_ne _ _ (by omega)] | rw [va_up_self] | rw [rFadH_o (by omega)] | rw [rAge_o _ _ (by omega)] | rw [rLayH_o (by omega) (by omega) (by omega) (by omega)]); omega))) (fun H h => AL_rc hC.2.1 (h ▸ hal)) (fun H h => (h ▸ hal)) ?_
      have hlk := hls i (by omega)
      obtain ⟨fsK, gK, rwK, -, haK, -, -⟩ := LAY_hp hlk
      refine zx_castS (ci := 3) hC q738 (zeq haK) rfl dX1_keptRing_23 ?_
      have J26 : zV X 6 (fun _ => False) (fun H => H = (zs X).heap) 0 0 53 [some (.ref a), some (.int (iI ((c : Nat) : Int))), some (.int (iI ((key : Nat) : Int))), some (.int (iI ((m : Nat) : Int))), some (.int (iI ((kRing h F i c key : Nat) : Int))), some (.int (iI ((i : Nat) : Int)))] [.int (iI ((if h (20 + i) = 1 then 0 else F i (c % h (14 + i)) key : Nat) : Int)), .int (iI ((kRing h F i c key : Nat) : Int))] := by
        refine zx_iadd hC dX1_keptRing_53 ?_
        refine zx_istore (L' := [some (.ref a), some (.int (iI ((c : Nat) : Int))), some (.int (iI ((key : Nat) : Int))), some (.int (iI ((m : Nat) : Int))), some (.int (iI (((kRing h F i c key) + (if h (20 + i) = 1 then 0 else F i (c % h (14 + i)) key) : Nat) : Int))), some (.int (iI ((i : Nat) : Int)))]) hC dX1_keptRing_54 (by decide) rfl ?_
        refine zx_iinc (b := ((i + 1 : Nat) : Int)) (L' := [some (.ref a), some (.int (iI ((c : Nat) : Int))), some (.int (iI ((key : Nat) : Int))), some (.int (iI ((m : Nat) : Int))), some (.int (iI (((kRing h F i c key) + (if h (20 + i) = 1 then 0 else F i (c % h (14 + i)) key) : Nat) : Int))), some (.int (iI ((i + 1 : Nat) : Int)))]) hC dX1_keptRing_56 rfl (by first | rfl | omega) (by decide) rfl ?_
        refine zx_goto (tgt := 6) hC dX1_keptRing_59 (by decide) ?_
        exact ih (i + 1) (by omega) 
      refine zx_getfN (v := .int (iI ((h (20 + i) : Nat) : Int))) (T := TX3) (N := 3) (ci := 3) (fs := [.ref fsK, .int (iI ((h (20 + i) : Nat) : Int)), .int (iI ((h (26 + i) : Nat) : Int))]) hC in_X3 (zeq haK) rfl 1 (by decide) q754 (fun _ h => h) rfl dX1_keptRing_26 ?_
      refine zx_if_eq (tgt := 36) hC dX1_keptRing_29 (by decide) (by first | assumption | exact gI _ (by omega) | exact iRm (by omega) (by omega)) (fun c29 => ?_) (fun c29 => ?_)
      · refine zx_aload_n hC dX1_keptRing_36 rfl ?_
        refine zx_getf (v := .ref al) (T := TX1) (N := 12) (ci := 1) (fs := [.int (iI ((h 0 : Nat) : Int)), .ref al, .ref dl, .int (iI ((pPl h : Nat) : Int)), .int (iI ((h 9 : Nat) : Int)), .int (iI ((h 10 : Nat) : Int)), .int (iI ((h 2 : Nat) : Int)), .int (iI ((h 13 : Nat) : Int)), .ref st, .int (iI ((pBe h : Nat) : Int)), .int (iI ((h 11 : Nat) : Int)), pTv h tk]) hC in_X1 (zeq ha) rfl 1 (by decide) q193 (fun _ h => h) rfl dX1_keptRing_37 ?_
        refine zx_iload hC dX1_keptRing_40 rfl ?_
        refine zx_rd1 (r := .ref (xs i)) hC zNoA (zcV 1 (As := [.int (iI ((i : Nat) : Int))]) hC (lw_V q1001 q380 q1985 q86 q381) (by decide +kernel) rfl (by rw [hRm]; exact ⟨Nat.le_of_ble_eq_true rfl, Nat.le_of_ble_eq_true rfl⟩) (by rw [hRm]; constructor <;> (first | decide | (simp only []; omega) | omega)) rfl (Nat.le_of_ble_eq_true rfl) dX1_keptRing_42) (m_J2_get (zl X) G al (h 7) xs i (by first | assumption | omega | decide | exact iRm (by omega) (by omega) | ((repeat (first | exact gL | refine rLs.up ?_ (by omega) (by omega) | refine rLs.fad ?_)); done) | ((repeat (first | exact gM | refine rHM.up ?_ (by omega))); done) | exact gT _ (by omega) | exact rFadF_le gF _ | ((repeat first | rw [va_up_ne _ _ (by omega)] | rw [va_up_self] | rw [rFadH_o (by omega)] | rw [rAge_o _ _ (by omega)] | rw [rLayH_o (by omega) (by omega) (by omega) (by omega)]); omega)) (by first | assumption | omega | decide | exact iRm (by omega) (by omega) | ((repeat (first | exact gL | refine rLs.up ?_ (by omega) (by omega) | refine rLs.fad ?_)); done) | ((repeat (first | exact gM | refine rHM.up ?_ (by omega))); done) | exact gT _ (by omega) | exact rFadF_le gF _ | ((repeat first | rw [va_up_ne _ _ (by omega)] | rw [va_up_self] | rw [rFadH_o (by omega)] | rw [rAge_o _ _ (by omega)] | rw [rLayH_o (by omega) (by omega) (by omega) (by omega)]); omega))) (fun H h => AL_rc hC.2.1 (h ▸ hal)) (fun H h => (h ▸ hal)) ?_
        refine zx_castS (ci := 3) hC q738 (zeq haK) rfl dX1_keptRing_45 ?_
        refine zx_iload_n hC dX1_keptRing_48 rfl ?_
        refine zx_iload_n hC dX1_keptRing_49 rfl ?_
        refine zx_rd1 (r := .int (iI (((F i) (c % (h (14 + i))) key : Nat) : Int))) hC zNoA (zcV 2 (As := [.int (iI ((c : Nat) : Int)), .int (iI ((key : Nat) : Int))]) hC (lw_V q1467 q1468 q1469 q106 q1470) (by decide +kernel) rfl (by rw [hRm]; exact ⟨Nat.le_of_ble_eq_true rfl, Nat.le_of_ble_eq_true rfl⟩) (by rw [hRm]; constructor <;> (first | decide | (simp only []; omega) | omega)) rfl (Nat.le_of_ble_eq_true rfl) dX1_keptRing_50) (m_X3_force (zl X) G (xs i) (h (14 + i)) (F i) (h (20 + i)) (h (26 + i)) c key (by first | assumption | omega | decide | exact iRm (by omega) (by omega) | ((repeat (first | exact gL | refine rLs.up ?_ (by omega) (by omega) | refine rLs.fad ?_)); done) | ((repeat (first | exact gM | refine rHM.up ?_ (by omega))); done) | exact gT _ (by omega) | exact rFadF_le gF _ | ((repeat first | rw [va_up_ne _ _ (by omega)] | rw [va_up_self] | rw [rFadH_o (by omega)] | rw [rAge_o _ _ (by omega)] | rw [rLayH_o (by omega) (by omega) (by omega) (by omega)]); omega)) (by first | assumption | omega | decide | exact iRm (by omega) (by omega) | ((repeat (first | exact gL | refine rLs.up ?_ (by omega) (by omega) | refine rLs.fad ?_)); done) | ((repeat (first | exact gM | refine rHM.up ?_ (by omega))); done) | exact gT _ (by omega) | exact rFadF_le gF _ | ((repeat first | rw [va_up_ne _ _ (by omega)] | rw [va_up_self] | rw [rFadH_o (by omega)] | rw [rAge_o _ _ (by omega)] | rw [rLayH_o (by omega) (by omega) (by omega) (by omega)]); omega)) (by first | assumption | omega | decide | exact iRm (by omega) (by omega) | ((repeat (first | exact gL | refine rLs.up ?_ (by omega) (by omega) | refine rLs.fad ?_)); done) | ((repeat (first | exact gM | refine rHM.up ?_ (by omega))); done) | exact gT _ (by omega) | exact rFadF_le gF _ | ((repeat first | rw [va_up_ne _ _ (by omega)] | rw [va_up_self] | rw [rFadH_o (by omega)] | rw [rAge_o _ _ (by omega)] | rw [rLayH_o (by omega) (by omega) (by omega) (by omega)]); omega)) (by first | assumption | omega | decide | exact iRm (by omega) (by omega) | ((repeat (first | exact gL | refine rLs.up ?_ (by omega) (by omega) | refine rLs.fad ?_)); done) | ((repeat (first | exact gM | refine rHM.up ?_ (by omega))); done) | exact gT _ (by omega) | exact rFadF_le gF _ | ((repeat first | rw [va_up_ne _ _ (by omega)] | rw [va_up_self] | rw [rFadH_o (by omega)] | rw [rAge_o _ _ (by omega)] | rw [rLayH_o (by omega) (by omega) (by omega) (by omega)]); omega))) (fun H h => zrc_of (r := (RX3, TX3, 3)) hC.2.1 ((zeq haK) H h) rfl) (fun H h => (h ▸ hlk)) ?_
        refine zx_topi (b := ((if h (20 + i) = 1 then 0 else F i (c % h (14 + i)) key : Nat) : Int)) (by first | (rw [if_pos (by omega)]; first | done | rfl) | (rw [if_neg (by omega)]; first | done | rfl)) ?_
        exact J26
      · refine zx_iconst (z := 0) hC dX1_keptRing_32 ?_
        refine zx_goto (tgt := 53) hC dX1_keptRing_33 (by decide) ?_
        refine zx_topi (b := ((if h (20 + i) = 1 then 0 else F i (c % h (14 + i)) key : Nat) : Int)) (by first | (rw [if_pos (by omega)]; first | done | rfl) | (rw [if_neg (by omega)]; first | done | rfl)) ?_
        exact J26
  exact loop (m) 0 (by omega) 
set_option maxHeartbeats 4000000 in
theorem m_X1_ring (la : Launch) (G : zG) (a : Nat) (h : Nat → Nat) (F : Nat → Nat → Nat → Nat) (c : Nat) (key : Nat) (m : Nat) (gL : rLs h) (gM : rHM h) (gF : rFb F) (g2 : h 2 ≤ 1) (g4 : m ≤ h 7) (g5 : c < 1000) (g6 : key < 36) : zRd la yX1_ring cX1_ring 5 (some .int) 4 89 G [.ref a, .int (iI ((c : Nat) : Int)), .int (iI ((key : Nat) : Int)), .int (iI ((m : Nat) : Int))] (fun H => zhp G (PED G a h F) H) (fun v9 => v9 = some (.int (iI ((rRing h F m c key : Nat) : Int)))) := by
  refine zRd.of [some (.ref a), some (.int (iI ((c : Nat) : Int))), some (.int (iI ((key : Nat) : Int))), some (.int (iI ((m : Nat) : Int))), none] (by decide) (Nat.le_of_ble_eq_true rfl) rfl (fun X hl hC hRm hP hE => ?_)
  have hp0 := hP
  obtain ⟨al, dl, st, tk, xs, ys, ho, hal, hdl, hst, hls, htk⟩ := PED_hp hp0
  have ha := pOb_at ho
  obtain ⟨sg, s0, s1, s2, hsg⟩ := pSe_hp hst
  have g7 := gL.1
  have gl := rLoop_le gL
  have gr := rRing_le' (h := h) gF m c key
  refine zx_iload_n hC dX1_ring_0 rfl ?_
  refine zx_bipush (z := 12) hC dX1_ring_1 rfl ?_
  refine zx_aload_n hC dX1_ring_3 rfl ?_
  refine zx_getf (v := .int (iI ((h 2 : Nat) : Int))) (T := TX1) (N := 12) (ci := 1) (fs := [.int (iI ((h 0 : Nat) : Int)), .ref al, .ref dl, .int (iI ((pPl h : Nat) : Int)), .int (iI ((h 9 : Nat) : Int)), .int (iI ((h 10 : Nat) : Int)), .int (iI ((h 2 : Nat) : Int)), .int (iI ((h 13 : Nat) : Int)), .ref st, .int (iI ((pBe h : Nat) : Int)), .int (iI ((h 11 : Nat) : Int)), pTv h tk]) hC in_X1 (zeq ha) rfl 6 (by decide) q203 (fun _ h => h) rfl dX1_ring_4 ?_
  refine zx_imul hC dX1_ring_7 ?_
  refine zx_iadd hC dX1_ring_8 ?_
  refine zx_istore (L' := [some (.ref a), some (.int (iI ((c : Nat) : Int))), some (.int (iI ((key : Nat) : Int))), some (.int (iI ((m : Nat) : Int))), some (.int (iI ((key + (12 * (h 2)) : Nat) : Int)))]) hC dX1_ring_9 (by decide) rfl ?_
  refine zx_iload hC dX1_ring_11 rfl ?_
  refine zx_bipush (z := 36) hC dX1_ring_13 rfl ?_
  refine zx_icmp_ge (tgt := 29) hC dX1_ring_15 (by decide) (by first | assumption | exact gI _ (by omega) | exact iRm (by omega) (by omega)) (by first | assumption | exact gI _ (by omega) | exact iRm (by omega) (by omega)) (fun c15 => ?_) (fun c15 => ?_)
  · refine zx_iconst (z := 0) hC dX1_ring_29 ?_
    refine zx_topi (b := ((rRing h F m c key : Nat) : Int)) (by first | (rw [show key + 12 * h 2 = key + 12 * h 2 from rfl]; exact congrArg (fun z : Nat => (z : Int)) (rRing_in (by omega))) | exact congrArg (fun z : Nat => (z : Int)) (rRing_out (by omega) m).symm) ?_
    exact zx_iret hC hE (Nat.le_refl _) (Nat.le_refl _) (fun H h => ⟨h, rfl⟩) dX1_ring_30
  · refine zx_aload_n hC dX1_ring_18 rfl ?_
    refine zx_iload_n hC dX1_ring_19 rfl ?_
    refine zx_iload hC dX1_ring_20 rfl ?_
    refine zx_iload_n hC dX1_ring_22 rfl ?_
    refine zx_rd1 (r := .int (iI ((kRing h F m c (key + (12 * (h 2))) : Nat) : Int))) hC zNoA (zcV 3 (As := [.int (iI ((c : Nat) : Int)), .int (iI ((key + (12 * (h 2)) : Nat) : Int)), .int (iI ((m : Nat) : Int))]) hC (lw_V q1463 q1465 qs30 q83 q1466) (by decide +kernel) rfl (by rw [hRm]; exact ⟨Nat.le_of_ble_eq_true rfl, Nat.le_of_ble_eq_true rfl⟩) (by rw [hRm]; constructor <;> (first | decide | (simp only []; omega) | omega)) rfl (Nat.le_of_ble_eq_true rfl) dX1_ring_23) (m_X1_keptRing (zl X) G a h F c (key + (12 * (h 2))) m (by first | assumption | omega | decide | exact iRm (by omega) (by omega) | ((repeat (first | exact gL | refine rLs.up ?_ (by omega) (by omega) | refine rLs.fad ?_)); done) | ((repeat (first | exact gM | refine rHM.up ?_ (by omega))); done) | exact gT _ (by omega) | exact rFadF_le gF _ | ((repeat first | rw [va_up_ne _ _ (by omega)] | rw [va_up_self] | rw [rFadH_o (by omega)] | rw [rAge_o _ _ (by omega)] | rw [rLayH_o (by omega) (by omega) (by omega) (by omega)]); omega)) (by first | assumption | omega | decide | exact iRm (by omega) (by omega) | ((repeat (first | exact gL | refine rLs.up ?_ (by omega) (by omega) | refine rLs.fad ?_)); done) | ((repeat (first | exact gM | refine rHM.up ?_ (by omega))); done) | exact gT _ (by omega) | exact rFadF_le gF _ | ((repeat first | rw [va_up_ne _ _ (by omega)] | rw [va_up_self] | rw [rFadH_o (by omega)] | rw [rAge_o _ _ (by omega)] | rw [rLayH_o (by omega) (by omega) (by omega) (by omega)]); omega)) (by first | assumption | omega | decide | exact iRm (by omega) (by omega) | ((repeat (first | exact gL | refine rLs.up ?_ (by omega) (by omega) | refine rLs.fad ?_)); done) | ((repeat (first | exact gM | refine rHM.up ?_ (by omega))); done) | exact gT _ (by omega) | exact rFadF_le gF _ | ((repeat first | rw [va_up_ne _ _ (by omega)] | rw [va_up_self] | rw [rFadH_o (by omega)] | rw [rAge_o _ _ (by omega)] | rw [rLayH_o (by omega) (by omega) (by omega) (by omega)]); omega)) (by first | assumption | omega | decide | exact iRm (by omega) (by omega) | ((repeat (first | exact gL | refine rLs.up ?_ (by omega) (by omega) | refine rLs.fad ?_)); done) | ((repeat (first | exact gM | refine rHM.up ?_ (by omega))); done) | exact gT _ (by omega) | exact rFadF_le gF _ | ((repeat first | rw [va_up_ne _ _ (by omega)] | rw [va_up_self] | rw [rFadH_o (by omega)] | rw [rAge_o _ _ (by omega)] | rw [rLayH_o (by omega) (by omega) (by omega) (by omega)]); omega)) (by first | assumption | omega | decide | exact iRm (by omega) (by omega) | ((repeat (first | exact gL | refine rLs.up ?_ (by omega) (by omega) | refine rLs.fad ?_)); done) | ((repeat (first | exact gM | refine rHM.up ?_ (by omega))); done) | exact gT _ (by omega) | exact rFadF_le gF _ | ((repeat first | rw [va_up_ne _ _ (by omega)] | rw [va_up_self] | rw [rFadH_o (by omega)] | rw [rAge_o _ _ (by omega)] | rw [rLayH_o (by omega) (by omega) (by omega) (by omega)]); omega)) (by first | assumption | omega | decide | exact iRm (by omega) (by omega) | ((repeat (first | exact gL | refine rLs.up ?_ (by omega) (by omega) | refine rLs.fad ?_)); done) | ((repeat (first | exact gM | refine rHM.up ?_ (by omega))); done) | exact gT _ (by omega) | exact rFadF_le gF _ | ((repeat first | rw [va_up_ne _ _ (by omega)] | rw [va_up_self] | rw [rFadH_o (by omega)] | rw [rAge_o _ _ (by omega)] | rw [rLayH_o (by omega) (by omega) (by omega) (by omega)]); omega)) (by first | assumption | omega | decide | exact iRm (by omega) (by omega) | ((repeat (first | exact gL | refine rLs.up ?_ (by omega) (by omega) | refine rLs.fad ?_)); done) | ((repeat (first | exact gM | refine rHM.up ?_ (by omega))); done) | exact gT _ (by omega) | exact rFadF_le gF _ | ((repeat first | rw [va_up_ne _ _ (by omega)] | rw [va_up_self] | rw [rFadH_o (by omega)] | rw [rAge_o _ _ (by omega)] | rw [rLayH_o (by omega) (by omega) (by omega) (by omega)]); omega))) (fun H h => zrc_of (r := (RX1, TX1, 12)) hC.2.1 ((zeq ha) H h) rfl) (fun H h => (h ▸ hp0)) ?_
    refine zx_goto (tgt := 30) hC dX1_ring_26 (by decide) ?_
    refine zx_topi (b := ((rRing h F m c key : Nat) : Int)) (by first | (rw [show key + 12 * h 2 = key + 12 * h 2 from rfl]; exact congrArg (fun z : Nat => (z : Int)) (rRing_in (by omega))) | exact congrArg (fun z : Nat => (z : Int)) (rRing_out (by omega) m).symm) ?_
    exact zx_iret hC hE (Nat.le_refl _) (Nat.le_refl _) (fun H h => ⟨h, rfl⟩) dX1_ring_30
set_option maxHeartbeats 4000000 in
theorem m_X1_rings (la : Launch) (G : zG) (a : Nat) (h : Nat → Nat) (F : Nat → Nat → Nat → Nat) (c : Nat) (m : Nat) (gL : rLs h) (gM : rHM h) (gF : rFb F) (g2 : h 2 ≤ 1) (g4 : m ≤ h 7) (g5 : c < 1000) : zRd la yX1_rings cX1_rings 5 (some .int) 5 113 G [.ref a, .int (iI ((c : Nat) : Int)), .int (iI ((m : Nat) : Int))] (fun H => zhp G (PED G a h F) H) (fun v9 => v9 = some (.int (iI ((rSum h F m c : Nat) : Int)))) := by
  refine zRd.of [some (.ref a), some (.int (iI ((c : Nat) : Int))), some (.int (iI ((m : Nat) : Int))), none, none] (by decide) (Nat.le_of_ble_eq_true rfl) rfl (fun X hl hC hRm hP hE => ?_)
  have hp0 := hP
  obtain ⟨al, dl, st, tk, xs, ys, ho, hal, hdl, hst, hls, htk⟩ := PED_hp hp0
  have ha := pOb_at ho
  obtain ⟨sg, s0, s1, s2, hsg⟩ := pSe_hp hst
  have g7 := gL.1
  have gl := rLoop_le gL
  refine zx_iconst (z := 0) hC dX1_rings_0 ?_
  refine zx_istore_n (L' := [some (.ref a), some (.int (iI ((c : Nat) : Int))), some (.int (iI ((m : Nat) : Int))), some (.int (iI 0)), none]) hC dX1_rings_1 (by decide) rfl ?_
  refine zx_iconst (z := 0) hC dX1_rings_2 ?_
  refine zx_istore (L' := [some (.ref a), some (.int (iI ((c : Nat) : Int))), some (.int (iI ((m : Nat) : Int))), some (.int (iI 0)), some (.int (iI 0))]) hC dX1_rings_3 (by decide) rfl ?_
  have loop : ∀ n i : Nat, i + n = 36 → zV X 5 (fun _ => False) (fun H => H = (zs X).heap) 0 0 5 [some (.ref a), some (.int (iI ((c : Nat) : Int))), some (.int (iI ((m : Nat) : Int))), some (.int (iI ((zsumT (fun k => rRing h F m c k) i : Nat) : Int))), some (.int (iI ((i : Nat) : Int)))] [] := by
    intro n
    induction n with
    | zero =>
      intro i hi 
      have hiN : i = 36 := by omega
      rw [hiN]
      refine zx_iload hC dX1_rings_5 rfl ?_
      refine zx_bipush (z := 36) hC dX1_rings_7 rfl ?_
      refine zx_icmp_geT (tgt := 29) hC dX1_rings_9 (by decide) (by first | assumption | exact gI _ (by omega) | exact iRm (by omega) (by omega)) (by first | assumption | exact gI _ (by omega) | exact iRm (by omega) (by omega)) (by omega) ?_
      refine zx_iload_n hC dX1_rings_29 rfl ?_
      refine zx_topi (b := ((rSum h F m c : Nat) : Int)) (by rfl) ?_
      exact zx_iret hC hE (Nat.le_refl _) (Nat.le_refl _) (fun H h => ⟨h, rfl⟩) dX1_rings_30
    | succ n ih =>
      intro i hi 
      have gr := rRing_le' (h := h) gF m c i
      have gs := zsumT_le (g := fun k => rRing h F m c k) (B := 600) i (fun j _ => by have := rRing_le' (h := h) gF m c j; omega)
      refine zx_iload hC dX1_rings_5 rfl ?_
      refine zx_bipush (z := 36) hC dX1_rings_7 rfl ?_
      refine zx_icmp_geF (tgt := 29) hC dX1_rings_9 (by decide) (by first | assumption | exact gI _ (by omega) | exact iRm (by omega) (by omega)) (by first | assumption | exact gI _ (by omega) | exact iRm (by omega) (by omega)) (by omega) ?_
      refine zx_iload_n hC dX1_rings_12 rfl ?_
      refine zx_aload_n hC dX1_rings_13 rfl ?_
      refine zx_iload_n hC dX1_rings_14 rfl ?_
      refine zx_iload hC dX1_rings_15 rfl ?_
      refine zx_iload_n hC dX1_rings_17 rfl ?_
      refine zx_rd1 (r := .int (iI ((rRing h F m c i : Nat) : Int))) hC zNoA (zcV 3 (As := [.int (iI ((c : Nat) : Int)), .int (iI ((i : Nat) : Int)), .int (iI ((m : Nat) : Int))]) hC (lw_V q1479 q1460 q1461 q83 q1462) (by decide +kernel) rfl (by rw [hRm]; exact ⟨Nat.le_of_ble_eq_true rfl, Nat.le_of_ble_eq_true rfl⟩) (by rw [hRm]; constructor <;> (first | decide | (simp only []; omega) | omega)) rfl (Nat.le_of_ble_eq_true rfl) dX1_rings_18) (m_X1_ring (zl X) G a h F c i m (by first | assumption | omega | decide | exact iRm (by omega) (by omega) | ((repeat (first | exact gL | refine rLs.up ?_ (by omega) (by omega) | refine rLs.fad ?_)); done) | ((repeat (first | exact gM | refine rHM.up ?_ (by omega))); done) | exact gT _ (by omega) | exact rFadF_le gF _ | ((repeat first | rw [va_up_ne _ _ (by omega)] | rw [va_up_self] | rw [rFadH_o (by omega)] | rw [rAge_o _ _ (by omega)] | rw [rLayH_o (by omega) (by omega) (by omega) (by omega)]); omega)) (by first | assumption | omega | decide | exact iRm (by omega) (by omega) | ((repeat (first | exact gL | refine rLs.up ?_ (by omega) (by omega) | refine rLs.fad ?_)); done) | ((repeat (first | exact gM | refine rHM.up ?_ (by omega))); done) | exact gT _ (by omega) | exact rFadF_le gF _ | ((repeat first | rw [va_up_ne _ _ (by omega)] | rw [va_up_self] | rw [rFadH_o (by omega)] | rw [rAge_o _ _ (by omega)] | rw [rLayH_o (by omega) (by omega) (by omega) (by omega)]); omega)) (by first | assumption | omega | decide | exact iRm (by omega) (by omega) | ((repeat (first | exact gL | refine rLs.up ?_ (by omega) (by omega) | refine rLs.fad ?_)); done) | ((repeat (first | exact gM | refine rHM.up ?_ (by omega))); done) | exact gT _ (by omega) | exact rFadF_le gF _ | ((repeat first | rw [va_up_ne _ _ (by omega)] | rw [va_up_self] | rw [rFadH_o (by omega)] | rw [rAge_o _ _ (by omega)] | rw [rLayH_o (by omega) (by omega) (by omega) (by omega)]); omega)) (by first | assumption | omega | decide | exact iRm (by omega) (by omega) | ((repeat (first | exact gL | refine rLs.up ?_ (by omega) (by omega) | refine rLs.fad ?_)); done) | ((repeat (first | exact gM | refine rHM.up ?_ (by omega))); done) | exact gT _ (by omega) | exact rFadF_le gF _ | ((repeat first | rw [va_up_ne _ _ (by omega)] | rw [va_up_self] | rw [rFadH_o (by omega)] | rw [rAge_o _ _ (by omega)] | rw [rLayH_o (by omega) (by omega) (by omega) (by omega)]); omega)) (by first | assumption | omega | decide | exact iRm (by omega) (by omega) | ((repeat (first | exact gL | refine rLs.up ?_ (by omega) (by omega) | refine rLs.fad ?_)); done) | ((repeat (first | exact gM | refine rHM.up ?_ (by omega))); done) | exact gT _ (by omega) | exact rFadF_le gF _ | ((repeat first | rw [va_up_ne _ _ (by omega)] | rw [va_up_self] | rw [rFadH_o (by omega)] | rw [rAge_o _ _ (by omega)] | rw [rLayH_o (by omega) (by omega) (by omega) (by omega)]); omega)) (by first | assumption | omega | decide | exact iRm (by omega) (by omega) | ((repeat (first | exact gL | refine rLs.up ?_ (by omega) (by omega) | refine rLs.fad ?_)); done) | ((repeat (first | exact gM | refine rHM.up ?_ (by omega))); done) | exact gT _ (by omega) | exact rFadF_le gF _ | ((repeat first | rw [va_up_ne _ _ (by omega)] | rw [va_up_self] | rw [rFadH_o (by omega)] | rw [rAge_o _ _ (by omega)] | rw [rLayH_o (by omega) (by omega) (by omega) (by omega)]); omega)) (by first | assumption | omega | decide | exact iRm (by omega) (by omega) | ((repeat (first | exact gL | refine rLs.up ?_ (by omega) (by omega) | refine rLs.fad ?_)); done) | ((repeat (first | exact gM | refine rHM.up ?_ (by omega))); done) | exact gT _ (by omega) | exact rFadF_le gF _ | ((repeat first | rw [va_up_ne _ _ (by omega)] | rw [va_up_self] | rw [rFadH_o (by omega)] | rw [rAge_o _ _ (by omega)] | rw [rLayH_o (by omega) (by omega) (by omega) (by omega)]); omega))) (fun H h => zrc_of (r := (RX1, TX1, 12)) hC.2.1 ((zeq ha) H h) rfl) (fun H h => (h ▸ hp0)) ?_
      refine zx_iadd hC dX1_rings_21 ?_
      refine zx_istore_n (L' := [some (.ref a), some (.int (iI ((c : Nat) : Int))), some (.int (iI ((m : Nat) : Int))), some (.int (iI (((zsumT (fun k => rRing h F m c k) i) + (rRing h F m c i) : Nat) : Int))), some (.int (iI ((i : Nat) : Int)))]) hC dX1_rings_22 (by decide) rfl ?_
      refine zx_iinc (b := ((i + 1 : Nat) : Int)) (L' := [some (.ref a), some (.int (iI ((c : Nat) : Int))), some (.int (iI ((m : Nat) : Int))), some (.int (iI (((zsumT (fun k => rRing h F m c k) i) + (rRing h F m c i) : Nat) : Int))), some (.int (iI ((i + 1 : Nat) : Int)))]) hC dX1_rings_23 rfl (by first | rfl | omega) (by decide) rfl ?_
      refine zx_goto (tgt := 5) hC dX1_rings_26 (by decide) ?_
      exact ih (i + 1) (by omega) 
  exact loop (36) 0 (by omega) 
set_option maxHeartbeats 4000000 in
theorem m_X1_allRings (la : Launch) (G : zG) (a : Nat) (h : Nat → Nat) (F : Nat → Nat → Nat → Nat) (m : Nat) (gL : rLs h) (gM : rHM h) (gF : rFb F) (g2 : h 2 ≤ 1) (g4 : m ≤ h 7) : zRd la yX1_allRings cX1_allRings 4 (some .int) 6 137 G [.ref a, .int (iI ((m : Nat) : Int))] (fun H => zhp G (PED G a h F) H) (fun v9 => v9 = some (.int (iI ((rSumOf h F m : Nat) : Int)))) := by
  refine zRd.of [some (.ref a), some (.int (iI ((m : Nat) : Int))), none, none] (by decide) (Nat.le_of_ble_eq_true rfl) rfl (fun X hl hC hRm hP hE => ?_)
  have hp0 := hP
  obtain ⟨al, dl, st, tk, xs, ys, ho, hal, hdl, hst, hls, htk⟩ := PED_hp hp0
  have ha := pOb_at ho
  obtain ⟨sg, s0, s1, s2, hsg⟩ := pSe_hp hst
  have g7 := gL.1
  have gl := rLoop_le gL
  have gn := rLen_le gL (n := m) (by omega)
  refine zx_iconst (z := 0) hC dX1_allRings_0 ?_
  refine zx_istore_n (L' := [some (.ref a), some (.int (iI ((m : Nat) : Int))), some (.int (iI 0)), none]) hC dX1_allRings_1 (by decide) rfl ?_
  refine zx_iconst (z := 0) hC dX1_allRings_2 ?_
  refine zx_istore_n (L' := [some (.ref a), some (.int (iI ((m : Nat) : Int))), some (.int (iI 0)), some (.int (iI 0))]) hC dX1_allRings_3 (by decide) rfl ?_
  have loop : ∀ n i : Nat, i + n = rLen h m → zV X 4 (fun _ => False) (fun H => H = (zs X).heap) 0 0 4 [some (.ref a), some (.int (iI ((m : Nat) : Int))), some (.int (iI ((zsumT (fun c => rSum h F m c) i : Nat) : Int))), some (.int (iI ((i : Nat) : Int)))] [] := by
    intro n
    induction n with
    | zero =>
      intro i hi 
      have hiN : i = rLen h m := by omega
      rw [hiN]
      refine zx_iload_n hC dX1_allRings_4 rfl ?_
      refine zx_aload_n hC dX1_allRings_5 rfl ?_
      refine zx_iload_n hC dX1_allRings_6 rfl ?_
      refine zx_rd1 (r := .int (iI ((rLen h m : Nat) : Int))) hC zNoA (zcV 1 (As := [.int (iI ((m : Nat) : Int))]) hC (lw_V q1014 q1015 q1016 q83 q1017) (by decide +kernel) rfl (by rw [hRm]; exact ⟨Nat.le_of_ble_eq_true rfl, Nat.le_of_ble_eq_true rfl⟩) (by rw [hRm]; constructor <;> (first | decide | (simp only []; omega) | omega)) rfl (Nat.le_of_ble_eq_true rfl) dX1_allRings_7) (m_X1_lengthOf (zl X) G a h F m (by first | assumption | omega | decide | exact iRm (by omega) (by omega) | ((repeat (first | exact gL | refine rLs.up ?_ (by omega) (by omega) | refine rLs.fad ?_)); done) | ((repeat (first | exact gM | refine rHM.up ?_ (by omega))); done) | exact gT _ (by omega) | exact rFadF_le gF _ | ((repeat first | rw [va_up_ne _ _ (by omega)] | rw [va_up_self] | rw [rFadH_o (by omega)] | rw [rAge_o _ _ (by omega)] | rw [rLayH_o (by omega) (by omega) (by omega) (by omega)]); omega)) (by first | assumption | omega | decide | exact iRm (by omega) (by omega) | ((repeat (first | exact gL | refine rLs.up ?_ (by omega) (by omega) | refine rLs.fad ?_)); done) | ((repeat (first | exact gM | refine rHM.up ?_ (by omega))); done) | exact gT _ (by omega) | exact rFadF_le gF _ | ((repeat first | rw [va_up_ne _ _ (by omega)] | rw [va_up_self] | rw [rFadH_o (by omega)] | rw [rAge_o _ _ (by omega)] | rw [rLayH_o (by omega) (by omega) (by omega) (by omega)]); omega)) (by first | assumption | omega | decide | exact iRm (by omega) (by omega) | ((repeat (first | exact gL | refine rLs.up ?_ (by omega) (by omega) | refine rLs.fad ?_)); done) | ((repeat (first | exact gM | refine rHM.up ?_ (by omega))); done) | exact gT _ (by omega) | exact rFadF_le gF _ | ((repeat first | rw [va_up_ne _ _ (by omega)] | rw [va_up_self] | rw [rFadH_o (by omega)] | rw [rAge_o _ _ (by omega)] | rw [rLayH_o (by omega) (by omega) (by omega) (by omega)]); omega)) (by first | assumption | omega | decide | exact iRm (by omega) (by omega) | ((repeat (first | exact gL | refine rLs.up ?_ (by omega) (by omega) | refine rLs.fad ?_)); done) | ((repeat (first | exact gM | refine rHM.up ?_ (by omega))); done) | exact gT _ (by omega) | exact rFadF_le gF _ | ((repeat first | rw [va_up_ne _ _ (by omega)] | rw [va_up_self] | rw [rFadH_o (by omega)] | rw [rAge_o _ _ (by omega)] | rw [rLayH_o (by omega) (by omega) (by omega) (by omega)]); omega)) (by first | assumption | omega | decide | exact iRm (by omega) (by omega) | ((repeat (first | exact gL | refine rLs.up ?_ (by omega) (by omega) | refine rLs.fad ?_)); done) | ((repeat (first | exact gM | refine rHM.up ?_ (by omega))); done) | exact gT _ (by omega) | exact rFadF_le gF _ | ((repeat first | rw [va_up_ne _ _ (by omega)] | rw [va_up_self] | rw [rFadH_o (by omega)] | rw [rAge_o _ _ (by omega)] | rw [rLayH_o (by omega) (by omega) (by omega) (by omega)]); omega))) (fun H h => zrc_of (r := (RX1, TX1, 12)) hC.2.1 ((zeq ha) H h) rfl) (fun H h => (h ▸ hp0)) ?_
      refine zx_icmp_geT (tgt := 28) hC dX1_allRings_10 (by decide) (by first | assumption | exact gI _ (by omega) | exact iRm (by omega) (by omega)) (by first | assumption | exact gI _ (by omega) | exact iRm (by omega) (by omega)) (by omega) ?_
      refine zx_iload_n hC dX1_allRings_28 rfl ?_
      refine zx_topi (b := ((rSumOf h F m : Nat) : Int)) (by rfl) ?_
      exact zx_iret hC hE (Nat.le_refl _) (Nat.le_refl _) (fun H h => ⟨h, rfl⟩) dX1_allRings_29
    | succ n ih =>
      intro i hi 
      have gr := rSum_le (h := h) gF m i
      have gs := zsumT_le (g := fun c => rSum h F m c) (B := 99 * 6 * 36) i (fun j _ => by have := rSum_le (h := h) gF m j; omega)
      refine zx_iload_n hC dX1_allRings_4 rfl ?_
      refine zx_aload_n hC dX1_allRings_5 rfl ?_
      refine zx_iload_n hC dX1_allRings_6 rfl ?_
      refine zx_rd1 (r := .int (iI ((rLen h m : Nat) : Int))) hC zNoA (zcV 1 (As := [.int (iI ((m : Nat) : Int))]) hC (lw_V q1014 q1015 q1016 q83 q1017) (by decide +kernel) rfl (by rw [hRm]; exact ⟨Nat.le_of_ble_eq_true rfl, Nat.le_of_ble_eq_true rfl⟩) (by rw [hRm]; constructor <;> (first | decide | (simp only []; omega) | omega)) rfl (Nat.le_of_ble_eq_true rfl) dX1_allRings_7) (m_X1_lengthOf (zl X) G a h F m (by first | assumption | omega | decide | exact iRm (by omega) (by omega) | ((repeat (first | exact gL | refine rLs.up ?_ (by omega) (by omega) | refine rLs.fad ?_)); done) | ((repeat (first | exact gM | refine rHM.up ?_ (by omega))); done) | exact gT _ (by omega) | exact rFadF_le gF _ | ((repeat first | rw [va_up_ne _ _ (by omega)] | rw [va_up_self] | rw [rFadH_o (by omega)] | rw [rAge_o _ _ (by omega)] | rw [rLayH_o (by omega) (by omega) (by omega) (by omega)]); omega)) (by first | assumption | omega | decide | exact iRm (by omega) (by omega) | ((repeat (first | exact gL | refine rLs.up ?_ (by omega) (by omega) | refine rLs.fad ?_)); done) | ((repeat (first | exact gM | refine rHM.up ?_ (by omega))); done) | exact gT _ (by omega) | exact rFadF_le gF _ | ((repeat first | rw [va_up_ne _ _ (by omega)] | rw [va_up_self] | rw [rFadH_o (by omega)] | rw [rAge_o _ _ (by omega)] | rw [rLayH_o (by omega) (by omega) (by omega) (by omega)]); omega)) (by first | assumption | omega | decide | exact iRm (by omega) (by omega) | ((repeat (first | exact gL | refine rLs.up ?_ (by omega) (by omega) | refine rLs.fad ?_)); done) | ((repeat (first | exact gM | refine rHM.up ?_ (by omega))); done) | exact gT _ (by omega) | exact rFadF_le gF _ | ((repeat first | rw [va_up_ne _ _ (by omega)] | rw [va_up_self] | rw [rFadH_o (by omega)] | rw [rAge_o _ _ (by omega)] | rw [rLayH_o (by omega) (by omega) (by omega) (by omega)]); omega)) (by first | assumption | omega | decide | exact iRm (by omega) (by omega) | ((repeat (first | exact gL | refine rLs.up ?_ (by omega) (by omega) | refine rLs.fad ?_)); done) | ((repeat (first | exact gM | refine rHM.up ?_ (by omega))); done) | exact gT _ (by omega) | exact rFadF_le gF _ | ((repeat first | rw [va_up_ne _ _ (by omega)] | rw [va_up_self] | rw [rFadH_o (by omega)] | rw [rAge_o _ _ (by omega)] | rw [rLayH_o (by omega) (by omega) (by omega) (by omega)]); omega)) (by first | assumption | omega | decide | exact iRm (by omega) (by omega) | ((repeat (first | exact gL | refine rLs.up ?_ (by omega) (by omega) | refine rLs.fad ?_)); done) | ((repeat (first | exact gM | refine rHM.up ?_ (by omega))); done) | exact gT _ (by omega) | exact rFadF_le gF _ | ((repeat first | rw [va_up_ne _ _ (by omega)] | rw [va_up_self] | rw [rFadH_o (by omega)] | rw [rAge_o _ _ (by omega)] | rw [rLayH_o (by omega) (by omega) (by omega) (by omega)]); omega))) (fun H h => zrc_of (r := (RX1, TX1, 12)) hC.2.1 ((zeq ha) H h) rfl) (fun H h => (h ▸ hp0)) ?_
      refine zx_icmp_geF (tgt := 28) hC dX1_allRings_10 (by decide) (by first | assumption | exact gI _ (by omega) | exact iRm (by omega) (by omega)) (by first | assumption | exact gI _ (by omega) | exact iRm (by omega) (by omega)) (by omega) ?_
      refine zx_iload_n hC dX1_allRings_13 rfl ?_
      refine zx_aload_n hC dX1_allRings_14 rfl ?_
      refine zx_iload_n hC dX1_allRings_15 rfl ?_
      refine zx_iload_n hC dX1_allRings_16 rfl ?_
      refine zx_rd1 (r := .int (iI ((rSum h F m i : Nat) : Int))) hC zNoA (zcV 2 (As := [.int (iI ((i : Nat) : Int)), .int (iI ((m : Nat) : Int))]) hC (lw_V q1538 q1481 q1482 q83 q1483) (by decide +kernel) rfl (by rw [hRm]; exact ⟨Nat.le_of_ble_eq_true rfl, Nat.le_of_ble_eq_true rfl⟩) (by rw [hRm]; constructor <;> (first | decide | (simp only []; omega) | omega)) rfl (Nat.le_of_ble_eq_true rfl) dX1_allRings_17) (m_X1_rings (zl X) G a h F i m (by first | assumption | omega | decide | exact iRm (by omega) (by omega) | ((repeat (first | exact gL | refine rLs.up ?_ (by omega) (by omega) | refine rLs.fad ?_)); done) | ((repeat (first | exact gM | refine rHM.up ?_ (by omega))); done) | exact gT _ (by omega) | exact rFadF_le gF _ | ((repeat first | rw [va_up_ne _ _ (by omega)] | rw [va_up_self] | rw [rFadH_o (by omega)] | rw [rAge_o _ _ (by omega)] | rw [rLayH_o (by omega) (by omega) (by omega) (by omega)]); omega)) (by first | assumption | omega | decide | exact iRm (by omega) (by omega) | ((repeat (first | exact gL | refine rLs.up ?_ (by omega) (by omega) | refine rLs.fad ?_)); done) | ((repeat (first | exact gM | refine rHM.up ?_ (by omega))); done) | exact gT _ (by omega) | exact rFadF_le gF _ | ((repeat first | rw [va_up_ne _ _ (by omega)] | rw [va_up_self] | rw [rFadH_o (by omega)] | rw [rAge_o _ _ (by omega)] | rw [rLayH_o (by omega) (by omega) (by omega) (by omega)]); omega)) (by first | assumption | omega | decide | exact iRm (by omega) (by omega) | ((repeat (first | exact gL | refine rLs.up ?_ (by omega) (by omega) | refine rLs.fad ?_)); done) | ((repeat (first | exact gM | refine rHM.up ?_ (by omega))); done) | exact gT _ (by omega) | exact rFadF_le gF _ | ((repeat first | rw [va_up_ne _ _ (by omega)] | rw [va_up_self] | rw [rFadH_o (by omega)] | rw [rAge_o _ _ (by omega)] | rw [rLayH_o (by omega) (by omega) (by omega) (by omega)]); omega)) (by first | assumption | omega | decide | exact iRm (by omega) (by omega) | ((repeat (first | exact gL | refine rLs.up ?_ (by omega) (by omega) | refine rLs.fad ?_)); done) | ((repeat (first | exact gM | refine rHM.up ?_ (by omega))); done) | exact gT _ (by omega) | exact rFadF_le gF _ | ((repeat first | rw [va_up_ne _ _ (by omega)] | rw [va_up_self] | rw [rFadH_o (by omega)] | rw [rAge_o _ _ (by omega)] | rw [rLayH_o (by omega) (by omega) (by omega) (by omega)]); omega)) (by first | assumption | omega | decide | exact iRm (by omega) (by omega) | ((repeat (first | exact gL | refine rLs.up ?_ (by omega) (by omega) | refine rLs.fad ?_)); done) | ((repeat (first | exact gM | refine rHM.up ?_ (by omega))); done) | exact gT _ (by omega) | exact rFadF_le gF _ | ((repeat first | rw [va_up_ne _ _ (by omega)] | rw [va_up_self] | rw [rFadH_o (by omega)] | rw [rAge_o _ _ (by omega)] | rw [rLayH_o (by omega) (by omega) (by omega) (by omega)]); omega)) (by first | assumption | omega | decide | exact iRm (by omega) (by omega) | ((repeat (first | exact gL | refine rLs.up ?_ (by omega) (by omega) | refine rLs.fad ?_)); done) | ((repeat (first | exact gM | refine rHM.up ?_ (by omega))); done) | exact gT _ (by omega) | exact rFadF_le gF _ | ((repeat first | rw [va_up_ne _ _ (by omega)] | rw [va_up_self] | rw [rFadH_o (by omega)] | rw [rAge_o _ _ (by omega)] | rw [rLayH_o (by omega) (by omega) (by omega) (by omega)]); omega))) (fun H h => zrc_of (r := (RX1, TX1, 12)) hC.2.1 ((zeq ha) H h) rfl) (fun H h => (h ▸ hp0)) ?_
      refine zx_iadd hC dX1_allRings_20 ?_
      refine zx_istore_n (L' := [some (.ref a), some (.int (iI ((m : Nat) : Int))), some (.int (iI (((zsumT (fun c => rSum h F m c) i) + (rSum h F m i) : Nat) : Int))), some (.int (iI ((i : Nat) : Int)))]) hC dX1_allRings_21 (by decide) rfl ?_
      refine zx_iinc (b := ((i + 1 : Nat) : Int)) (L' := [some (.ref a), some (.int (iI ((m : Nat) : Int))), some (.int (iI (((zsumT (fun c => rSum h F m c) i) + (rSum h F m i) : Nat) : Int))), some (.int (iI ((i + 1 : Nat) : Int)))]) hC dX1_allRings_22 rfl (by first | rfl | omega) (by decide) rfl ?_
      refine zx_goto (tgt := 4) hC dX1_allRings_25 (by decide) ?_
      exact ih (i + 1) (by omega) 
  exact loop (rLen h m) 0 (by omega) 
set_option maxHeartbeats 4000000 in
theorem m_X1_silentCells (la : Launch) (G : zG) (a : Nat) (h : Nat → Nat) (F : Nat → Nat → Nat → Nat) (m : Nat) (gL : rLs h) (gM : rHM h) (gF : rFb F) (g2 : h 2 ≤ 1) (g4 : m ≤ h 7) : zRd la yX1_silentCells cX1_silentCells 4 (some .int) 6 137 G [.ref a, .int (iI ((m : Nat) : Int))] (fun H => zhp G (PED G a h F) H) (fun v9 => v9 = some (.int (iI ((zsumT (fun c => zN (rSum h F m c = 0)) (rLen h m) : Nat) : Int)))) := by
  refine zRd.of [some (.ref a), some (.int (iI ((m : Nat) : Int))), none, none] (by decide) (Nat.le_of_ble_eq_true rfl) rfl (fun X hl hC hRm hP hE => ?_)
  have hp0 := hP
  obtain ⟨al, dl, st, tk, xs, ys, ho, hal, hdl, hst, hls, htk⟩ := PED_hp hp0
  have ha := pOb_at ho
  obtain ⟨sg, s0, s1, s2, hsg⟩ := pSe_hp hst
  have g7 := gL.1
  have gl := rLoop_le gL
  have gn := rLen_le gL (n := m) (by omega)
  refine zx_iconst (z := 0) hC dX1_silentCells_0 ?_
  refine zx_istore_n (L' := [some (.ref a), some (.int (iI ((m : Nat) : Int))), some (.int (iI 0)), none]) hC dX1_silentCells_1 (by decide) rfl ?_
  refine zx_iconst (z := 0) hC dX1_silentCells_2 ?_
  refine zx_istore_n (L' := [some (.ref a), some (.int (iI ((m : Nat) : Int))), some (.int (iI 0)), some (.int (iI 0))]) hC dX1_silentCells_3 (by decide) rfl ?_
  have loop : ∀ n i : Nat, i + n = rLen h m → zV X 4 (fun _ => False) (fun H => H = (zs X).heap) 0 0 4 [some (.ref a), some (.int (iI ((m : Nat) : Int))), some (.int (iI ((zsumT (fun c => zN (rSum h F m c = 0)) i : Nat) : Int))), some (.int (iI ((i : Nat) : Int)))] [] := by
    intro n
    induction n with
    | zero =>
      intro i hi 
      have hiN : i = rLen h m := by omega
      rw [hiN]
      refine zx_iload_n hC dX1_silentCells_4 rfl ?_
      refine zx_aload_n hC dX1_silentCells_5 rfl ?_
      refine zx_iload_n hC dX1_silentCells_6 rfl ?_
      refine zx_rd1 (r := .int (iI ((rLen h m : Nat) : Int))) hC zNoA (zcV 1 (As := [.int (iI ((m : Nat) : Int))]) hC (lw_V q1014 q1015 q1016 q83 q1017) (by decide +kernel) rfl (by rw [hRm]; exact ⟨Nat.le_of_ble_eq_true rfl, Nat.le_of_ble_eq_true rfl⟩) (by rw [hRm]; constructor <;> (first | decide | (simp only []; omega) | omega)) rfl (Nat.le_of_ble_eq_true rfl) dX1_silentCells_7) (m_X1_lengthOf (zl X) G a h F m (by first | assumption | omega | decide | exact iRm (by omega) (by omega) | ((repeat (first | exact gL | refine rLs.up ?_ (by omega) (by omega) | refine rLs.fad ?_)); done) | ((repeat (first | exact gM | refine rHM.up ?_ (by omega))); done) | exact gT _ (by omega) | exact rFadF_le gF _ | ((repeat first | rw [va_up_ne _ _ (by omega)] | rw [va_up_self] | rw [rFadH_o (by omega)] | rw [rAge_o _ _ (by omega)] | rw [rLayH_o (by omega) (by omega) (by omega) (by omega)]); omega)) (by first | assumption | omega | decide | exact iRm (by omega) (by omega) | ((repeat (first | exact gL | refine rLs.up ?_ (by omega) (by omega) | refine rLs.fad ?_)); done) | ((repeat (first | exact gM | refine rHM.up ?_ (by omega))); done) | exact gT _ (by omega) | exact rFadF_le gF _ | ((repeat first | rw [va_up_ne _ _ (by omega)] | rw [va_up_self] | rw [rFadH_o (by omega)] | rw [rAge_o _ _ (by omega)] | rw [rLayH_o (by omega) (by omega) (by omega) (by omega)]); omega)) (by first | assumption | omega | decide | exact iRm (by omega) (by omega) | ((repeat (first | exact gL | refine rLs.up ?_ (by omega) (by omega) | refine rLs.fad ?_)); done) | ((repeat (first | exact gM | refine rHM.up ?_ (by omega))); done) | exact gT _ (by omega) | exact rFadF_le gF _ | ((repeat first | rw [va_up_ne _ _ (by omega)] | rw [va_up_self] | rw [rFadH_o (by omega)] | rw [rAge_o _ _ (by omega)] | rw [rLayH_o (by omega) (by omega) (by omega) (by omega)]); omega)) (by first | assumption | omega | decide | exact iRm (by omega) (by omega) | ((repeat (first | exact gL | refine rLs.up ?_ (by omega) (by omega) | refine rLs.fad ?_)); done) | ((repeat (first | exact gM | refine rHM.up ?_ (by omega))); done) | exact gT _ (by omega) | exact rFadF_le gF _ | ((repeat first | rw [va_up_ne _ _ (by omega)] | rw [va_up_self] | rw [rFadH_o (by omega)] | rw [rAge_o _ _ (by omega)] | rw [rLayH_o (by omega) (by omega) (by omega) (by omega)]); omega)) (by first | assumption | omega | decide | exact iRm (by omega) (by omega) | ((repeat (first | exact gL | refine rLs.up ?_ (by omega) (by omega) | refine rLs.fad ?_)); done) | ((repeat (first | exact gM | refine rHM.up ?_ (by omega))); done) | exact gT _ (by omega) | exact rFadF_le gF _ | ((repeat first | rw [va_up_ne _ _ (by omega)] | rw [va_up_self] | rw [rFadH_o (by omega)] | rw [rAge_o _ _ (by omega)] | rw [rLayH_o (by omega) (by omega) (by omega) (by omega)]); omega))) (fun H h => zrc_of (r := (RX1, TX1, 12)) hC.2.1 ((zeq ha) H h) rfl) (fun H h => (h ▸ hp0)) ?_
      refine zx_icmp_geT (tgt := 36) hC dX1_silentCells_10 (by decide) (by first | assumption | exact gI _ (by omega) | exact iRm (by omega) (by omega)) (by first | assumption | exact gI _ (by omega) | exact iRm (by omega) (by omega)) (by omega) ?_
      refine zx_iload_n hC dX1_silentCells_36 rfl ?_
      exact zx_iret hC hE (Nat.le_refl _) (Nat.le_refl _) (fun H h => ⟨h, rfl⟩) dX1_silentCells_37
    | succ n ih =>
      intro i hi 
      have gr := rSum_le (h := h) gF m i
      have gs := zsumT_le (g := fun c => zN (rSum h F m c = 0)) (B := 1) i (fun j _ => zN_le _)
      refine zx_iload_n hC dX1_silentCells_4 rfl ?_
      refine zx_aload_n hC dX1_silentCells_5 rfl ?_
      refine zx_iload_n hC dX1_silentCells_6 rfl ?_
      refine zx_rd1 (r := .int (iI ((rLen h m : Nat) : Int))) hC zNoA (zcV 1 (As := [.int (iI ((m : Nat) : Int))]) hC (lw_V q1014 q1015 q1016 q83 q1017) (by decide +kernel) rfl (by rw [hRm]; exact ⟨Nat.le_of_ble_eq_true rfl, Nat.le_of_ble_eq_true rfl⟩) (by rw [hRm]; constructor <;> (first | decide | (simp only []; omega) | omega)) rfl (Nat.le_of_ble_eq_true rfl) dX1_silentCells_7) (m_X1_lengthOf (zl X) G a h F m (by first | assumption | omega | decide | exact iRm (by omega) (by omega) | ((repeat (first | exact gL | refine rLs.up ?_ (by omega) (by omega) | refine rLs.fad ?_)); done) | ((repeat (first | exact gM | refine rHM.up ?_ (by omega))); done) | exact gT _ (by omega) | exact rFadF_le gF _ | ((repeat first | rw [va_up_ne _ _ (by omega)] | rw [va_up_self] | rw [rFadH_o (by omega)] | rw [rAge_o _ _ (by omega)] | rw [rLayH_o (by omega) (by omega) (by omega) (by omega)]); omega)) (by first | assumption | omega | decide | exact iRm (by omega) (by omega) | ((repeat (first | exact gL | refine rLs.up ?_ (by omega) (by omega) | refine rLs.fad ?_)); done) | ((repeat (first | exact gM | refine rHM.up ?_ (by omega))); done) | exact gT _ (by omega) | exact rFadF_le gF _ | ((repeat first | rw [va_up_ne _ _ (by omega)] | rw [va_up_self] | rw [rFadH_o (by omega)] | rw [rAge_o _ _ (by omega)] | rw [rLayH_o (by omega) (by omega) (by omega) (by omega)]); omega)) (by first | assumption | omega | decide | exact iRm (by omega) (by omega) | ((repeat (first | exact gL | refine rLs.up ?_ (by omega) (by omega) | refine rLs.fad ?_)); done) | ((repeat (first | exact gM | refine rHM.up ?_ (by omega))); done) | exact gT _ (by omega) | exact rFadF_le gF _ | ((repeat first | rw [va_up_ne _ _ (by omega)] | rw [va_up_self] | rw [rFadH_o (by omega)] | rw [rAge_o _ _ (by omega)] | rw [rLayH_o (by omega) (by omega) (by omega) (by omega)]); omega)) (by first | assumption | omega | decide | exact iRm (by omega) (by omega) | ((repeat (first | exact gL | refine rLs.up ?_ (by omega) (by omega) | refine rLs.fad ?_)); done) | ((repeat (first | exact gM | refine rHM.up ?_ (by omega))); done) | exact gT _ (by omega) | exact rFadF_le gF _ | ((repeat first | rw [va_up_ne _ _ (by omega)] | rw [va_up_self] | rw [rFadH_o (by omega)] | rw [rAge_o _ _ (by omega)] | rw [rLayH_o (by omega) (by omega) (by omega) (by omega)]); omega)) (by first | assumption | omega | decide | exact iRm (by omega) (by omega) | ((repeat (first | exact gL | refine rLs.up ?_ (by omega) (by omega) | refine rLs.fad ?_)); done) | ((repeat (first | exact gM | refine rHM.up ?_ (by omega))); done) | exact gT _ (by omega) | exact rFadF_le gF _ | ((repeat first | rw [va_up_ne _ _ (by omega)] | rw [va_up_self] | rw [rFadH_o (by omega)] | rw [rAge_o _ _ (by omega)] | rw [rLayH_o (by omega) (by omega) (by omega) (by omega)]); omega))) (fun H h => zrc_of (r := (RX1, TX1, 12)) hC.2.1 ((zeq ha) H h) rfl) (fun H h => (h ▸ hp0)) ?_
      refine zx_icmp_geF (tgt := 36) hC dX1_silentCells_10 (by decide) (by first | assumption | exact gI _ (by omega) | exact iRm (by omega) (by omega)) (by first | assumption | exact gI _ (by omega) | exact iRm (by omega) (by omega)) (by omega) ?_
      refine zx_iload_n hC dX1_silentCells_13 rfl ?_
      refine zx_aload_n hC dX1_silentCells_14 rfl ?_
      refine zx_iload_n hC dX1_silentCells_15 rfl ?_
      refine zx_iload_n hC dX1_silentCells_16 rfl ?_
      refine zx_rd1 (r := .int (iI ((rSum h F m i : Nat) : Int))) hC zNoA (zcV 2 (As := [.int (iI ((i : Nat) : Int)), .int (iI ((m : Nat) : Int))]) hC (lw_V q1538 q1481 q1482 q83 q1483) (by decide +kernel) rfl (by rw [hRm]; exact ⟨Nat.le_of_ble_eq_true rfl, Nat.le_of_ble_eq_true rfl⟩) (by rw [hRm]; constructor <;> (first | decide | (simp only []; omega) | omega)) rfl (Nat.le_of_ble_eq_true rfl) dX1_silentCells_17) (m_X1_rings (zl X) G a h F i m (by first | assumption | omega | decide | exact iRm (by omega) (by omega) | ((repeat (first | exact gL | refine rLs.up ?_ (by omega) (by omega) | refine rLs.fad ?_)); done) | ((repeat (first | exact gM | refine rHM.up ?_ (by omega))); done) | exact gT _ (by omega) | exact rFadF_le gF _ | ((repeat first | rw [va_up_ne _ _ (by omega)] | rw [va_up_self] | rw [rFadH_o (by omega)] | rw [rAge_o _ _ (by omega)] | rw [rLayH_o (by omega) (by omega) (by omega) (by omega)]); omega)) (by first | assumption | omega | decide | exact iRm (by omega) (by omega) | ((repeat (first | exact gL | refine rLs.up ?_ (by omega) (by omega) | refine rLs.fad ?_)); done) | ((repeat (first | exact gM | refine rHM.up ?_ (by omega))); done) | exact gT _ (by omega) | exact rFadF_le gF _ | ((repeat first | rw [va_up_ne _ _ (by omega)] | rw [va_up_self] | rw [rFadH_o (by omega)] | rw [rAge_o _ _ (by omega)] | rw [rLayH_o (by omega) (by omega) (by omega) (by omega)]); omega)) (by first | assumption | omega | decide | exact iRm (by omega) (by omega) | ((repeat (first | exact gL | refine rLs.up ?_ (by omega) (by omega) | refine rLs.fad ?_)); done) | ((repeat (first | exact gM | refine rHM.up ?_ (by omega))); done) | exact gT _ (by omega) | exact rFadF_le gF _ | ((repeat first | rw [va_up_ne _ _ (by omega)] | rw [va_up_self] | rw [rFadH_o (by omega)] | rw [rAge_o _ _ (by omega)] | rw [rLayH_o (by omega) (by omega) (by omega) (by omega)]); omega)) (by first | assumption | omega | decide | exact iRm (by omega) (by omega) | ((repeat (first | exact gL | refine rLs.up ?_ (by omega) (by omega) | refine rLs.fad ?_)); done) | ((repeat (first | exact gM | refine rHM.up ?_ (by omega))); done) | exact gT _ (by omega) | exact rFadF_le gF _ | ((repeat first | rw [va_up_ne _ _ (by omega)] | rw [va_up_self] | rw [rFadH_o (by omega)] | rw [rAge_o _ _ (by omega)] | rw [rLayH_o (by omega) (by omega) (by omega) (by omega)]); omega)) (by first | assumption | omega | decide | exact iRm (by omega) (by omega) | ((repeat (first | exact gL | refine rLs.up ?_ (by omega) (by omega) | refine rLs.fad ?_)); done) | ((repeat (first | exact gM | refine rHM.up ?_ (by omega))); done) | exact gT _ (by omega) | exact rFadF_le gF _ | ((repeat first | rw [va_up_ne _ _ (by omega)] | rw [va_up_self] | rw [rFadH_o (by omega)] | rw [rAge_o _ _ (by omega)] | rw [rLayH_o (by omega) (by omega) (by omega) (by omega)]); omega)) (by first | assumption | omega | decide | exact iRm (by omega) (by omega) | ((repeat (first | exact gL | refine rLs.up ?_ (by omega) (by omega) | refine rLs.fad ?_)); done) | ((repeat (first | exact gM | refine rHM.up ?_ (by omega))); done) | exact gT _ (by omega) | exact rFadF_le gF _ | ((repeat first | rw [va_up_ne _ _ (by omega)] | rw [va_up_self] | rw [rFadH_o (by omega)] | rw [rAge_o _ _ (by omega)] | rw [rLayH_o (by omega) (by omega) (by omega) (by omega)]); omega))) (fun H h => zrc_of (r := (RX1, TX1, 12)) hC.2.1 ((zeq ha) H h) rfl) (fun H h => (h ▸ hp0)) ?_
      have J20 : zV X 4 (fun _ => False) (fun H => H = (zs X).heap) 0 0 28 [some (.ref a), some (.int (iI ((m : Nat) : Int))), some (.int (iI ((zsumT (fun c => zN (rSum h F m c = 0)) i : Nat) : Int))), some (.int (iI ((i : Nat) : Int)))] [.int (iI ((zN (rSum h F m i = 0) : Nat) : Int)), .int (iI ((zsumT (fun c => zN (rSum h F m c = 0)) i : Nat) : Int))] := by
        have gz1 := zN_le (rSum h F m i = 0)
        refine zx_iadd hC dX1_silentCells_28 ?_
        refine zx_istore_n (L' := [some (.ref a), some (.int (iI ((m : Nat) : Int))), some (.int (iI (((zsumT (fun c => zN (rSum h F m c = 0)) i) + (zN (rSum h F m i = 0)) : Nat) : Int))), some (.int (iI ((i : Nat) : Int)))]) hC dX1_silentCells_29 (by decide) rfl ?_
        refine zx_iinc (b := ((i + 1 : Nat) : Int)) (L' := [some (.ref a), some (.int (iI ((m : Nat) : Int))), some (.int (iI (((zsumT (fun c => zN (rSum h F m c = 0)) i) + (zN (rSum h F m i = 0)) : Nat) : Int))), some (.int (iI ((i + 1 : Nat) : Int)))]) hC dX1_silentCells_30 rfl (by first | rfl | omega) (by decide) rfl ?_
        refine zx_goto (tgt := 4) hC dX1_silentCells_33 (by decide) ?_
        exact ih (i + 1) (by omega) 
      refine zx_if_ne (tgt := 27) hC dX1_silentCells_20 (by decide) (by first | assumption | exact gI _ (by omega) | exact iRm (by omega) (by omega)) (fun c20 => ?_) (fun c20 => ?_)
      · refine zx_iconst (z := 0) hC dX1_silentCells_27 ?_
        refine zx_topi (b := ((zN (rSum h F m i = 0) : Nat) : Int)) (by first | (rw [zN_t (by omega)]; first | done | rfl) | (rw [zN_f (by omega)]; first | done | rfl)) ?_
        exact J20
      · refine zx_iconst (z := 1) hC dX1_silentCells_23 ?_
        refine zx_goto (tgt := 28) hC dX1_silentCells_24 (by decide) ?_
        refine zx_topi (b := ((zN (rSum h F m i = 0) : Nat) : Int)) (by first | (rw [zN_t (by omega)]; first | done | rfl) | (rw [zN_f (by omega)]; first | done | rfl)) ?_
        exact J20
  exact loop (rLen h m) 0 (by omega) 
set_option maxHeartbeats 4000000 in
theorem m_X1_heardKeys (la : Launch) (G : zG) (a : Nat) (h : Nat → Nat) (F : Nat → Nat → Nat → Nat) (c : Nat) (gL : rLs h) (gM : rHM h) (gF : rFb F) (g2 : h 2 ≤ 1) (g4 : c < 1000) : zRd la yX1_heardKeys cX1_heardKeys 4 (some .int) 5 113 G [.ref a, .int (iI ((c : Nat) : Int))] (fun H => zhp G (PED G a h F) H) (fun v9 => v9 = some (.int (iI (rKeys h F c 0)))) := by
  refine zRd.of [some (.ref a), some (.int (iI ((c : Nat) : Int))), none, none] (by decide) (Nat.le_of_ble_eq_true rfl) rfl (fun X hl hC hRm hP hE => ?_)
  have hp0 := hP
  obtain ⟨al, dl, st, tk, xs, ys, ho, hal, hdl, hst, hls, htk⟩ := PED_hp hp0
  have ha := pOb_at ho
  obtain ⟨sg, s0, s1, s2, hsg⟩ := pSe_hp hst
  have g7 := gL.1
  have gl := rLoop_le gL
  refine zx_iconst (z := 0) hC dX1_heardKeys_0 ?_
  refine zx_istore_n (L' := [some (.ref a), some (.int (iI ((c : Nat) : Int))), some (.int (iI 0)), none]) hC dX1_heardKeys_1 (by decide) rfl ?_
  refine zx_iconst (z := 0) hC dX1_heardKeys_2 ?_
  refine zx_istore_n (L' := [some (.ref a), some (.int (iI ((c : Nat) : Int))), some (.int (iI 0)), some (.int (iI 0))]) hC dX1_heardKeys_3 (by decide) rfl ?_
  have loop : ∀ n i : Nat, i + n = 36 → zV X 4 (fun _ => False) (fun H => H = (zs X).heap) 0 0 4 [some (.ref a), some (.int (iI ((c : Nat) : Int))), some (.int (iI ((zsumT (fun k => zN (0 < rRing h F (h 7) c k)) i : Nat) : Int))), some (.int (iI ((i : Nat) : Int)))] [] := by
    intro n
    induction n with
    | zero =>
      intro i hi 
      have hiN : i = 36 := by omega
      rw [hiN]
      refine zx_iload_n hC dX1_heardKeys_4 rfl ?_
      refine zx_bipush (z := 36) hC dX1_heardKeys_5 rfl ?_
      refine zx_icmp_geT (tgt := 40) hC dX1_heardKeys_7 (by decide) (by first | assumption | exact gI _ (by omega) | exact iRm (by omega) (by omega)) (by first | assumption | exact gI _ (by omega) | exact iRm (by omega) (by omega)) (by omega) ?_
      refine zx_iload_n hC dX1_heardKeys_40 rfl ?_
      refine zx_topi (b := rKeys h F c 0) (by rfl) ?_
      exact zx_iret hC hE (Nat.le_refl _) (Nat.le_refl _) (fun H h => ⟨h, rfl⟩) dX1_heardKeys_41
    | succ n ih =>
      intro i hi 
      have gr := rRing_le' (h := h) gF (h 7) c i
      have gs := zsumT_le (g := fun k => zN (0 < rRing h F (h 7) c k)) (B := 1) i (fun j _ => zN_le _)
      refine zx_iload_n hC dX1_heardKeys_4 rfl ?_
      refine zx_bipush (z := 36) hC dX1_heardKeys_5 rfl ?_
      refine zx_icmp_geF (tgt := 40) hC dX1_heardKeys_7 (by decide) (by first | assumption | exact gI _ (by omega) | exact iRm (by omega) (by omega)) (by first | assumption | exact gI _ (by omega) | exact iRm (by omega) (by omega)) (by omega) ?_
      refine zx_iload_n hC dX1_heardKeys_10 rfl ?_
      refine zx_aload_n hC dX1_heardKeys_11 rfl ?_
      refine zx_iload_n hC dX1_heardKeys_12 rfl ?_
      refine zx_iload_n hC dX1_heardKeys_13 rfl ?_
      refine zx_aload_n hC dX1_heardKeys_14 rfl ?_
      refine zx_getf (v := .ref al) (T := TX1) (N := 12) (ci := 1) (fs := [.int (iI ((h 0 : Nat) : Int)), .ref al, .ref dl, .int (iI ((pPl h : Nat) : Int)), .int (iI ((h 9 : Nat) : Int)), .int (iI ((h 10 : Nat) : Int)), .int (iI ((h 2 : Nat) : Int)), .int (iI ((h 13 : Nat) : Int)), .ref st, .int (iI ((pBe h : Nat) : Int)), .int (iI ((h 11 : Nat) : Int)), pTv h tk]) hC in_X1 (zeq ha) rfl 1 (by decide) q193 (fun _ h => h) rfl dX1_heardKeys_15 ?_
      refine zx_rd1 (r := .int (iI (((h 7) : Nat) : Int))) hC zNoA (zcV 0 (As := []) hC (lw_V q976 q342 q1984 q86 q343) (by decide +kernel) rfl (by rw [hRm]; exact ⟨Nat.le_of_ble_eq_true rfl, Nat.le_of_ble_eq_true rfl⟩) (by rw [hRm]; constructor <;> (first | decide | (simp only []; omega) | omega)) rfl (Nat.le_of_ble_eq_true rfl) dX1_heardKeys_18) (m_J2_size (zl X) G al (h 7) xs ) (fun H h => AL_rc hC.2.1 (h ▸ hal)) (fun H h => (h ▸ hal)) ?_
      refine zx_rd1 (r := .int (iI ((rRing h F (h 7) c i : Nat) : Int))) hC zNoA (zcV 3 (As := [.int (iI ((c : Nat) : Int)), .int (iI ((i : Nat) : Int)), .int (iI ((h 7 : Nat) : Int))]) hC (lw_V q1479 q1460 q1461 q83 q1462) (by decide +kernel) rfl (by rw [hRm]; exact ⟨Nat.le_of_ble_eq_true rfl, Nat.le_of_ble_eq_true rfl⟩) (by rw [hRm]; constructor <;> (first | decide | (simp only []; omega) | omega)) rfl (Nat.le_of_ble_eq_true rfl) dX1_heardKeys_21) (m_X1_ring (zl X) G a h F c i (h 7) (by first | assumption | omega | decide | exact iRm (by omega) (by omega) | ((repeat (first | exact gL | refine rLs.up ?_ (by omega) (by omega) | refine rLs.fad ?_)); done) | ((repeat (first | exact gM | refine rHM.up ?_ (by omega))); done) | exact gT _ (by omega) | exact rFadF_le gF _ | ((repeat first | rw [va_up_ne _ _ (by omega)] | rw [va_up_self] | rw [rFadH_o (by omega)] | rw [rAge_o _ _ (by omega)] | rw [rLayH_o (by omega) (by omega) (by omega) (by omega)]); omega)) (by first | assumption | omega | decide | exact iRm (by omega) (by omega) | ((repeat (first | exact gL | refine rLs.up ?_ (by omega) (by omega) | refine rLs.fad ?_)); done) | ((repeat (first | exact gM | refine rHM.up ?_ (by omega))); done) | exact gT _ (by omega) | exact rFadF_le gF _ | ((repeat first | rw [va_up_ne _ _ (by omega)] | rw [va_up_self] | rw [rFadH_o (by omega)] | rw [rAge_o _ _ (by omega)] | rw [rLayH_o (by omega) (by omega) (by omega) (by omega)]); omega)) (by first | assumption | omega | decide | exact iRm (by omega) (by omega) | ((repeat (first | exact gL | refine rLs.up ?_ (by omega) (by omega) | refine rLs.fad ?_)); done) | ((repeat (first | exact gM | refine rHM.up ?_ (by omega))); done) | exact gT _ (by omega) | exact rFadF_le gF _ | ((repeat first | rw [va_up_ne _ _ (by omega)] | rw [va_up_self] | rw [rFadH_o (by omega)] | rw [rAge_o _ _ (by omega)] | rw [rLayH_o (by omega) (by omega) (by omega) (by omega)]); omega)) (by first | assumption | omega | decide | exact iRm (by omega) (by omega) | ((repeat (first | exact gL | refine rLs.up ?_ (by omega) (by omega) | refine rLs.fad ?_)); done) | ((repeat (first | exact gM | refine rHM.up ?_ (by omega))); done) | exact gT _ (by omega) | exact rFadF_le gF _ | ((repeat first | rw [va_up_ne _ _ (by omega)] | rw [va_up_self] | rw [rFadH_o (by omega)] | rw [rAge_o _ _ (by omega)] | rw [rLayH_o (by omega) (by omega) (by omega) (by omega)]); omega)) (by first | assumption | omega | decide | exact iRm (by omega) (by omega) | ((repeat (first | exact gL | refine rLs.up ?_ (by omega) (by omega) | refine rLs.fad ?_)); done) | ((repeat (first | exact gM | refine rHM.up ?_ (by omega))); done) | exact gT _ (by omega) | exact rFadF_le gF _ | ((repeat first | rw [va_up_ne _ _ (by omega)] | rw [va_up_self] | rw [rFadH_o (by omega)] | rw [rAge_o _ _ (by omega)] | rw [rLayH_o (by omega) (by omega) (by omega) (by omega)]); omega)) (by first | assumption | omega | decide | exact iRm (by omega) (by omega) | ((repeat (first | exact gL | refine rLs.up ?_ (by omega) (by omega) | refine rLs.fad ?_)); done) | ((repeat (first | exact gM | refine rHM.up ?_ (by omega))); done) | exact gT _ (by omega) | exact rFadF_le gF _ | ((repeat first | rw [va_up_ne _ _ (by omega)] | rw [va_up_self] | rw [rFadH_o (by omega)] | rw [rAge_o _ _ (by omega)] | rw [rLayH_o (by omega) (by omega) (by omega) (by omega)]); omega)) (by first | assumption | omega | decide | exact iRm (by omega) (by omega) | ((repeat (first | exact gL | refine rLs.up ?_ (by omega) (by omega) | refine rLs.fad ?_)); done) | ((repeat (first | exact gM | refine rHM.up ?_ (by omega))); done) | exact gT _ (by omega) | exact rFadF_le gF _ | ((repeat first | rw [va_up_ne _ _ (by omega)] | rw [va_up_self] | rw [rFadH_o (by omega)] | rw [rAge_o _ _ (by omega)] | rw [rLayH_o (by omega) (by omega) (by omega) (by omega)]); omega))) (fun H h => zrc_of (r := (RX1, TX1, 12)) hC.2.1 ((zeq ha) H h) rfl) (fun H h => (h ▸ hp0)) ?_
      have J24 : zV X 4 (fun _ => False) (fun H => H = (zs X).heap) 0 0 32 [some (.ref a), some (.int (iI ((c : Nat) : Int))), some (.int (iI ((zsumT (fun k => zN (0 < rRing h F (h 7) c k)) i : Nat) : Int))), some (.int (iI ((i : Nat) : Int)))] [.int (iI ((zN (0 < rRing h F (h 7) c i) : Nat) : Int)), .int (iI ((zsumT (fun k => zN (0 < rRing h F (h 7) c k)) i : Nat) : Int))] := by
        have gz1 := zN_le (0 < rRing h F (h 7) c i)
        refine zx_iadd hC dX1_heardKeys_32 ?_
        refine zx_istore_n (L' := [some (.ref a), some (.int (iI ((c : Nat) : Int))), some (.int (iI (((zsumT (fun k => zN (0 < rRing h F (h 7) c k)) i) + (zN (0 < rRing h F (h 7) c i)) : Nat) : Int))), some (.int (iI ((i : Nat) : Int)))]) hC dX1_heardKeys_33 (by decide) rfl ?_
        refine zx_iinc (b := ((i + 1 : Nat) : Int)) (L' := [some (.ref a), some (.int (iI ((c : Nat) : Int))), some (.int (iI (((zsumT (fun k => zN (0 < rRing h F (h 7) c k)) i) + (zN (0 < rRing h F (h 7) c i)) : Nat) : Int))), some (.int (iI ((i + 1 : Nat) : Int)))]) hC dX1_heardKeys_34 rfl (by first | rfl | omega) (by decide) rfl ?_
        refine zx_goto (tgt := 4) hC dX1_heardKeys_37 (by decide) ?_
        exact ih (i + 1) (by omega) 
      refine zx_if_le (tgt := 31) hC dX1_heardKeys_24 (by decide) (by first | assumption | exact gI _ (by omega) | exact iRm (by omega) (by omega)) (fun c24 => ?_) (fun c24 => ?_)
      · refine zx_iconst (z := 0) hC dX1_heardKeys_31 ?_
        refine zx_topi (b := ((zN (0 < rRing h F (h 7) c i) : Nat) : Int)) (by first | (rw [zN_t (by omega)]; first | done | rfl) | (rw [zN_f (by omega)]; first | done | rfl)) ?_
        exact J24
      · refine zx_iconst (z := 1) hC dX1_heardKeys_27 ?_
        refine zx_goto (tgt := 32) hC dX1_heardKeys_28 (by decide) ?_
        refine zx_topi (b := ((zN (0 < rRing h F (h 7) c i) : Nat) : Int)) (by first | (rw [zN_t (by omega)]; first | done | rfl) | (rw [zN_f (by omega)]; first | done | rfl)) ?_
        exact J24
  exact loop (36) 0 (by omega) 
set_option maxHeartbeats 4000000 in
theorem m_X1_highest (la : Launch) (G : zG) (a : Nat) (h : Nat → Nat) (F : Nat → Nat → Nat → Nat) (c : Nat) (gL : rLs h) (gM : rHM h) (gF : rFb F) (g2 : h 2 ≤ 1) (g4 : c < 1000) : zRd la yX1_highest cX1_highest 4 (some .int) 5 113 G [.ref a, .int (iI ((c : Nat) : Int))] (fun H => zhp G (PED G a h F) H) (fun v9 => v9 = some (.int (iI (rKeys h F c 2)))) := by
  refine zRd.of [some (.ref a), some (.int (iI ((c : Nat) : Int))), none, none] (by decide) (Nat.le_of_ble_eq_true rfl) rfl (fun X hl hC hRm hP hE => ?_)
  have hp0 := hP
  obtain ⟨al, dl, st, tk, xs, ys, ho, hal, hdl, hst, hls, htk⟩ := PED_hp hp0
  have ha := pOb_at ho
  obtain ⟨sg, s0, s1, s2, hsg⟩ := pSe_hp hst
  have g7 := gL.1
  have gl := rLoop_le gL
  refine zx_bipush (z := (-4)) hC dX1_highest_0 rfl ?_
  refine zx_istore_n (L' := [some (.ref a), some (.int (iI ((c : Nat) : Int))), some (.int (iI (-4))), none]) hC dX1_highest_2 (by decide) rfl ?_
  refine zx_iconst (z := 0) hC dX1_highest_3 ?_
  refine zx_istore_n (L' := [some (.ref a), some (.int (iI ((c : Nat) : Int))), some (.int (iI (-4))), some (.int (iI 0))]) hC dX1_highest_4 (by decide) rfl ?_
  have loop : ∀ n i : Nat, i + n = 36 → zV X 4 (fun _ => False) (fun H => H = (zs X).heap) 0 0 5 [some (.ref a), some (.int (iI ((c : Nat) : Int))), some (.int (iI (rFnd (fun k => rRing h F (h 7) c k) 2 i))), some (.int (iI ((i : Nat) : Int)))] [] := by
    intro n
    induction n with
    | zero =>
      intro i hi 
      have hiN : i = 36 := by omega
      rw [hiN]
      refine zx_iload_n hC dX1_highest_5 rfl ?_
      refine zx_bipush (z := 36) hC dX1_highest_6 rfl ?_
      refine zx_icmp_geT (tgt := 39) hC dX1_highest_8 (by decide) (by first | assumption | exact gI _ (by omega) | exact iRm (by omega) (by omega)) (by first | assumption | exact gI _ (by omega) | exact iRm (by omega) (by omega)) (by omega) ?_
      refine zx_iload_n hC dX1_highest_39 rfl ?_
      refine zx_topi (b := rKeys h F c 2) (by rfl) ?_
      exact zx_iret hC hE (Nat.le_refl _) (Nat.le_refl _) (fun H h => ⟨h, rfl⟩) dX1_highest_40
    | succ n ih =>
      intro i hi 
      have gr := rRing_le' (h := h) gF (h 7) c i
      have gf := rFnd_r (fun k => rRing h F (h 7) c k) 2 i
      refine zx_iload_n hC dX1_highest_5 rfl ?_
      refine zx_bipush (z := 36) hC dX1_highest_6 rfl ?_
      refine zx_icmp_geF (tgt := 39) hC dX1_highest_8 (by decide) (by first | assumption | exact gI _ (by omega) | exact iRm (by omega) (by omega)) (by first | assumption | exact gI _ (by omega) | exact iRm (by omega) (by omega)) (by omega) ?_
      refine zx_aload_n hC dX1_highest_11 rfl ?_
      refine zx_iload_n hC dX1_highest_12 rfl ?_
      refine zx_iload_n hC dX1_highest_13 rfl ?_
      refine zx_aload_n hC dX1_highest_14 rfl ?_
      refine zx_getf (v := .ref al) (T := TX1) (N := 12) (ci := 1) (fs := [.int (iI ((h 0 : Nat) : Int)), .ref al, .ref dl, .int (iI ((pPl h : Nat) : Int)), .int (iI ((h 9 : Nat) : Int)), .int (iI ((h 10 : Nat) : Int)), .int (iI ((h 2 : Nat) : Int)), .int (iI ((h 13 : Nat) : Int)), .ref st, .int (iI ((pBe h : Nat) : Int)), .int (iI ((h 11 : Nat) : Int)), pTv h tk]) hC in_X1 (zeq ha) rfl 1 (by decide) q193 (fun _ h => h) rfl dX1_highest_15 ?_
      refine zx_rd1 (r := .int (iI (((h 7) : Nat) : Int))) hC zNoA (zcV 0 (As := []) hC (lw_V q976 q342 q1984 q86 q343) (by decide +kernel) rfl (by rw [hRm]; exact ⟨Nat.le_of_ble_eq_true rfl, Nat.le_of_ble_eq_true rfl⟩) (by rw [hRm]; constructor <;> (first | decide | (simp only []; omega) | omega)) rfl (Nat.le_of_ble_eq_true rfl) dX1_highest_18) (m_J2_size (zl X) G al (h 7) xs ) (fun H h => AL_rc hC.2.1 (h ▸ hal)) (fun H h => (h ▸ hal)) ?_
      refine zx_rd1 (r := .int (iI ((rRing h F (h 7) c i : Nat) : Int))) hC zNoA (zcV 3 (As := [.int (iI ((c : Nat) : Int)), .int (iI ((i : Nat) : Int)), .int (iI ((h 7 : Nat) : Int))]) hC (lw_V q1479 q1460 q1461 q83 q1462) (by decide +kernel) rfl (by rw [hRm]; exact ⟨Nat.le_of_ble_eq_true rfl, Nat.le_of_ble_eq_true rfl⟩) (by rw [hRm]; constructor <;> (first | decide | (simp only []; omega) | omega)) rfl (Nat.le_of_ble_eq_true rfl) dX1_highest_21) (m_X1_ring (zl X) G a h F c i (h 7) (by first | assumption | omega | decide | exact iRm (by omega) (by omega) | ((repeat (first | exact gL | refine rLs.up ?_ (by omega) (by omega) | refine rLs.fad ?_)); done) | ((repeat (first | exact gM | refine rHM.up ?_ (by omega))); done) | exact gT _ (by omega) | exact rFadF_le gF _ | ((repeat first | rw [va_up_ne _ _ (by omega)] | rw [va_up_self] | rw [rFadH_o (by omega)] | rw [rAge_o _ _ (by omega)] | rw [rLayH_o (by omega) (by omega) (by omega) (by omega)]); omega)) (by first | assumption | omega | decide | exact iRm (by omega) (by omega) | ((repeat (first | exact gL | refine rLs.up ?_ (by omega) (by omega) | refine rLs.fad ?_)); done) | ((repeat (first | exact gM | refine rHM.up ?_ (by omega))); done) | exact gT _ (by omega) | exact rFadF_le gF _ | ((repeat first | rw [va_up_ne _ _ (by omega)] | rw [va_up_self] | rw [rFadH_o (by omega)] | rw [rAge_o _ _ (by omega)] | rw [rLayH_o (by omega) (by omega) (by omega) (by omega)]); omega)) (by first | assumption | omega | decide | exact iRm (by omega) (by omega) | ((repeat (first | exact gL | refine rLs.up ?_ (by omega) (by omega) | refine rLs.fad ?_)); done) | ((repeat (first | exact gM | refine rHM.up ?_ (by omega))); done) | exact gT _ (by omega) | exact rFadF_le gF _ | ((repeat first | rw [va_up_ne _ _ (by omega)] | rw [va_up_self] | rw [rFadH_o (by omega)] | rw [rAge_o _ _ (by omega)] | rw [rLayH_o (by omega) (by omega) (by omega) (by omega)]); omega)) (by first | assumption | omega | decide | exact iRm (by omega) (by omega) | ((repeat (first | exact gL | refine rLs.up ?_ (by omega) (by omega) | refine rLs.fad ?_)); done) | ((repeat (first | exact gM | refine rHM.up ?_ (by omega))); done) | exact gT _ (by omega) | exact rFadF_le gF _ | ((repeat first | rw [va_up_ne _ _ (by omega)] | rw [va_up_self] | rw [rFadH_o (by omega)] | rw [rAge_o _ _ (by omega)] | rw [rLayH_o (by omega) (by omega) (by omega) (by omega)]); omega)) (by first | assumption | omega | decide | exact iRm (by omega) (by omega) | ((repeat (first | exact gL | refine rLs.up ?_ (by omega) (by omega) | refine rLs.fad ?_)); done) | ((repeat (first | exact gM | refine rHM.up ?_ (by omega))); done) | exact gT _ (by omega) | exact rFadF_le gF _ | ((repeat first | rw [va_up_ne _ _ (by omega)] | rw [va_up_self] | rw [rFadH_o (by omega)] | rw [rAge_o _ _ (by omega)] | rw [rLayH_o (by omega) (by omega) (by omega) (by omega)]); omega)) (by first | assumption | omega | decide | exact iRm (by omega) (by omega) | ((repeat (first | exact gL | refine rLs.up ?_ (by omega) (by omega) | refine rLs.fad ?_)); done) | ((repeat (first | exact gM | refine rHM.up ?_ (by omega))); done) | exact gT _ (by omega) | exact rFadF_le gF _ | ((repeat first | rw [va_up_ne _ _ (by omega)] | rw [va_up_self] | rw [rFadH_o (by omega)] | rw [rAge_o _ _ (by omega)] | rw [rLayH_o (by omega) (by omega) (by omega) (by omega)]); omega)) (by first | assumption | omega | decide | exact iRm (by omega) (by omega) | ((repeat (first | exact gL | refine rLs.up ?_ (by omega) (by omega) | refine rLs.fad ?_)); done) | ((repeat (first | exact gM | refine rHM.up ?_ (by omega))); done) | exact gT _ (by omega) | exact rFadF_le gF _ | ((repeat first | rw [va_up_ne _ _ (by omega)] | rw [va_up_self] | rw [rFadH_o (by omega)] | rw [rAge_o _ _ (by omega)] | rw [rLayH_o (by omega) (by omega) (by omega) (by omega)]); omega))) (fun H h => zrc_of (r := (RX1, TX1, 12)) hC.2.1 ((zeq ha) H h) rfl) (fun H h => (h ▸ hp0)) ?_
      have J24 : zV X 4 (fun _ => False) (fun H => H = (zs X).heap) 0 0 32 [some (.ref a), some (.int (iI ((c : Nat) : Int))), some (.int (iI (rFnd (fun k => rRing h F (h 7) c k) 2 i))), some (.int (iI ((i : Nat) : Int)))] [.int (iI (rFnd (fun k => rRing h F (h 7) c k) 2 (i + 1)))] := by
        refine zx_istore_n (L' := [some (.ref a), some (.int (iI ((c : Nat) : Int))), some (.int (iI (rFnd (fun k => rRing h F (h 7) c k) 2 (i + 1)))), some (.int (iI ((i : Nat) : Int)))]) hC dX1_highest_32 (by decide) rfl ?_
        refine zx_iinc (b := ((i + 1 : Nat) : Int)) (L' := [some (.ref a), some (.int (iI ((c : Nat) : Int))), some (.int (iI (rFnd (fun k => rRing h F (h 7) c k) 2 (i + 1)))), some (.int (iI ((i + 1 : Nat) : Int)))]) hC dX1_highest_33 rfl (by first | rfl | omega) (by decide) rfl ?_
        refine zx_goto (tgt := 5) hC dX1_highest_36 (by decide) ?_
        exact ih (i + 1) (by omega) 
      refine zx_if_le (tgt := 31) hC dX1_highest_24 (by decide) (by first | assumption | exact gI _ (by omega) | exact iRm (by omega) (by omega)) (fun c24 => ?_) (fun c24 => ?_)
      · refine zx_iload_n hC dX1_highest_31 rfl ?_
        refine zx_topi (b := rFnd (fun k => rRing h F (h 7) c k) 2 (i + 1)) (by first | exact (if_pos (show 0 < rRing h F (h 7) c i by omega)).symm | exact (if_neg (show ¬ 0 < rRing h F (h 7) c i by omega)).symm) ?_
        exact J24
      · refine zx_iload_n hC dX1_highest_27 rfl ?_
        refine zx_goto (tgt := 32) hC dX1_highest_28 (by decide) ?_
        refine zx_topi (b := rFnd (fun k => rRing h F (h 7) c k) 2 (i + 1)) (by first | exact (if_pos (show 0 < rRing h F (h 7) c i by omega)).symm | exact (if_neg (show ¬ 0 < rRing h F (h 7) c i by omega)).symm) ?_
        exact J24
  exact loop (36) 0 (by omega) 
set_option maxHeartbeats 4000000 in
theorem m_X1_strongest (la : Launch) (G : zG) (a : Nat) (h : Nat → Nat) (F : Nat → Nat → Nat → Nat) (c : Nat) (gL : rLs h) (gM : rHM h) (gF : rFb F) (g2 : h 2 ≤ 1) (g4 : c < 1000) : zRd la yX1_strongest cX1_strongest 6 (some .int) 5 113 G [.ref a, .int (iI ((c : Nat) : Int))] (fun H => zhp G (PED G a h F) H) (fun v9 => v9 = some (.int (iI (rKeys h F c 4)))) := by
  refine zRd.of [some (.ref a), some (.int (iI ((c : Nat) : Int))), none, none, none, none] (by decide) (Nat.le_of_ble_eq_true rfl) rfl (fun X hl hC hRm hP hE => ?_)
  have hp0 := hP
  obtain ⟨al, dl, st, tk, xs, ys, ho, hal, hdl, hst, hls, htk⟩ := PED_hp hp0
  have ha := pOb_at ho
  obtain ⟨sg, s0, s1, s2, hsg⟩ := pSe_hp hst
  have g7 := gL.1
  have gl := rLoop_le gL
  refine zx_bipush (z := (-4)) hC dX1_strongest_0 rfl ?_
  refine zx_istore_n (L' := [some (.ref a), some (.int (iI ((c : Nat) : Int))), some (.int (iI (-4))), none, none, none]) hC dX1_strongest_2 (by decide) rfl ?_
  refine zx_iconst (z := 0) hC dX1_strongest_3 ?_
  refine zx_istore_n (L' := [some (.ref a), some (.int (iI ((c : Nat) : Int))), some (.int (iI (-4))), some (.int (iI 0)), none, none]) hC dX1_strongest_4 (by decide) rfl ?_
  refine zx_iconst (z := 0) hC dX1_strongest_5 ?_
  refine zx_istore (L' := [some (.ref a), some (.int (iI ((c : Nat) : Int))), some (.int (iI (-4))), some (.int (iI 0)), some (.int (iI 0)), none]) hC dX1_strongest_6 (by decide) rfl ?_
  have loop : ∀ n i : Nat, i + n = 36 → zV X 6 (fun _ => False) (fun H => H = (zs X).heap) 0 0 8 [some (.ref a), some (.int (iI ((c : Nat) : Int))), some (.int (iI (rFnd (fun k => rRing h F (h 7) c k) 4 i))), some (.int (iI ((zmaxT (fun k => rRing h F (h 7) c k) i : Nat) : Int))), some (.int (iI ((i : Nat) : Int))), none] [] := by
    intro n
    induction n with
    | zero =>
      intro i hi 
      have hiN : i = 36 := by omega
      rw [hiN]
      refine zx_iload hC dX1_strongest_8 rfl ?_
      refine zx_bipush (z := 36) hC dX1_strongest_10 rfl ?_
      refine zx_icmp_geT (tgt := 57) hC dX1_strongest_12 (by decide) (by first | assumption | exact gI _ (by omega) | exact iRm (by omega) (by omega)) (by first | assumption | exact gI _ (by omega) | exact iRm (by omega) (by omega)) (by omega) ?_
      refine zx_iload_n hC dX1_strongest_57 rfl ?_
      refine zx_topi (b := rKeys h F c 4) (by rfl) ?_
      exact zx_iret hC hE (Nat.le_refl _) (Nat.le_refl _) (fun H h => ⟨h, rfl⟩) dX1_strongest_58
    | succ n ih =>
      intro i hi 
      have gr := rRing_le' (h := h) gF (h 7) c i
      have gf := rFnd_r (fun k => rRing h F (h 7) c k) 4 i
      have gm := zmaxT_le (g := (fun k => rRing h F (h 7) c k)) (B := 99 * h 7) i (fun j _ => rRing_le' gF _ _ _)
      refine zx_iload hC dX1_strongest_8 rfl ?_
      refine zx_bipush (z := 36) hC dX1_strongest_10 rfl ?_
      refine zx_icmp_geF (tgt := 57) hC dX1_strongest_12 (by decide) (by first | assumption | exact gI _ (by omega) | exact iRm (by omega) (by omega)) (by first | assumption | exact gI _ (by omega) | exact iRm (by omega) (by omega)) (by omega) ?_
      refine zx_aload_n hC dX1_strongest_15 rfl ?_
      refine zx_iload_n hC dX1_strongest_16 rfl ?_
      refine zx_iload hC dX1_strongest_17 rfl ?_
      refine zx_aload_n hC dX1_strongest_19 rfl ?_
      refine zx_getf (v := .ref al) (T := TX1) (N := 12) (ci := 1) (fs := [.int (iI ((h 0 : Nat) : Int)), .ref al, .ref dl, .int (iI ((pPl h : Nat) : Int)), .int (iI ((h 9 : Nat) : Int)), .int (iI ((h 10 : Nat) : Int)), .int (iI ((h 2 : Nat) : Int)), .int (iI ((h 13 : Nat) : Int)), .ref st, .int (iI ((pBe h : Nat) : Int)), .int (iI ((h 11 : Nat) : Int)), pTv h tk]) hC in_X1 (zeq ha) rfl 1 (by decide) q193 (fun _ h => h) rfl dX1_strongest_20 ?_
      refine zx_rd1 (r := .int (iI (((h 7) : Nat) : Int))) hC zNoA (zcV 0 (As := []) hC (lw_V q976 q342 q1984 q86 q343) (by decide +kernel) rfl (by rw [hRm]; exact ⟨Nat.le_of_ble_eq_true rfl, Nat.le_of_ble_eq_true rfl⟩) (by rw [hRm]; constructor <;> (first | decide | (simp only []; omega) | omega)) rfl (Nat.le_of_ble_eq_true rfl) dX1_strongest_23) (m_J2_size (zl X) G al (h 7) xs ) (fun H h => AL_rc hC.2.1 (h ▸ hal)) (fun H h => (h ▸ hal)) ?_
      refine zx_rd1 (r := .int (iI ((rRing h F (h 7) c i : Nat) : Int))) hC zNoA (zcV 3 (As := [.int (iI ((c : Nat) : Int)), .int (iI ((i : Nat) : Int)), .int (iI ((h 7 : Nat) : Int))]) hC (lw_V q1479 q1460 q1461 q83 q1462) (by decide +kernel) rfl (by rw [hRm]; exact ⟨Nat.le_of_ble_eq_true rfl, Nat.le_of_ble_eq_true rfl⟩) (by rw [hRm]; constructor <;> (first | decide | (simp only []; omega) | omega)) rfl (Nat.le_of_ble_eq_true rfl) dX1_strongest_26) (m_X1_ring (zl X) G a h F c i (h 7) (by first | assumption | omega | decide | exact iRm (by omega) (by omega) | ((repeat (first | exact gL | refine rLs.up ?_ (by omega) (by omega) | refine rLs.fad ?_)); done) | ((repeat (first | exact gM | refine rHM.up ?_ (by omega))); done) | exact gT _ (by omega) | exact rFadF_le gF _ | ((repeat first | rw [va_up_ne _ _ (by omega)] | rw [va_up_self] | rw [rFadH_o (by omega)] | rw [rAge_o _ _ (by omega)] | rw [rLayH_o (by omega) (by omega) (by omega) (by omega)]); omega)) (by first | assumption | omega | decide | exact iRm (by omega) (by omega) | ((repeat (first | exact gL | refine rLs.up ?_ (by omega) (by omega) | refine rLs.fad ?_)); done) | ((repeat (first | exact gM | refine rHM.up ?_ (by omega))); done) | exact gT _ (by omega) | exact rFadF_le gF _ | ((repeat first | rw [va_up_ne _ _ (by omega)] | rw [va_up_self] | rw [rFadH_o (by omega)] | rw [rAge_o _ _ (by omega)] | rw [rLayH_o (by omega) (by omega) (by omega) (by omega)]); omega)) (by first | assumption | omega | decide | exact iRm (by omega) (by omega) | ((repeat (first | exact gL | refine rLs.up ?_ (by omega) (by omega) | refine rLs.fad ?_)); done) | ((repeat (first | exact gM | refine rHM.up ?_ (by omega))); done) | exact gT _ (by omega) | exact rFadF_le gF _ | ((repeat first | rw [va_up_ne _ _ (by omega)] | rw [va_up_self] | rw [rFadH_o (by omega)] | rw [rAge_o _ _ (by omega)] | rw [rLayH_o (by omega) (by omega) (by omega) (by omega)]); omega)) (by first | assumption | omega | decide | exact iRm (by omega) (by omega) | ((repeat (first | exact gL | refine rLs.up ?_ (by omega) (by omega) | refine rLs.fad ?_)); done) | ((repeat (first | exact gM | refine rHM.up ?_ (by omega))); done) | exact gT _ (by omega) | exact rFadF_le gF _ | ((repeat first | rw [va_up_ne _ _ (by omega)] | rw [va_up_self] | rw [rFadH_o (by omega)] | rw [rAge_o _ _ (by omega)] | rw [rLayH_o (by omega) (by omega) (by omega) (by omega)]); omega)) (by first | assumption | omega | decide | exact iRm (by omega) (by omega) | ((repeat (first | exact gL | refine rLs.up ?_ (by omega) (by omega) | refine rLs.fad ?_)); done) | ((repeat (first | exact gM | refine rHM.up ?_ (by omega))); done) | exact gT _ (by omega) | exact rFadF_le gF _ | ((repeat first | rw [va_up_ne _ _ (by omega)] | rw [va_up_self] | rw [rFadH_o (by omega)] | rw [rAge_o _ _ (by omega)] | rw [rLayH_o (by omega) (by omega) (by omega) (by omega)]); omega)) (by first | assumption | omega | decide | exact iRm (by omega) (by omega) | ((repeat (first | exact gL | refine rLs.up ?_ (by omega) (by omega) | refine rLs.fad ?_)); done) | ((repeat (first | exact gM | refine rHM.up ?_ (by omega))); done) | exact gT _ (by omega) | exact rFadF_le gF _ | ((repeat first | rw [va_up_ne _ _ (by omega)] | rw [va_up_self] | rw [rFadH_o (by omega)] | rw [rAge_o _ _ (by omega)] | rw [rLayH_o (by omega) (by omega) (by omega) (by omega)]); omega)) (by first | assumption | omega | decide | exact iRm (by omega) (by omega) | ((repeat (first | exact gL | refine rLs.up ?_ (by omega) (by omega) | refine rLs.fad ?_)); done) | ((repeat (first | exact gM | refine rHM.up ?_ (by omega))); done) | exact gT _ (by omega) | exact rFadF_le gF _ | ((repeat first | rw [va_up_ne _ _ (by omega)] | rw [va_up_self] | rw [rFadH_o (by omega)] | rw [rAge_o _ _ (by omega)] | rw [rLayH_o (by omega) (by omega) (by omega) (by omega)]); omega))) (fun H h => zrc_of (r := (RX1, TX1, 12)) hC.2.1 ((zeq ha) H h) rfl) (fun H h => (h ▸ hp0)) ?_
      refine zx_istore (L' := [some (.ref a), some (.int (iI ((c : Nat) : Int))), some (.int (iI (rFnd (fun k => rRing h F (h 7) c k) 4 i))), some (.int (iI ((zmaxT (fun k => rRing h F (h 7) c k) i : Nat) : Int))), some (.int (iI ((i : Nat) : Int))), some (.int (iI ((rRing h F (h 7) c i : Nat) : Int)))]) hC dX1_strongest_29 (by decide) rfl ?_
      have J31 : zV X 6 (fun _ => False) (fun H => H = (zs X).heap) 0 0 43 [some (.ref a), some (.int (iI ((c : Nat) : Int))), some (.int (iI (rFnd (fun k => rRing h F (h 7) c k) 4 i))), some (.int (iI ((zmaxT (fun k => rRing h F (h 7) c k) i : Nat) : Int))), some (.int (iI ((i : Nat) : Int))), some (.int (iI ((rRing h F (h 7) c i : Nat) : Int)))] [.int (iI (rFnd (fun k => rRing h F (h 7) c k) 4 (i + 1)))] := by
        refine zx_istore_n (L' := [some (.ref a), some (.int (iI ((c : Nat) : Int))), some (.int (iI (rFnd (fun k => rRing h F (h 7) c k) 4 (i + 1)))), some (.int (iI ((zmaxT (fun k => rRing h F (h 7) c k) i : Nat) : Int))), some (.int (iI ((i : Nat) : Int))), some (.int (iI ((rRing h F (h 7) c i : Nat) : Int)))]) hC dX1_strongest_43 (by decide) rfl ?_
        refine zx_iload_n hC dX1_strongest_44 rfl ?_
        refine zx_iload hC dX1_strongest_45 rfl ?_
        refine zx_mmax hC q1018 (by rw [hRm]; exact ⟨Nat.le_of_ble_eq_true rfl, Nat.le_of_ble_eq_true rfl⟩) (Nat.le_of_ble_eq_true rfl) (by rw [hRm]; constructor <;> (first | decide | (simp only []; omega) | omega)) (by first | assumption | exact gI _ (by omega) | exact iRm (by omega) (by omega)) (by first | assumption | exact gI _ (by omega) | exact iRm (by omega) (by omega)) dX1_strongest_47 ?_
        refine zx_topi (b := ((if (zmaxT (fun k => rRing h F (h 7) c k) i) < (rRing h F (h 7) c i) then (rRing h F (h 7) c i) else (zmaxT (fun k => rRing h F (h 7) c k) i) : Nat) : Int)) (by first | rfl | (split <;> split <;> omega)) ?_
        refine zx_topi (b := ((zmaxT (fun k => rRing h F (h 7) c k) (i + 1) : Nat) : Int)) (by simp only [zmaxT]; (repeat' split) <;> omega) ?_
        refine zx_istore_n (L' := [some (.ref a), some (.int (iI ((c : Nat) : Int))), some (.int (iI (rFnd (fun k => rRing h F (h 7) c k) 4 (i + 1)))), some (.int (iI ((zmaxT (fun k => rRing h F (h 7) c k) (i + 1) : Nat) : Int))), some (.int (iI ((i : Nat) : Int))), some (.int (iI ((rRing h F (h 7) c i : Nat) : Int)))]) hC dX1_strongest_50 (by decide) rfl ?_
        refine zx_iinc (b := ((i + 1 : Nat) : Int)) (L' := [some (.ref a), some (.int (iI ((c : Nat) : Int))), some (.int (iI (rFnd (fun k => rRing h F (h 7) c k) 4 (i + 1)))), some (.int (iI ((zmaxT (fun k => rRing h F (h 7) c k) (i + 1) : Nat) : Int))), some (.int (iI ((i + 1 : Nat) : Int))), some (.int (iI ((rRing h F (h 7) c i : Nat) : Int)))]) hC dX1_strongest_51 rfl (by first | rfl | omega) (by decide) rfl ?_
        refine zx_goto (tgt := 8) hC dX1_strongest_54 (by decide) ?_
        refine zx_le (L' := [some (.ref a), some (.int (iI ((c : Nat) : Int))), some (.int (iI (rFnd (fun k => rRing h F (h 7) c k) 4 (i + 1)))), some (.int (iI ((zmaxT (fun k => rRing h F (h 7) c k) (i + 1) : Nat) : Int))), some (.int (iI ((i + 1 : Nat) : Int))), none]) (zle_s (zle_s (zle_s (zle_s (zle_s (zle_n zle_0)))))) ?_
        exact ih (i + 1) (by omega) 
      refine zx_iload hC dX1_strongest_31 rfl ?_
      refine zx_iload_n hC dX1_strongest_33 rfl ?_
      refine zx_icmp_le (tgt := 42) hC dX1_strongest_34 (by decide) (by first | assumption | exact gI _ (by omega) | exact iRm (by omega) (by omega)) (by first | assumption | exact gI _ (by omega) | exact iRm (by omega) (by omega)) (fun c34 => ?_) (fun c34 => ?_)
      · refine zx_iload_n hC dX1_strongest_42 rfl ?_
        refine zx_topi (b := rFnd (fun k => rRing h F (h 7) c k) 4 (i + 1)) (by first | exact (if_pos (show zmaxT (fun k => rRing h F (h 7) c k) i < rRing h F (h 7) c i by omega)).symm | exact (if_neg (show ¬ zmaxT (fun k => rRing h F (h 7) c k) i < rRing h F (h 7) c i by omega)).symm) ?_
        exact J31
      · refine zx_iload hC dX1_strongest_37 rfl ?_
        refine zx_goto (tgt := 43) hC dX1_strongest_39 (by decide) ?_
        refine zx_topi (b := rFnd (fun k => rRing h F (h 7) c k) 4 (i + 1)) (by first | exact (if_pos (show zmaxT (fun k => rRing h F (h 7) c k) i < rRing h F (h 7) c i by omega)).symm | exact (if_neg (show ¬ zmaxT (fun k => rRing h F (h 7) c k) i < rRing h F (h 7) c i by omega)).symm) ?_
        exact J31
  exact loop (36) 0 (by omega) 
set_option maxHeartbeats 4000000 in
theorem m_X1_lowest (la : Launch) (G : zG) (a : Nat) (h : Nat → Nat) (F : Nat → Nat → Nat → Nat) (c : Nat) (gL : rLs h) (gM : rHM h) (gF : rFb F) (g2 : h 2 ≤ 1) (g4 : c < 1000) : zRd la yX1_lowest cX1_lowest 4 (some .int) 5 113 G [.ref a, .int (iI ((c : Nat) : Int))] (fun H => zhp G (PED G a h F) H) (fun v9 => v9 = some (.int (iI (rKeys h F c 3)))) := by
  refine zRd.of [some (.ref a), some (.int (iI ((c : Nat) : Int))), none, none] (by decide) (Nat.le_of_ble_eq_true rfl) rfl (fun X hl hC hRm hP hE => ?_)
  have hp0 := hP
  obtain ⟨al, dl, st, tk, xs, ys, ho, hal, hdl, hst, hls, htk⟩ := PED_hp hp0
  have ha := pOb_at ho
  obtain ⟨sg, s0, s1, s2, hsg⟩ := pSe_hp hst
  have g7 := gL.1
  have gl := rLoop_le gL
  refine zx_bipush (z := (-4)) hC dX1_lowest_0 rfl ?_
  refine zx_istore_n (L' := [some (.ref a), some (.int (iI ((c : Nat) : Int))), some (.int (iI (-4))), none]) hC dX1_lowest_2 (by decide) rfl ?_
  refine zx_bipush (z := 35) hC dX1_lowest_3 rfl ?_
  refine zx_istore_n (L' := [some (.ref a), some (.int (iI ((c : Nat) : Int))), some (.int (iI (-4))), some (.int (iI 35))]) hC dX1_lowest_5 (by decide) rfl ?_
  have loop : ∀ (m n : Nat) (k : Int), n + m = 36 → k = 35 - (n : Int) → zV X 4 (fun _ => False) (fun H => H = (zs X).heap) 0 0 6 [some (.ref a), some (.int (iI ((c : Nat) : Int))), some (.int (iI (flow (fun k => rRing h F (h 7) c k) n))), some (.int (iI k))] [] := by
    intro m
    induction m with
    | zero =>
      intro n k hn hk
      have hn36 : n = 36 := by omega
      refine zx_iload_n hC dX1_lowest_6 rfl ?_
      refine zx_if_ltT (tgt := 38) hC dX1_lowest_7 (by decide) (by first | assumption | exact gI _ (by omega) | exact iRm (by omega) (by omega)) (by omega) ?_
      refine zx_iload_n hC dX1_lowest_38 rfl ?_
      refine zx_topi (b := rKeys h F c 3) (by rw [hn36]; exact flow_36 _) ?_
      exact zx_iret hC hE (Nat.le_refl _) (Nat.le_refl _) (fun H h => ⟨h, rfl⟩) dX1_lowest_39
    | succ m ih =>
      intro n k hn hk
      obtain ⟨i, ei⟩ : ∃ i : Nat, k = (i : Int) := ⟨k.toNat, by omega⟩
      rw [ei]
      have e35 : 35 - n = i := by omega
      have gr := rRing_le' (h := h) gF (h 7) c i
      have gf := flow_r (fun k => rRing h F (h 7) c k) n
      refine zx_iload_n hC dX1_lowest_6 rfl ?_
      refine zx_if_ltF (tgt := 38) hC dX1_lowest_7 (by decide) (by first | assumption | exact gI _ (by omega) | exact iRm (by omega) (by omega)) (by omega) ?_
      refine zx_aload_n hC dX1_lowest_10 rfl ?_
      refine zx_iload_n hC dX1_lowest_11 rfl ?_
      refine zx_iload_n hC dX1_lowest_12 rfl ?_
      refine zx_aload_n hC dX1_lowest_13 rfl ?_
      refine zx_getf (v := .ref al) (T := TX1) (N := 12) (ci := 1) (fs := [.int (iI ((h 0 : Nat) : Int)), .ref al, .ref dl, .int (iI ((pPl h : Nat) : Int)), .int (iI ((h 9 : Nat) : Int)), .int (iI ((h 10 : Nat) : Int)), .int (iI ((h 2 : Nat) : Int)), .int (iI ((h 13 : Nat) : Int)), .ref st, .int (iI ((pBe h : Nat) : Int)), .int (iI ((h 11 : Nat) : Int)), pTv h tk]) hC in_X1 (zeq ha) rfl 1 (by decide) q193 (fun _ h => h) rfl dX1_lowest_14 ?_
      refine zx_rd1 (r := .int (iI (((h 7) : Nat) : Int))) hC zNoA (zcV 0 (As := []) hC (lw_V q976 q342 q1984 q86 q343) (by decide +kernel) rfl (by rw [hRm]; exact ⟨Nat.le_of_ble_eq_true rfl, Nat.le_of_ble_eq_true rfl⟩) (by rw [hRm]; constructor <;> (first | decide | (simp only []; omega) | omega)) rfl (Nat.le_of_ble_eq_true rfl) dX1_lowest_17) (m_J2_size (zl X) G al (h 7) xs ) (fun H h => AL_rc hC.2.1 (h ▸ hal)) (fun H h => (h ▸ hal)) ?_
      refine zx_rd1 (r := .int (iI ((rRing h F (h 7) c i : Nat) : Int))) hC zNoA (zcV 3 (As := [.int (iI ((c : Nat) : Int)), .int (iI ((i : Nat) : Int)), .int (iI ((h 7 : Nat) : Int))]) hC (lw_V q1479 q1460 q1461 q83 q1462) (by decide +kernel) rfl (by rw [hRm]; exact ⟨Nat.le_of_ble_eq_true rfl, Nat.le_of_ble_eq_true rfl⟩) (by rw [hRm]; constructor <;> (first | decide | (simp only []; omega) | omega)) rfl (Nat.le_of_ble_eq_true rfl) dX1_lowest_20) (m_X1_ring (zl X) G a h F c i (h 7) (by first | assumption | omega | decide | exact iRm (by omega) (by omega) | ((repeat (first | exact gL | refine rLs.up ?_ (by omega) (by omega) | refine rLs.fad ?_)); done) | ((repeat (first | exact gM | refine rHM.up ?_ (by omega))); done) | exact gT _ (by omega) | exact rFadF_le gF _ | ((repeat first | rw [va_up_ne _ _ (by omega)] | rw [va_up_self] | rw [rFadH_o (by omega)] | rw [rAge_o _ _ (by omega)] | rw [rLayH_o (by omega) (by omega) (by omega) (by omega)]); omega)) (by first | assumption | omega | decide | exact iRm (by omega) (by omega) | ((repeat (first | exact gL | refine rLs.up ?_ (by omega) (by omega) | refine rLs.fad ?_)); done) | ((repeat (first | exact gM | refine rHM.up ?_ (by omega))); done) | exact gT _ (by omega) | exact rFadF_le gF _ | ((repeat first | rw [va_up_ne _ _ (by omega)] | rw [va_up_self] | rw [rFadH_o (by omega)] | rw [rAge_o _ _ (by omega)] | rw [rLayH_o (by omega) (by omega) (by omega) (by omega)]); omega)) (by first | assumption | omega | decide | exact iRm (by omega) (by omega) | ((repeat (first | exact gL | refine rLs.up ?_ (by omega) (by omega) | refine rLs.fad ?_)); done) | ((repeat (first | exact gM | refine rHM.up ?_ (by omega))); done) | exact gT _ (by omega) | exact rFadF_le gF _ | ((repeat first | rw [va_up_ne _ _ (by omega)] | rw [va_up_self] | rw [rFadH_o (by omega)] | rw [rAge_o _ _ (by omega)] | rw [rLayH_o (by omega) (by omega) (by omega) (by omega)]); omega)) (by first | assumption | omega | decide | exact iRm (by omega) (by omega) | ((repeat (first | exact gL | refine rLs.up ?_ (by omega) (by omega) | refine rLs.fad ?_)); done) | ((repeat (first | exact gM | refine rHM.up ?_ (by omega))); done) | exact gT _ (by omega) | exact rFadF_le gF _ | ((repeat first | rw [va_up_ne _ _ (by omega)] | rw [va_up_self] | rw [rFadH_o (by omega)] | rw [rAge_o _ _ (by omega)] | rw [rLayH_o (by omega) (by omega) (by omega) (by omega)]); omega)) (by first | assumption | omega | decide | exact iRm (by omega) (by omega) | ((repeat (first | exact gL | refine rLs.up ?_ (by omega) (by omega) | refine rLs.fad ?_)); done) | ((repeat (first | exact gM | refine rHM.up ?_ (by omega))); done) | exact gT _ (by omega) | exact rFadF_le gF _ | ((repeat first | rw [va_up_ne _ _ (by omega)] | rw [va_up_self] | rw [rFadH_o (by omega)] | rw [rAge_o _ _ (by omega)] | rw [rLayH_o (by omega) (by omega) (by omega) (by omega)]); omega)) (by first | assumption | omega | decide | exact iRm (by omega) (by omega) | ((repeat (first | exact gL | refine rLs.up ?_ (by omega) (by omega) | refine rLs.fad ?_)); done) | ((repeat (first | exact gM | refine rHM.up ?_ (by omega))); done) | exact gT _ (by omega) | exact rFadF_le gF _ | ((repeat first | rw [va_up_ne _ _ (by omega)] | rw [va_up_self] | rw [rFadH_o (by omega)] | rw [rAge_o _ _ (by omega)] | rw [rLayH_o (by omega) (by omega) (by omega) (by omega)]); omega)) (by first | assumption | omega | decide | exact iRm (by omega) (by omega) | ((repeat (first | exact gL | refine rLs.up ?_ (by omega) (by omega) | refine rLs.fad ?_)); done) | ((repeat (first | exact gM | refine rHM.up ?_ (by omega))); done) | exact gT _ (by omega) | exact rFadF_le gF _ | ((repeat first | rw [va_up_ne _ _ (by omega)] | rw [va_up_self] | rw [rFadH_o (by omega)] | rw [rAge_o _ _ (by omega)] | rw [rLayH_o (by omega) (by omega) (by omega) (by omega)]); omega))) (fun H h => zrc_of (r := (RX1, TX1, 12)) hC.2.1 ((zeq ha) H h) rfl) (fun H h => (h ▸ hp0)) ?_
      have J23 : zV X 4 (fun _ => False) (fun H => H = (zs X).heap) 0 0 31 [some (.ref a), some (.int (iI ((c : Nat) : Int))), some (.int (iI (flow (fun k => rRing h F (h 7) c k) n))), some (.int (iI ((i : Nat) : Int)))] [.int (iI (flow (fun k => rRing h F (h 7) c k) (n + 1)))] := by
        refine zx_istore_n (L' := [some (.ref a), some (.int (iI ((c : Nat) : Int))), some (.int (iI (flow (fun k => rRing h F (h 7) c k) (n + 1)))), some (.int (iI ((i : Nat) : Int)))]) hC dX1_lowest_31 (by decide) rfl ?_
        refine zx_iinc (b := ((i : Nat) : Int) - 1) (L' := [some (.ref a), some (.int (iI ((c : Nat) : Int))), some (.int (iI (flow (fun k => rRing h F (h 7) c k) (n + 1)))), some (.int (iI (((i : Nat) : Int) - 1)))]) hC dX1_lowest_32 rfl (by first | rfl | omega) (by decide) rfl ?_
        refine zx_goto (tgt := 6) hC dX1_lowest_35 (by decide) ?_
        exact ih (n + 1) _ (by omega) (by omega)
      refine zx_if_le (tgt := 30) hC dX1_lowest_23 (by decide) (by first | assumption | exact gI _ (by omega) | exact iRm (by omega) (by omega)) (fun c23 => ?_) (fun c23 => ?_)
      · refine zx_iload_n hC dX1_lowest_30 rfl ?_
        refine zx_topi (b := flow (fun k => rRing h F (h 7) c k) (n + 1)) (by simp only [flow, e35]; first | exact (if_pos (by omega)).symm | exact (if_neg (by omega)).symm) ?_
        exact J23
      · refine zx_iload_n hC dX1_lowest_26 rfl ?_
        refine zx_goto (tgt := 31) hC dX1_lowest_27 (by decide) ?_
        refine zx_topi (b := flow (fun k => rRing h F (h 7) c k) (n + 1)) (by simp only [flow, e35]; first | exact (if_pos (by omega)).symm | exact (if_neg (by omega)).symm) ?_
        exact J23
  exact loop 36 0 35 (by omega) (by omega)
set_option maxHeartbeats 4000000 in
theorem m_X1_isSilent (la : Launch) (G : zG) (a : Nat) (h : Nat → Nat) (F : Nat → Nat → Nat → Nat) (gL : rLs h) (gM : rHM h) (gF : rFb F) (g2 : h 2 ≤ 1) : zRd la yX1_isSilent cX1_isSilent 1 (some .boolean) 7 160 G [.ref a] (fun H => zhp G (PED G a h F) H) (fun v9 => v9 = some (.int (iI (zB (zsumT (fun c => zN (rSum h F (h 7) c = 0)) (rLoop h) = rLoop h))))) := by
  refine zRd.of [some (.ref a)] (by decide) (Nat.le_of_ble_eq_true rfl) rfl (fun X hl hC hRm hP hE => ?_)
  have hp0 := hP
  obtain ⟨al, dl, st, tk, xs, ys, ho, hal, hdl, hst, hls, htk⟩ := PED_hp hp0
  have ha := pOb_at ho
  obtain ⟨sg, s0, s1, s2, hsg⟩ := pSe_hp hst
  have g7 := gL.1
  have gl := rLoop_le gL
  have gs := zsumT_le (g := fun c => zN (rSum h F (h 7) c = 0)) (B := 1) (rLoop h) (fun j _ => zN_le _)
  refine zx_aload_n hC dX1_isSilent_0 rfl ?_
  refine zx_aload_n hC dX1_isSilent_1 rfl ?_
  refine zx_getf (v := .ref al) (T := TX1) (N := 12) (ci := 1) (fs := [.int (iI ((h 0 : Nat) : Int)), .ref al, .ref dl, .int (iI ((pPl h : Nat) : Int)), .int (iI ((h 9 : Nat) : Int)), .int (iI ((h 10 : Nat) : Int)), .int (iI ((h 2 : Nat) : Int)), .int (iI ((h 13 : Nat) : Int)), .ref st, .int (iI ((pBe h : Nat) : Int)), .int (iI ((h 11 : Nat) : Int)), pTv h tk]) hC in_X1 (zeq ha) rfl 1 (by decide) q193 (fun _ h => h) rfl dX1_isSilent_2 ?_
  refine zx_rd1 (r := .int (iI (((h 7) : Nat) : Int))) hC zNoA (zcV 0 (As := []) hC (lw_V q976 q342 q1984 q86 q343) (by decide +kernel) rfl (by rw [hRm]; exact ⟨Nat.le_of_ble_eq_true rfl, Nat.le_of_ble_eq_true rfl⟩) (by rw [hRm]; constructor <;> (first | decide | (simp only []; omega) | omega)) rfl (Nat.le_of_ble_eq_true rfl) dX1_isSilent_5) (m_J2_size (zl X) G al (h 7) xs ) (fun H h => AL_rc hC.2.1 (h ▸ hal)) (fun H h => (h ▸ hal)) ?_
  refine zx_rd1 (r := .int (iI ((zsumT (fun c => zN (rSum h F (h 7) c = 0)) (rLen h (h 7)) : Nat) : Int))) hC zNoA (zcV 1 (As := [.int (iI ((h 7 : Nat) : Int))]) hC (lw_V q1568 q1569 q1570 q83 q1571) (by decide +kernel) rfl (by rw [hRm]; exact ⟨Nat.le_of_ble_eq_true rfl, Nat.le_of_ble_eq_true rfl⟩) (by rw [hRm]; constructor <;> (first | decide | (simp only []; omega) | omega)) rfl (Nat.le_of_ble_eq_true rfl) dX1_isSilent_8) (m_X1_silentCells (zl X) G a h F (h 7) (by first | assumption | omega | decide | exact iRm (by omega) (by omega) | ((repeat (first | exact gL | refine rLs.up ?_ (by omega) (by omega) | refine rLs.fad ?_)); done) | ((repeat (first | exact gM | refine rHM.up ?_ (by omega))); done) | exact gT _ (by omega) | exact rFadF_le gF _ | ((repeat first | rw [va_up_ne _ _ (by omega)] | rw [va_up_self] | rw [rFadH_o (by omega)] | rw [rAge_o _ _ (by omega)] | rw [rLayH_o (by omega) (by omega) (by omega) (by omega)]); omega)) (by first | assumption | omega | decide | exact iRm (by omega) (by omega) | ((repeat (first | exact gL | refine rLs.up ?_ (by omega) (by omega) | refine rLs.fad ?_)); done) | ((repeat (first | exact gM | refine rHM.up ?_ (by omega))); done) | exact gT _ (by omega) | exact rFadF_le gF _ | ((repeat first | rw [va_up_ne _ _ (by omega)] | rw [va_up_self] | rw [rFadH_o (by omega)] | rw [rAge_o _ _ (by omega)] | rw [rLayH_o (by omega) (by omega) (by omega) (by omega)]); omega)) (by first | assumption | omega | decide | exact iRm (by omega) (by omega) | ((repeat (first | exact gL | refine rLs.up ?_ (by omega) (by omega) | refine rLs.fad ?_)); done) | ((repeat (first | exact gM | refine rHM.up ?_ (by omega))); done) | exact gT _ (by omega) | exact rFadF_le gF _ | ((repeat first | rw [va_up_ne _ _ (by omega)] | rw [va_up_self] | rw [rFadH_o (by omega)] | rw [rAge_o _ _ (by omega)] | rw [rLayH_o (by omega) (by omega) (by omega) (by omega)]); omega)) (by first | assumption | omega | decide | exact iRm (by omega) (by omega) | ((repeat (first | exact gL | refine rLs.up ?_ (by omega) (by omega) | refine rLs.fad ?_)); done) | ((repeat (first | exact gM | refine rHM.up ?_ (by omega))); done) | exact gT _ (by omega) | exact rFadF_le gF _ | ((repeat first | rw [va_up_ne _ _ (by omega)] | rw [va_up_self] | rw [rFadH_o (by omega)] | rw [rAge_o _ _ (by omega)] | rw [rLayH_o (by omega) (by omega) (by omega) (by omega)]); omega)) (by first | assumption | omega | decide | exact iRm (by omega) (by omega) | ((repeat (first | exact gL | refine rLs.up ?_ (by omega) (by omega) | refine rLs.fad ?_)); done) | ((repeat (first | exact gM | refine rHM.up ?_ (by omega))); done) | exact gT _ (by omega) | exact rFadF_le gF _ | ((repeat first | rw [va_up_ne _ _ (by omega)] | rw [va_up_self] | rw [rFadH_o (by omega)] | rw [rAge_o _ _ (by omega)] | rw [rLayH_o (by omega) (by omega) (by omega) (by omega)]); omega))) (fun H h => zrc_of (r := (RX1, TX1, 12)) hC.2.1 ((zeq ha) H h) rfl) (fun H h => (h ▸ hp0)) ?_
  refine zx_topi (b := ((zsumT (fun c => zN (rSum h F (h 7) c = 0)) (rLoop h) : Nat) : Int)) (by rfl) ?_
  refine zx_aload_n hC dX1_isSilent_11 rfl ?_
  refine zx_rd1 (r := .int (iI ((rLoop h : Nat) : Int))) hC zNoA (zcV 0 (As := []) hC (lw_V q1010 q1011 q1012 q83 q1013) (by decide +kernel) rfl (by rw [hRm]; exact ⟨Nat.le_of_ble_eq_true rfl, Nat.le_of_ble_eq_true rfl⟩) (by rw [hRm]; constructor <;> (first | decide | (simp only []; omega) | omega)) rfl (Nat.le_of_ble_eq_true rfl) dX1_isSilent_12) (m_X1_length (zl X) G a h F (by first | assumption | omega | decide | exact iRm (by omega) (by omega) | ((repeat (first | exact gL | refine rLs.up ?_ (by omega) (by omega) | refine rLs.fad ?_)); done) | ((repeat (first | exact gM | refine rHM.up ?_ (by omega))); done) | exact gT _ (by omega) | exact rFadF_le gF _ | ((repeat first | rw [va_up_ne _ _ (by omega)] | rw [va_up_self] | rw [rFadH_o (by omega)] | rw [rAge_o _ _ (by omega)] | rw [rLayH_o (by omega) (by omega) (by omega) (by omega)]); omega)) (by first | assumption | omega | decide | exact iRm (by omega) (by omega) | ((repeat (first | exact gL | refine rLs.up ?_ (by omega) (by omega) | refine rLs.fad ?_)); done) | ((repeat (first | exact gM | refine rHM.up ?_ (by omega))); done) | exact gT _ (by omega) | exact rFadF_le gF _ | ((repeat first | rw [va_up_ne _ _ (by omega)] | rw [va_up_self] | rw [rFadH_o (by omega)] | rw [rAge_o _ _ (by omega)] | rw [rLayH_o (by omega) (by omega) (by omega) (by omega)]); omega)) (by first | assumption | omega | decide | exact iRm (by omega) (by omega) | ((repeat (first | exact gL | refine rLs.up ?_ (by omega) (by omega) | refine rLs.fad ?_)); done) | ((repeat (first | exact gM | refine rHM.up ?_ (by omega))); done) | exact gT _ (by omega) | exact rFadF_le gF _ | ((repeat first | rw [va_up_ne _ _ (by omega)] | rw [va_up_self] | rw [rFadH_o (by omega)] | rw [rAge_o _ _ (by omega)] | rw [rLayH_o (by omega) (by omega) (by omega) (by omega)]); omega)) (by first | assumption | omega | decide | exact iRm (by omega) (by omega) | ((repeat (first | exact gL | refine rLs.up ?_ (by omega) (by omega) | refine rLs.fad ?_)); done) | ((repeat (first | exact gM | refine rHM.up ?_ (by omega))); done) | exact gT _ (by omega) | exact rFadF_le gF _ | ((repeat first | rw [va_up_ne _ _ (by omega)] | rw [va_up_self] | rw [rFadH_o (by omega)] | rw [rAge_o _ _ (by omega)] | rw [rLayH_o (by omega) (by omega) (by omega) (by omega)]); omega))) (fun H h => zrc_of (r := (RX1, TX1, 12)) hC.2.1 ((zeq ha) H h) rfl) (fun H h => (h ▸ hp0)) ?_
  refine zx_icmp_ne (tgt := 22) hC dX1_isSilent_15 (by decide) (by first | assumption | exact gI _ (by omega) | exact iRm (by omega) (by omega)) (by first | assumption | exact gI _ (by omega) | exact iRm (by omega) (by omega)) (fun c15 => ?_) (fun c15 => ?_)
  · refine zx_iconst (z := 0) hC dX1_isSilent_22 ?_
    refine zx_topi (b := zB (zsumT (fun c => zN (rSum h F (h 7) c = 0)) (rLoop h) = rLoop h)) (by first | exact (zB_t (by omega)).symm | exact (zB_f (by omega)).symm) ?_
    exact zx_nret hC hE (znar (by first | omega | exact zB_01 _)) (Nat.le_refl _) (Nat.le_refl _) (fun H h => ⟨h, rfl⟩) dX1_isSilent_23
  · refine zx_iconst (z := 1) hC dX1_isSilent_18 ?_
    refine zx_goto (tgt := 23) hC dX1_isSilent_19 (by decide) ?_
    refine zx_topi (b := zB (zsumT (fun c => zN (rSum h F (h 7) c = 0)) (rLoop h) = rLoop h)) (by first | exact (zB_t (by omega)).symm | exact (zB_f (by omega)).symm) ?_
    exact zx_nret hC hE (znar (by first | omega | exact zB_01 _)) (Nat.le_refl _) (Nat.le_refl _) (fun H h => ⟨h, rfl⟩) dX1_isSilent_23
set_option maxHeartbeats 4000000 in
theorem m_X1_inRun (la : Launch) (G : zG) (a : Nat) (h : Nat → Nat) (F : Nat → Nat → Nat → Nat)  : zRd la yX1_inRun cX1_inRun 1 (some .boolean) 0 0 G [.ref a] (fun H => zhp G (PED G a h F) H) (fun v9 => v9 = some (.int (iI (zB (h 0 = 1 ∨ h 0 = 3))))) := by
  refine zRd.of [some (.ref a)] (by decide) (Nat.le_of_ble_eq_true rfl) rfl (fun X hl hC hRm hP hE => ?_)
  have hp0 := hP
  obtain ⟨al, dl, st, tk, xs, ys, ho, hal, hdl, hst, hls, htk⟩ := PED_hp hp0
  have ha := pOb_at ho
  obtain ⟨sg, s0, s1, s2, hsg⟩ := pSe_hp hst
  rcases Classical.em (pRun h) with hr | hr
  · rw [show pTv h tk = .ref tk from if_pos hr] at ha
    refine zx_aload_n hC dX1_inRun_0 rfl ?_
    refine zx_getf (v := .ref tk) (T := TX1) (N := 12) (ci := 1) (fs := [.int (iI ((h 0 : Nat) : Int)), .ref al, .ref dl, .int (iI ((pPl h : Nat) : Int)), .int (iI ((h 9 : Nat) : Int)), .int (iI ((h 10 : Nat) : Int)), .int (iI ((h 2 : Nat) : Int)), .int (iI ((h 13 : Nat) : Int)), .ref st, .int (iI ((pBe h : Nat) : Int)), .int (iI ((h 11 : Nat) : Int)), .ref tk]) hC in_X1 (zeq ha) rfl 11 (by decide) q212 (fun _ h => h) rfl dX1_inRun_1 ?_
    refine zx_ifnull hC dX1_inRun_4 ?_
    refine zx_iconst (z := 1) hC dX1_inRun_7 ?_
    refine zx_goto (tgt := 12) hC dX1_inRun_8 (by decide) ?_
    refine zx_topi (b := zB (h 0 = 1 ∨ h 0 = 3)) (by first | exact (zB_t hr).symm | exact (zB_f hr).symm) ?_
    exact zx_nret hC hE (znar (by first | omega | exact zB_01 _)) (Nat.le_refl _) (Nat.le_refl _) (fun H h => ⟨h, rfl⟩) dX1_inRun_12
  · rw [show pTv h tk = .null from if_neg hr] at ha
    refine zx_aload_n hC dX1_inRun_0 rfl ?_
    refine zx_getf (v := .null) (T := TX1) (N := 12) (ci := 1) (fs := [.int (iI ((h 0 : Nat) : Int)), .ref al, .ref dl, .int (iI ((pPl h : Nat) : Int)), .int (iI ((h 9 : Nat) : Int)), .int (iI ((h 10 : Nat) : Int)), .int (iI ((h 2 : Nat) : Int)), .int (iI ((h 13 : Nat) : Int)), .ref st, .int (iI ((pBe h : Nat) : Int)), .int (iI ((h 11 : Nat) : Int)), .null]) hC in_X1 (zeq ha) rfl 11 (by decide) q212 (fun _ h => h) rfl dX1_inRun_1 ?_
    refine zx_ifnullN (tgt := 11) hC dX1_inRun_4 (by decide) ?_
    refine zx_iconst (z := 0) hC dX1_inRun_11 ?_
    refine zx_topi (b := zB (h 0 = 1 ∨ h 0 = 3)) (by first | exact (zB_t hr).symm | exact (zB_f hr).symm) ?_
    exact zx_nret hC hE (znar (by first | omega | exact zB_01 _)) (Nat.le_refl _) (Nat.le_refl _) (fun H h => ⟨h, rfl⟩) dX1_inRun_12
set_option maxHeartbeats 4000000 in
theorem m_X1_rounded (la : Launch) (G : zG) (a : Nat) (h : Nat → Nat) (F : Nat → Nat → Nat → Nat) (cells : Nat) (g0 : cells ≤ 24) (g1 : 2 ≤ h 3) (g2 : h 3 ≤ 16) (g3 : h 4 ≤ 8) : zRd la yX1_rounded cX1_rounded 5 (some .int) 1 21 G [.ref a, .int (iI ((cells : Nat) : Int))] (fun H => zhp G (PED G a h F) H) (fun v9 => v9 = some (.int (iI ((rRnd (h 3) (h 4) cells : Nat) : Int)))) := by
  refine zRd.of [some (.ref a), some (.int (iI ((cells : Nat) : Int))), none, none, none] (by decide) (Nat.le_of_ble_eq_true rfl) rfl (fun X hl hC hRm hP hE => ?_)
  have hp0 := hP
  obtain ⟨al, dl, st, tk, xs, ys, ho, hal, hdl, hst, hls, htk⟩ := PED_hp hp0
  have ha := pOb_at ho
  obtain ⟨sg, s0, s1, s2, hsg⟩ := pSe_hp hst
  refine zx_aload_n hC dX1_rounded_0 rfl ?_
  refine zx_getf (v := .ref st) (T := TX1) (N := 12) (ci := 1) (fs := [.int (iI ((h 0 : Nat) : Int)), .ref al, .ref dl, .int (iI ((pPl h : Nat) : Int)), .int (iI ((h 9 : Nat) : Int)), .int (iI ((h 10 : Nat) : Int)), .int (iI ((h 2 : Nat) : Int)), .int (iI ((h 13 : Nat) : Int)), .ref st, .int (iI ((pBe h : Nat) : Int)), .int (iI ((h 11 : Nat) : Int)), pTv h tk]) hC in_X1 (zeq ha) rfl 8 (by decide) q207 (fun _ h => h) rfl dX1_rounded_1 ?_
  refine zx_iconst (z := 0) hC dX1_rounded_4 ?_
  refine zx_ialdN hC (zeq hsg) 0 (by omega) (by omega) dX1_rounded_5 ?_
  refine zx_eq (rest' := [.int (iI ((h 3 : Nat) : Int))]) rfl (by rw [s0]) ?_
  refine zx_istore_n (L' := [some (.ref a), some (.int (iI ((cells : Nat) : Int))), some (.int (iI ((h 3 : Nat) : Int))), none, none]) hC dX1_rounded_6 (by decide) rfl ?_
  refine zx_iconst (z := 0) hC dX1_rounded_7 ?_
  refine zx_istore_n (L' := [some (.ref a), some (.int (iI ((cells : Nat) : Int))), some (.int (iI ((h 3 : Nat) : Int))), some (.int (iI 0)), none]) hC dX1_rounded_8 (by decide) rfl ?_
  refine zx_iload_n hC dX1_rounded_9 rfl ?_
  refine zx_istore (L' := [some (.ref a), some (.int (iI ((cells : Nat) : Int))), some (.int (iI ((h 3 : Nat) : Int))), some (.int (iI 0)), some (.int (iI ((h 3 : Nat) : Int)))]) hC dX1_rounded_10 (by decide) rfl ?_
  have loop : ∀ f n b : Nat, n + 2 * f ≥ 26 → n ≤ 40 → b ≤ 24 → (b = 0 → n ≤ 24) → 0 < n → rRndF (h 3) cells f n b = rRndF (h 3) cells 25 (h 3) 0 → zV X 5 (fun _ => False) (fun H => H = (zs X).heap) 0 0 12 [some (.ref a), some (.int (iI ((cells : Nat) : Int))), some (.int (iI ((h 3 : Nat) : Int))), some (.int (iI ((b : Nat) : Int))), some (.int (iI ((n : Nat) : Int)))] [] := by
    intro f
    induction f with
    | zero =>
      intro n b h1 h2 h3 h4 h6 h5
      have hz1 : zdist n cells ≤ 100 := by unfold zdist; split <;> omega
      have hz2 : zdist b cells ≤ 100 := by unfold zdist; split <;> omega
      change b = _ at h5
      refine zx_iload hC dX1_rounded_12 rfl ?_
      refine zx_bipush (z := 24) hC dX1_rounded_14 rfl ?_
      refine zx_icmp_gtT (tgt := 55) hC dX1_rounded_16 (by decide) (by first | assumption | exact gI _ (by omega) | exact iRm (by omega) (by omega)) (by first | assumption | exact gI _ (by omega) | exact iRm (by omega) (by omega)) (by omega) ?_
      have h9 : b = rRndF (h 3) cells 25 (h 3) 0 := by first | exact h5 | exact (show rRndF (h 3) cells (f + 1) n b = b by simp only [rRndF]; rw [if_neg (by omega)]).symm.trans h5
      refine zx_iload_n hC dX1_rounded_55 rfl ?_
      refine zx_iload_n hC dX1_rounded_56 rfl ?_
      refine zx_isub hC dX1_rounded_57 ?_
      refine zx_mabs hC q952 (by rw [hRm]; exact ⟨Nat.le_of_ble_eq_true rfl, Nat.le_of_ble_eq_true rfl⟩) (Nat.le_of_ble_eq_true rfl) (by rw [hRm]; constructor <;> (first | decide | (simp only []; omega) | omega)) (by first | assumption | exact gI _ (by omega) | exact iRm (by omega) (by omega)) dX1_rounded_58 ?_
      refine zx_topi (b := ((zdist b cells : Nat) : Int)) (by unfold zdist; (repeat' split) <;> omega) ?_
      refine zx_aload_n hC dX1_rounded_61 rfl ?_
      refine zx_getf (v := .ref st) (T := TX1) (N := 12) (ci := 1) (fs := [.int (iI ((h 0 : Nat) : Int)), .ref al, .ref dl, .int (iI ((pPl h : Nat) : Int)), .int (iI ((h 9 : Nat) : Int)), .int (iI ((h 10 : Nat) : Int)), .int (iI ((h 2 : Nat) : Int)), .int (iI ((h 13 : Nat) : Int)), .ref st, .int (iI ((pBe h : Nat) : Int)), .int (iI ((h 11 : Nat) : Int)), pTv h tk]) hC in_X1 (zeq ha) rfl 8 (by decide) q207 (fun _ h => h) rfl dX1_rounded_62 ?_
      refine zx_iconst (z := 1) hC dX1_rounded_65 ?_
      refine zx_ialdN hC (zeq hsg) 1 (by omega) (by omega) dX1_rounded_66 ?_
      refine zx_eq (rest' := [.int (iI ((h 4 : Nat) : Int)), .int (iI ((zdist b cells : Nat) : Int))]) rfl (by rw [s1]) ?_
      refine zx_icmp_gt (tgt := 74) hC dX1_rounded_67 (by decide) (by first | assumption | exact gI _ (by omega) | exact iRm (by omega) (by omega)) (by first | assumption | exact gI _ (by omega) | exact iRm (by omega) (by omega)) (fun c67 => ?_) (fun c67 => ?_)
      · refine zx_iload_n hC dX1_rounded_74 rfl ?_
        refine zx_topi (b := ((rRnd (h 3) (h 4) cells : Nat) : Int)) (by unfold rRnd; rw [← h9]; first | (rw [if_pos (by omega)]; first | done | rfl) | (rw [if_neg (by omega)]; first | done | rfl)) ?_
        exact zx_iret hC hE (Nat.le_refl _) (Nat.le_refl _) (fun H h => ⟨h, rfl⟩) dX1_rounded_75
      · refine zx_iload_n hC dX1_rounded_70 rfl ?_
        refine zx_goto (tgt := 75) hC dX1_rounded_71 (by decide) ?_
        refine zx_topi (b := ((rRnd (h 3) (h 4) cells : Nat) : Int)) (by unfold rRnd; rw [← h9]; first | (rw [if_pos (by omega)]; first | done | rfl) | (rw [if_neg (by omega)]; first | done | rfl)) ?_
        exact zx_iret hC hE (Nat.le_refl _) (Nat.le_refl _) (fun H h => ⟨h, rfl⟩) dX1_rounded_75
    | succ f ih =>
      intro n b h1 h2 h3 h4 h6 h5
      have hz1 : zdist n cells ≤ 100 := by unfold zdist; split <;> omega
      have hz2 : zdist b cells ≤ 100 := by unfold zdist; split <;> omega
      refine zx_iload hC dX1_rounded_12 rfl ?_
      refine zx_bipush (z := 24) hC dX1_rounded_14 rfl ?_
      refine zx_icmp_gt (tgt := 55) hC dX1_rounded_16 (by decide) (by first | assumption | exact gI _ (by omega) | exact iRm (by omega) (by omega)) (by first | assumption | exact gI _ (by omega) | exact iRm (by omega) (by omega)) (fun c16 => ?_) (fun c16 => ?_)
      · have h9 : b = rRndF (h 3) cells 25 (h 3) 0 := by first | exact h5 | exact (show rRndF (h 3) cells (f + 1) n b = b by simp only [rRndF]; rw [if_neg (by omega)]).symm.trans h5
        refine zx_iload_n hC dX1_rounded_55 rfl ?_
        refine zx_iload_n hC dX1_rounded_56 rfl ?_
        refine zx_isub hC dX1_rounded_57 ?_
        refine zx_mabs hC q952 (by rw [hRm]; exact ⟨Nat.le_of_ble_eq_true rfl, Nat.le_of_ble_eq_true rfl⟩) (Nat.le_of_ble_eq_true rfl) (by rw [hRm]; constructor <;> (first | decide | (simp only []; omega) | omega)) (by first | assumption | exact gI _ (by omega) | exact iRm (by omega) (by omega)) dX1_rounded_58 ?_
        refine zx_topi (b := ((zdist b cells : Nat) : Int)) (by unfold zdist; (repeat' split) <;> omega) ?_
        refine zx_aload_n hC dX1_rounded_61 rfl ?_
        refine zx_getf (v := .ref st) (T := TX1) (N := 12) (ci := 1) (fs := [.int (iI ((h 0 : Nat) : Int)), .ref al, .ref dl, .int (iI ((pPl h : Nat) : Int)), .int (iI ((h 9 : Nat) : Int)), .int (iI ((h 10 : Nat) : Int)), .int (iI ((h 2 : Nat) : Int)), .int (iI ((h 13 : Nat) : Int)), .ref st, .int (iI ((pBe h : Nat) : Int)), .int (iI ((h 11 : Nat) : Int)), pTv h tk]) hC in_X1 (zeq ha) rfl 8 (by decide) q207 (fun _ h => h) rfl dX1_rounded_62 ?_
        refine zx_iconst (z := 1) hC dX1_rounded_65 ?_
        refine zx_ialdN hC (zeq hsg) 1 (by omega) (by omega) dX1_rounded_66 ?_
        refine zx_eq (rest' := [.int (iI ((h 4 : Nat) : Int)), .int (iI ((zdist b cells : Nat) : Int))]) rfl (by rw [s1]) ?_
        refine zx_icmp_gt (tgt := 74) hC dX1_rounded_67 (by decide) (by first | assumption | exact gI _ (by omega) | exact iRm (by omega) (by omega)) (by first | assumption | exact gI _ (by omega) | exact iRm (by omega) (by omega)) (fun c67 => ?_) (fun c67 => ?_)
        · refine zx_iload_n hC dX1_rounded_74 rfl ?_
          refine zx_topi (b := ((rRnd (h 3) (h 4) cells : Nat) : Int)) (by unfold rRnd; rw [← h9]; first | (rw [if_pos (by omega)]; first | done | rfl) | (rw [if_neg (by omega)]; first | done | rfl)) ?_
          exact zx_iret hC hE (Nat.le_refl _) (Nat.le_refl _) (fun H h => ⟨h, rfl⟩) dX1_rounded_75
        · refine zx_iload_n hC dX1_rounded_70 rfl ?_
          refine zx_goto (tgt := 75) hC dX1_rounded_71 (by decide) ?_
          refine zx_topi (b := ((rRnd (h 3) (h 4) cells : Nat) : Int)) (by unfold rRnd; rw [← h9]; first | (rw [if_pos (by omega)]; first | done | rfl) | (rw [if_neg (by omega)]; first | done | rfl)) ?_
          exact zx_iret hC hE (Nat.le_refl _) (Nat.le_refl _) (fun H h => ⟨h, rfl⟩) dX1_rounded_75
      · have J19 : zV X 5 (fun _ => False) (fun H => H = (zs X).heap) 0 0 45 [some (.ref a), some (.int (iI ((cells : Nat) : Int))), some (.int (iI ((h 3 : Nat) : Int))), some (.int (iI ((b : Nat) : Int))), some (.int (iI ((n : Nat) : Int)))] [.int (iI ((if b = 0 ∨ zdist n cells < zdist b cells then n else b : Nat) : Int))] := by
          refine zx_istore_n (L' := [some (.ref a), some (.int (iI ((cells : Nat) : Int))), some (.int (iI ((h 3 : Nat) : Int))), some (.int (iI ((if b = 0 ∨ zdist n cells < zdist b cells then n else b : Nat) : Int))), some (.int (iI ((n : Nat) : Int)))]) hC dX1_rounded_45 (by decide) rfl ?_
          refine zx_iload hC dX1_rounded_46 rfl ?_
          refine zx_iload_n hC dX1_rounded_48 rfl ?_
          refine zx_iadd hC dX1_rounded_49 ?_
          refine zx_istore (L' := [some (.ref a), some (.int (iI ((cells : Nat) : Int))), some (.int (iI ((h 3 : Nat) : Int))), some (.int (iI ((if b = 0 ∨ zdist n cells < zdist b cells then n else b : Nat) : Int))), some (.int (iI ((n + (h 3) : Nat) : Int)))]) hC dX1_rounded_50 (by decide) rfl ?_
          refine zx_goto (tgt := 12) hC dX1_rounded_52 (by decide) ?_
          exact ih (n + h 3) _ (by omega) (by omega) (by split <;> omega) (by split <;> omega) (by omega) ((show rRndF (h 3) cells (f + 1) n b = rRndF (h 3) cells f (n + h 3) (if b = 0 ∨ zdist n cells < zdist b cells then n else b) by simp only [rRndF]; rw [if_pos (by omega)]).symm.trans h5)
        refine zx_iload_n hC dX1_rounded_19 rfl ?_
        refine zx_if_eq (tgt := 39) hC dX1_rounded_20 (by decide) (by first | assumption | exact gI _ (by omega) | exact iRm (by omega) (by omega)) (fun c20 => ?_) (fun c20 => ?_)
        · refine zx_iload hC dX1_rounded_39 rfl ?_
          refine zx_goto (tgt := 45) hC dX1_rounded_41 (by decide) ?_
          refine zx_topi (b := ((if b = 0 ∨ zdist n cells < zdist b cells then n else b : Nat) : Int)) (by first | (rw [if_pos (by omega)]; first | done | rfl) | (rw [if_neg (by omega)]; first | done | rfl)) ?_
          exact J19
        · refine zx_iload hC dX1_rounded_23 rfl ?_
          refine zx_iload_n hC dX1_rounded_25 rfl ?_
          refine zx_isub hC dX1_rounded_26 ?_
          refine zx_mabs hC q952 (by rw [hRm]; exact ⟨Nat.le_of_ble_eq_true rfl, Nat.le_of_ble_eq_true rfl⟩) (Nat.le_of_ble_eq_true rfl) (by rw [hRm]; constructor <;> (first | decide | (simp only []; omega) | omega)) (by first | assumption | exact gI _ (by omega) | exact iRm (by omega) (by omega)) dX1_rounded_27 ?_
          refine zx_topi (b := ((zdist n cells : Nat) : Int)) (by unfold zdist; (repeat' split) <;> omega) ?_
          refine zx_iload_n hC dX1_rounded_30 rfl ?_
          refine zx_iload_n hC dX1_rounded_31 rfl ?_
          refine zx_isub hC dX1_rounded_32 ?_
          refine zx_mabs hC q952 (by rw [hRm]; exact ⟨Nat.le_of_ble_eq_true rfl, Nat.le_of_ble_eq_true rfl⟩) (Nat.le_of_ble_eq_true rfl) (by rw [hRm]; constructor <;> (first | decide | (simp only []; omega) | omega)) (by first | assumption | exact gI _ (by omega) | exact iRm (by omega) (by omega)) dX1_rounded_33 ?_
          refine zx_topi (b := ((zdist b cells : Nat) : Int)) (by unfold zdist; (repeat' split) <;> omega) ?_
          refine zx_icmp_ge (tgt := 44) hC dX1_rounded_36 (by decide) (by first | assumption | exact gI _ (by omega) | exact iRm (by omega) (by omega)) (by first | assumption | exact gI _ (by omega) | exact iRm (by omega) (by omega)) (fun c36 => ?_) (fun c36 => ?_)
          · refine zx_iload_n hC dX1_rounded_44 rfl ?_
            refine zx_topi (b := ((if b = 0 ∨ zdist n cells < zdist b cells then n else b : Nat) : Int)) (by first | (rw [if_pos (by omega)]; first | done | rfl) | (rw [if_neg (by omega)]; first | done | rfl)) ?_
            exact J19
          · refine zx_iload hC dX1_rounded_39 rfl ?_
            refine zx_goto (tgt := 45) hC dX1_rounded_41 (by decide) ?_
            refine zx_topi (b := ((if b = 0 ∨ zdist n cells < zdist b cells then n else b : Nat) : Int)) (by first | (rw [if_pos (by omega)]; first | done | rfl) | (rw [if_neg (by omega)]; first | done | rfl)) ?_
            exact J19
  exact loop 25 (h 3) 0 (by omega) (by omega) (by omega) (by omega) (by omega) rfl
set_option maxHeartbeats 4000000 in
theorem m_X1_buriedNotes (la : Launch) (G : zG) (a : Nat) (h : Nat → Nat) (F : Nat → Nat → Nat → Nat) (l : Nat) (gL : rLs h) (gM : rHM h) (gF : rFb F) (g2 : h 2 ≤ 1) (g4 : l < h 7) : zRd la yX1_buriedNotes cX1_buriedNotes 8 (some .int) 5 113 G [.ref a, .int (iI ((l : Nat) : Int))] (fun H => zhp G (PED G a h F) H) (fun v9 => v9 = some (.int (iI ((rBur h F l : Nat) : Int)))) := by
  refine zRd.of [some (.ref a), some (.int (iI ((l : Nat) : Int))), none, none, none, none, none, none] (by decide) (Nat.le_of_ble_eq_true rfl) rfl (fun X hl hC hRm hP hE => ?_)
  have hp0 := hP
  obtain ⟨al, dl, st, tk, xs, ys, ho, hal, hdl, hst, hls, htk⟩ := PED_hp hp0
  have ha := pOb_at ho
  obtain ⟨sg, s0, s1, s2, hsg⟩ := pSe_hp hst
  have g7 := gL.1
  have gl := rLoop_le gL
  have gz : h (14 + l) ≤ 48 ∧ 1 ≤ h (14 + l) ∧ h (20 + l) ≤ 1 := ⟨gL.2.1 l (by omega), gL.2.2 l (by omega), gM l (by omega)⟩
  have glp := rLoop_pos gL (by omega)
  have hB : ∀ n, zsumT (fun k => zN (0 < rAdds h F l (k / 36) (k % 36) ∧ 2 * rAdds h F l (k / 36) (k % 36) < rRing h F (h 7) (k / 36) (k % 36))) n ≤ 1 * n := fun n => zsumT_le n (fun j _ => zN_le _)
  rcases (show h (20 + l) = 1 ∨ h (20 + l) = 0 by omega) with hm | hm
  · refine zx_iconst (z := 0) hC dX1_buriedNotes_0 ?_
    refine zx_istore_n (L' := [some (.ref a), some (.int (iI ((l : Nat) : Int))), some (.int (iI 0)), none, none, none, none, none]) hC dX1_buriedNotes_1 (by decide) rfl ?_
    refine zx_iconst (z := 0) hC dX1_buriedNotes_2 ?_
    refine zx_istore_n (L' := [some (.ref a), some (.int (iI ((l : Nat) : Int))), some (.int (iI 0)), some (.int (iI 0)), none, none, none, none]) hC dX1_buriedNotes_3 (by decide) rfl ?_
    refine zx_iload_n hC dX1_buriedNotes_4 rfl ?_
    refine zx_aload_n hC dX1_buriedNotes_5 rfl ?_
    refine zx_rd1 (r := .int (iI ((rLoop h : Nat) : Int))) hC zNoA (zcV 0 (As := []) hC (lw_V q1010 q1011 q1012 q83 q1013) (by decide +kernel) rfl (by rw [hRm]; exact ⟨Nat.le_of_ble_eq_true rfl, Nat.le_of_ble_eq_true rfl⟩) (by rw [hRm]; constructor <;> (first | decide | (simp only []; omega) | omega)) rfl (Nat.le_of_ble_eq_true rfl) dX1_buriedNotes_6) (m_X1_length (zl X) G a h F (by first | assumption | omega | decide | exact iRm (by omega) (by omega) | ((repeat (first | exact gL | refine rLs.up ?_ (by omega) (by omega) | refine rLs.fad ?_)); done) | ((repeat (first | exact gM | refine rHM.up ?_ (by omega))); done) | exact gT _ (by omega) | exact rFadF_le gF _ | ((repeat first | rw [va_up_ne _ _ (by omega)] | rw [va_up_self] | rw [rFadH_o (by omega)] | rw [rAge_o _ _ (by omega)] | rw [rLayH_o (by omega) (by omega) (by omega) (by omega)]); omega)) (by first | assumption | omega | decide | exact iRm (by omega) (by omega) | ((repeat (first | exact gL | refine rLs.up ?_ (by omega) (by omega) | refine rLs.fad ?_)); done) | ((repeat (first | exact gM | refine rHM.up ?_ (by omega))); done) | exact gT _ (by omega) | exact rFadF_le gF _ | ((repeat first | rw [va_up_ne _ _ (by omega)] | rw [va_up_self] | rw [rFadH_o (by omega)] | rw [rAge_o _ _ (by omega)] | rw [rLayH_o (by omega) (by omega) (by omega) (by omega)]); omega)) (by first | assumption | omega | decide | exact iRm (by omega) (by omega) | ((repeat (first | exact gL | refine rLs.up ?_ (by omega) (by omega) | refine rLs.fad ?_)); done) | ((repeat (first | exact gM | refine rHM.up ?_ (by omega))); done) | exact gT _ (by omega) | exact rFadF_le gF _ | ((repeat first | rw [va_up_ne _ _ (by omega)] | rw [va_up_self] | rw [rFadH_o (by omega)] | rw [rAge_o _ _ (by omega)] | rw [rLayH_o (by omega) (by omega) (by omega) (by omega)]); omega)) (by first | assumption | omega | decide | exact iRm (by omega) (by omega) | ((repeat (first | exact gL | refine rLs.up ?_ (by omega) (by omega) | refine rLs.fad ?_)); done) | ((repeat (first | exact gM | refine rHM.up ?_ (by omega))); done) | exact gT _ (by omega) | exact rFadF_le gF _ | ((repeat first | rw [va_up_ne _ _ (by omega)] | rw [va_up_self] | rw [rFadH_o (by omega)] | rw [rAge_o _ _ (by omega)] | rw [rLayH_o (by omega) (by omega) (by omega) (by omega)]); omega))) (fun H h => zrc_of (r := (RX1, TX1, 12)) hC.2.1 ((zeq ha) H h) rfl) (fun H h => (h ▸ hp0)) ?_
    refine zx_icmp_geF (tgt := 131) hC dX1_buriedNotes_9 (by decide) (by first | assumption | exact gI _ (by omega) | exact iRm (by omega) (by omega)) (by first | assumption | exact gI _ (by omega) | exact iRm (by omega) (by omega)) (by omega) ?_
    refine zx_aload_n hC dX1_buriedNotes_12 rfl ?_
    refine zx_getf (v := .ref al) (T := TX1) (N := 12) (ci := 1) (fs := [.int (iI ((h 0 : Nat) : Int)), .ref al, .ref dl, .int (iI ((pPl h : Nat) : Int)), .int (iI ((h 9 : Nat) : Int)), .int (iI ((h 10 : Nat) : Int)), .int (iI ((h 2 : Nat) : Int)), .int (iI ((h 13 : Nat) : Int)), .ref st, .int (iI ((pBe h : Nat) : Int)), .int (iI ((h 11 : Nat) : Int)), pTv h tk]) hC in_X1 (zeq ha) rfl 1 (by decide) q193 (fun _ h => h) rfl dX1_buriedNotes_13 ?_
    refine zx_iload_n hC dX1_buriedNotes_16 rfl ?_
    refine zx_rd1 (r := .ref (xs l)) hC zNoA (zcV 1 (As := [.int (iI ((l : Nat) : Int))]) hC (lw_V q1001 q380 q1985 q86 q381) (by decide +kernel) rfl (by rw [hRm]; exact ⟨Nat.le_of_ble_eq_true rfl, Nat.le_of_ble_eq_true rfl⟩) (by rw [hRm]; constructor <;> (first | decide | (simp only []; omega) | omega)) rfl (Nat.le_of_ble_eq_true rfl) dX1_buriedNotes_17) (m_J2_get (zl X) G al (h 7) xs l (by first | assumption | omega | decide | exact iRm (by omega) (by omega) | ((repeat (first | exact gL | refine rLs.up ?_ (by omega) (by omega) | refine rLs.fad ?_)); done) | ((repeat (first | exact gM | refine rHM.up ?_ (by omega))); done) | exact gT _ (by omega) | exact rFadF_le gF _ | ((repeat first | rw [va_up_ne _ _ (by omega)] | rw [va_up_self] | rw [rFadH_o (by omega)] | rw [rAge_o _ _ (by omega)] | rw [rLayH_o (by omega) (by omega) (by omega) (by omega)]); omega)) (by first | assumption | omega | decide | exact iRm (by omega) (by omega) | ((repeat (first | exact gL | refine rLs.up ?_ (by omega) (by omega) | refine rLs.fad ?_)); done) | ((repeat (first | exact gM | refine rHM.up ?_ (by omega))); done) | exact gT _ (by omega) | exact rFadF_le gF _ | ((repeat first | rw [va_up_ne _ _ (by omega)] | rw [va_up_self] | rw [rFadH_o (by omega)] | rw [rAge_o _ _ (by omega)] | rw [rLayH_o (by omega) (by omega) (by omega) (by omega)]); omega))) (fun H h => AL_rc hC.2.1 (h ▸ hal)) (fun H h => (h ▸ hal)) ?_
    have hlk := hls l (by omega)
    obtain ⟨fsK, gK, rwK, -, haK, -, -⟩ := LAY_hp hlk
    refine zx_castS (ci := 3) hC q738 (zeq haK) rfl dX1_buriedNotes_20 ?_
    refine zx_getfN (v := .int (iI ((h (20 + l) : Nat) : Int))) (T := TX3) (N := 3) (ci := 3) (fs := [.ref fsK, .int (iI ((h (20 + l) : Nat) : Int)), .int (iI ((h (26 + l) : Nat) : Int))]) hC in_X3 (zeq haK) rfl 1 (by decide) q754 (fun _ h => h) rfl dX1_buriedNotes_23 ?_
    refine zx_if_neT (tgt := 131) hC dX1_buriedNotes_26 (by decide) (by first | assumption | exact gI _ (by omega) | exact iRm (by omega) (by omega)) (by omega) ?_
    refine zx_iload_n hC dX1_buriedNotes_131 rfl ?_
    refine zx_topi (b := ((rBur h F l : Nat) : Int)) ((by rw [rBur_m hm]; rfl)) ?_
    exact zx_iret hC hE (Nat.le_refl _) (Nat.le_refl _) (fun H h => ⟨h, rfl⟩) dX1_buriedNotes_132
  · refine zx_iconst (z := 0) hC dX1_buriedNotes_0 ?_
    refine zx_istore_n (L' := [some (.ref a), some (.int (iI ((l : Nat) : Int))), some (.int (iI 0)), none, none, none, none, none]) hC dX1_buriedNotes_1 (by decide) rfl ?_
    refine zx_iconst (z := 0) hC dX1_buriedNotes_2 ?_
    refine zx_istore_n (L' := [some (.ref a), some (.int (iI ((l : Nat) : Int))), some (.int (iI 0)), some (.int (iI 0)), none, none, none, none]) hC dX1_buriedNotes_3 (by decide) rfl ?_
    have loopA : ∀ n i : Nat, i + n = rLoop h → zV X 8 (fun _ => False) (fun H => H = (zs X).heap) 0 0 4 [some (.ref a), some (.int (iI ((l : Nat) : Int))), some (.int (iI ((zsumT (fun k => zN (0 < rAdds h F l (k / 36) (k % 36) ∧ 2 * rAdds h F l (k / 36) (k % 36) < rRing h F (h 7) (k / 36) (k % 36))) (i * 36) : Nat) : Int))), some (.int (iI ((i : Nat) : Int))), none, none, none, none] [] := by
      intro n
      induction n with
      | zero =>
        intro i hi 
        have hiN : i = rLoop h := by omega
        rw [hiN]
        refine zx_iload_n hC dX1_buriedNotes_4 rfl ?_
        refine zx_aload_n hC dX1_buriedNotes_5 rfl ?_
        refine zx_rd1 (r := .int (iI ((rLoop h : Nat) : Int))) hC zNoA (zcV 0 (As := []) hC (lw_V q1010 q1011 q1012 q83 q1013) (by decide +kernel) rfl (by rw [hRm]; exact ⟨Nat.le_of_ble_eq_true rfl, Nat.le_of_ble_eq_true rfl⟩) (by rw [hRm]; constructor <;> (first | decide | (simp only []; omega) | omega)) rfl (Nat.le_of_ble_eq_true rfl) dX1_buriedNotes_6) (m_X1_length (zl X) G a h F (by first | assumption | omega | decide | exact iRm (by omega) (by omega) | ((repeat (first | exact gL | refine rLs.up ?_ (by omega) (by omega) | refine rLs.fad ?_)); done) | ((repeat (first | exact gM | refine rHM.up ?_ (by omega))); done) | exact gT _ (by omega) | exact rFadF_le gF _ | ((repeat first | rw [va_up_ne _ _ (by omega)] | rw [va_up_self] | rw [rFadH_o (by omega)] | rw [rAge_o _ _ (by omega)] | rw [rLayH_o (by omega) (by omega) (by omega) (by omega)]); omega)) (by first | assumption | omega | decide | exact iRm (by omega) (by omega) | ((repeat (first | exact gL | refine rLs.up ?_ (by omega) (by omega) | refine rLs.fad ?_)); done) | ((repeat (first | exact gM | refine rHM.up ?_ (by omega))); done) | exact gT _ (by omega) | exact rFadF_le gF _ | ((repeat first | rw [va_up_ne _ _ (by omega)] | rw [va_up_self] | rw [rFadH_o (by omega)] | rw [rAge_o _ _ (by omega)] | rw [rLayH_o (by omega) (by omega) (by omega) (by omega)]); omega)) (by first | assumption | omega | decide | exact iRm (by omega) (by omega) | ((repeat (first | exact gL | refine rLs.up ?_ (by omega) (by omega) | refine rLs.fad ?_)); done) | ((repeat (first | exact gM | refine rHM.up ?_ (by omega))); done) | exact gT _ (by omega) | exact rFadF_le gF _ | ((repeat first | rw [va_up_ne _ _ (by omega)] | rw [va_up_self] | rw [rFadH_o (by omega)] | rw [rAge_o _ _ (by omega)] | rw [rLayH_o (by omega) (by omega) (by omega) (by omega)]); omega)) (by first | assumption | omega | decide | exact iRm (by omega) (by omega) | ((repeat (first | exact gL | refine rLs.up ?_ (by omega) (by omega) | refine rLs.fad ?_)); done) | ((repeat (first | exact gM | refine rHM.up ?_ (by omega))); done) | exact gT _ (by omega) | exact rFadF_le gF _ | ((repeat first | rw [va_up_ne _ _ (by omega)] | rw [va_up_self] | rw [rFadH_o (by omega)] | rw [rAge_o _ _ (by omega)] | rw [rLayH_o (by omega) (by omega) (by omega) (by omega)]); omega))) (fun H h => zrc_of (r := (RX1, TX1, 12)) hC.2.1 ((zeq ha) H h) rfl) (fun H h => (h ▸ hp0)) ?_
        refine zx_icmp_geT (tgt := 131) hC dX1_buriedNotes_9 (by decide) (by first | assumption | exact gI _ (by omega) | exact iRm (by omega) (by omega)) (by first | assumption | exact gI _ (by omega) | exact iRm (by omega) (by omega)) (by omega) ?_
        refine zx_iload_n hC dX1_buriedNotes_131 rfl ?_
        refine zx_topi (b := ((rBur h F l : Nat) : Int)) (by rfl) ?_
        exact zx_iret hC hE (Nat.le_refl _) (Nat.le_refl _) (fun H h => ⟨h, rfl⟩) dX1_buriedNotes_132
      | succ n ih =>
        intro i hi 
        have hbb : (i + 1) * 36 ≤ 3600 := by omega
        refine zx_iload_n hC dX1_buriedNotes_4 rfl ?_
        refine zx_aload_n hC dX1_buriedNotes_5 rfl ?_
        refine zx_rd1 (r := .int (iI ((rLoop h : Nat) : Int))) hC zNoA (zcV 0 (As := []) hC (lw_V q1010 q1011 q1012 q83 q1013) (by decide +kernel) rfl (by rw [hRm]; exact ⟨Nat.le_of_ble_eq_true rfl, Nat.le_of_ble_eq_true rfl⟩) (by rw [hRm]; constructor <;> (first | decide | (simp only []; omega) | omega)) rfl (Nat.le_of_ble_eq_true rfl) dX1_buriedNotes_6) (m_X1_length (zl X) G a h F (by first | assumption | omega | decide | exact iRm (by omega) (by omega) | ((repeat (first | exact gL | refine rLs.up ?_ (by omega) (by omega) | refine rLs.fad ?_)); done) | ((repeat (first | exact gM | refine rHM.up ?_ (by omega))); done) | exact gT _ (by omega) | exact rFadF_le gF _ | ((repeat first | rw [va_up_ne _ _ (by omega)] | rw [va_up_self] | rw [rFadH_o (by omega)] | rw [rAge_o _ _ (by omega)] | rw [rLayH_o (by omega) (by omega) (by omega) (by omega)]); omega)) (by first | assumption | omega | decide | exact iRm (by omega) (by omega) | ((repeat (first | exact gL | refine rLs.up ?_ (by omega) (by omega) | refine rLs.fad ?_)); done) | ((repeat (first | exact gM | refine rHM.up ?_ (by omega))); done) | exact gT _ (by omega) | exact rFadF_le gF _ | ((repeat first | rw [va_up_ne _ _ (by omega)] | rw [va_up_self] | rw [rFadH_o (by omega)] | rw [rAge_o _ _ (by omega)] | rw [rLayH_o (by omega) (by omega) (by omega) (by omega)]); omega)) (by first | assumption | omega | decide | exact iRm (by omega) (by omega) | ((repeat (first | exact gL | refine rLs.up ?_ (by omega) (by omega) | refine rLs.fad ?_)); done) | ((repeat (first | exact gM | refine rHM.up ?_ (by omega))); done) | exact gT _ (by omega) | exact rFadF_le gF _ | ((repeat first | rw [va_up_ne _ _ (by omega)] | rw [va_up_self] | rw [rFadH_o (by omega)] | rw [rAge_o _ _ (by omega)] | rw [rLayH_o (by omega) (by omega) (by omega) (by omega)]); omega)) (by first | assumption | omega | decide | exact iRm (by omega) (by omega) | ((repeat (first | exact gL | refine rLs.up ?_ (by omega) (by omega) | refine rLs.fad ?_)); done) | ((repeat (first | exact gM | refine rHM.up ?_ (by omega))); done) | exact gT _ (by omega) | exact rFadF_le gF _ | ((repeat first | rw [va_up_ne _ _ (by omega)] | rw [va_up_self] | rw [rFadH_o (by omega)] | rw [rAge_o _ _ (by omega)] | rw [rLayH_o (by omega) (by omega) (by omega) (by omega)]); omega))) (fun H h => zrc_of (r := (RX1, TX1, 12)) hC.2.1 ((zeq ha) H h) rfl) (fun H h => (h ▸ hp0)) ?_
        refine zx_icmp_geF (tgt := 131) hC dX1_buriedNotes_9 (by decide) (by first | assumption | exact gI _ (by omega) | exact iRm (by omega) (by omega)) (by first | assumption | exact gI _ (by omega) | exact iRm (by omega) (by omega)) (by omega) ?_
        refine zx_aload_n hC dX1_buriedNotes_12 rfl ?_
        refine zx_getf (v := .ref al) (T := TX1) (N := 12) (ci := 1) (fs := [.int (iI ((h 0 : Nat) : Int)), .ref al, .ref dl, .int (iI ((pPl h : Nat) : Int)), .int (iI ((h 9 : Nat) : Int)), .int (iI ((h 10 : Nat) : Int)), .int (iI ((h 2 : Nat) : Int)), .int (iI ((h 13 : Nat) : Int)), .ref st, .int (iI ((pBe h : Nat) : Int)), .int (iI ((h 11 : Nat) : Int)), pTv h tk]) hC in_X1 (zeq ha) rfl 1 (by decide) q193 (fun _ h => h) rfl dX1_buriedNotes_13 ?_
        refine zx_iload_n hC dX1_buriedNotes_16 rfl ?_
        refine zx_rd1 (r := .ref (xs l)) hC zNoA (zcV 1 (As := [.int (iI ((l : Nat) : Int))]) hC (lw_V q1001 q380 q1985 q86 q381) (by decide +kernel) rfl (by rw [hRm]; exact ⟨Nat.le_of_ble_eq_true rfl, Nat.le_of_ble_eq_true rfl⟩) (by rw [hRm]; constructor <;> (first | decide | (simp only []; omega) | omega)) rfl (Nat.le_of_ble_eq_true rfl) dX1_buriedNotes_17) (m_J2_get (zl X) G al (h 7) xs l (by first | assumption | omega | decide | exact iRm (by omega) (by omega) | ((repeat (first | exact gL | refine rLs.up ?_ (by omega) (by omega) | refine rLs.fad ?_)); done) | ((repeat (first | exact gM | refine rHM.up ?_ (by omega))); done) | exact gT _ (by omega) | exact rFadF_le gF _ | ((repeat first | rw [va_up_ne _ _ (by omega)] | rw [va_up_self] | rw [rFadH_o (by omega)] | rw [rAge_o _ _ (by omega)] | rw [rLayH_o (by omega) (by omega) (by omega) (by omega)]); omega)) (by first | assumption | omega | decide | exact iRm (by omega) (by omega) | ((repeat (first | exact gL | refine rLs.up ?_ (by omega) (by omega) | refine rLs.fad ?_)); done) | ((repeat (first | exact gM | refine rHM.up ?_ (by omega))); done) | exact gT _ (by omega) | exact rFadF_le gF _ | ((repeat first | rw [va_up_ne _ _ (by omega)] | rw [va_up_self] | rw [rFadH_o (by omega)] | rw [rAge_o _ _ (by omega)] | rw [rLayH_o (by omega) (by omega) (by omega) (by omega)]); omega))) (fun H h => AL_rc hC.2.1 (h ▸ hal)) (fun H h => (h ▸ hal)) ?_
        have hlk := hls l (by omega)
        obtain ⟨fsK, gK, rwK, -, haK, -, -⟩ := LAY_hp hlk
        refine zx_castS (ci := 3) hC q738 (zeq haK) rfl dX1_buriedNotes_20 ?_
        refine zx_getfN (v := .int (iI ((h (20 + l) : Nat) : Int))) (T := TX3) (N := 3) (ci := 3) (fs := [.ref fsK, .int (iI ((h (20 + l) : Nat) : Int)), .int (iI ((h (26 + l) : Nat) : Int))]) hC in_X3 (zeq haK) rfl 1 (by decide) q754 (fun _ h => h) rfl dX1_buriedNotes_23 ?_
        refine zx_if_neF (tgt := 131) hC dX1_buriedNotes_26 (by decide) (by first | assumption | exact gI _ (by omega) | exact iRm (by omega) (by omega)) (by omega) ?_
        rw [show i * 36 = i * 36 + 0 from rfl]
        refine zx_iconst (z := 0) hC dX1_buriedNotes_29 ?_
        refine zx_istore (L' := [some (.ref a), some (.int (iI ((l : Nat) : Int))), some (.int (iI ((zsumT (fun k => zN (0 < rAdds h F l (k / 36) (k % 36) ∧ 2 * rAdds h F l (k / 36) (k % 36) < rRing h F (h 7) (k / 36) (k % 36))) (i * 36 + 0) : Nat) : Int))), some (.int (iI ((i : Nat) : Int))), some (.int (iI 0)), none, none, none]) hC dX1_buriedNotes_30 (by decide) rfl ?_
        have loopB : ∀ n j : Nat, j + n = 36 → zV X 8 (fun _ => False) (fun H => H = (zs X).heap) 0 0 32 [some (.ref a), some (.int (iI ((l : Nat) : Int))), some (.int (iI ((zsumT (fun k => zN (0 < rAdds h F l (k / 36) (k % 36) ∧ 2 * rAdds h F l (k / 36) (k % 36) < rRing h F (h 7) (k / 36) (k % 36))) (i * 36 + j) : Nat) : Int))), some (.int (iI ((i : Nat) : Int))), some (.int (iI ((j : Nat) : Int))), none, none, none] [] := by
          intro n
          induction n with
          | zero =>
            intro j hj 
            have hjN : j = 36 := by omega
            rw [hjN]
            refine zx_iload hC dX1_buriedNotes_32 rfl ?_
            refine zx_bipush (z := 36) hC dX1_buriedNotes_34 rfl ?_
            refine zx_icmp_geT (tgt := 125) hC dX1_buriedNotes_36 (by decide) (by first | assumption | exact gI _ (by omega) | exact iRm (by omega) (by omega)) (by first | assumption | exact gI _ (by omega) | exact iRm (by omega) (by omega)) (by omega) ?_
            rw [show i * 36 + 36 = (i + 1) * 36 by omega]
            refine zx_iinc (b := ((i + 1 : Nat) : Int)) (L' := [some (.ref a), some (.int (iI ((l : Nat) : Int))), some (.int (iI ((zsumT (fun k => zN (0 < rAdds h F l (k / 36) (k % 36) ∧ 2 * rAdds h F l (k / 36) (k % 36) < rRing h F (h 7) (k / 36) (k % 36))) ((i + 1) * 36) : Nat) : Int))), some (.int (iI ((i + 1 : Nat) : Int))), some (.int (iI 36)), none, none, none]) hC dX1_buriedNotes_125 rfl (by first | rfl | omega) (by decide) rfl ?_
            refine zx_goto (tgt := 4) hC dX1_buriedNotes_128 (by decide) ?_
            refine zx_le (L' := [some (.ref a), some (.int (iI ((l : Nat) : Int))), some (.int (iI ((zsumT (fun k => zN (0 < rAdds h F l (k / 36) (k % 36) ∧ 2 * rAdds h F l (k / 36) (k % 36) < rRing h F (h 7) (k / 36) (k % 36))) ((i + 1) * 36) : Nat) : Int))), some (.int (iI ((i + 1 : Nat) : Int))), none, none, none, none]) (zle_s (zle_s (zle_s (zle_s (zle_n (zle_n (zle_n (zle_n zle_0)))))))) ?_
            exact ih (i + 1) (by omega) 
          | succ n ih =>
            intro j hj 
            have gr := rRing_le' (h := h) gF (h 7) i j
            have gad := rAdds_le (h := h) gF l i j
            have hB1 := hB (i * 36 + j)
            have gff := gF l (i % h (14 + l)) (j + 12 * h 2)
            refine zx_iload hC dX1_buriedNotes_32 rfl ?_
            refine zx_bipush (z := 36) hC dX1_buriedNotes_34 rfl ?_
            refine zx_icmp_geF (tgt := 125) hC dX1_buriedNotes_36 (by decide) (by first | assumption | exact gI _ (by omega) | exact iRm (by omega) (by omega)) (by first | assumption | exact gI _ (by omega) | exact iRm (by omega) (by omega)) (by omega) ?_
            refine zx_aload_n hC dX1_buriedNotes_39 rfl ?_
            refine zx_iload_n hC dX1_buriedNotes_40 rfl ?_
            refine zx_iload hC dX1_buriedNotes_41 rfl ?_
            refine zx_aload_n hC dX1_buriedNotes_43 rfl ?_
            refine zx_getf (v := .ref al) (T := TX1) (N := 12) (ci := 1) (fs := [.int (iI ((h 0 : Nat) : Int)), .ref al, .ref dl, .int (iI ((pPl h : Nat) : Int)), .int (iI ((h 9 : Nat) : Int)), .int (iI ((h 10 : Nat) : Int)), .int (iI ((h 2 : Nat) : Int)), .int (iI ((h 13 : Nat) : Int)), .ref st, .int (iI ((pBe h : Nat) : Int)), .int (iI ((h 11 : Nat) : Int)), pTv h tk]) hC in_X1 (zeq ha) rfl 1 (by decide) q193 (fun _ h => h) rfl dX1_buriedNotes_44 ?_
            refine zx_rd1 (r := .int (iI (((h 7) : Nat) : Int))) hC zNoA (zcV 0 (As := []) hC (lw_V q976 q342 q1984 q86 q343) (by decide +kernel) rfl (by rw [hRm]; exact ⟨Nat.le_of_ble_eq_true rfl, Nat.le_of_ble_eq_true rfl⟩) (by rw [hRm]; constructor <;> (first | decide | (simp only []; omega) | omega)) rfl (Nat.le_of_ble_eq_true rfl) dX1_buriedNotes_47) (m_J2_size (zl X) G al (h 7) xs ) (fun H h => AL_rc hC.2.1 (h ▸ hal)) (fun H h => (h ▸ hal)) ?_
            refine zx_rd1 (r := .int (iI ((rRing h F (h 7) i j : Nat) : Int))) hC zNoA (zcV 3 (As := [.int (iI ((i : Nat) : Int)), .int (iI ((j : Nat) : Int)), .int (iI ((h 7 : Nat) : Int))]) hC (lw_V q1479 q1460 q1461 q83 q1462) (by decide +kernel) rfl (by rw [hRm]; exact ⟨Nat.le_of_ble_eq_true rfl, Nat.le_of_ble_eq_true rfl⟩) (by rw [hRm]; constructor <;> (first | decide | (simp only []; omega) | omega)) rfl (Nat.le_of_ble_eq_true rfl) dX1_buriedNotes_50) (m_X1_ring (zl X) G a h F i j (h 7) (by first | assumption | omega | decide | exact iRm (by omega) (by omega) | ((repeat (first | exact gL | refine rLs.up ?_ (by omega) (by omega) | refine rLs.fad ?_)); done) | ((repeat (first | exact gM | refine rHM.up ?_ (by omega))); done) | exact gT _ (by omega) | exact rFadF_le gF _ | ((repeat first | rw [va_up_ne _ _ (by omega)] | rw [va_up_self] | rw [rFadH_o (by omega)] | rw [rAge_o _ _ (by omega)] | rw [rLayH_o (by omega) (by omega) (by omega) (by omega)]); omega)) (by first | assumption | omega | decide | exact iRm (by omega) (by omega) | ((repeat (first | exact gL | refine rLs.up ?_ (by omega) (by omega) | refine rLs.fad ?_)); done) | ((repeat (first | exact gM | refine rHM.up ?_ (by omega))); done) | exact gT _ (by omega) | exact rFadF_le gF _ | ((repeat first | rw [va_up_ne _ _ (by omega)] | rw [va_up_self] | rw [rFadH_o (by omega)] | rw [rAge_o _ _ (by omega)] | rw [rLayH_o (by omega) (by omega) (by omega) (by omega)]); omega)) (by first | assumption | omega | decide | exact iRm (by omega) (by omega) | ((repeat (first | exact gL | refine rLs.up ?_ (by omega) (by omega) | refine rLs.fad ?_)); done) | ((repeat (first | exact gM | refine rHM.up ?_ (by omega))); done) | exact gT _ (by omega) | exact rFadF_le gF _ | ((repeat first | rw [va_up_ne _ _ (by omega)] | rw [va_up_self] | rw [rFadH_o (by omega)] | rw [rAge_o _ _ (by omega)] | rw [rLayH_o (by omega) (by omega) (by omega) (by omega)]); omega)) (by first | assumption | omega | decide | exact iRm (by omega) (by omega) | ((repeat (first | exact gL | refine rLs.up ?_ (by omega) (by omega) | refine rLs.fad ?_)); done) | ((repeat (first | exact gM | refine rHM.up ?_ (by omega))); done) | exact gT _ (by omega) | exact rFadF_le gF _ | ((repeat first | rw [va_up_ne _ _ (by omega)] | rw [va_up_self] | rw [rFadH_o (by omega)] | rw [rAge_o _ _ (by omega)] | rw [rLayH_o (by omega) (by omega) (by omega) (by omega)]); omega)) (by first | assumption | omega | decide | exact iRm (by omega) (by omega) | ((repeat (first | exact gL | refine rLs.up ?_ (by omega) (by omega) | refine rLs.fad ?_)); done) | ((repeat (first | exact gM | refine rHM.up ?_ (by omega))); done) | exact gT _ (by omega) | exact rFadF_le gF _ | ((repeat first | rw [va_up_ne _ _ (by omega)] | rw [va_up_self] | rw [rFadH_o (by omega)] | rw [rAge_o _ _ (by omega)] | rw [rLayH_o (by omega) (by omega) (by omega) (by omega)]); omega)) (by first | assumption | omega | decide | exact iRm (by omega) (by omega) | ((repeat (first | exact gL | refine rLs.up ?_ (by omega) (by omega) | refine rLs.fad ?_)); done) | ((repeat (first | exact gM | refine rHM.up ?_ (by omega))); done) | exact gT _ (by omega) | exact rFadF_le gF _ | ((repeat first | rw [va_up_ne _ _ (by omega)] | rw [va_up_self] | rw [rFadH_o (by omega)] | rw [rAge_o _ _ (by omega)] | rw [rLayH_o (by omega) (by omega) (by omega) (by omega)]); omega)) (by first | assumption | omega | decide | exact iRm (by omega) (by omega) | ((repeat (first | exact gL | refine rLs.up ?_ (by omega) (by omega) | refine rLs.fad ?_)); done) | ((repeat (first | exact gM | refine rHM.up ?_ (by omega))); done) | exact gT _ (by omega) | exact rFadF_le gF _ | ((repeat first | rw [va_up_ne _ _ (by omega)] | rw [va_up_self] | rw [rFadH_o (by omega)] | rw [rAge_o _ _ (by omega)] | rw [rLayH_o (by omega) (by omega) (by omega) (by omega)]); omega))) (fun H h => zrc_of (r := (RX1, TX1, 12)) hC.2.1 ((zeq ha) H h) rfl) (fun H h => (h ▸ hp0)) ?_
            refine zx_istore (L' := [some (.ref a), some (.int (iI ((l : Nat) : Int))), some (.int (iI ((zsumT (fun k => zN (0 < rAdds h F l (k / 36) (k % 36) ∧ 2 * rAdds h F l (k / 36) (k % 36) < rRing h F (h 7) (k / 36) (k % 36))) (i * 36 + j) : Nat) : Int))), some (.int (iI ((i : Nat) : Int))), some (.int (iI ((j : Nat) : Int))), some (.int (iI ((rRing h F (h 7) i j : Nat) : Int))), none, none]) hC dX1_buriedNotes_53 (by decide) rfl ?_
            refine zx_iload hC dX1_buriedNotes_55 rfl ?_
            refine zx_bipush (z := 12) hC dX1_buriedNotes_57 rfl ?_
            refine zx_aload_n hC dX1_buriedNotes_59 rfl ?_
            refine zx_getf (v := .int (iI ((h 2 : Nat) : Int))) (T := TX1) (N := 12) (ci := 1) (fs := [.int (iI ((h 0 : Nat) : Int)), .ref al, .ref dl, .int (iI ((pPl h : Nat) : Int)), .int (iI ((h 9 : Nat) : Int)), .int (iI ((h 10 : Nat) : Int)), .int (iI ((h 2 : Nat) : Int)), .int (iI ((h 13 : Nat) : Int)), .ref st, .int (iI ((pBe h : Nat) : Int)), .int (iI ((h 11 : Nat) : Int)), pTv h tk]) hC in_X1 (zeq ha) rfl 6 (by decide) q203 (fun _ h => h) rfl dX1_buriedNotes_60 ?_
            refine zx_imul hC dX1_buriedNotes_63 ?_
            refine zx_iadd hC dX1_buriedNotes_64 ?_
            refine zx_istore (L' := [some (.ref a), some (.int (iI ((l : Nat) : Int))), some (.int (iI ((zsumT (fun k => zN (0 < rAdds h F l (k / 36) (k % 36) ∧ 2 * rAdds h F l (k / 36) (k % 36) < rRing h F (h 7) (k / 36) (k % 36))) (i * 36 + j) : Nat) : Int))), some (.int (iI ((i : Nat) : Int))), some (.int (iI ((j : Nat) : Int))), some (.int (iI ((rRing h F (h 7) i j : Nat) : Int))), some (.int (iI ((j + (12 * (h 2)) : Nat) : Int))), none]) hC dX1_buriedNotes_65 (by decide) rfl ?_
            have J67 : zV X 8 (fun _ => False) (fun H => H = (zs X).heap) 0 0 95 [some (.ref a), some (.int (iI ((l : Nat) : Int))), some (.int (iI ((zsumT (fun k => zN (0 < rAdds h F l (k / 36) (k % 36) ∧ 2 * rAdds h F l (k / 36) (k % 36) < rRing h F (h 7) (k / 36) (k % 36))) (i * 36 + j) : Nat) : Int))), some (.int (iI ((i : Nat) : Int))), some (.int (iI ((j : Nat) : Int))), some (.int (iI ((rRing h F (h 7) i j : Nat) : Int))), some (.int (iI ((j + (12 * (h 2)) : Nat) : Int))), none] [.int (iI ((rAdds h F l i j : Nat) : Int))] := by
              refine zx_istore (L' := [some (.ref a), some (.int (iI ((l : Nat) : Int))), some (.int (iI ((zsumT (fun k => zN (0 < rAdds h F l (k / 36) (k % 36) ∧ 2 * rAdds h F l (k / 36) (k % 36) < rRing h F (h 7) (k / 36) (k % 36))) (i * 36 + j) : Nat) : Int))), some (.int (iI ((i : Nat) : Int))), some (.int (iI ((j : Nat) : Int))), some (.int (iI ((rRing h F (h 7) i j : Nat) : Int))), some (.int (iI ((j + (12 * (h 2)) : Nat) : Int))), some (.int (iI ((rAdds h F l i j : Nat) : Int)))]) hC dX1_buriedNotes_95 (by decide) rfl ?_
              refine zx_iload_n hC dX1_buriedNotes_97 rfl ?_
              have J98 : zV X 8 (fun _ => False) (fun H => H = (zs X).heap) 0 0 117 [some (.ref a), some (.int (iI ((l : Nat) : Int))), some (.int (iI ((zsumT (fun k => zN (0 < rAdds h F l (k / 36) (k % 36) ∧ 2 * rAdds h F l (k / 36) (k % 36) < rRing h F (h 7) (k / 36) (k % 36))) (i * 36 + j) : Nat) : Int))), some (.int (iI ((i : Nat) : Int))), some (.int (iI ((j : Nat) : Int))), some (.int (iI ((rRing h F (h 7) i j : Nat) : Int))), some (.int (iI ((j + (12 * (h 2)) : Nat) : Int))), some (.int (iI ((rAdds h F l i j : Nat) : Int)))] [.int (iI ((zN (0 < rAdds h F l i j ∧ 2 * rAdds h F l i j < rRing h F (h 7) i j) : Nat) : Int)), .int (iI ((zsumT (fun k => zN (0 < rAdds h F l (k / 36) (k % 36) ∧ 2 * rAdds h F l (k / 36) (k % 36) < rRing h F (h 7) (k / 36) (k % 36))) (i * 36 + j) : Nat) : Int))] := by
                have hzz := zN_le (0 < rAdds h F l i j ∧ 2 * rAdds h F l i j < rRing h F (h 7) i j)
                refine zx_iadd hC dX1_buriedNotes_117 ?_
                refine zx_topi (b := ((zsumT (fun k => zN (0 < rAdds h F l (k / 36) (k % 36) ∧ 2 * rAdds h F l (k / 36) (k % 36) < rRing h F (h 7) (k / 36) (k % 36))) (i * 36 + (j + 1)) : Nat) : Int)) (by rw [zflat (fun i j => zN (0 < rAdds h F l i j ∧ 2 * rAdds h F l i j < rRing h F (h 7) i j)) (by omega)]; omega) ?_
                refine zx_istore_n (L' := [some (.ref a), some (.int (iI ((l : Nat) : Int))), some (.int (iI ((zsumT (fun k => zN (0 < rAdds h F l (k / 36) (k % 36) ∧ 2 * rAdds h F l (k / 36) (k % 36) < rRing h F (h 7) (k / 36) (k % 36))) (i * 36 + (j + 1)) : Nat) : Int))), some (.int (iI ((i : Nat) : Int))), some (.int (iI ((j : Nat) : Int))), some (.int (iI ((rRing h F (h 7) i j : Nat) : Int))), some (.int (iI ((j + (12 * (h 2)) : Nat) : Int))), some (.int (iI ((rAdds h F l i j : Nat) : Int)))]) hC dX1_buriedNotes_118 (by decide) rfl ?_
                refine zx_iinc (b := ((j + 1 : Nat) : Int)) (L' := [some (.ref a), some (.int (iI ((l : Nat) : Int))), some (.int (iI ((zsumT (fun k => zN (0 < rAdds h F l (k / 36) (k % 36) ∧ 2 * rAdds h F l (k / 36) (k % 36) < rRing h F (h 7) (k / 36) (k % 36))) (i * 36 + (j + 1)) : Nat) : Int))), some (.int (iI ((i : Nat) : Int))), some (.int (iI ((j + 1 : Nat) : Int))), some (.int (iI ((rRing h F (h 7) i j : Nat) : Int))), some (.int (iI ((j + (12 * (h 2)) : Nat) : Int))), some (.int (iI ((rAdds h F l i j : Nat) : Int)))]) hC dX1_buriedNotes_119 rfl (by first | rfl | omega) (by decide) rfl ?_
                refine zx_goto (tgt := 32) hC dX1_buriedNotes_122 (by decide) ?_
                refine zx_le (L' := [some (.ref a), some (.int (iI ((l : Nat) : Int))), some (.int (iI ((zsumT (fun k => zN (0 < rAdds h F l (k / 36) (k % 36) ∧ 2 * rAdds h F l (k / 36) (k % 36) < rRing h F (h 7) (k / 36) (k % 36))) (i * 36 + (j + 1)) : Nat) : Int))), some (.int (iI ((i : Nat) : Int))), some (.int (iI ((j + 1 : Nat) : Int))), none, none, none]) (zle_s (zle_s (zle_s (zle_s (zle_s (zle_n (zle_n (zle_n zle_0)))))))) ?_
                exact ih (j + 1) (by omega) 
              refine zx_iload hC dX1_buriedNotes_98 rfl ?_
              refine zx_if_le (tgt := 116) hC dX1_buriedNotes_100 (by decide) (by first | assumption | exact gI _ (by omega) | exact iRm (by omega) (by omega)) (fun c100 => ?_) (fun c100 => ?_)
              · refine zx_iconst (z := 0) hC dX1_buriedNotes_116 ?_
                refine zx_topi (b := ((zN (0 < rAdds h F l i j ∧ 2 * rAdds h F l i j < rRing h F (h 7) i j) : Nat) : Int)) (by first | (rw [zN_t (by omega)]; first | done | rfl) | (rw [zN_f (by omega)]; first | done | rfl)) ?_
                exact J98
              · refine zx_iconst (z := 2) hC dX1_buriedNotes_103 ?_
                refine zx_iload hC dX1_buriedNotes_104 rfl ?_
                refine zx_imul hC dX1_buriedNotes_106 ?_
                refine zx_iload hC dX1_buriedNotes_107 rfl ?_
                refine zx_icmp_ge (tgt := 116) hC dX1_buriedNotes_109 (by decide) (by first | assumption | exact gI _ (by omega) | exact iRm (by omega) (by omega)) (by first | assumption | exact gI _ (by omega) | exact iRm (by omega) (by omega)) (fun c109 => ?_) (fun c109 => ?_)
                · refine zx_iconst (z := 0) hC dX1_buriedNotes_116 ?_
                  refine zx_topi (b := ((zN (0 < rAdds h F l i j ∧ 2 * rAdds h F l i j < rRing h F (h 7) i j) : Nat) : Int)) (by first | (rw [zN_t (by omega)]; first | done | rfl) | (rw [zN_f (by omega)]; first | done | rfl)) ?_
                  exact J98
                · refine zx_iconst (z := 1) hC dX1_buriedNotes_112 ?_
                  refine zx_goto (tgt := 117) hC dX1_buriedNotes_113 (by decide) ?_
                  refine zx_topi (b := ((zN (0 < rAdds h F l i j ∧ 2 * rAdds h F l i j < rRing h F (h 7) i j) : Nat) : Int)) (by first | (rw [zN_t (by omega)]; first | done | rfl) | (rw [zN_f (by omega)]; first | done | rfl)) ?_
                  exact J98
            refine zx_iload hC dX1_buriedNotes_67 rfl ?_
            refine zx_bipush (z := 36) hC dX1_buriedNotes_69 rfl ?_
            refine zx_icmp_ge (tgt := 94) hC dX1_buriedNotes_71 (by decide) (by first | assumption | exact gI _ (by omega) | exact iRm (by omega) (by omega)) (by first | assumption | exact gI _ (by omega) | exact iRm (by omega) (by omega)) (fun c71 => ?_) (fun c71 => ?_)
            · refine zx_iconst (z := 0) hC dX1_buriedNotes_94 ?_
              refine zx_topi (b := ((rAdds h F l i j : Nat) : Int)) (by unfold rAdds; first | (rw [if_pos (by omega)]; first | done | rfl) | (rw [if_neg (by omega)]; first | done | rfl)) ?_
              exact J67
            · refine zx_aload_n hC dX1_buriedNotes_74 rfl ?_
              refine zx_getf (v := .ref al) (T := TX1) (N := 12) (ci := 1) (fs := [.int (iI ((h 0 : Nat) : Int)), .ref al, .ref dl, .int (iI ((pPl h : Nat) : Int)), .int (iI ((h 9 : Nat) : Int)), .int (iI ((h 10 : Nat) : Int)), .int (iI ((h 2 : Nat) : Int)), .int (iI ((h 13 : Nat) : Int)), .ref st, .int (iI ((pBe h : Nat) : Int)), .int (iI ((h 11 : Nat) : Int)), pTv h tk]) hC in_X1 (zeq ha) rfl 1 (by decide) q193 (fun _ h => h) rfl dX1_buriedNotes_75 ?_
              refine zx_iload_n hC dX1_buriedNotes_78 rfl ?_
              refine zx_rd1 (r := .ref (xs l)) hC zNoA (zcV 1 (As := [.int (iI ((l : Nat) : Int))]) hC (lw_V q1001 q380 q1985 q86 q381) (by decide +kernel) rfl (by rw [hRm]; exact ⟨Nat.le_of_ble_eq_true rfl, Nat.le_of_ble_eq_true rfl⟩) (by rw [hRm]; constructor <;> (first | decide | (simp only []; omega) | omega)) rfl (Nat.le_of_ble_eq_true rfl) dX1_buriedNotes_79) (m_J2_get (zl X) G al (h 7) xs l (by first | assumption | omega | decide | exact iRm (by omega) (by omega) | ((repeat (first | exact gL | refine rLs.up ?_ (by omega) (by omega) | refine rLs.fad ?_)); done) | ((repeat (first | exact gM | refine rHM.up ?_ (by omega))); done) | exact gT _ (by omega) | exact rFadF_le gF _ | ((repeat first | rw [va_up_ne _ _ (by omega)] | rw [va_up_self] | rw [rFadH_o (by omega)] | rw [rAge_o _ _ (by omega)] | rw [rLayH_o (by omega) (by omega) (by omega) (by omega)]); omega)) (by first | assumption | omega | decide | exact iRm (by omega) (by omega) | ((repeat (first | exact gL | refine rLs.up ?_ (by omega) (by omega) | refine rLs.fad ?_)); done) | ((repeat (first | exact gM | refine rHM.up ?_ (by omega))); done) | exact gT _ (by omega) | exact rFadF_le gF _ | ((repeat first | rw [va_up_ne _ _ (by omega)] | rw [va_up_self] | rw [rFadH_o (by omega)] | rw [rAge_o _ _ (by omega)] | rw [rLayH_o (by omega) (by omega) (by omega) (by omega)]); omega))) (fun H h => AL_rc hC.2.1 (h ▸ hal)) (fun H h => (h ▸ hal)) ?_
              refine zx_castS (ci := 3) hC q738 (zeq haK) rfl dX1_buriedNotes_82 ?_
              refine zx_iload_n hC dX1_buriedNotes_85 rfl ?_
              refine zx_iload hC dX1_buriedNotes_86 rfl ?_
              refine zx_rd1 (r := .int (iI (((F l) (i % (h (14 + l))) (j + (12 * (h 2))) : Nat) : Int))) hC zNoA (zcV 2 (As := [.int (iI ((i : Nat) : Int)), .int (iI ((j + (12 * (h 2)) : Nat) : Int))]) hC (lw_V q1467 q1468 q1469 q106 q1470) (by decide +kernel) rfl (by rw [hRm]; exact ⟨Nat.le_of_ble_eq_true rfl, Nat.le_of_ble_eq_true rfl⟩) (by rw [hRm]; constructor <;> (first | decide | (simp only []; omega) | omega)) rfl (Nat.le_of_ble_eq_true rfl) dX1_buriedNotes_88) (m_X3_force (zl X) G (xs l) (h (14 + l)) (F l) (h (20 + l)) (h (26 + l)) i (j + (12 * (h 2))) (by first | assumption | omega | decide | exact iRm (by omega) (by omega) | ((repeat (first | exact gL | refine rLs.up ?_ (by omega) (by omega) | refine rLs.fad ?_)); done) | ((repeat (first | exact gM | refine rHM.up ?_ (by omega))); done) | exact gT _ (by omega) | exact rFadF_le gF _ | ((repeat first | rw [va_up_ne _ _ (by omega)] | rw [va_up_self] | rw [rFadH_o (by omega)] | rw [rAge_o _ _ (by omega)] | rw [rLayH_o (by omega) (by omega) (by omega) (by omega)]); omega)) (by first | assumption | omega | decide | exact iRm (by omega) (by omega) | ((repeat (first | exact gL | refine rLs.up ?_ (by omega) (by omega) | refine rLs.fad ?_)); done) | ((repeat (first | exact gM | refine rHM.up ?_ (by omega))); done) | exact gT _ (by omega) | exact rFadF_le gF _ | ((repeat first | rw [va_up_ne _ _ (by omega)] | rw [va_up_self] | rw [rFadH_o (by omega)] | rw [rAge_o _ _ (by omega)] | rw [rLayH_o (by omega) (by omega) (by omega) (by omega)]); omega)) (by first | assumption | omega | decide | exact iRm (by omega) (by omega) | ((repeat (first | exact gL | refine rLs.up ?_ (by omega) (by omega) | refine rLs.fad ?_)); done) | ((repeat (first | exact gM | refine rHM.up ?_ (by omega))); done) | exact gT _ (by omega) | exact rFadF_le gF _ | ((repeat first | rw [va_up_ne _ _ (by omega)] | rw [va_up_self] | rw [rFadH_o (by omega)] | rw [rAge_o _ _ (by omega)] | rw [rLayH_o (by omega) (by omega) (by omega) (by omega)]); omega)) (by first | assumption | omega | decide | exact iRm (by omega) (by omega) | ((repeat (first | exact gL | refine rLs.up ?_ (by omega) (by omega) | refine rLs.fad ?_)); done) | ((repeat (first | exact gM | refine rHM.up ?_ (by omega))); done) | exact gT _ (by omega) | exact rFadF_le gF _ | ((repeat first | rw [va_up_ne _ _ (by omega)] | rw [va_up_self] | rw [rFadH_o (by omega)] | rw [rAge_o _ _ (by omega)] | rw [rLayH_o (by omega) (by omega) (by omega) (by omega)]); omega))) (fun H h => zrc_of (r := (RX3, TX3, 3)) hC.2.1 ((zeq haK) H h) rfl) (fun H h => (h ▸ hlk)) ?_
              refine zx_goto (tgt := 95) hC dX1_buriedNotes_91 (by decide) ?_
              refine zx_topi (b := ((rAdds h F l i j : Nat) : Int)) (by unfold rAdds; first | (rw [if_pos (by omega)]; first | done | rfl) | (rw [if_neg (by omega)]; first | done | rfl)) ?_
              exact J67
        exact loopB (36) 0 (by omega) 
    exact loopA (rLoop h) 0 (by omega) 
