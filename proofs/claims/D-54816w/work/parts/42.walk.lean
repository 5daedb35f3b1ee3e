/-! walked: part 42 (printed by gen/gen2.py) -/
set_option maxRecDepth 100000
set_option maxHeartbeats 4000000 in
theorem m_J0_init (la : Launch) (G : zG) (a : Nat)  : zRd la yJ0_init cJ0_init 1 none 1 20 G [.ref a] (fun _ => True) (fun v9 => v9 = none) := by
  refine zRd.of [some (.ref a)] (by decide) (Nat.le_of_ble_eq_true rfl) rfl (fun X hl hC hRm hP hE => ?_)
  refine zx_aload_n hC dJ0_init_0 rfl ?_
  refine zx_obj hC q148 (by rw [hRm]; exact ⟨Nat.le_of_ble_eq_true rfl, Nat.le_of_ble_eq_true rfl⟩) (Nat.le_of_ble_eq_true rfl) dJ0_init_1 ?_
  exact zx_vret hC hE (Nat.le_refl _) (Nat.le_refl _) (fun H h => ⟨h, rfl⟩) dJ0_init_4
set_option maxHeartbeats 4000000 in
theorem m_J1_initA (la : Launch) (G : zG) (a : Nat)  : zMA la yJ1_init cJ1_init 1 none 2 40 G [.ref a] [z1 a (.inr (4, [.int (iI 0), .null, .int (iI 0)]))] (fun v9 => v9 = none) (fun _ => [z1 a (.inr (4, [.int (iI 0), .null, .int (iI 0)]))]) (0) (0) := by
  refine zMA.of [some (.ref a)] (by decide) (Nat.le_of_ble_eq_true rfl) rfl (fun X A hl hC hnm hA hRm hE => ?_)
  refine zx_aload_n hC dJ1_init_0 rfl ?_
  refine zx_rd0 hC hA.2 (zcI 0 (As := []) hC (lw_meth q147) q84 q145 q146 (by decide +kernel) rfl rfl (by rw [hRm]; exact ⟨Nat.le_of_ble_eq_true rfl, Nat.le_of_ble_eq_true rfl⟩) (by rw [hRm]; constructor <;> (first | decide | (simp only []; omega) | omega)) rfl (Nat.le_of_ble_eq_true rfl) dJ1_init_1) (m_J0_init (zl X) G a ) (fun _ _ => trivial) (fun _ _ => trivial) ?_
  refine zx_aload_n hC dJ1_init_4 rfl ?_
  refine zx_iconst (z := 0) hC dJ1_init_5 ?_
  refine zx_putf (T := TJ2) (N := 3) (ci := 4) (fs := [.int (iI 0), .null, .int (iI 0)]) (fs' := [.int (iI 0), .null, .int (iI 0)]) hC 0 in_J2 tyJ2 tyJ2_ok nmJ2 rfl rfl 0 (by decide) q155 (fun _ h => h) rfl (by first | rfl | exact rfl) (by first | rfl | exact rfl) (Nat.le_of_ble_eq_true rfl) rfl dJ1_init_6 ?_
  show zV X 1 A (zH G A (zS [z1 a (.inr (4, [.int (iI 0), .null, .int (iI 0)]))])) (0) (0) 9 [some (.ref a)] []
  exact zx_vret hC hE (by omega) (by omega) (fun H h => ⟨rfl, h⟩) dJ1_init_9
set_option maxHeartbeats 4000000 in
theorem m_J2_init (la : Launch) (G : zG) (a : Nat)  : zMA la yJ2_init cJ2_init 1 none 3 60 G [.ref a] [z1 a (.inr (4, [.int (iI 0), .null, .int (iI 0)]))] (fun v9 => v9 = none) (fun _ => [AL G a 0 (fun _ => 0)]) (0) (0) := by
  refine zMA.of [some (.ref a)] (by decide) (Nat.le_of_ble_eq_true rfl) rfl (fun X A hl hC hnm hA hRm hE => ?_)
  refine zx_aload_n hC dJ2_init_0 rfl ?_
  refine zx_ma0 (Q := fun _ => [z1 a (.inr (4, [.int (iI 0), .null, .int (iI 0)]))]) hC hA [0] [] (zcI 0 (As := []) hC (lw_meth q144) q85 q142 q143 (by decide +kernel) rfl rfl (by rw [hRm]; exact ⟨Nat.le_of_ble_eq_true rfl, Nat.le_of_ble_eq_true rfl⟩) (by rw [hRm]; constructor <;> (first | decide | (simp only []; omega) | omega)) rfl (Nat.le_of_ble_eq_true rfl) dJ2_init_1) (m_J1_initA (zl X) G a ) (fun _ _ => trivial) rfl rfl rfl ?_
  show zV X 1 A (zH G A (zS [z1 a (.inr (4, [.int (iI 0), .null, .int (iI 0)]))])) (0) (0) 4 [some (.ref a)] []
  refine zx_aload_n hC dJ2_init_4 rfl ?_
  refine zx_gets (v := .ref (G.2.1 100)) hC hA.2 zZb.empty q149 (fun _ h => h) dJ2_init_5 ?_
  refine zx_putf (T := TJ2) (N := 3) (ci := 4) (fs := [.int (iI 0), .null, .int (iI 0)]) (fs' := [.int (iI 0), .ref (G.2.1 100), .int (iI 0)]) hC 0 in_J2 tyJ2 tyJ2_ok nmJ2 rfl rfl 1 (by decide) q151 (fun _ h => h) rfl (by first | rfl | exact rfl) (by first | rfl | exact rfl) (Nat.le_of_ble_eq_true rfl) rfl dJ2_init_8 ?_
  show zV X 1 A (zH G A (zS [z1 a (.inr (4, [.int (iI 0), .ref (G.2.1 100), .int (iI 0)]))])) (0) (0) 11 [some (.ref a)] []
  refine zx_close (P1 := AL G a 0 (fun _ => 0)) [z1 a (.inr (4, [.int (iI 0), .ref (G.2.1 100), .int (iI 0)]))] (AL0_mk _ rfl) ?_
  show zV X 1 A (zH G A (zS [AL G a 0 (fun _ => 0)])) (0) (0) 11 [some (.ref a)] []
  exact zx_vret hC hE (by omega) (by omega) (fun H h => ⟨rfl, h⟩) dJ2_init_11
set_option maxHeartbeats 4000000 in
theorem m_J2_size (la : Launch) (G : zG) (a : Nat) (m : Nat) (xs : Nat → Nat)  : zRd la yJ2_size cJ2_size 1 (some .int) 0 0 G [.ref a] (fun H => zhp G (AL G a m xs) H) (fun v9 => v9 = some (.int (iI ((m : Nat) : Int)))) := by
  refine zRd.of [some (.ref a)] (by decide) (Nat.le_of_ble_eq_true rfl) rfl (fun X hl hC hRm hP hE => ?_)
  have hp0 := hP
  obtain ⟨mo, ed, hmo, ha, hed⟩ := AL_hp hp0
  refine zx_aload_n hC dJ2_size_0 rfl ?_
  refine zx_getf (v := .int (iI ((m : Nat) : Int))) (T := TJ2) (N := 3) (ci := 4) (fs := [.int (iI mo), .ref ed, .int (iI ((m : Nat) : Int))]) hC in_J2 (zeq ha) rfl 2 (by decide) q154 (fun _ h => h) rfl dJ2_size_1 ?_
  exact zx_iret hC hE (Nat.le_refl _) (Nat.le_refl _) (fun H h => ⟨h, rfl⟩) dJ2_size_4
set_option maxHeartbeats 4000000 in
theorem m_J2_isEmpty (la : Launch) (G : zG) (a : Nat) (m : Nat) (xs : Nat → Nat) (g0 : m < 1000) : zRd la yJ2_isEmpty cJ2_isEmpty 1 (some .boolean) 0 0 G [.ref a] (fun H => zhp G (AL G a m xs) H) (fun v9 => v9 = some (.int (iI (zB (m = 0))))) := by
  refine zRd.of [some (.ref a)] (by decide) (Nat.le_of_ble_eq_true rfl) rfl (fun X hl hC hRm hP hE => ?_)
  have hp0 := hP
  obtain ⟨mo, ed, hmo, ha, hed⟩ := AL_hp hp0
  refine zx_aload_n hC dJ2_isEmpty_0 rfl ?_
  refine zx_getf (v := .int (iI ((m : Nat) : Int))) (T := TJ2) (N := 3) (ci := 4) (fs := [.int (iI mo), .ref ed, .int (iI ((m : Nat) : Int))]) hC in_J2 (zeq ha) rfl 2 (by decide) q154 (fun _ h => h) rfl dJ2_isEmpty_1 ?_
  refine zx_if_ne (tgt := 11) hC dJ2_isEmpty_4 (by decide) (by first | assumption | exact gI _ (by omega) | exact iRm (by omega) (by omega)) (fun c4 => ?_) (fun c4 => ?_)
  · refine zx_iconst (z := 0) hC dJ2_isEmpty_11 ?_
    refine zx_topi (b := zB (m = 0)) (by first | exact (zB_t (by omega)).symm | exact (zB_f (by omega)).symm) ?_
    exact zx_nret hC hE (znar (by first | omega | exact zB_01 _)) (Nat.le_refl _) (Nat.le_refl _) (fun H h => ⟨h, rfl⟩) dJ2_isEmpty_12
  · refine zx_iconst (z := 1) hC dJ2_isEmpty_7 ?_
    refine zx_goto (tgt := 12) hC dJ2_isEmpty_8 (by decide) ?_
    refine zx_topi (b := zB (m = 0)) (by first | exact (zB_t (by omega)).symm | exact (zB_f (by omega)).symm) ?_
    exact zx_nret hC hE (znar (by first | omega | exact zB_01 _)) (Nat.le_refl _) (Nat.le_refl _) (fun H h => ⟨h, rfl⟩) dJ2_isEmpty_12
set_option maxHeartbeats 4000000 in
theorem m_J11_checkIndex (la : Launch) (G : zG) (i : Nat) (n : Nat) (g0 : i < n) (g1 : n < 2147483648) : zRd la yJ11_checkIndex cJ11_checkIndex 3 (some .int) 0 0 G [.int (iI ((i : Nat) : Int)), .int (iI ((n : Nat) : Int)), .null] (fun _ => True) (fun v9 => v9 = some (.int (iI ((i : Nat) : Int)))) := by
  refine zRd.of [some (.int (iI ((i : Nat) : Int))), some (.int (iI ((n : Nat) : Int))), some (.null)] (by decide) (Nat.le_of_ble_eq_true rfl) rfl (fun X hl hC hRm hP hE => ?_)
  refine zx_iload_n hC dJ11_checkIndex_0 rfl ?_
  refine zx_if_lt (tgt := 9) hC dJ11_checkIndex_1 (by decide) (by first | assumption | exact gI _ (by omega) | exact iRm (by omega) (by omega)) (fun c1 => ?_) (fun c1 => ?_)
  · exfalso; omega
  · refine zx_iload_n hC dJ11_checkIndex_4 rfl ?_
    refine zx_iload_n hC dJ11_checkIndex_5 rfl ?_
    refine zx_icmp_lt (tgt := 16) hC dJ11_checkIndex_6 (by decide) (by first | assumption | exact gI _ (by omega) | exact iRm (by omega) (by omega)) (by first | assumption | exact gI _ (by omega) | exact iRm (by omega) (by omega)) (fun c6 => ?_) (fun c6 => ?_)
    · refine zx_iload_n hC dJ11_checkIndex_16 rfl ?_
      exact zx_iret hC hE (Nat.le_refl _) (Nat.le_refl _) (fun H h => ⟨h, rfl⟩) dJ11_checkIndex_17
    · exfalso; omega
set_option maxHeartbeats 4000000 in
theorem m_J10_checkIndex (la : Launch) (G : zG) (i : Nat) (n : Nat) (g0 : i < n) (g1 : n < 2147483648) : zRd la yJ10_checkIndex cJ10_checkIndex 2 (some .int) 1 22 G [.int (iI ((i : Nat) : Int)), .int (iI ((n : Nat) : Int))] (fun _ => True) (fun v9 => v9 = some (.int (iI ((i : Nat) : Int)))) := by
  refine zRd.of [some (.int (iI ((i : Nat) : Int))), some (.int (iI ((n : Nat) : Int)))] (by decide) (Nat.le_of_ble_eq_true rfl) rfl (fun X hl hC hRm hP hE => ?_)
  refine zx_iload_n hC dJ10_checkIndex_0 rfl ?_
  refine zx_iload_n hC dJ10_checkIndex_1 rfl ?_
  refine zx_null hC dJ10_checkIndex_2 ?_
  refine zx_rd1 (r := .int (iI ((i : Nat) : Int))) hC zNoA (zcS 3 (As := [.int (iI ((i : Nat) : Int)), .int (iI ((n : Nat) : Int)), .null]) hC (lw_S q385 q386 q96 q387) (by decide +kernel) rfl (by rw [hRm]; exact ⟨Nat.le_of_ble_eq_true rfl, Nat.le_of_ble_eq_true rfl⟩) (by rw [hRm]; constructor <;> (first | decide | (simp only []; omega) | omega)) rfl (Nat.le_of_ble_eq_true rfl) dJ10_checkIndex_3) (m_J11_checkIndex (zl X) G i n (by first | assumption | omega | decide | exact iRm (by omega) (by omega) | ((repeat (first | exact gL | refine rLs.up ?_ (by omega) (by omega) | refine rLs.fad ?_)); done) | ((repeat (first | exact gM | refine rHM.up ?_ (by omega))); done) | exact gT _ (by omega) | exact rFadF_le gF _ | ((repeat first | rw [va_up_ne _ _ (by omega)] | rw [va_up_self] | rw [rFadH_o (by omega)] | rw [rAge_o _ _ (by omega)] | rw [rLayH_o (by omega) (by omega) (by omega) (by omega)]); omega)) (by first | assumption | omega | decide | exact iRm (by omega) (by omega) | ((repeat (first | exact gL | refine rLs.up ?_ (by omega) (by omega) | refine rLs.fad ?_)); done) | ((repeat (first | exact gM | refine rHM.up ?_ (by omega))); done) | exact gT _ (by omega) | exact rFadF_le gF _ | ((repeat first | rw [va_up_ne _ _ (by omega)] | rw [va_up_self] | rw [rFadH_o (by omega)] | rw [rAge_o _ _ (by omega)] | rw [rLayH_o (by omega) (by omega) (by omega) (by omega)]); omega))) (fun _ _ => trivial) (fun _ _ => trivial) ?_
  exact zx_iret hC hE (Nat.le_refl _) (Nat.le_refl _) (fun H h => ⟨h, rfl⟩) dJ10_checkIndex_6
set_option maxHeartbeats 4000000 in
theorem m_J2_elementData (la : Launch) (G : zG) (a : Nat) (m : Nat) (xs : Nat → Nat) (i : Nat) (g0 : i < m) : zRd la yJ2_elementData cJ2_elementData 2 (some (.object "java/lang/Object")) 0 0 G [.ref a, .int (iI ((i : Nat) : Int))] (fun H => zhp G (AL G a m xs) H) (fun v9 => v9 = some (.ref (xs i))) := by
  refine zRd.of [some (.ref a), some (.int (iI ((i : Nat) : Int)))] (by decide) (Nat.le_of_ble_eq_true rfl) rfl (fun X hl hC hRm hP hE => ?_)
  have hp0 := hP
  obtain ⟨mo, ed, hmo, ha, hed⟩ := AL_hp hp0
  obtain ⟨N, f, f1, f2, f3, he⟩ := hed (by omega)
  refine zx_aload_n hC dJ2_elementData_0 rfl ?_
  refine zx_getf (v := .ref ed) (T := TJ2) (N := 3) (ci := 4) (fs := [.int (iI mo), .ref ed, .int (iI ((m : Nat) : Int))]) hC in_J2 (zeq ha) rfl 1 (by decide) q151 (fun _ h => h) rfl dJ2_elementData_1 ?_
  refine zx_iload_n hC dJ2_elementData_4 rfl ?_
  refine zx_aaldN hC 3 (by omega) (zeq he) i (by omega) (by omega) dJ2_elementData_5 ?_
  refine zx_eq (rest' := [.ref (xs i)]) rfl (by rw [f3 i (by omega)]; rfl) ?_
  exact zx_aret hC hE (.inl ⟨_, rfl⟩) (.inr ⟨_, rfl⟩) (Nat.le_refl _) (Nat.le_refl _) (fun H h => ⟨h, rfl⟩) dJ2_elementData_6
set_option maxHeartbeats 4000000 in
theorem m_J2_get (la : Launch) (G : zG) (a : Nat) (m : Nat) (xs : Nat → Nat) (i : Nat) (g0 : i < m) (g1 : m < 1000) : zRd la yJ2_get cJ2_get 2 (some (.object "java/lang/Object")) 2 43 G [.ref a, .int (iI ((i : Nat) : Int))] (fun H => zhp G (AL G a m xs) H) (fun v9 => v9 = some (.ref (xs i))) := by
  refine zRd.of [some (.ref a), some (.int (iI ((i : Nat) : Int)))] (by decide) (Nat.le_of_ble_eq_true rfl) rfl (fun X hl hC hRm hP hE => ?_)
  have hp0 := hP
  obtain ⟨mo, ed, hmo, ha, hed⟩ := AL_hp hp0
  refine zx_iload_n hC dJ2_get_0 rfl ?_
  refine zx_aload_n hC dJ2_get_1 rfl ?_
  refine zx_getf (v := .int (iI ((m : Nat) : Int))) (T := TJ2) (N := 3) (ci := 4) (fs := [.int (iI mo), .ref ed, .int (iI ((m : Nat) : Int))]) hC in_J2 (zeq ha) rfl 2 (by decide) q154 (fun _ h => h) rfl dJ2_get_2 ?_
  refine zx_rd1 (r := .int (iI ((i : Nat) : Int))) hC zNoA (zcS 2 (As := [.int (iI ((i : Nat) : Int)), .int (iI ((m : Nat) : Int))]) hC (lw_S q382 q383 q95 q384) (by decide +kernel) rfl (by rw [hRm]; exact ⟨Nat.le_of_ble_eq_true rfl, Nat.le_of_ble_eq_true rfl⟩) (by rw [hRm]; constructor <;> (first | decide | (simp only []; omega) | omega)) rfl (Nat.le_of_ble_eq_true rfl) dJ2_get_5) (m_J10_checkIndex (zl X) G i m (by first | assumption | omega | decide | exact iRm (by omega) (by omega) | ((repeat (first | exact gL | refine rLs.up ?_ (by omega) (by omega) | refine rLs.fad ?_)); done) | ((repeat (first | exact gM | refine rHM.up ?_ (by omega))); done) | exact gT _ (by omega) | exact rFadF_le gF _ | ((repeat first | rw [va_up_ne _ _ (by omega)] | rw [va_up_self] | rw [rFadH_o (by omega)] | rw [rAge_o _ _ (by omega)] | rw [rLayH_o (by omega) (by omega) (by omega) (by omega)]); omega)) (by first | assumption | omega | decide | exact iRm (by omega) (by omega) | ((repeat (first | exact gL | refine rLs.up ?_ (by omega) (by omega) | refine rLs.fad ?_)); done) | ((repeat (first | exact gM | refine rHM.up ?_ (by omega))); done) | exact gT _ (by omega) | exact rFadF_le gF _ | ((repeat first | rw [va_up_ne _ _ (by omega)] | rw [va_up_self] | rw [rFadH_o (by omega)] | rw [rAge_o _ _ (by omega)] | rw [rLayH_o (by omega) (by omega) (by omega) (by omega)]); omega))) (fun _ _ => trivial) (fun _ _ => trivial) ?_
  refine zx_pop hC dJ2_get_8 rfl ?_
  refine zx_aload_n hC dJ2_get_9 rfl ?_
  refine zx_iload_n hC dJ2_get_10 rfl ?_
  refine zx_rd1 (r := .ref (xs i)) hC zNoA (zcV 1 (As := [.int (iI ((i : Nat) : Int))]) hC (lw_V q388 q389 q390 q86 q391) (by decide +kernel) rfl (by rw [hRm]; exact ⟨Nat.le_of_ble_eq_true rfl, Nat.le_of_ble_eq_true rfl⟩) (by rw [hRm]; constructor <;> (first | decide | (simp only []; omega) | omega)) rfl (Nat.le_of_ble_eq_true rfl) dJ2_get_11) (m_J2_elementData (zl X) G a m xs i (by first | assumption | omega | decide | exact iRm (by omega) (by omega) | ((repeat (first | exact gL | refine rLs.up ?_ (by omega) (by omega) | refine rLs.fad ?_)); done) | ((repeat (first | exact gM | refine rHM.up ?_ (by omega))); done) | exact gT _ (by omega) | exact rFadF_le gF _ | ((repeat first | rw [va_up_ne _ _ (by omega)] | rw [va_up_self] | rw [rFadH_o (by omega)] | rw [rAge_o _ _ (by omega)] | rw [rLayH_o (by omega) (by omega) (by omega) (by omega)]); omega))) (fun H h => zrc_of (r := (RJ2, TJ2, 3)) hC.2.1 ((zeq ha) H h) rfl) (fun H h => (h ▸ hp0)) ?_
  exact zx_aret hC hE (.inl ⟨_, rfl⟩) (.inr ⟨_, rfl⟩) (Nat.le_refl _) (Nat.le_refl _) (fun H h => ⟨h, rfl⟩) dJ2_get_14
set_option maxHeartbeats 4000000 in
theorem m_J2_grow_2E (la : Launch) (G : zG) (a : Nat) (mo : Int) (m : Nat) (g0 : m = 0) : zMA la yJ2_grow_2 cJ2_grow_2 4 (some (.array (.object "java/lang/Object"))) 1 21 G [.ref a, .int (iI 1)] [z1 a (.inr (4, [.int (iI mo), .ref (G.2.1 100), .int (iI ((m : Nat) : Int))]))] (fun v9 => ∃ b, v9 = some (.ref b)) (fun v9 => (fun b => [z1 a (.inr (4, [.int (iI mo), .ref b, .int (iI ((m : Nat) : Int))])), z1 b (zQ G 3 10 (fun _ => none))]) (zad v9)) (1) (10) := by
  refine zMA.of [some (.ref a), some (.int (iI 1)), none, none] (by decide) (Nat.le_of_ble_eq_true rfl) rfl (fun X A hl hC hnm hA hRm hE => ?_)
  refine zx_aload_n hC dJ2_grow_2_0 rfl ?_
  refine zx_getf (v := .ref (G.2.1 100)) (T := TJ2) (N := 3) (ci := 4) (fs := [.int (iI mo), .ref (G.2.1 100), .int (iI ((m : Nat) : Int))]) hC in_J2 (zat 0 rfl) rfl 1 (by decide) q151 (fun _ h => h) rfl dJ2_grow_2_1 ?_
  refine zx_elen hC hA.2 dJ2_grow_2_4 ?_
  refine zx_istore_n (L' := [some (.ref a), some (.int (iI 1)), some (.int (iI 0)), none]) hC dJ2_grow_2_5 (by decide) rfl ?_
  refine zx_iload_n hC dJ2_grow_2_6 rfl ?_
  refine zx_if_gtF (tgt := 20) hC dJ2_grow_2_7 (by decide) (by first | assumption | exact gI _ (by omega) | exact iRm (by omega) (by omega)) (by omega) ?_
  refine zx_aload_n hC dJ2_grow_2_10 rfl ?_
  refine zx_getf (v := .ref (G.2.1 100)) (T := TJ2) (N := 3) (ci := 4) (fs := [.int (iI mo), .ref (G.2.1 100), .int (iI ((m : Nat) : Int))]) hC in_J2 (zat 0 rfl) rfl 1 (by decide) q151 (fun _ h => h) rfl dJ2_grow_2_11 ?_
  refine zx_gets (v := .ref (G.2.1 100)) hC hA.2 zZb.empty q149 (fun _ h => h) dJ2_grow_2_14 ?_
  refine zx_acmp_eq (rx := (some (G.2.1 100))) (ry := (some (G.2.1 100))) hC dJ2_grow_2_17 (tgt := 45) (by decide) (fun ce => ?_) (fun ce => ?_)
  rotate_left; · exact absurd ce (fun q => q rfl)
  refine zx_aload_n hC dJ2_grow_2_45 rfl ?_
  refine zx_bipush (z := 10) hC dJ2_grow_2_46 rfl ?_
  refine zx_iload_n hC dJ2_grow_2_48 rfl ?_
  refine zx_mmax hC q798 (by rw [hRm]; exact ⟨Nat.le_of_ble_eq_true rfl, Nat.le_of_ble_eq_true rfl⟩) (Nat.le_of_ble_eq_true rfl) (by rw [hRm]; constructor <;> (first | decide | (simp only []; omega) | omega)) (by first | assumption | exact gI _ (by omega) | exact iRm (by omega) (by omega)) (by first | assumption | exact gI _ (by omega) | exact iRm (by omega) (by omega)) dJ2_grow_2_49 ?_
  refine zx_topi (b := ((if 10 < 1 then 1 else 10 : Nat) : Int)) (by first | rfl | (split <;> split <;> omega)) ?_
  refine zx_topi (b := 10) (by rfl) ?_
  refine zx_newq hC hA (z := 10) (by omega) (by rw [hRm]; constructor <;> (first | decide | (simp only []; omega) | omega)) q799 dJ2_grow_2_52 (fun o1 => ?_)
  show zV X 4 A (zH G A (zS [z1 o1 (zQ G 3 10 (fun _ => none)), z1 a (.inr (4, [.int (iI mo), .ref (G.2.1 100), .int (iI ((m : Nat) : Int))]))])) (1) (10) 55 [some (.ref a), some (.int (iI 1)), some (.int (iI 0)), none] [.ref o1, .ref a]
  refine zx_dup_x1 hC dJ2_grow_2_55 rfl rfl ?_
  refine zx_putf (T := TJ2) (N := 3) (ci := 4) (fs := [.int (iI mo), .ref (G.2.1 100), .int (iI ((m : Nat) : Int))]) (fs' := [.int (iI mo), .ref o1, .int (iI ((m : Nat) : Int))]) hC 1 in_J2 tyJ2 tyJ2_ok nmJ2 rfl rfl 1 (by decide) q151 (fun _ h => h) rfl (by first | rfl | exact rfl) (by first | rfl | exact rfl) (Nat.le_of_ble_eq_true rfl) rfl dJ2_grow_2_56 ?_
  show zV X 4 A (zH G A (zS [z1 o1 (zQ G 3 10 (fun _ => none)), z1 a (.inr (4, [.int (iI mo), .ref o1, .int (iI ((m : Nat) : Int))]))])) (1) (10) 59 [some (.ref a), some (.int (iI 1)), some (.int (iI 0)), none] [.ref o1]
  refine zx_pick [1, 0] rfl rfl ?_
  show zV X 4 A (zH G A (zS [z1 a (.inr (4, [.int (iI mo), .ref o1, .int (iI ((m : Nat) : Int))])), z1 o1 (zQ G 3 10 (fun _ => none))])) (1) (10) 59 [some (.ref a), some (.int (iI 1)), some (.int (iI 0)), none] [.ref o1]
  exact zx_aret hC hE (.inr ⟨_, rfl⟩) (.inr ⟨_, rfl⟩) (by omega) (by omega) (fun H h => ⟨⟨_, rfl⟩, h⟩) dJ2_grow_2_59
set_option maxHeartbeats 4000000 in
theorem m_J2_growE (la : Launch) (G : zG) (a : Nat) (mo : Int) (m : Nat) (g0 : m = 0) : zMA la yJ2_grow cJ2_grow 1 (some (.array (.object "java/lang/Object"))) 2 44 G [.ref a] [z1 a (.inr (4, [.int (iI mo), .ref (G.2.1 100), .int (iI ((m : Nat) : Int))]))] (fun v9 => ∃ b, v9 = some (.ref b)) (fun v9 => (fun b => [z1 a (.inr (4, [.int (iI mo), .ref b, .int (iI ((m : Nat) : Int))])), z1 b (zQ G 3 10 (fun _ => none))]) (zad v9)) (1) (10) := by
  refine zMA.of [some (.ref a)] (by decide) (Nat.le_of_ble_eq_true rfl) rfl (fun X A hl hC hnm hA hRm hE => ?_)
  refine zx_aload_n hC dJ2_grow_0 rfl ?_
  refine zx_aload_n hC dJ2_grow_1 rfl ?_
  refine zx_getf (v := .int (iI ((m : Nat) : Int))) (T := TJ2) (N := 3) (ci := 4) (fs := [.int (iI mo), .ref (G.2.1 100), .int (iI ((m : Nat) : Int))]) hC in_J2 (zat 0 rfl) rfl 2 (by decide) q154 (fun _ h => h) rfl dJ2_grow_2 ?_
  refine zx_iconst (z := 1) hC dJ2_grow_5 ?_
  refine zx_iadd hC dJ2_grow_6 ?_
  refine zx_topi (b := 1) (by omega) ?_
  refine zx_mar (Qr := fun b1 => [z1 a (.inr (4, [.int (iI mo), .ref b1, .int (iI ((m : Nat) : Int))])), z1 b1 (zQ G 3 10 (fun _ => none))]) hC hA [0] [] (zcV 1 (As := [.int (iI 1)]) hC (lw_V q783 q785 qs5 q86 q786) (by decide +kernel) rfl (by rw [hRm]; exact ⟨Nat.le_of_ble_eq_true rfl, Nat.le_of_ble_eq_true rfl⟩) (by rw [hRm]; constructor <;> (first | decide | (simp only []; omega) | omega)) rfl (Nat.le_of_ble_eq_true rfl) dJ2_grow_7) (m_J2_grow_2E (zl X) G a mo m (by first | assumption | omega | decide | exact iRm (by omega) (by omega) | ((repeat (first | exact gL | refine rLs.up ?_ (by omega) (by omega) | refine rLs.fad ?_)); done) | ((repeat (first | exact gM | refine rHM.up ?_ (by omega))); done) | exact gT _ (by omega) | exact rFadF_le gF _ | ((repeat first | rw [va_up_ne _ _ (by omega)] | rw [va_up_self] | rw [rFadH_o (by omega)] | rw [rAge_o _ _ (by omega)] | rw [rLayH_o (by omega) (by omega) (by omega) (by omega)]); omega))) (fun H h => zrc_of (r := (RJ2, TJ2, 3)) hC.2.1 ((zat 0 rfl) H h) rfl) rfl rfl rfl (fun b1 => ?_)
  show zV X 1 A (zH G A (zS [z1 a (.inr (4, [.int (iI mo), .ref b1, .int (iI ((m : Nat) : Int))])), z1 b1 (zQ G 3 10 (fun _ => none))])) (1) (10) 10 [some (.ref a)] [.ref b1]
  exact zx_aret hC hE (.inr ⟨_, rfl⟩) (.inr ⟨_, rfl⟩) (by omega) (by omega) (fun H h => ⟨⟨_, rfl⟩, h⟩) dJ2_grow_10
set_option maxHeartbeats 4000000 in
theorem m_J2_add_2E (la : Launch) (G : zG) (a : Nat) (mo : Int) (m : Nat) (xs : Nat → Nat) (q : Nat) (E : zAs) (g0 : m = 0) (hX : zEl G E q) : zMA la yJ2_add_2 cJ2_add_2 4 none 3 64 G [.ref a, .ref q, .ref (G.2.1 100), .int (iI ((m : Nat) : Int))] [z1 a (.inr (4, [.int (iI mo), .ref (G.2.1 100), .int (iI ((m : Nat) : Int))])), E] (fun v9 => v9 = none) (fun _ => [AL G a (m + 1) (va_up xs m q), E]) (1) (10) := by
  refine zMA.of [some (.ref a), some (.ref q), some (.ref (G.2.1 100)), some (.int (iI ((m : Nat) : Int)))] (by decide) (Nat.le_of_ble_eq_true rfl) rfl (fun X A hl hC hnm hA hRm hE => ?_)
  have hf : ∀ i, i < m → (fun _ => none : Nat → Option Nat) i = some (xs i) := fun i hi => by omega
  refine zx_iload_n hC dJ2_add_2_0 rfl ?_
  refine zx_aload_n hC dJ2_add_2_1 rfl ?_
  refine zx_elen hC hA.2 dJ2_add_2_2 ?_
  refine zx_icmp_neF (tgt := 11) hC dJ2_add_2_3 (by decide) (by first | assumption | exact gI _ (by omega) | exact iRm (by omega) (by omega)) (by first | assumption | exact gI _ (by omega) | exact iRm (by omega) (by omega)) (by omega) ?_
  refine zx_aload_n hC dJ2_add_2_6 rfl ?_
  refine zx_mar (Qr := fun b1 => [z1 a (.inr (4, [.int (iI mo), .ref b1, .int (iI ((m : Nat) : Int))])), z1 b1 (zQ G 3 10 (fun _ => none))]) hC hA [0] [1] (zcV 0 (As := []) hC (lw_V q779 q781 qs4 q86 q782) (by decide +kernel) rfl (by rw [hRm]; exact ⟨Nat.le_of_ble_eq_true rfl, Nat.le_of_ble_eq_true rfl⟩) (by rw [hRm]; constructor <;> (first | decide | (simp only []; omega) | omega)) rfl (Nat.le_of_ble_eq_true rfl) dJ2_add_2_7) (m_J2_growE (zl X) G a mo m (by first | assumption | omega | decide | exact iRm (by omega) (by omega) | ((repeat (first | exact gL | refine rLs.up ?_ (by omega) (by omega) | refine rLs.fad ?_)); done) | ((repeat (first | exact gM | refine rHM.up ?_ (by omega))); done) | exact gT _ (by omega) | exact rFadF_le gF _ | ((repeat first | rw [va_up_ne _ _ (by omega)] | rw [va_up_self] | rw [rFadH_o (by omega)] | rw [rAge_o _ _ (by omega)] | rw [rLayH_o (by omega) (by omega) (by omega) (by omega)]); omega))) (fun H h => zrc_of (r := (RJ2, TJ2, 3)) hC.2.1 ((zat 0 rfl) H h) rfl) rfl rfl rfl (fun b1 => ?_)
  show zV X 4 A (zH G A (zS [E, z1 a (.inr (4, [.int (iI mo), .ref b1, .int (iI ((m : Nat) : Int))])), z1 b1 (zQ G 3 10 (fun _ => none))])) (1) (10) 10 [some (.ref a), some (.ref q), some (.ref (G.2.1 100)), some (.int (iI ((m : Nat) : Int)))] [.ref b1]
  refine zx_astore_n (L' := [some (.ref a), some (.ref q), some (.ref b1), some (.int (iI ((m : Nat) : Int)))]) hC dJ2_add_2_10 (by decide) rfl ?_
  refine zx_aload_n hC dJ2_add_2_11 rfl ?_
  refine zx_iload_n hC dJ2_add_2_12 rfl ?_
  refine zx_aload_n hC dJ2_add_2_13 rfl ?_
  refine zx_aastM (f' := (va_up (fun _ => none) m (some q))) hC hA.2 2 0 rfl rfl hX m (by omega) (by omega) rfl dJ2_add_2_14 ?_
  show zV X 4 A (zH G A (zS [E, z1 a (.inr (4, [.int (iI mo), .ref b1, .int (iI ((m : Nat) : Int))])), z1 b1 (zQ G 3 10 (va_up (fun _ => none) m (some q)))])) (1) (10) 15 [some (.ref a), some (.ref q), some (.ref b1), some (.int (iI ((m : Nat) : Int)))] []
  refine zx_aload_n hC dJ2_add_2_15 rfl ?_
  refine zx_iload_n hC dJ2_add_2_16 rfl ?_
  refine zx_iconst (z := 1) hC dJ2_add_2_17 ?_
  refine zx_iadd hC dJ2_add_2_18 ?_
  refine zx_putf (T := TJ2) (N := 3) (ci := 4) (fs := [.int (iI mo), .ref b1, .int (iI ((m : Nat) : Int))]) (fs' := [.int (iI mo), .ref b1, .int (iI ((m + 1 : Nat) : Int))]) hC 1 in_J2 tyJ2 tyJ2_ok nmJ2 rfl rfl 2 (by decide) q154 (fun _ h => h) rfl (by first | rfl | exact rfl) (by first | rfl | exact rfl) (Nat.le_of_ble_eq_true rfl) rfl dJ2_add_2_19 ?_
  show zV X 4 A (zH G A (zS [E, z1 a (.inr (4, [.int (iI mo), .ref b1, .int (iI ((m + 1 : Nat) : Int))])), z1 b1 (zQ G 3 10 (va_up (fun _ => none) m (some q)))])) (1) (10) 22 [some (.ref a), some (.ref q), some (.ref b1), some (.int (iI ((m : Nat) : Int)))] []
  refine zx_pick [1, 2, 0] rfl rfl ?_
  show zV X 4 A (zH G A (zS [z1 a (.inr (4, [.int (iI mo), .ref b1, .int (iI ((m + 1 : Nat) : Int))])), z1 b1 (zQ G 3 10 (va_up (fun _ => none) m (some q))), E])) (1) (10) 22 [some (.ref a), some (.ref q), some (.ref b1), some (.int (iI ((m : Nat) : Int)))] []
  refine zx_close (P1 := AL G a (m + 1) (va_up xs m q)) [z1 a (.inr (4, [.int (iI mo), .ref b1, .int (iI ((m + 1 : Nat) : Int))])), z1 b1 (zQ G 3 10 (va_up (fun _ => none) m (some q)))] (AL1_mk (by omega) (by omega) (by omega) (fun i hi => by simp only [va_up]; by_cases e : i = m <;> simp only [e, if_true, if_false] <;> (first | rfl | exact hf i (by omega) | omega))) ?_
  show zV X 4 A (zH G A (zS [AL G a (m + 1) (va_up xs m q), E])) (1) (10) 22 [some (.ref a), some (.ref q), some (.ref b1), some (.int (iI ((m : Nat) : Int)))] []
  exact zx_vret hC hE (by omega) (by omega) (fun H h => ⟨rfl, h⟩) dJ2_add_2_22
set_option maxHeartbeats 4000000 in
theorem m_J2_add_2A (la : Launch) (G : zG) (a : Nat) (mo : Int) (m : Nat) (ed : Nat) (N : Nat) (f : Nat → Option Nat) (xs : Nat → Nat) (q : Nat) (E : zAs) (g0 : m < N) (g1 : N ≤ 120) (g2 : 10 ≤ N) (hf : ∀ i, i < m → f i = some (xs i)) (hX : zEl G E q) : zMA la yJ2_add_2 cJ2_add_2 4 none 0 0 G [.ref a, .ref q, .ref ed, .int (iI ((m : Nat) : Int))] [z1 a (.inr (4, [.int (iI mo), .ref ed, .int (iI ((m : Nat) : Int))])), z1 ed (zQ G 3 N f), E] (fun v9 => v9 = none) (fun _ => [AL G a (m + 1) (va_up xs m q), E]) (0) (0) := by
  refine zMA.of [some (.ref a), some (.ref q), some (.ref ed), some (.int (iI ((m : Nat) : Int)))] (by decide) (Nat.le_of_ble_eq_true rfl) rfl (fun X A hl hC hnm hA hRm hE => ?_)
  refine zx_iload_n hC dJ2_add_2_0 rfl ?_
  refine zx_aload_n hC dJ2_add_2_1 rfl ?_
  refine zx_alen hC 3 (zat 1 rfl) rfl dJ2_add_2_2 ?_
  refine zx_icmp_neT (tgt := 11) hC dJ2_add_2_3 (by decide) (by first | assumption | exact gI _ (by omega) | exact iRm (by omega) (by omega)) (by first | assumption | exact gI _ (by omega) | exact iRm (by omega) (by omega)) (by omega) ?_
  refine zx_aload_n hC dJ2_add_2_11 rfl ?_
  refine zx_iload_n hC dJ2_add_2_12 rfl ?_
  refine zx_aload_n hC dJ2_add_2_13 rfl ?_
  refine zx_aastM (f' := (va_up f m (some q))) hC hA.2 1 2 rfl rfl hX m (by omega) (by omega) rfl dJ2_add_2_14 ?_
  show zV X 4 A (zH G A (zS [z1 a (.inr (4, [.int (iI mo), .ref ed, .int (iI ((m : Nat) : Int))])), z1 ed (zQ G 3 N (va_up f m (some q))), E])) (0) (0) 15 [some (.ref a), some (.ref q), some (.ref ed), some (.int (iI ((m : Nat) : Int)))] []
  refine zx_aload_n hC dJ2_add_2_15 rfl ?_
  refine zx_iload_n hC dJ2_add_2_16 rfl ?_
  refine zx_iconst (z := 1) hC dJ2_add_2_17 ?_
  refine zx_iadd hC dJ2_add_2_18 ?_
  refine zx_putf (T := TJ2) (N := 3) (ci := 4) (fs := [.int (iI mo), .ref ed, .int (iI ((m : Nat) : Int))]) (fs' := [.int (iI mo), .ref ed, .int (iI ((m + 1 : Nat) : Int))]) hC 0 in_J2 tyJ2 tyJ2_ok nmJ2 rfl rfl 2 (by decide) q154 (fun _ h => h) rfl (by first | rfl | exact rfl) (by first | rfl | exact rfl) (Nat.le_of_ble_eq_true rfl) rfl dJ2_add_2_19 ?_
  show zV X 4 A (zH G A (zS [z1 a (.inr (4, [.int (iI mo), .ref ed, .int (iI ((m + 1 : Nat) : Int))])), z1 ed (zQ G 3 N (va_up f m (some q))), E])) (0) (0) 22 [some (.ref a), some (.ref q), some (.ref ed), some (.int (iI ((m : Nat) : Int)))] []
  refine zx_close (P1 := AL G a (m + 1) (va_up xs m q)) [z1 a (.inr (4, [.int (iI mo), .ref ed, .int (iI ((m + 1 : Nat) : Int))])), z1 ed (zQ G 3 N (va_up f m (some q)))] (AL1_mk (by omega) (by omega) (by omega) (fun i hi => by simp only [va_up]; by_cases e : i = m <;> simp only [e, if_true, if_false] <;> (first | rfl | exact hf i (by omega) | omega))) ?_
  show zV X 4 A (zH G A (zS [AL G a (m + 1) (va_up xs m q), E])) (0) (0) 22 [some (.ref a), some (.ref q), some (.ref ed), some (.int (iI ((m : Nat) : Int)))] []
  exact zx_vret hC hE (by omega) (by omega) (fun H h => ⟨rfl, h⟩) dJ2_add_2_22
set_option maxHeartbeats 4000000 in
theorem m_J2_add (la : Launch) (G : zG) (a : Nat) (m : Nat) (xs : Nat → Nat) (q : Nat) (E : zAs) (g0 : m < 10) (hX : zEl G E q) : zMA la yJ2_add cJ2_add 2 (some .boolean) 4 87 G [.ref a, .ref q] [AL G a m xs, E] (fun v9 => v9 = some (.int (iI 1))) (fun _ => [AL G a (m + 1) (va_up xs m q), E]) (1) (10) := by
  refine zMA.of [some (.ref a), some (.ref q)] (by decide) (Nat.le_of_ble_eq_true rfl) rfl (fun X A hl hC hnm hA hRm hE => ?_)
  refine zx_or (P1 := AL0 G a m) (P2 := AL1 G a m xs) ?_ ?_
  · refine zx_exi (fun mo => zx_nest (zx_pure (fun ⟨hmo, hn⟩ => ?_)))
    show zV X 2 A (zH G A (zS [z1 a (.inr (4, [.int (iI mo), .ref (G.2.1 100), .int (iI ((m : Nat) : Int))])), E])) (0) (0) 0 [some (.ref a), some (.ref q)] []
    refine zx_aload_n hC dJ2_add_0 rfl ?_
    refine zx_dup hC dJ2_add_1 rfl ?_
    refine zx_getf (v := .int (iI mo)) (T := TJ2) (N := 3) (ci := 4) (fs := [.int (iI mo), .ref (G.2.1 100), .int (iI ((m : Nat) : Int))]) hC in_J2 (zat 0 rfl) rfl 0 (by decide) q162 (fun x h => u_same (hC.1.2.2.2.2 _ q159) x h) rfl dJ2_add_2 ?_
    refine zx_iconst (z := 1) hC dJ2_add_5 ?_
    refine zx_iadd hC dJ2_add_6 ?_
    refine zx_putf (T := TJ2) (N := 3) (ci := 4) (fs := [.int (iI mo), .ref (G.2.1 100), .int (iI ((m : Nat) : Int))]) (fs' := [.int (iI (mo + 1)), .ref (G.2.1 100), .int (iI ((m : Nat) : Int))]) hC 0 in_J2 tyJ2 tyJ2_ok nmJ2 rfl rfl 0 (by decide) q162 (fun x h => u_same (hC.1.2.2.2.2 _ q159) x h) rfl (by first | rfl | exact rfl) (by first | rfl | exact rfl) (Nat.le_of_ble_eq_true rfl) rfl dJ2_add_7 ?_
    show zV X 2 A (zH G A (zS [z1 a (.inr (4, [.int (iI (mo + 1)), .ref (G.2.1 100), .int (iI ((m : Nat) : Int))])), E])) (0) (0) 10 [some (.ref a), some (.ref q)] []
    refine zx_aload_n hC dJ2_add_10 rfl ?_
    refine zx_aload_n hC dJ2_add_11 rfl ?_
    refine zx_aload_n hC dJ2_add_12 rfl ?_
    refine zx_getf (v := .ref (G.2.1 100)) (T := TJ2) (N := 3) (ci := 4) (fs := [.int (iI (mo + 1)), .ref (G.2.1 100), .int (iI ((m : Nat) : Int))]) hC in_J2 (zat 0 rfl) rfl 1 (by decide) q151 (fun _ h => h) rfl dJ2_add_13 ?_
    refine zx_aload_n hC dJ2_add_16 rfl ?_
    refine zx_getf (v := .int (iI ((m : Nat) : Int))) (T := TJ2) (N := 3) (ci := 4) (fs := [.int (iI (mo + 1)), .ref (G.2.1 100), .int (iI ((m : Nat) : Int))]) hC in_J2 (zat 0 rfl) rfl 2 (by decide) q154 (fun _ h => h) rfl dJ2_add_17 ?_
    refine zx_ma0 (Q := fun _ => [AL G a (m + 1) (va_up xs m q), E]) hC hA [0, 1] [] (zcV 3 (As := [.ref q, .ref (G.2.1 100), .int (iI ((m : Nat) : Int))]) hC (lw_V q775 q777 qs3 q86 q778) (by decide +kernel) rfl (by rw [hRm]; exact ⟨Nat.le_of_ble_eq_true rfl, Nat.le_of_ble_eq_true rfl⟩) (by rw [hRm]; constructor <;> (first | decide | (simp only []; omega) | omega)) rfl (Nat.le_of_ble_eq_true rfl) dJ2_add_20) (m_J2_add_2E (zl X) G a (mo + 1) m xs q E (by first | assumption | omega | decide | exact iRm (by omega) (by omega) | ((repeat (first | exact gL | refine rLs.up ?_ (by omega) (by omega) | refine rLs.fad ?_)); done) | ((repeat (first | exact gM | refine rHM.up ?_ (by omega))); done) | exact gT _ (by omega) | exact rFadF_le gF _ | ((repeat first | rw [va_up_ne _ _ (by omega)] | rw [va_up_self] | rw [rFadH_o (by omega)] | rw [rAge_o _ _ (by omega)] | rw [rLayH_o (by omega) (by omega) (by omega) (by omega)]); omega)) hX) (fun H h => zrc_of (r := (RJ2, TJ2, 3)) hC.2.1 ((zat 0 rfl) H h) rfl) rfl rfl rfl ?_
    show zV X 2 A (zH G A (zS [AL G a (m + 1) (va_up xs m q), E])) (1) (10) 23 [some (.ref a), some (.ref q)] []
    refine zx_iconst (z := 1) hC dJ2_add_23 ?_
    exact zx_nret hC hE (znar (by first | omega | exact zB_01 _)) (by omega) (by omega) (fun H h => ⟨rfl, h⟩) dJ2_add_24
  · refine zx_exi (fun mo => zx_exi (fun ed => zx_exi (fun N => zx_exi (fun f => zx_nest (zx_pure (fun ⟨hmo, h1, h2, h3, hf⟩ => ?_))))))
    show zV X 2 A (zH G A (zS [z1 a (.inr (4, [.int (iI mo), .ref ed, .int (iI ((m : Nat) : Int))])), z1 ed (zQ G 3 N f), E])) (0) (0) 0 [some (.ref a), some (.ref q)] []
    refine zx_aload_n hC dJ2_add_0 rfl ?_
    refine zx_dup hC dJ2_add_1 rfl ?_
    refine zx_getf (v := .int (iI mo)) (T := TJ2) (N := 3) (ci := 4) (fs := [.int (iI mo), .ref ed, .int (iI ((m : Nat) : Int))]) hC in_J2 (zat 0 rfl) rfl 0 (by decide) q162 (fun x h => u_same (hC.1.2.2.2.2 _ q159) x h) rfl dJ2_add_2 ?_
    refine zx_iconst (z := 1) hC dJ2_add_5 ?_
    refine zx_iadd hC dJ2_add_6 ?_
    refine zx_putf (T := TJ2) (N := 3) (ci := 4) (fs := [.int (iI mo), .ref ed, .int (iI ((m : Nat) : Int))]) (fs' := [.int (iI (mo + 1)), .ref ed, .int (iI ((m : Nat) : Int))]) hC 0 in_J2 tyJ2 tyJ2_ok nmJ2 rfl rfl 0 (by decide) q162 (fun x h => u_same (hC.1.2.2.2.2 _ q159) x h) rfl (by first | rfl | exact rfl) (by first | rfl | exact rfl) (Nat.le_of_ble_eq_true rfl) rfl dJ2_add_7 ?_
    show zV X 2 A (zH G A (zS [z1 a (.inr (4, [.int (iI (mo + 1)), .ref ed, .int (iI ((m : Nat) : Int))])), z1 ed (zQ G 3 N f), E])) (0) (0) 10 [some (.ref a), some (.ref q)] []
    refine zx_aload_n hC dJ2_add_10 rfl ?_
    refine zx_aload_n hC dJ2_add_11 rfl ?_
    refine zx_aload_n hC dJ2_add_12 rfl ?_
    refine zx_getf (v := .ref ed) (T := TJ2) (N := 3) (ci := 4) (fs := [.int (iI (mo + 1)), .ref ed, .int (iI ((m : Nat) : Int))]) hC in_J2 (zat 0 rfl) rfl 1 (by decide) q151 (fun _ h => h) rfl dJ2_add_13 ?_
    refine zx_aload_n hC dJ2_add_16 rfl ?_
    refine zx_getf (v := .int (iI ((m : Nat) : Int))) (T := TJ2) (N := 3) (ci := 4) (fs := [.int (iI (mo + 1)), .ref ed, .int (iI ((m : Nat) : Int))]) hC in_J2 (zat 0 rfl) rfl 2 (by decide) q154 (fun _ h => h) rfl dJ2_add_17 ?_
    refine zx_ma0 (Q := fun _ => [AL G a (m + 1) (va_up xs m q), E]) hC hA [0, 1, 2] [] (zcV 3 (As := [.ref q, .ref ed, .int (iI ((m : Nat) : Int))]) hC (lw_V q775 q777 qs3 q86 q778) (by decide +kernel) rfl (by rw [hRm]; exact ⟨Nat.le_of_ble_eq_true rfl, Nat.le_of_ble_eq_true rfl⟩) (by rw [hRm]; constructor <;> (first | decide | (simp only []; omega) | omega)) rfl (Nat.le_of_ble_eq_true rfl) dJ2_add_20) (m_J2_add_2A (zl X) G a (mo + 1) m ed N f xs q E (by first | assumption | omega | decide | exact iRm (by omega) (by omega) | ((repeat (first | exact gL | refine rLs.up ?_ (by omega) (by omega) | refine rLs.fad ?_)); done) | ((repeat (first | exact gM | refine rHM.up ?_ (by omega))); done) | exact gT _ (by omega) | exact rFadF_le gF _ | ((repeat first | rw [va_up_ne _ _ (by omega)] | rw [va_up_self] | rw [rFadH_o (by omega)] | rw [rAge_o _ _ (by omega)] | rw [rLayH_o (by omega) (by omega) (by omega) (by omega)]); omega)) (by first | assumption | omega | decide | exact iRm (by omega) (by omega) | ((repeat (first | exact gL | refine rLs.up ?_ (by omega) (by omega) | refine rLs.fad ?_)); done) | ((repeat (first | exact gM | refine rHM.up ?_ (by omega))); done) | exact gT _ (by omega) | exact rFadF_le gF _ | ((repeat first | rw [va_up_ne _ _ (by omega)] | rw [va_up_self] | rw [rFadH_o (by omega)] | rw [rAge_o _ _ (by omega)] | rw [rLayH_o (by omega) (by omega) (by omega) (by omega)]); omega)) (by first | assumption | omega | decide | exact iRm (by omega) (by omega) | ((repeat (first | exact gL | refine rLs.up ?_ (by omega) (by omega) | refine rLs.fad ?_)); done) | ((repeat (first | exact gM | refine rHM.up ?_ (by omega))); done) | exact gT _ (by omega) | exact rFadF_le gF _ | ((repeat first | rw [va_up_ne _ _ (by omega)] | rw [va_up_self] | rw [rFadH_o (by omega)] | rw [rAge_o _ _ (by omega)] | rw [rLayH_o (by omega) (by omega) (by omega) (by omega)]); omega)) (by first | assumption | omega | decide | exact iRm (by omega) (by omega) | ((repeat (first | exact gL | refine rLs.up ?_ (by omega) (by omega) | refine rLs.fad ?_)); done) | ((repeat (first | exact gM | refine rHM.up ?_ (by omega))); done) | exact gT _ (by omega) | exact rFadF_le gF _ | ((repeat first | rw [va_up_ne _ _ (by omega)] | rw [va_up_self] | rw [rFadH_o (by omega)] | rw [rAge_o _ _ (by omega)] | rw [rLayH_o (by omega) (by omega) (by omega) (by omega)]); omega)) hX) (fun H h => zrc_of (r := (RJ2, TJ2, 3)) hC.2.1 ((zat 0 rfl) H h) rfl) rfl rfl rfl ?_
    show zV X 2 A (zH G A (zS [AL G a (m + 1) (va_up xs m q), E])) (0) (0) 23 [some (.ref a), some (.ref q)] []
    refine zx_iconst (z := 1) hC dJ2_add_23 ?_
    exact zx_nret hC hE (znar (by first | omega | exact zB_01 _)) (by omega) (by omega) (fun H h => ⟨rfl, h⟩) dJ2_add_24
set_option maxHeartbeats 4000000 in
theorem m_J2_clear (la : Launch) (G : zG) (a : Nat) (m : Nat) (xs : Nat → Nat) (g0 : m < 1000) : zMA la yJ2_clear cJ2_clear 4 none 0 0 G [.ref a] [AL G a m xs] (fun v9 => v9 = none) (fun _ => [AL G a 0 (fun _ => 0)]) (0) (0) := by
  refine zMA.of [some (.ref a), none, none, none] (by decide) (Nat.le_of_ble_eq_true rfl) rfl (fun X A hl hC hnm hA hRm hE => ?_)
  refine zx_or (P1 := AL0 G a m) (P2 := AL1 G a m xs) ?_ ?_
  · refine zx_exi (fun mo => zx_nest (zx_pure (fun ⟨hmo, hn⟩ => ?_)))
    show zV X 4 A (zH G A (zS [z1 a (.inr (4, [.int (iI mo), .ref (G.2.1 100), .int (iI ((m : Nat) : Int))]))])) (0) (0) 0 [some (.ref a), none, none, none] []
    refine zx_aload_n hC dJ2_clear_0 rfl ?_
    refine zx_dup hC dJ2_clear_1 rfl ?_
    refine zx_getf (v := .int (iI mo)) (T := TJ2) (N := 3) (ci := 4) (fs := [.int (iI mo), .ref (G.2.1 100), .int (iI ((m : Nat) : Int))]) hC in_J2 (zat 0 rfl) rfl 0 (by decide) q162 (fun x h => u_same (hC.1.2.2.2.2 _ q159) x h) rfl dJ2_clear_2 ?_
    refine zx_iconst (z := 1) hC dJ2_clear_5 ?_
    refine zx_iadd hC dJ2_clear_6 ?_
    refine zx_putf (T := TJ2) (N := 3) (ci := 4) (fs := [.int (iI mo), .ref (G.2.1 100), .int (iI ((m : Nat) : Int))]) (fs' := [.int (iI (mo + 1)), .ref (G.2.1 100), .int (iI ((m : Nat) : Int))]) hC 0 in_J2 tyJ2 tyJ2_ok nmJ2 rfl rfl 0 (by decide) q162 (fun x h => u_same (hC.1.2.2.2.2 _ q159) x h) rfl (by first | rfl | exact rfl) (by first | rfl | exact rfl) (Nat.le_of_ble_eq_true rfl) rfl dJ2_clear_7 ?_
    show zV X 4 A (zH G A (zS [z1 a (.inr (4, [.int (iI (mo + 1)), .ref (G.2.1 100), .int (iI ((m : Nat) : Int))]))])) (0) (0) 10 [some (.ref a), none, none, none] []
    refine zx_aload_n hC dJ2_clear_10 rfl ?_
    refine zx_getf (v := .ref (G.2.1 100)) (T := TJ2) (N := 3) (ci := 4) (fs := [.int (iI (mo + 1)), .ref (G.2.1 100), .int (iI ((m : Nat) : Int))]) hC in_J2 (zat 0 rfl) rfl 1 (by decide) q151 (fun _ h => h) rfl dJ2_clear_11 ?_
    refine zx_astore_n (L' := [some (.ref a), some (.ref (G.2.1 100)), none, none]) hC dJ2_clear_14 (by decide) rfl ?_
    refine zx_aload_n hC dJ2_clear_15 rfl ?_
    refine zx_getf (v := .int (iI ((m : Nat) : Int))) (T := TJ2) (N := 3) (ci := 4) (fs := [.int (iI (mo + 1)), .ref (G.2.1 100), .int (iI ((m : Nat) : Int))]) hC in_J2 (zat 0 rfl) rfl 2 (by decide) q154 (fun _ h => h) rfl dJ2_clear_16 ?_
    refine zx_istore_n (L' := [some (.ref a), some (.ref (G.2.1 100)), some (.int (iI ((m : Nat) : Int))), none]) hC dJ2_clear_19 (by decide) rfl ?_
    refine zx_aload_n hC dJ2_clear_20 rfl ?_
    refine zx_iconst (z := 0) hC dJ2_clear_21 ?_
    refine zx_dup_x1 hC dJ2_clear_22 rfl rfl ?_
    refine zx_putf (T := TJ2) (N := 3) (ci := 4) (fs := [.int (iI (mo + 1)), .ref (G.2.1 100), .int (iI ((m : Nat) : Int))]) (fs' := [.int (iI (mo + 1)), .ref (G.2.1 100), .int (iI 0)]) hC 0 in_J2 tyJ2 tyJ2_ok nmJ2 rfl rfl 2 (by decide) q154 (fun _ h => h) rfl (by first | rfl | exact rfl) (by first | rfl | exact rfl) (Nat.le_of_ble_eq_true rfl) rfl dJ2_clear_23 ?_
    show zV X 4 A (zH G A (zS [z1 a (.inr (4, [.int (iI (mo + 1)), .ref (G.2.1 100), .int (iI 0)]))])) (0) (0) 26 [some (.ref a), some (.ref (G.2.1 100)), some (.int (iI ((m : Nat) : Int))), none] [.int (iI 0)]
    refine zx_istore_n (L' := [some (.ref a), some (.ref (G.2.1 100)), some (.int (iI ((m : Nat) : Int))), some (.int (iI 0))]) hC dJ2_clear_26 (by decide) rfl ?_
    refine zx_iload_n hC dJ2_clear_27 rfl ?_
    refine zx_iload_n hC dJ2_clear_28 rfl ?_
    refine zx_icmp_geT (tgt := 42) hC dJ2_clear_29 (by decide) (by first | assumption | exact gI _ (by omega) | exact iRm (by omega) (by omega)) (by first | assumption | exact gI _ (by omega) | exact iRm (by omega) (by omega)) (by omega) ?_
    refine zx_close (P1 := AL G a 0 (fun _ => 0)) [z1 a (.inr (4, [.int (iI (mo + 1)), .ref (G.2.1 100), .int (iI 0)]))] (AL0_mk _ rfl) ?_
    show zV X 4 A (zH G A (zS [AL G a 0 (fun _ => 0)])) (0) (0) 42 [some (.ref a), some (.ref (G.2.1 100)), some (.int (iI ((m : Nat) : Int))), some (.int (iI 0))] []
    exact zx_vret hC hE (by omega) (by omega) (fun H h => ⟨rfl, h⟩) dJ2_clear_42
  · refine zx_exi (fun mo => zx_exi (fun ed => zx_exi (fun N => zx_exi (fun f => zx_nest (zx_pure (fun ⟨hmo, h1, h2, h3, hf⟩ => ?_))))))
    show zV X 4 A (zH G A (zS [z1 a (.inr (4, [.int (iI mo), .ref ed, .int (iI ((m : Nat) : Int))])), z1 ed (zQ G 3 N f)])) (0) (0) 0 [some (.ref a), none, none, none] []
    refine zx_aload_n hC dJ2_clear_0 rfl ?_
    refine zx_dup hC dJ2_clear_1 rfl ?_
    refine zx_getf (v := .int (iI mo)) (T := TJ2) (N := 3) (ci := 4) (fs := [.int (iI mo), .ref ed, .int (iI ((m : Nat) : Int))]) hC in_J2 (zat 0 rfl) rfl 0 (by decide) q162 (fun x h => u_same (hC.1.2.2.2.2 _ q159) x h) rfl dJ2_clear_2 ?_
    refine zx_iconst (z := 1) hC dJ2_clear_5 ?_
    refine zx_iadd hC dJ2_clear_6 ?_
    refine zx_putf (T := TJ2) (N := 3) (ci := 4) (fs := [.int (iI mo), .ref ed, .int (iI ((m : Nat) : Int))]) (fs' := [.int (iI (mo + 1)), .ref ed, .int (iI ((m : Nat) : Int))]) hC 0 in_J2 tyJ2 tyJ2_ok nmJ2 rfl rfl 0 (by decide) q162 (fun x h => u_same (hC.1.2.2.2.2 _ q159) x h) rfl (by first | rfl | exact rfl) (by first | rfl | exact rfl) (Nat.le_of_ble_eq_true rfl) rfl dJ2_clear_7 ?_
    show zV X 4 A (zH G A (zS [z1 a (.inr (4, [.int (iI (mo + 1)), .ref ed, .int (iI ((m : Nat) : Int))])), z1 ed (zQ G 3 N f)])) (0) (0) 10 [some (.ref a), none, none, none] []
    refine zx_aload_n hC dJ2_clear_10 rfl ?_
    refine zx_getf (v := .ref ed) (T := TJ2) (N := 3) (ci := 4) (fs := [.int (iI (mo + 1)), .ref ed, .int (iI ((m : Nat) : Int))]) hC in_J2 (zat 0 rfl) rfl 1 (by decide) q151 (fun _ h => h) rfl dJ2_clear_11 ?_
    refine zx_astore_n (L' := [some (.ref a), some (.ref ed), none, none]) hC dJ2_clear_14 (by decide) rfl ?_
    refine zx_aload_n hC dJ2_clear_15 rfl ?_
    refine zx_getf (v := .int (iI ((m : Nat) : Int))) (T := TJ2) (N := 3) (ci := 4) (fs := [.int (iI (mo + 1)), .ref ed, .int (iI ((m : Nat) : Int))]) hC in_J2 (zat 0 rfl) rfl 2 (by decide) q154 (fun _ h => h) rfl dJ2_clear_16 ?_
    refine zx_istore_n (L' := [some (.ref a), some (.ref ed), some (.int (iI ((m : Nat) : Int))), none]) hC dJ2_clear_19 (by decide) rfl ?_
    refine zx_aload_n hC dJ2_clear_20 rfl ?_
    refine zx_iconst (z := 0) hC dJ2_clear_21 ?_
    refine zx_dup_x1 hC dJ2_clear_22 rfl rfl ?_
    refine zx_putf (T := TJ2) (N := 3) (ci := 4) (fs := [.int (iI (mo + 1)), .ref ed, .int (iI ((m : Nat) : Int))]) (fs' := [.int (iI (mo + 1)), .ref ed, .int (iI 0)]) hC 0 in_J2 tyJ2 tyJ2_ok nmJ2 rfl rfl 2 (by decide) q154 (fun _ h => h) rfl (by first | rfl | exact rfl) (by first | rfl | exact rfl) (Nat.le_of_ble_eq_true rfl) rfl dJ2_clear_23 ?_
    show zV X 4 A (zH G A (zS [z1 a (.inr (4, [.int (iI (mo + 1)), .ref ed, .int (iI 0)])), z1 ed (zQ G 3 N f)])) (0) (0) 26 [some (.ref a), some (.ref ed), some (.int (iI ((m : Nat) : Int))), none] [.int (iI 0)]
    rw [show f = fnul f 0 from (fnul_0 f).symm]
    refine zx_istore_n (L' := [some (.ref a), some (.ref ed), some (.int (iI ((m : Nat) : Int))), some (.int (iI 0))]) hC dJ2_clear_26 (by decide) rfl ?_
    have loop : ∀ n i : Nat, i + n = m → zV X 4 A (zH G A (zS [z1 a (.inr (4, [.int (iI (mo + 1)), .ref ed, .int (iI 0)])), z1 ed (zQ G 3 N (fnul f i))])) (0) (0) 27 [some (.ref a), some (.ref ed), some (.int (iI ((m : Nat) : Int))), some (.int (iI ((i : Nat) : Int)))] [] := by
      intro n
      induction n with
      | zero =>
        intro i hi 
        have hiN : i = m := by omega
        rw [hiN]
        refine zx_iload_n hC dJ2_clear_27 rfl ?_
        refine zx_iload_n hC dJ2_clear_28 rfl ?_
        refine zx_icmp_geT (tgt := 42) hC dJ2_clear_29 (by decide) (by first | assumption | exact gI _ (by omega) | exact iRm (by omega) (by omega)) (by first | assumption | exact gI _ (by omega) | exact iRm (by omega) (by omega)) (by omega) ?_
        refine zx_close (P1 := AL G a 0 (fun _ => 0)) [z1 a (.inr (4, [.int (iI (mo + 1)), .ref ed, .int (iI 0)])), z1 ed (zQ G 3 N (fnul f m))] (AL1_mk (n := 0) (Nat.zero_le _) (by omega) (by omega) (fun i hi => absurd hi (Nat.not_lt_zero _))) ?_
        show zV X 4 A (zH G A (zS [AL G a 0 (fun _ => 0)])) (0) (0) 42 [some (.ref a), some (.ref ed), some (.int (iI ((m : Nat) : Int))), some (.int (iI ((m : Nat) : Int)))] []
        exact zx_vret hC hE (by omega) (by omega) (fun H h => ⟨rfl, h⟩) dJ2_clear_42
      | succ n ih =>
        intro i hi 
        refine zx_iload_n hC dJ2_clear_27 rfl ?_
        refine zx_iload_n hC dJ2_clear_28 rfl ?_
        refine zx_icmp_geF (tgt := 42) hC dJ2_clear_29 (by decide) (by first | assumption | exact gI _ (by omega) | exact iRm (by omega) (by omega)) (by first | assumption | exact gI _ (by omega) | exact iRm (by omega) (by omega)) (by omega) ?_
        refine zx_aload_n hC dJ2_clear_32 rfl ?_
        refine zx_iload_n hC dJ2_clear_33 rfl ?_
        refine zx_null hC dJ2_clear_34 ?_
        refine zx_aastN (f' := (fnul f (i + 1))) hC 1 rfl i (by omega) (by omega) (fnul_s f i) dJ2_clear_35 ?_
        show zV X 4 A (zH G A (zS [z1 a (.inr (4, [.int (iI (mo + 1)), .ref ed, .int (iI 0)])), z1 ed (zQ G 3 N (fnul f (i + 1)))])) (0) (0) 36 [some (.ref a), some (.ref ed), some (.int (iI ((m : Nat) : Int))), some (.int (iI ((i : Nat) : Int)))] []
        refine zx_iinc (b := ((i + 1 : Nat) : Int)) (L' := [some (.ref a), some (.ref ed), some (.int (iI ((m : Nat) : Int))), some (.int (iI ((i + 1 : Nat) : Int)))]) hC dJ2_clear_36 rfl (by first | rfl | omega) (by decide) rfl ?_
        refine zx_goto (tgt := 27) hC dJ2_clear_39 (by decide) ?_
        exact ih (i + 1) (by omega) 
    exact loop (m) 0 (by omega) 
set_option maxHeartbeats 4000000 in
theorem m_J2_fastRemove (la : Launch) (G : zG) (a : Nat) (mo : Int) (m : Nat) (ed : Nat) (N : Nat) (f : Nat → Option Nat) (g0 : m < N) (g1 : N ≤ 120) : zMA la yJ2_fastRemove cJ2_fastRemove 4 none 0 0 G [.ref a, .ref ed, .int (iI ((m : Nat) : Int))] [z1 a (.inr (4, [.int (iI mo), .ref ed, .int (iI ((m + 1 : Nat) : Int))])), z1 ed (zQ G 3 N f)] (fun v9 => v9 = none) (fun _ => [z1 a (.inr (4, [.int (iI (mo + 1)), .ref ed, .int (iI ((m : Nat) : Int))])), z1 ed (zQ G 3 N (va_up f m none))]) (0) (0) := by
  refine zMA.of [some (.ref a), some (.ref ed), some (.int (iI ((m : Nat) : Int))), none] (by decide) (Nat.le_of_ble_eq_true rfl) rfl (fun X A hl hC hnm hA hRm hE => ?_)
  refine zx_aload_n hC dJ2_fastRemove_0 rfl ?_
  refine zx_dup hC dJ2_fastRemove_1 rfl ?_
  refine zx_getf (v := .int (iI mo)) (T := TJ2) (N := 3) (ci := 4) (fs := [.int (iI mo), .ref ed, .int (iI ((m + 1 : Nat) : Int))]) hC in_J2 (zat 0 rfl) rfl 0 (by decide) q162 (fun x h => u_same (hC.1.2.2.2.2 _ q159) x h) rfl dJ2_fastRemove_2 ?_
  refine zx_iconst (z := 1) hC dJ2_fastRemove_5 ?_
  refine zx_iadd hC dJ2_fastRemove_6 ?_
  refine zx_putf (T := TJ2) (N := 3) (ci := 4) (fs := [.int (iI mo), .ref ed, .int (iI ((m + 1 : Nat) : Int))]) (fs' := [.int (iI (mo + 1)), .ref ed, .int (iI ((m + 1 : Nat) : Int))]) hC 0 in_J2 tyJ2 tyJ2_ok nmJ2 rfl rfl 0 (by decide) q162 (fun x h => u_same (hC.1.2.2.2.2 _ q159) x h) rfl (by first | rfl | exact rfl) (by first | rfl | exact rfl) (Nat.le_of_ble_eq_true rfl) rfl dJ2_fastRemove_7 ?_
  show zV X 4 A (zH G A (zS [z1 a (.inr (4, [.int (iI (mo + 1)), .ref ed, .int (iI ((m + 1 : Nat) : Int))])), z1 ed (zQ G 3 N f)])) (0) (0) 10 [some (.ref a), some (.ref ed), some (.int (iI ((m : Nat) : Int))), none] []
  refine zx_aload_n hC dJ2_fastRemove_10 rfl ?_
  refine zx_getf (v := .int (iI ((m + 1 : Nat) : Int))) (T := TJ2) (N := 3) (ci := 4) (fs := [.int (iI (mo + 1)), .ref ed, .int (iI ((m + 1 : Nat) : Int))]) hC in_J2 (zat 0 rfl) rfl 2 (by decide) q154 (fun _ h => h) rfl dJ2_fastRemove_11 ?_
  refine zx_iconst (z := 1) hC dJ2_fastRemove_14 ?_
  refine zx_isub hC dJ2_fastRemove_15 ?_
  refine zx_topi (b := ((m : Nat) : Int)) (by omega) ?_
  refine zx_dup hC dJ2_fastRemove_16 rfl ?_
  refine zx_istore_n (L' := [some (.ref a), some (.ref ed), some (.int (iI ((m : Nat) : Int))), some (.int (iI ((m : Nat) : Int)))]) hC dJ2_fastRemove_17 (by decide) rfl ?_
  refine zx_iload_n hC dJ2_fastRemove_18 rfl ?_
  refine zx_icmp_leT (tgt := 34) hC dJ2_fastRemove_19 (by decide) (by first | assumption | exact gI _ (by omega) | exact iRm (by omega) (by omega)) (by first | assumption | exact gI _ (by omega) | exact iRm (by omega) (by omega)) (by omega) ?_
  refine zx_aload_n hC dJ2_fastRemove_34 rfl ?_
  refine zx_aload_n hC dJ2_fastRemove_35 rfl ?_
  refine zx_iload_n hC dJ2_fastRemove_36 rfl ?_
  refine zx_dup_x1 hC dJ2_fastRemove_37 rfl rfl ?_
  refine zx_putf (T := TJ2) (N := 3) (ci := 4) (fs := [.int (iI (mo + 1)), .ref ed, .int (iI ((m + 1 : Nat) : Int))]) (fs' := [.int (iI (mo + 1)), .ref ed, .int (iI ((m : Nat) : Int))]) hC 0 in_J2 tyJ2 tyJ2_ok nmJ2 rfl rfl 2 (by decide) q154 (fun _ h => h) rfl (by first | rfl | exact rfl) (by first | rfl | exact rfl) (Nat.le_of_ble_eq_true rfl) rfl dJ2_fastRemove_38 ?_
  show zV X 4 A (zH G A (zS [z1 a (.inr (4, [.int (iI (mo + 1)), .ref ed, .int (iI ((m : Nat) : Int))])), z1 ed (zQ G 3 N f)])) (0) (0) 41 [some (.ref a), some (.ref ed), some (.int (iI ((m : Nat) : Int))), some (.int (iI ((m : Nat) : Int)))] [.int (iI ((m : Nat) : Int)), .ref ed]
  refine zx_null hC dJ2_fastRemove_41 ?_
  refine zx_aastN (f' := (va_up f m none)) hC 1 rfl m (by omega) (by omega) (rfl) dJ2_fastRemove_42 ?_
  show zV X 4 A (zH G A (zS [z1 a (.inr (4, [.int (iI (mo + 1)), .ref ed, .int (iI ((m : Nat) : Int))])), z1 ed (zQ G 3 N (va_up f m none))])) (0) (0) 43 [some (.ref a), some (.ref ed), some (.int (iI ((m : Nat) : Int))), some (.int (iI ((m : Nat) : Int)))] []
  exact zx_vret hC hE (by omega) (by omega) (fun H h => ⟨rfl, h⟩) dJ2_fastRemove_43
set_option maxHeartbeats 4000000 in
theorem m_J2_remove (la : Launch) (G : zG) (a : Nat) (m : Nat) (xs : Nat → Nat) (g0 : m < 1000) : zMA la yJ2_remove cJ2_remove 4 (some (.object "java/lang/Object")) 2 43 G [.ref a, .int (iI ((m : Nat) : Int))] [AL G a (m + 1) xs] (fun v9 => v9 = some (.ref (xs m))) (fun _ => [AL G a m xs]) (0) (0) := by
  refine zMA.of [some (.ref a), some (.int (iI ((m : Nat) : Int))), none, none] (by decide) (Nat.le_of_ble_eq_true rfl) rfl (fun X A hl hC hnm hA hRm hE => ?_)
  refine zx_or (P1 := AL0 G a (m + 1)) (P2 := AL1 G a (m + 1) xs) ?_ ?_
  · refine zx_exi (fun mo => zx_nest (zx_pure (fun ⟨hmo, hn⟩ => ?_)))
    show zV X 4 A (zH G A (zS [z1 a (.inr (4, [.int (iI mo), .ref (G.2.1 100), .int (iI ((m + 1 : Nat) : Int))]))])) (0) (0) 0 [some (.ref a), some (.int (iI ((m : Nat) : Int))), none, none] []
    omega
  · refine zx_exi (fun mo => zx_exi (fun ed => zx_exi (fun N => zx_exi (fun f => zx_nest (zx_pure (fun ⟨hmo, h1, h2, h3, hf⟩ => ?_))))))
    show zV X 4 A (zH G A (zS [z1 a (.inr (4, [.int (iI mo), .ref ed, .int (iI ((m + 1 : Nat) : Int))])), z1 ed (zQ G 3 N f)])) (0) (0) 0 [some (.ref a), some (.int (iI ((m : Nat) : Int))), none, none] []
    refine zx_iload_n hC dJ2_remove_0 rfl ?_
    refine zx_aload_n hC dJ2_remove_1 rfl ?_
    refine zx_getf (v := .int (iI ((m + 1 : Nat) : Int))) (T := TJ2) (N := 3) (ci := 4) (fs := [.int (iI mo), .ref ed, .int (iI ((m + 1 : Nat) : Int))]) hC in_J2 (zat 0 rfl) rfl 2 (by decide) q154 (fun _ h => h) rfl dJ2_remove_2 ?_
    refine zx_rd1 (r := .int (iI ((m : Nat) : Int))) hC hA.2 (zcS 2 (As := [.int (iI ((m : Nat) : Int)), .int (iI ((m + 1 : Nat) : Int))]) hC (lw_S q382 q383 q95 q384) (by decide +kernel) rfl (by rw [hRm]; exact ⟨Nat.le_of_ble_eq_true rfl, Nat.le_of_ble_eq_true rfl⟩) (by rw [hRm]; constructor <;> (first | decide | (simp only []; omega) | omega)) rfl (Nat.le_of_ble_eq_true rfl) dJ2_remove_5) (m_J10_checkIndex (zl X) G m (m + 1) (by first | assumption | omega | decide | exact iRm (by omega) (by omega) | ((repeat (first | exact gL | refine rLs.up ?_ (by omega) (by omega) | refine rLs.fad ?_)); done) | ((repeat (first | exact gM | refine rHM.up ?_ (by omega))); done) | exact gT _ (by omega) | exact rFadF_le gF _ | ((repeat first | rw [va_up_ne _ _ (by omega)] | rw [va_up_self] | rw [rFadH_o (by omega)] | rw [rAge_o _ _ (by omega)] | rw [rLayH_o (by omega) (by omega) (by omega) (by omega)]); omega)) (by first | assumption | omega | decide | exact iRm (by omega) (by omega) | ((repeat (first | exact gL | refine rLs.up ?_ (by omega) (by omega) | refine rLs.fad ?_)); done) | ((repeat (first | exact gM | refine rHM.up ?_ (by omega))); done) | exact gT _ (by omega) | exact rFadF_le gF _ | ((repeat first | rw [va_up_ne _ _ (by omega)] | rw [va_up_self] | rw [rFadH_o (by omega)] | rw [rAge_o _ _ (by omega)] | rw [rLayH_o (by omega) (by omega) (by omega) (by omega)]); omega))) (fun _ _ => trivial) (fun _ _ => trivial) ?_
    refine zx_pop hC dJ2_remove_8 rfl ?_
    refine zx_aload_n hC dJ2_remove_9 rfl ?_
    refine zx_getf (v := .ref ed) (T := TJ2) (N := 3) (ci := 4) (fs := [.int (iI mo), .ref ed, .int (iI ((m + 1 : Nat) : Int))]) hC in_J2 (zat 0 rfl) rfl 1 (by decide) q151 (fun _ h => h) rfl dJ2_remove_10 ?_
    refine zx_astore_n (L' := [some (.ref a), some (.int (iI ((m : Nat) : Int))), some (.ref ed), none]) hC dJ2_remove_13 (by decide) rfl ?_
    refine zx_aload_n hC dJ2_remove_14 rfl ?_
    refine zx_iload_n hC dJ2_remove_15 rfl ?_
    refine zx_aaldN hC 3 (by omega) (zat 1 rfl) m (by omega) (by omega) dJ2_remove_16 ?_
    refine zx_eq (rest' := [.ref (xs m)]) rfl (by rw [hf m (by omega)]; rfl) ?_
    refine zx_astore_n (L' := [some (.ref a), some (.int (iI ((m : Nat) : Int))), some (.ref ed), some (.ref (xs m))]) hC dJ2_remove_17 (by decide) rfl ?_
    refine zx_aload_n hC dJ2_remove_18 rfl ?_
    refine zx_aload_n hC dJ2_remove_19 rfl ?_
    refine zx_iload_n hC dJ2_remove_20 rfl ?_
    refine zx_ma0 (Q := fun _ => [z1 a (.inr (4, [.int (iI (mo + 1)), .ref ed, .int (iI ((m : Nat) : Int))])), z1 ed (zQ G 3 N (va_up f m none))]) hC hA [0, 1] [] (zcV 2 (As := [.ref ed, .int (iI ((m : Nat) : Int))]) hC (lw_V q1128 q1130 qs19 q86 q1131) (by decide +kernel) rfl (by rw [hRm]; exact ⟨Nat.le_of_ble_eq_true rfl, Nat.le_of_ble_eq_true rfl⟩) (by rw [hRm]; constructor <;> (first | decide | (simp only []; omega) | omega)) rfl (Nat.le_of_ble_eq_true rfl) dJ2_remove_21) (m_J2_fastRemove (zl X) G a mo m ed N f (by first | assumption | omega | decide | exact iRm (by omega) (by omega) | ((repeat (first | exact gL | refine rLs.up ?_ (by omega) (by omega) | refine rLs.fad ?_)); done) | ((repeat (first | exact gM | refine rHM.up ?_ (by omega))); done) | exact gT _ (by omega) | exact rFadF_le gF _ | ((repeat first | rw [va_up_ne _ _ (by omega)] | rw [va_up_self] | rw [rFadH_o (by omega)] | rw [rAge_o _ _ (by omega)] | rw [rLayH_o (by omega) (by omega) (by omega) (by omega)]); omega)) (by first | assumption | omega | decide | exact iRm (by omega) (by omega) | ((repeat (first | exact gL | refine rLs.up ?_ (by omega) (by omega) | refine rLs.fad ?_)); done) | ((repeat (first | exact gM | refine rHM.up ?_ (by omega))); done) | exact gT _ (by omega) | exact rFadF_le gF _ | ((repeat first | rw [va_up_ne _ _ (by omega)] | rw [va_up_self] | rw [rFadH_o (by omega)] | rw [rAge_o _ _ (by omega)] | rw [rLayH_o (by omega) (by omega) (by omega) (by omega)]); omega))) (fun H h => zrc_of (r := (RJ2, TJ2, 3)) hC.2.1 ((zat 0 rfl) H h) rfl) rfl rfl rfl ?_
    show zV X 4 A (zH G A (zS [z1 a (.inr (4, [.int (iI (mo + 1)), .ref ed, .int (iI ((m : Nat) : Int))])), z1 ed (zQ G 3 N (va_up f m none))])) (0) (0) 24 [some (.ref a), some (.int (iI ((m : Nat) : Int))), some (.ref ed), some (.ref (xs m))] []
    refine zx_aload_n hC dJ2_remove_24 rfl ?_
    refine zx_close (P1 := AL G a m xs) [z1 a (.inr (4, [.int (iI (mo + 1)), .ref ed, .int (iI ((m : Nat) : Int))])), z1 ed (zQ G 3 N (va_up f m none))] (AL1_mk (by omega) (by omega) (by omega) (fun i hi => by simp only [va_up]; rw [if_neg (by omega)]; exact hf i (by omega))) ?_
    show zV X 4 A (zH G A (zS [AL G a m xs])) (0) (0) 25 [some (.ref a), some (.int (iI ((m : Nat) : Int))), some (.ref ed), some (.ref (xs m))] [.ref (xs m)]
    exact zx_aret hC hE (.inl ⟨_, rfl⟩) (.inr ⟨_, rfl⟩) (by omega) (by omega) (fun H h => ⟨rfl, h⟩) dJ2_remove_25
set_option maxHeartbeats 4000000 in
theorem m_J9_init (la : Launch) (G : zG) (it : Nat) (a : Nat) (mo : Int) (e : Value) (s : Value)  : zMA la yJ9_init cJ9_init 2 none 1 20 G [.ref it, .ref a] [z1 it (.inr (8, [.int (iI 0), .int (iI 0), .int (iI 0), .null])), z1 a (.inr (4, [.int (iI mo), e, s]))] (fun v9 => v9 = none) (fun _ => [z1 it (.inr (8, [.int (iI 0), .int (iI (-1)), .int (iI mo), .ref a])), z1 a (.inr (4, [.int (iI mo), e, s]))]) (0) (0) := by
  refine zMA.of [some (.ref it), some (.ref a)] (by decide) (Nat.le_of_ble_eq_true rfl) rfl (fun X A hl hC hnm hA hRm hE => ?_)
  refine zx_aload_n hC dJ9_init_0 rfl ?_
  refine zx_aload_n hC dJ9_init_1 rfl ?_
  refine zx_putF (T := TJ9) (N := 4) (ci := 8) (fs := [.int (iI 0), .int (iI 0), .int (iI 0), .null]) (fs' := [.int (iI 0), .int (iI 0), .int (iI 0), .ref a]) hC 0 in_J9 tyJ9 tyJ9_ok nmJ9 rfl rfl 3 (by decide) q318 (fun _ h => h) rfl hnm rfl (by first | rfl | exact rfl) (by first | rfl | exact rfl) (Nat.le_of_ble_eq_true rfl) rfl dJ9_init_2 ?_
  show zV X 2 A (zH G A (zS [z1 it (.inr (8, [.int (iI 0), .int (iI 0), .int (iI 0), .ref a])), z1 a (.inr (4, [.int (iI mo), e, s]))])) (0) (0) 5 [some (.ref it), some (.ref a)] []
  refine zx_aload_n hC dJ9_init_5 rfl ?_
  refine zx_obj hC q312 (by rw [hRm]; exact ⟨Nat.le_of_ble_eq_true rfl, Nat.le_of_ble_eq_true rfl⟩) (Nat.le_of_ble_eq_true rfl) dJ9_init_6 ?_
  refine zx_aload_n hC dJ9_init_9 rfl ?_
  refine zx_iconst (z := (-1)) hC dJ9_init_10 ?_
  refine zx_putf (T := TJ9) (N := 4) (ci := 8) (fs := [.int (iI 0), .int (iI 0), .int (iI 0), .ref a]) (fs' := [.int (iI 0), .int (iI (-1)), .int (iI 0), .ref a]) hC 0 in_J9 tyJ9 tyJ9_ok nmJ9 rfl rfl 1 (by decide) q316 (fun _ h => h) rfl (by first | rfl | exact rfl) (by first | rfl | exact rfl) (Nat.le_of_ble_eq_true rfl) rfl dJ9_init_11 ?_
  show zV X 2 A (zH G A (zS [z1 it (.inr (8, [.int (iI 0), .int (iI (-1)), .int (iI 0), .ref a])), z1 a (.inr (4, [.int (iI mo), e, s]))])) (0) (0) 14 [some (.ref it), some (.ref a)] []
  refine zx_aload_n hC dJ9_init_14 rfl ?_
  refine zx_aload_n hC dJ9_init_15 rfl ?_
  refine zx_getf (v := .ref a) (T := TJ9) (N := 4) (ci := 8) (fs := [.int (iI 0), .int (iI (-1)), .int (iI 0), .ref a]) hC in_J9 (zat 0 rfl) rfl 3 (by decide) q318 (fun _ h => h) rfl dJ9_init_16 ?_
  refine zx_getf (v := .int (iI mo)) (T := TJ2) (N := 3) (ci := 4) (fs := [.int (iI mo), e, s]) hC in_J2 (zat 1 rfl) rfl 0 (by decide) q158 (fun x h => u_same (hC.1.2.2.2.2 _ q159) x h) rfl dJ9_init_19 ?_
  refine zx_putf (T := TJ9) (N := 4) (ci := 8) (fs := [.int (iI 0), .int (iI (-1)), .int (iI 0), .ref a]) (fs' := [.int (iI 0), .int (iI (-1)), .int (iI mo), .ref a]) hC 0 in_J9 tyJ9 tyJ9_ok nmJ9 rfl rfl 2 (by decide) q317 (fun _ h => h) rfl (by first | rfl | exact rfl) (by first | rfl | exact rfl) (Nat.le_of_ble_eq_true rfl) rfl dJ9_init_22 ?_
  show zV X 2 A (zH G A (zS [z1 it (.inr (8, [.int (iI 0), .int (iI (-1)), .int (iI mo), .ref a])), z1 a (.inr (4, [.int (iI mo), e, s]))])) (0) (0) 25 [some (.ref it), some (.ref a)] []
  exact zx_vret hC hE (by omega) (by omega) (fun H h => ⟨rfl, h⟩) dJ9_init_25
set_option maxHeartbeats 4000000 in
theorem m_J2_iterator (la : Launch) (G : zG) (a : Nat) (m : Nat) (xs : Nat → Nat)  : zMA la yJ2_iterator cJ2_iterator 1 (some (.object "java/util/Iterator")) 2 41 G [.ref a] [AL G a m xs] (fun v9 => ∃ b, v9 = some (.ref b)) (fun v9 => (fun b => [ALI G a m xs b 0]) (zad v9)) (1) (4) := by
  refine zMA.of [some (.ref a)] (by decide) (Nat.le_of_ble_eq_true rfl) rfl (fun X A hl hC hnm hA hRm hE => ?_)
  refine zx_or (P1 := AL0 G a m) (P2 := AL1 G a m xs) ?_ ?_
  · refine zx_exi (fun mo => zx_nest (zx_pure (fun ⟨hmo, hn⟩ => ?_)))
    show zV X 1 A (zH G A (zS [z1 a (.inr (4, [.int (iI mo), .ref (G.2.1 100), .int (iI ((m : Nat) : Int))]))])) (0) (0) 0 [some (.ref a)] []
    refine zx_new (T := TJ9) (N := 4) (ci := 8) (fs := [.int (iI 0), .int (iI 0), .int (iI 0), .null]) hC hA in_J9 tyJ9 tyJ9_ok q307 q308 q94 rfl (by decide) (by rw [hRm]; constructor <;> (first | decide | (simp only []; omega) | omega)) dJ2_iterator_0 (fun o1 => ?_)
    show zV X 1 A (zH G A (zS [z1 o1 (.inr (8, [.int (iI 0), .int (iI 0), .int (iI 0), .null])), z1 a (.inr (4, [.int (iI mo), .ref (G.2.1 100), .int (iI ((m : Nat) : Int))]))])) (1) (4) 3 [some (.ref a)] [.ref o1]
    refine zx_dup hC dJ2_iterator_3 rfl ?_
    refine zx_aload_n hC dJ2_iterator_4 rfl ?_
    refine zx_ma0 (Q := fun _ => [z1 o1 (.inr (8, [.int (iI 0), .int (iI (-1)), .int (iI mo), .ref a])), z1 a (.inr (4, [.int (iI mo), .ref (G.2.1 100), .int (iI ((m : Nat) : Int))]))]) hC hA [0, 1] [] (zcI 1 (As := [.ref a]) hC (lw_meth q311) q94 q309 q310 (by decide +kernel) rfl rfl (by rw [hRm]; exact ⟨Nat.le_of_ble_eq_true rfl, Nat.le_of_ble_eq_true rfl⟩) (by rw [hRm]; constructor <;> (first | decide | (simp only []; omega) | omega)) rfl (Nat.le_of_ble_eq_true rfl) dJ2_iterator_5) (m_J9_init (zl X) G o1 a mo (.ref (G.2.1 100)) (.int (iI ((m : Nat) : Int))) ) (fun _ _ => trivial) rfl rfl rfl ?_
    show zV X 1 A (zH G A (zS [z1 o1 (.inr (8, [.int (iI 0), .int (iI (-1)), .int (iI mo), .ref a])), z1 a (.inr (4, [.int (iI mo), .ref (G.2.1 100), .int (iI ((m : Nat) : Int))]))])) (1) (4) 8 [some (.ref a)] [.ref o1]
    refine zx_pick [1, 0] rfl rfl ?_
    show zV X 1 A (zH G A (zS [z1 a (.inr (4, [.int (iI mo), .ref (G.2.1 100), .int (iI ((m : Nat) : Int))])), z1 o1 (.inr (8, [.int (iI 0), .int (iI (-1)), .int (iI mo), .ref a]))])) (1) (4) 8 [some (.ref a)] [.ref o1]
    refine zx_close (P1 := ALI G a m xs o1 0) [z1 a (.inr (4, [.int (iI mo), .ref (G.2.1 100), .int (iI ((m : Nat) : Int))])), z1 o1 (.inr (8, [.int (iI 0), .int (iI (-1)), .int (iI mo), .ref a]))] (ALI0_mk (i := 0) _ hmo hn) ?_
    show zV X 1 A (zH G A (zS [ALI G a m xs o1 0])) (1) (4) 8 [some (.ref a)] [.ref o1]
    exact zx_aret hC hE (.inl ⟨_, rfl⟩) (.inr ⟨_, rfl⟩) (by omega) (by omega) (fun H h => ⟨⟨_, rfl⟩, h⟩) dJ2_iterator_8
  · refine zx_exi (fun mo => zx_exi (fun ed => zx_exi (fun N => zx_exi (fun f => zx_nest (zx_pure (fun ⟨hmo, h1, h2, h3, hf⟩ => ?_))))))
    show zV X 1 A (zH G A (zS [z1 a (.inr (4, [.int (iI mo), .ref ed, .int (iI ((m : Nat) : Int))])), z1 ed (zQ G 3 N f)])) (0) (0) 0 [some (.ref a)] []
    refine zx_new (T := TJ9) (N := 4) (ci := 8) (fs := [.int (iI 0), .int (iI 0), .int (iI 0), .null]) hC hA in_J9 tyJ9 tyJ9_ok q307 q308 q94 rfl (by decide) (by rw [hRm]; constructor <;> (first | decide | (simp only []; omega) | omega)) dJ2_iterator_0 (fun o2 => ?_)
    show zV X 1 A (zH G A (zS [z1 o2 (.inr (8, [.int (iI 0), .int (iI 0), .int (iI 0), .null])), z1 a (.inr (4, [.int (iI mo), .ref ed, .int (iI ((m : Nat) : Int))])), z1 ed (zQ G 3 N f)])) (1) (4) 3 [some (.ref a)] [.ref o2]
    refine zx_dup hC dJ2_iterator_3 rfl ?_
    refine zx_aload_n hC dJ2_iterator_4 rfl ?_
    refine zx_ma0 (Q := fun _ => [z1 o2 (.inr (8, [.int (iI 0), .int (iI (-1)), .int (iI mo), .ref a])), z1 a (.inr (4, [.int (iI mo), .ref ed, .int (iI ((m : Nat) : Int))]))]) hC hA [0, 1] [2] (zcI 1 (As := [.ref a]) hC (lw_meth q311) q94 q309 q310 (by decide +kernel) rfl rfl (by rw [hRm]; exact ⟨Nat.le_of_ble_eq_true rfl, Nat.le_of_ble_eq_true rfl⟩) (by rw [hRm]; constructor <;> (first | decide | (simp only []; omega) | omega)) rfl (Nat.le_of_ble_eq_true rfl) dJ2_iterator_5) (m_J9_init (zl X) G o2 a mo (.ref ed) (.int (iI ((m : Nat) : Int))) ) (fun _ _ => trivial) rfl rfl rfl ?_
    show zV X 1 A (zH G A (zS [z1 ed (zQ G 3 N f), z1 o2 (.inr (8, [.int (iI 0), .int (iI (-1)), .int (iI mo), .ref a])), z1 a (.inr (4, [.int (iI mo), .ref ed, .int (iI ((m : Nat) : Int))]))])) (1) (4) 8 [some (.ref a)] [.ref o2]
    refine zx_pick [2, 0, 1] rfl rfl ?_
    show zV X 1 A (zH G A (zS [z1 a (.inr (4, [.int (iI mo), .ref ed, .int (iI ((m : Nat) : Int))])), z1 ed (zQ G 3 N f), z1 o2 (.inr (8, [.int (iI 0), .int (iI (-1)), .int (iI mo), .ref a]))])) (1) (4) 8 [some (.ref a)] [.ref o2]
    refine zx_close (P1 := ALI G a m xs o2 0) [z1 a (.inr (4, [.int (iI mo), .ref ed, .int (iI ((m : Nat) : Int))])), z1 ed (zQ G 3 N f), z1 o2 (.inr (8, [.int (iI 0), .int (iI (-1)), .int (iI mo), .ref a]))] (ALI1_mk (i := 0) hmo h1 h2 h3 hf) ?_
    show zV X 1 A (zH G A (zS [ALI G a m xs o2 0])) (1) (4) 8 [some (.ref a)] [.ref o2]
    exact zx_aret hC hE (.inl ⟨_, rfl⟩) (.inr ⟨_, rfl⟩) (by omega) (by omega) (fun H h => ⟨⟨_, rfl⟩, h⟩) dJ2_iterator_8
set_option maxHeartbeats 4000000 in
theorem m_J9_hasNext (la : Launch) (G : zG) (a : Nat) (m : Nat) (xs : Nat → Nat) (it : Nat) (i : Nat) (g0 : m < 1000) (g1 : i < 2000) : zRd la yJ9_hasNext cJ9_hasNext 1 (some .boolean) 0 0 G [.ref it] (fun H => zhp G (ALI G a m xs it i) H) (fun v9 => v9 = some (.int (iI (zB (¬ i = m))))) := by
  refine zRd.of [some (.ref it)] (by decide) (Nat.le_of_ble_eq_true rfl) rfl (fun X hl hC hRm hP hE => ?_)
  have hp0 := hP
  obtain ⟨mo, lr, ed, ha, hb⟩ := ALI_hp hp0
  refine zx_aload_n hC dJ9_hasNext_0 rfl ?_
  refine zx_getf (v := .int (iI ((i : Nat) : Int))) (T := TJ9) (N := 4) (ci := 8) (fs := [.int (iI ((i : Nat) : Int)), .int (iI lr), .int (iI mo), .ref a]) hC in_J9 (zeq hb) rfl 0 (by decide) q315 (fun _ h => h) rfl dJ9_hasNext_1 ?_
  refine zx_aload_n hC dJ9_hasNext_4 rfl ?_
  refine zx_getf (v := .ref a) (T := TJ9) (N := 4) (ci := 8) (fs := [.int (iI ((i : Nat) : Int)), .int (iI lr), .int (iI mo), .ref a]) hC in_J9 (zeq hb) rfl 3 (by decide) q318 (fun _ h => h) rfl dJ9_hasNext_5 ?_
  refine zx_getfN (v := .int (iI ((m : Nat) : Int))) (T := TJ2) (N := 3) (ci := 4) (fs := [.int (iI mo), .ref ed, .int (iI ((m : Nat) : Int))]) hC in_J2 (zeq ha) rfl 2 (by decide) q153 (fun _ h => h) rfl dJ9_hasNext_8 ?_
  refine zx_icmp_eq (tgt := 18) hC dJ9_hasNext_11 (by decide) (by first | assumption | exact gI _ (by omega) | exact iRm (by omega) (by omega)) (by first | assumption | exact gI _ (by omega) | exact iRm (by omega) (by omega)) (fun c11 => ?_) (fun c11 => ?_)
  · refine zx_iconst (z := 0) hC dJ9_hasNext_18 ?_
    refine zx_topi (b := zB (¬ i = m)) (by first | exact (zB_t (by omega)).symm | exact (zB_f (by omega)).symm) ?_
    exact zx_nret hC hE (znar (by first | omega | exact zB_01 _)) (Nat.le_refl _) (Nat.le_refl _) (fun H h => ⟨h, rfl⟩) dJ9_hasNext_19
  · refine zx_iconst (z := 1) hC dJ9_hasNext_14 ?_
    refine zx_goto (tgt := 19) hC dJ9_hasNext_15 (by decide) ?_
    refine zx_topi (b := zB (¬ i = m)) (by first | exact (zB_t (by omega)).symm | exact (zB_f (by omega)).symm) ?_
    exact zx_nret hC hE (znar (by first | omega | exact zB_01 _)) (Nat.le_refl _) (Nat.le_refl _) (fun H h => ⟨h, rfl⟩) dJ9_hasNext_19
set_option maxHeartbeats 4000000 in
theorem m_J9_checkForComodification (la : Launch) (G : zG) (a : Nat) (mo : Int) (e : Value) (s : Value) (it : Nat) (c : Value) (lr : Value) (g0 : iR mo) : zMA la yJ9_checkForComodification cJ9_checkForComodification 1 none 0 0 G [.ref it] [z1 a (.inr (4, [.int (iI mo), e, s])), z1 it (.inr (8, [c, lr, .int (iI mo), .ref a]))] (fun v9 => v9 = none) (fun _ => [z1 a (.inr (4, [.int (iI mo), e, s])), z1 it (.inr (8, [c, lr, .int (iI mo), .ref a]))]) (0) (0) := by
  refine zMA.of [some (.ref it)] (by decide) (Nat.le_of_ble_eq_true rfl) rfl (fun X A hl hC hnm hA hRm hE => ?_)
  refine zx_aload_n hC dJ9_checkForComodification_0 rfl ?_
  refine zx_getf (v := .ref a) (T := TJ9) (N := 4) (ci := 8) (fs := [c, lr, .int (iI mo), .ref a]) hC in_J9 (zat 1 rfl) rfl 3 (by decide) q318 (fun _ h => h) rfl dJ9_checkForComodification_1 ?_
  refine zx_getf (v := .int (iI mo)) (T := TJ2) (N := 3) (ci := 4) (fs := [.int (iI mo), e, s]) hC in_J2 (zat 0 rfl) rfl 0 (by decide) q158 (fun x h => u_same (hC.1.2.2.2.2 _ q159) x h) rfl dJ9_checkForComodification_4 ?_
  refine zx_aload_n hC dJ9_checkForComodification_7 rfl ?_
  refine zx_getf (v := .int (iI mo)) (T := TJ9) (N := 4) (ci := 8) (fs := [c, lr, .int (iI mo), .ref a]) hC in_J9 (zat 1 rfl) rfl 2 (by decide) q317 (fun _ h => h) rfl dJ9_checkForComodification_8 ?_
  refine zx_icmp_eq (tgt := 22) hC dJ9_checkForComodification_11 (by decide) (by first | assumption | exact gI _ (by omega) | exact iRm (by omega) (by omega)) (by first | assumption | exact gI _ (by omega) | exact iRm (by omega) (by omega)) (fun c11 => ?_) (fun c11 => ?_)
  · exact zx_vret hC hE (by omega) (by omega) (fun H h => ⟨rfl, h⟩) dJ9_checkForComodification_22
  · exfalso; omega
set_option maxHeartbeats 4000000 in
theorem m_J9_next (la : Launch) (G : zG) (a : Nat) (m : Nat) (xs : Nat → Nat) (it : Nat) (i : Nat) (g0 : i < m) (g1 : m < 1000) : zMA la yJ9_next cJ9_next 3 (some (.object "java/lang/Object")) 1 20 G [.ref it] [ALI G a m xs it i] (fun v9 => v9 = some (.ref (xs i))) (fun _ => [ALI G a m xs it (i + 1)]) (0) (0) := by
  refine zMA.of [some (.ref it), none, none] (by decide) (Nat.le_of_ble_eq_true rfl) rfl (fun X A hl hC hnm hA hRm hE => ?_)
  refine zx_or (P1 := ALI0 G a m it i) (P2 := ALI1 G a m xs it i) ?_ ?_
  · refine zx_exi (fun mo => zx_exi (fun lr => zx_nest (zx_pure (fun ⟨hmo, hn⟩ => ?_))))
    show zV X 3 A (zH G A (zS [z1 a (.inr (4, [.int (iI mo), .ref (G.2.1 100), .int (iI ((m : Nat) : Int))])), z1 it (.inr (8, [.int (iI ((i : Nat) : Int)), .int (iI lr), .int (iI mo), .ref a]))])) (0) (0) 0 [some (.ref it), none, none] []
    omega
  · refine zx_exi (fun mo => zx_exi (fun ed => zx_exi (fun N => zx_exi (fun f => zx_exi (fun lr => zx_nest (zx_pure (fun ⟨hmo, h1, h2, h3, hf⟩ => ?_)))))))
    show zV X 3 A (zH G A (zS [z1 a (.inr (4, [.int (iI mo), .ref ed, .int (iI ((m : Nat) : Int))])), z1 ed (zQ G 3 N f), z1 it (.inr (8, [.int (iI ((i : Nat) : Int)), .int (iI lr), .int (iI mo), .ref a]))])) (0) (0) 0 [some (.ref it), none, none] []
    refine zx_aload_n hC dJ9_next_0 rfl ?_
    refine zx_ma0 (Q := fun _ => [z1 a (.inr (4, [.int (iI mo), .ref ed, .int (iI ((m : Nat) : Int))])), z1 it (.inr (8, [.int (iI ((i : Nat) : Int)), .int (iI lr), .int (iI mo), .ref a]))]) hC hA [0, 2] [1] (zcV 0 (As := []) hC (lw_V q720 q721 q722 q94 q725) (by decide +kernel) rfl (by rw [hRm]; exact ⟨Nat.le_of_ble_eq_true rfl, Nat.le_of_ble_eq_true rfl⟩) (by rw [hRm]; constructor <;> (first | decide | (simp only []; omega) | omega)) rfl (Nat.le_of_ble_eq_true rfl) dJ9_next_1) (m_J9_checkForComodification (zl X) G a mo (.ref ed) (.int (iI ((m : Nat) : Int))) it (.int (iI ((i : Nat) : Int))) (.int (iI lr)) (by first | assumption | omega | decide | exact iRm (by omega) (by omega) | ((repeat (first | exact gL | refine rLs.up ?_ (by omega) (by omega) | refine rLs.fad ?_)); done) | ((repeat (first | exact gM | refine rHM.up ?_ (by omega))); done) | exact gT _ (by omega) | exact rFadF_le gF _ | ((repeat first | rw [va_up_ne _ _ (by omega)] | rw [va_up_self] | rw [rFadH_o (by omega)] | rw [rAge_o _ _ (by omega)] | rw [rLayH_o (by omega) (by omega) (by omega) (by omega)]); omega))) (fun H h => zrc_of (r := (RJ9, TJ9, 4)) hC.2.1 ((zat 2 rfl) H h) rfl) rfl rfl rfl ?_
    show zV X 3 A (zH G A (zS [z1 ed (zQ G 3 N f), z1 a (.inr (4, [.int (iI mo), .ref ed, .int (iI ((m : Nat) : Int))])), z1 it (.inr (8, [.int (iI ((i : Nat) : Int)), .int (iI lr), .int (iI mo), .ref a]))])) (0) (0) 4 [some (.ref it), none, none] []
    refine zx_aload_n hC dJ9_next_4 rfl ?_
    refine zx_getf (v := .int (iI ((i : Nat) : Int))) (T := TJ9) (N := 4) (ci := 8) (fs := [.int (iI ((i : Nat) : Int)), .int (iI lr), .int (iI mo), .ref a]) hC in_J9 (zat 2 rfl) rfl 0 (by decide) q315 (fun _ h => h) rfl dJ9_next_5 ?_
    refine zx_istore_n (L' := [some (.ref it), some (.int (iI ((i : Nat) : Int))), none]) hC dJ9_next_8 (by decide) rfl ?_
    refine zx_iload_n hC dJ9_next_9 rfl ?_
    refine zx_aload_n hC dJ9_next_10 rfl ?_
    refine zx_getf (v := .ref a) (T := TJ9) (N := 4) (ci := 8) (fs := [.int (iI ((i : Nat) : Int)), .int (iI lr), .int (iI mo), .ref a]) hC in_J9 (zat 2 rfl) rfl 3 (by decide) q318 (fun _ h => h) rfl dJ9_next_11 ?_
    refine zx_getfN (v := .int (iI ((m : Nat) : Int))) (T := TJ2) (N := 3) (ci := 4) (fs := [.int (iI mo), .ref ed, .int (iI ((m : Nat) : Int))]) hC in_J2 (zat 1 rfl) rfl 2 (by decide) q153 (fun _ h => h) rfl dJ9_next_14 ?_
    refine zx_icmp_ltT (tgt := 28) hC dJ9_next_17 (by decide) (by first | assumption | exact gI _ (by omega) | exact iRm (by omega) (by omega)) (by first | assumption | exact gI _ (by omega) | exact iRm (by omega) (by omega)) (by omega) ?_
    refine zx_aload_n hC dJ9_next_28 rfl ?_
    refine zx_getf (v := .ref a) (T := TJ9) (N := 4) (ci := 8) (fs := [.int (iI ((i : Nat) : Int)), .int (iI lr), .int (iI mo), .ref a]) hC in_J9 (zat 2 rfl) rfl 3 (by decide) q318 (fun _ h => h) rfl dJ9_next_29 ?_
    refine zx_getf (v := .ref ed) (T := TJ2) (N := 3) (ci := 4) (fs := [.int (iI mo), .ref ed, .int (iI ((m : Nat) : Int))]) hC in_J2 (zat 1 rfl) rfl 1 (by decide) q152 (fun _ h => h) rfl dJ9_next_32 ?_
    refine zx_astore_n (L' := [some (.ref it), some (.int (iI ((i : Nat) : Int))), some (.ref ed)]) hC dJ9_next_35 (by decide) rfl ?_
    refine zx_iload_n hC dJ9_next_36 rfl ?_
    refine zx_aload_n hC dJ9_next_37 rfl ?_
    refine zx_alen hC 3 (zat 0 rfl) rfl dJ9_next_38 ?_
    refine zx_icmp_ltT (tgt := 50) hC dJ9_next_39 (by decide) (by first | assumption | exact gI _ (by omega) | exact iRm (by omega) (by omega)) (by first | assumption | exact gI _ (by omega) | exact iRm (by omega) (by omega)) (by omega) ?_
    refine zx_aload_n hC dJ9_next_50 rfl ?_
    refine zx_iload_n hC dJ9_next_51 rfl ?_
    refine zx_iconst (z := 1) hC dJ9_next_52 ?_
    refine zx_iadd hC dJ9_next_53 ?_
    refine zx_putf (T := TJ9) (N := 4) (ci := 8) (fs := [.int (iI ((i : Nat) : Int)), .int (iI lr), .int (iI mo), .ref a]) (fs' := [.int (iI ((i + 1 : Nat) : Int)), .int (iI lr), .int (iI mo), .ref a]) hC 2 in_J9 tyJ9 tyJ9_ok nmJ9 rfl rfl 0 (by decide) q315 (fun _ h => h) rfl (by first | rfl | exact rfl) (by first | rfl | exact rfl) (Nat.le_of_ble_eq_true rfl) rfl dJ9_next_54 ?_
    show zV X 3 A (zH G A (zS [z1 ed (zQ G 3 N f), z1 a (.inr (4, [.int (iI mo), .ref ed, .int (iI ((m : Nat) : Int))])), z1 it (.inr (8, [.int (iI ((i + 1 : Nat) : Int)), .int (iI lr), .int (iI mo), .ref a]))])) (0) (0) 57 [some (.ref it), some (.int (iI ((i : Nat) : Int))), some (.ref ed)] []
    refine zx_aload_n hC dJ9_next_57 rfl ?_
    refine zx_aload_n hC dJ9_next_58 rfl ?_
    refine zx_iload_n hC dJ9_next_59 rfl ?_
    refine zx_dup_x1 hC dJ9_next_60 rfl rfl ?_
    refine zx_putf (T := TJ9) (N := 4) (ci := 8) (fs := [.int (iI ((i + 1 : Nat) : Int)), .int (iI lr), .int (iI mo), .ref a]) (fs' := [.int (iI ((i + 1 : Nat) : Int)), .int (iI ((i : Nat) : Int)), .int (iI mo), .ref a]) hC 2 in_J9 tyJ9 tyJ9_ok nmJ9 rfl rfl 1 (by decide) q316 (fun _ h => h) rfl (by first | rfl | exact rfl) (by first | rfl | exact rfl) (Nat.le_of_ble_eq_true rfl) rfl dJ9_next_61 ?_
    show zV X 3 A (zH G A (zS [z1 ed (zQ G 3 N f), z1 a (.inr (4, [.int (iI mo), .ref ed, .int (iI ((m : Nat) : Int))])), z1 it (.inr (8, [.int (iI ((i + 1 : Nat) : Int)), .int (iI ((i : Nat) : Int)), .int (iI mo), .ref a]))])) (0) (0) 64 [some (.ref it), some (.int (iI ((i : Nat) : Int))), some (.ref ed)] [.int (iI ((i : Nat) : Int)), .ref ed]
    refine zx_aaldN hC 3 (by omega) (zat 0 rfl) i (by omega) (by omega) dJ9_next_64 ?_
    refine zx_eq (rest' := [.ref (xs i)]) rfl (by rw [hf i (by omega)]; rfl) ?_
    refine zx_pick [1, 0, 2] rfl rfl ?_
    show zV X 3 A (zH G A (zS [z1 a (.inr (4, [.int (iI mo), .ref ed, .int (iI ((m : Nat) : Int))])), z1 ed (zQ G 3 N f), z1 it (.inr (8, [.int (iI ((i + 1 : Nat) : Int)), .int (iI ((i : Nat) : Int)), .int (iI mo), .ref a]))])) (0) (0) 65 [some (.ref it), some (.int (iI ((i : Nat) : Int))), some (.ref ed)] [.ref (xs i)]
    refine zx_close (P1 := ALI G a m xs it (i + 1)) [z1 a (.inr (4, [.int (iI mo), .ref ed, .int (iI ((m : Nat) : Int))])), z1 ed (zQ G 3 N f), z1 it (.inr (8, [.int (iI ((i + 1 : Nat) : Int)), .int (iI ((i : Nat) : Int)), .int (iI mo), .ref a]))] (ALI1_mk hmo h1 h2 h3 hf) ?_
    show zV X 3 A (zH G A (zS [ALI G a m xs it (i + 1)])) (0) (0) 65 [some (.ref it), some (.int (iI ((i : Nat) : Int))), some (.ref ed)] [.ref (xs i)]
    exact zx_aret hC hE (.inl ⟨_, rfl⟩) (.inr ⟨_, rfl⟩) (by omega) (by omega) (fun H h => ⟨rfl, h⟩) dJ9_next_65
