/-! the reference, walked: part 21 (printed by gen/gen.py) -/
set_option maxRecDepth 100000
set_option maxHeartbeats 4000000 in
theorem m_X2_force (la : Launch) (G : zG) (ad : Nat → Nat) (h : Nat → Nat) (F : Nat → Nat → Nat → Nat) (r : zR5) (layer : Nat) (cell : Nat) (key : Nat) (g0 : layer < 7) (g1 : cell < 48) (g2 : key < 36) : zRd la yX2_force cX2_force 4 (some .int) 0 0 G [.ref (ad 0), .int (iI ((layer : Nat) : Int)), .int (iI ((cell : Nat) : Int)), .int (iI ((key : Nat) : Int))] (zRf G ad ((h, F), r)) (fun v9 => v9 = some (.int (iI ((F layer cell key : Nat) : Int)))) := by
  refine zRd.of [some (.ref (ad 0)), some (.int (iI ((layer : Nat) : Int))), some (.int (iI ((cell : Nat) : Int))), some (.int (iI ((key : Nat) : Int)))] (by decide) (Nat.le_of_ble_eq_true rfl) rfl (fun X hl hC hRm hP hE => ?_)
  obtain ⟨a, b, d, hs, hb, hdd, h0, h1, h2, h3, h4, h5⟩ := hP.raw
  refine zx_aload_n hC dX2_force_0 rfl ?_
  refine zx_getf (v := .ref (ad 1)) (T := TX2) (N := 9) (ci := 2) (fs := zMf ad r.2.2.1) hC in_X2 (zeq h0) rfl 0 (by decide) q1610 (fun _ h => h) rfl dX2_force_1 ?_
  refine zx_bipush (z := 32) hC dX2_force_4 rfl ?_
  refine zx_sipush (z := 192) hC dX2_force_6 rfl ?_
  refine zx_iload_n hC dX2_force_9 rfl ?_
  refine zx_imul hC dX2_force_10 ?_
  refine zx_iadd hC dX2_force_11 ?_
  refine zx_iconst (z := 4) hC dX2_force_12 ?_
  refine zx_iload_n hC dX2_force_13 rfl ?_
  refine zx_imul hC dX2_force_14 ?_
  refine zx_iadd hC dX2_force_15 ?_
  refine zx_iload_n hC dX2_force_16 rfl ?_
  refine zx_bipush (z := 9) hC dX2_force_17 rfl ?_
  refine zx_idiv hC dX2_force_19 (by first | assumption | exact gI _ (by omega) | exact iRm (by omega) (by omega)) (by first | assumption | exact gI _ (by omega) | exact iRm (by omega) (by omega)) (by omega) (by omega) ?_
  refine zx_iadd hC dX2_force_20 ?_
  refine zx_laldN (f := a) (N := 1376) hC (zeq h1) (((32 + (192 * layer)) + (4 * cell)) + (key / 9)) (by omega) (by decide) dX2_force_21 ?_
  refine zx_bipush (z := 7) hC dX2_force_22 rfl ?_
  refine zx_iload_n hC dX2_force_24 rfl ?_
  refine zx_bipush (z := 9) hC dX2_force_25 rfl ?_
  refine zx_irem hC dX2_force_27 (by first | assumption | exact gI _ (by omega) | exact iRm (by omega) (by omega)) (by first | assumption | exact gI _ (by omega) | exact iRm (by omega) (by omega)) (by omega) (by omega) ?_
  refine zx_imul hC dX2_force_28 ?_
  refine zx_lshr hC dX2_force_29 rfl ?_
  refine zx_ldc2 (z := 127) hC dX2_force_30 q1683 rfl ?_
  refine zx_land hC dX2_force_33 ?_
  refine zx_l2ir (v := iI ((F layer cell key : Nat) : Int)) hC dX2_force_34 ((zforce_eq (a (32 + 192 * layer + 4 * cell + key / 9)) key).trans (congrArg (fun z : Nat => iI (z : Int)) (by have e := hs.2 layer cell key (by omega) (by omega) (by omega); rw [Nat.zero_add] at e; exact e))) ?_
  exact zx_iret hC hE (Nat.le_refl _) (Nat.le_refl _) (fun H h => ⟨h, rfl⟩) dX2_force_35
set_option maxHeartbeats 4000000 in
theorem m_X2_sets (la : Launch) (G : zG) (ad : Nat → Nat) (h : Nat → Nat) (F : Nat → Nat → Nat → Nat) (r : zR5) (layer : Nat) (cell : Nat) (key : Nat) (v : Nat) (g0 : layer < 7) (g1 : cell < 48) (g2 : key < 36) (g3 : v < 128) : zMA la yX2_sets cX2_sets 7 none 0 0 G [.ref (ad 0), .int (iI ((layer : Nat) : Int)), .int (iI ((cell : Nat) : Int)), .int (iI ((key : Nat) : Int)), .int (iI ((v : Nat) : Int))] [REF G ad ((h, F), r)] (fun v9 => v9 = none) (fun _ => [REF G ad ((h, (zupF F layer cell key v)), r)]) 0 0 := by
  refine zMA.of [some (.ref (ad 0)), some (.int (iI ((layer : Nat) : Int))), some (.int (iI ((cell : Nat) : Int))), some (.int (iI ((key : Nat) : Int))), some (.int (iI ((v : Nat) : Int))), none, none] (by decide) (Nat.le_of_ble_eq_true rfl) rfl (fun X A hl hC hnm hA hRm hE => ?_)
  refine zr_raw (fun a b d hs hb hdd => ?_)
  refine zx_bipush (z := 32) hC dX2_sets_0 rfl ?_
  refine zx_sipush (z := 192) hC dX2_sets_2 rfl ?_
  refine zx_iload_n hC dX2_sets_5 rfl ?_
  refine zx_imul hC dX2_sets_6 ?_
  refine zx_iadd hC dX2_sets_7 ?_
  refine zx_iconst (z := 4) hC dX2_sets_8 ?_
  refine zx_iload_n hC dX2_sets_9 rfl ?_
  refine zx_imul hC dX2_sets_10 ?_
  refine zx_iadd hC dX2_sets_11 ?_
  refine zx_iload_n hC dX2_sets_12 rfl ?_
  refine zx_bipush (z := 9) hC dX2_sets_13 rfl ?_
  refine zx_idiv hC dX2_sets_15 (by first | assumption | exact gI _ (by omega) | exact iRm (by omega) (by omega)) (by first | assumption | exact gI _ (by omega) | exact iRm (by omega) (by omega)) (by omega) (by omega) ?_
  refine zx_iadd hC dX2_sets_16 ?_
  refine zx_istore (L' := [some (.ref (ad 0)), some (.int (iI ((layer : Nat) : Int))), some (.int (iI ((cell : Nat) : Int))), some (.int (iI ((key : Nat) : Int))), some (.int (iI ((v : Nat) : Int))), some (.int (iI ((((32 + (192 * layer)) + (4 * cell)) + (key / 9) : Nat) : Int))), none]) hC dX2_sets_17 (by decide) rfl ?_
  refine zx_bipush (z := 7) hC dX2_sets_19 rfl ?_
  refine zx_iload_n hC dX2_sets_21 rfl ?_
  refine zx_bipush (z := 9) hC dX2_sets_22 rfl ?_
  refine zx_irem hC dX2_sets_24 (by first | assumption | exact gI _ (by omega) | exact iRm (by omega) (by omega)) (by first | assumption | exact gI _ (by omega) | exact iRm (by omega) (by omega)) (by omega) (by omega) ?_
  refine zx_imul hC dX2_sets_25 ?_
  refine zx_istore (L' := [some (.ref (ad 0)), some (.int (iI ((layer : Nat) : Int))), some (.int (iI ((cell : Nat) : Int))), some (.int (iI ((key : Nat) : Int))), some (.int (iI ((v : Nat) : Int))), some (.int (iI ((((32 + (192 * layer)) + (4 * cell)) + (key / 9) : Nat) : Int))), some (.int (iI ((7 * (key % 9) : Nat) : Int)))]) hC dX2_sets_26 (by decide) rfl ?_
  refine zx_aload_n hC dX2_sets_28 rfl ?_
  refine zx_getf (v := .ref (ad 1)) (T := TX2) (N := 9) (ci := 2) (fs := zMf ad r.2.2.1) hC in_X2 (zat 0 rfl) rfl 0 (by decide) q1610 (fun _ h => h) rfl dX2_sets_29 ?_
  refine zx_iload hC dX2_sets_32 rfl ?_
  refine zx_aload_n hC dX2_sets_34 rfl ?_
  refine zx_getf (v := .ref (ad 1)) (T := TX2) (N := 9) (ci := 2) (fs := zMf ad r.2.2.1) hC in_X2 (zat 0 rfl) rfl 0 (by decide) q1610 (fun _ h => h) rfl dX2_sets_35 ?_
  refine zx_iload hC dX2_sets_38 rfl ?_
  refine zx_laldN (f := a) (N := 1376) hC (zat 1 rfl) (((32 + (192 * layer)) + (4 * cell)) + (key / 9)) (by omega) (by decide) dX2_sets_40 ?_
  refine zx_ldc2 (z := 127) hC dX2_sets_41 q1683 rfl ?_
  refine zx_iload hC dX2_sets_44 rfl ?_
  refine zx_lshl hC dX2_sets_46 rfl ?_
  refine zx_ldc2 (z := (-1)) hC dX2_sets_47 q1691 rfl ?_
  refine zx_lxor hC dX2_sets_50 ?_
  refine zx_land hC dX2_sets_51 ?_
  refine zx_iload hC dX2_sets_52 rfl ?_
  refine zx_i2l hC dX2_sets_54 (by first | assumption | exact gI _ (by omega) | exact iRm (by omega) (by omega)) ?_
  refine zx_iload hC dX2_sets_55 rfl ?_
  refine zx_lshl hC dX2_sets_57 rfl ?_
  refine zx_lor hC dX2_sets_58 ?_
  refine zx_lastN (N := 1376) (f' := (vp_updL a (32 + 192 * layer + 4 * cell + key / 9) (zsw (a (32 + 192 * layer + 4 * cell + key / 9)) key (v : Int)))) hC 1 rfl (((32 + (192 * layer)) + (4 * cell)) + (key / 9)) (by omega) (by decide) (rfl) dX2_sets_59 ?_
  show zV X 7 A (zH G A (zS (zRw G ad (vp_updL a (32 + 192 * layer + 4 * cell + key / 9) (zsw (a (32 + 192 * layer + 4 * cell + key / 9)) key (v : Int))) b d r.2.2.1 r.2.2.2.1 r.2.2.2.2))) 0 0 60 [some (.ref (ad 0)), some (.int (iI ((layer : Nat) : Int))), some (.int (iI ((cell : Nat) : Int))), some (.int (iI ((key : Nat) : Int))), some (.int (iI ((v : Nat) : Int))), some (.int (iI ((((32 + (192 * layer)) + (4 * cell)) + (key / 9) : Nat) : Int))), some (.int (iI ((7 * (key % 9) : Nat) : Int)))] []
  refine zx_pre (P' := zH G A (zS [REF G ad ((h, zupF F layer cell key v), r)])) (zr_fold (a := (vp_updL a (32 + 192 * layer + 4 * cell + key / 9) (zsw (a (32 + 192 * layer + 4 * cell + key / 9)) key (v : Int)))) (b := b) (d := d) ((h, zupF F layer cell key v), r) (hs.setF (by omega) (by omega) (by omega)) (hb) (hdd)) ?_
  exact zx_vret hC hE (Nat.le_refl _) (Nat.le_refl _) (fun H h => ⟨rfl, h⟩) dX2_sets_60
set_option maxHeartbeats 4000000 in
theorem m_X2_clears (la : Launch) (G : zG) (ad : Nat → Nat) (h : Nat → Nat) (F : Nat → Nat → Nat → Nat) (r : zR5) (layer : Nat) (g0 : layer < 7) : zMA la yX2_clears cX2_clears 3 none 0 0 G [.ref (ad 0), .int (iI ((layer : Nat) : Int))] [REF G ad ((h, F), r)] (fun v9 => v9 = none) (fun _ => [REF G ad ((h, (zclF F layer)), r)]) 0 0 := by
  refine zMA.of [some (.ref (ad 0)), some (.int (iI ((layer : Nat) : Int))), none] (by decide) (Nat.le_of_ble_eq_true rfl) rfl (fun X A hl hC hnm hA hRm hE => ?_)
  refine zr_raw (fun a b d hs hb hdd => ?_)
  rw [← zclr_0 a (32 + 192 * layer)]
  refine zx_iconst (z := 0) hC dX2_clears_0 ?_
  refine zx_istore_n (L' := [some (.ref (ad 0)), some (.int (iI ((layer : Nat) : Int))), some (.int (iI 0))]) hC dX2_clears_1 (by decide) rfl ?_
  have loop : ∀ n i : Nat, i + n = 192 → zV X 3 A (zH G A (zS (zRw G ad (zclr a (32 + 192 * layer) i) b d r.2.2.1 r.2.2.2.1 r.2.2.2.2))) 0 0 2 [some (.ref (ad 0)), some (.int (iI ((layer : Nat) : Int))), some (.int (iI ((i : Nat) : Int)))] [] := by
    intro n
    induction n with
    | zero =>
      intro i hi 
      have hiN : i = 192 := by omega
      rw [hiN]
      refine zx_iload_n hC dX2_clears_2 rfl ?_
      refine zx_sipush (z := 192) hC dX2_clears_3 rfl ?_
      refine zx_icmp_geT (tgt := 31) hC dX2_clears_6 (by decide) (by first | assumption | exact gI _ (by omega) | exact iRm (by omega) (by omega)) (by first | assumption | exact gI _ (by omega) | exact iRm (by omega) (by omega)) (by omega) ?_
      refine zx_pre (P' := zH G A (zS [REF G ad ((h, zclF F layer), r)])) (zr_fold (a := (zclr a (32 + 192 * layer) 192)) (b := b) (d := d) ((h, zclF F layer), r) (hs.clr) (hb) (hdd)) ?_
      exact zx_vret hC hE (Nat.le_refl _) (Nat.le_refl _) (fun H h => ⟨rfl, h⟩) dX2_clears_31
    | succ n ih =>
      intro i hi 
      refine zx_iload_n hC dX2_clears_2 rfl ?_
      refine zx_sipush (z := 192) hC dX2_clears_3 rfl ?_
      refine zx_icmp_geF (tgt := 31) hC dX2_clears_6 (by decide) (by first | assumption | exact gI _ (by omega) | exact iRm (by omega) (by omega)) (by first | assumption | exact gI _ (by omega) | exact iRm (by omega) (by omega)) (by omega) ?_
      refine zx_aload_n hC dX2_clears_9 rfl ?_
      refine zx_getf (v := .ref (ad 1)) (T := TX2) (N := 9) (ci := 2) (fs := zMf ad r.2.2.1) hC in_X2 (zat 0 rfl) rfl 0 (by decide) q1610 (fun _ h => h) rfl dX2_clears_10 ?_
      refine zx_bipush (z := 32) hC dX2_clears_13 rfl ?_
      refine zx_sipush (z := 192) hC dX2_clears_15 rfl ?_
      refine zx_iload_n hC dX2_clears_18 rfl ?_
      refine zx_imul hC dX2_clears_19 ?_
      refine zx_iadd hC dX2_clears_20 ?_
      refine zx_iload_n hC dX2_clears_21 rfl ?_
      refine zx_iadd hC dX2_clears_22 ?_
      refine zx_lconst0 hC dX2_clears_23 ?_
      refine zx_lastN (N := 1376) (f' := (zclr a (32 + 192 * layer) (i + 1))) hC 1 rfl ((32 + (192 * layer)) + i) (by omega) (by decide) (zclr_s a (32 + 192 * layer) i) dX2_clears_24 ?_
      show zV X 3 A (zH G A (zS (zRw G ad (zclr a (32 + 192 * layer) (i + 1)) b d r.2.2.1 r.2.2.2.1 r.2.2.2.2))) 0 0 25 [some (.ref (ad 0)), some (.int (iI ((layer : Nat) : Int))), some (.int (iI ((i : Nat) : Int)))] []
      refine zx_iinc (b := ((i + 1 : Nat) : Int)) (L' := [some (.ref (ad 0)), some (.int (iI ((layer : Nat) : Int))), some (.int (iI ((i + 1 : Nat) : Int)))]) hC dX2_clears_25 rfl (by first | rfl | omega) (by decide) rfl ?_
      refine zx_goto (tgt := 2) hC dX2_clears_28 (by decide) ?_
      exact ih (i + 1) (by omega) 
  exact loop (192) 0 (by omega) 
set_option maxHeartbeats 4000000 in
theorem m_X2_remembers (la : Launch) (G : zG) (ad : Nat → Nat) (h : Nat → Nat) (F : Nat → Nat → Nat → Nat) (ps : Nat → zRS) (sn : zRS) (iv pd : Nat → Nat) (sp : Nat → Int) (k : Nat) (g0 : iv 0 = k) (g1 : k ≤ 4) : zMA la yX2_remembers cX2_remembers 2 none 0 0 G [.ref (ad 0)] [REF G ad ((h, F), ps, sn, iv, pd, sp)] (fun v9 => v9 = none) (fun _ => [REF G ad ((h, F), (rRem ps (h, F) k), sn, (va_up iv 0 (if k = 4 then 4 else k + 1)), pd, sp)]) 0 0 := by
  refine zMA.of [some (.ref (ad 0)), none] (by decide) (Nat.le_of_ble_eq_true rfl) rfl (fun X A hl hC hnm hA hRm hE => ?_)
  refine zr_raw (fun a b d hs hb hdd => ?_)
  rcases (show k = 4 ∨ k < 4 by omega) with hk | hk
  · have hk0 : iv 0 = 4 := by omega
    refine zx_aload_n hC dX2_remembers_0 rfl ?_
    refine zx_getf (v := .int (iI ((iv 0 : Nat) : Int))) (T := TX2) (N := 9) (ci := 2) (fs := zMf ad iv) hC in_X2 (zat 0 rfl) rfl 2 (by decide) q1612 (fun _ h => h) rfl dX2_remembers_1 ?_
    refine zx_iconst (z := 4) hC dX2_remembers_4 ?_
    refine zx_icmp_neF (tgt := 49) hC dX2_remembers_5 (by decide) (by first | assumption | exact gI _ (by omega) | exact iRm (by omega) (by omega)) (by first | assumption | exact gI _ (by omega) | exact iRm (by omega) (by omega)) (by omega) ?_
    rw [← zcp_0 b b 1376 0]
    refine zx_iconst (z := 0) hC dX2_remembers_8 ?_
    refine zx_istore_n (L' := [some (.ref (ad 0)), some (.int (iI 0))]) hC dX2_remembers_9 (by decide) rfl ?_
    have loopA : ∀ n i : Nat, i + n = 4128 → zV X 2 A (zH G A (zS (zRw G ad a (zcp b b 1376 0 i) d iv pd sp))) 0 0 10 [some (.ref (ad 0)), some (.int (iI ((i : Nat) : Int)))] [] := by
      intro n
      induction n with
      | zero =>
        intro i hi 
        have hiN : i = 4128 := by omega
        rw [hiN]
        refine zx_iload_n hC dX2_remembers_10 rfl ?_
        refine zx_sipush (z := 4128) hC dX2_remembers_11 rfl ?_
        refine zx_icmp_geT (tgt := 39) hC dX2_remembers_14 (by decide) (by first | assumption | exact gI _ (by omega) | exact iRm (by omega) (by omega)) (by first | assumption | exact gI _ (by omega) | exact iRm (by omega) (by omega)) (by omega) ?_
        refine zx_aload_n hC dX2_remembers_39 rfl ?_
        refine zx_dup hC dX2_remembers_40 rfl ?_
        refine zx_getf (v := .int (iI ((iv 0 : Nat) : Int))) (T := TX2) (N := 9) (ci := 2) (fs := zMf ad iv) hC in_X2 (zat 0 rfl) rfl 2 (by decide) q1612 (fun _ h => h) rfl dX2_remembers_41 ?_
        refine zx_iconst (z := 1) hC dX2_remembers_44 ?_
        refine zx_isub hC dX2_remembers_45 ?_
        refine zx_topi (b := (((iv 0) - 1 : Nat) : Int)) (by omega) ?_
        refine zx_putf (T := TX2) (N := 9) (ci := 2) (fs := zMf ad iv) (fs' := zMf ad (va_up iv 0 ((iv 0) - 1))) hC 0 in_X2 tyX2 tyX2_ok nmX2 rfl rfl 2 (by decide) q1612 (fun _ h => h) rfl (by first | rfl | exact znar (by omega)) (by first | rfl | exact zfit (by omega)) (by simp [zMf]) rfl dX2_remembers_46 ?_
        show zV X 2 A (zH G A (zS (zRw G ad a (zcp b b 1376 0 4128) d (va_up iv 0 ((iv 0) - 1)) pd sp))) 0 0 49 [some (.ref (ad 0)), some (.int (iI 4128))] []
        rw [← zcp_0 a (zcp b b 1376 0 4128) 0 (1376 * 3)]
        refine zx_iconst (z := 0) hC dX2_remembers_49 ?_
        refine zx_istore_n (L' := [some (.ref (ad 0)), some (.int (iI 0))]) hC dX2_remembers_50 (by decide) rfl ?_
        have loopB : ∀ n i : Nat, i + n = 1376 → zV X 2 A (zH G A (zS (zRw G ad a (zcp a (zcp b b 1376 0 4128) 0 (1376 * 3) i) d (va_up iv 0 ((iv 0) - 1)) pd sp))) 0 0 51 [some (.ref (ad 0)), some (.int (iI ((i : Nat) : Int)))] [] := by
          intro n
          induction n with
          | zero =>
            intro i hi 
            have hiN : i = 1376 := by omega
            rw [hiN]
            refine zx_iload_n hC dX2_remembers_51 rfl ?_
            refine zx_sipush (z := 1376) hC dX2_remembers_52 rfl ?_
            refine zx_icmp_geT (tgt := 85) hC dX2_remembers_55 (by decide) (by first | assumption | exact gI _ (by omega) | exact iRm (by omega) (by omega)) (by first | assumption | exact gI _ (by omega) | exact iRm (by omega) (by omega)) (by omega) ?_
            refine zx_aload_n hC dX2_remembers_85 rfl ?_
            refine zx_dup hC dX2_remembers_86 rfl ?_
            refine zx_getf (v := .int (iI (((va_up iv 0 ((iv 0) - 1)) 0 : Nat) : Int))) (T := TX2) (N := 9) (ci := 2) (fs := zMf ad (va_up iv 0 ((iv 0) - 1))) hC in_X2 (zat 0 rfl) rfl 2 (by decide) q1612 (fun _ h => h) rfl dX2_remembers_87 ?_
            refine zx_iconst (z := 1) hC dX2_remembers_90 ?_
            refine zx_iadd hC dX2_remembers_91 ?_
            refine zx_putf (T := TX2) (N := 9) (ci := 2) (fs := zMf ad (va_up iv 0 ((iv 0) - 1))) (fs' := zMf ad (va_up (va_up iv 0 ((iv 0) - 1)) 0 (((va_up iv 0 ((iv 0) - 1)) 0) + 1))) hC 0 in_X2 tyX2 tyX2_ok nmX2 rfl rfl 2 (by decide) q1612 (fun _ h => h) rfl (by first | rfl | exact znar (by omega)) (by first | rfl | exact zfit (by omega)) (by simp [zMf]) rfl dX2_remembers_92 ?_
            show zV X 2 A (zH G A (zS (zRw G ad a (zcp a (zcp b b 1376 0 4128) 0 (1376 * 3) 1376) d (va_up (va_up iv 0 ((iv 0) - 1)) 0 (((va_up iv 0 ((iv 0) - 1)) 0) + 1)) pd sp))) 0 0 95 [some (.ref (ad 0)), some (.int (iI 1376))] []
            refine zx_pre (P' := zH G A (zS [REF G ad ((h, F), rRem ps (h, F) k, sn, va_up iv 0 (if k = 4 then 4 else k + 1), pd, sp)])) (fun H hH => ?_) ?_
            · rw [show (va_up (va_up iv 0 ((iv 0) - 1)) 0 (((va_up iv 0 ((iv 0) - 1)) 0) + 1)) = va_up iv 0 (if k = 4 then 4 else k + 1) from by funext j; simp only [va_up]; by_cases hj : j = 0 <;> simp only [hj, if_true, if_false] <;> (try split) <;> omega] at hH
              exact zr_fold (a := a) (b := (zcp a (zcp b b 1376 0 4128) 0 (1376 * 3) 1376)) (d := d) ((h, F), rRem ps (h, F) k, sn, va_up iv 0 (if k = 4 then 4 else k + 1), pd, sp) hs (zRem_4 hk hs hb) hdd H hH
            exact zx_vret hC hE (Nat.le_refl _) (Nat.le_refl _) (fun H h => ⟨rfl, h⟩) dX2_remembers_95
          | succ n ih =>
            intro i hi 
            refine zx_iload_n hC dX2_remembers_51 rfl ?_
            refine zx_sipush (z := 1376) hC dX2_remembers_52 rfl ?_
            refine zx_icmp_geF (tgt := 85) hC dX2_remembers_55 (by decide) (by first | assumption | exact gI _ (by omega) | exact iRm (by omega) (by omega)) (by first | assumption | exact gI _ (by omega) | exact iRm (by omega) (by omega)) (by omega) ?_
            refine zx_aload_n hC dX2_remembers_58 rfl ?_
            refine zx_getf (v := .ref (ad 2)) (T := TX2) (N := 9) (ci := 2) (fs := zMf ad (va_up iv 0 ((iv 0) - 1))) hC in_X2 (zat 0 rfl) rfl 1 (by decide) q1611 (fun _ h => h) rfl dX2_remembers_59 ?_
            refine zx_sipush (z := 1376) hC dX2_remembers_62 rfl ?_
            refine zx_aload_n hC dX2_remembers_65 rfl ?_
            refine zx_getf (v := .int (iI (((va_up iv 0 ((iv 0) - 1)) 0 : Nat) : Int))) (T := TX2) (N := 9) (ci := 2) (fs := zMf ad (va_up iv 0 ((iv 0) - 1))) hC in_X2 (zat 0 rfl) rfl 2 (by decide) q1612 (fun _ h => h) rfl dX2_remembers_66 ?_
            refine zx_topi (b := ((3 : Nat) : Int)) (by first | omega | (simp [va_up]; omega)) ?_
            refine zx_imul hC dX2_remembers_69 ?_
            refine zx_iload_n hC dX2_remembers_70 rfl ?_
            refine zx_iadd hC dX2_remembers_71 ?_
            refine zx_aload_n hC dX2_remembers_72 rfl ?_
            refine zx_getf (v := .ref (ad 1)) (T := TX2) (N := 9) (ci := 2) (fs := zMf ad (va_up iv 0 ((iv 0) - 1))) hC in_X2 (zat 0 rfl) rfl 0 (by decide) q1610 (fun _ h => h) rfl dX2_remembers_73 ?_
            refine zx_iload_n hC dX2_remembers_76 rfl ?_
            refine zx_laldN (f := a) (N := 1376) hC (zat 1 rfl) i (by omega) (by decide) dX2_remembers_77 ?_
            refine zx_lastN (N := 5504) (f' := (zcp a (zcp b b 1376 0 4128) 0 (1376 * 3) (i + 1))) hC 2 rfl (4128 + i) (by omega) (by decide) (by have e := zcp_s a (zcp b b 1376 0 4128) 0 (1376 * 3) i; rw [Nat.zero_add] at e; exact e) dX2_remembers_78 ?_
            show zV X 2 A (zH G A (zS (zRw G ad a (zcp a (zcp b b 1376 0 4128) 0 (1376 * 3) (i + 1)) d (va_up iv 0 ((iv 0) - 1)) pd sp))) 0 0 79 [some (.ref (ad 0)), some (.int (iI ((i : Nat) : Int)))] []
            refine zx_iinc (b := ((i + 1 : Nat) : Int)) (L' := [some (.ref (ad 0)), some (.int (iI ((i + 1 : Nat) : Int)))]) hC dX2_remembers_79 rfl (by first | rfl | omega) (by decide) rfl ?_
            refine zx_goto (tgt := 51) hC dX2_remembers_82 (by decide) ?_
            exact ih (i + 1) (by omega) 
        exact loopB (1376) 0 (by omega) 
      | succ n ih =>
        intro i hi 
        refine zx_iload_n hC dX2_remembers_10 rfl ?_
        refine zx_sipush (z := 4128) hC dX2_remembers_11 rfl ?_
        refine zx_icmp_geF (tgt := 39) hC dX2_remembers_14 (by decide) (by first | assumption | exact gI _ (by omega) | exact iRm (by omega) (by omega)) (by first | assumption | exact gI _ (by omega) | exact iRm (by omega) (by omega)) (by omega) ?_
        refine zx_aload_n hC dX2_remembers_17 rfl ?_
        refine zx_getf (v := .ref (ad 2)) (T := TX2) (N := 9) (ci := 2) (fs := zMf ad iv) hC in_X2 (zat 0 rfl) rfl 1 (by decide) q1611 (fun _ h => h) rfl dX2_remembers_18 ?_
        refine zx_iload_n hC dX2_remembers_21 rfl ?_
        refine zx_aload_n hC dX2_remembers_22 rfl ?_
        refine zx_getf (v := .ref (ad 2)) (T := TX2) (N := 9) (ci := 2) (fs := zMf ad iv) hC in_X2 (zat 0 rfl) rfl 1 (by decide) q1611 (fun _ h => h) rfl dX2_remembers_23 ?_
        refine zx_sipush (z := 1376) hC dX2_remembers_26 rfl ?_
        refine zx_iload_n hC dX2_remembers_29 rfl ?_
        refine zx_iadd hC dX2_remembers_30 ?_
        refine zx_laldN (f := (zcp b b 1376 0 i)) (N := 5504) hC (zat 2 rfl) (1376 + i) (by omega) (by decide) dX2_remembers_31 ?_
        rw [show zcp b b 1376 0 i (1376 + i) = b (1376 + i) from if_neg (by omega)]
        refine zx_lastN (N := 5504) (f' := (zcp b b 1376 0 (i + 1))) hC 2 rfl i (by omega) (by decide) (by have e := zcp_s b b 1376 0 i; rw [Nat.zero_add] at e; exact e) dX2_remembers_32 ?_
        show zV X 2 A (zH G A (zS (zRw G ad a (zcp b b 1376 0 (i + 1)) d iv pd sp))) 0 0 33 [some (.ref (ad 0)), some (.int (iI ((i : Nat) : Int)))] []
        refine zx_iinc (b := ((i + 1 : Nat) : Int)) (L' := [some (.ref (ad 0)), some (.int (iI ((i + 1 : Nat) : Int)))]) hC dX2_remembers_33 rfl (by first | rfl | omega) (by decide) rfl ?_
        refine zx_goto (tgt := 10) hC dX2_remembers_36 (by decide) ?_
        exact ih (i + 1) (by omega) 
    exact loopA (4128) 0 (by omega) 
  · have hk0 : iv 0 = k := by omega
    refine zx_aload_n hC dX2_remembers_0 rfl ?_
    refine zx_getf (v := .int (iI ((iv 0 : Nat) : Int))) (T := TX2) (N := 9) (ci := 2) (fs := zMf ad iv) hC in_X2 (zat 0 rfl) rfl 2 (by decide) q1612 (fun _ h => h) rfl dX2_remembers_1 ?_
    refine zx_iconst (z := 4) hC dX2_remembers_4 ?_
    refine zx_icmp_neT (tgt := 49) hC dX2_remembers_5 (by decide) (by first | assumption | exact gI _ (by omega) | exact iRm (by omega) (by omega)) (by first | assumption | exact gI _ (by omega) | exact iRm (by omega) (by omega)) (by omega) ?_
    rw [← zcp_0 a b 0 (1376 * k)]
    refine zx_iconst (z := 0) hC dX2_remembers_49 ?_
    refine zx_istore_n (L' := [some (.ref (ad 0)), some (.int (iI 0))]) hC dX2_remembers_50 (by decide) rfl ?_
    have loopB : ∀ n i : Nat, i + n = 1376 → zV X 2 A (zH G A (zS (zRw G ad a (zcp a b 0 (1376 * k) i) d iv pd sp))) 0 0 51 [some (.ref (ad 0)), some (.int (iI ((i : Nat) : Int)))] [] := by
      intro n
      induction n with
      | zero =>
        intro i hi 
        have hiN : i = 1376 := by omega
        rw [hiN]
        refine zx_iload_n hC dX2_remembers_51 rfl ?_
        refine zx_sipush (z := 1376) hC dX2_remembers_52 rfl ?_
        refine zx_icmp_geT (tgt := 85) hC dX2_remembers_55 (by decide) (by first | assumption | exact gI _ (by omega) | exact iRm (by omega) (by omega)) (by first | assumption | exact gI _ (by omega) | exact iRm (by omega) (by omega)) (by omega) ?_
        refine zx_aload_n hC dX2_remembers_85 rfl ?_
        refine zx_dup hC dX2_remembers_86 rfl ?_
        refine zx_getf (v := .int (iI ((iv 0 : Nat) : Int))) (T := TX2) (N := 9) (ci := 2) (fs := zMf ad iv) hC in_X2 (zat 0 rfl) rfl 2 (by decide) q1612 (fun _ h => h) rfl dX2_remembers_87 ?_
        refine zx_iconst (z := 1) hC dX2_remembers_90 ?_
        refine zx_iadd hC dX2_remembers_91 ?_
        refine zx_putf (T := TX2) (N := 9) (ci := 2) (fs := zMf ad iv) (fs' := zMf ad (va_up iv 0 ((iv 0) + 1))) hC 0 in_X2 tyX2 tyX2_ok nmX2 rfl rfl 2 (by decide) q1612 (fun _ h => h) rfl (by first | rfl | exact znar (by omega)) (by first | rfl | exact zfit (by omega)) (by simp [zMf]) rfl dX2_remembers_92 ?_
        show zV X 2 A (zH G A (zS (zRw G ad a (zcp a b 0 (1376 * k) 1376) d (va_up iv 0 ((iv 0) + 1)) pd sp))) 0 0 95 [some (.ref (ad 0)), some (.int (iI 1376))] []
        refine zx_pre (P' := zH G A (zS [REF G ad ((h, F), rRem ps (h, F) k, sn, va_up iv 0 (if k = 4 then 4 else k + 1), pd, sp)])) (fun H hH => ?_) ?_
        · rw [show (va_up iv 0 ((iv 0) + 1)) = va_up iv 0 (if k = 4 then 4 else k + 1) from by funext j; simp only [va_up]; by_cases hj : j = 0 <;> simp only [hj, if_true, if_false] <;> (try split) <;> omega] at hH
          exact zr_fold (a := a) (b := (zcp a b 0 (1376 * k) 1376)) (d := d) ((h, F), rRem ps (h, F) k, sn, va_up iv 0 (if k = 4 then 4 else k + 1), pd, sp) hs (zRem_k hk hs hb) hdd H hH
        exact zx_vret hC hE (Nat.le_refl _) (Nat.le_refl _) (fun H h => ⟨rfl, h⟩) dX2_remembers_95
      | succ n ih =>
        intro i hi 
        refine zx_iload_n hC dX2_remembers_51 rfl ?_
        refine zx_sipush (z := 1376) hC dX2_remembers_52 rfl ?_
        refine zx_icmp_geF (tgt := 85) hC dX2_remembers_55 (by decide) (by first | assumption | exact gI _ (by omega) | exact iRm (by omega) (by omega)) (by first | assumption | exact gI _ (by omega) | exact iRm (by omega) (by omega)) (by omega) ?_
        refine zx_aload_n hC dX2_remembers_58 rfl ?_
        refine zx_getf (v := .ref (ad 2)) (T := TX2) (N := 9) (ci := 2) (fs := zMf ad iv) hC in_X2 (zat 0 rfl) rfl 1 (by decide) q1611 (fun _ h => h) rfl dX2_remembers_59 ?_
        refine zx_sipush (z := 1376) hC dX2_remembers_62 rfl ?_
        refine zx_aload_n hC dX2_remembers_65 rfl ?_
        refine zx_getf (v := .int (iI ((iv 0 : Nat) : Int))) (T := TX2) (N := 9) (ci := 2) (fs := zMf ad iv) hC in_X2 (zat 0 rfl) rfl 2 (by decide) q1612 (fun _ h => h) rfl dX2_remembers_66 ?_
        refine zx_topi (b := ((k : Nat) : Int)) (by first | omega | (simp [va_up]; omega)) ?_
        refine zx_imul hC dX2_remembers_69 ?_
        refine zx_iload_n hC dX2_remembers_70 rfl ?_
        refine zx_iadd hC dX2_remembers_71 ?_
        refine zx_aload_n hC dX2_remembers_72 rfl ?_
        refine zx_getf (v := .ref (ad 1)) (T := TX2) (N := 9) (ci := 2) (fs := zMf ad iv) hC in_X2 (zat 0 rfl) rfl 0 (by decide) q1610 (fun _ h => h) rfl dX2_remembers_73 ?_
        refine zx_iload_n hC dX2_remembers_76 rfl ?_
        refine zx_laldN (f := a) (N := 1376) hC (zat 1 rfl) i (by omega) (by decide) dX2_remembers_77 ?_
        refine zx_lastN (N := 5504) (f' := (zcp a b 0 (1376 * k) (i + 1))) hC 2 rfl ((1376 * k) + i) (by omega) (by decide) (by have e := zcp_s a b 0 (1376 * k) i; rw [Nat.zero_add] at e; exact e) dX2_remembers_78 ?_
        show zV X 2 A (zH G A (zS (zRw G ad a (zcp a b 0 (1376 * k) (i + 1)) d iv pd sp))) 0 0 79 [some (.ref (ad 0)), some (.int (iI ((i : Nat) : Int)))] []
        refine zx_iinc (b := ((i + 1 : Nat) : Int)) (L' := [some (.ref (ad 0)), some (.int (iI ((i + 1 : Nat) : Int)))]) hC dX2_remembers_79 rfl (by first | rfl | omega) (by decide) rfl ?_
        refine zx_goto (tgt := 51) hC dX2_remembers_82 (by decide) ?_
        exact ih (i + 1) (by omega) 
    exact loopB (1376) 0 (by omega) 
