/-! walked: part 45b (printed by gen/gen2.py) -/
set_option maxRecDepth 100000
set_option maxHeartbeats 4000000 in
theorem m_X3_length (la : Launch) (G : zG) (a : Nat) (len : Nat) (f : Nat → Nat → Nat) (mu : Nat) (pa : Nat) (g0 : len ≤ 100) : zRd la yX3_length cX3_length 1 (some .int) 0 0 G [.ref a] (fun H => zhp G (LAY G a len f mu pa) H) (fun v9 => v9 = some (.int (iI ((len : Nat) : Int)))) := by
  refine zRd.of [some (.ref a)] (by decide) (Nat.le_of_ble_eq_true rfl) rfl (fun X hl hC hRm hP hE => ?_)
  have hp0 := hP
  obtain ⟨fs, g, rw, hg, ha, hfs, hrows⟩ := LAY_hp hp0
  refine zx_aload_n hC dX3_length_0 rfl ?_
  refine zx_getf (v := .ref fs) (T := TX3) (N := 3) (ci := 3) (fs := [.ref fs, .int (iI ((mu : Nat) : Int)), .int (iI ((pa : Nat) : Int))]) hC in_X3 (zeq ha) rfl 0 (by decide) q751 (fun _ h => h) rfl dX3_length_1 ?_
  refine zx_alen hC 4 (zeq hfs) rfl dX3_length_4 ?_
  exact zx_iret hC hE (Nat.le_refl _) (Nat.le_refl _) (fun H h => ⟨h, rfl⟩) dX3_length_5
set_option maxHeartbeats 4000000 in
theorem m_X3_force (la : Launch) (G : zG) (a : Nat) (len : Nat) (f : Nat → Nat → Nat) (mu : Nat) (pa : Nat) (c : Nat) (k : Nat) (g0 : len ≤ 100) (g1 : 0 < len) (g2 : c < 100000) (g3 : k < 36) : zRd la yX3_force cX3_force 3 (some .int) 0 0 G [.ref a, .int (iI ((c : Nat) : Int)), .int (iI ((k : Nat) : Int))] (fun H => zhp G (LAY G a len f mu pa) H) (fun v9 => v9 = some (.int (iI ((f (c % len) k : Nat) : Int)))) := by
  refine zRd.of [some (.ref a), some (.int (iI ((c : Nat) : Int))), some (.int (iI ((k : Nat) : Int)))] (by decide) (Nat.le_of_ble_eq_true rfl) rfl (fun X hl hC hRm hP hE => ?_)
  have hp0 := hP
  obtain ⟨fs, g, rw, hg, ha, hfs, hrows⟩ := LAY_hp hp0
  have hm := Nat.mod_lt c g1
  refine zx_aload_n hC dX3_force_0 rfl ?_
  refine zx_getf (v := .ref fs) (T := TX3) (N := 3) (ci := 3) (fs := [.ref fs, .int (iI ((mu : Nat) : Int)), .int (iI ((pa : Nat) : Int))]) hC in_X3 (zeq ha) rfl 0 (by decide) q751 (fun _ h => h) rfl dX3_force_1 ?_
  refine zx_iload_n hC dX3_force_4 rfl ?_
  refine zx_aload_n hC dX3_force_5 rfl ?_
  refine zx_getf (v := .ref fs) (T := TX3) (N := 3) (ci := 3) (fs := [.ref fs, .int (iI ((mu : Nat) : Int)), .int (iI ((pa : Nat) : Int))]) hC in_X3 (zeq ha) rfl 0 (by decide) q751 (fun _ h => h) rfl dX3_force_6 ?_
  refine zx_alen hC 4 (zeq hfs) rfl dX3_force_9 ?_
  refine zx_irem hC dX3_force_10 (by first | assumption | exact gI _ (by omega) | exact iRm (by omega) (by omega)) (by first | assumption | exact gI _ (by omega) | exact iRm (by omega) (by omega)) (by omega) (by omega) ?_
  refine zx_aaldN hC 4 (by omega) (zeq hfs) (c % len) (by omega) (by omega) dX3_force_11 ?_
  refine zx_eq (rest' := [.ref (rw (c % len))]) rfl (by rw [hg (c % len) hm]; rfl) ?_
  obtain ⟨r, hr, hrow⟩ := hrows (c % len) (by omega)
  refine zx_iload_n hC dX3_force_12 rfl ?_
  refine zx_ialdN hC (zeq hrow) k (by omega) (by omega) dX3_force_13 ?_
  refine zx_eq (rest' := [.int (iI ((f (c % len) k : Nat) : Int))]) rfl (by rw [hr k (by omega)]) ?_
  exact zx_iret hC hE (Nat.le_refl _) (Nat.le_refl _) (fun H h => ⟨h, rfl⟩) dX3_force_14
set_option maxHeartbeats 4000000 in
theorem m_X3_notes (la : Launch) (G : zG) (a : Nat) (len : Nat) (f : Nat → Nat → Nat) (mu : Nat) (pa : Nat) (g0 : len ≤ 100) (hf : ∀ c k, f c k ≤ 99) : zRd la yX3_notes cX3_notes 10 (some .int) 0 0 G [.ref a] (fun H => zhp G (LAY G a len f mu pa) H) (fun v9 => v9 = some (.int (iI ((zsumT (fun k => zN (0 < f (k / 36) (k % 36))) (len * 36) : Nat) : Int)))) := by
  refine zRd.of [some (.ref a), none, none, none, none, none, none, none, none, none] (by decide) (Nat.le_of_ble_eq_true rfl) rfl (fun X hl hC hRm hP hE => ?_)
  have hp0 := hP
  obtain ⟨fs, g, rw, hg, ha, hfs, hrows⟩ := LAY_hp hp0
  have hB : ∀ n, zsumT (fun k => zN (0 < f (k / 36) (k % 36))) n ≤ 1 * n := fun n => zsumT_le n (fun j _ => zN_le _)
  refine zx_iconst (z := 0) hC dX3_notes_0 ?_
  refine zx_istore_n (L' := [some (.ref a), some (.int (iI 0)), none, none, none, none, none, none, none, none]) hC dX3_notes_1 (by decide) rfl ?_
  refine zx_aload_n hC dX3_notes_2 rfl ?_
  refine zx_getf (v := .ref fs) (T := TX3) (N := 3) (ci := 3) (fs := [.ref fs, .int (iI ((mu : Nat) : Int)), .int (iI ((pa : Nat) : Int))]) hC in_X3 (zeq ha) rfl 0 (by decide) q751 (fun _ h => h) rfl dX3_notes_3 ?_
  refine zx_astore_n (L' := [some (.ref a), some (.int (iI 0)), some (.ref fs), none, none, none, none, none, none, none]) hC dX3_notes_6 (by decide) rfl ?_
  refine zx_aload_n hC dX3_notes_7 rfl ?_
  refine zx_alen hC 4 (zeq hfs) rfl dX3_notes_8 ?_
  refine zx_istore_n (L' := [some (.ref a), some (.int (iI 0)), some (.ref fs), some (.int (iI ((len : Nat) : Int))), none, none, none, none, none, none]) hC dX3_notes_9 (by decide) rfl ?_
  refine zx_iconst (z := 0) hC dX3_notes_10 ?_
  refine zx_istore (L' := [some (.ref a), some (.int (iI 0)), some (.ref fs), some (.int (iI ((len : Nat) : Int))), some (.int (iI 0)), none, none, none, none, none]) hC dX3_notes_11 (by decide) rfl ?_
  have loopA : ∀ n i : Nat, i + n = len → zV X 10 (fun _ => False) (fun H => H = (zs X).heap) 0 0 13 [some (.ref a), some (.int (iI ((zsumT (fun k => zN (0 < f (k / 36) (k % 36))) (i * 36) : Nat) : Int))), some (.ref fs), some (.int (iI ((len : Nat) : Int))), some (.int (iI ((i : Nat) : Int))), none, none, none, none, none] [] := by
    intro n
    induction n with
    | zero =>
      intro i hi 
      have hiN : i = len := by omega
      rw [hiN]
      refine zx_iload hC dX3_notes_13 rfl ?_
      refine zx_iload_n hC dX3_notes_15 rfl ?_
      refine zx_icmp_geT (tgt := 76) hC dX3_notes_16 (by decide) (by first | assumption | exact gI _ (by omega) | exact iRm (by omega) (by omega)) (by first | assumption | exact gI _ (by omega) | exact iRm (by omega) (by omega)) (by omega) ?_
      refine zx_iload_n hC dX3_notes_76 rfl ?_
      exact zx_iret hC hE (Nat.le_refl _) (Nat.le_refl _) (fun H h => ⟨h, rfl⟩) dX3_notes_77
    | succ n ih =>
      intro i hi 
      have hbb : (i + 1) * 36 ≤ 3600 := by omega
      refine zx_iload hC dX3_notes_13 rfl ?_
      refine zx_iload_n hC dX3_notes_15 rfl ?_
      refine zx_icmp_geF (tgt := 76) hC dX3_notes_16 (by decide) (by first | assumption | exact gI _ (by omega) | exact iRm (by omega) (by omega)) (by first | assumption | exact gI _ (by omega) | exact iRm (by omega) (by omega)) (by omega) ?_
      refine zx_aload_n hC dX3_notes_19 rfl ?_
      refine zx_iload hC dX3_notes_20 rfl ?_
      refine zx_aaldN hC 4 (by omega) (zeq hfs) i (by omega) (by omega) dX3_notes_22 ?_
      refine zx_eq (rest' := [.ref (rw i)]) rfl (by rw [hg i (by omega)]; rfl) ?_
      obtain ⟨r, hr, hrow⟩ := hrows i (by omega)
      refine zx_astore (L' := [some (.ref a), some (.int (iI ((zsumT (fun k => zN (0 < f (k / 36) (k % 36))) (i * 36) : Nat) : Int))), some (.ref fs), some (.int (iI ((len : Nat) : Int))), some (.int (iI ((i : Nat) : Int))), some (.ref (rw i)), none, none, none, none]) hC dX3_notes_23 (by decide) rfl ?_
      refine zx_aload hC dX3_notes_25 rfl ?_
      refine zx_astore (L' := [some (.ref a), some (.int (iI ((zsumT (fun k => zN (0 < f (k / 36) (k % 36))) (i * 36) : Nat) : Int))), some (.ref fs), some (.int (iI ((len : Nat) : Int))), some (.int (iI ((i : Nat) : Int))), some (.ref (rw i)), some (.ref (rw i)), none, none, none]) hC dX3_notes_27 (by decide) rfl ?_
      refine zx_aload hC dX3_notes_29 rfl ?_
      refine zx_alen hC 0 (zeq hrow) rfl dX3_notes_31 ?_
      refine zx_istore (L' := [some (.ref a), some (.int (iI ((zsumT (fun k => zN (0 < f (k / 36) (k % 36))) (i * 36) : Nat) : Int))), some (.ref fs), some (.int (iI ((len : Nat) : Int))), some (.int (iI ((i : Nat) : Int))), some (.ref (rw i)), some (.ref (rw i)), some (.int (iI 36)), none, none]) hC dX3_notes_32 (by decide) rfl ?_
      rw [show i * 36 = i * 36 + 0 from rfl]
      refine zx_iconst (z := 0) hC dX3_notes_34 ?_
      refine zx_istore (L' := [some (.ref a), some (.int (iI ((zsumT (fun k => zN (0 < f (k / 36) (k % 36))) (i * 36 + 0) : Nat) : Int))), some (.ref fs), some (.int (iI ((len : Nat) : Int))), some (.int (iI ((i : Nat) : Int))), some (.ref (rw i)), some (.ref (rw i)), some (.int (iI 36)), some (.int (iI 0)), none]) hC dX3_notes_35 (by decide) rfl ?_
      have loopB : ∀ n j : Nat, j + n = 36 → zV X 10 (fun _ => False) (fun H => H = (zs X).heap) 0 0 37 [some (.ref a), some (.int (iI ((zsumT (fun k => zN (0 < f (k / 36) (k % 36))) (i * 36 + j) : Nat) : Int))), some (.ref fs), some (.int (iI ((len : Nat) : Int))), some (.int (iI ((i : Nat) : Int))), some (.ref (rw i)), some (.ref (rw i)), some (.int (iI 36)), some (.int (iI ((j : Nat) : Int))), none] [] := by
        intro n
        induction n with
        | zero =>
          intro j hj 
          have hjN : j = 36 := by omega
          rw [hjN]
          refine zx_iload hC dX3_notes_37 rfl ?_
          refine zx_iload hC dX3_notes_39 rfl ?_
          refine zx_icmp_geT (tgt := 70) hC dX3_notes_41 (by decide) (by first | assumption | exact gI _ (by omega) | exact iRm (by omega) (by omega)) (by first | assumption | exact gI _ (by omega) | exact iRm (by omega) (by omega)) (by omega) ?_
          rw [show i * 36 + 36 = (i + 1) * 36 by omega]
          refine zx_iinc (b := ((i + 1 : Nat) : Int)) (L' := [some (.ref a), some (.int (iI ((zsumT (fun k => zN (0 < f (k / 36) (k % 36))) ((i + 1) * 36) : Nat) : Int))), some (.ref fs), some (.int (iI ((len : Nat) : Int))), some (.int (iI ((i + 1 : Nat) : Int))), some (.ref (rw i)), some (.ref (rw i)), some (.int (iI 36)), some (.int (iI 36)), none]) hC dX3_notes_70 rfl (by first | rfl | omega) (by decide) rfl ?_
          refine zx_goto (tgt := 13) hC dX3_notes_73 (by decide) ?_
          refine zx_le (L' := [some (.ref a), some (.int (iI ((zsumT (fun k => zN (0 < f (k / 36) (k % 36))) ((i + 1) * 36) : Nat) : Int))), some (.ref fs), some (.int (iI ((len : Nat) : Int))), some (.int (iI ((i + 1 : Nat) : Int))), none, none, none, none, none]) (zle_s (zle_s (zle_s (zle_s (zle_s (zle_n (zle_n (zle_n (zle_n (zle_n zle_0)))))))))) ?_
          exact ih (i + 1) (by omega) 
        | succ n ih =>
          intro j hj 
          refine zx_iload hC dX3_notes_37 rfl ?_
          refine zx_iload hC dX3_notes_39 rfl ?_
          refine zx_icmp_geF (tgt := 70) hC dX3_notes_41 (by decide) (by first | assumption | exact gI _ (by omega) | exact iRm (by omega) (by omega)) (by first | assumption | exact gI _ (by omega) | exact iRm (by omega) (by omega)) (by omega) ?_
          have hB1 := hB (i * 36 + j)
          have hB2 := hf i j
          refine zx_aload hC dX3_notes_44 rfl ?_
          refine zx_iload hC dX3_notes_46 rfl ?_
          refine zx_ialdN hC (zeq hrow) j (by omega) (by omega) dX3_notes_48 ?_
          refine zx_eq (rest' := [.int (iI ((f i j : Nat) : Int))]) rfl (by rw [hr j (by omega)]) ?_
          refine zx_istore (L' := [some (.ref a), some (.int (iI ((zsumT (fun k => zN (0 < f (k / 36) (k % 36))) (i * 36 + j) : Nat) : Int))), some (.ref fs), some (.int (iI ((len : Nat) : Int))), some (.int (iI ((i : Nat) : Int))), some (.ref (rw i)), some (.ref (rw i)), some (.int (iI 36)), some (.int (iI ((j : Nat) : Int))), some (.int (iI ((f i j : Nat) : Int)))]) hC dX3_notes_49 (by decide) rfl ?_
          refine zx_iload_n hC dX3_notes_51 rfl ?_
          refine zx_iload hC dX3_notes_52 rfl ?_
          have J54 : zV X 10 (fun _ => False) (fun H => H = (zs X).heap) 0 0 62 [some (.ref a), some (.int (iI ((zsumT (fun k => zN (0 < f (k / 36) (k % 36))) (i * 36 + j) : Nat) : Int))), some (.ref fs), some (.int (iI ((len : Nat) : Int))), some (.int (iI ((i : Nat) : Int))), some (.ref (rw i)), some (.ref (rw i)), some (.int (iI 36)), some (.int (iI ((j : Nat) : Int))), some (.int (iI ((f i j : Nat) : Int)))] [.int (iI ((zN (0 < f i j) : Nat) : Int)), .int (iI ((zsumT (fun k => zN (0 < f (k / 36) (k % 36))) (i * 36 + j) : Nat) : Int))] := by
            have hz1 := zN_le (0 < f i j)
            refine zx_iadd hC dX3_notes_62 ?_
            refine zx_topi (b := ((zsumT (fun k => zN (0 < f (k / 36) (k % 36))) (i * 36 + (j + 1)) : Nat) : Int)) (by rw [zflat (fun c k => zN (0 < f c k)) (by omega)]; omega) ?_
            refine zx_istore_n (L' := [some (.ref a), some (.int (iI ((zsumT (fun k => zN (0 < f (k / 36) (k % 36))) (i * 36 + (j + 1)) : Nat) : Int))), some (.ref fs), some (.int (iI ((len : Nat) : Int))), some (.int (iI ((i : Nat) : Int))), some (.ref (rw i)), some (.ref (rw i)), some (.int (iI 36)), some (.int (iI ((j : Nat) : Int))), some (.int (iI ((f i j : Nat) : Int)))]) hC dX3_notes_63 (by decide) rfl ?_
            refine zx_iinc (b := ((j + 1 : Nat) : Int)) (L' := [some (.ref a), some (.int (iI ((zsumT (fun k => zN (0 < f (k / 36) (k % 36))) (i * 36 + (j + 1)) : Nat) : Int))), some (.ref fs), some (.int (iI ((len : Nat) : Int))), some (.int (iI ((i : Nat) : Int))), some (.ref (rw i)), some (.ref (rw i)), some (.int (iI 36)), some (.int (iI ((j + 1 : Nat) : Int))), some (.int (iI ((f i j : Nat) : Int)))]) hC dX3_notes_64 rfl (by first | rfl | omega) (by decide) rfl ?_
            refine zx_goto (tgt := 37) hC dX3_notes_67 (by decide) ?_
            refine zx_le (L' := [some (.ref a), some (.int (iI ((zsumT (fun k => zN (0 < f (k / 36) (k % 36))) (i * 36 + (j + 1)) : Nat) : Int))), some (.ref fs), some (.int (iI ((len : Nat) : Int))), some (.int (iI ((i : Nat) : Int))), some (.ref (rw i)), some (.ref (rw i)), some (.int (iI 36)), some (.int (iI ((j + 1 : Nat) : Int))), none]) (zle_s (zle_s (zle_s (zle_s (zle_s (zle_s (zle_s (zle_s (zle_s (zle_n zle_0)))))))))) ?_
            exact ih (j + 1) (by omega) 
          refine zx_if_le (tgt := 61) hC dX3_notes_54 (by decide) (by first | assumption | exact gI _ (by omega) | exact iRm (by omega) (by omega)) (fun c54 => ?_) (fun c54 => ?_)
          · refine zx_iconst (z := 0) hC dX3_notes_61 ?_
            refine zx_topi (b := ((zN (0 < f i j) : Nat) : Int)) (by first | (rw [zN_t (by omega)]; first | done | rfl) | (rw [zN_f (by omega)]; first | done | rfl)) ?_
            exact J54
          · refine zx_iconst (z := 1) hC dX3_notes_57 ?_
            refine zx_goto (tgt := 62) hC dX3_notes_58 (by decide) ?_
            refine zx_topi (b := ((zN (0 < f i j) : Nat) : Int)) (by first | (rw [zN_t (by omega)]; first | done | rfl) | (rw [zN_f (by omega)]; first | done | rfl)) ?_
            exact J54
      exact loopB (36) 0 (by omega) 
  exact loopA (len) 0 (by omega) 
set_option maxHeartbeats 4000000 in
theorem m_X3_sum (la : Launch) (G : zG) (a : Nat) (len : Nat) (f : Nat → Nat → Nat) (mu : Nat) (pa : Nat) (g0 : len ≤ 100) (hf : ∀ c k, f c k ≤ 99) : zRd la yX3_sum cX3_sum 10 (some .int) 0 0 G [.ref a] (fun H => zhp G (LAY G a len f mu pa) H) (fun v9 => v9 = some (.int (iI ((zsumT (fun k => f (k / 36) (k % 36)) (len * 36) : Nat) : Int)))) := by
  refine zRd.of [some (.ref a), none, none, none, none, none, none, none, none, none] (by decide) (Nat.le_of_ble_eq_true rfl) rfl (fun X hl hC hRm hP hE => ?_)
  have hp0 := hP
  obtain ⟨fs, g, rw, hg, ha, hfs, hrows⟩ := LAY_hp hp0
  have hB : ∀ n, zsumT (fun k => f (k / 36) (k % 36)) n ≤ 99 * n := fun n => zsumT_le n (fun j _ => hf _ _)
  refine zx_iconst (z := 0) hC dX3_sum_0 ?_
  refine zx_istore_n (L' := [some (.ref a), some (.int (iI 0)), none, none, none, none, none, none, none, none]) hC dX3_sum_1 (by decide) rfl ?_
  refine zx_aload_n hC dX3_sum_2 rfl ?_
  refine zx_getf (v := .ref fs) (T := TX3) (N := 3) (ci := 3) (fs := [.ref fs, .int (iI ((mu : Nat) : Int)), .int (iI ((pa : Nat) : Int))]) hC in_X3 (zeq ha) rfl 0 (by decide) q751 (fun _ h => h) rfl dX3_sum_3 ?_
  refine zx_astore_n (L' := [some (.ref a), some (.int (iI 0)), some (.ref fs), none, none, none, none, none, none, none]) hC dX3_sum_6 (by decide) rfl ?_
  refine zx_aload_n hC dX3_sum_7 rfl ?_
  refine zx_alen hC 4 (zeq hfs) rfl dX3_sum_8 ?_
  refine zx_istore_n (L' := [some (.ref a), some (.int (iI 0)), some (.ref fs), some (.int (iI ((len : Nat) : Int))), none, none, none, none, none, none]) hC dX3_sum_9 (by decide) rfl ?_
  refine zx_iconst (z := 0) hC dX3_sum_10 ?_
  refine zx_istore (L' := [some (.ref a), some (.int (iI 0)), some (.ref fs), some (.int (iI ((len : Nat) : Int))), some (.int (iI 0)), none, none, none, none, none]) hC dX3_sum_11 (by decide) rfl ?_
  have loopA : ∀ n i : Nat, i + n = len → zV X 10 (fun _ => False) (fun H => H = (zs X).heap) 0 0 13 [some (.ref a), some (.int (iI ((zsumT (fun k => f (k / 36) (k % 36)) (i * 36) : Nat) : Int))), some (.ref fs), some (.int (iI ((len : Nat) : Int))), some (.int (iI ((i : Nat) : Int))), none, none, none, none, none] [] := by
    intro n
    induction n with
    | zero =>
      intro i hi 
      have hiN : i = len := by omega
      rw [hiN]
      refine zx_iload hC dX3_sum_13 rfl ?_
      refine zx_iload_n hC dX3_sum_15 rfl ?_
      refine zx_icmp_geT (tgt := 68) hC dX3_sum_16 (by decide) (by first | assumption | exact gI _ (by omega) | exact iRm (by omega) (by omega)) (by first | assumption | exact gI _ (by omega) | exact iRm (by omega) (by omega)) (by omega) ?_
      refine zx_iload_n hC dX3_sum_68 rfl ?_
      exact zx_iret hC hE (Nat.le_refl _) (Nat.le_refl _) (fun H h => ⟨h, rfl⟩) dX3_sum_69
    | succ n ih =>
      intro i hi 
      have hbb : (i + 1) * 36 ≤ 3600 := by omega
      refine zx_iload hC dX3_sum_13 rfl ?_
      refine zx_iload_n hC dX3_sum_15 rfl ?_
      refine zx_icmp_geF (tgt := 68) hC dX3_sum_16 (by decide) (by first | assumption | exact gI _ (by omega) | exact iRm (by omega) (by omega)) (by first | assumption | exact gI _ (by omega) | exact iRm (by omega) (by omega)) (by omega) ?_
      refine zx_aload_n hC dX3_sum_19 rfl ?_
      refine zx_iload hC dX3_sum_20 rfl ?_
      refine zx_aaldN hC 4 (by omega) (zeq hfs) i (by omega) (by omega) dX3_sum_22 ?_
      refine zx_eq (rest' := [.ref (rw i)]) rfl (by rw [hg i (by omega)]; rfl) ?_
      obtain ⟨r, hr, hrow⟩ := hrows i (by omega)
      refine zx_astore (L' := [some (.ref a), some (.int (iI ((zsumT (fun k => f (k / 36) (k % 36)) (i * 36) : Nat) : Int))), some (.ref fs), some (.int (iI ((len : Nat) : Int))), some (.int (iI ((i : Nat) : Int))), some (.ref (rw i)), none, none, none, none]) hC dX3_sum_23 (by decide) rfl ?_
      refine zx_aload hC dX3_sum_25 rfl ?_
      refine zx_astore (L' := [some (.ref a), some (.int (iI ((zsumT (fun k => f (k / 36) (k % 36)) (i * 36) : Nat) : Int))), some (.ref fs), some (.int (iI ((len : Nat) : Int))), some (.int (iI ((i : Nat) : Int))), some (.ref (rw i)), some (.ref (rw i)), none, none, none]) hC dX3_sum_27 (by decide) rfl ?_
      refine zx_aload hC dX3_sum_29 rfl ?_
      refine zx_alen hC 0 (zeq hrow) rfl dX3_sum_31 ?_
      refine zx_istore (L' := [some (.ref a), some (.int (iI ((zsumT (fun k => f (k / 36) (k % 36)) (i * 36) : Nat) : Int))), some (.ref fs), some (.int (iI ((len : Nat) : Int))), some (.int (iI ((i : Nat) : Int))), some (.ref (rw i)), some (.ref (rw i)), some (.int (iI 36)), none, none]) hC dX3_sum_32 (by decide) rfl ?_
      rw [show i * 36 = i * 36 + 0 from rfl]
      refine zx_iconst (z := 0) hC dX3_sum_34 ?_
      refine zx_istore (L' := [some (.ref a), some (.int (iI ((zsumT (fun k => f (k / 36) (k % 36)) (i * 36 + 0) : Nat) : Int))), some (.ref fs), some (.int (iI ((len : Nat) : Int))), some (.int (iI ((i : Nat) : Int))), some (.ref (rw i)), some (.ref (rw i)), some (.int (iI 36)), some (.int (iI 0)), none]) hC dX3_sum_35 (by decide) rfl ?_
      have loopB : ∀ n j : Nat, j + n = 36 → zV X 10 (fun _ => False) (fun H => H = (zs X).heap) 0 0 37 [some (.ref a), some (.int (iI ((zsumT (fun k => f (k / 36) (k % 36)) (i * 36 + j) : Nat) : Int))), some (.ref fs), some (.int (iI ((len : Nat) : Int))), some (.int (iI ((i : Nat) : Int))), some (.ref (rw i)), some (.ref (rw i)), some (.int (iI 36)), some (.int (iI ((j : Nat) : Int))), none] [] := by
        intro n
        induction n with
        | zero =>
          intro j hj 
          have hjN : j = 36 := by omega
          rw [hjN]
          refine zx_iload hC dX3_sum_37 rfl ?_
          refine zx_iload hC dX3_sum_39 rfl ?_
          refine zx_icmp_geT (tgt := 62) hC dX3_sum_41 (by decide) (by first | assumption | exact gI _ (by omega) | exact iRm (by omega) (by omega)) (by first | assumption | exact gI _ (by omega) | exact iRm (by omega) (by omega)) (by omega) ?_
          rw [show i * 36 + 36 = (i + 1) * 36 by omega]
          refine zx_iinc (b := ((i + 1 : Nat) : Int)) (L' := [some (.ref a), some (.int (iI ((zsumT (fun k => f (k / 36) (k % 36)) ((i + 1) * 36) : Nat) : Int))), some (.ref fs), some (.int (iI ((len : Nat) : Int))), some (.int (iI ((i + 1 : Nat) : Int))), some (.ref (rw i)), some (.ref (rw i)), some (.int (iI 36)), some (.int (iI 36)), none]) hC dX3_sum_62 rfl (by first | rfl | omega) (by decide) rfl ?_
          refine zx_goto (tgt := 13) hC dX3_sum_65 (by decide) ?_
          refine zx_le (L' := [some (.ref a), some (.int (iI ((zsumT (fun k => f (k / 36) (k % 36)) ((i + 1) * 36) : Nat) : Int))), some (.ref fs), some (.int (iI ((len : Nat) : Int))), some (.int (iI ((i + 1 : Nat) : Int))), none, none, none, none, none]) (zle_s (zle_s (zle_s (zle_s (zle_s (zle_n (zle_n (zle_n (zle_n (zle_n zle_0)))))))))) ?_
          exact ih (i + 1) (by omega) 
        | succ n ih =>
          intro j hj 
          refine zx_iload hC dX3_sum_37 rfl ?_
          refine zx_iload hC dX3_sum_39 rfl ?_
          refine zx_icmp_geF (tgt := 62) hC dX3_sum_41 (by decide) (by first | assumption | exact gI _ (by omega) | exact iRm (by omega) (by omega)) (by first | assumption | exact gI _ (by omega) | exact iRm (by omega) (by omega)) (by omega) ?_
          have hB1 := hB (i * 36 + j)
          have hB2 := hf i j
          refine zx_aload hC dX3_sum_44 rfl ?_
          refine zx_iload hC dX3_sum_46 rfl ?_
          refine zx_ialdN hC (zeq hrow) j (by omega) (by omega) dX3_sum_48 ?_
          refine zx_eq (rest' := [.int (iI ((f i j : Nat) : Int))]) rfl (by rw [hr j (by omega)]) ?_
          refine zx_istore (L' := [some (.ref a), some (.int (iI ((zsumT (fun k => f (k / 36) (k % 36)) (i * 36 + j) : Nat) : Int))), some (.ref fs), some (.int (iI ((len : Nat) : Int))), some (.int (iI ((i : Nat) : Int))), some (.ref (rw i)), some (.ref (rw i)), some (.int (iI 36)), some (.int (iI ((j : Nat) : Int))), some (.int (iI ((f i j : Nat) : Int)))]) hC dX3_sum_49 (by decide) rfl ?_
          refine zx_iload_n hC dX3_sum_51 rfl ?_
          refine zx_iload hC dX3_sum_52 rfl ?_
          refine zx_iadd hC dX3_sum_54 ?_
          refine zx_topi (b := ((zsumT (fun k => f (k / 36) (k % 36)) (i * 36 + (j + 1)) : Nat) : Int)) (by rw [zflat f (by omega)]; omega) ?_
          refine zx_istore_n (L' := [some (.ref a), some (.int (iI ((zsumT (fun k => f (k / 36) (k % 36)) (i * 36 + (j + 1)) : Nat) : Int))), some (.ref fs), some (.int (iI ((len : Nat) : Int))), some (.int (iI ((i : Nat) : Int))), some (.ref (rw i)), some (.ref (rw i)), some (.int (iI 36)), some (.int (iI ((j : Nat) : Int))), some (.int (iI ((f i j : Nat) : Int)))]) hC dX3_sum_55 (by decide) rfl ?_
          refine zx_iinc (b := ((j + 1 : Nat) : Int)) (L' := [some (.ref a), some (.int (iI ((zsumT (fun k => f (k / 36) (k % 36)) (i * 36 + (j + 1)) : Nat) : Int))), some (.ref fs), some (.int (iI ((len : Nat) : Int))), some (.int (iI ((i : Nat) : Int))), some (.ref (rw i)), some (.ref (rw i)), some (.int (iI 36)), some (.int (iI ((j + 1 : Nat) : Int))), some (.int (iI ((f i j : Nat) : Int)))]) hC dX3_sum_56 rfl (by first | rfl | omega) (by decide) rfl ?_
          refine zx_goto (tgt := 37) hC dX3_sum_59 (by decide) ?_
          refine zx_le (L' := [some (.ref a), some (.int (iI ((zsumT (fun k => f (k / 36) (k % 36)) (i * 36 + (j + 1)) : Nat) : Int))), some (.ref fs), some (.int (iI ((len : Nat) : Int))), some (.int (iI ((i : Nat) : Int))), some (.ref (rw i)), some (.ref (rw i)), some (.int (iI 36)), some (.int (iI ((j + 1 : Nat) : Int))), none]) (zle_s (zle_s (zle_s (zle_s (zle_s (zle_s (zle_s (zle_s (zle_s (zle_n zle_0)))))))))) ?_
          exact ih (j + 1) (by omega) 
      exact loopB (36) 0 (by omega) 
  exact loopA (len) 0 (by omega) 
set_option maxHeartbeats 4000000 in
theorem m_X3_greatest (la : Launch) (G : zG) (a : Nat) (len : Nat) (f : Nat → Nat → Nat) (mu : Nat) (pa : Nat) (g0 : len ≤ 100) (hf : ∀ c k, f c k ≤ 99) : zRd la yX3_greatest cX3_greatest 10 (some .int) 1 21 G [.ref a] (fun H => zhp G (LAY G a len f mu pa) H) (fun v9 => v9 = some (.int (iI ((zmaxT (fun k => f (k / 36) (k % 36)) (len * 36) : Nat) : Int)))) := by
  refine zRd.of [some (.ref a), none, none, none, none, none, none, none, none, none] (by decide) (Nat.le_of_ble_eq_true rfl) rfl (fun X hl hC hRm hP hE => ?_)
  have hp0 := hP
  obtain ⟨fs, g, rw, hg, ha, hfs, hrows⟩ := LAY_hp hp0
  have hB : ∀ n, zmaxT (fun k => f (k / 36) (k % 36)) n ≤ 99 := fun n => zmaxT_le n (fun j _ => hf _ _)
  refine zx_iconst (z := 0) hC dX3_greatest_0 ?_
  refine zx_istore_n (L' := [some (.ref a), some (.int (iI 0)), none, none, none, none, none, none, none, none]) hC dX3_greatest_1 (by decide) rfl ?_
  refine zx_aload_n hC dX3_greatest_2 rfl ?_
  refine zx_getf (v := .ref fs) (T := TX3) (N := 3) (ci := 3) (fs := [.ref fs, .int (iI ((mu : Nat) : Int)), .int (iI ((pa : Nat) : Int))]) hC in_X3 (zeq ha) rfl 0 (by decide) q751 (fun _ h => h) rfl dX3_greatest_3 ?_
  refine zx_astore_n (L' := [some (.ref a), some (.int (iI 0)), some (.ref fs), none, none, none, none, none, none, none]) hC dX3_greatest_6 (by decide) rfl ?_
  refine zx_aload_n hC dX3_greatest_7 rfl ?_
  refine zx_alen hC 4 (zeq hfs) rfl dX3_greatest_8 ?_
  refine zx_istore_n (L' := [some (.ref a), some (.int (iI 0)), some (.ref fs), some (.int (iI ((len : Nat) : Int))), none, none, none, none, none, none]) hC dX3_greatest_9 (by decide) rfl ?_
  refine zx_iconst (z := 0) hC dX3_greatest_10 ?_
  refine zx_istore (L' := [some (.ref a), some (.int (iI 0)), some (.ref fs), some (.int (iI ((len : Nat) : Int))), some (.int (iI 0)), none, none, none, none, none]) hC dX3_greatest_11 (by decide) rfl ?_
  have loopA : ∀ n i : Nat, i + n = len → zV X 10 (fun _ => False) (fun H => H = (zs X).heap) 0 0 13 [some (.ref a), some (.int (iI ((zmaxT (fun k => f (k / 36) (k % 36)) (i * 36) : Nat) : Int))), some (.ref fs), some (.int (iI ((len : Nat) : Int))), some (.int (iI ((i : Nat) : Int))), none, none, none, none, none] [] := by
    intro n
    induction n with
    | zero =>
      intro i hi 
      have hiN : i = len := by omega
      rw [hiN]
      refine zx_iload hC dX3_greatest_13 rfl ?_
      refine zx_iload_n hC dX3_greatest_15 rfl ?_
      refine zx_icmp_geT (tgt := 70) hC dX3_greatest_16 (by decide) (by first | assumption | exact gI _ (by omega) | exact iRm (by omega) (by omega)) (by first | assumption | exact gI _ (by omega) | exact iRm (by omega) (by omega)) (by omega) ?_
      refine zx_iload_n hC dX3_greatest_70 rfl ?_
      exact zx_iret hC hE (Nat.le_refl _) (Nat.le_refl _) (fun H h => ⟨h, rfl⟩) dX3_greatest_71
    | succ n ih =>
      intro i hi 
      have hbb : (i + 1) * 36 ≤ 3600 := by omega
      refine zx_iload hC dX3_greatest_13 rfl ?_
      refine zx_iload_n hC dX3_greatest_15 rfl ?_
      refine zx_icmp_geF (tgt := 70) hC dX3_greatest_16 (by decide) (by first | assumption | exact gI _ (by omega) | exact iRm (by omega) (by omega)) (by first | assumption | exact gI _ (by omega) | exact iRm (by omega) (by omega)) (by omega) ?_
      refine zx_aload_n hC dX3_greatest_19 rfl ?_
      refine zx_iload hC dX3_greatest_20 rfl ?_
      refine zx_aaldN hC 4 (by omega) (zeq hfs) i (by omega) (by omega) dX3_greatest_22 ?_
      refine zx_eq (rest' := [.ref (rw i)]) rfl (by rw [hg i (by omega)]; rfl) ?_
      obtain ⟨r, hr, hrow⟩ := hrows i (by omega)
      refine zx_astore (L' := [some (.ref a), some (.int (iI ((zmaxT (fun k => f (k / 36) (k % 36)) (i * 36) : Nat) : Int))), some (.ref fs), some (.int (iI ((len : Nat) : Int))), some (.int (iI ((i : Nat) : Int))), some (.ref (rw i)), none, none, none, none]) hC dX3_greatest_23 (by decide) rfl ?_
      refine zx_aload hC dX3_greatest_25 rfl ?_
      refine zx_astore (L' := [some (.ref a), some (.int (iI ((zmaxT (fun k => f (k / 36) (k % 36)) (i * 36) : Nat) : Int))), some (.ref fs), some (.int (iI ((len : Nat) : Int))), some (.int (iI ((i : Nat) : Int))), some (.ref (rw i)), some (.ref (rw i)), none, none, none]) hC dX3_greatest_27 (by decide) rfl ?_
      refine zx_aload hC dX3_greatest_29 rfl ?_
      refine zx_alen hC 0 (zeq hrow) rfl dX3_greatest_31 ?_
      refine zx_istore (L' := [some (.ref a), some (.int (iI ((zmaxT (fun k => f (k / 36) (k % 36)) (i * 36) : Nat) : Int))), some (.ref fs), some (.int (iI ((len : Nat) : Int))), some (.int (iI ((i : Nat) : Int))), some (.ref (rw i)), some (.ref (rw i)), some (.int (iI 36)), none, none]) hC dX3_greatest_32 (by decide) rfl ?_
      rw [show i * 36 = i * 36 + 0 from rfl]
      refine zx_iconst (z := 0) hC dX3_greatest_34 ?_
      refine zx_istore (L' := [some (.ref a), some (.int (iI ((zmaxT (fun k => f (k / 36) (k % 36)) (i * 36 + 0) : Nat) : Int))), some (.ref fs), some (.int (iI ((len : Nat) : Int))), some (.int (iI ((i : Nat) : Int))), some (.ref (rw i)), some (.ref (rw i)), some (.int (iI 36)), some (.int (iI 0)), none]) hC dX3_greatest_35 (by decide) rfl ?_
      have loopB : ∀ n j : Nat, j + n = 36 → zV X 10 (fun _ => False) (fun H => H = (zs X).heap) 0 0 37 [some (.ref a), some (.int (iI ((zmaxT (fun k => f (k / 36) (k % 36)) (i * 36 + j) : Nat) : Int))), some (.ref fs), some (.int (iI ((len : Nat) : Int))), some (.int (iI ((i : Nat) : Int))), some (.ref (rw i)), some (.ref (rw i)), some (.int (iI 36)), some (.int (iI ((j : Nat) : Int))), none] [] := by
        intro n
        induction n with
        | zero =>
          intro j hj 
          have hjN : j = 36 := by omega
          rw [hjN]
          refine zx_iload hC dX3_greatest_37 rfl ?_
          refine zx_iload hC dX3_greatest_39 rfl ?_
          refine zx_icmp_geT (tgt := 64) hC dX3_greatest_41 (by decide) (by first | assumption | exact gI _ (by omega) | exact iRm (by omega) (by omega)) (by first | assumption | exact gI _ (by omega) | exact iRm (by omega) (by omega)) (by omega) ?_
          rw [show i * 36 + 36 = (i + 1) * 36 by omega]
          refine zx_iinc (b := ((i + 1 : Nat) : Int)) (L' := [some (.ref a), some (.int (iI ((zmaxT (fun k => f (k / 36) (k % 36)) ((i + 1) * 36) : Nat) : Int))), some (.ref fs), some (.int (iI ((len : Nat) : Int))), some (.int (iI ((i + 1 : Nat) : Int))), some (.ref (rw i)), some (.ref (rw i)), some (.int (iI 36)), some (.int (iI 36)), none]) hC dX3_greatest_64 rfl (by first | rfl | omega) (by decide) rfl ?_
          refine zx_goto (tgt := 13) hC dX3_greatest_67 (by decide) ?_
          refine zx_le (L' := [some (.ref a), some (.int (iI ((zmaxT (fun k => f (k / 36) (k % 36)) ((i + 1) * 36) : Nat) : Int))), some (.ref fs), some (.int (iI ((len : Nat) : Int))), some (.int (iI ((i + 1 : Nat) : Int))), none, none, none, none, none]) (zle_s (zle_s (zle_s (zle_s (zle_s (zle_n (zle_n (zle_n (zle_n (zle_n zle_0)))))))))) ?_
          exact ih (i + 1) (by omega) 
        | succ n ih =>
          intro j hj 
          refine zx_iload hC dX3_greatest_37 rfl ?_
          refine zx_iload hC dX3_greatest_39 rfl ?_
          refine zx_icmp_geF (tgt := 64) hC dX3_greatest_41 (by decide) (by first | assumption | exact gI _ (by omega) | exact iRm (by omega) (by omega)) (by first | assumption | exact gI _ (by omega) | exact iRm (by omega) (by omega)) (by omega) ?_
          have hB1 := hB (i * 36 + j)
          have hB2 := hf i j
          refine zx_aload hC dX3_greatest_44 rfl ?_
          refine zx_iload hC dX3_greatest_46 rfl ?_
          refine zx_ialdN hC (zeq hrow) j (by omega) (by omega) dX3_greatest_48 ?_
          refine zx_eq (rest' := [.int (iI ((f i j : Nat) : Int))]) rfl (by rw [hr j (by omega)]) ?_
          refine zx_istore (L' := [some (.ref a), some (.int (iI ((zmaxT (fun k => f (k / 36) (k % 36)) (i * 36 + j) : Nat) : Int))), some (.ref fs), some (.int (iI ((len : Nat) : Int))), some (.int (iI ((i : Nat) : Int))), some (.ref (rw i)), some (.ref (rw i)), some (.int (iI 36)), some (.int (iI ((j : Nat) : Int))), some (.int (iI ((f i j : Nat) : Int)))]) hC dX3_greatest_49 (by decide) rfl ?_
          refine zx_iload_n hC dX3_greatest_51 rfl ?_
          refine zx_iload hC dX3_greatest_52 rfl ?_
          refine zx_mmax hC q1445 (by rw [hRm]; exact ⟨Nat.le_of_ble_eq_true rfl, Nat.le_of_ble_eq_true rfl⟩) (Nat.le_of_ble_eq_true rfl) (by rw [hRm]; constructor <;> (first | decide | (simp only []; omega) | omega)) (by first | assumption | exact gI _ (by omega) | exact iRm (by omega) (by omega)) (by first | assumption | exact gI _ (by omega) | exact iRm (by omega) (by omega)) dX3_greatest_54 ?_
          refine zx_topi (b := ((if (zmaxT (fun k => f (k / 36) (k % 36)) (i * 36 + j)) < (f i j) then (f i j) else (zmaxT (fun k => f (k / 36) (k % 36)) (i * 36 + j)) : Nat) : Int)) (by first | rfl | (split <;> split <;> omega)) ?_
          refine zx_topi (b := ((zmaxT (fun k => f (k / 36) (k % 36)) (i * 36 + (j + 1)) : Nat) : Int)) (by rw [zflatM f (by omega)]; (repeat' split) <;> omega) ?_
          refine zx_istore_n (L' := [some (.ref a), some (.int (iI ((zmaxT (fun k => f (k / 36) (k % 36)) (i * 36 + (j + 1)) : Nat) : Int))), some (.ref fs), some (.int (iI ((len : Nat) : Int))), some (.int (iI ((i : Nat) : Int))), some (.ref (rw i)), some (.ref (rw i)), some (.int (iI 36)), some (.int (iI ((j : Nat) : Int))), some (.int (iI ((f i j : Nat) : Int)))]) hC dX3_greatest_57 (by decide) rfl ?_
          refine zx_iinc (b := ((j + 1 : Nat) : Int)) (L' := [some (.ref a), some (.int (iI ((zmaxT (fun k => f (k / 36) (k % 36)) (i * 36 + (j + 1)) : Nat) : Int))), some (.ref fs), some (.int (iI ((len : Nat) : Int))), some (.int (iI ((i : Nat) : Int))), some (.ref (rw i)), some (.ref (rw i)), some (.int (iI 36)), some (.int (iI ((j + 1 : Nat) : Int))), some (.int (iI ((f i j : Nat) : Int)))]) hC dX3_greatest_58 rfl (by first | rfl | omega) (by decide) rfl ?_
          refine zx_goto (tgt := 37) hC dX3_greatest_61 (by decide) ?_
          refine zx_le (L' := [some (.ref a), some (.int (iI ((zmaxT (fun k => f (k / 36) (k % 36)) (i * 36 + (j + 1)) : Nat) : Int))), some (.ref fs), some (.int (iI ((len : Nat) : Int))), some (.int (iI ((i : Nat) : Int))), some (.ref (rw i)), some (.ref (rw i)), some (.int (iI 36)), some (.int (iI ((j + 1 : Nat) : Int))), none]) (zle_s (zle_s (zle_s (zle_s (zle_s (zle_s (zle_s (zle_s (zle_s (zle_n zle_0)))))))))) ?_
          exact ih (j + 1) (by omega) 
      exact loopB (36) 0 (by omega) 
  exact loopA (len) 0 (by omega) 
set_option maxHeartbeats 4000000 in
theorem m_X3_init (la : Launch) (G : zG) (a : Nat) (len : Nat) (g0 : len ≤ 48) : zMA la yX3_init cX3_init 2 none 1 20 G [.ref a, .int (iI ((len : Nat) : Int))] [z1 a (.inr (3, [.null, .int (iI 0), .int (iI 0)]))] (fun v9 => v9 = none) (fun _ => [LAY G a len (fun _ _ => 0) 0 0]) (1 + len) (len + len * 36) := by
  refine zMA.of [some (.ref a), some (.int (iI ((len : Nat) : Int)))] (by decide) (Nat.le_of_ble_eq_true rfl) rfl (fun X A hl hC hnm hA hRm hE => ?_)
  refine zx_aload_n hC dX3_init_0 rfl ?_
  refine zx_obj hC q748 (by rw [hRm]; exact ⟨Nat.le_of_ble_eq_true rfl, Nat.le_of_ble_eq_true rfl⟩) (Nat.le_of_ble_eq_true rfl) dX3_init_1 ?_
  refine zx_aload_n hC dX3_init_4 rfl ?_
  refine zx_iload_n hC dX3_init_5 rfl ?_
  refine zx_bipush (z := 36) hC dX3_init_6 rfl ?_
  refine zx_multi hC hA (N := len) (by omega) q749 q239 (by rw [hRm]; constructor <;> (first | decide | (simp only []; omega) | omega)) dX3_init_8 (fun o1 => ?_)
  show zV X 2 A (zH G A (zS [z1 o1 (zQ G 4 len (fun c => some (o1 + 1 + c))), zbs len (fun c => z1 (o1 + 1 + c) (zI G 36 (fun _ => 0))), z1 a (.inr (3, [.null, .int (iI 0), .int (iI 0)]))])) (0 + (1 + len)) (0 + (len + len * 36)) 12 [some (.ref a), some (.int (iI ((len : Nat) : Int)))] [.ref o1, .ref a]
  refine zx_putf (T := TX3) (N := 3) (ci := 3) (fs := [.null, .int (iI 0), .int (iI 0)]) (fs' := [.ref o1, .int (iI 0), .int (iI 0)]) hC 2 in_X3 tyX3 tyX3_ok nmX3 rfl rfl 0 (by decide) q751 (fun _ h => h) rfl (by first | rfl | exact rfl) (by first | rfl | exact rfl) (Nat.le_of_ble_eq_true rfl) rfl dX3_init_12 ?_
  show zV X 2 A (zH G A (zS [z1 o1 (zQ G 4 len (fun c => some (o1 + 1 + c))), zbs len (fun c => z1 (o1 + 1 + c) (zI G 36 (fun _ => 0))), z1 a (.inr (3, [.ref o1, .int (iI 0), .int (iI 0)]))])) (0 + (1 + len)) (0 + (len + len * 36)) 15 [some (.ref a), some (.int (iI ((len : Nat) : Int)))] []
  refine zx_pick [1, 0, 2] rfl rfl ?_
  show zV X 2 A (zH G A (zS [zbs len (fun c => z1 (o1 + 1 + c) (zI G 36 (fun _ => 0))), z1 o1 (zQ G 4 len (fun c => some (o1 + 1 + c))), z1 a (.inr (3, [.ref o1, .int (iI 0), .int (iI 0)]))])) (0 + (1 + len)) (0 + (len + len * 36)) 15 [some (.ref a), some (.int (iI ((len : Nat) : Int)))] []
  refine zx_imp (P2 := LAr G len (fun c => o1 + 1 + c) (fun _ _ => 0)) (zbs_imp (fun c _ => zIr_mk1 (fun k _ => rfl))) ?_
  show zV X 2 A (zH G A (zS [LAr G len (fun c => o1 + 1 + c) (fun _ _ => 0), z1 o1 (zQ G 4 len (fun c => some (o1 + 1 + c))), z1 a (.inr (3, [.ref o1, .int (iI 0), .int (iI 0)]))])) (0 + (1 + len)) (0 + (len + len * 36)) 15 [some (.ref a), some (.int (iI ((len : Nat) : Int)))] []
  refine zx_pick [2, 1, 0] rfl rfl ?_
  show zV X 2 A (zH G A (zS [z1 a (.inr (3, [.ref o1, .int (iI 0), .int (iI 0)])), z1 o1 (zQ G 4 len (fun c => some (o1 + 1 + c))), LAr G len (fun c => o1 + 1 + c) (fun _ _ => 0)])) (0 + (1 + len)) (0 + (len + len * 36)) 15 [some (.ref a), some (.int (iI ((len : Nat) : Int)))] []
  refine zx_close (P1 := LAY G a len (fun _ _ => 0) 0 0) [z1 a (.inr (3, [.ref o1, .int (iI 0), .int (iI 0)])), z1 o1 (zQ G 4 len (fun c => some (o1 + 1 + c))), LAr G len (fun c => o1 + 1 + c) (fun _ _ => 0)] (LAY_mk (mu := 0) (pa := 0) (rw := fun c => o1 + 1 + c) (fun c _ => rfl)) ?_
  show zV X 2 A (zH G A (zS [LAY G a len (fun _ _ => 0) 0 0])) (0 + (1 + len)) (0 + (len + len * 36)) 15 [some (.ref a), some (.int (iI ((len : Nat) : Int)))] []
  exact zx_vret hC hE (by omega) (by omega) (fun H h => ⟨rfl, h⟩) dX3_init_15
set_option maxHeartbeats 4000000 in
theorem m_X3_adds (la : Launch) (G : zG) (a : Nat) (len : Nat) (f : Nat → Nat → Nat) (mu : Nat) (pa : Nat) (c : Nat) (k : Nat) (v : Nat) (g0 : len ≤ 100) (g1 : c < len) (g2 : k < 36) (g3 : v ≤ 1000) (hf : f c k ≤ 99) : zMA la yX3_adds cX3_adds 4 (some .int) 1 21 G [.ref a, .int (iI ((c : Nat) : Int)), .int (iI ((k : Nat) : Int)), .int (iI ((v : Nat) : Int))] [LAY G a len f mu pa] (fun v9 => v9 = some (.int (iI ((rBoth (f c k) v : Nat) : Int)))) (fun _ => [LAY G a len (va_up f c (va_up (f c) k (rBoth (f c k) v))) mu pa]) (0) (0) := by
  refine zMA.of [some (.ref a), some (.int (iI ((c : Nat) : Int))), some (.int (iI ((k : Nat) : Int))), some (.int (iI ((v : Nat) : Int)))] (by decide) (Nat.le_of_ble_eq_true rfl) rfl (fun X A hl hC hnm hA hRm hE => ?_)
  refine zx_exi (fun fs => zx_exi (fun g => zx_exi (fun rw => zx_nest (zx_pure (fun hg => ?_)))))
  show zV X 4 A (zH G A (zS [z1 a (.inr (3, [.ref fs, .int (iI ((mu : Nat) : Int)), .int (iI ((pa : Nat) : Int))])), z1 fs (zQ G 4 len g), LAr G len rw f])) (0) (0) 0 [some (.ref a), some (.int (iI ((c : Nat) : Int))), some (.int (iI ((k : Nat) : Int))), some (.int (iI ((v : Nat) : Int)))] []
  refine zx_pick [2, 0, 1] rfl rfl ?_
  show zV X 4 A (zH G A (zS [LAr G len rw f, z1 a (.inr (3, [.ref fs, .int (iI ((mu : Nat) : Int)), .int (iI ((pa : Nat) : Int))])), z1 fs (zQ G 4 len g)])) (0) (0) 0 [some (.ref a), some (.int (iI ((c : Nat) : Int))), some (.int (iI ((k : Nat) : Int))), some (.int (iI ((v : Nat) : Int)))] []
  refine zx_bout c (by omega) ?_
  show zV X 4 A (zH G A (zS [zIr G (rw c) (f c), zho len c (fun c => zIr G (rw c) (f c)), z1 a (.inr (3, [.ref fs, .int (iI ((mu : Nat) : Int)), .int (iI ((pa : Nat) : Int))])), z1 fs (zQ G 4 len g)])) (0) (0) 0 [some (.ref a), some (.int (iI ((c : Nat) : Int))), some (.int (iI ((k : Nat) : Int))), some (.int (iI ((v : Nat) : Int)))] []
  refine zx_exi (fun r => zx_nest (zx_pure (fun hr => ?_)))
  show zV X 4 A (zH G A (zS [z1 (rw c) (zI G 36 r), zho len c (fun c => zIr G (rw c) (f c)), z1 a (.inr (3, [.ref fs, .int (iI ((mu : Nat) : Int)), .int (iI ((pa : Nat) : Int))])), z1 fs (zQ G 4 len g)])) (0) (0) 0 [some (.ref a), some (.int (iI ((c : Nat) : Int))), some (.int (iI ((k : Nat) : Int))), some (.int (iI ((v : Nat) : Int)))] []
  refine zx_aload_n hC dX3_adds_0 rfl ?_
  refine zx_getf (v := .ref fs) (T := TX3) (N := 3) (ci := 3) (fs := [.ref fs, .int (iI ((mu : Nat) : Int)), .int (iI ((pa : Nat) : Int))]) hC in_X3 (zat 2 rfl) rfl 0 (by decide) q751 (fun _ h => h) rfl dX3_adds_1 ?_
  refine zx_iload_n hC dX3_adds_4 rfl ?_
  refine zx_aaldN hC 4 (by omega) (zat 3 rfl) c (by omega) (by omega) dX3_adds_5 ?_
  refine zx_eq (rest' := [.ref (rw c)]) rfl (by rw [hg c (by omega)]; rfl) ?_
  refine zx_iload_n hC dX3_adds_6 rfl ?_
  refine zx_bipush (z := 99) hC dX3_adds_7 rfl ?_
  refine zx_aload_n hC dX3_adds_9 rfl ?_
  refine zx_getf (v := .ref fs) (T := TX3) (N := 3) (ci := 3) (fs := [.ref fs, .int (iI ((mu : Nat) : Int)), .int (iI ((pa : Nat) : Int))]) hC in_X3 (zat 2 rfl) rfl 0 (by decide) q751 (fun _ h => h) rfl dX3_adds_10 ?_
  refine zx_iload_n hC dX3_adds_13 rfl ?_
  refine zx_aaldN hC 4 (by omega) (zat 3 rfl) c (by omega) (by omega) dX3_adds_14 ?_
  refine zx_eq (rest' := [.ref (rw c), .int (iI 99), .int (iI ((k : Nat) : Int)), .ref (rw c)]) rfl (by rw [hg c (by omega)]; rfl) ?_
  refine zx_iload_n hC dX3_adds_15 rfl ?_
  refine zx_ialdN hC (zat 0 rfl) k (by omega) (by omega) dX3_adds_16 ?_
  refine zx_eq (rest' := [.int (iI ((f c k : Nat) : Int)), .int (iI 99), .int (iI ((k : Nat) : Int)), .ref (rw c)]) rfl (by rw [hr k (by omega)]) ?_
  refine zx_iload_n hC dX3_adds_17 rfl ?_
  refine zx_iadd hC dX3_adds_18 ?_
  refine zx_mmin hC q959 (by rw [hRm]; exact ⟨Nat.le_of_ble_eq_true rfl, Nat.le_of_ble_eq_true rfl⟩) (Nat.le_of_ble_eq_true rfl) (by rw [hRm]; constructor <;> (first | decide | (simp only []; omega) | omega)) (by first | assumption | exact gI _ (by omega) | exact iRm (by omega) (by omega)) (by first | assumption | exact gI _ (by omega) | exact iRm (by omega) (by omega)) dX3_adds_19 ?_
  refine zx_topi (b := ((if ((f c k) + v) < 99 then ((f c k) + v) else 99 : Nat) : Int)) (by first | rfl | (split <;> split <;> omega)) ?_
  refine zx_topi (b := ((rBoth (f c k) v : Nat) : Int)) (by rfl) ?_
  refine zx_iastN (f' := (upd r k (iI ((rBoth (f c k) v : Nat) : Int)))) hC 0 rfl k (by omega) (by omega) (rfl) dX3_adds_22 ?_
  show zV X 4 A (zH G A (zS [z1 (rw c) (zI G 36 (upd r k (iI ((rBoth (f c k) v : Nat) : Int)))), zho len c (fun c => zIr G (rw c) (f c)), z1 a (.inr (3, [.ref fs, .int (iI ((mu : Nat) : Int)), .int (iI ((pa : Nat) : Int))])), z1 fs (zQ G 4 len g)])) (0) (0) 23 [some (.ref a), some (.int (iI ((c : Nat) : Int))), some (.int (iI ((k : Nat) : Int))), some (.int (iI ((v : Nat) : Int)))] []
  refine zx_aload_n hC dX3_adds_23 rfl ?_
  refine zx_getf (v := .ref fs) (T := TX3) (N := 3) (ci := 3) (fs := [.ref fs, .int (iI ((mu : Nat) : Int)), .int (iI ((pa : Nat) : Int))]) hC in_X3 (zat 2 rfl) rfl 0 (by decide) q751 (fun _ h => h) rfl dX3_adds_24 ?_
  refine zx_iload_n hC dX3_adds_27 rfl ?_
  refine zx_aaldN hC 4 (by omega) (zat 3 rfl) c (by omega) (by omega) dX3_adds_28 ?_
  refine zx_eq (rest' := [.ref (rw c)]) rfl (by rw [hg c (by omega)]; rfl) ?_
  refine zx_iload_n hC dX3_adds_29 rfl ?_
  refine zx_ialdN hC (zat 0 rfl) k (by omega) (by omega) dX3_adds_30 ?_
  refine zx_eq (rest' := [.int (iI ((rBoth (f c k) v : Nat) : Int))]) rfl (by simp [upd]) ?_
  refine zx_close (P1 := zIr G (rw c) ((va_up f c (va_up (f c) k (rBoth (f c k) v))) c)) [z1 (rw c) (zI G 36 (upd r k (iI ((rBoth (f c k) v : Nat) : Int))))] (zIr_mk (fun k9 hk9 => by rw [va_up_self]; simp only [upd, va_up]; by_cases e : k9 = k <;> simp only [e, if_true, if_false] <;> (first | rfl | exact hr k9 hk9))) ?_
  show zV X 4 A (zH G A (zS [zIr G (rw c) ((va_up f c (va_up (f c) k (rBoth (f c k) v))) c), zho len c (fun c => zIr G (rw c) (f c)), z1 a (.inr (3, [.ref fs, .int (iI ((mu : Nat) : Int)), .int (iI ((pa : Nat) : Int))])), z1 fs (zQ G 4 len g)])) (0) (0) 31 [some (.ref a), some (.int (iI ((c : Nat) : Int))), some (.int (iI ((k : Nat) : Int))), some (.int (iI ((v : Nat) : Int)))] [.int (iI ((rBoth (f c k) v : Nat) : Int))]
  refine zx_bin (fun c9 => zIr G (rw c9) ((va_up f c (va_up (f c) k (rBoth (f c k) v))) c9)) (by omega) rfl (fun c9 _ e => by rw [va_up_ne _ _ e]) ?_
  show zV X 4 A (zH G A (zS [LAr G len rw (va_up f c (va_up (f c) k (rBoth (f c k) v))), z1 a (.inr (3, [.ref fs, .int (iI ((mu : Nat) : Int)), .int (iI ((pa : Nat) : Int))])), z1 fs (zQ G 4 len g)])) (0) (0) 31 [some (.ref a), some (.int (iI ((c : Nat) : Int))), some (.int (iI ((k : Nat) : Int))), some (.int (iI ((v : Nat) : Int)))] [.int (iI ((rBoth (f c k) v : Nat) : Int))]
  refine zx_pick [1, 2, 0] rfl rfl ?_
  show zV X 4 A (zH G A (zS [z1 a (.inr (3, [.ref fs, .int (iI ((mu : Nat) : Int)), .int (iI ((pa : Nat) : Int))])), z1 fs (zQ G 4 len g), LAr G len rw (va_up f c (va_up (f c) k (rBoth (f c k) v)))])) (0) (0) 31 [some (.ref a), some (.int (iI ((c : Nat) : Int))), some (.int (iI ((k : Nat) : Int))), some (.int (iI ((v : Nat) : Int)))] [.int (iI ((rBoth (f c k) v : Nat) : Int))]
  refine zx_close (P1 := LAY G a len (va_up f c (va_up (f c) k (rBoth (f c k) v))) mu pa) [z1 a (.inr (3, [.ref fs, .int (iI ((mu : Nat) : Int)), .int (iI ((pa : Nat) : Int))])), z1 fs (zQ G 4 len g), LAr G len rw (va_up f c (va_up (f c) k (rBoth (f c k) v)))] (LAY_mk hg) ?_
  show zV X 4 A (zH G A (zS [LAY G a len (va_up f c (va_up (f c) k (rBoth (f c k) v))) mu pa])) (0) (0) 31 [some (.ref a), some (.int (iI ((c : Nat) : Int))), some (.int (iI ((k : Nat) : Int))), some (.int (iI ((v : Nat) : Int)))] [.int (iI ((rBoth (f c k) v : Nat) : Int))]
  exact zx_iret hC hE (by omega) (by omega) (fun H h => ⟨rfl, h⟩) dX3_adds_31
set_option maxHeartbeats 4000000 in
theorem m_X3_fades (la : Launch) (G : zG) (a : Nat) (len : Nat) (f : Nat → Nat → Nat) (mu : Nat) (pa : Nat) (fade : Nat) (g0 : len ≤ 100) (g1 : fade ≤ 100) (hf : ∀ c k, f c k ≤ 99) : zMA la yX3_fades cX3_fades 7 none 0 0 G [.ref a, .int (iI ((fade : Nat) : Int))] [LAY G a len f mu pa] (fun v9 => v9 = none) (fun _ => [LAY G a len (ffad fade f len) mu pa]) (0) (0) := by
  refine zMA.of [some (.ref a), some (.int (iI ((fade : Nat) : Int))), none, none, none, none, none] (by decide) (Nat.le_of_ble_eq_true rfl) rfl (fun X A hl hC hnm hA hRm hE => ?_)
  refine zx_exi (fun fs => zx_exi (fun g => zx_exi (fun rw => zx_nest (zx_pure (fun hg => ?_)))))
  show zV X 7 A (zH G A (zS [z1 a (.inr (3, [.ref fs, .int (iI ((mu : Nat) : Int)), .int (iI ((pa : Nat) : Int))])), z1 fs (zQ G 4 len g), LAr G len rw f])) (0) (0) 0 [some (.ref a), some (.int (iI ((fade : Nat) : Int))), none, none, none, none, none] []
  refine zx_pick [2, 0, 1] rfl rfl ?_
  show zV X 7 A (zH G A (zS [LAr G len rw f, z1 a (.inr (3, [.ref fs, .int (iI ((mu : Nat) : Int)), .int (iI ((pa : Nat) : Int))])), z1 fs (zQ G 4 len g)])) (0) (0) 0 [some (.ref a), some (.int (iI ((fade : Nat) : Int))), none, none, none, none, none] []
  refine zx_imp (P2 := LAr G len rw (ffad fade f 0)) (zbs_imp (fun c _ => zIr_imp (fun k _ => by simp [ffad]))) ?_
  show zV X 7 A (zH G A (zS [LAr G len rw (ffad fade f 0), z1 a (.inr (3, [.ref fs, .int (iI ((mu : Nat) : Int)), .int (iI ((pa : Nat) : Int))])), z1 fs (zQ G 4 len g)])) (0) (0) 0 [some (.ref a), some (.int (iI ((fade : Nat) : Int))), none, none, none, none, none] []
  refine zx_pick [1, 2, 0] rfl rfl ?_
  show zV X 7 A (zH G A (zS [z1 a (.inr (3, [.ref fs, .int (iI ((mu : Nat) : Int)), .int (iI ((pa : Nat) : Int))])), z1 fs (zQ G 4 len g), LAr G len rw (ffad fade f 0)])) (0) (0) 0 [some (.ref a), some (.int (iI ((fade : Nat) : Int))), none, none, none, none, none] []
  refine zx_aload_n hC dX3_fades_0 rfl ?_
  refine zx_getf (v := .ref fs) (T := TX3) (N := 3) (ci := 3) (fs := [.ref fs, .int (iI ((mu : Nat) : Int)), .int (iI ((pa : Nat) : Int))]) hC in_X3 (zat 0 rfl) rfl 0 (by decide) q751 (fun _ h => h) rfl dX3_fades_1 ?_
  refine zx_astore_n (L' := [some (.ref a), some (.int (iI ((fade : Nat) : Int))), some (.ref fs), none, none, none, none]) hC dX3_fades_4 (by decide) rfl ?_
  refine zx_aload_n hC dX3_fades_5 rfl ?_
  refine zx_alen hC 4 (zat 1 rfl) rfl dX3_fades_6 ?_
  refine zx_istore_n (L' := [some (.ref a), some (.int (iI ((fade : Nat) : Int))), some (.ref fs), some (.int (iI ((len : Nat) : Int))), none, none, none]) hC dX3_fades_7 (by decide) rfl ?_
  refine zx_iconst (z := 0) hC dX3_fades_8 ?_
  refine zx_istore (L' := [some (.ref a), some (.int (iI ((fade : Nat) : Int))), some (.ref fs), some (.int (iI ((len : Nat) : Int))), some (.int (iI 0)), none, none]) hC dX3_fades_9 (by decide) rfl ?_
  have loopA : ∀ n i : Nat, i + n = len → zV X 7 A (zH G A (zS [z1 a (.inr (3, [.ref fs, .int (iI ((mu : Nat) : Int)), .int (iI ((pa : Nat) : Int))])), z1 fs (zQ G 4 len g), LAr G len rw (ffad fade f i)])) (0) (0) 11 [some (.ref a), some (.int (iI ((fade : Nat) : Int))), some (.ref fs), some (.int (iI ((len : Nat) : Int))), some (.int (iI ((i : Nat) : Int))), none, none] [] := by
    intro n
    induction n with
    | zero =>
      intro i hi 
      have hiN : i = len := by omega
      rw [hiN]
      refine zx_iload hC dX3_fades_11 rfl ?_
      refine zx_iload_n hC dX3_fades_13 rfl ?_
      refine zx_icmp_geT (tgt := 63) hC dX3_fades_14 (by decide) (by first | assumption | exact gI _ (by omega) | exact iRm (by omega) (by omega)) (by first | assumption | exact gI _ (by omega) | exact iRm (by omega) (by omega)) (by omega) ?_
      refine zx_close (P1 := LAY G a len (ffad fade f len) mu pa) [z1 a (.inr (3, [.ref fs, .int (iI ((mu : Nat) : Int)), .int (iI ((pa : Nat) : Int))])), z1 fs (zQ G 4 len g), LAr G len rw (ffad fade f len)] (LAY_mk hg) ?_
      show zV X 7 A (zH G A (zS [LAY G a len (ffad fade f len) mu pa])) (0) (0) 63 [some (.ref a), some (.int (iI ((fade : Nat) : Int))), some (.ref fs), some (.int (iI ((len : Nat) : Int))), some (.int (iI ((len : Nat) : Int))), none, none] []
      exact zx_vret hC hE (by omega) (by omega) (fun H h => ⟨rfl, h⟩) dX3_fades_63
    | succ n ih =>
      intro i hi 
      refine zx_iload hC dX3_fades_11 rfl ?_
      refine zx_iload_n hC dX3_fades_13 rfl ?_
      refine zx_icmp_geF (tgt := 63) hC dX3_fades_14 (by decide) (by first | assumption | exact gI _ (by omega) | exact iRm (by omega) (by omega)) (by first | assumption | exact gI _ (by omega) | exact iRm (by omega) (by omega)) (by omega) ?_
      refine zx_aload_n hC dX3_fades_17 rfl ?_
      refine zx_iload hC dX3_fades_18 rfl ?_
      refine zx_aaldN hC 4 (by omega) (zat 1 rfl) i (by omega) (by omega) dX3_fades_20 ?_
      refine zx_eq (rest' := [.ref (rw i)]) rfl (by rw [hg i (by omega)]; rfl) ?_
      refine zx_astore (L' := [some (.ref a), some (.int (iI ((fade : Nat) : Int))), some (.ref fs), some (.int (iI ((len : Nat) : Int))), some (.int (iI ((i : Nat) : Int))), some (.ref (rw i)), none]) hC dX3_fades_21 (by decide) rfl ?_
      refine zx_pick [2, 0, 1] rfl rfl ?_
      show zV X 7 A (zH G A (zS [LAr G len rw (ffad fade f i), z1 a (.inr (3, [.ref fs, .int (iI ((mu : Nat) : Int)), .int (iI ((pa : Nat) : Int))])), z1 fs (zQ G 4 len g)])) (0) (0) 23 [some (.ref a), some (.int (iI ((fade : Nat) : Int))), some (.ref fs), some (.int (iI ((len : Nat) : Int))), some (.int (iI ((i : Nat) : Int))), some (.ref (rw i)), none] []
      refine zx_bout i (by omega) ?_
      show zV X 7 A (zH G A (zS [zIr G (rw i) ((ffad fade f i) i), zho len i (fun c => zIr G (rw c) ((ffad fade f i) c)), z1 a (.inr (3, [.ref fs, .int (iI ((mu : Nat) : Int)), .int (iI ((pa : Nat) : Int))])), z1 fs (zQ G 4 len g)])) (0) (0) 23 [some (.ref a), some (.int (iI ((fade : Nat) : Int))), some (.ref fs), some (.int (iI ((len : Nat) : Int))), some (.int (iI ((i : Nat) : Int))), some (.ref (rw i)), none] []
      refine zx_exi (fun r => zx_nest (zx_pure (fun hr => ?_)))
      show zV X 7 A (zH G A (zS [z1 (rw i) (zI G 36 r), zho len i (fun c => zIr G (rw c) ((ffad fade f i) c)), z1 a (.inr (3, [.ref fs, .int (iI ((mu : Nat) : Int)), .int (iI ((pa : Nat) : Int))])), z1 fs (zQ G 4 len g)])) (0) (0) 23 [some (.ref a), some (.int (iI ((fade : Nat) : Int))), some (.ref fs), some (.int (iI ((len : Nat) : Int))), some (.int (iI ((i : Nat) : Int))), some (.ref (rw i)), none] []
      rw [← frow_0 r (fun k => f i k * (100 - fade) / 100)]
      refine zx_iconst (z := 0) hC dX3_fades_23 ?_
      refine zx_istore (L' := [some (.ref a), some (.int (iI ((fade : Nat) : Int))), some (.ref fs), some (.int (iI ((len : Nat) : Int))), some (.int (iI ((i : Nat) : Int))), some (.ref (rw i)), some (.int (iI 0))]) hC dX3_fades_24 (by decide) rfl ?_
      have loopB : ∀ n j : Nat, j + n = 36 → zV X 7 A (zH G A (zS [z1 (rw i) (zI G 36 (frow r (fun k => f i k * (100 - fade) / 100) j)), zho len i (fun c => zIr G (rw c) ((ffad fade f i) c)), z1 a (.inr (3, [.ref fs, .int (iI ((mu : Nat) : Int)), .int (iI ((pa : Nat) : Int))])), z1 fs (zQ G 4 len g)])) (0) (0) 26 [some (.ref a), some (.int (iI ((fade : Nat) : Int))), some (.ref fs), some (.int (iI ((len : Nat) : Int))), some (.int (iI ((i : Nat) : Int))), some (.ref (rw i)), some (.int (iI ((j : Nat) : Int)))] [] := by
        intro n
        induction n with
        | zero =>
          intro j hj 
          have hjN : j = 36 := by omega
          rw [hjN]
          refine zx_iload hC dX3_fades_26 rfl ?_
          refine zx_bipush (z := 36) hC dX3_fades_28 rfl ?_
          refine zx_icmp_geT (tgt := 57) hC dX3_fades_30 (by decide) (by first | assumption | exact gI _ (by omega) | exact iRm (by omega) (by omega)) (by first | assumption | exact gI _ (by omega) | exact iRm (by omega) (by omega)) (by omega) ?_
          refine zx_close (P1 := zIr G (rw i) ((ffad fade f (i + 1)) i)) [z1 (rw i) (zI G 36 (frow r (fun k => f i k * (100 - fade) / 100) 36))] (zIr_mk (fun k9 hk9 => by rw [frow_e k9 hk9]; simp [ffad])) ?_
          show zV X 7 A (zH G A (zS [zIr G (rw i) ((ffad fade f (i + 1)) i), zho len i (fun c => zIr G (rw c) ((ffad fade f i) c)), z1 a (.inr (3, [.ref fs, .int (iI ((mu : Nat) : Int)), .int (iI ((pa : Nat) : Int))])), z1 fs (zQ G 4 len g)])) (0) (0) 57 [some (.ref a), some (.int (iI ((fade : Nat) : Int))), some (.ref fs), some (.int (iI ((len : Nat) : Int))), some (.int (iI ((i : Nat) : Int))), some (.ref (rw i)), some (.int (iI 36))] []
          refine zx_bin (fun c9 => zIr G (rw c9) ((ffad fade f (i + 1)) c9)) (by omega) rfl (fun c9 _ e => by have e2 : (ffad fade f (i + 1)) c9 = (ffad fade f i) c9 := (by funext k9; simp only [ffad]; by_cases q : c9 < i <;> simp only [q, if_true, if_false] <;> (first | rw [if_pos (by omega)] | rw [if_neg (by omega)])); rw [e2]) ?_
          show zV X 7 A (zH G A (zS [LAr G len rw (ffad fade f (i + 1)), z1 a (.inr (3, [.ref fs, .int (iI ((mu : Nat) : Int)), .int (iI ((pa : Nat) : Int))])), z1 fs (zQ G 4 len g)])) (0) (0) 57 [some (.ref a), some (.int (iI ((fade : Nat) : Int))), some (.ref fs), some (.int (iI ((len : Nat) : Int))), some (.int (iI ((i : Nat) : Int))), some (.ref (rw i)), some (.int (iI 36))] []
          refine zx_pick [1, 2, 0] rfl rfl ?_
          show zV X 7 A (zH G A (zS [z1 a (.inr (3, [.ref fs, .int (iI ((mu : Nat) : Int)), .int (iI ((pa : Nat) : Int))])), z1 fs (zQ G 4 len g), LAr G len rw (ffad fade f (i + 1))])) (0) (0) 57 [some (.ref a), some (.int (iI ((fade : Nat) : Int))), some (.ref fs), some (.int (iI ((len : Nat) : Int))), some (.int (iI ((i : Nat) : Int))), some (.ref (rw i)), some (.int (iI 36))] []
          refine zx_iinc (b := ((i + 1 : Nat) : Int)) (L' := [some (.ref a), some (.int (iI ((fade : Nat) : Int))), some (.ref fs), some (.int (iI ((len : Nat) : Int))), some (.int (iI ((i + 1 : Nat) : Int))), some (.ref (rw i)), some (.int (iI 36))]) hC dX3_fades_57 rfl (by first | rfl | omega) (by decide) rfl ?_
          refine zx_goto (tgt := 11) hC dX3_fades_60 (by decide) ?_
          refine zx_le (L' := [some (.ref a), some (.int (iI ((fade : Nat) : Int))), some (.ref fs), some (.int (iI ((len : Nat) : Int))), some (.int (iI ((i + 1 : Nat) : Int))), none, none]) (zle_s (zle_s (zle_s (zle_s (zle_s (zle_n (zle_n zle_0))))))) ?_
          exact ih (i + 1) (by omega) 
        | succ n ih =>
          intro j hj 
          refine zx_iload hC dX3_fades_26 rfl ?_
          refine zx_bipush (z := 36) hC dX3_fades_28 rfl ?_
          refine zx_icmp_geF (tgt := 57) hC dX3_fades_30 (by decide) (by first | assumption | exact gI _ (by omega) | exact iRm (by omega) (by omega)) (by first | assumption | exact gI _ (by omega) | exact iRm (by omega) (by omega)) (by omega) ?_
          refine zx_aload hC dX3_fades_33 rfl ?_
          refine zx_iload hC dX3_fades_35 rfl ?_
          refine zx_aload hC dX3_fades_37 rfl ?_
          refine zx_iload hC dX3_fades_39 rfl ?_
          refine zx_ialdN hC (zat 0 rfl) j (by omega) (by omega) dX3_fades_41 ?_
          refine zx_eq (rest' := [.int (iI ((f i j : Nat) : Int)), .int (iI ((j : Nat) : Int)), .ref (rw i)]) rfl (by rw [frow_at, hr j (by omega)]; simp [ffad]) ?_
          have hB2 := hf i j
          have hB3 : f i j * (100 - fade) ≤ 99 * 100 := Nat.mul_le_mul hB2 (by omega)
          refine zx_bipush (z := 100) hC dX3_fades_42 rfl ?_
          refine zx_iload_n hC dX3_fades_44 rfl ?_
          refine zx_isub hC dX3_fades_45 ?_
          refine zx_topi (b := ((100 - fade : Nat) : Int)) (by omega) ?_
          refine zx_imul hC dX3_fades_46 ?_
          refine zx_bipush (z := 100) hC dX3_fades_47 rfl ?_
          refine zx_idiv hC dX3_fades_49 (by first | assumption | exact gI _ (by omega) | exact iRm (by omega) (by omega)) (by first | assumption | exact gI _ (by omega) | exact iRm (by omega) (by omega)) (by omega) (by omega) ?_
          refine zx_iastN (f' := (frow r (fun k => f i k * (100 - fade) / 100) (j + 1))) hC 0 rfl j (by omega) (by omega) (frow_s r (fun k => f i k * (100 - fade) / 100) j) dX3_fades_50 ?_
          show zV X 7 A (zH G A (zS [z1 (rw i) (zI G 36 (frow r (fun k => f i k * (100 - fade) / 100) (j + 1))), zho len i (fun c => zIr G (rw c) ((ffad fade f i) c)), z1 a (.inr (3, [.ref fs, .int (iI ((mu : Nat) : Int)), .int (iI ((pa : Nat) : Int))])), z1 fs (zQ G 4 len g)])) (0) (0) 51 [some (.ref a), some (.int (iI ((fade : Nat) : Int))), some (.ref fs), some (.int (iI ((len : Nat) : Int))), some (.int (iI ((i : Nat) : Int))), some (.ref (rw i)), some (.int (iI ((j : Nat) : Int)))] []
          refine zx_iinc (b := ((j + 1 : Nat) : Int)) (L' := [some (.ref a), some (.int (iI ((fade : Nat) : Int))), some (.ref fs), some (.int (iI ((len : Nat) : Int))), some (.int (iI ((i : Nat) : Int))), some (.ref (rw i)), some (.int (iI ((j + 1 : Nat) : Int)))]) hC dX3_fades_51 rfl (by first | rfl | omega) (by decide) rfl ?_
          refine zx_goto (tgt := 26) hC dX3_fades_54 (by decide) ?_
          exact ih (j + 1) (by omega) 
      exact loopB (36) 0 (by omega) 
  exact loopA (len) 0 (by omega) 
set_option maxHeartbeats 4000000 in
theorem m_X3_ofLength (la : Launch) (G : zG) (a : Nat) (len : Nat) (f : Nat → Nat → Nat) (mu : Nat) (pa : Nat) (lp : Nat) (g0 : len ≤ 48) (g1 : lp ≤ 48) : zMA la yX3_ofLength cX3_ofLength 4 (some (.object "PedalLayers$Layer")) 2 41 G [.ref a, .int (iI ((lp : Nat) : Int))] [LAY G a len f mu pa] (fun v9 => ∃ b, v9 = some (.ref b)) (fun v9 => (fun b => [LAY G a len f mu pa, LAY G b lp (fcut f (if len < lp then len else lp)) 0 0]) (zad v9)) (100) (3600) := by
  refine zMA.of [some (.ref a), some (.int (iI ((lp : Nat) : Int))), none, none] (by decide) (Nat.le_of_ble_eq_true rfl) rfl (fun X A hl hC hnm hA hRm hE => ?_)
  have hLm : (if len < lp then len else lp) ≤ lp ∧ (if len < lp then len else lp) ≤ len := by split <;> omega
  refine zx_new (T := TX3) (N := 3) (ci := 3) (fs := [.null, .int (iI 0), .int (iI 0)]) hC hA in_X3 tyX3 tyX3_ok q743 q744 q106 rfl (by decide) (by rw [hRm]; constructor <;> (first | decide | (simp only []; omega) | omega)) dX3_ofLength_0 (fun o1 => ?_)
  show zV X 4 A (zH G A (zS [z1 o1 (.inr (3, [.null, .int (iI 0), .int (iI 0)])), LAY G a len f mu pa])) (1) (3) 3 [some (.ref a), some (.int (iI ((lp : Nat) : Int))), none, none] [.ref o1]
  refine zx_dup hC dX3_ofLength_3 rfl ?_
  refine zx_iload_n hC dX3_ofLength_4 rfl ?_
  refine zx_ma0 (Q := fun _ => [LAY G o1 lp (fun _ _ => 0) 0 0]) hC hA [0] [1] (zcI 1 (As := [.int (iI ((lp : Nat) : Int))]) hC (lw_meth q747) q106 q745 q746 (by decide +kernel) rfl rfl (by rw [hRm]; exact ⟨Nat.le_of_ble_eq_true rfl, Nat.le_of_ble_eq_true rfl⟩) (by rw [hRm]; constructor <;> (first | decide | (simp only []; omega) | omega)) rfl (Nat.le_of_ble_eq_true rfl) dX3_ofLength_5) (m_X3_init (zl X) G o1 lp (by first | assumption | omega | decide | exact iRm (by omega) (by omega) | ((repeat (first | exact gL | refine rLs.up ?_ (by omega) (by omega) | refine rLs.fad ?_)); done) | ((repeat (first | exact gM | refine rHM.up ?_ (by omega))); done) | exact gT _ (by omega) | exact rFadF_le gF _ | ((repeat first | rw [va_up_ne _ _ (by omega)] | rw [va_up_self] | rw [rFadH_o (by omega)] | rw [rAge_o _ _ (by omega)] | rw [rLayH_o (by omega) (by omega) (by omega) (by omega)]); omega))) (fun _ _ => trivial) rfl rfl rfl ?_
  show zV X 4 A (zH G A (zS [LAY G a len f mu pa, LAY G o1 lp (fun _ _ => 0) 0 0])) (1 + (1 + lp)) (3 + (lp + lp * 36)) 8 [some (.ref a), some (.int (iI ((lp : Nat) : Int))), none, none] [.ref o1]
  refine zx_astore_n (L' := [some (.ref a), some (.int (iI ((lp : Nat) : Int))), some (.ref o1), none]) hC dX3_ofLength_8 (by decide) rfl ?_
  refine zx_exi (fun fs => zx_exi (fun g => zx_exi (fun rw => zx_nest (zx_pure (fun hg => ?_)))))
  show zV X 4 A (zH G A (zS [z1 a (.inr (3, [.ref fs, .int (iI ((mu : Nat) : Int)), .int (iI ((pa : Nat) : Int))])), z1 fs (zQ G 4 len g), LAr G len rw f, LAY G o1 lp (fun _ _ => 0) 0 0])) (1 + (1 + lp)) (3 + (lp + lp * 36)) 9 [some (.ref a), some (.int (iI ((lp : Nat) : Int))), some (.ref o1), none] []
  refine zx_pick [3, 0, 1, 2] rfl rfl ?_
  show zV X 4 A (zH G A (zS [LAY G o1 lp (fun _ _ => 0) 0 0, z1 a (.inr (3, [.ref fs, .int (iI ((mu : Nat) : Int)), .int (iI ((pa : Nat) : Int))])), z1 fs (zQ G 4 len g), LAr G len rw f])) (1 + (1 + lp)) (3 + (lp + lp * 36)) 9 [some (.ref a), some (.int (iI ((lp : Nat) : Int))), some (.ref o1), none] []
  refine zx_exi (fun fs2 => zx_exi (fun g2 => zx_exi (fun rw2 => zx_nest (zx_pure (fun hg2 => ?_)))))
  show zV X 4 A (zH G A (zS [z1 o1 (.inr (3, [.ref fs2, .int (iI 0), .int (iI 0)])), z1 fs2 (zQ G 4 lp g2), LAr G lp rw2 (fun _ _ => 0), z1 a (.inr (3, [.ref fs, .int (iI ((mu : Nat) : Int)), .int (iI ((pa : Nat) : Int))])), z1 fs (zQ G 4 len g), LAr G len rw f])) (1 + (1 + lp)) (3 + (lp + lp * 36)) 9 [some (.ref a), some (.int (iI ((lp : Nat) : Int))), some (.ref o1), none] []
  refine zx_pick [2, 0, 1, 3, 4, 5] rfl rfl ?_
  show zV X 4 A (zH G A (zS [LAr G lp rw2 (fun _ _ => 0), z1 o1 (.inr (3, [.ref fs2, .int (iI 0), .int (iI 0)])), z1 fs2 (zQ G 4 lp g2), z1 a (.inr (3, [.ref fs, .int (iI ((mu : Nat) : Int)), .int (iI ((pa : Nat) : Int))])), z1 fs (zQ G 4 len g), LAr G len rw f])) (1 + (1 + lp)) (3 + (lp + lp * 36)) 9 [some (.ref a), some (.int (iI ((lp : Nat) : Int))), some (.ref o1), none] []
  refine zx_imp (P2 := LAr G lp rw2 (fcut f 0)) (zbs_imp (fun c _ => zIr_imp (fun k _ => by simp [fcut]))) ?_
  show zV X 4 A (zH G A (zS [LAr G lp rw2 (fcut f 0), z1 o1 (.inr (3, [.ref fs2, .int (iI 0), .int (iI 0)])), z1 fs2 (zQ G 4 lp g2), z1 a (.inr (3, [.ref fs, .int (iI ((mu : Nat) : Int)), .int (iI ((pa : Nat) : Int))])), z1 fs (zQ G 4 len g), LAr G len rw f])) (1 + (1 + lp)) (3 + (lp + lp * 36)) 9 [some (.ref a), some (.int (iI ((lp : Nat) : Int))), some (.ref o1), none] []
  refine zx_pick [1, 2, 0, 3, 4, 5] rfl rfl ?_
  show zV X 4 A (zH G A (zS [z1 o1 (.inr (3, [.ref fs2, .int (iI 0), .int (iI 0)])), z1 fs2 (zQ G 4 lp g2), LAr G lp rw2 (fcut f 0), z1 a (.inr (3, [.ref fs, .int (iI ((mu : Nat) : Int)), .int (iI ((pa : Nat) : Int))])), z1 fs (zQ G 4 len g), LAr G len rw f])) (1 + (1 + lp)) (3 + (lp + lp * 36)) 9 [some (.ref a), some (.int (iI ((lp : Nat) : Int))), some (.ref o1), none] []
  refine zx_iconst (z := 0) hC dX3_ofLength_9 ?_
  refine zx_istore_n (L' := [some (.ref a), some (.int (iI ((lp : Nat) : Int))), some (.ref o1), some (.int (iI 0))]) hC dX3_ofLength_10 (by decide) rfl ?_
  have loop : ∀ (m i : Nat) (g2 : Nat → Option Nat) (rw2 : Nat → Nat), i + m = (if len < lp then len else lp) → gset g2 rw2 lp → zV X 4 A (zH G A (zS [z1 o1 (.inr (3, [.ref fs2, .int (iI 0), .int (iI 0)])), z1 fs2 (zQ G 4 lp g2), LAr G lp rw2 (fcut f i), z1 a (.inr (3, [.ref fs, .int (iI ((mu : Nat) : Int)), .int (iI ((pa : Nat) : Int))])), z1 fs (zQ G 4 len g), LAr G len rw f])) (1 + (1 + lp) + i) (3 + (lp + lp * 36) + 36 * i) 11 [some (.ref a), some (.int (iI ((lp : Nat) : Int))), some (.ref o1), some (.int (iI ((i : Nat) : Int)))] [] := by
    intro m
    induction m with
    | zero =>
      intro i g2 rw2 hi hg2
      have hiL : i = (if len < lp then len else lp) := by omega
      refine zx_iload_n hC dX3_ofLength_11 rfl ?_
      refine zx_iload_n hC dX3_ofLength_12 rfl ?_
      refine zx_aload_n hC dX3_ofLength_13 rfl ?_
      refine zx_getf (v := .ref fs) (T := TX3) (N := 3) (ci := 3) (fs := [.ref fs, .int (iI ((mu : Nat) : Int)), .int (iI ((pa : Nat) : Int))]) hC in_X3 (zat 3 rfl) rfl 0 (by decide) q751 (fun _ h => h) rfl dX3_ofLength_14 ?_
      refine zx_alen hC 4 (zat 4 rfl) rfl dX3_ofLength_17 ?_
      refine zx_mmin hC q959 (by rw [hRm]; exact ⟨Nat.le_of_ble_eq_true rfl, Nat.le_of_ble_eq_true rfl⟩) (Nat.le_of_ble_eq_true rfl) (by rw [hRm]; constructor <;> (first | decide | (simp only []; omega) | omega)) (by first | assumption | exact gI _ (by omega) | exact iRm (by omega) (by omega)) (by first | assumption | exact gI _ (by omega) | exact iRm (by omega) (by omega)) dX3_ofLength_18 ?_
      refine zx_topi (b := ((if len < lp then len else lp : Nat) : Int)) (by first | rfl | (split <;> split <;> omega)) ?_
      refine zx_icmp_geT (tgt := 48) hC dX3_ofLength_21 (by decide) (by first | assumption | exact gI _ (by omega) | exact iRm (by omega) (by omega)) (by first | assumption | exact gI _ (by omega) | exact iRm (by omega) (by omega)) (by omega) ?_
      refine zx_aload_n hC dX3_ofLength_48 rfl ?_
      refine zx_close (P1 := LAY G o1 lp (fcut f i) 0 0) [z1 o1 (.inr (3, [.ref fs2, .int (iI 0), .int (iI 0)])), z1 fs2 (zQ G 4 lp g2), LAr G lp rw2 (fcut f i)] (LAY_mk (mu := 0) (pa := 0) hg2) ?_
      show zV X 4 A (zH G A (zS [LAY G o1 lp (fcut f i) 0 0, z1 a (.inr (3, [.ref fs, .int (iI ((mu : Nat) : Int)), .int (iI ((pa : Nat) : Int))])), z1 fs (zQ G 4 len g), LAr G len rw f])) (1 + (1 + lp) + i) (3 + (lp + lp * 36) + 36 * i) 49 [some (.ref a), some (.int (iI ((lp : Nat) : Int))), some (.ref o1), some (.int (iI ((i : Nat) : Int)))] [.ref o1]
      refine zx_imp (P2 := LAY G o1 lp (fcut f (if len < lp then len else lp)) 0 0) (LAY_imp (fun c _ k _ => by rw [hiL])) ?_
      show zV X 4 A (zH G A (zS [LAY G o1 lp (fcut f (if len < lp then len else lp)) 0 0, z1 a (.inr (3, [.ref fs, .int (iI ((mu : Nat) : Int)), .int (iI ((pa : Nat) : Int))])), z1 fs (zQ G 4 len g), LAr G len rw f])) (1 + (1 + lp) + i) (3 + (lp + lp * 36) + 36 * i) 49 [some (.ref a), some (.int (iI ((lp : Nat) : Int))), some (.ref o1), some (.int (iI ((i : Nat) : Int)))] [.ref o1]
      refine zx_pick [1, 2, 3, 0] rfl rfl ?_
      show zV X 4 A (zH G A (zS [z1 a (.inr (3, [.ref fs, .int (iI ((mu : Nat) : Int)), .int (iI ((pa : Nat) : Int))])), z1 fs (zQ G 4 len g), LAr G len rw f, LAY G o1 lp (fcut f (if len < lp then len else lp)) 0 0])) (1 + (1 + lp) + i) (3 + (lp + lp * 36) + 36 * i) 49 [some (.ref a), some (.int (iI ((lp : Nat) : Int))), some (.ref o1), some (.int (iI ((i : Nat) : Int)))] [.ref o1]
      refine zx_close (P1 := LAY G a len f mu pa) [z1 a (.inr (3, [.ref fs, .int (iI ((mu : Nat) : Int)), .int (iI ((pa : Nat) : Int))])), z1 fs (zQ G 4 len g), LAr G len rw f] (LAY_mk hg) ?_
      show zV X 4 A (zH G A (zS [LAY G a len f mu pa, LAY G o1 lp (fcut f (if len < lp then len else lp)) 0 0])) (1 + (1 + lp) + i) (3 + (lp + lp * 36) + 36 * i) 49 [some (.ref a), some (.int (iI ((lp : Nat) : Int))), some (.ref o1), some (.int (iI ((i : Nat) : Int)))] [.ref o1]
      exact zx_aret hC hE (.inl ⟨_, rfl⟩) (.inr ⟨_, rfl⟩) (by omega) (by omega) (fun H h => ⟨⟨_, rfl⟩, h⟩) dX3_ofLength_49
    | succ m ih =>
      intro i g2 rw2 hi hg2
      refine zx_iload_n hC dX3_ofLength_11 rfl ?_
      refine zx_iload_n hC dX3_ofLength_12 rfl ?_
      refine zx_aload_n hC dX3_ofLength_13 rfl ?_
      refine zx_getf (v := .ref fs) (T := TX3) (N := 3) (ci := 3) (fs := [.ref fs, .int (iI ((mu : Nat) : Int)), .int (iI ((pa : Nat) : Int))]) hC in_X3 (zat 3 rfl) rfl 0 (by decide) q751 (fun _ h => h) rfl dX3_ofLength_14 ?_
      refine zx_alen hC 4 (zat 4 rfl) rfl dX3_ofLength_17 ?_
      refine zx_mmin hC q959 (by rw [hRm]; exact ⟨Nat.le_of_ble_eq_true rfl, Nat.le_of_ble_eq_true rfl⟩) (Nat.le_of_ble_eq_true rfl) (by rw [hRm]; constructor <;> (first | decide | (simp only []; omega) | omega)) (by first | assumption | exact gI _ (by omega) | exact iRm (by omega) (by omega)) (by first | assumption | exact gI _ (by omega) | exact iRm (by omega) (by omega)) dX3_ofLength_18 ?_
      refine zx_topi (b := ((if len < lp then len else lp : Nat) : Int)) (by first | rfl | (split <;> split <;> omega)) ?_
      refine zx_icmp_geF (tgt := 48) hC dX3_ofLength_21 (by decide) (by first | assumption | exact gI _ (by omega) | exact iRm (by omega) (by omega)) (by first | assumption | exact gI _ (by omega) | exact iRm (by omega) (by omega)) (by omega) ?_
      refine zx_aload_n hC dX3_ofLength_24 rfl ?_
      refine zx_getf (v := .ref fs2) (T := TX3) (N := 3) (ci := 3) (fs := [.ref fs2, .int (iI 0), .int (iI 0)]) hC in_X3 (zat 0 rfl) rfl 0 (by decide) q751 (fun _ h => h) rfl dX3_ofLength_25 ?_
      refine zx_iload_n hC dX3_ofLength_28 rfl ?_
      refine zx_aload_n hC dX3_ofLength_29 rfl ?_
      refine zx_getf (v := .ref fs) (T := TX3) (N := 3) (ci := 3) (fs := [.ref fs, .int (iI ((mu : Nat) : Int)), .int (iI ((pa : Nat) : Int))]) hC in_X3 (zat 3 rfl) rfl 0 (by decide) q751 (fun _ h => h) rfl dX3_ofLength_30 ?_
      refine zx_iload_n hC dX3_ofLength_33 rfl ?_
      refine zx_aaldN hC 4 (by omega) (zat 4 rfl) i (by omega) (by omega) dX3_ofLength_34 ?_
      refine zx_eq (rest' := [.ref (rw i), .int (iI ((i : Nat) : Int)), .ref fs2]) rfl (by rw [hg i (by omega)]; rfl) ?_
      refine zx_pick [5, 0, 1, 2, 3, 4] rfl rfl ?_
      show zV X 4 A (zH G A (zS [LAr G len rw f, z1 o1 (.inr (3, [.ref fs2, .int (iI 0), .int (iI 0)])), z1 fs2 (zQ G 4 lp g2), LAr G lp rw2 (fcut f i), z1 a (.inr (3, [.ref fs, .int (iI ((mu : Nat) : Int)), .int (iI ((pa : Nat) : Int))])), z1 fs (zQ G 4 len g)])) (1 + (1 + lp) + i) (3 + (lp + lp * 36) + 36 * i) 35 [some (.ref a), some (.int (iI ((lp : Nat) : Int))), some (.ref o1), some (.int (iI ((i : Nat) : Int)))] [.ref (rw i), .int (iI ((i : Nat) : Int)), .ref fs2]
      refine zx_bout i (by omega) ?_
      show zV X 4 A (zH G A (zS [zIr G (rw i) (f i), zho len i (fun c => zIr G (rw c) (f c)), z1 o1 (.inr (3, [.ref fs2, .int (iI 0), .int (iI 0)])), z1 fs2 (zQ G 4 lp g2), LAr G lp rw2 (fcut f i), z1 a (.inr (3, [.ref fs, .int (iI ((mu : Nat) : Int)), .int (iI ((pa : Nat) : Int))])), z1 fs (zQ G 4 len g)])) (1 + (1 + lp) + i) (3 + (lp + lp * 36) + 36 * i) 35 [some (.ref a), some (.int (iI ((lp : Nat) : Int))), some (.ref o1), some (.int (iI ((i : Nat) : Int)))] [.ref (rw i), .int (iI ((i : Nat) : Int)), .ref fs2]
      refine zx_exi (fun r => zx_nest (zx_pure (fun hr => ?_)))
      show zV X 4 A (zH G A (zS [z1 (rw i) (zI G 36 r), zho len i (fun c => zIr G (rw c) (f c)), z1 o1 (.inr (3, [.ref fs2, .int (iI 0), .int (iI 0)])), z1 fs2 (zQ G 4 lp g2), LAr G lp rw2 (fcut f i), z1 a (.inr (3, [.ref fs, .int (iI ((mu : Nat) : Int)), .int (iI ((pa : Nat) : Int))])), z1 fs (zQ G 4 len g)])) (1 + (1 + lp) + i) (3 + (lp + lp * 36) + 36 * i) 35 [some (.ref a), some (.int (iI ((lp : Nat) : Int))), some (.ref o1), some (.int (iI ((i : Nat) : Int)))] [.ref (rw i), .int (iI ((i : Nat) : Int)), .ref fs2]
      refine zx_clone hC hA 0 rfl q767 (by rw [hRm]; exact ⟨Nat.le_of_ble_eq_true rfl, Nat.le_of_ble_eq_true rfl⟩) (Nat.le_of_ble_eq_true rfl) (by rw [hRm]; constructor <;> (first | decide | (simp only []; omega) | omega)) dX3_ofLength_35 (fun o2 => ?_)
      show zV X 4 A (zH G A (zS [z1 o2 (zI G 36 r), z1 (rw i) (zI G 36 r), zho len i (fun c => zIr G (rw c) (f c)), z1 o1 (.inr (3, [.ref fs2, .int (iI 0), .int (iI 0)])), z1 fs2 (zQ G 4 lp g2), LAr G lp rw2 (fcut f i), z1 a (.inr (3, [.ref fs, .int (iI ((mu : Nat) : Int)), .int (iI ((pa : Nat) : Int))])), z1 fs (zQ G 4 len g)])) (1 + (1 + lp) + i + 1) (3 + (lp + lp * 36) + 36 * i + 36) 38 [some (.ref a), some (.int (iI ((lp : Nat) : Int))), some (.ref o1), some (.int (iI ((i : Nat) : Int)))] [.ref o2, .int (iI ((i : Nat) : Int)), .ref fs2]
      refine zx_castI hC q766 (zat 0 rfl) dX3_ofLength_38 ?_
      refine zx_aastI (f' := (va_up g2 i (some o2))) hC 4 0 rfl rfl i (by omega) (by omega) rfl dX3_ofLength_41 ?_
      show zV X 4 A (zH G A (zS [z1 o2 (zI G 36 r), z1 (rw i) (zI G 36 r), zho len i (fun c => zIr G (rw c) (f c)), z1 o1 (.inr (3, [.ref fs2, .int (iI 0), .int (iI 0)])), z1 fs2 (zQ G 4 lp (va_up g2 i (some o2))), LAr G lp rw2 (fcut f i), z1 a (.inr (3, [.ref fs, .int (iI ((mu : Nat) : Int)), .int (iI ((pa : Nat) : Int))])), z1 fs (zQ G 4 len g)])) (1 + (1 + lp) + i + 1) (3 + (lp + lp * 36) + 36 * i + 36) 42 [some (.ref a), some (.int (iI ((lp : Nat) : Int))), some (.ref o1), some (.int (iI ((i : Nat) : Int)))] []
      refine zx_pick [1, 0, 2, 3, 4, 5, 6, 7] rfl rfl ?_
      show zV X 4 A (zH G A (zS [z1 (rw i) (zI G 36 r), z1 o2 (zI G 36 r), zho len i (fun c => zIr G (rw c) (f c)), z1 o1 (.inr (3, [.ref fs2, .int (iI 0), .int (iI 0)])), z1 fs2 (zQ G 4 lp (va_up g2 i (some o2))), LAr G lp rw2 (fcut f i), z1 a (.inr (3, [.ref fs, .int (iI ((mu : Nat) : Int)), .int (iI ((pa : Nat) : Int))])), z1 fs (zQ G 4 len g)])) (1 + (1 + lp) + i + 1) (3 + (lp + lp * 36) + 36 * i + 36) 42 [some (.ref a), some (.int (iI ((lp : Nat) : Int))), some (.ref o1), some (.int (iI ((i : Nat) : Int)))] []
      refine zx_close (P1 := zIr G (rw i) (f i)) [z1 (rw i) (zI G 36 r)] (zIr_mk hr) ?_
      show zV X 4 A (zH G A (zS [zIr G (rw i) (f i), z1 o2 (zI G 36 r), zho len i (fun c => zIr G (rw c) (f c)), z1 o1 (.inr (3, [.ref fs2, .int (iI 0), .int (iI 0)])), z1 fs2 (zQ G 4 lp (va_up g2 i (some o2))), LAr G lp rw2 (fcut f i), z1 a (.inr (3, [.ref fs, .int (iI ((mu : Nat) : Int)), .int (iI ((pa : Nat) : Int))])), z1 fs (zQ G 4 len g)])) (1 + (1 + lp) + i + 1) (3 + (lp + lp * 36) + 36 * i + 36) 42 [some (.ref a), some (.int (iI ((lp : Nat) : Int))), some (.ref o1), some (.int (iI ((i : Nat) : Int)))] []
      refine zx_pick [0, 2, 1, 3, 4, 5, 6, 7] rfl rfl ?_
      show zV X 4 A (zH G A (zS [zIr G (rw i) (f i), zho len i (fun c => zIr G (rw c) (f c)), z1 o2 (zI G 36 r), z1 o1 (.inr (3, [.ref fs2, .int (iI 0), .int (iI 0)])), z1 fs2 (zQ G 4 lp (va_up g2 i (some o2))), LAr G lp rw2 (fcut f i), z1 a (.inr (3, [.ref fs, .int (iI ((mu : Nat) : Int)), .int (iI ((pa : Nat) : Int))])), z1 fs (zQ G 4 len g)])) (1 + (1 + lp) + i + 1) (3 + (lp + lp * 36) + 36 * i + 36) 42 [some (.ref a), some (.int (iI ((lp : Nat) : Int))), some (.ref o1), some (.int (iI ((i : Nat) : Int)))] []
      refine zx_bin (fun c => zIr G (rw c) (f c)) (by omega) rfl (fun _ _ _ => rfl) ?_
      show zV X 4 A (zH G A (zS [LAr G len rw f, z1 o2 (zI G 36 r), z1 o1 (.inr (3, [.ref fs2, .int (iI 0), .int (iI 0)])), z1 fs2 (zQ G 4 lp (va_up g2 i (some o2))), LAr G lp rw2 (fcut f i), z1 a (.inr (3, [.ref fs, .int (iI ((mu : Nat) : Int)), .int (iI ((pa : Nat) : Int))])), z1 fs (zQ G 4 len g)])) (1 + (1 + lp) + i + 1) (3 + (lp + lp * 36) + 36 * i + 36) 42 [some (.ref a), some (.int (iI ((lp : Nat) : Int))), some (.ref o1), some (.int (iI ((i : Nat) : Int)))] []
      refine zx_pick [1, 0, 2, 3, 4, 5, 6] rfl rfl ?_
      show zV X 4 A (zH G A (zS [z1 o2 (zI G 36 r), LAr G len rw f, z1 o1 (.inr (3, [.ref fs2, .int (iI 0), .int (iI 0)])), z1 fs2 (zQ G 4 lp (va_up g2 i (some o2))), LAr G lp rw2 (fcut f i), z1 a (.inr (3, [.ref fs, .int (iI ((mu : Nat) : Int)), .int (iI ((pa : Nat) : Int))])), z1 fs (zQ G 4 len g)])) (1 + (1 + lp) + i + 1) (3 + (lp + lp * 36) + 36 * i + 36) 42 [some (.ref a), some (.int (iI ((lp : Nat) : Int))), some (.ref o1), some (.int (iI ((i : Nat) : Int)))] []
      refine zx_close (P1 := zIr G o2 (f i)) [z1 o2 (zI G 36 r)] (zIr_mk hr) ?_
      show zV X 4 A (zH G A (zS [zIr G o2 (f i), LAr G len rw f, z1 o1 (.inr (3, [.ref fs2, .int (iI 0), .int (iI 0)])), z1 fs2 (zQ G 4 lp (va_up g2 i (some o2))), LAr G lp rw2 (fcut f i), z1 a (.inr (3, [.ref fs, .int (iI ((mu : Nat) : Int)), .int (iI ((pa : Nat) : Int))])), z1 fs (zQ G 4 len g)])) (1 + (1 + lp) + i + 1) (3 + (lp + lp * 36) + 36 * i + 36) 42 [some (.ref a), some (.int (iI ((lp : Nat) : Int))), some (.ref o1), some (.int (iI ((i : Nat) : Int)))] []
      refine zx_pick [4, 0, 1, 2, 3, 5, 6] rfl rfl ?_
      show zV X 4 A (zH G A (zS [LAr G lp rw2 (fcut f i), zIr G o2 (f i), LAr G len rw f, z1 o1 (.inr (3, [.ref fs2, .int (iI 0), .int (iI 0)])), z1 fs2 (zQ G 4 lp (va_up g2 i (some o2))), z1 a (.inr (3, [.ref fs, .int (iI ((mu : Nat) : Int)), .int (iI ((pa : Nat) : Int))])), z1 fs (zQ G 4 len g)])) (1 + (1 + lp) + i + 1) (3 + (lp + lp * 36) + 36 * i + 36) 42 [some (.ref a), some (.int (iI ((lp : Nat) : Int))), some (.ref o1), some (.int (iI ((i : Nat) : Int)))] []
      refine zx_bout i (by omega) ?_
      show zV X 4 A (zH G A (zS [zIr G (rw2 i) ((fcut f i) i), zho lp i (fun c => zIr G (rw2 c) ((fcut f i) c)), zIr G o2 (f i), LAr G len rw f, z1 o1 (.inr (3, [.ref fs2, .int (iI 0), .int (iI 0)])), z1 fs2 (zQ G 4 lp (va_up g2 i (some o2))), z1 a (.inr (3, [.ref fs, .int (iI ((mu : Nat) : Int)), .int (iI ((pa : Nat) : Int))])), z1 fs (zQ G 4 len g)])) (1 + (1 + lp) + i + 1) (3 + (lp + lp * 36) + 36 * i + 36) 42 [some (.ref a), some (.int (iI ((lp : Nat) : Int))), some (.ref o1), some (.int (iI ((i : Nat) : Int)))] []
      refine zx_drop ?_
      show zV X 4 A (zH G A (zS [zho lp i (fun c => zIr G (rw2 c) ((fcut f i) c)), zIr G o2 (f i), LAr G len rw f, z1 o1 (.inr (3, [.ref fs2, .int (iI 0), .int (iI 0)])), z1 fs2 (zQ G 4 lp (va_up g2 i (some o2))), z1 a (.inr (3, [.ref fs, .int (iI ((mu : Nat) : Int)), .int (iI ((pa : Nat) : Int))])), z1 fs (zQ G 4 len g)])) (1 + (1 + lp) + i + 1) (3 + (lp + lp * 36) + 36 * i + 36) 42 [some (.ref a), some (.int (iI ((lp : Nat) : Int))), some (.ref o1), some (.int (iI ((i : Nat) : Int)))] []
      refine zx_pick [1, 0, 2, 3, 4, 5, 6] rfl rfl ?_
      show zV X 4 A (zH G A (zS [zIr G o2 (f i), zho lp i (fun c => zIr G (rw2 c) ((fcut f i) c)), LAr G len rw f, z1 o1 (.inr (3, [.ref fs2, .int (iI 0), .int (iI 0)])), z1 fs2 (zQ G 4 lp (va_up g2 i (some o2))), z1 a (.inr (3, [.ref fs, .int (iI ((mu : Nat) : Int)), .int (iI ((pa : Nat) : Int))])), z1 fs (zQ G 4 len g)])) (1 + (1 + lp) + i + 1) (3 + (lp + lp * 36) + 36 * i + 36) 42 [some (.ref a), some (.int (iI ((lp : Nat) : Int))), some (.ref o1), some (.int (iI ((i : Nat) : Int)))] []
      refine zx_bin (fun c9 => zIr G (va_up rw2 i o2 c9) ((fcut f (i + 1)) c9)) (by omega) (by rw [va_up_self, fcut_i]) (fun c9 _ e => by rw [va_up_ne _ _ e, fcut_ne e]) ?_
      show zV X 4 A (zH G A (zS [LAr G lp (va_up rw2 i o2) (fcut f (i + 1)), LAr G len rw f, z1 o1 (.inr (3, [.ref fs2, .int (iI 0), .int (iI 0)])), z1 fs2 (zQ G 4 lp (va_up g2 i (some o2))), z1 a (.inr (3, [.ref fs, .int (iI ((mu : Nat) : Int)), .int (iI ((pa : Nat) : Int))])), z1 fs (zQ G 4 len g)])) (1 + (1 + lp) + i + 1) (3 + (lp + lp * 36) + 36 * i + 36) 42 [some (.ref a), some (.int (iI ((lp : Nat) : Int))), some (.ref o1), some (.int (iI ((i : Nat) : Int)))] []
      refine zx_pick [2, 3, 0, 4, 5, 1] rfl rfl ?_
      show zV X 4 A (zH G A (zS [z1 o1 (.inr (3, [.ref fs2, .int (iI 0), .int (iI 0)])), z1 fs2 (zQ G 4 lp (va_up g2 i (some o2))), LAr G lp (va_up rw2 i o2) (fcut f (i + 1)), z1 a (.inr (3, [.ref fs, .int (iI ((mu : Nat) : Int)), .int (iI ((pa : Nat) : Int))])), z1 fs (zQ G 4 len g), LAr G len rw f])) (1 + (1 + lp) + i + 1) (3 + (lp + lp * 36) + 36 * i + 36) 42 [some (.ref a), some (.int (iI ((lp : Nat) : Int))), some (.ref o1), some (.int (iI ((i : Nat) : Int)))] []
      refine zx_iinc (b := ((i + 1 : Nat) : Int)) (L' := [some (.ref a), some (.int (iI ((lp : Nat) : Int))), some (.ref o1), some (.int (iI ((i + 1 : Nat) : Int)))]) hC dX3_ofLength_42 rfl (by first | rfl | omega) (by decide) rfl ?_
      refine zx_goto (tgt := 11) hC dX3_ofLength_45 (by decide) ?_
      refine zx_widen (k' := 1 + (1 + lp) + (i + 1)) (n' := 3 + (lp + lp * 36) + 36 * (i + 1)) (by omega) (by omega) ?_
      exact ih (i + 1) _ _ (by omega) (gset_up hg2)
  exact loop (if len < lp then len else lp) 0 _ _ (by omega) hg2
set_option maxHeartbeats 4000000 in
theorem m_X3_copy (la : Launch) (G : zG) (a : Nat) (len : Nat) (f : Nat → Nat → Nat) (mu : Nat) (pa : Nat) (g0 : len ≤ 48) (g1 : mu ≤ 1) : zMA la yX3_copy cX3_copy 3 (some (.object "PedalLayers$Layer")) 2 41 G [.ref a] [LAY G a len f mu pa] (fun v9 => ∃ b, v9 = some (.ref b)) (fun v9 => (fun b => [LAY G a len f mu pa, LAY G b len f mu pa]) (zad v9)) (60) (1800) := by
  refine zMA.of [some (.ref a), none, none] (by decide) (Nat.le_of_ble_eq_true rfl) rfl (fun X A hl hC hnm hA hRm hE => ?_)
  refine zx_new (T := TX3) (N := 3) (ci := 3) (fs := [.null, .int (iI 0), .int (iI 0)]) hC hA in_X3 tyX3 tyX3_ok q743 q744 q106 rfl (by decide) (by rw [hRm]; constructor <;> (first | decide | (simp only []; omega) | omega)) dX3_copy_0 (fun o1 => ?_)
  show zV X 3 A (zH G A (zS [z1 o1 (.inr (3, [.null, .int (iI 0), .int (iI 0)])), LAY G a len f mu pa])) (1) (3) 3 [some (.ref a), none, none] [.ref o1]
  refine zx_dup hC dX3_copy_3 rfl ?_
  refine zx_iconst (z := 0) hC dX3_copy_4 ?_
  refine zx_ma0 (Q := fun _ => [LAY G o1 0 (fun _ _ => 0) 0 0]) hC hA [0] [1] (zcI 1 (As := [.int (iI 0)]) hC (lw_meth q747) q106 q745 q746 (by decide +kernel) rfl rfl (by rw [hRm]; exact ⟨Nat.le_of_ble_eq_true rfl, Nat.le_of_ble_eq_true rfl⟩) (by rw [hRm]; constructor <;> (first | decide | (simp only []; omega) | omega)) rfl (Nat.le_of_ble_eq_true rfl) dX3_copy_5) (m_X3_init (zl X) G o1 0 (by first | assumption | omega | decide | exact iRm (by omega) (by omega) | ((repeat (first | exact gL | refine rLs.up ?_ (by omega) (by omega) | refine rLs.fad ?_)); done) | ((repeat (first | exact gM | refine rHM.up ?_ (by omega))); done) | exact gT _ (by omega) | exact rFadF_le gF _ | ((repeat first | rw [va_up_ne _ _ (by omega)] | rw [va_up_self] | rw [rFadH_o (by omega)] | rw [rAge_o _ _ (by omega)] | rw [rLayH_o (by omega) (by omega) (by omega) (by omega)]); omega))) (fun _ _ => trivial) rfl rfl rfl ?_
  show zV X 3 A (zH G A (zS [LAY G a len f mu pa, LAY G o1 0 (fun _ _ => 0) 0 0])) (1 + (1 + 0)) (3 + (0 + 0 * 36)) 8 [some (.ref a), none, none] [.ref o1]
  refine zx_astore_n (L' := [some (.ref a), some (.ref o1), none]) hC dX3_copy_8 (by decide) rfl ?_
  refine zx_exi (fun fs => zx_exi (fun g => zx_exi (fun rw => zx_nest (zx_pure (fun hg => ?_)))))
  show zV X 3 A (zH G A (zS [z1 a (.inr (3, [.ref fs, .int (iI ((mu : Nat) : Int)), .int (iI ((pa : Nat) : Int))])), z1 fs (zQ G 4 len g), LAr G len rw f, LAY G o1 0 (fun _ _ => 0) 0 0])) (1 + (1 + 0)) (3 + (0 + 0 * 36)) 9 [some (.ref a), some (.ref o1), none] []
  refine zx_pick [3, 0, 1, 2] rfl rfl ?_
  show zV X 3 A (zH G A (zS [LAY G o1 0 (fun _ _ => 0) 0 0, z1 a (.inr (3, [.ref fs, .int (iI ((mu : Nat) : Int)), .int (iI ((pa : Nat) : Int))])), z1 fs (zQ G 4 len g), LAr G len rw f])) (1 + (1 + 0)) (3 + (0 + 0 * 36)) 9 [some (.ref a), some (.ref o1), none] []
  refine zx_exi (fun fs1 => zx_exi (fun g1 => zx_exi (fun rw1 => zx_nest (zx_pure (fun hg1 => ?_)))))
  show zV X 3 A (zH G A (zS [z1 o1 (.inr (3, [.ref fs1, .int (iI 0), .int (iI 0)])), z1 fs1 (zQ G 4 0 g1), LAr G 0 rw1 (fun _ _ => 0), z1 a (.inr (3, [.ref fs, .int (iI ((mu : Nat) : Int)), .int (iI ((pa : Nat) : Int))])), z1 fs (zQ G 4 len g), LAr G len rw f])) (1 + (1 + 0)) (3 + (0 + 0 * 36)) 9 [some (.ref a), some (.ref o1), none] []
  refine zx_pick [2, 0, 1, 3, 4, 5] rfl rfl ?_
  show zV X 3 A (zH G A (zS [LAr G 0 rw1 (fun _ _ => 0), z1 o1 (.inr (3, [.ref fs1, .int (iI 0), .int (iI 0)])), z1 fs1 (zQ G 4 0 g1), z1 a (.inr (3, [.ref fs, .int (iI ((mu : Nat) : Int)), .int (iI ((pa : Nat) : Int))])), z1 fs (zQ G 4 len g), LAr G len rw f])) (1 + (1 + 0)) (3 + (0 + 0 * 36)) 9 [some (.ref a), some (.ref o1), none] []
  refine zx_drop ?_
  show zV X 3 A (zH G A (zS [z1 o1 (.inr (3, [.ref fs1, .int (iI 0), .int (iI 0)])), z1 fs1 (zQ G 4 0 g1), z1 a (.inr (3, [.ref fs, .int (iI ((mu : Nat) : Int)), .int (iI ((pa : Nat) : Int))])), z1 fs (zQ G 4 len g), LAr G len rw f])) (1 + (1 + 0)) (3 + (0 + 0 * 36)) 9 [some (.ref a), some (.ref o1), none] []
  refine zx_pick [1, 0, 2, 3, 4] rfl rfl ?_
  show zV X 3 A (zH G A (zS [z1 fs1 (zQ G 4 0 g1), z1 o1 (.inr (3, [.ref fs1, .int (iI 0), .int (iI 0)])), z1 a (.inr (3, [.ref fs, .int (iI ((mu : Nat) : Int)), .int (iI ((pa : Nat) : Int))])), z1 fs (zQ G 4 len g), LAr G len rw f])) (1 + (1 + 0)) (3 + (0 + 0 * 36)) 9 [some (.ref a), some (.ref o1), none] []
  refine zx_drop ?_
  show zV X 3 A (zH G A (zS [z1 o1 (.inr (3, [.ref fs1, .int (iI 0), .int (iI 0)])), z1 a (.inr (3, [.ref fs, .int (iI ((mu : Nat) : Int)), .int (iI ((pa : Nat) : Int))])), z1 fs (zQ G 4 len g), LAr G len rw f])) (1 + (1 + 0)) (3 + (0 + 0 * 36)) 9 [some (.ref a), some (.ref o1), none] []
  refine zx_aload_n hC dX3_copy_9 rfl ?_
  refine zx_aload_n hC dX3_copy_10 rfl ?_
  refine zx_getf (v := .ref fs) (T := TX3) (N := 3) (ci := 3) (fs := [.ref fs, .int (iI ((mu : Nat) : Int)), .int (iI ((pa : Nat) : Int))]) hC in_X3 (zat 1 rfl) rfl 0 (by decide) q751 (fun _ h => h) rfl dX3_copy_11 ?_
  refine zx_alen hC 4 (zat 2 rfl) rfl dX3_copy_14 ?_
  refine zx_newqI hC hA (z := len) (by omega) (by rw [hRm]; constructor <;> (first | decide | (simp only []; omega) | omega)) q766 dX3_copy_15 (fun o2 => ?_)
  show zV X 3 A (zH G A (zS [z1 o2 (zQ G 4 len (fun _ => none)), z1 o1 (.inr (3, [.ref fs1, .int (iI 0), .int (iI 0)])), z1 a (.inr (3, [.ref fs, .int (iI ((mu : Nat) : Int)), .int (iI ((pa : Nat) : Int))])), z1 fs (zQ G 4 len g), LAr G len rw f])) (1 + (1 + 0) + 1) (3 + (0 + 0 * 36) + len) 18 [some (.ref a), some (.ref o1), none] [.ref o2, .ref o1]
  refine zx_putf (T := TX3) (N := 3) (ci := 3) (fs := [.ref fs1, .int (iI 0), .int (iI 0)]) (fs' := [.ref o2, .int (iI 0), .int (iI 0)]) hC 1 in_X3 tyX3 tyX3_ok nmX3 rfl rfl 0 (by decide) q751 (fun _ h => h) rfl (by first | rfl | exact rfl) (by first | rfl | exact rfl) (Nat.le_of_ble_eq_true rfl) rfl dX3_copy_18 ?_
  show zV X 3 A (zH G A (zS [z1 o2 (zQ G 4 len (fun _ => none)), z1 o1 (.inr (3, [.ref o2, .int (iI 0), .int (iI 0)])), z1 a (.inr (3, [.ref fs, .int (iI ((mu : Nat) : Int)), .int (iI ((pa : Nat) : Int))])), z1 fs (zQ G 4 len g), LAr G len rw f])) (1 + (1 + 0) + 1) (3 + (0 + 0 * 36) + len) 21 [some (.ref a), some (.ref o1), none] []
  refine zx_iconst (z := 0) hC dX3_copy_21 ?_
  refine zx_istore_n (L' := [some (.ref a), some (.ref o1), some (.int (iI 0))]) hC dX3_copy_22 (by decide) rfl ?_
  refine zx_emp (zx_imp (P2 := zbs 0 (fun c => zIr G ((fun _ => 0) c) (f c))) (fun _ h => h) ?_)
  show zV X 3 A (zH G A (zS [zbs 0 (fun c => zIr G ((fun _ => 0) c) (f c)), z1 o2 (zQ G 4 len (fun _ => none)), z1 o1 (.inr (3, [.ref o2, .int (iI 0), .int (iI 0)])), z1 a (.inr (3, [.ref fs, .int (iI ((mu : Nat) : Int)), .int (iI ((pa : Nat) : Int))])), z1 fs (zQ G 4 len g), LAr G len rw f])) (1 + (1 + 0) + 1) (3 + (0 + 0 * 36) + len) 23 [some (.ref a), some (.ref o1), some (.int (iI 0))] []
  refine zx_pick [2, 1, 0, 3, 4, 5] rfl rfl ?_
  show zV X 3 A (zH G A (zS [z1 o1 (.inr (3, [.ref o2, .int (iI 0), .int (iI 0)])), z1 o2 (zQ G 4 len (fun _ => none)), zbs 0 (fun c => zIr G ((fun _ => 0) c) (f c)), z1 a (.inr (3, [.ref fs, .int (iI ((mu : Nat) : Int)), .int (iI ((pa : Nat) : Int))])), z1 fs (zQ G 4 len g), LAr G len rw f])) (1 + (1 + 0) + 1) (3 + (0 + 0 * 36) + len) 23 [some (.ref a), some (.ref o1), some (.int (iI 0))] []
  have loop : ∀ (m i : Nat) (g2 : Nat → Option Nat) (rw2 : Nat → Nat), i + m = len → gset g2 rw2 i → zV X 3 A (zH G A (zS [z1 o1 (.inr (3, [.ref o2, .int (iI 0), .int (iI 0)])), z1 o2 (zQ G 4 len g2), zbs i (fun c => zIr G (rw2 c) (f c)), z1 a (.inr (3, [.ref fs, .int (iI ((mu : Nat) : Int)), .int (iI ((pa : Nat) : Int))])), z1 fs (zQ G 4 len g), LAr G len rw f])) (1 + (1 + 0) + 1 + i) (3 + (0 + 0 * 36) + len + 36 * i) 23 [some (.ref a), some (.ref o1), some (.int (iI ((i : Nat) : Int)))] [] := by
    intro m
    induction m with
    | zero =>
      intro i g2 rw2 hi hg2
      have hiL : i = len := by omega
      refine zx_iload_n hC dX3_copy_23 rfl ?_
      refine zx_aload_n hC dX3_copy_24 rfl ?_
      refine zx_getf (v := .ref fs) (T := TX3) (N := 3) (ci := 3) (fs := [.ref fs, .int (iI ((mu : Nat) : Int)), .int (iI ((pa : Nat) : Int))]) hC in_X3 (zat 3 rfl) rfl 0 (by decide) q751 (fun _ h => h) rfl dX3_copy_25 ?_
      refine zx_alen hC 4 (zat 4 rfl) rfl dX3_copy_28 ?_
      refine zx_icmp_geT (tgt := 56) hC dX3_copy_29 (by decide) (by first | assumption | exact gI _ (by omega) | exact iRm (by omega) (by omega)) (by first | assumption | exact gI _ (by omega) | exact iRm (by omega) (by omega)) (by omega) ?_
      refine zx_aload_n hC dX3_copy_56 rfl ?_
      refine zx_aload_n hC dX3_copy_57 rfl ?_
      refine zx_getf (v := .int (iI ((mu : Nat) : Int))) (T := TX3) (N := 3) (ci := 3) (fs := [.ref fs, .int (iI ((mu : Nat) : Int)), .int (iI ((pa : Nat) : Int))]) hC in_X3 (zat 3 rfl) rfl 1 (by decide) q753 (fun _ h => h) rfl dX3_copy_58 ?_
      refine zx_putf (T := TX3) (N := 3) (ci := 3) (fs := [.ref o2, .int (iI 0), .int (iI 0)]) (fs' := [.ref o2, .int (iI ((mu : Nat) : Int)), .int (iI 0)]) hC 0 in_X3 tyX3 tyX3_ok nmX3 rfl rfl 1 (by decide) q753 (fun _ h => h) rfl (by first | rfl | exact znar (by omega)) (by first | rfl | exact zfit (by omega)) (Nat.le_of_ble_eq_true rfl) rfl dX3_copy_61 ?_
      show zV X 3 A (zH G A (zS [z1 o1 (.inr (3, [.ref o2, .int (iI ((mu : Nat) : Int)), .int (iI 0)])), z1 o2 (zQ G 4 len g2), zbs i (fun c => zIr G (rw2 c) (f c)), z1 a (.inr (3, [.ref fs, .int (iI ((mu : Nat) : Int)), .int (iI ((pa : Nat) : Int))])), z1 fs (zQ G 4 len g), LAr G len rw f])) (1 + (1 + 0) + 1 + i) (3 + (0 + 0 * 36) + len + 36 * i) 64 [some (.ref a), some (.ref o1), some (.int (iI ((i : Nat) : Int)))] []
      refine zx_aload_n hC dX3_copy_64 rfl ?_
      refine zx_aload_n hC dX3_copy_65 rfl ?_
      refine zx_getf (v := .int (iI ((pa : Nat) : Int))) (T := TX3) (N := 3) (ci := 3) (fs := [.ref fs, .int (iI ((mu : Nat) : Int)), .int (iI ((pa : Nat) : Int))]) hC in_X3 (zat 3 rfl) rfl 2 (by decide) q756 (fun _ h => h) rfl dX3_copy_66 ?_
      refine zx_putf (T := TX3) (N := 3) (ci := 3) (fs := [.ref o2, .int (iI ((mu : Nat) : Int)), .int (iI 0)]) (fs' := [.ref o2, .int (iI ((mu : Nat) : Int)), .int (iI ((pa : Nat) : Int))]) hC 0 in_X3 tyX3 tyX3_ok nmX3 rfl rfl 2 (by decide) q756 (fun _ h => h) rfl (by first | rfl | exact rfl) (by first | rfl | exact rfl) (Nat.le_of_ble_eq_true rfl) rfl dX3_copy_69 ?_
      show zV X 3 A (zH G A (zS [z1 o1 (.inr (3, [.ref o2, .int (iI ((mu : Nat) : Int)), .int (iI ((pa : Nat) : Int))])), z1 o2 (zQ G 4 len g2), zbs i (fun c => zIr G (rw2 c) (f c)), z1 a (.inr (3, [.ref fs, .int (iI ((mu : Nat) : Int)), .int (iI ((pa : Nat) : Int))])), z1 fs (zQ G 4 len g), LAr G len rw f])) (1 + (1 + 0) + 1 + i) (3 + (0 + 0 * 36) + len + 36 * i) 72 [some (.ref a), some (.ref o1), some (.int (iI ((i : Nat) : Int)))] []
      refine zx_aload_n hC dX3_copy_72 rfl ?_
      refine zx_pick [2, 0, 1, 3, 4, 5] rfl rfl ?_
      show zV X 3 A (zH G A (zS [zbs i (fun c => zIr G (rw2 c) (f c)), z1 o1 (.inr (3, [.ref o2, .int (iI ((mu : Nat) : Int)), .int (iI ((pa : Nat) : Int))])), z1 o2 (zQ G 4 len g2), z1 a (.inr (3, [.ref fs, .int (iI ((mu : Nat) : Int)), .int (iI ((pa : Nat) : Int))])), z1 fs (zQ G 4 len g), LAr G len rw f])) (1 + (1 + 0) + 1 + i) (3 + (0 + 0 * 36) + len + 36 * i) 73 [some (.ref a), some (.ref o1), some (.int (iI ((i : Nat) : Int)))] [.ref o1]
      refine zx_imp (P2 := LAr G len rw2 f) ((fun w hw => by rw [← hiL]; exact hw)) ?_
      show zV X 3 A (zH G A (zS [LAr G len rw2 f, z1 o1 (.inr (3, [.ref o2, .int (iI ((mu : Nat) : Int)), .int (iI ((pa : Nat) : Int))])), z1 o2 (zQ G 4 len g2), z1 a (.inr (3, [.ref fs, .int (iI ((mu : Nat) : Int)), .int (iI ((pa : Nat) : Int))])), z1 fs (zQ G 4 len g), LAr G len rw f])) (1 + (1 + 0) + 1 + i) (3 + (0 + 0 * 36) + len + 36 * i) 73 [some (.ref a), some (.ref o1), some (.int (iI ((i : Nat) : Int)))] [.ref o1]
      refine zx_pick [1, 2, 0, 3, 4, 5] rfl rfl ?_
      show zV X 3 A (zH G A (zS [z1 o1 (.inr (3, [.ref o2, .int (iI ((mu : Nat) : Int)), .int (iI ((pa : Nat) : Int))])), z1 o2 (zQ G 4 len g2), LAr G len rw2 f, z1 a (.inr (3, [.ref fs, .int (iI ((mu : Nat) : Int)), .int (iI ((pa : Nat) : Int))])), z1 fs (zQ G 4 len g), LAr G len rw f])) (1 + (1 + 0) + 1 + i) (3 + (0 + 0 * 36) + len + 36 * i) 73 [some (.ref a), some (.ref o1), some (.int (iI ((i : Nat) : Int)))] [.ref o1]
      refine zx_close (P1 := LAY G o1 len f mu pa) [z1 o1 (.inr (3, [.ref o2, .int (iI ((mu : Nat) : Int)), .int (iI ((pa : Nat) : Int))])), z1 o2 (zQ G 4 len g2), LAr G len rw2 f] (LAY_mk (fun c hc => hg2 c (by omega))) ?_
      show zV X 3 A (zH G A (zS [LAY G o1 len f mu pa, z1 a (.inr (3, [.ref fs, .int (iI ((mu : Nat) : Int)), .int (iI ((pa : Nat) : Int))])), z1 fs (zQ G 4 len g), LAr G len rw f])) (1 + (1 + 0) + 1 + i) (3 + (0 + 0 * 36) + len + 36 * i) 73 [some (.ref a), some (.ref o1), some (.int (iI ((i : Nat) : Int)))] [.ref o1]
      refine zx_pick [1, 2, 3, 0] rfl rfl ?_
      show zV X 3 A (zH G A (zS [z1 a (.inr (3, [.ref fs, .int (iI ((mu : Nat) : Int)), .int (iI ((pa : Nat) : Int))])), z1 fs (zQ G 4 len g), LAr G len rw f, LAY G o1 len f mu pa])) (1 + (1 + 0) + 1 + i) (3 + (0 + 0 * 36) + len + 36 * i) 73 [some (.ref a), some (.ref o1), some (.int (iI ((i : Nat) : Int)))] [.ref o1]
      refine zx_close (P1 := LAY G a len f mu pa) [z1 a (.inr (3, [.ref fs, .int (iI ((mu : Nat) : Int)), .int (iI ((pa : Nat) : Int))])), z1 fs (zQ G 4 len g), LAr G len rw f] (LAY_mk hg) ?_
      show zV X 3 A (zH G A (zS [LAY G a len f mu pa, LAY G o1 len f mu pa])) (1 + (1 + 0) + 1 + i) (3 + (0 + 0 * 36) + len + 36 * i) 73 [some (.ref a), some (.ref o1), some (.int (iI ((i : Nat) : Int)))] [.ref o1]
      exact zx_aret hC hE (.inl ⟨_, rfl⟩) (.inr ⟨_, rfl⟩) (by omega) (by omega) (fun H h => ⟨⟨_, rfl⟩, h⟩) dX3_copy_73
    | succ m ih =>
      intro i g2 rw2 hi hg2
      refine zx_iload_n hC dX3_copy_23 rfl ?_
      refine zx_aload_n hC dX3_copy_24 rfl ?_
      refine zx_getf (v := .ref fs) (T := TX3) (N := 3) (ci := 3) (fs := [.ref fs, .int (iI ((mu : Nat) : Int)), .int (iI ((pa : Nat) : Int))]) hC in_X3 (zat 3 rfl) rfl 0 (by decide) q751 (fun _ h => h) rfl dX3_copy_25 ?_
      refine zx_alen hC 4 (zat 4 rfl) rfl dX3_copy_28 ?_
      refine zx_icmp_geF (tgt := 56) hC dX3_copy_29 (by decide) (by first | assumption | exact gI _ (by omega) | exact iRm (by omega) (by omega)) (by first | assumption | exact gI _ (by omega) | exact iRm (by omega) (by omega)) (by omega) ?_
      refine zx_aload_n hC dX3_copy_32 rfl ?_
      refine zx_getf (v := .ref o2) (T := TX3) (N := 3) (ci := 3) (fs := [.ref o2, .int (iI 0), .int (iI 0)]) hC in_X3 (zat 0 rfl) rfl 0 (by decide) q751 (fun _ h => h) rfl dX3_copy_33 ?_
      refine zx_iload_n hC dX3_copy_36 rfl ?_
      refine zx_aload_n hC dX3_copy_37 rfl ?_
      refine zx_getf (v := .ref fs) (T := TX3) (N := 3) (ci := 3) (fs := [.ref fs, .int (iI ((mu : Nat) : Int)), .int (iI ((pa : Nat) : Int))]) hC in_X3 (zat 3 rfl) rfl 0 (by decide) q751 (fun _ h => h) rfl dX3_copy_38 ?_
      refine zx_iload_n hC dX3_copy_41 rfl ?_
      refine zx_aaldN hC 4 (by omega) (zat 4 rfl) i (by omega) (by omega) dX3_copy_42 ?_
      refine zx_eq (rest' := [.ref (rw i), .int (iI ((i : Nat) : Int)), .ref o2]) rfl (by rw [hg i (by omega)]; rfl) ?_
      refine zx_pick [5, 0, 1, 2, 3, 4] rfl rfl ?_
      show zV X 3 A (zH G A (zS [LAr G len rw f, z1 o1 (.inr (3, [.ref o2, .int (iI 0), .int (iI 0)])), z1 o2 (zQ G 4 len g2), zbs i (fun c => zIr G (rw2 c) (f c)), z1 a (.inr (3, [.ref fs, .int (iI ((mu : Nat) : Int)), .int (iI ((pa : Nat) : Int))])), z1 fs (zQ G 4 len g)])) (1 + (1 + 0) + 1 + i) (3 + (0 + 0 * 36) + len + 36 * i) 43 [some (.ref a), some (.ref o1), some (.int (iI ((i : Nat) : Int)))] [.ref (rw i), .int (iI ((i : Nat) : Int)), .ref o2]
      refine zx_bout i (by omega) ?_
      show zV X 3 A (zH G A (zS [zIr G (rw i) (f i), zho len i (fun c => zIr G (rw c) (f c)), z1 o1 (.inr (3, [.ref o2, .int (iI 0), .int (iI 0)])), z1 o2 (zQ G 4 len g2), zbs i (fun c => zIr G (rw2 c) (f c)), z1 a (.inr (3, [.ref fs, .int (iI ((mu : Nat) : Int)), .int (iI ((pa : Nat) : Int))])), z1 fs (zQ G 4 len g)])) (1 + (1 + 0) + 1 + i) (3 + (0 + 0 * 36) + len + 36 * i) 43 [some (.ref a), some (.ref o1), some (.int (iI ((i : Nat) : Int)))] [.ref (rw i), .int (iI ((i : Nat) : Int)), .ref o2]
      refine zx_exi (fun r => zx_nest (zx_pure (fun hr => ?_)))
      show zV X 3 A (zH G A (zS [z1 (rw i) (zI G 36 r), zho len i (fun c => zIr G (rw c) (f c)), z1 o1 (.inr (3, [.ref o2, .int (iI 0), .int (iI 0)])), z1 o2 (zQ G 4 len g2), zbs i (fun c => zIr G (rw2 c) (f c)), z1 a (.inr (3, [.ref fs, .int (iI ((mu : Nat) : Int)), .int (iI ((pa : Nat) : Int))])), z1 fs (zQ G 4 len g)])) (1 + (1 + 0) + 1 + i) (3 + (0 + 0 * 36) + len + 36 * i) 43 [some (.ref a), some (.ref o1), some (.int (iI ((i : Nat) : Int)))] [.ref (rw i), .int (iI ((i : Nat) : Int)), .ref o2]
      refine zx_clone hC hA 0 rfl q767 (by rw [hRm]; exact ⟨Nat.le_of_ble_eq_true rfl, Nat.le_of_ble_eq_true rfl⟩) (Nat.le_of_ble_eq_true rfl) (by rw [hRm]; constructor <;> (first | decide | (simp only []; omega) | omega)) dX3_copy_43 (fun o3 => ?_)
      show zV X 3 A (zH G A (zS [z1 o3 (zI G 36 r), z1 (rw i) (zI G 36 r), zho len i (fun c => zIr G (rw c) (f c)), z1 o1 (.inr (3, [.ref o2, .int (iI 0), .int (iI 0)])), z1 o2 (zQ G 4 len g2), zbs i (fun c => zIr G (rw2 c) (f c)), z1 a (.inr (3, [.ref fs, .int (iI ((mu : Nat) : Int)), .int (iI ((pa : Nat) : Int))])), z1 fs (zQ G 4 len g)])) (1 + (1 + 0) + 1 + i + 1) (3 + (0 + 0 * 36) + len + 36 * i + 36) 46 [some (.ref a), some (.ref o1), some (.int (iI ((i : Nat) : Int)))] [.ref o3, .int (iI ((i : Nat) : Int)), .ref o2]
      refine zx_castI hC q766 (zat 0 rfl) dX3_copy_46 ?_
      refine zx_aastI (f' := (va_up g2 i (some o3))) hC 4 0 rfl rfl i (by omega) (by omega) rfl dX3_copy_49 ?_
      show zV X 3 A (zH G A (zS [z1 o3 (zI G 36 r), z1 (rw i) (zI G 36 r), zho len i (fun c => zIr G (rw c) (f c)), z1 o1 (.inr (3, [.ref o2, .int (iI 0), .int (iI 0)])), z1 o2 (zQ G 4 len (va_up g2 i (some o3))), zbs i (fun c => zIr G (rw2 c) (f c)), z1 a (.inr (3, [.ref fs, .int (iI ((mu : Nat) : Int)), .int (iI ((pa : Nat) : Int))])), z1 fs (zQ G 4 len g)])) (1 + (1 + 0) + 1 + i + 1) (3 + (0 + 0 * 36) + len + 36 * i + 36) 50 [some (.ref a), some (.ref o1), some (.int (iI ((i : Nat) : Int)))] []
      refine zx_pick [1, 0, 2, 3, 4, 5, 6, 7] rfl rfl ?_
      show zV X 3 A (zH G A (zS [z1 (rw i) (zI G 36 r), z1 o3 (zI G 36 r), zho len i (fun c => zIr G (rw c) (f c)), z1 o1 (.inr (3, [.ref o2, .int (iI 0), .int (iI 0)])), z1 o2 (zQ G 4 len (va_up g2 i (some o3))), zbs i (fun c => zIr G (rw2 c) (f c)), z1 a (.inr (3, [.ref fs, .int (iI ((mu : Nat) : Int)), .int (iI ((pa : Nat) : Int))])), z1 fs (zQ G 4 len g)])) (1 + (1 + 0) + 1 + i + 1) (3 + (0 + 0 * 36) + len + 36 * i + 36) 50 [some (.ref a), some (.ref o1), some (.int (iI ((i : Nat) : Int)))] []
      refine zx_close (P1 := zIr G (rw i) (f i)) [z1 (rw i) (zI G 36 r)] (zIr_mk hr) ?_
      show zV X 3 A (zH G A (zS [zIr G (rw i) (f i), z1 o3 (zI G 36 r), zho len i (fun c => zIr G (rw c) (f c)), z1 o1 (.inr (3, [.ref o2, .int (iI 0), .int (iI 0)])), z1 o2 (zQ G 4 len (va_up g2 i (some o3))), zbs i (fun c => zIr G (rw2 c) (f c)), z1 a (.inr (3, [.ref fs, .int (iI ((mu : Nat) : Int)), .int (iI ((pa : Nat) : Int))])), z1 fs (zQ G 4 len g)])) (1 + (1 + 0) + 1 + i + 1) (3 + (0 + 0 * 36) + len + 36 * i + 36) 50 [some (.ref a), some (.ref o1), some (.int (iI ((i : Nat) : Int)))] []
      refine zx_pick [0, 2, 1, 3, 4, 5, 6, 7] rfl rfl ?_
      show zV X 3 A (zH G A (zS [zIr G (rw i) (f i), zho len i (fun c => zIr G (rw c) (f c)), z1 o3 (zI G 36 r), z1 o1 (.inr (3, [.ref o2, .int (iI 0), .int (iI 0)])), z1 o2 (zQ G 4 len (va_up g2 i (some o3))), zbs i (fun c => zIr G (rw2 c) (f c)), z1 a (.inr (3, [.ref fs, .int (iI ((mu : Nat) : Int)), .int (iI ((pa : Nat) : Int))])), z1 fs (zQ G 4 len g)])) (1 + (1 + 0) + 1 + i + 1) (3 + (0 + 0 * 36) + len + 36 * i + 36) 50 [some (.ref a), some (.ref o1), some (.int (iI ((i : Nat) : Int)))] []
      refine zx_bin (fun c => zIr G (rw c) (f c)) (by omega) rfl (fun _ _ _ => rfl) ?_
      show zV X 3 A (zH G A (zS [LAr G len rw f, z1 o3 (zI G 36 r), z1 o1 (.inr (3, [.ref o2, .int (iI 0), .int (iI 0)])), z1 o2 (zQ G 4 len (va_up g2 i (some o3))), zbs i (fun c => zIr G (rw2 c) (f c)), z1 a (.inr (3, [.ref fs, .int (iI ((mu : Nat) : Int)), .int (iI ((pa : Nat) : Int))])), z1 fs (zQ G 4 len g)])) (1 + (1 + 0) + 1 + i + 1) (3 + (0 + 0 * 36) + len + 36 * i + 36) 50 [some (.ref a), some (.ref o1), some (.int (iI ((i : Nat) : Int)))] []
      refine zx_pick [1, 0, 2, 3, 4, 5, 6] rfl rfl ?_
      show zV X 3 A (zH G A (zS [z1 o3 (zI G 36 r), LAr G len rw f, z1 o1 (.inr (3, [.ref o2, .int (iI 0), .int (iI 0)])), z1 o2 (zQ G 4 len (va_up g2 i (some o3))), zbs i (fun c => zIr G (rw2 c) (f c)), z1 a (.inr (3, [.ref fs, .int (iI ((mu : Nat) : Int)), .int (iI ((pa : Nat) : Int))])), z1 fs (zQ G 4 len g)])) (1 + (1 + 0) + 1 + i + 1) (3 + (0 + 0 * 36) + len + 36 * i + 36) 50 [some (.ref a), some (.ref o1), some (.int (iI ((i : Nat) : Int)))] []
      refine zx_close (P1 := zIr G o3 (f i)) [z1 o3 (zI G 36 r)] (zIr_mk hr) ?_
      show zV X 3 A (zH G A (zS [zIr G o3 (f i), LAr G len rw f, z1 o1 (.inr (3, [.ref o2, .int (iI 0), .int (iI 0)])), z1 o2 (zQ G 4 len (va_up g2 i (some o3))), zbs i (fun c => zIr G (rw2 c) (f c)), z1 a (.inr (3, [.ref fs, .int (iI ((mu : Nat) : Int)), .int (iI ((pa : Nat) : Int))])), z1 fs (zQ G 4 len g)])) (1 + (1 + 0) + 1 + i + 1) (3 + (0 + 0 * 36) + len + 36 * i + 36) 50 [some (.ref a), some (.ref o1), some (.int (iI ((i : Nat) : Int)))] []
      refine zx_pick [4, 0, 1, 2, 3, 5, 6] rfl rfl ?_
      show zV X 3 A (zH G A (zS [zbs i (fun c => zIr G (rw2 c) (f c)), zIr G o3 (f i), LAr G len rw f, z1 o1 (.inr (3, [.ref o2, .int (iI 0), .int (iI 0)])), z1 o2 (zQ G 4 len (va_up g2 i (some o3))), z1 a (.inr (3, [.ref fs, .int (iI ((mu : Nat) : Int)), .int (iI ((pa : Nat) : Int))])), z1 fs (zQ G 4 len g)])) (1 + (1 + 0) + 1 + i + 1) (3 + (0 + 0 * 36) + len + 36 * i + 36) 50 [some (.ref a), some (.ref o1), some (.int (iI ((i : Nat) : Int)))] []
      refine zx_bpush (fun c9 => zIr G (va_up rw2 i o3 c9) (f c9)) (by rw [va_up_self]) (fun c9 h9 => by rw [va_up_ne _ _ (by omega)]) ?_
      show zV X 3 A (zH G A (zS [zbs (i + 1) (fun c => zIr G (va_up rw2 i o3 c) (f c)), LAr G len rw f, z1 o1 (.inr (3, [.ref o2, .int (iI 0), .int (iI 0)])), z1 o2 (zQ G 4 len (va_up g2 i (some o3))), z1 a (.inr (3, [.ref fs, .int (iI ((mu : Nat) : Int)), .int (iI ((pa : Nat) : Int))])), z1 fs (zQ G 4 len g)])) (1 + (1 + 0) + 1 + i + 1) (3 + (0 + 0 * 36) + len + 36 * i + 36) 50 [some (.ref a), some (.ref o1), some (.int (iI ((i : Nat) : Int)))] []
      refine zx_pick [2, 3, 0, 4, 5, 1] rfl rfl ?_
      show zV X 3 A (zH G A (zS [z1 o1 (.inr (3, [.ref o2, .int (iI 0), .int (iI 0)])), z1 o2 (zQ G 4 len (va_up g2 i (some o3))), zbs (i + 1) (fun c => zIr G (va_up rw2 i o3 c) (f c)), z1 a (.inr (3, [.ref fs, .int (iI ((mu : Nat) : Int)), .int (iI ((pa : Nat) : Int))])), z1 fs (zQ G 4 len g), LAr G len rw f])) (1 + (1 + 0) + 1 + i + 1) (3 + (0 + 0 * 36) + len + 36 * i + 36) 50 [some (.ref a), some (.ref o1), some (.int (iI ((i : Nat) : Int)))] []
      refine zx_iinc (b := ((i + 1 : Nat) : Int)) (L' := [some (.ref a), some (.ref o1), some (.int (iI ((i + 1 : Nat) : Int)))]) hC dX3_copy_50 rfl (by first | rfl | omega) (by decide) rfl ?_
      refine zx_goto (tgt := 23) hC dX3_copy_53 (by decide) ?_
      refine zx_widen (k' := 1 + (1 + 0) + 1 + (i + 1)) (n' := 3 + (0 + 0 * 36) + len + 36 * (i + 1)) (by omega) (by omega) ?_
      exact ih (i + 1) _ _ (by omega) (gset_push hg2)
  exact loop len 0 _ _ (by omega) (fun c hc => absurd hc (Nat.not_lt_zero _))
set_option maxHeartbeats 4000000 in
theorem m_X3_folded (la : Launch) (G : zG) (a : Nat) (len : Nat) (f : Nat → Nat → Nat) (mu : Nat) (pa : Nat) (g0 : len ≤ 48) (hf : ∀ c k, f c k ≤ 99) : zMA la yX3_folded cX3_folded 5 (some (.object "PedalLayers$Layer")) 3 64 G [.ref a] [LAY G a len f mu pa] (fun v9 => ∃ b, v9 = some (.ref b)) (fun v9 => (fun b => [LAY G a len f mu pa, LAY G b (len / 2) (fol f (len / 2) (len / 2 * 36)) 0 0]) (zad v9)) (100) (3600) := by
  refine zMA.of [some (.ref a), none, none, none, none] (by decide) (Nat.le_of_ble_eq_true rfl) rfl (fun X A hl hC hnm hA hRm hE => ?_)
  refine zx_exi (fun fs => zx_exi (fun g => zx_exi (fun rw => zx_nest (zx_pure (fun hg => ?_)))))
  show zV X 5 A (zH G A (zS [z1 a (.inr (3, [.ref fs, .int (iI ((mu : Nat) : Int)), .int (iI ((pa : Nat) : Int))])), z1 fs (zQ G 4 len g), LAr G len rw f])) (0) (0) 0 [some (.ref a), none, none, none, none] []
  refine zx_aload_n hC dX3_folded_0 rfl ?_
  refine zx_getf (v := .ref fs) (T := TX3) (N := 3) (ci := 3) (fs := [.ref fs, .int (iI ((mu : Nat) : Int)), .int (iI ((pa : Nat) : Int))]) hC in_X3 (zat 0 rfl) rfl 0 (by decide) q751 (fun _ h => h) rfl dX3_folded_1 ?_
  refine zx_alen hC 4 (zat 1 rfl) rfl dX3_folded_4 ?_
  refine zx_iconst (z := 2) hC dX3_folded_5 ?_
  refine zx_idiv hC dX3_folded_6 (by first | assumption | exact gI _ (by omega) | exact iRm (by omega) (by omega)) (by first | assumption | exact gI _ (by omega) | exact iRm (by omega) (by omega)) (by omega) (by omega) ?_
  refine zx_istore_n (L' := [some (.ref a), some (.int (iI ((len / 2 : Nat) : Int))), none, none, none]) hC dX3_folded_7 (by decide) rfl ?_
  refine zx_close (P1 := LAY G a len f mu pa) [z1 a (.inr (3, [.ref fs, .int (iI ((mu : Nat) : Int)), .int (iI ((pa : Nat) : Int))])), z1 fs (zQ G 4 len g), LAr G len rw f] (LAY_mk hg) ?_
  show zV X 5 A (zH G A (zS [LAY G a len f mu pa])) (0) (0) 8 [some (.ref a), some (.int (iI ((len / 2 : Nat) : Int))), none, none, none] []
  refine zx_aload_n hC dX3_folded_8 rfl ?_
  refine zx_iload_n hC dX3_folded_9 rfl ?_
  refine zx_mar (Qr := fun b1 => [LAY G a len f mu pa, LAY G b1 (len / 2) (fcut f (if len < (len / 2) then len else (len / 2))) 0 0]) hC hA [0] [] (zcV 1 (As := [.int (iI ((len / 2 : Nat) : Int))]) hC (lw_V q1023 q956 q957 q106 q958) (by decide +kernel) rfl (by rw [hRm]; exact ⟨Nat.le_of_ble_eq_true rfl, Nat.le_of_ble_eq_true rfl⟩) (by rw [hRm]; constructor <;> (first | decide | (simp only []; omega) | omega)) rfl (Nat.le_of_ble_eq_true rfl) dX3_folded_10) (m_X3_ofLength (zl X) G a len f mu pa (len / 2) (by first | assumption | omega | decide | exact iRm (by omega) (by omega) | ((repeat (first | exact gL | refine rLs.up ?_ (by omega) (by omega) | refine rLs.fad ?_)); done) | ((repeat (first | exact gM | refine rHM.up ?_ (by omega))); done) | exact gT _ (by omega) | exact rFadF_le gF _ | ((repeat first | rw [va_up_ne _ _ (by omega)] | rw [va_up_self] | rw [rFadH_o (by omega)] | rw [rAge_o _ _ (by omega)] | rw [rLayH_o (by omega) (by omega) (by omega) (by omega)]); omega)) (by first | assumption | omega | decide | exact iRm (by omega) (by omega) | ((repeat (first | exact gL | refine rLs.up ?_ (by omega) (by omega) | refine rLs.fad ?_)); done) | ((repeat (first | exact gM | refine rHM.up ?_ (by omega))); done) | exact gT _ (by omega) | exact rFadF_le gF _ | ((repeat first | rw [va_up_ne _ _ (by omega)] | rw [va_up_self] | rw [rFadH_o (by omega)] | rw [rAge_o _ _ (by omega)] | rw [rLayH_o (by omega) (by omega) (by omega) (by omega)]); omega))) (fun H h => LAY_rc hC.2.1 (zof 0 rfl H h)) rfl rfl rfl (fun b1 => ?_)
  show zV X 5 A (zH G A (zS [LAY G a len f mu pa, LAY G b1 (len / 2) (fcut f (if len < (len / 2) then len else (len / 2))) 0 0])) (100) (3600) 13 [some (.ref a), some (.int (iI ((len / 2 : Nat) : Int))), none, none, none] [.ref b1]
  refine zx_astore_n (L' := [some (.ref a), some (.int (iI ((len / 2 : Nat) : Int))), some (.ref b1), none, none]) hC dX3_folded_13 (by decide) rfl ?_
  obtain ⟨half, ehalf⟩ : ∃ half, len / 2 = half := ⟨_, rfl⟩
  rw [ehalf]
  show zV X 5 A (zH G A (zS [LAY G a len f mu pa, LAY G b1 half (fcut f (if len < half then len else half)) 0 0])) (100) (3600) 14 [some (.ref a), some (.int (iI ((half : Nat) : Int))), some (.ref b1), none, none] []
  refine zx_pick [1, 0] rfl rfl ?_
  show zV X 5 A (zH G A (zS [LAY G b1 half (fcut f (if len < half then len else half)) 0 0, LAY G a len f mu pa])) (100) (3600) 14 [some (.ref a), some (.int (iI ((half : Nat) : Int))), some (.ref b1), none, none] []
  refine zx_imp (P2 := LAY G b1 half (fol f half (0 * 36)) 0 0) (LAY_imp (fun c hc k _ => by rw [show fol f half (0 * 36) = f from fol_0 f half]; exact if_pos (by split <;> omega))) ?_
  show zV X 5 A (zH G A (zS [LAY G b1 half (fol f half (0 * 36)) 0 0, LAY G a len f mu pa])) (100) (3600) 14 [some (.ref a), some (.int (iI ((half : Nat) : Int))), some (.ref b1), none, none] []
  refine zx_pick [1, 0] rfl rfl ?_
  show zV X 5 A (zH G A (zS [LAY G a len f mu pa, LAY G b1 half (fol f half (0 * 36)) 0 0])) (100) (3600) 14 [some (.ref a), some (.int (iI ((half : Nat) : Int))), some (.ref b1), none, none] []
  refine zx_exi (fun fs => zx_exi (fun g => zx_exi (fun rw => zx_nest (zx_pure (fun hg => ?_)))))
  show zV X 5 A (zH G A (zS [z1 a (.inr (3, [.ref fs, .int (iI ((mu : Nat) : Int)), .int (iI ((pa : Nat) : Int))])), z1 fs (zQ G 4 len g), LAr G len rw f, LAY G b1 half (fol f half (0 * 36)) 0 0])) (100) (3600) 14 [some (.ref a), some (.int (iI ((half : Nat) : Int))), some (.ref b1), none, none] []
  refine zx_pick [3, 0, 1, 2] rfl rfl ?_
  show zV X 5 A (zH G A (zS [LAY G b1 half (fol f half (0 * 36)) 0 0, z1 a (.inr (3, [.ref fs, .int (iI ((mu : Nat) : Int)), .int (iI ((pa : Nat) : Int))])), z1 fs (zQ G 4 len g), LAr G len rw f])) (100) (3600) 14 [some (.ref a), some (.int (iI ((half : Nat) : Int))), some (.ref b1), none, none] []
  refine zx_iconst (z := 0) hC dX3_folded_14 ?_
  refine zx_istore_n (L' := [some (.ref a), some (.int (iI ((half : Nat) : Int))), some (.ref b1), some (.int (iI 0)), none]) hC dX3_folded_15 (by decide) rfl ?_
  have loopA : ∀ n i : Nat, i + n = half → zV X 5 A (zH G A (zS [LAY G b1 half (fol f half (i * 36)) 0 0, z1 a (.inr (3, [.ref fs, .int (iI ((mu : Nat) : Int)), .int (iI ((pa : Nat) : Int))])), z1 fs (zQ G 4 len g), LAr G len rw f])) (100) (3600) 16 [some (.ref a), some (.int (iI ((half : Nat) : Int))), some (.ref b1), some (.int (iI ((i : Nat) : Int))), none] [] := by
    intro n
    induction n with
    | zero =>
      intro i hi 
      have hiN : i = half := by omega
      rw [hiN]
      refine zx_iload_n hC dX3_folded_16 rfl ?_
      refine zx_iload_n hC dX3_folded_17 rfl ?_
      refine zx_icmp_geT (tgt := 62) hC dX3_folded_18 (by decide) (by first | assumption | exact gI _ (by omega) | exact iRm (by omega) (by omega)) (by first | assumption | exact gI _ (by omega) | exact iRm (by omega) (by omega)) (by omega) ?_
      refine zx_aload_n hC dX3_folded_62 rfl ?_
      refine zx_pick [1, 2, 3, 0] rfl rfl ?_
      show zV X 5 A (zH G A (zS [z1 a (.inr (3, [.ref fs, .int (iI ((mu : Nat) : Int)), .int (iI ((pa : Nat) : Int))])), z1 fs (zQ G 4 len g), LAr G len rw f, LAY G b1 half (fol f half (half * 36)) 0 0])) (100) (3600) 63 [some (.ref a), some (.int (iI ((half : Nat) : Int))), some (.ref b1), some (.int (iI ((half : Nat) : Int))), none] [.ref b1]
      refine zx_close (P1 := LAY G a len f mu pa) [z1 a (.inr (3, [.ref fs, .int (iI ((mu : Nat) : Int)), .int (iI ((pa : Nat) : Int))])), z1 fs (zQ G 4 len g), LAr G len rw f] (LAY_mk hg) ?_
      show zV X 5 A (zH G A (zS [LAY G a len f mu pa, LAY G b1 half (fol f half (half * 36)) 0 0])) (100) (3600) 63 [some (.ref a), some (.int (iI ((half : Nat) : Int))), some (.ref b1), some (.int (iI ((half : Nat) : Int))), none] [.ref b1]
      subst ehalf
      show zV X 5 A (zH G A (zS [LAY G a len f mu pa, LAY G b1 (len / 2) (fol f (len / 2) ((len / 2) * 36)) 0 0])) (100) (3600) 63 [some (.ref a), some (.int (iI ((len / 2 : Nat) : Int))), some (.ref b1), some (.int (iI ((len / 2 : Nat) : Int))), none] [.ref b1]
      show zV X 5 A (zH G A (zS [LAY G a len f mu pa, LAY G b1 (len / 2) (fol f (len / 2) (len / 2 * 36)) 0 0])) (100) (3600) 63 [some (.ref a), some (.int (iI ((len / 2 : Nat) : Int))), some (.ref b1), some (.int (iI ((len / 2 : Nat) : Int))), none] [.ref b1]
      exact zx_aret hC hE (.inl ⟨_, rfl⟩) (.inr ⟨_, rfl⟩) (by omega) (by omega) (fun H h => ⟨⟨_, rfl⟩, h⟩) dX3_folded_63
    | succ n ih =>
      intro i hi 
      refine zx_iload_n hC dX3_folded_16 rfl ?_
      refine zx_iload_n hC dX3_folded_17 rfl ?_
      refine zx_icmp_geF (tgt := 62) hC dX3_folded_18 (by decide) (by first | assumption | exact gI _ (by omega) | exact iRm (by omega) (by omega)) (by first | assumption | exact gI _ (by omega) | exact iRm (by omega) (by omega)) (by omega) ?_
      rw [show i * 36 = i * 36 + 0 from rfl]
      refine zx_iconst (z := 0) hC dX3_folded_21 ?_
      refine zx_istore (L' := [some (.ref a), some (.int (iI ((half : Nat) : Int))), some (.ref b1), some (.int (iI ((i : Nat) : Int))), some (.int (iI 0))]) hC dX3_folded_22 (by decide) rfl ?_
      have loopB : ∀ n j : Nat, j + n = 36 → zV X 5 A (zH G A (zS [LAY G b1 half (fol f half (i * 36 + j)) 0 0, z1 a (.inr (3, [.ref fs, .int (iI ((mu : Nat) : Int)), .int (iI ((pa : Nat) : Int))])), z1 fs (zQ G 4 len g), LAr G len rw f])) (100) (3600) 24 [some (.ref a), some (.int (iI ((half : Nat) : Int))), some (.ref b1), some (.int (iI ((i : Nat) : Int))), some (.int (iI ((j : Nat) : Int)))] [] := by
        intro n
        induction n with
        | zero =>
          intro j hj 
          have hjN : j = 36 := by omega
          rw [hjN]
          refine zx_iload hC dX3_folded_24 rfl ?_
          refine zx_bipush (z := 36) hC dX3_folded_26 rfl ?_
          refine zx_icmp_geT (tgt := 56) hC dX3_folded_28 (by decide) (by first | assumption | exact gI _ (by omega) | exact iRm (by omega) (by omega)) (by first | assumption | exact gI _ (by omega) | exact iRm (by omega) (by omega)) (by omega) ?_
          rw [show i * 36 + 36 = (i + 1) * 36 by omega]
          refine zx_iinc (b := ((i + 1 : Nat) : Int)) (L' := [some (.ref a), some (.int (iI ((half : Nat) : Int))), some (.ref b1), some (.int (iI ((i + 1 : Nat) : Int))), some (.int (iI 36))]) hC dX3_folded_56 rfl (by first | rfl | omega) (by decide) rfl ?_
          refine zx_goto (tgt := 16) hC dX3_folded_59 (by decide) ?_
          refine zx_le (L' := [some (.ref a), some (.int (iI ((half : Nat) : Int))), some (.ref b1), some (.int (iI ((i + 1 : Nat) : Int))), none]) (zle_s (zle_s (zle_s (zle_s (zle_n zle_0))))) ?_
          exact ih (i + 1) (by omega) 
        | succ n ih =>
          intro j hj 
          refine zx_iload hC dX3_folded_24 rfl ?_
          refine zx_bipush (z := 36) hC dX3_folded_26 rfl ?_
          refine zx_icmp_geF (tgt := 56) hC dX3_folded_28 (by decide) (by first | assumption | exact gI _ (by omega) | exact iRm (by omega) (by omega)) (by first | assumption | exact gI _ (by omega) | exact iRm (by omega) (by omega)) (by omega) ?_
          refine zx_aload_n hC dX3_folded_31 rfl ?_
          refine zx_iload_n hC dX3_folded_32 rfl ?_
          refine zx_iload hC dX3_folded_33 rfl ?_
          refine zx_aload_n hC dX3_folded_35 rfl ?_
          refine zx_getf (v := .ref fs) (T := TX3) (N := 3) (ci := 3) (fs := [.ref fs, .int (iI ((mu : Nat) : Int)), .int (iI ((pa : Nat) : Int))]) hC in_X3 (zat 1 rfl) rfl 0 (by decide) q751 (fun _ h => h) rfl dX3_folded_36 ?_
          refine zx_iload_n hC dX3_folded_39 rfl ?_
          refine zx_iload_n hC dX3_folded_40 rfl ?_
          refine zx_iadd hC dX3_folded_41 ?_
          refine zx_aaldN hC 4 (by omega) (zat 2 rfl) (i + half) (by omega) (by omega) dX3_folded_42 ?_
          refine zx_eq (rest' := [.ref (rw (i + half)), .int (iI ((j : Nat) : Int)), .int (iI ((i : Nat) : Int)), .ref b1]) rfl (by rw [hg (i + half) (by omega)]; rfl) ?_
          refine zx_iload hC dX3_folded_43 rfl ?_
          refine zx_ialdR hC (fun H h => (zof 3 rfl H h).bs (i + half) (by omega)) j (by omega) dX3_folded_45 ?_
          have hB2 := hf (i + half) j
          refine zx_ma1 (r := .int (iI ((rBoth ((fol f half (i * 36 + j)) i j) (f (i + half) j) : Nat) : Int))) (Q := fun _ => [LAY G b1 half (va_up (fol f half (i * 36 + j)) i (va_up ((fol f half (i * 36 + j)) i) j (rBoth ((fol f half (i * 36 + j)) i j) (f (i + half) j)))) 0 0]) hC hA [0] [1, 2, 3] (zcV 3 (As := [.int (iI ((i : Nat) : Int)), .int (iI ((j : Nat) : Int)), .int (iI ((f (i + half) j : Nat) : Int))]) hC (lw_V q1024 q1025 q1026 q106 q1027) (by decide +kernel) rfl (by rw [hRm]; exact ⟨Nat.le_of_ble_eq_true rfl, Nat.le_of_ble_eq_true rfl⟩) (by rw [hRm]; constructor <;> (first | decide | (simp only []; omega) | omega)) rfl (Nat.le_of_ble_eq_true rfl) dX3_folded_46) (m_X3_adds (zl X) G b1 half (fol f half (i * 36 + j)) 0 0 i j (f (i + half) j) (by first | assumption | omega | decide | exact iRm (by omega) (by omega) | ((repeat (first | exact gL | refine rLs.up ?_ (by omega) (by omega) | refine rLs.fad ?_)); done) | ((repeat (first | exact gM | refine rHM.up ?_ (by omega))); done) | exact gT _ (by omega) | exact rFadF_le gF _ | ((repeat first | rw [va_up_ne _ _ (by omega)] | rw [va_up_self] | rw [rFadH_o (by omega)] | rw [rAge_o _ _ (by omega)] | rw [rLayH_o (by omega) (by omega) (by omega) (by omega)]); omega)) (by first | assumption | omega | decide | exact iRm (by omega) (by omega) | ((repeat (first | exact gL | refine rLs.up ?_ (by omega) (by omega) | refine rLs.fad ?_)); done) | ((repeat (first | exact gM | refine rHM.up ?_ (by omega))); done) | exact gT _ (by omega) | exact rFadF_le gF _ | ((repeat first | rw [va_up_ne _ _ (by omega)] | rw [va_up_self] | rw [rFadH_o (by omega)] | rw [rAge_o _ _ (by omega)] | rw [rLayH_o (by omega) (by omega) (by omega) (by omega)]); omega)) (by first | assumption | omega | decide | exact iRm (by omega) (by omega) | ((repeat (first | exact gL | refine rLs.up ?_ (by omega) (by omega) | refine rLs.fad ?_)); done) | ((repeat (first | exact gM | refine rHM.up ?_ (by omega))); done) | exact gT _ (by omega) | exact rFadF_le gF _ | ((repeat first | rw [va_up_ne _ _ (by omega)] | rw [va_up_self] | rw [rFadH_o (by omega)] | rw [rAge_o _ _ (by omega)] | rw [rLayH_o (by omega) (by omega) (by omega) (by omega)]); omega)) (by first | assumption | omega | decide | exact iRm (by omega) (by omega) | ((repeat (first | exact gL | refine rLs.up ?_ (by omega) (by omega) | refine rLs.fad ?_)); done) | ((repeat (first | exact gM | refine rHM.up ?_ (by omega))); done) | exact gT _ (by omega) | exact rFadF_le gF _ | ((repeat first | rw [va_up_ne _ _ (by omega)] | rw [va_up_self] | rw [rFadH_o (by omega)] | rw [rAge_o _ _ (by omega)] | rw [rLayH_o (by omega) (by omega) (by omega) (by omega)]); omega)) (fol_le hf _ _ _ _)) (fun H h => LAY_rc hC.2.1 (zof 0 rfl H h)) rfl rfl rfl ?_
          show zV X 5 A (zH G A (zS [z1 a (.inr (3, [.ref fs, .int (iI ((mu : Nat) : Int)), .int (iI ((pa : Nat) : Int))])), z1 fs (zQ G 4 len g), LAr G len rw f, LAY G b1 half (va_up (fol f half (i * 36 + j)) i (va_up ((fol f half (i * 36 + j)) i) j (rBoth ((fol f half (i * 36 + j)) i j) (f (i + half) j)))) 0 0])) (100) (3600) 49 [some (.ref a), some (.int (iI ((half : Nat) : Int))), some (.ref b1), some (.int (iI ((i : Nat) : Int))), some (.int (iI ((j : Nat) : Int)))] [.int (iI ((rBoth ((fol f half (i * 36 + j)) i j) (f (i + half) j) : Nat) : Int))]
          refine zx_pop hC dX3_folded_49 rfl ?_
          refine zx_pick [3, 0, 1, 2] rfl rfl ?_
          show zV X 5 A (zH G A (zS [LAY G b1 half (va_up (fol f half (i * 36 + j)) i (va_up ((fol f half (i * 36 + j)) i) j (rBoth ((fol f half (i * 36 + j)) i j) (f (i + half) j)))) 0 0, z1 a (.inr (3, [.ref fs, .int (iI ((mu : Nat) : Int)), .int (iI ((pa : Nat) : Int))])), z1 fs (zQ G 4 len g), LAr G len rw f])) (100) (3600) 50 [some (.ref a), some (.int (iI ((half : Nat) : Int))), some (.ref b1), some (.int (iI ((i : Nat) : Int))), some (.int (iI ((j : Nat) : Int)))] []
          refine zx_imp (P2 := LAY G b1 half (fol f half (i * 36 + (j + 1))) 0 0) (LAY_imp (fun c _ k hk => fol_s (by omega) c k hk)) ?_
          show zV X 5 A (zH G A (zS [LAY G b1 half (fol f half (i * 36 + (j + 1))) 0 0, z1 a (.inr (3, [.ref fs, .int (iI ((mu : Nat) : Int)), .int (iI ((pa : Nat) : Int))])), z1 fs (zQ G 4 len g), LAr G len rw f])) (100) (3600) 50 [some (.ref a), some (.int (iI ((half : Nat) : Int))), some (.ref b1), some (.int (iI ((i : Nat) : Int))), some (.int (iI ((j : Nat) : Int)))] []
          refine zx_iinc (b := ((j + 1 : Nat) : Int)) (L' := [some (.ref a), some (.int (iI ((half : Nat) : Int))), some (.ref b1), some (.int (iI ((i : Nat) : Int))), some (.int (iI ((j + 1 : Nat) : Int)))]) hC dX3_folded_50 rfl (by first | rfl | omega) (by decide) rfl ?_
          refine zx_goto (tgt := 24) hC dX3_folded_53 (by decide) ?_
          exact ih (j + 1) (by omega) 
      exact loopB (36) 0 (by omega) 
  exact loopA (half) 0 (by omega) 
