/-! walked: part 43b (printed by gen/gen2.py) -/
set_option maxRecDepth 100000
set_option maxHeartbeats 4000000 in
theorem m_J23_initNN (la : Launch) (G : zG) (a : Nat) (q : Nat)  : zMA la yJ23_init cJ23_init 4 none 1 20 G [.ref a, .null, .ref q, .null] [z1 a (.inr (6, [.null, .null, .null]))] (fun v9 => v9 = none) (fun _ => [z1 a (.inr (6, [.ref q, .null, .null]))]) (0) (0) := by
  refine zMA.of [some (.ref a), some (.null), some (.ref q), some (.null)] (by decide) (Nat.le_of_ble_eq_true rfl) rfl (fun X A hl hC hnm hA hRm hE => ?_)
  refine zx_aload_n hC dJ23_init_0 rfl ?_
  refine zx_obj hC q884 (by rw [hRm]; exact ⟨Nat.le_of_ble_eq_true rfl, Nat.le_of_ble_eq_true rfl⟩) (Nat.le_of_ble_eq_true rfl) dJ23_init_1 ?_
  refine zx_aload_n hC dJ23_init_4 rfl ?_
  refine zx_aload_n hC dJ23_init_5 rfl ?_
  refine zx_putf (T := TJ23) (N := 3) (ci := 6) (fs := [.null, .null, .null]) (fs' := [.ref q, .null, .null]) hC 0 in_J23 tyJ23 tyJ23_ok nmJ23 rfl rfl 0 (by decide) q885 (fun _ h => h) rfl (by first | rfl | exact rfl) (by first | rfl | exact rfl) (Nat.le_of_ble_eq_true rfl) rfl dJ23_init_6 ?_
  show zV X 4 A (zH G A (zS [z1 a (.inr (6, [.ref q, .null, .null]))])) (0) (0) 9 [some (.ref a), some (.null), some (.ref q), some (.null)] []
  refine zx_aload_n hC dJ23_init_9 rfl ?_
  refine zx_aload_nN hC dJ23_init_10 rfl ?_
  refine zx_putf (T := TJ23) (N := 3) (ci := 6) (fs := [.ref q, .null, .null]) (fs' := [.ref q, .null, .null]) hC 0 in_J23 tyJ23 tyJ23_ok nmJ23 rfl rfl 1 (by decide) q888 (fun _ h => h) rfl (by first | rfl | exact rfl) (by first | rfl | exact rfl) (Nat.le_of_ble_eq_true rfl) rfl dJ23_init_11 ?_
  show zV X 4 A (zH G A (zS [z1 a (.inr (6, [.ref q, .null, .null]))])) (0) (0) 14 [some (.ref a), some (.null), some (.ref q), some (.null)] []
  refine zx_aload_n hC dJ23_init_14 rfl ?_
  refine zx_aload_nN hC dJ23_init_15 rfl ?_
  refine zx_putf (T := TJ23) (N := 3) (ci := 6) (fs := [.ref q, .null, .null]) (fs' := [.ref q, .null, .null]) hC 0 in_J23 tyJ23 tyJ23_ok nmJ23 rfl rfl 2 (by decide) q891 (fun _ h => h) rfl (by first | rfl | exact rfl) (by first | rfl | exact rfl) (Nat.le_of_ble_eq_true rfl) rfl dJ23_init_16 ?_
  show zV X 4 A (zH G A (zS [z1 a (.inr (6, [.ref q, .null, .null]))])) (0) (0) 19 [some (.ref a), some (.null), some (.ref q), some (.null)] []
  exact zx_vret hC hE (by omega) (by omega) (fun H h => ⟨rfl, h⟩) dJ23_init_19
set_option maxHeartbeats 4000000 in
theorem m_J23_initNR (la : Launch) (G : zG) (a : Nat) (q : Nat) (nx : Nat)  : zMA la yJ23_init cJ23_init 4 none 1 20 G [.ref a, .null, .ref q, .ref nx] [z1 a (.inr (6, [.null, .null, .null]))] (fun v9 => v9 = none) (fun _ => [z1 a (.inr (6, [.ref q, .ref nx, .null]))]) (0) (0) := by
  refine zMA.of [some (.ref a), some (.null), some (.ref q), some (.ref nx)] (by decide) (Nat.le_of_ble_eq_true rfl) rfl (fun X A hl hC hnm hA hRm hE => ?_)
  refine zx_aload_n hC dJ23_init_0 rfl ?_
  refine zx_obj hC q884 (by rw [hRm]; exact ⟨Nat.le_of_ble_eq_true rfl, Nat.le_of_ble_eq_true rfl⟩) (Nat.le_of_ble_eq_true rfl) dJ23_init_1 ?_
  refine zx_aload_n hC dJ23_init_4 rfl ?_
  refine zx_aload_n hC dJ23_init_5 rfl ?_
  refine zx_putf (T := TJ23) (N := 3) (ci := 6) (fs := [.null, .null, .null]) (fs' := [.ref q, .null, .null]) hC 0 in_J23 tyJ23 tyJ23_ok nmJ23 rfl rfl 0 (by decide) q885 (fun _ h => h) rfl (by first | rfl | exact rfl) (by first | rfl | exact rfl) (Nat.le_of_ble_eq_true rfl) rfl dJ23_init_6 ?_
  show zV X 4 A (zH G A (zS [z1 a (.inr (6, [.ref q, .null, .null]))])) (0) (0) 9 [some (.ref a), some (.null), some (.ref q), some (.ref nx)] []
  refine zx_aload_n hC dJ23_init_9 rfl ?_
  refine zx_aload_n hC dJ23_init_10 rfl ?_
  refine zx_putf (T := TJ23) (N := 3) (ci := 6) (fs := [.ref q, .null, .null]) (fs' := [.ref q, .ref nx, .null]) hC 0 in_J23 tyJ23 tyJ23_ok nmJ23 rfl rfl 1 (by decide) q888 (fun _ h => h) rfl (by first | rfl | exact rfl) (by first | rfl | exact rfl) (Nat.le_of_ble_eq_true rfl) rfl dJ23_init_11 ?_
  show zV X 4 A (zH G A (zS [z1 a (.inr (6, [.ref q, .ref nx, .null]))])) (0) (0) 14 [some (.ref a), some (.null), some (.ref q), some (.ref nx)] []
  refine zx_aload_n hC dJ23_init_14 rfl ?_
  refine zx_aload_nN hC dJ23_init_15 rfl ?_
  refine zx_putf (T := TJ23) (N := 3) (ci := 6) (fs := [.ref q, .ref nx, .null]) (fs' := [.ref q, .ref nx, .null]) hC 0 in_J23 tyJ23 tyJ23_ok nmJ23 rfl rfl 2 (by decide) q891 (fun _ h => h) rfl (by first | rfl | exact rfl) (by first | rfl | exact rfl) (Nat.le_of_ble_eq_true rfl) rfl dJ23_init_16 ?_
  show zV X 4 A (zH G A (zS [z1 a (.inr (6, [.ref q, .ref nx, .null]))])) (0) (0) 19 [some (.ref a), some (.null), some (.ref q), some (.ref nx)] []
  exact zx_vret hC hE (by omega) (by omega) (fun H h => ⟨rfl, h⟩) dJ23_init_19
set_option maxHeartbeats 4000000 in
theorem m_J23_initRN (la : Launch) (G : zG) (a : Nat) (q : Nat) (pr : Nat)  : zMA la yJ23_init cJ23_init 4 none 1 20 G [.ref a, .ref pr, .ref q, .null] [z1 a (.inr (6, [.null, .null, .null]))] (fun v9 => v9 = none) (fun _ => [z1 a (.inr (6, [.ref q, .null, .ref pr]))]) (0) (0) := by
  refine zMA.of [some (.ref a), some (.ref pr), some (.ref q), some (.null)] (by decide) (Nat.le_of_ble_eq_true rfl) rfl (fun X A hl hC hnm hA hRm hE => ?_)
  refine zx_aload_n hC dJ23_init_0 rfl ?_
  refine zx_obj hC q884 (by rw [hRm]; exact ⟨Nat.le_of_ble_eq_true rfl, Nat.le_of_ble_eq_true rfl⟩) (Nat.le_of_ble_eq_true rfl) dJ23_init_1 ?_
  refine zx_aload_n hC dJ23_init_4 rfl ?_
  refine zx_aload_n hC dJ23_init_5 rfl ?_
  refine zx_putf (T := TJ23) (N := 3) (ci := 6) (fs := [.null, .null, .null]) (fs' := [.ref q, .null, .null]) hC 0 in_J23 tyJ23 tyJ23_ok nmJ23 rfl rfl 0 (by decide) q885 (fun _ h => h) rfl (by first | rfl | exact rfl) (by first | rfl | exact rfl) (Nat.le_of_ble_eq_true rfl) rfl dJ23_init_6 ?_
  show zV X 4 A (zH G A (zS [z1 a (.inr (6, [.ref q, .null, .null]))])) (0) (0) 9 [some (.ref a), some (.ref pr), some (.ref q), some (.null)] []
  refine zx_aload_n hC dJ23_init_9 rfl ?_
  refine zx_aload_nN hC dJ23_init_10 rfl ?_
  refine zx_putf (T := TJ23) (N := 3) (ci := 6) (fs := [.ref q, .null, .null]) (fs' := [.ref q, .null, .null]) hC 0 in_J23 tyJ23 tyJ23_ok nmJ23 rfl rfl 1 (by decide) q888 (fun _ h => h) rfl (by first | rfl | exact rfl) (by first | rfl | exact rfl) (Nat.le_of_ble_eq_true rfl) rfl dJ23_init_11 ?_
  show zV X 4 A (zH G A (zS [z1 a (.inr (6, [.ref q, .null, .null]))])) (0) (0) 14 [some (.ref a), some (.ref pr), some (.ref q), some (.null)] []
  refine zx_aload_n hC dJ23_init_14 rfl ?_
  refine zx_aload_n hC dJ23_init_15 rfl ?_
  refine zx_putf (T := TJ23) (N := 3) (ci := 6) (fs := [.ref q, .null, .null]) (fs' := [.ref q, .null, .ref pr]) hC 0 in_J23 tyJ23 tyJ23_ok nmJ23 rfl rfl 2 (by decide) q891 (fun _ h => h) rfl (by first | rfl | exact rfl) (by first | rfl | exact rfl) (Nat.le_of_ble_eq_true rfl) rfl dJ23_init_16 ?_
  show zV X 4 A (zH G A (zS [z1 a (.inr (6, [.ref q, .null, .ref pr]))])) (0) (0) 19 [some (.ref a), some (.ref pr), some (.ref q), some (.null)] []
  exact zx_vret hC hE (by omega) (by omega) (fun H h => ⟨rfl, h⟩) dJ23_init_19
set_option maxHeartbeats 4000000 in
theorem m_J1_initL (la : Launch) (G : zG) (a : Nat)  : zMA la yJ1_init cJ1_init 1 none 2 40 G [.ref a] [z1 a (.inr (5, [.int (iI 0), .int (iI 0), .null, .null]))] (fun v9 => v9 = none) (fun _ => [z1 a (.inr (5, [.int (iI 0), .int (iI 0), .null, .null]))]) (0) (0) := by
  refine zMA.of [some (.ref a)] (by decide) (Nat.le_of_ble_eq_true rfl) rfl (fun X A hl hC hnm hA hRm hE => ?_)
  refine zx_aload_n hC dJ1_init_0 rfl ?_
  refine zx_rd0 hC hA.2 (zcI 0 (As := []) hC (lw_meth q147) q84 q145 q146 (by decide +kernel) rfl rfl (by rw [hRm]; exact ⟨Nat.le_of_ble_eq_true rfl, Nat.le_of_ble_eq_true rfl⟩) (by rw [hRm]; constructor <;> (first | decide | (simp only []; omega) | omega)) rfl (Nat.le_of_ble_eq_true rfl) dJ1_init_1) (m_J0_init (zl X) G a ) (fun _ _ => trivial) (fun _ _ => trivial) ?_
  refine zx_aload_n hC dJ1_init_4 rfl ?_
  refine zx_iconst (z := 0) hC dJ1_init_5 ?_
  refine zx_putf (T := TJ4) (N := 4) (ci := 5) (fs := [.int (iI 0), .int (iI 0), .null, .null]) (fs' := [.int (iI 0), .int (iI 0), .null, .null]) hC 0 in_J4 tyJ4 tyJ4_ok nmJ4 rfl rfl 0 (by decide) q155 (fun _ h => h) rfl (by first | rfl | exact rfl) (by first | rfl | exact rfl) (Nat.le_of_ble_eq_true rfl) rfl dJ1_init_6 ?_
  show zV X 1 A (zH G A (zS [z1 a (.inr (5, [.int (iI 0), .int (iI 0), .null, .null]))])) (0) (0) 9 [some (.ref a)] []
  exact zx_vret hC hE (by omega) (by omega) (fun H h => ⟨rfl, h⟩) dJ1_init_9
set_option maxHeartbeats 4000000 in
theorem m_J3_init (la : Launch) (G : zG) (a : Nat)  : zMA la yJ3_init cJ3_init 1 none 3 60 G [.ref a] [z1 a (.inr (5, [.int (iI 0), .int (iI 0), .null, .null]))] (fun v9 => v9 = none) (fun _ => [z1 a (.inr (5, [.int (iI 0), .int (iI 0), .null, .null]))]) (0) (0) := by
  refine zMA.of [some (.ref a)] (by decide) (Nat.le_of_ble_eq_true rfl) rfl (fun X A hl hC hnm hA hRm hE => ?_)
  refine zx_aload_n hC dJ3_init_0 rfl ?_
  refine zx_ma0 (Q := fun _ => [z1 a (.inr (5, [.int (iI 0), .int (iI 0), .null, .null]))]) hC hA [0] [] (zcI 0 (As := []) hC (lw_meth q144) q85 q178 q143 (by decide +kernel) rfl rfl (by rw [hRm]; exact ⟨Nat.le_of_ble_eq_true rfl, Nat.le_of_ble_eq_true rfl⟩) (by rw [hRm]; constructor <;> (first | decide | (simp only []; omega) | omega)) rfl (Nat.le_of_ble_eq_true rfl) dJ3_init_1) (m_J1_initL (zl X) G a ) (fun _ _ => trivial) rfl rfl rfl ?_
  show zV X 1 A (zH G A (zS [z1 a (.inr (5, [.int (iI 0), .int (iI 0), .null, .null]))])) (0) (0) 4 [some (.ref a)] []
  exact zx_vret hC hE (by omega) (by omega) (fun H h => ⟨rfl, h⟩) dJ3_init_4
set_option maxHeartbeats 4000000 in
theorem m_J4_init (la : Launch) (G : zG) (a : Nat)  : zMA la yJ4_init cJ4_init 1 none 4 80 G [.ref a] [z1 a (.inr (5, [.int (iI 0), .int (iI 0), .null, .null]))] (fun v9 => v9 = none) (fun _ => [LL G a 0 (fun _ => 0)]) (0) (0) := by
  refine zMA.of [some (.ref a)] (by decide) (Nat.le_of_ble_eq_true rfl) rfl (fun X A hl hC hnm hA hRm hE => ?_)
  refine zx_aload_n hC dJ4_init_0 rfl ?_
  refine zx_ma0 (Q := fun _ => [z1 a (.inr (5, [.int (iI 0), .int (iI 0), .null, .null]))]) hC hA [0] [] (zcI 0 (As := []) hC (lw_meth q177) q87 q175 q176 (by decide +kernel) rfl rfl (by rw [hRm]; exact ⟨Nat.le_of_ble_eq_true rfl, Nat.le_of_ble_eq_true rfl⟩) (by rw [hRm]; constructor <;> (first | decide | (simp only []; omega) | omega)) rfl (Nat.le_of_ble_eq_true rfl) dJ4_init_1) (m_J3_init (zl X) G a ) (fun _ _ => trivial) rfl rfl rfl ?_
  show zV X 1 A (zH G A (zS [z1 a (.inr (5, [.int (iI 0), .int (iI 0), .null, .null]))])) (0) (0) 4 [some (.ref a)] []
  refine zx_aload_n hC dJ4_init_4 rfl ?_
  refine zx_iconst (z := 0) hC dJ4_init_5 ?_
  refine zx_putf (T := TJ4) (N := 4) (ci := 5) (fs := [.int (iI 0), .int (iI 0), .null, .null]) (fs' := [.int (iI 0), .int (iI 0), .null, .null]) hC 0 in_J4 tyJ4 tyJ4_ok nmJ4 rfl rfl 1 (by decide) q179 (fun _ h => h) rfl (by first | rfl | exact rfl) (by first | rfl | exact rfl) (Nat.le_of_ble_eq_true rfl) rfl dJ4_init_6 ?_
  show zV X 1 A (zH G A (zS [z1 a (.inr (5, [.int (iI 0), .int (iI 0), .null, .null]))])) (0) (0) 9 [some (.ref a)] []
  refine zx_close (P1 := LL G a 0 (fun _ => 0)) [z1 a (.inr (5, [.int (iI 0), .int (iI 0), .null, .null]))] (LLE_mk _) ?_
  show zV X 1 A (zH G A (zS [LL G a 0 (fun _ => 0)])) (0) (0) 9 [some (.ref a)] []
  exact zx_vret hC hE (by omega) (by omega) (fun H h => ⟨rfl, h⟩) dJ4_init_9
set_option maxHeartbeats 4000000 in
theorem m_J4_linkFirstE (la : Launch) (G : zG) (a : Nat) (xs : Nat → Nat) (q : Nat)  : zMA la yJ4_linkFirst cJ4_linkFirst 4 none 2 43 G [.ref a, .ref q] [LL G a 0 xs] (fun v9 => v9 = none) (fun _ => [LL G a 1 (lcons q xs)]) (1) (3) := by
  refine zMA.of [some (.ref a), some (.ref q), none, none] (by decide) (Nat.le_of_ble_eq_true rfl) rfl (fun X A hl hC hnm hA hRm hE => ?_)
  refine zx_imp (P2 := LLE G a) (LL_E) ?_
  show zV X 4 A (zH G A (zS [LLE G a])) (0) (0) 0 [some (.ref a), some (.ref q), none, none] []
  refine zx_exi (fun mo => zx_nest ?_)
  show zV X 4 A (zH G A (zS [z1 a (.inr (5, [.int (iI mo), .int (iI 0), .null, .null]))])) (0) (0) 0 [some (.ref a), some (.ref q), none, none] []
  refine zx_aload_n hC dJ4_linkFirst_0 rfl ?_
  refine zx_getf (v := .null) (T := TJ4) (N := 4) (ci := 5) (fs := [.int (iI mo), .int (iI 0), .null, .null]) hC in_J4 (zat 0 rfl) rfl 2 (by decide) q181 (fun _ h => h) rfl dJ4_linkFirst_1 ?_
  refine zx_astore_nN (L' := [some (.ref a), some (.ref q), some (.null), none]) hC dJ4_linkFirst_4 (by decide) rfl ?_
  refine zx_new (T := TJ23) (N := 3) (ci := 6) (fs := [.null, .null, .null]) hC hA in_J23 tyJ23 tyJ23_ok q879 q880 q111 rfl (by decide) (by rw [hRm]; constructor <;> (first | decide | (simp only []; omega) | omega)) dJ4_linkFirst_5 (fun o1 => ?_)
  show zV X 4 A (zH G A (zS [z1 o1 (.inr (6, [.null, .null, .null])), z1 a (.inr (5, [.int (iI mo), .int (iI 0), .null, .null]))])) (1) (3) 8 [some (.ref a), some (.ref q), some (.null), none] [.ref o1]
  refine zx_dup hC dJ4_linkFirst_8 rfl ?_
  refine zx_null hC dJ4_linkFirst_9 ?_
  refine zx_aload_n hC dJ4_linkFirst_10 rfl ?_
  refine zx_aload_nN hC dJ4_linkFirst_11 rfl ?_
  refine zx_ma0 (Q := fun _ => [z1 o1 (.inr (6, [.ref q, .null, .null]))]) hC hA [0] [1] (zcI 3 (As := [.null, .ref q, .null]) hC (lw_meth q883) q111 q881 q882 (by decide +kernel) rfl rfl (by rw [hRm]; exact ⟨Nat.le_of_ble_eq_true rfl, Nat.le_of_ble_eq_true rfl⟩) (by rw [hRm]; constructor <;> (first | decide | (simp only []; omega) | omega)) rfl (Nat.le_of_ble_eq_true rfl) dJ4_linkFirst_12) (m_J23_initNN (zl X) G o1 q ) (fun _ _ => trivial) rfl rfl rfl ?_
  show zV X 4 A (zH G A (zS [z1 a (.inr (5, [.int (iI mo), .int (iI 0), .null, .null])), z1 o1 (.inr (6, [.ref q, .null, .null]))])) (1) (3) 15 [some (.ref a), some (.ref q), some (.null), none] [.ref o1]
  refine zx_astore_n (L' := [some (.ref a), some (.ref q), some (.null), some (.ref o1)]) hC dJ4_linkFirst_15 (by decide) rfl ?_
  refine zx_aload_n hC dJ4_linkFirst_16 rfl ?_
  refine zx_aload_n hC dJ4_linkFirst_17 rfl ?_
  refine zx_putf (T := TJ4) (N := 4) (ci := 5) (fs := [.int (iI mo), .int (iI 0), .null, .null]) (fs' := [.int (iI mo), .int (iI 0), .ref o1, .null]) hC 0 in_J4 tyJ4 tyJ4_ok nmJ4 rfl rfl 2 (by decide) q181 (fun _ h => h) rfl (by first | rfl | exact rfl) (by first | rfl | exact rfl) (Nat.le_of_ble_eq_true rfl) rfl dJ4_linkFirst_18 ?_
  show zV X 4 A (zH G A (zS [z1 a (.inr (5, [.int (iI mo), .int (iI 0), .ref o1, .null])), z1 o1 (.inr (6, [.ref q, .null, .null]))])) (1) (3) 21 [some (.ref a), some (.ref q), some (.null), some (.ref o1)] []
  refine zx_aload_nN hC dJ4_linkFirst_21 rfl ?_
  refine zx_ifnonnullN hC dJ4_linkFirst_22 ?_
  refine zx_aload_n hC dJ4_linkFirst_25 rfl ?_
  refine zx_aload_n hC dJ4_linkFirst_26 rfl ?_
  refine zx_putf (T := TJ4) (N := 4) (ci := 5) (fs := [.int (iI mo), .int (iI 0), .ref o1, .null]) (fs' := [.int (iI mo), .int (iI 0), .ref o1, .ref o1]) hC 0 in_J4 tyJ4 tyJ4_ok nmJ4 rfl rfl 3 (by decide) q182 (fun _ h => h) rfl (by first | rfl | exact rfl) (by first | rfl | exact rfl) (Nat.le_of_ble_eq_true rfl) rfl dJ4_linkFirst_27 ?_
  show zV X 4 A (zH G A (zS [z1 a (.inr (5, [.int (iI mo), .int (iI 0), .ref o1, .ref o1])), z1 o1 (.inr (6, [.ref q, .null, .null]))])) (1) (3) 30 [some (.ref a), some (.ref q), some (.null), some (.ref o1)] []
  refine zx_goto (tgt := 38) hC dJ4_linkFirst_30 (by decide) ?_
  refine zx_aload_n hC dJ4_linkFirst_38 rfl ?_
  refine zx_dup hC dJ4_linkFirst_39 rfl ?_
  refine zx_getf (v := .int (iI 0)) (T := TJ4) (N := 4) (ci := 5) (fs := [.int (iI mo), .int (iI 0), .ref o1, .ref o1]) hC in_J4 (zat 0 rfl) rfl 1 (by decide) q179 (fun _ h => h) rfl dJ4_linkFirst_40 ?_
  refine zx_iconst (z := 1) hC dJ4_linkFirst_43 ?_
  refine zx_iadd hC dJ4_linkFirst_44 ?_
  refine zx_putf (T := TJ4) (N := 4) (ci := 5) (fs := [.int (iI mo), .int (iI 0), .ref o1, .ref o1]) (fs' := [.int (iI mo), .int (iI 1), .ref o1, .ref o1]) hC 0 in_J4 tyJ4 tyJ4_ok nmJ4 rfl rfl 1 (by decide) q179 (fun _ h => h) rfl (by first | rfl | exact rfl) (by first | rfl | exact rfl) (Nat.le_of_ble_eq_true rfl) rfl dJ4_linkFirst_45 ?_
  show zV X 4 A (zH G A (zS [z1 a (.inr (5, [.int (iI mo), .int (iI 1), .ref o1, .ref o1])), z1 o1 (.inr (6, [.ref q, .null, .null]))])) (1) (3) 48 [some (.ref a), some (.ref q), some (.null), some (.ref o1)] []
  refine zx_aload_n hC dJ4_linkFirst_48 rfl ?_
  refine zx_dup hC dJ4_linkFirst_49 rfl ?_
  refine zx_getf (v := .int (iI mo)) (T := TJ4) (N := 4) (ci := 5) (fs := [.int (iI mo), .int (iI 1), .ref o1, .ref o1]) hC in_J4 (zat 0 rfl) rfl 0 (by decide) q161 (fun x h => u_same (hC.1.2.2.2.2 _ q157) x h) rfl dJ4_linkFirst_50 ?_
  refine zx_iconst (z := 1) hC dJ4_linkFirst_53 ?_
  refine zx_iadd hC dJ4_linkFirst_54 ?_
  refine zx_putf (T := TJ4) (N := 4) (ci := 5) (fs := [.int (iI mo), .int (iI 1), .ref o1, .ref o1]) (fs' := [.int (iI (mo + 1)), .int (iI 1), .ref o1, .ref o1]) hC 0 in_J4 tyJ4 tyJ4_ok nmJ4 rfl rfl 0 (by decide) q161 (fun x h => u_same (hC.1.2.2.2.2 _ q157) x h) rfl (by first | rfl | exact rfl) (by first | rfl | exact rfl) (Nat.le_of_ble_eq_true rfl) rfl dJ4_linkFirst_55 ?_
  show zV X 4 A (zH G A (zS [z1 a (.inr (5, [.int (iI (mo + 1)), .int (iI 1), .ref o1, .ref o1])), z1 o1 (.inr (6, [.ref q, .null, .null]))])) (1) (3) 58 [some (.ref a), some (.ref q), some (.null), some (.ref o1)] []
  refine zx_close (P1 := LL G a 1 (lcons q xs)) [z1 a (.inr (5, [.int (iI (mo + 1)), .int (iI 1), .ref o1, .ref o1])), z1 o1 (.inr (6, [.ref q, .null, .null]))] (LL1_mk rfl) ?_
  show zV X 4 A (zH G A (zS [LL G a 1 (lcons q xs)])) (1) (3) 58 [some (.ref a), some (.ref q), some (.null), some (.ref o1)] []
  exact zx_vret hC hE (by omega) (by omega) (fun H h => ⟨rfl, h⟩) dJ4_linkFirst_58
set_option maxHeartbeats 4000000 in
theorem m_J4_addFirstE (la : Launch) (G : zG) (a : Nat) (xs : Nat → Nat) (q : Nat)  : zMA la yJ4_addFirst cJ4_addFirst 2 none 3 66 G [.ref a, .ref q] [LL G a 0 xs] (fun v9 => v9 = none) (fun _ => [LL G a 1 (lcons q xs)]) (1) (3) := by
  refine zMA.of [some (.ref a), some (.ref q)] (by decide) (Nat.le_of_ble_eq_true rfl) rfl (fun X A hl hC hnm hA hRm hE => ?_)
  refine zx_aload_n hC dJ4_addFirst_0 rfl ?_
  refine zx_aload_n hC dJ4_addFirst_1 rfl ?_
  refine zx_ma0 (Q := fun _ => [LL G a 1 (lcons q xs)]) hC hA [0] [] (zcV 1 (As := [.ref q]) hC (lw_V q1137 q1139 qs20 q88 q1140) (by decide +kernel) rfl (by rw [hRm]; exact ⟨Nat.le_of_ble_eq_true rfl, Nat.le_of_ble_eq_true rfl⟩) (by rw [hRm]; constructor <;> (first | decide | (simp only []; omega) | omega)) rfl (Nat.le_of_ble_eq_true rfl) dJ4_addFirst_2) (m_J4_linkFirstE (zl X) G a xs q ) (fun H h => LL_rc hC.2.1 (zof 0 rfl H h)) rfl rfl rfl ?_
  show zV X 2 A (zH G A (zS [LL G a 1 (lcons q xs)])) (1) (3) 5 [some (.ref a), some (.ref q)] []
  exact zx_vret hC hE (by omega) (by omega) (fun H h => ⟨rfl, h⟩) dJ4_addFirst_5
set_option maxHeartbeats 4000000 in
theorem m_J4_linkFirstC (la : Launch) (G : zG) (a : Nat) (m : Nat) (xs : Nat → Nat) (q : Nat)  : zMA la yJ4_linkFirst cJ4_linkFirst 4 none 2 43 G [.ref a, .ref q] [LL G a (m + 1) xs] (fun v9 => v9 = none) (fun _ => [LL G a (m + 2) (lcons q xs)]) (1) (3) := by
  refine zMA.of [some (.ref a), some (.ref q), none, none] (by decide) (Nat.le_of_ble_eq_true rfl) rfl (fun X A hl hC hnm hA hRm hE => ?_)
  refine zx_imp (P2 := LLF G a m xs) (LL_F) ?_
  show zV X 4 A (zH G A (zS [LLF G a m xs])) (0) (0) 0 [some (.ref a), some (.ref q), none, none] []
  refine zx_exi (fun nd => zx_exi (fun mo => zx_nest ?_))
  show zV X 4 A (zH G A (zS [z1 a (.inr (5, [.int (iI mo), .int (iI ((m + 1 : Nat) : Int)), .ref (nd 0), .ref (nd m)])), z1 (nd 0) (.inr (6, [.ref (xs 0), lnx nd (m + 1) 0, .null])), zbs m (fun i => LLn nd xs (m + 1) (i + 1))])) (0) (0) 0 [some (.ref a), some (.ref q), none, none] []
  refine zx_aload_n hC dJ4_linkFirst_0 rfl ?_
  refine zx_getf (v := .ref (nd 0)) (T := TJ4) (N := 4) (ci := 5) (fs := [.int (iI mo), .int (iI ((m + 1 : Nat) : Int)), .ref (nd 0), .ref (nd m)]) hC in_J4 (zat 0 rfl) rfl 2 (by decide) q181 (fun _ h => h) rfl dJ4_linkFirst_1 ?_
  refine zx_astore_n (L' := [some (.ref a), some (.ref q), some (.ref (nd 0)), none]) hC dJ4_linkFirst_4 (by decide) rfl ?_
  refine zx_new (T := TJ23) (N := 3) (ci := 6) (fs := [.null, .null, .null]) hC hA in_J23 tyJ23 tyJ23_ok q879 q880 q111 rfl (by decide) (by rw [hRm]; constructor <;> (first | decide | (simp only []; omega) | omega)) dJ4_linkFirst_5 (fun o1 => ?_)
  show zV X 4 A (zH G A (zS [z1 o1 (.inr (6, [.null, .null, .null])), z1 a (.inr (5, [.int (iI mo), .int (iI ((m + 1 : Nat) : Int)), .ref (nd 0), .ref (nd m)])), z1 (nd 0) (.inr (6, [.ref (xs 0), lnx nd (m + 1) 0, .null])), zbs m (fun i => LLn nd xs (m + 1) (i + 1))])) (1) (3) 8 [some (.ref a), some (.ref q), some (.ref (nd 0)), none] [.ref o1]
  refine zx_dup hC dJ4_linkFirst_8 rfl ?_
  refine zx_null hC dJ4_linkFirst_9 ?_
  refine zx_aload_n hC dJ4_linkFirst_10 rfl ?_
  refine zx_aload_n hC dJ4_linkFirst_11 rfl ?_
  refine zx_ma0 (Q := fun _ => [z1 o1 (.inr (6, [.ref q, .ref (nd 0), .null]))]) hC hA [0] [1, 2, 3] (zcI 3 (As := [.null, .ref q, .ref (nd 0)]) hC (lw_meth q883) q111 q881 q882 (by decide +kernel) rfl rfl (by rw [hRm]; exact ⟨Nat.le_of_ble_eq_true rfl, Nat.le_of_ble_eq_true rfl⟩) (by rw [hRm]; constructor <;> (first | decide | (simp only []; omega) | omega)) rfl (Nat.le_of_ble_eq_true rfl) dJ4_linkFirst_12) (m_J23_initNR (zl X) G o1 q (nd 0) ) (fun _ _ => trivial) rfl rfl rfl ?_
  show zV X 4 A (zH G A (zS [z1 a (.inr (5, [.int (iI mo), .int (iI ((m + 1 : Nat) : Int)), .ref (nd 0), .ref (nd m)])), z1 (nd 0) (.inr (6, [.ref (xs 0), lnx nd (m + 1) 0, .null])), zbs m (fun i => LLn nd xs (m + 1) (i + 1)), z1 o1 (.inr (6, [.ref q, .ref (nd 0), .null]))])) (1) (3) 15 [some (.ref a), some (.ref q), some (.ref (nd 0)), none] [.ref o1]
  refine zx_astore_n (L' := [some (.ref a), some (.ref q), some (.ref (nd 0)), some (.ref o1)]) hC dJ4_linkFirst_15 (by decide) rfl ?_
  refine zx_aload_n hC dJ4_linkFirst_16 rfl ?_
  refine zx_aload_n hC dJ4_linkFirst_17 rfl ?_
  refine zx_putf (T := TJ4) (N := 4) (ci := 5) (fs := [.int (iI mo), .int (iI ((m + 1 : Nat) : Int)), .ref (nd 0), .ref (nd m)]) (fs' := [.int (iI mo), .int (iI ((m + 1 : Nat) : Int)), .ref o1, .ref (nd m)]) hC 0 in_J4 tyJ4 tyJ4_ok nmJ4 rfl rfl 2 (by decide) q181 (fun _ h => h) rfl (by first | rfl | exact rfl) (by first | rfl | exact rfl) (Nat.le_of_ble_eq_true rfl) rfl dJ4_linkFirst_18 ?_
  show zV X 4 A (zH G A (zS [z1 a (.inr (5, [.int (iI mo), .int (iI ((m + 1 : Nat) : Int)), .ref o1, .ref (nd m)])), z1 (nd 0) (.inr (6, [.ref (xs 0), lnx nd (m + 1) 0, .null])), zbs m (fun i => LLn nd xs (m + 1) (i + 1)), z1 o1 (.inr (6, [.ref q, .ref (nd 0), .null]))])) (1) (3) 21 [some (.ref a), some (.ref q), some (.ref (nd 0)), some (.ref o1)] []
  refine zx_aload_n hC dJ4_linkFirst_21 rfl ?_
  refine zx_ifnonnull (tgt := 33) hC dJ4_linkFirst_22 (by decide) ?_
  refine zx_aload_n hC dJ4_linkFirst_33 rfl ?_
  refine zx_aload_n hC dJ4_linkFirst_34 rfl ?_
  refine zx_putf (T := TJ23) (N := 3) (ci := 6) (fs := [.ref (xs 0), lnx nd (m + 1) 0, .null]) (fs' := [.ref (xs 0), lnx nd (m + 1) 0, .ref o1]) hC 1 in_J23 tyJ23 tyJ23_ok nmJ23 rfl rfl 2 (by decide) q892 (fun _ h => h) rfl (by first | rfl | exact rfl) (by first | rfl | exact rfl) (Nat.le_of_ble_eq_true rfl) rfl dJ4_linkFirst_35 ?_
  show zV X 4 A (zH G A (zS [z1 a (.inr (5, [.int (iI mo), .int (iI ((m + 1 : Nat) : Int)), .ref o1, .ref (nd m)])), z1 (nd 0) (.inr (6, [.ref (xs 0), lnx nd (m + 1) 0, .ref o1])), zbs m (fun i => LLn nd xs (m + 1) (i + 1)), z1 o1 (.inr (6, [.ref q, .ref (nd 0), .null]))])) (1) (3) 38 [some (.ref a), some (.ref q), some (.ref (nd 0)), some (.ref o1)] []
  refine zx_aload_n hC dJ4_linkFirst_38 rfl ?_
  refine zx_dup hC dJ4_linkFirst_39 rfl ?_
  refine zx_getf (v := .int (iI ((m + 1 : Nat) : Int))) (T := TJ4) (N := 4) (ci := 5) (fs := [.int (iI mo), .int (iI ((m + 1 : Nat) : Int)), .ref o1, .ref (nd m)]) hC in_J4 (zat 0 rfl) rfl 1 (by decide) q179 (fun _ h => h) rfl dJ4_linkFirst_40 ?_
  refine zx_iconst (z := 1) hC dJ4_linkFirst_43 ?_
  refine zx_iadd hC dJ4_linkFirst_44 ?_
  refine zx_putf (T := TJ4) (N := 4) (ci := 5) (fs := [.int (iI mo), .int (iI ((m + 1 : Nat) : Int)), .ref o1, .ref (nd m)]) (fs' := [.int (iI mo), .int (iI (((m + 1) + 1 : Nat) : Int)), .ref o1, .ref (nd m)]) hC 0 in_J4 tyJ4 tyJ4_ok nmJ4 rfl rfl 1 (by decide) q179 (fun _ h => h) rfl (by first | rfl | exact rfl) (by first | rfl | exact rfl) (Nat.le_of_ble_eq_true rfl) rfl dJ4_linkFirst_45 ?_
  show zV X 4 A (zH G A (zS [z1 a (.inr (5, [.int (iI mo), .int (iI (((m + 1) + 1 : Nat) : Int)), .ref o1, .ref (nd m)])), z1 (nd 0) (.inr (6, [.ref (xs 0), lnx nd (m + 1) 0, .ref o1])), zbs m (fun i => LLn nd xs (m + 1) (i + 1)), z1 o1 (.inr (6, [.ref q, .ref (nd 0), .null]))])) (1) (3) 48 [some (.ref a), some (.ref q), some (.ref (nd 0)), some (.ref o1)] []
  refine zx_aload_n hC dJ4_linkFirst_48 rfl ?_
  refine zx_dup hC dJ4_linkFirst_49 rfl ?_
  refine zx_getf (v := .int (iI mo)) (T := TJ4) (N := 4) (ci := 5) (fs := [.int (iI mo), .int (iI (((m + 1) + 1 : Nat) : Int)), .ref o1, .ref (nd m)]) hC in_J4 (zat 0 rfl) rfl 0 (by decide) q161 (fun x h => u_same (hC.1.2.2.2.2 _ q157) x h) rfl dJ4_linkFirst_50 ?_
  refine zx_iconst (z := 1) hC dJ4_linkFirst_53 ?_
  refine zx_iadd hC dJ4_linkFirst_54 ?_
  refine zx_putf (T := TJ4) (N := 4) (ci := 5) (fs := [.int (iI mo), .int (iI (((m + 1) + 1 : Nat) : Int)), .ref o1, .ref (nd m)]) (fs' := [.int (iI (mo + 1)), .int (iI (((m + 1) + 1 : Nat) : Int)), .ref o1, .ref (nd m)]) hC 0 in_J4 tyJ4 tyJ4_ok nmJ4 rfl rfl 0 (by decide) q161 (fun x h => u_same (hC.1.2.2.2.2 _ q157) x h) rfl (by first | rfl | exact rfl) (by first | rfl | exact rfl) (Nat.le_of_ble_eq_true rfl) rfl dJ4_linkFirst_55 ?_
  show zV X 4 A (zH G A (zS [z1 a (.inr (5, [.int (iI (mo + 1)), .int (iI (((m + 1) + 1 : Nat) : Int)), .ref o1, .ref (nd m)])), z1 (nd 0) (.inr (6, [.ref (xs 0), lnx nd (m + 1) 0, .ref o1])), zbs m (fun i => LLn nd xs (m + 1) (i + 1)), z1 o1 (.inr (6, [.ref q, .ref (nd 0), .null]))])) (1) (3) 58 [some (.ref a), some (.ref q), some (.ref (nd 0)), some (.ref o1)] []
  refine zx_pick [0, 3, 1, 2] rfl rfl ?_
  show zV X 4 A (zH G A (zS [z1 a (.inr (5, [.int (iI (mo + 1)), .int (iI (((m + 1) + 1 : Nat) : Int)), .ref o1, .ref (nd m)])), z1 o1 (.inr (6, [.ref q, .ref (nd 0), .null])), z1 (nd 0) (.inr (6, [.ref (xs 0), lnx nd (m + 1) 0, .ref o1])), zbs m (fun i => LLn nd xs (m + 1) (i + 1))])) (1) (3) 58 [some (.ref a), some (.ref q), some (.ref (nd 0)), some (.ref o1)] []
  refine zx_close (P1 := LL G a (m + 2) (lcons q xs)) [z1 a (.inr (5, [.int (iI (mo + 1)), .int (iI (((m + 1) + 1 : Nat) : Int)), .ref o1, .ref (nd m)])), z1 o1 (.inr (6, [.ref q, .ref (nd 0), .null])), z1 (nd 0) (.inr (6, [.ref (xs 0), lnx nd (m + 1) 0, .ref o1])), zbs m (fun i => LLn nd xs (m + 1) (i + 1))] (LL_addF (m := m) (nd := nd)) ?_
  show zV X 4 A (zH G A (zS [LL G a (m + 2) (lcons q xs)])) (1) (3) 58 [some (.ref a), some (.ref q), some (.ref (nd 0)), some (.ref o1)] []
  exact zx_vret hC hE (by omega) (by omega) (fun H h => ⟨rfl, h⟩) dJ4_linkFirst_58
set_option maxHeartbeats 4000000 in
theorem m_J4_addFirstC (la : Launch) (G : zG) (a : Nat) (m : Nat) (xs : Nat → Nat) (q : Nat)  : zMA la yJ4_addFirst cJ4_addFirst 2 none 3 66 G [.ref a, .ref q] [LL G a (m + 1) xs] (fun v9 => v9 = none) (fun _ => [LL G a (m + 2) (lcons q xs)]) (1) (3) := by
  refine zMA.of [some (.ref a), some (.ref q)] (by decide) (Nat.le_of_ble_eq_true rfl) rfl (fun X A hl hC hnm hA hRm hE => ?_)
  refine zx_aload_n hC dJ4_addFirst_0 rfl ?_
  refine zx_aload_n hC dJ4_addFirst_1 rfl ?_
  refine zx_ma0 (Q := fun _ => [LL G a (m + 2) (lcons q xs)]) hC hA [0] [] (zcV 1 (As := [.ref q]) hC (lw_V q1137 q1139 qs20 q88 q1140) (by decide +kernel) rfl (by rw [hRm]; exact ⟨Nat.le_of_ble_eq_true rfl, Nat.le_of_ble_eq_true rfl⟩) (by rw [hRm]; constructor <;> (first | decide | (simp only []; omega) | omega)) rfl (Nat.le_of_ble_eq_true rfl) dJ4_addFirst_2) (m_J4_linkFirstC (zl X) G a m xs q ) (fun H h => LL_rc hC.2.1 (zof 0 rfl H h)) rfl rfl rfl ?_
  show zV X 2 A (zH G A (zS [LL G a (m + 2) (lcons q xs)])) (1) (3) 5 [some (.ref a), some (.ref q)] []
  exact zx_vret hC hE (by omega) (by omega) (fun H h => ⟨rfl, h⟩) dJ4_addFirst_5
set_option maxHeartbeats 4000000 in
theorem m_J4_linkLastE (la : Launch) (G : zG) (a : Nat) (xs : Nat → Nat) (q : Nat)  : zMA la yJ4_linkLast cJ4_linkLast 4 none 2 43 G [.ref a, .ref q] [LL G a 0 xs] (fun v9 => v9 = none) (fun _ => [LL G a 1 (va_up xs 0 q)]) (1) (3) := by
  refine zMA.of [some (.ref a), some (.ref q), none, none] (by decide) (Nat.le_of_ble_eq_true rfl) rfl (fun X A hl hC hnm hA hRm hE => ?_)
  refine zx_imp (P2 := LLE G a) (LL_E) ?_
  show zV X 4 A (zH G A (zS [LLE G a])) (0) (0) 0 [some (.ref a), some (.ref q), none, none] []
  refine zx_exi (fun mo => zx_nest ?_)
  show zV X 4 A (zH G A (zS [z1 a (.inr (5, [.int (iI mo), .int (iI 0), .null, .null]))])) (0) (0) 0 [some (.ref a), some (.ref q), none, none] []
  refine zx_aload_n hC dJ4_linkLast_0 rfl ?_
  refine zx_getf (v := .null) (T := TJ4) (N := 4) (ci := 5) (fs := [.int (iI mo), .int (iI 0), .null, .null]) hC in_J4 (zat 0 rfl) rfl 3 (by decide) q182 (fun _ h => h) rfl dJ4_linkLast_1 ?_
  refine zx_astore_nN (L' := [some (.ref a), some (.ref q), some (.null), none]) hC dJ4_linkLast_4 (by decide) rfl ?_
  refine zx_new (T := TJ23) (N := 3) (ci := 6) (fs := [.null, .null, .null]) hC hA in_J23 tyJ23 tyJ23_ok q879 q880 q111 rfl (by decide) (by rw [hRm]; constructor <;> (first | decide | (simp only []; omega) | omega)) dJ4_linkLast_5 (fun o1 => ?_)
  show zV X 4 A (zH G A (zS [z1 o1 (.inr (6, [.null, .null, .null])), z1 a (.inr (5, [.int (iI mo), .int (iI 0), .null, .null]))])) (1) (3) 8 [some (.ref a), some (.ref q), some (.null), none] [.ref o1]
  refine zx_dup hC dJ4_linkLast_8 rfl ?_
  refine zx_aload_nN hC dJ4_linkLast_9 rfl ?_
  refine zx_aload_n hC dJ4_linkLast_10 rfl ?_
  refine zx_null hC dJ4_linkLast_11 ?_
  refine zx_ma0 (Q := fun _ => [z1 o1 (.inr (6, [.ref q, .null, .null]))]) hC hA [0] [1] (zcI 3 (As := [.null, .ref q, .null]) hC (lw_meth q883) q111 q881 q882 (by decide +kernel) rfl rfl (by rw [hRm]; exact ⟨Nat.le_of_ble_eq_true rfl, Nat.le_of_ble_eq_true rfl⟩) (by rw [hRm]; constructor <;> (first | decide | (simp only []; omega) | omega)) rfl (Nat.le_of_ble_eq_true rfl) dJ4_linkLast_12) (m_J23_initNN (zl X) G o1 q ) (fun _ _ => trivial) rfl rfl rfl ?_
  show zV X 4 A (zH G A (zS [z1 a (.inr (5, [.int (iI mo), .int (iI 0), .null, .null])), z1 o1 (.inr (6, [.ref q, .null, .null]))])) (1) (3) 15 [some (.ref a), some (.ref q), some (.null), none] [.ref o1]
  refine zx_astore_n (L' := [some (.ref a), some (.ref q), some (.null), some (.ref o1)]) hC dJ4_linkLast_15 (by decide) rfl ?_
  refine zx_aload_n hC dJ4_linkLast_16 rfl ?_
  refine zx_aload_n hC dJ4_linkLast_17 rfl ?_
  refine zx_putf (T := TJ4) (N := 4) (ci := 5) (fs := [.int (iI mo), .int (iI 0), .null, .null]) (fs' := [.int (iI mo), .int (iI 0), .null, .ref o1]) hC 0 in_J4 tyJ4 tyJ4_ok nmJ4 rfl rfl 3 (by decide) q182 (fun _ h => h) rfl (by first | rfl | exact rfl) (by first | rfl | exact rfl) (Nat.le_of_ble_eq_true rfl) rfl dJ4_linkLast_18 ?_
  show zV X 4 A (zH G A (zS [z1 a (.inr (5, [.int (iI mo), .int (iI 0), .null, .ref o1])), z1 o1 (.inr (6, [.ref q, .null, .null]))])) (1) (3) 21 [some (.ref a), some (.ref q), some (.null), some (.ref o1)] []
  refine zx_aload_nN hC dJ4_linkLast_21 rfl ?_
  refine zx_ifnonnullN hC dJ4_linkLast_22 ?_
  refine zx_aload_n hC dJ4_linkLast_25 rfl ?_
  refine zx_aload_n hC dJ4_linkLast_26 rfl ?_
  refine zx_putf (T := TJ4) (N := 4) (ci := 5) (fs := [.int (iI mo), .int (iI 0), .null, .ref o1]) (fs' := [.int (iI mo), .int (iI 0), .ref o1, .ref o1]) hC 0 in_J4 tyJ4 tyJ4_ok nmJ4 rfl rfl 2 (by decide) q181 (fun _ h => h) rfl (by first | rfl | exact rfl) (by first | rfl | exact rfl) (Nat.le_of_ble_eq_true rfl) rfl dJ4_linkLast_27 ?_
  show zV X 4 A (zH G A (zS [z1 a (.inr (5, [.int (iI mo), .int (iI 0), .ref o1, .ref o1])), z1 o1 (.inr (6, [.ref q, .null, .null]))])) (1) (3) 30 [some (.ref a), some (.ref q), some (.null), some (.ref o1)] []
  refine zx_goto (tgt := 38) hC dJ4_linkLast_30 (by decide) ?_
  refine zx_aload_n hC dJ4_linkLast_38 rfl ?_
  refine zx_dup hC dJ4_linkLast_39 rfl ?_
  refine zx_getf (v := .int (iI 0)) (T := TJ4) (N := 4) (ci := 5) (fs := [.int (iI mo), .int (iI 0), .ref o1, .ref o1]) hC in_J4 (zat 0 rfl) rfl 1 (by decide) q179 (fun _ h => h) rfl dJ4_linkLast_40 ?_
  refine zx_iconst (z := 1) hC dJ4_linkLast_43 ?_
  refine zx_iadd hC dJ4_linkLast_44 ?_
  refine zx_putf (T := TJ4) (N := 4) (ci := 5) (fs := [.int (iI mo), .int (iI 0), .ref o1, .ref o1]) (fs' := [.int (iI mo), .int (iI 1), .ref o1, .ref o1]) hC 0 in_J4 tyJ4 tyJ4_ok nmJ4 rfl rfl 1 (by decide) q179 (fun _ h => h) rfl (by first | rfl | exact rfl) (by first | rfl | exact rfl) (Nat.le_of_ble_eq_true rfl) rfl dJ4_linkLast_45 ?_
  show zV X 4 A (zH G A (zS [z1 a (.inr (5, [.int (iI mo), .int (iI 1), .ref o1, .ref o1])), z1 o1 (.inr (6, [.ref q, .null, .null]))])) (1) (3) 48 [some (.ref a), some (.ref q), some (.null), some (.ref o1)] []
  refine zx_aload_n hC dJ4_linkLast_48 rfl ?_
  refine zx_dup hC dJ4_linkLast_49 rfl ?_
  refine zx_getf (v := .int (iI mo)) (T := TJ4) (N := 4) (ci := 5) (fs := [.int (iI mo), .int (iI 1), .ref o1, .ref o1]) hC in_J4 (zat 0 rfl) rfl 0 (by decide) q161 (fun x h => u_same (hC.1.2.2.2.2 _ q157) x h) rfl dJ4_linkLast_50 ?_
  refine zx_iconst (z := 1) hC dJ4_linkLast_53 ?_
  refine zx_iadd hC dJ4_linkLast_54 ?_
  refine zx_putf (T := TJ4) (N := 4) (ci := 5) (fs := [.int (iI mo), .int (iI 1), .ref o1, .ref o1]) (fs' := [.int (iI (mo + 1)), .int (iI 1), .ref o1, .ref o1]) hC 0 in_J4 tyJ4 tyJ4_ok nmJ4 rfl rfl 0 (by decide) q161 (fun x h => u_same (hC.1.2.2.2.2 _ q157) x h) rfl (by first | rfl | exact rfl) (by first | rfl | exact rfl) (Nat.le_of_ble_eq_true rfl) rfl dJ4_linkLast_55 ?_
  show zV X 4 A (zH G A (zS [z1 a (.inr (5, [.int (iI (mo + 1)), .int (iI 1), .ref o1, .ref o1])), z1 o1 (.inr (6, [.ref q, .null, .null]))])) (1) (3) 58 [some (.ref a), some (.ref q), some (.null), some (.ref o1)] []
  refine zx_close (P1 := LL G a 1 (va_up xs 0 q)) [z1 a (.inr (5, [.int (iI (mo + 1)), .int (iI 1), .ref o1, .ref o1])), z1 o1 (.inr (6, [.ref q, .null, .null]))] (LL1_mk (va_up_self _ _ _)) ?_
  show zV X 4 A (zH G A (zS [LL G a 1 (va_up xs 0 q)])) (1) (3) 58 [some (.ref a), some (.ref q), some (.null), some (.ref o1)] []
  exact zx_vret hC hE (by omega) (by omega) (fun H h => ⟨rfl, h⟩) dJ4_linkLast_58
set_option maxHeartbeats 4000000 in
theorem m_J4_addLastE (la : Launch) (G : zG) (a : Nat) (xs : Nat → Nat) (q : Nat)  : zMA la yJ4_addLast cJ4_addLast 2 none 3 66 G [.ref a, .ref q] [LL G a 0 xs] (fun v9 => v9 = none) (fun _ => [LL G a 1 (va_up xs 0 q)]) (1) (3) := by
  refine zMA.of [some (.ref a), some (.ref q)] (by decide) (Nat.le_of_ble_eq_true rfl) rfl (fun X A hl hC hnm hA hRm hE => ?_)
  refine zx_aload_n hC dJ4_addLast_0 rfl ?_
  refine zx_aload_n hC dJ4_addLast_1 rfl ?_
  refine zx_ma0 (Q := fun _ => [LL G a 1 (va_up xs 0 q)]) hC hA [0] [] (zcV 1 (As := [.ref q]) hC (lw_V q875 q876 q877 q88 q878) (by decide +kernel) rfl (by rw [hRm]; exact ⟨Nat.le_of_ble_eq_true rfl, Nat.le_of_ble_eq_true rfl⟩) (by rw [hRm]; constructor <;> (first | decide | (simp only []; omega) | omega)) rfl (Nat.le_of_ble_eq_true rfl) dJ4_addLast_2) (m_J4_linkLastE (zl X) G a xs q ) (fun H h => LL_rc hC.2.1 (zof 0 rfl H h)) rfl rfl rfl ?_
  show zV X 2 A (zH G A (zS [LL G a 1 (va_up xs 0 q)])) (1) (3) 5 [some (.ref a), some (.ref q)] []
  exact zx_vret hC hE (by omega) (by omega) (fun H h => ⟨rfl, h⟩) dJ4_addLast_5
set_option maxHeartbeats 4000000 in
theorem m_J4_linkLastC (la : Launch) (G : zG) (a : Nat) (m : Nat) (xs : Nat → Nat) (q : Nat)  : zMA la yJ4_linkLast cJ4_linkLast 4 none 2 43 G [.ref a, .ref q] [LL G a (m + 1) xs] (fun v9 => v9 = none) (fun _ => [LL G a (m + 2) (va_up xs (m + 1) q)]) (1) (3) := by
  refine zMA.of [some (.ref a), some (.ref q), none, none] (by decide) (Nat.le_of_ble_eq_true rfl) rfl (fun X A hl hC hnm hA hRm hE => ?_)
  refine zx_imp (P2 := LLB G a m xs) (LL_B) ?_
  show zV X 4 A (zH G A (zS [LLB G a m xs])) (0) (0) 0 [some (.ref a), some (.ref q), none, none] []
  refine zx_exi (fun nd => zx_exi (fun mo => zx_nest ?_))
  show zV X 4 A (zH G A (zS [z1 a (.inr (5, [.int (iI mo), .int (iI ((m + 1 : Nat) : Int)), .ref (nd 0), .ref (nd m)])), zbs m (LLn nd xs (m + 1)), z1 (nd m) (.inr (6, [.ref (xs m), .null, lpv nd m]))])) (0) (0) 0 [some (.ref a), some (.ref q), none, none] []
  refine zx_aload_n hC dJ4_linkLast_0 rfl ?_
  refine zx_getf (v := .ref (nd m)) (T := TJ4) (N := 4) (ci := 5) (fs := [.int (iI mo), .int (iI ((m + 1 : Nat) : Int)), .ref (nd 0), .ref (nd m)]) hC in_J4 (zat 0 rfl) rfl 3 (by decide) q182 (fun _ h => h) rfl dJ4_linkLast_1 ?_
  refine zx_astore_n (L' := [some (.ref a), some (.ref q), some (.ref (nd m)), none]) hC dJ4_linkLast_4 (by decide) rfl ?_
  refine zx_new (T := TJ23) (N := 3) (ci := 6) (fs := [.null, .null, .null]) hC hA in_J23 tyJ23 tyJ23_ok q879 q880 q111 rfl (by decide) (by rw [hRm]; constructor <;> (first | decide | (simp only []; omega) | omega)) dJ4_linkLast_5 (fun o1 => ?_)
  show zV X 4 A (zH G A (zS [z1 o1 (.inr (6, [.null, .null, .null])), z1 a (.inr (5, [.int (iI mo), .int (iI ((m + 1 : Nat) : Int)), .ref (nd 0), .ref (nd m)])), zbs m (LLn nd xs (m + 1)), z1 (nd m) (.inr (6, [.ref (xs m), .null, lpv nd m]))])) (1) (3) 8 [some (.ref a), some (.ref q), some (.ref (nd m)), none] [.ref o1]
  refine zx_dup hC dJ4_linkLast_8 rfl ?_
  refine zx_aload_n hC dJ4_linkLast_9 rfl ?_
  refine zx_aload_n hC dJ4_linkLast_10 rfl ?_
  refine zx_null hC dJ4_linkLast_11 ?_
  refine zx_ma0 (Q := fun _ => [z1 o1 (.inr (6, [.ref q, .null, .ref (nd m)]))]) hC hA [0] [1, 2, 3] (zcI 3 (As := [.ref (nd m), .ref q, .null]) hC (lw_meth q883) q111 q881 q882 (by decide +kernel) rfl rfl (by rw [hRm]; exact ⟨Nat.le_of_ble_eq_true rfl, Nat.le_of_ble_eq_true rfl⟩) (by rw [hRm]; constructor <;> (first | decide | (simp only []; omega) | omega)) rfl (Nat.le_of_ble_eq_true rfl) dJ4_linkLast_12) (m_J23_initRN (zl X) G o1 q (nd m) ) (fun _ _ => trivial) rfl rfl rfl ?_
  show zV X 4 A (zH G A (zS [z1 a (.inr (5, [.int (iI mo), .int (iI ((m + 1 : Nat) : Int)), .ref (nd 0), .ref (nd m)])), zbs m (LLn nd xs (m + 1)), z1 (nd m) (.inr (6, [.ref (xs m), .null, lpv nd m])), z1 o1 (.inr (6, [.ref q, .null, .ref (nd m)]))])) (1) (3) 15 [some (.ref a), some (.ref q), some (.ref (nd m)), none] [.ref o1]
  refine zx_astore_n (L' := [some (.ref a), some (.ref q), some (.ref (nd m)), some (.ref o1)]) hC dJ4_linkLast_15 (by decide) rfl ?_
  refine zx_aload_n hC dJ4_linkLast_16 rfl ?_
  refine zx_aload_n hC dJ4_linkLast_17 rfl ?_
  refine zx_putf (T := TJ4) (N := 4) (ci := 5) (fs := [.int (iI mo), .int (iI ((m + 1 : Nat) : Int)), .ref (nd 0), .ref (nd m)]) (fs' := [.int (iI mo), .int (iI ((m + 1 : Nat) : Int)), .ref (nd 0), .ref o1]) hC 0 in_J4 tyJ4 tyJ4_ok nmJ4 rfl rfl 3 (by decide) q182 (fun _ h => h) rfl (by first | rfl | exact rfl) (by first | rfl | exact rfl) (Nat.le_of_ble_eq_true rfl) rfl dJ4_linkLast_18 ?_
  show zV X 4 A (zH G A (zS [z1 a (.inr (5, [.int (iI mo), .int (iI ((m + 1 : Nat) : Int)), .ref (nd 0), .ref o1])), zbs m (LLn nd xs (m + 1)), z1 (nd m) (.inr (6, [.ref (xs m), .null, lpv nd m])), z1 o1 (.inr (6, [.ref q, .null, .ref (nd m)]))])) (1) (3) 21 [some (.ref a), some (.ref q), some (.ref (nd m)), some (.ref o1)] []
  refine zx_aload_n hC dJ4_linkLast_21 rfl ?_
  refine zx_ifnonnull (tgt := 33) hC dJ4_linkLast_22 (by decide) ?_
  refine zx_aload_n hC dJ4_linkLast_33 rfl ?_
  refine zx_aload_n hC dJ4_linkLast_34 rfl ?_
  refine zx_putf (T := TJ23) (N := 3) (ci := 6) (fs := [.ref (xs m), .null, lpv nd m]) (fs' := [.ref (xs m), .ref o1, lpv nd m]) hC 2 in_J23 tyJ23 tyJ23_ok nmJ23 rfl rfl 1 (by decide) q890 (fun _ h => h) rfl (by first | rfl | exact rfl) (by first | rfl | exact rfl) (Nat.le_of_ble_eq_true rfl) rfl dJ4_linkLast_35 ?_
  show zV X 4 A (zH G A (zS [z1 a (.inr (5, [.int (iI mo), .int (iI ((m + 1 : Nat) : Int)), .ref (nd 0), .ref o1])), zbs m (LLn nd xs (m + 1)), z1 (nd m) (.inr (6, [.ref (xs m), .ref o1, lpv nd m])), z1 o1 (.inr (6, [.ref q, .null, .ref (nd m)]))])) (1) (3) 38 [some (.ref a), some (.ref q), some (.ref (nd m)), some (.ref o1)] []
  refine zx_aload_n hC dJ4_linkLast_38 rfl ?_
  refine zx_dup hC dJ4_linkLast_39 rfl ?_
  refine zx_getf (v := .int (iI ((m + 1 : Nat) : Int))) (T := TJ4) (N := 4) (ci := 5) (fs := [.int (iI mo), .int (iI ((m + 1 : Nat) : Int)), .ref (nd 0), .ref o1]) hC in_J4 (zat 0 rfl) rfl 1 (by decide) q179 (fun _ h => h) rfl dJ4_linkLast_40 ?_
  refine zx_iconst (z := 1) hC dJ4_linkLast_43 ?_
  refine zx_iadd hC dJ4_linkLast_44 ?_
  refine zx_putf (T := TJ4) (N := 4) (ci := 5) (fs := [.int (iI mo), .int (iI ((m + 1 : Nat) : Int)), .ref (nd 0), .ref o1]) (fs' := [.int (iI mo), .int (iI (((m + 1) + 1 : Nat) : Int)), .ref (nd 0), .ref o1]) hC 0 in_J4 tyJ4 tyJ4_ok nmJ4 rfl rfl 1 (by decide) q179 (fun _ h => h) rfl (by first | rfl | exact rfl) (by first | rfl | exact rfl) (Nat.le_of_ble_eq_true rfl) rfl dJ4_linkLast_45 ?_
  show zV X 4 A (zH G A (zS [z1 a (.inr (5, [.int (iI mo), .int (iI (((m + 1) + 1 : Nat) : Int)), .ref (nd 0), .ref o1])), zbs m (LLn nd xs (m + 1)), z1 (nd m) (.inr (6, [.ref (xs m), .ref o1, lpv nd m])), z1 o1 (.inr (6, [.ref q, .null, .ref (nd m)]))])) (1) (3) 48 [some (.ref a), some (.ref q), some (.ref (nd m)), some (.ref o1)] []
  refine zx_aload_n hC dJ4_linkLast_48 rfl ?_
  refine zx_dup hC dJ4_linkLast_49 rfl ?_
  refine zx_getf (v := .int (iI mo)) (T := TJ4) (N := 4) (ci := 5) (fs := [.int (iI mo), .int (iI (((m + 1) + 1 : Nat) : Int)), .ref (nd 0), .ref o1]) hC in_J4 (zat 0 rfl) rfl 0 (by decide) q161 (fun x h => u_same (hC.1.2.2.2.2 _ q157) x h) rfl dJ4_linkLast_50 ?_
  refine zx_iconst (z := 1) hC dJ4_linkLast_53 ?_
  refine zx_iadd hC dJ4_linkLast_54 ?_
  refine zx_putf (T := TJ4) (N := 4) (ci := 5) (fs := [.int (iI mo), .int (iI (((m + 1) + 1 : Nat) : Int)), .ref (nd 0), .ref o1]) (fs' := [.int (iI (mo + 1)), .int (iI (((m + 1) + 1 : Nat) : Int)), .ref (nd 0), .ref o1]) hC 0 in_J4 tyJ4 tyJ4_ok nmJ4 rfl rfl 0 (by decide) q161 (fun x h => u_same (hC.1.2.2.2.2 _ q157) x h) rfl (by first | rfl | exact rfl) (by first | rfl | exact rfl) (Nat.le_of_ble_eq_true rfl) rfl dJ4_linkLast_55 ?_
  show zV X 4 A (zH G A (zS [z1 a (.inr (5, [.int (iI (mo + 1)), .int (iI (((m + 1) + 1 : Nat) : Int)), .ref (nd 0), .ref o1])), zbs m (LLn nd xs (m + 1)), z1 (nd m) (.inr (6, [.ref (xs m), .ref o1, lpv nd m])), z1 o1 (.inr (6, [.ref q, .null, .ref (nd m)]))])) (1) (3) 58 [some (.ref a), some (.ref q), some (.ref (nd m)), some (.ref o1)] []
  refine zx_close (P1 := LL G a (m + 2) (va_up xs (m + 1) q)) [z1 a (.inr (5, [.int (iI (mo + 1)), .int (iI (((m + 1) + 1 : Nat) : Int)), .ref (nd 0), .ref o1])), zbs m (LLn nd xs (m + 1)), z1 (nd m) (.inr (6, [.ref (xs m), .ref o1, lpv nd m])), z1 o1 (.inr (6, [.ref q, .null, .ref (nd m)]))] (LL_addB (m := m) (nd := nd) (va_up_self _ _ _) (fun i hi => (va_up_ne _ _ (by omega)).symm)) ?_
  show zV X 4 A (zH G A (zS [LL G a (m + 2) (va_up xs (m + 1) q)])) (1) (3) 58 [some (.ref a), some (.ref q), some (.ref (nd m)), some (.ref o1)] []
  exact zx_vret hC hE (by omega) (by omega) (fun H h => ⟨rfl, h⟩) dJ4_linkLast_58
set_option maxHeartbeats 4000000 in
theorem m_J4_addLastC (la : Launch) (G : zG) (a : Nat) (m : Nat) (xs : Nat → Nat) (q : Nat)  : zMA la yJ4_addLast cJ4_addLast 2 none 3 66 G [.ref a, .ref q] [LL G a (m + 1) xs] (fun v9 => v9 = none) (fun _ => [LL G a (m + 2) (va_up xs (m + 1) q)]) (1) (3) := by
  refine zMA.of [some (.ref a), some (.ref q)] (by decide) (Nat.le_of_ble_eq_true rfl) rfl (fun X A hl hC hnm hA hRm hE => ?_)
  refine zx_aload_n hC dJ4_addLast_0 rfl ?_
  refine zx_aload_n hC dJ4_addLast_1 rfl ?_
  refine zx_ma0 (Q := fun _ => [LL G a (m + 2) (va_up xs (m + 1) q)]) hC hA [0] [] (zcV 1 (As := [.ref q]) hC (lw_V q875 q876 q877 q88 q878) (by decide +kernel) rfl (by rw [hRm]; exact ⟨Nat.le_of_ble_eq_true rfl, Nat.le_of_ble_eq_true rfl⟩) (by rw [hRm]; constructor <;> (first | decide | (simp only []; omega) | omega)) rfl (Nat.le_of_ble_eq_true rfl) dJ4_addLast_2) (m_J4_linkLastC (zl X) G a m xs q ) (fun H h => LL_rc hC.2.1 (zof 0 rfl H h)) rfl rfl rfl ?_
  show zV X 2 A (zH G A (zS [LL G a (m + 2) (va_up xs (m + 1) q)])) (1) (3) 5 [some (.ref a), some (.ref q)] []
  exact zx_vret hC hE (by omega) (by omega) (fun H h => ⟨rfl, h⟩) dJ4_addLast_5
set_option maxHeartbeats 4000000 in
theorem m_J4_addFirst (la : Launch) (G : zG) (a : Nat) (m : Nat) (xs : Nat → Nat) (q : Nat)  : zMA la yJ4_addFirst cJ4_addFirst 2 none 3 66 G [.ref a, .ref q] [LL G a m xs] (fun v9 => v9 = none) (fun _ => [LL G a (m + 1) (lcons q xs)]) (1) (3) := by
  cases m with
  | zero => exact m_J4_addFirstE la G a xs q
  | succ m => exact m_J4_addFirstC la G a m xs q
set_option maxHeartbeats 4000000 in
theorem m_J4_addLast (la : Launch) (G : zG) (a : Nat) (m : Nat) (xs : Nat → Nat) (q : Nat)  : zMA la yJ4_addLast cJ4_addLast 2 none 3 66 G [.ref a, .ref q] [LL G a m xs] (fun v9 => v9 = none) (fun _ => [LL G a (m + 1) (va_up xs m q)]) (1) (3) := by
  cases m with
  | zero => exact m_J4_addLastE la G a xs q
  | succ m => exact m_J4_addLastC la G a m xs q
set_option maxHeartbeats 4000000 in
theorem m_J4_unlinkFirstE (la : Launch) (G : zG) (a : Nat) (mo : Int) (f : Nat) (x : Nat)  : zMA la yJ4_unlinkFirst cJ4_unlinkFirst 4 (some (.object "java/lang/Object")) 0 0 G [.ref a, .ref f] [z1 a (.inr (5, [.int (iI mo), .int (iI 1), .ref f, .ref f])), z1 f (.inr (6, [.ref x, .null, .null]))] (fun v9 => v9 = some (.ref x)) (fun _ => [z1 a (.inr (5, [.int (iI (mo + 1)), .int (iI 0), .null, .null]))]) (0) (0) := by
  refine zMA.of [some (.ref a), some (.ref f), none, none] (by decide) (Nat.le_of_ble_eq_true rfl) rfl (fun X A hl hC hnm hA hRm hE => ?_)
  refine zx_aload_n hC dJ4_unlinkFirst_0 rfl ?_
  refine zx_getf (v := .ref x) (T := TJ23) (N := 3) (ci := 6) (fs := [.ref x, .null, .null]) hC in_J23 (zat 1 rfl) rfl 0 (by decide) q887 (fun _ h => h) rfl dJ4_unlinkFirst_1 ?_
  refine zx_astore_n (L' := [some (.ref a), some (.ref f), some (.ref x), none]) hC dJ4_unlinkFirst_4 (by decide) rfl ?_
  refine zx_aload_n hC dJ4_unlinkFirst_5 rfl ?_
  refine zx_getf (v := .null) (T := TJ23) (N := 3) (ci := 6) (fs := [.ref x, .null, .null]) hC in_J23 (zat 1 rfl) rfl 1 (by decide) q890 (fun _ h => h) rfl dJ4_unlinkFirst_6 ?_
  refine zx_astore_nN (L' := [some (.ref a), some (.ref f), some (.ref x), some (.null)]) hC dJ4_unlinkFirst_9 (by decide) rfl ?_
  refine zx_aload_n hC dJ4_unlinkFirst_10 rfl ?_
  refine zx_null hC dJ4_unlinkFirst_11 ?_
  refine zx_putf (T := TJ23) (N := 3) (ci := 6) (fs := [.ref x, .null, .null]) (fs' := [.null, .null, .null]) hC 1 in_J23 tyJ23 tyJ23_ok nmJ23 rfl rfl 0 (by decide) q887 (fun _ h => h) rfl (by first | rfl | exact rfl) (by first | rfl | exact rfl) (Nat.le_of_ble_eq_true rfl) rfl dJ4_unlinkFirst_12 ?_
  show zV X 4 A (zH G A (zS [z1 a (.inr (5, [.int (iI mo), .int (iI 1), .ref f, .ref f])), z1 f (.inr (6, [.null, .null, .null]))])) (0) (0) 15 [some (.ref a), some (.ref f), some (.ref x), some (.null)] []
  refine zx_aload_n hC dJ4_unlinkFirst_15 rfl ?_
  refine zx_null hC dJ4_unlinkFirst_16 ?_
  refine zx_putf (T := TJ23) (N := 3) (ci := 6) (fs := [.null, .null, .null]) (fs' := [.null, .null, .null]) hC 1 in_J23 tyJ23 tyJ23_ok nmJ23 rfl rfl 1 (by decide) q890 (fun _ h => h) rfl (by first | rfl | exact rfl) (by first | rfl | exact rfl) (Nat.le_of_ble_eq_true rfl) rfl dJ4_unlinkFirst_17 ?_
  show zV X 4 A (zH G A (zS [z1 a (.inr (5, [.int (iI mo), .int (iI 1), .ref f, .ref f])), z1 f (.inr (6, [.null, .null, .null]))])) (0) (0) 20 [some (.ref a), some (.ref f), some (.ref x), some (.null)] []
  refine zx_aload_n hC dJ4_unlinkFirst_20 rfl ?_
  refine zx_aload_nN hC dJ4_unlinkFirst_21 rfl ?_
  refine zx_putf (T := TJ4) (N := 4) (ci := 5) (fs := [.int (iI mo), .int (iI 1), .ref f, .ref f]) (fs' := [.int (iI mo), .int (iI 1), .null, .ref f]) hC 0 in_J4 tyJ4 tyJ4_ok nmJ4 rfl rfl 2 (by decide) q181 (fun _ h => h) rfl (by first | rfl | exact rfl) (by first | rfl | exact rfl) (Nat.le_of_ble_eq_true rfl) rfl dJ4_unlinkFirst_22 ?_
  show zV X 4 A (zH G A (zS [z1 a (.inr (5, [.int (iI mo), .int (iI 1), .null, .ref f])), z1 f (.inr (6, [.null, .null, .null]))])) (0) (0) 25 [some (.ref a), some (.ref f), some (.ref x), some (.null)] []
  refine zx_aload_nN hC dJ4_unlinkFirst_25 rfl ?_
  refine zx_ifnonnullN hC dJ4_unlinkFirst_26 ?_
  refine zx_aload_n hC dJ4_unlinkFirst_29 rfl ?_
  refine zx_null hC dJ4_unlinkFirst_30 ?_
  refine zx_putf (T := TJ4) (N := 4) (ci := 5) (fs := [.int (iI mo), .int (iI 1), .null, .ref f]) (fs' := [.int (iI mo), .int (iI 1), .null, .null]) hC 0 in_J4 tyJ4 tyJ4_ok nmJ4 rfl rfl 3 (by decide) q182 (fun _ h => h) rfl (by first | rfl | exact rfl) (by first | rfl | exact rfl) (Nat.le_of_ble_eq_true rfl) rfl dJ4_unlinkFirst_31 ?_
  show zV X 4 A (zH G A (zS [z1 a (.inr (5, [.int (iI mo), .int (iI 1), .null, .null])), z1 f (.inr (6, [.null, .null, .null]))])) (0) (0) 34 [some (.ref a), some (.ref f), some (.ref x), some (.null)] []
  refine zx_goto (tgt := 42) hC dJ4_unlinkFirst_34 (by decide) ?_
  refine zx_aload_n hC dJ4_unlinkFirst_42 rfl ?_
  refine zx_dup hC dJ4_unlinkFirst_43 rfl ?_
  refine zx_getf (v := .int (iI 1)) (T := TJ4) (N := 4) (ci := 5) (fs := [.int (iI mo), .int (iI 1), .null, .null]) hC in_J4 (zat 0 rfl) rfl 1 (by decide) q179 (fun _ h => h) rfl dJ4_unlinkFirst_44 ?_
  refine zx_iconst (z := 1) hC dJ4_unlinkFirst_47 ?_
  refine zx_isub hC dJ4_unlinkFirst_48 ?_
  refine zx_topi (b := 0) (by rfl) ?_
  refine zx_putf (T := TJ4) (N := 4) (ci := 5) (fs := [.int (iI mo), .int (iI 1), .null, .null]) (fs' := [.int (iI mo), .int (iI 0), .null, .null]) hC 0 in_J4 tyJ4 tyJ4_ok nmJ4 rfl rfl 1 (by decide) q179 (fun _ h => h) rfl (by first | rfl | exact rfl) (by first | rfl | exact rfl) (Nat.le_of_ble_eq_true rfl) rfl dJ4_unlinkFirst_49 ?_
  show zV X 4 A (zH G A (zS [z1 a (.inr (5, [.int (iI mo), .int (iI 0), .null, .null])), z1 f (.inr (6, [.null, .null, .null]))])) (0) (0) 52 [some (.ref a), some (.ref f), some (.ref x), some (.null)] []
  refine zx_aload_n hC dJ4_unlinkFirst_52 rfl ?_
  refine zx_dup hC dJ4_unlinkFirst_53 rfl ?_
  refine zx_getf (v := .int (iI mo)) (T := TJ4) (N := 4) (ci := 5) (fs := [.int (iI mo), .int (iI 0), .null, .null]) hC in_J4 (zat 0 rfl) rfl 0 (by decide) q161 (fun x h => u_same (hC.1.2.2.2.2 _ q157) x h) rfl dJ4_unlinkFirst_54 ?_
  refine zx_iconst (z := 1) hC dJ4_unlinkFirst_57 ?_
  refine zx_iadd hC dJ4_unlinkFirst_58 ?_
  refine zx_putf (T := TJ4) (N := 4) (ci := 5) (fs := [.int (iI mo), .int (iI 0), .null, .null]) (fs' := [.int (iI (mo + 1)), .int (iI 0), .null, .null]) hC 0 in_J4 tyJ4 tyJ4_ok nmJ4 rfl rfl 0 (by decide) q161 (fun x h => u_same (hC.1.2.2.2.2 _ q157) x h) rfl (by first | rfl | exact rfl) (by first | rfl | exact rfl) (Nat.le_of_ble_eq_true rfl) rfl dJ4_unlinkFirst_59 ?_
  show zV X 4 A (zH G A (zS [z1 a (.inr (5, [.int (iI (mo + 1)), .int (iI 0), .null, .null])), z1 f (.inr (6, [.null, .null, .null]))])) (0) (0) 62 [some (.ref a), some (.ref f), some (.ref x), some (.null)] []
  refine zx_aload_n hC dJ4_unlinkFirst_62 rfl ?_
  refine zx_pick [1, 0] rfl rfl ?_
  show zV X 4 A (zH G A (zS [z1 f (.inr (6, [.null, .null, .null])), z1 a (.inr (5, [.int (iI (mo + 1)), .int (iI 0), .null, .null]))])) (0) (0) 63 [some (.ref a), some (.ref f), some (.ref x), some (.null)] [.ref x]
  refine zx_drop ?_
  show zV X 4 A (zH G A (zS [z1 a (.inr (5, [.int (iI (mo + 1)), .int (iI 0), .null, .null]))])) (0) (0) 63 [some (.ref a), some (.ref f), some (.ref x), some (.null)] [.ref x]
  exact zx_aret hC hE (.inl ⟨_, rfl⟩) (.inr ⟨_, rfl⟩) (by omega) (by omega) (fun H h => ⟨rfl, h⟩) dJ4_unlinkFirst_63
set_option maxHeartbeats 4000000 in
theorem m_J4_unlinkFirstC (la : Launch) (G : zG) (a : Nat) (mo : Int) (m : Nat) (f : Nat) (l : Nat) (x : Nat) (g : Nat) (y : Nat) (v : Value)  : zMA la yJ4_unlinkFirst cJ4_unlinkFirst 4 (some (.object "java/lang/Object")) 0 0 G [.ref a, .ref f] [z1 a (.inr (5, [.int (iI mo), .int (iI ((m + 2 : Nat) : Int)), .ref f, .ref l])), z1 f (.inr (6, [.ref x, .ref g, .null])), z1 g (.inr (6, [.ref y, v, .ref f]))] (fun v9 => v9 = some (.ref x)) (fun _ => [z1 a (.inr (5, [.int (iI (mo + 1)), .int (iI ((m + 1 : Nat) : Int)), .ref g, .ref l])), z1 g (.inr (6, [.ref y, v, .null]))]) (0) (0) := by
  refine zMA.of [some (.ref a), some (.ref f), none, none] (by decide) (Nat.le_of_ble_eq_true rfl) rfl (fun X A hl hC hnm hA hRm hE => ?_)
  refine zx_aload_n hC dJ4_unlinkFirst_0 rfl ?_
  refine zx_getf (v := .ref x) (T := TJ23) (N := 3) (ci := 6) (fs := [.ref x, .ref g, .null]) hC in_J23 (zat 1 rfl) rfl 0 (by decide) q887 (fun _ h => h) rfl dJ4_unlinkFirst_1 ?_
  refine zx_astore_n (L' := [some (.ref a), some (.ref f), some (.ref x), none]) hC dJ4_unlinkFirst_4 (by decide) rfl ?_
  refine zx_aload_n hC dJ4_unlinkFirst_5 rfl ?_
  refine zx_getf (v := .ref g) (T := TJ23) (N := 3) (ci := 6) (fs := [.ref x, .ref g, .null]) hC in_J23 (zat 1 rfl) rfl 1 (by decide) q890 (fun _ h => h) rfl dJ4_unlinkFirst_6 ?_
  refine zx_astore_n (L' := [some (.ref a), some (.ref f), some (.ref x), some (.ref g)]) hC dJ4_unlinkFirst_9 (by decide) rfl ?_
  refine zx_aload_n hC dJ4_unlinkFirst_10 rfl ?_
  refine zx_null hC dJ4_unlinkFirst_11 ?_
  refine zx_putf (T := TJ23) (N := 3) (ci := 6) (fs := [.ref x, .ref g, .null]) (fs' := [.null, .ref g, .null]) hC 1 in_J23 tyJ23 tyJ23_ok nmJ23 rfl rfl 0 (by decide) q887 (fun _ h => h) rfl (by first | rfl | exact rfl) (by first | rfl | exact rfl) (Nat.le_of_ble_eq_true rfl) rfl dJ4_unlinkFirst_12 ?_
  show zV X 4 A (zH G A (zS [z1 a (.inr (5, [.int (iI mo), .int (iI ((m + 2 : Nat) : Int)), .ref f, .ref l])), z1 f (.inr (6, [.null, .ref g, .null])), z1 g (.inr (6, [.ref y, v, .ref f]))])) (0) (0) 15 [some (.ref a), some (.ref f), some (.ref x), some (.ref g)] []
  refine zx_aload_n hC dJ4_unlinkFirst_15 rfl ?_
  refine zx_null hC dJ4_unlinkFirst_16 ?_
  refine zx_putf (T := TJ23) (N := 3) (ci := 6) (fs := [.null, .ref g, .null]) (fs' := [.null, .null, .null]) hC 1 in_J23 tyJ23 tyJ23_ok nmJ23 rfl rfl 1 (by decide) q890 (fun _ h => h) rfl (by first | rfl | exact rfl) (by first | rfl | exact rfl) (Nat.le_of_ble_eq_true rfl) rfl dJ4_unlinkFirst_17 ?_
  show zV X 4 A (zH G A (zS [z1 a (.inr (5, [.int (iI mo), .int (iI ((m + 2 : Nat) : Int)), .ref f, .ref l])), z1 f (.inr (6, [.null, .null, .null])), z1 g (.inr (6, [.ref y, v, .ref f]))])) (0) (0) 20 [some (.ref a), some (.ref f), some (.ref x), some (.ref g)] []
  refine zx_aload_n hC dJ4_unlinkFirst_20 rfl ?_
  refine zx_aload_n hC dJ4_unlinkFirst_21 rfl ?_
  refine zx_putf (T := TJ4) (N := 4) (ci := 5) (fs := [.int (iI mo), .int (iI ((m + 2 : Nat) : Int)), .ref f, .ref l]) (fs' := [.int (iI mo), .int (iI ((m + 2 : Nat) : Int)), .ref g, .ref l]) hC 0 in_J4 tyJ4 tyJ4_ok nmJ4 rfl rfl 2 (by decide) q181 (fun _ h => h) rfl (by first | rfl | exact rfl) (by first | rfl | exact rfl) (Nat.le_of_ble_eq_true rfl) rfl dJ4_unlinkFirst_22 ?_
  show zV X 4 A (zH G A (zS [z1 a (.inr (5, [.int (iI mo), .int (iI ((m + 2 : Nat) : Int)), .ref g, .ref l])), z1 f (.inr (6, [.null, .null, .null])), z1 g (.inr (6, [.ref y, v, .ref f]))])) (0) (0) 25 [some (.ref a), some (.ref f), some (.ref x), some (.ref g)] []
  refine zx_aload_n hC dJ4_unlinkFirst_25 rfl ?_
  refine zx_ifnonnull (tgt := 37) hC dJ4_unlinkFirst_26 (by decide) ?_
  refine zx_aload_n hC dJ4_unlinkFirst_37 rfl ?_
  refine zx_null hC dJ4_unlinkFirst_38 ?_
  refine zx_putf (T := TJ23) (N := 3) (ci := 6) (fs := [.ref y, v, .ref f]) (fs' := [.ref y, v, .null]) hC 2 in_J23 tyJ23 tyJ23_ok nmJ23 rfl rfl 2 (by decide) q892 (fun _ h => h) rfl (by first | rfl | exact rfl) (by first | rfl | exact rfl) (Nat.le_of_ble_eq_true rfl) rfl dJ4_unlinkFirst_39 ?_
  show zV X 4 A (zH G A (zS [z1 a (.inr (5, [.int (iI mo), .int (iI ((m + 2 : Nat) : Int)), .ref g, .ref l])), z1 f (.inr (6, [.null, .null, .null])), z1 g (.inr (6, [.ref y, v, .null]))])) (0) (0) 42 [some (.ref a), some (.ref f), some (.ref x), some (.ref g)] []
  refine zx_aload_n hC dJ4_unlinkFirst_42 rfl ?_
  refine zx_dup hC dJ4_unlinkFirst_43 rfl ?_
  refine zx_getf (v := .int (iI ((m + 2 : Nat) : Int))) (T := TJ4) (N := 4) (ci := 5) (fs := [.int (iI mo), .int (iI ((m + 2 : Nat) : Int)), .ref g, .ref l]) hC in_J4 (zat 0 rfl) rfl 1 (by decide) q179 (fun _ h => h) rfl dJ4_unlinkFirst_44 ?_
  refine zx_iconst (z := 1) hC dJ4_unlinkFirst_47 ?_
  refine zx_isub hC dJ4_unlinkFirst_48 ?_
  refine zx_topi (b := ((m + 1 : Nat) : Int)) (by omega) ?_
  refine zx_putf (T := TJ4) (N := 4) (ci := 5) (fs := [.int (iI mo), .int (iI ((m + 2 : Nat) : Int)), .ref g, .ref l]) (fs' := [.int (iI mo), .int (iI ((m + 1 : Nat) : Int)), .ref g, .ref l]) hC 0 in_J4 tyJ4 tyJ4_ok nmJ4 rfl rfl 1 (by decide) q179 (fun _ h => h) rfl (by first | rfl | exact rfl) (by first | rfl | exact rfl) (Nat.le_of_ble_eq_true rfl) rfl dJ4_unlinkFirst_49 ?_
  show zV X 4 A (zH G A (zS [z1 a (.inr (5, [.int (iI mo), .int (iI ((m + 1 : Nat) : Int)), .ref g, .ref l])), z1 f (.inr (6, [.null, .null, .null])), z1 g (.inr (6, [.ref y, v, .null]))])) (0) (0) 52 [some (.ref a), some (.ref f), some (.ref x), some (.ref g)] []
  refine zx_aload_n hC dJ4_unlinkFirst_52 rfl ?_
  refine zx_dup hC dJ4_unlinkFirst_53 rfl ?_
  refine zx_getf (v := .int (iI mo)) (T := TJ4) (N := 4) (ci := 5) (fs := [.int (iI mo), .int (iI ((m + 1 : Nat) : Int)), .ref g, .ref l]) hC in_J4 (zat 0 rfl) rfl 0 (by decide) q161 (fun x h => u_same (hC.1.2.2.2.2 _ q157) x h) rfl dJ4_unlinkFirst_54 ?_
  refine zx_iconst (z := 1) hC dJ4_unlinkFirst_57 ?_
  refine zx_iadd hC dJ4_unlinkFirst_58 ?_
  refine zx_putf (T := TJ4) (N := 4) (ci := 5) (fs := [.int (iI mo), .int (iI ((m + 1 : Nat) : Int)), .ref g, .ref l]) (fs' := [.int (iI (mo + 1)), .int (iI ((m + 1 : Nat) : Int)), .ref g, .ref l]) hC 0 in_J4 tyJ4 tyJ4_ok nmJ4 rfl rfl 0 (by decide) q161 (fun x h => u_same (hC.1.2.2.2.2 _ q157) x h) rfl (by first | rfl | exact rfl) (by first | rfl | exact rfl) (Nat.le_of_ble_eq_true rfl) rfl dJ4_unlinkFirst_59 ?_
  show zV X 4 A (zH G A (zS [z1 a (.inr (5, [.int (iI (mo + 1)), .int (iI ((m + 1 : Nat) : Int)), .ref g, .ref l])), z1 f (.inr (6, [.null, .null, .null])), z1 g (.inr (6, [.ref y, v, .null]))])) (0) (0) 62 [some (.ref a), some (.ref f), some (.ref x), some (.ref g)] []
  refine zx_aload_n hC dJ4_unlinkFirst_62 rfl ?_
  refine zx_pick [0, 2, 1] rfl rfl ?_
  show zV X 4 A (zH G A (zS [z1 a (.inr (5, [.int (iI (mo + 1)), .int (iI ((m + 1 : Nat) : Int)), .ref g, .ref l])), z1 g (.inr (6, [.ref y, v, .null])), z1 f (.inr (6, [.null, .null, .null]))])) (0) (0) 63 [some (.ref a), some (.ref f), some (.ref x), some (.ref g)] [.ref x]
  refine zx_pick [2, 0, 1] rfl rfl ?_
  show zV X 4 A (zH G A (zS [z1 f (.inr (6, [.null, .null, .null])), z1 a (.inr (5, [.int (iI (mo + 1)), .int (iI ((m + 1 : Nat) : Int)), .ref g, .ref l])), z1 g (.inr (6, [.ref y, v, .null]))])) (0) (0) 63 [some (.ref a), some (.ref f), some (.ref x), some (.ref g)] [.ref x]
  refine zx_drop ?_
  show zV X 4 A (zH G A (zS [z1 a (.inr (5, [.int (iI (mo + 1)), .int (iI ((m + 1 : Nat) : Int)), .ref g, .ref l])), z1 g (.inr (6, [.ref y, v, .null]))])) (0) (0) 63 [some (.ref a), some (.ref f), some (.ref x), some (.ref g)] [.ref x]
  exact zx_aret hC hE (.inl ⟨_, rfl⟩) (.inr ⟨_, rfl⟩) (by omega) (by omega) (fun H h => ⟨rfl, h⟩) dJ4_unlinkFirst_63
set_option maxHeartbeats 4000000 in
theorem m_J4_removeFirstE (la : Launch) (G : zG) (a : Nat) (xs : Nat → Nat)  : zMA la yJ4_removeFirst cJ4_removeFirst 2 (some (.object "java/lang/Object")) 1 23 G [.ref a] [LL G a 1 xs] (fun v9 => v9 = some (.ref (xs 0))) (fun _ => [LL G a 0 (fun i => xs (i + 1))]) (0) (0) := by
  refine zMA.of [some (.ref a), none] (by decide) (Nat.le_of_ble_eq_true rfl) rfl (fun X A hl hC hnm hA hRm hE => ?_)
  refine zx_imp (P2 := LLF G a 0 xs) (LL_F) ?_
  show zV X 2 A (zH G A (zS [LLF G a 0 xs])) (0) (0) 0 [some (.ref a), none] []
  refine zx_exi (fun nd => zx_exi (fun mo => zx_nest ?_))
  show zV X 2 A (zH G A (zS [z1 a (.inr (5, [.int (iI mo), .int (iI 1), .ref (nd 0), .ref (nd 0)])), z1 (nd 0) (.inr (6, [.ref (xs 0), .null, .null])), zbs 0 (fun i => LLn nd xs (0 + 1) (i + 1))])) (0) (0) 0 [some (.ref a), none] []
  refine zx_aload_n hC dJ4_removeFirst_0 rfl ?_
  refine zx_getf (v := .ref (nd 0)) (T := TJ4) (N := 4) (ci := 5) (fs := [.int (iI mo), .int (iI 1), .ref (nd 0), .ref (nd 0)]) hC in_J4 (zat 0 rfl) rfl 2 (by decide) q181 (fun _ h => h) rfl dJ4_removeFirst_1 ?_
  refine zx_astore_n (L' := [some (.ref a), some (.ref (nd 0))]) hC dJ4_removeFirst_4 (by decide) rfl ?_
  refine zx_aload_n hC dJ4_removeFirst_5 rfl ?_
  refine zx_ifnonnull (tgt := 17) hC dJ4_removeFirst_6 (by decide) ?_
  refine zx_aload_n hC dJ4_removeFirst_17 rfl ?_
  refine zx_aload_n hC dJ4_removeFirst_18 rfl ?_
  refine zx_ma1 (r := .ref (xs 0)) (Q := fun _ => [z1 a (.inr (5, [.int (iI (mo + 1)), .int (iI 0), .null, .null]))]) hC hA [0, 1] [2] (zcV 1 (As := [.ref (nd 0)]) hC (lw_V q1037 q1039 qs16 q88 q1040) (by decide +kernel) rfl (by rw [hRm]; exact ⟨Nat.le_of_ble_eq_true rfl, Nat.le_of_ble_eq_true rfl⟩) (by rw [hRm]; constructor <;> (first | decide | (simp only []; omega) | omega)) rfl (Nat.le_of_ble_eq_true rfl) dJ4_removeFirst_19) (m_J4_unlinkFirstE (zl X) G a mo (nd 0) (xs 0) ) (fun H h => zrc_of (r := (RJ4, TJ4, 4)) hC.2.1 ((zat 0 rfl) H h) rfl) rfl rfl rfl ?_
  show zV X 2 A (zH G A (zS [zbs 0 (fun i => LLn nd xs (0 + 1) (i + 1)), z1 a (.inr (5, [.int (iI (mo + 1)), .int (iI 0), .null, .null]))])) (0) (0) 22 [some (.ref a), some (.ref (nd 0))] [.ref (xs 0)]
  refine zx_pick [1, 0] rfl rfl ?_
  show zV X 2 A (zH G A (zS [z1 a (.inr (5, [.int (iI (mo + 1)), .int (iI 0), .null, .null])), zbs 0 (fun i => LLn nd xs (0 + 1) (i + 1))])) (0) (0) 22 [some (.ref a), some (.ref (nd 0))] [.ref (xs 0)]
  refine zx_close (P1 := LL G a 0 (fun i => xs (i + 1))) [z1 a (.inr (5, [.int (iI (mo + 1)), .int (iI 0), .null, .null]))] (LLE_mk _) ?_
  show zV X 2 A (zH G A (zS [LL G a 0 (fun i => xs (i + 1)), zbs 0 (fun i => LLn nd xs (0 + 1) (i + 1))])) (0) (0) 22 [some (.ref a), some (.ref (nd 0))] [.ref (xs 0)]
  refine zx_pick [1, 0] rfl rfl ?_
  show zV X 2 A (zH G A (zS [zbs 0 (fun i => LLn nd xs (0 + 1) (i + 1)), LL G a 0 (fun i => xs (i + 1))])) (0) (0) 22 [some (.ref a), some (.ref (nd 0))] [.ref (xs 0)]
  refine zx_drop ?_
  show zV X 2 A (zH G A (zS [LL G a 0 (fun i => xs (i + 1))])) (0) (0) 22 [some (.ref a), some (.ref (nd 0))] [.ref (xs 0)]
  exact zx_aret hC hE (.inl ⟨_, rfl⟩) (.inr ⟨_, rfl⟩) (by omega) (by omega) (fun H h => ⟨rfl, h⟩) dJ4_removeFirst_22
set_option maxHeartbeats 4000000 in
theorem m_J4_removeFirstC (la : Launch) (G : zG) (a : Nat) (m : Nat) (xs : Nat → Nat)  : zMA la yJ4_removeFirst cJ4_removeFirst 2 (some (.object "java/lang/Object")) 1 23 G [.ref a] [LL G a (m + 2) xs] (fun v9 => v9 = some (.ref (xs 0))) (fun _ => [LL G a (m + 1) (fun i => xs (i + 1))]) (0) (0) := by
  refine zMA.of [some (.ref a), none] (by decide) (Nat.le_of_ble_eq_true rfl) rfl (fun X A hl hC hnm hA hRm hE => ?_)
  refine zx_imp (P2 := LLFF G a m xs) (LL_FF) ?_
  show zV X 2 A (zH G A (zS [LLFF G a m xs])) (0) (0) 0 [some (.ref a), none] []
  refine zx_exi (fun nd => zx_exi (fun mo => zx_nest ?_))
  show zV X 2 A (zH G A (zS [z1 a (.inr (5, [.int (iI mo), .int (iI ((m + 2 : Nat) : Int)), .ref (nd 0), .ref (nd (m + 1))])), z1 (nd 0) (.inr (6, [.ref (xs 0), .ref (nd 1), .null])), z1 (nd 1) (.inr (6, [.ref (xs 1), lnx nd (m + 2) 1, .ref (nd 0)])), zbs m (fun i => LLn nd xs (m + 2) (i + 2))])) (0) (0) 0 [some (.ref a), none] []
  refine zx_aload_n hC dJ4_removeFirst_0 rfl ?_
  refine zx_getf (v := .ref (nd 0)) (T := TJ4) (N := 4) (ci := 5) (fs := [.int (iI mo), .int (iI ((m + 2 : Nat) : Int)), .ref (nd 0), .ref (nd (m + 1))]) hC in_J4 (zat 0 rfl) rfl 2 (by decide) q181 (fun _ h => h) rfl dJ4_removeFirst_1 ?_
  refine zx_astore_n (L' := [some (.ref a), some (.ref (nd 0))]) hC dJ4_removeFirst_4 (by decide) rfl ?_
  refine zx_aload_n hC dJ4_removeFirst_5 rfl ?_
  refine zx_ifnonnull (tgt := 17) hC dJ4_removeFirst_6 (by decide) ?_
  refine zx_aload_n hC dJ4_removeFirst_17 rfl ?_
  refine zx_aload_n hC dJ4_removeFirst_18 rfl ?_
  refine zx_ma1 (r := .ref (xs 0)) (Q := fun _ => [z1 a (.inr (5, [.int (iI (mo + 1)), .int (iI ((m + 1 : Nat) : Int)), .ref (nd 1), .ref (nd (m + 1))])), z1 (nd 1) (.inr (6, [.ref (xs 1), lnx nd (m + 2) 1, .null]))]) hC hA [0, 1, 2] [3] (zcV 1 (As := [.ref (nd 0)]) hC (lw_V q1037 q1039 qs16 q88 q1040) (by decide +kernel) rfl (by rw [hRm]; exact ⟨Nat.le_of_ble_eq_true rfl, Nat.le_of_ble_eq_true rfl⟩) (by rw [hRm]; constructor <;> (first | decide | (simp only []; omega) | omega)) rfl (Nat.le_of_ble_eq_true rfl) dJ4_removeFirst_19) (m_J4_unlinkFirstC (zl X) G a mo m (nd 0) (nd (m + 1)) (xs 0) (nd 1) (xs 1) (lnx nd (m + 2) 1) ) (fun H h => zrc_of (r := (RJ4, TJ4, 4)) hC.2.1 ((zat 0 rfl) H h) rfl) rfl rfl rfl ?_
  show zV X 2 A (zH G A (zS [zbs m (fun i => LLn nd xs (m + 2) (i + 2)), z1 a (.inr (5, [.int (iI (mo + 1)), .int (iI ((m + 1 : Nat) : Int)), .ref (nd 1), .ref (nd (m + 1))])), z1 (nd 1) (.inr (6, [.ref (xs 1), lnx nd (m + 2) 1, .null]))])) (0) (0) 22 [some (.ref a), some (.ref (nd 0))] [.ref (xs 0)]
  refine zx_pick [1, 2, 0] rfl rfl ?_
  show zV X 2 A (zH G A (zS [z1 a (.inr (5, [.int (iI (mo + 1)), .int (iI ((m + 1 : Nat) : Int)), .ref (nd 1), .ref (nd (m + 1))])), z1 (nd 1) (.inr (6, [.ref (xs 1), lnx nd (m + 2) 1, .null])), zbs m (fun i => LLn nd xs (m + 2) (i + 2))])) (0) (0) 22 [some (.ref a), some (.ref (nd 0))] [.ref (xs 0)]
  refine zx_close (P1 := LL G a (m + 1) (fun i => xs (i + 1))) [z1 a (.inr (5, [.int (iI (mo + 1)), .int (iI ((m + 1 : Nat) : Int)), .ref (nd 1), .ref (nd (m + 1))])), z1 (nd 1) (.inr (6, [.ref (xs 1), lnx nd (m + 2) 1, .null])), zbs m (fun i => LLn nd xs (m + 2) (i + 2))] (LL_remF (m := m) (nd := nd)) ?_
  show zV X 2 A (zH G A (zS [LL G a (m + 1) (fun i => xs (i + 1))])) (0) (0) 22 [some (.ref a), some (.ref (nd 0))] [.ref (xs 0)]
  exact zx_aret hC hE (.inl ⟨_, rfl⟩) (.inr ⟨_, rfl⟩) (by omega) (by omega) (fun H h => ⟨rfl, h⟩) dJ4_removeFirst_22
set_option maxHeartbeats 4000000 in
theorem m_J4_removeFirst (la : Launch) (G : zG) (a : Nat) (m : Nat) (xs : Nat → Nat)  : zMA la yJ4_removeFirst cJ4_removeFirst 2 (some (.object "java/lang/Object")) 1 23 G [.ref a] [LL G a (m + 1) xs] (fun v9 => v9 = some (.ref (xs 0))) (fun _ => [LL G a m (fun i => xs (i + 1))]) (0) (0) := by
  cases m with
  | zero => exact m_J4_removeFirstE la G a xs
  | succ m => exact m_J4_removeFirstC la G a m xs
set_option maxHeartbeats 4000000 in
theorem m_J4_unlinkLastE (la : Launch) (G : zG) (a : Nat) (mo : Int) (f : Nat) (x : Nat)  : zMA la yJ4_unlinkLast cJ4_unlinkLast 4 (some (.object "java/lang/Object")) 0 0 G [.ref a, .ref f] [z1 a (.inr (5, [.int (iI mo), .int (iI 1), .ref f, .ref f])), z1 f (.inr (6, [.ref x, .null, .null]))] (fun v9 => v9 = some (.ref x)) (fun _ => [z1 a (.inr (5, [.int (iI (mo + 1)), .int (iI 0), .null, .null]))]) (0) (0) := by
  refine zMA.of [some (.ref a), some (.ref f), none, none] (by decide) (Nat.le_of_ble_eq_true rfl) rfl (fun X A hl hC hnm hA hRm hE => ?_)
  refine zx_aload_n hC dJ4_unlinkLast_0 rfl ?_
  refine zx_getf (v := .ref x) (T := TJ23) (N := 3) (ci := 6) (fs := [.ref x, .null, .null]) hC in_J23 (zat 1 rfl) rfl 0 (by decide) q887 (fun _ h => h) rfl dJ4_unlinkLast_1 ?_
  refine zx_astore_n (L' := [some (.ref a), some (.ref f), some (.ref x), none]) hC dJ4_unlinkLast_4 (by decide) rfl ?_
  refine zx_aload_n hC dJ4_unlinkLast_5 rfl ?_
  refine zx_getf (v := .null) (T := TJ23) (N := 3) (ci := 6) (fs := [.ref x, .null, .null]) hC in_J23 (zat 1 rfl) rfl 2 (by decide) q892 (fun _ h => h) rfl dJ4_unlinkLast_6 ?_
  refine zx_astore_nN (L' := [some (.ref a), some (.ref f), some (.ref x), some (.null)]) hC dJ4_unlinkLast_9 (by decide) rfl ?_
  refine zx_aload_n hC dJ4_unlinkLast_10 rfl ?_
  refine zx_null hC dJ4_unlinkLast_11 ?_
  refine zx_putf (T := TJ23) (N := 3) (ci := 6) (fs := [.ref x, .null, .null]) (fs' := [.null, .null, .null]) hC 1 in_J23 tyJ23 tyJ23_ok nmJ23 rfl rfl 0 (by decide) q887 (fun _ h => h) rfl (by first | rfl | exact rfl) (by first | rfl | exact rfl) (Nat.le_of_ble_eq_true rfl) rfl dJ4_unlinkLast_12 ?_
  show zV X 4 A (zH G A (zS [z1 a (.inr (5, [.int (iI mo), .int (iI 1), .ref f, .ref f])), z1 f (.inr (6, [.null, .null, .null]))])) (0) (0) 15 [some (.ref a), some (.ref f), some (.ref x), some (.null)] []
  refine zx_aload_n hC dJ4_unlinkLast_15 rfl ?_
  refine zx_null hC dJ4_unlinkLast_16 ?_
  refine zx_putf (T := TJ23) (N := 3) (ci := 6) (fs := [.null, .null, .null]) (fs' := [.null, .null, .null]) hC 1 in_J23 tyJ23 tyJ23_ok nmJ23 rfl rfl 2 (by decide) q892 (fun _ h => h) rfl (by first | rfl | exact rfl) (by first | rfl | exact rfl) (Nat.le_of_ble_eq_true rfl) rfl dJ4_unlinkLast_17 ?_
  show zV X 4 A (zH G A (zS [z1 a (.inr (5, [.int (iI mo), .int (iI 1), .ref f, .ref f])), z1 f (.inr (6, [.null, .null, .null]))])) (0) (0) 20 [some (.ref a), some (.ref f), some (.ref x), some (.null)] []
  refine zx_aload_n hC dJ4_unlinkLast_20 rfl ?_
  refine zx_aload_nN hC dJ4_unlinkLast_21 rfl ?_
  refine zx_putf (T := TJ4) (N := 4) (ci := 5) (fs := [.int (iI mo), .int (iI 1), .ref f, .ref f]) (fs' := [.int (iI mo), .int (iI 1), .ref f, .null]) hC 0 in_J4 tyJ4 tyJ4_ok nmJ4 rfl rfl 3 (by decide) q182 (fun _ h => h) rfl (by first | rfl | exact rfl) (by first | rfl | exact rfl) (Nat.le_of_ble_eq_true rfl) rfl dJ4_unlinkLast_22 ?_
  show zV X 4 A (zH G A (zS [z1 a (.inr (5, [.int (iI mo), .int (iI 1), .ref f, .null])), z1 f (.inr (6, [.null, .null, .null]))])) (0) (0) 25 [some (.ref a), some (.ref f), some (.ref x), some (.null)] []
  refine zx_aload_nN hC dJ4_unlinkLast_25 rfl ?_
  refine zx_ifnonnullN hC dJ4_unlinkLast_26 ?_
  refine zx_aload_n hC dJ4_unlinkLast_29 rfl ?_
  refine zx_null hC dJ4_unlinkLast_30 ?_
  refine zx_putf (T := TJ4) (N := 4) (ci := 5) (fs := [.int (iI mo), .int (iI 1), .ref f, .null]) (fs' := [.int (iI mo), .int (iI 1), .null, .null]) hC 0 in_J4 tyJ4 tyJ4_ok nmJ4 rfl rfl 2 (by decide) q181 (fun _ h => h) rfl (by first | rfl | exact rfl) (by first | rfl | exact rfl) (Nat.le_of_ble_eq_true rfl) rfl dJ4_unlinkLast_31 ?_
  show zV X 4 A (zH G A (zS [z1 a (.inr (5, [.int (iI mo), .int (iI 1), .null, .null])), z1 f (.inr (6, [.null, .null, .null]))])) (0) (0) 34 [some (.ref a), some (.ref f), some (.ref x), some (.null)] []
  refine zx_goto (tgt := 42) hC dJ4_unlinkLast_34 (by decide) ?_
  refine zx_aload_n hC dJ4_unlinkLast_42 rfl ?_
  refine zx_dup hC dJ4_unlinkLast_43 rfl ?_
  refine zx_getf (v := .int (iI 1)) (T := TJ4) (N := 4) (ci := 5) (fs := [.int (iI mo), .int (iI 1), .null, .null]) hC in_J4 (zat 0 rfl) rfl 1 (by decide) q179 (fun _ h => h) rfl dJ4_unlinkLast_44 ?_
  refine zx_iconst (z := 1) hC dJ4_unlinkLast_47 ?_
  refine zx_isub hC dJ4_unlinkLast_48 ?_
  refine zx_topi (b := 0) (by rfl) ?_
  refine zx_putf (T := TJ4) (N := 4) (ci := 5) (fs := [.int (iI mo), .int (iI 1), .null, .null]) (fs' := [.int (iI mo), .int (iI 0), .null, .null]) hC 0 in_J4 tyJ4 tyJ4_ok nmJ4 rfl rfl 1 (by decide) q179 (fun _ h => h) rfl (by first | rfl | exact rfl) (by first | rfl | exact rfl) (Nat.le_of_ble_eq_true rfl) rfl dJ4_unlinkLast_49 ?_
  show zV X 4 A (zH G A (zS [z1 a (.inr (5, [.int (iI mo), .int (iI 0), .null, .null])), z1 f (.inr (6, [.null, .null, .null]))])) (0) (0) 52 [some (.ref a), some (.ref f), some (.ref x), some (.null)] []
  refine zx_aload_n hC dJ4_unlinkLast_52 rfl ?_
  refine zx_dup hC dJ4_unlinkLast_53 rfl ?_
  refine zx_getf (v := .int (iI mo)) (T := TJ4) (N := 4) (ci := 5) (fs := [.int (iI mo), .int (iI 0), .null, .null]) hC in_J4 (zat 0 rfl) rfl 0 (by decide) q161 (fun x h => u_same (hC.1.2.2.2.2 _ q157) x h) rfl dJ4_unlinkLast_54 ?_
  refine zx_iconst (z := 1) hC dJ4_unlinkLast_57 ?_
  refine zx_iadd hC dJ4_unlinkLast_58 ?_
  refine zx_putf (T := TJ4) (N := 4) (ci := 5) (fs := [.int (iI mo), .int (iI 0), .null, .null]) (fs' := [.int (iI (mo + 1)), .int (iI 0), .null, .null]) hC 0 in_J4 tyJ4 tyJ4_ok nmJ4 rfl rfl 0 (by decide) q161 (fun x h => u_same (hC.1.2.2.2.2 _ q157) x h) rfl (by first | rfl | exact rfl) (by first | rfl | exact rfl) (Nat.le_of_ble_eq_true rfl) rfl dJ4_unlinkLast_59 ?_
  show zV X 4 A (zH G A (zS [z1 a (.inr (5, [.int (iI (mo + 1)), .int (iI 0), .null, .null])), z1 f (.inr (6, [.null, .null, .null]))])) (0) (0) 62 [some (.ref a), some (.ref f), some (.ref x), some (.null)] []
  refine zx_aload_n hC dJ4_unlinkLast_62 rfl ?_
  refine zx_pick [1, 0] rfl rfl ?_
  show zV X 4 A (zH G A (zS [z1 f (.inr (6, [.null, .null, .null])), z1 a (.inr (5, [.int (iI (mo + 1)), .int (iI 0), .null, .null]))])) (0) (0) 63 [some (.ref a), some (.ref f), some (.ref x), some (.null)] [.ref x]
  refine zx_drop ?_
  show zV X 4 A (zH G A (zS [z1 a (.inr (5, [.int (iI (mo + 1)), .int (iI 0), .null, .null]))])) (0) (0) 63 [some (.ref a), some (.ref f), some (.ref x), some (.null)] [.ref x]
  exact zx_aret hC hE (.inl ⟨_, rfl⟩) (.inr ⟨_, rfl⟩) (by omega) (by omega) (fun H h => ⟨rfl, h⟩) dJ4_unlinkLast_63
set_option maxHeartbeats 4000000 in
theorem m_J4_unlinkLastC (la : Launch) (G : zG) (a : Nat) (mo : Int) (m : Nat) (f : Nat) (b : Nat) (x : Nat) (g : Nat) (y : Nat) (v : Value)  : zMA la yJ4_unlinkLast cJ4_unlinkLast 4 (some (.object "java/lang/Object")) 0 0 G [.ref a, .ref f] [z1 a (.inr (5, [.int (iI mo), .int (iI ((m + 2 : Nat) : Int)), .ref b, .ref f])), z1 f (.inr (6, [.ref x, .null, .ref g])), z1 g (.inr (6, [.ref y, .ref f, v]))] (fun v9 => v9 = some (.ref x)) (fun _ => [z1 a (.inr (5, [.int (iI (mo + 1)), .int (iI ((m + 1 : Nat) : Int)), .ref b, .ref g])), z1 g (.inr (6, [.ref y, .null, v]))]) (0) (0) := by
  refine zMA.of [some (.ref a), some (.ref f), none, none] (by decide) (Nat.le_of_ble_eq_true rfl) rfl (fun X A hl hC hnm hA hRm hE => ?_)
  refine zx_aload_n hC dJ4_unlinkLast_0 rfl ?_
  refine zx_getf (v := .ref x) (T := TJ23) (N := 3) (ci := 6) (fs := [.ref x, .null, .ref g]) hC in_J23 (zat 1 rfl) rfl 0 (by decide) q887 (fun _ h => h) rfl dJ4_unlinkLast_1 ?_
  refine zx_astore_n (L' := [some (.ref a), some (.ref f), some (.ref x), none]) hC dJ4_unlinkLast_4 (by decide) rfl ?_
  refine zx_aload_n hC dJ4_unlinkLast_5 rfl ?_
  refine zx_getf (v := .ref g) (T := TJ23) (N := 3) (ci := 6) (fs := [.ref x, .null, .ref g]) hC in_J23 (zat 1 rfl) rfl 2 (by decide) q892 (fun _ h => h) rfl dJ4_unlinkLast_6 ?_
  refine zx_astore_n (L' := [some (.ref a), some (.ref f), some (.ref x), some (.ref g)]) hC dJ4_unlinkLast_9 (by decide) rfl ?_
  refine zx_aload_n hC dJ4_unlinkLast_10 rfl ?_
  refine zx_null hC dJ4_unlinkLast_11 ?_
  refine zx_putf (T := TJ23) (N := 3) (ci := 6) (fs := [.ref x, .null, .ref g]) (fs' := [.null, .null, .ref g]) hC 1 in_J23 tyJ23 tyJ23_ok nmJ23 rfl rfl 0 (by decide) q887 (fun _ h => h) rfl (by first | rfl | exact rfl) (by first | rfl | exact rfl) (Nat.le_of_ble_eq_true rfl) rfl dJ4_unlinkLast_12 ?_
  show zV X 4 A (zH G A (zS [z1 a (.inr (5, [.int (iI mo), .int (iI ((m + 2 : Nat) : Int)), .ref b, .ref f])), z1 f (.inr (6, [.null, .null, .ref g])), z1 g (.inr (6, [.ref y, .ref f, v]))])) (0) (0) 15 [some (.ref a), some (.ref f), some (.ref x), some (.ref g)] []
  refine zx_aload_n hC dJ4_unlinkLast_15 rfl ?_
  refine zx_null hC dJ4_unlinkLast_16 ?_
  refine zx_putf (T := TJ23) (N := 3) (ci := 6) (fs := [.null, .null, .ref g]) (fs' := [.null, .null, .null]) hC 1 in_J23 tyJ23 tyJ23_ok nmJ23 rfl rfl 2 (by decide) q892 (fun _ h => h) rfl (by first | rfl | exact rfl) (by first | rfl | exact rfl) (Nat.le_of_ble_eq_true rfl) rfl dJ4_unlinkLast_17 ?_
  show zV X 4 A (zH G A (zS [z1 a (.inr (5, [.int (iI mo), .int (iI ((m + 2 : Nat) : Int)), .ref b, .ref f])), z1 f (.inr (6, [.null, .null, .null])), z1 g (.inr (6, [.ref y, .ref f, v]))])) (0) (0) 20 [some (.ref a), some (.ref f), some (.ref x), some (.ref g)] []
  refine zx_aload_n hC dJ4_unlinkLast_20 rfl ?_
  refine zx_aload_n hC dJ4_unlinkLast_21 rfl ?_
  refine zx_putf (T := TJ4) (N := 4) (ci := 5) (fs := [.int (iI mo), .int (iI ((m + 2 : Nat) : Int)), .ref b, .ref f]) (fs' := [.int (iI mo), .int (iI ((m + 2 : Nat) : Int)), .ref b, .ref g]) hC 0 in_J4 tyJ4 tyJ4_ok nmJ4 rfl rfl 3 (by decide) q182 (fun _ h => h) rfl (by first | rfl | exact rfl) (by first | rfl | exact rfl) (Nat.le_of_ble_eq_true rfl) rfl dJ4_unlinkLast_22 ?_
  show zV X 4 A (zH G A (zS [z1 a (.inr (5, [.int (iI mo), .int (iI ((m + 2 : Nat) : Int)), .ref b, .ref g])), z1 f (.inr (6, [.null, .null, .null])), z1 g (.inr (6, [.ref y, .ref f, v]))])) (0) (0) 25 [some (.ref a), some (.ref f), some (.ref x), some (.ref g)] []
  refine zx_aload_n hC dJ4_unlinkLast_25 rfl ?_
  refine zx_ifnonnull (tgt := 37) hC dJ4_unlinkLast_26 (by decide) ?_
  refine zx_aload_n hC dJ4_unlinkLast_37 rfl ?_
  refine zx_null hC dJ4_unlinkLast_38 ?_
  refine zx_putf (T := TJ23) (N := 3) (ci := 6) (fs := [.ref y, .ref f, v]) (fs' := [.ref y, .null, v]) hC 2 in_J23 tyJ23 tyJ23_ok nmJ23 rfl rfl 1 (by decide) q890 (fun _ h => h) rfl (by first | rfl | exact rfl) (by first | rfl | exact rfl) (Nat.le_of_ble_eq_true rfl) rfl dJ4_unlinkLast_39 ?_
  show zV X 4 A (zH G A (zS [z1 a (.inr (5, [.int (iI mo), .int (iI ((m + 2 : Nat) : Int)), .ref b, .ref g])), z1 f (.inr (6, [.null, .null, .null])), z1 g (.inr (6, [.ref y, .null, v]))])) (0) (0) 42 [some (.ref a), some (.ref f), some (.ref x), some (.ref g)] []
  refine zx_aload_n hC dJ4_unlinkLast_42 rfl ?_
  refine zx_dup hC dJ4_unlinkLast_43 rfl ?_
  refine zx_getf (v := .int (iI ((m + 2 : Nat) : Int))) (T := TJ4) (N := 4) (ci := 5) (fs := [.int (iI mo), .int (iI ((m + 2 : Nat) : Int)), .ref b, .ref g]) hC in_J4 (zat 0 rfl) rfl 1 (by decide) q179 (fun _ h => h) rfl dJ4_unlinkLast_44 ?_
  refine zx_iconst (z := 1) hC dJ4_unlinkLast_47 ?_
  refine zx_isub hC dJ4_unlinkLast_48 ?_
  refine zx_topi (b := ((m + 1 : Nat) : Int)) (by omega) ?_
  refine zx_putf (T := TJ4) (N := 4) (ci := 5) (fs := [.int (iI mo), .int (iI ((m + 2 : Nat) : Int)), .ref b, .ref g]) (fs' := [.int (iI mo), .int (iI ((m + 1 : Nat) : Int)), .ref b, .ref g]) hC 0 in_J4 tyJ4 tyJ4_ok nmJ4 rfl rfl 1 (by decide) q179 (fun _ h => h) rfl (by first | rfl | exact rfl) (by first | rfl | exact rfl) (Nat.le_of_ble_eq_true rfl) rfl dJ4_unlinkLast_49 ?_
  show zV X 4 A (zH G A (zS [z1 a (.inr (5, [.int (iI mo), .int (iI ((m + 1 : Nat) : Int)), .ref b, .ref g])), z1 f (.inr (6, [.null, .null, .null])), z1 g (.inr (6, [.ref y, .null, v]))])) (0) (0) 52 [some (.ref a), some (.ref f), some (.ref x), some (.ref g)] []
  refine zx_aload_n hC dJ4_unlinkLast_52 rfl ?_
  refine zx_dup hC dJ4_unlinkLast_53 rfl ?_
  refine zx_getf (v := .int (iI mo)) (T := TJ4) (N := 4) (ci := 5) (fs := [.int (iI mo), .int (iI ((m + 1 : Nat) : Int)), .ref b, .ref g]) hC in_J4 (zat 0 rfl) rfl 0 (by decide) q161 (fun x h => u_same (hC.1.2.2.2.2 _ q157) x h) rfl dJ4_unlinkLast_54 ?_
  refine zx_iconst (z := 1) hC dJ4_unlinkLast_57 ?_
  refine zx_iadd hC dJ4_unlinkLast_58 ?_
  refine zx_putf (T := TJ4) (N := 4) (ci := 5) (fs := [.int (iI mo), .int (iI ((m + 1 : Nat) : Int)), .ref b, .ref g]) (fs' := [.int (iI (mo + 1)), .int (iI ((m + 1 : Nat) : Int)), .ref b, .ref g]) hC 0 in_J4 tyJ4 tyJ4_ok nmJ4 rfl rfl 0 (by decide) q161 (fun x h => u_same (hC.1.2.2.2.2 _ q157) x h) rfl (by first | rfl | exact rfl) (by first | rfl | exact rfl) (Nat.le_of_ble_eq_true rfl) rfl dJ4_unlinkLast_59 ?_
  show zV X 4 A (zH G A (zS [z1 a (.inr (5, [.int (iI (mo + 1)), .int (iI ((m + 1 : Nat) : Int)), .ref b, .ref g])), z1 f (.inr (6, [.null, .null, .null])), z1 g (.inr (6, [.ref y, .null, v]))])) (0) (0) 62 [some (.ref a), some (.ref f), some (.ref x), some (.ref g)] []
  refine zx_aload_n hC dJ4_unlinkLast_62 rfl ?_
  refine zx_pick [0, 2, 1] rfl rfl ?_
  show zV X 4 A (zH G A (zS [z1 a (.inr (5, [.int (iI (mo + 1)), .int (iI ((m + 1 : Nat) : Int)), .ref b, .ref g])), z1 g (.inr (6, [.ref y, .null, v])), z1 f (.inr (6, [.null, .null, .null]))])) (0) (0) 63 [some (.ref a), some (.ref f), some (.ref x), some (.ref g)] [.ref x]
  refine zx_pick [2, 0, 1] rfl rfl ?_
  show zV X 4 A (zH G A (zS [z1 f (.inr (6, [.null, .null, .null])), z1 a (.inr (5, [.int (iI (mo + 1)), .int (iI ((m + 1 : Nat) : Int)), .ref b, .ref g])), z1 g (.inr (6, [.ref y, .null, v]))])) (0) (0) 63 [some (.ref a), some (.ref f), some (.ref x), some (.ref g)] [.ref x]
  refine zx_drop ?_
  show zV X 4 A (zH G A (zS [z1 a (.inr (5, [.int (iI (mo + 1)), .int (iI ((m + 1 : Nat) : Int)), .ref b, .ref g])), z1 g (.inr (6, [.ref y, .null, v]))])) (0) (0) 63 [some (.ref a), some (.ref f), some (.ref x), some (.ref g)] [.ref x]
  exact zx_aret hC hE (.inl ⟨_, rfl⟩) (.inr ⟨_, rfl⟩) (by omega) (by omega) (fun H h => ⟨rfl, h⟩) dJ4_unlinkLast_63
set_option maxHeartbeats 4000000 in
theorem m_J4_removeLastE (la : Launch) (G : zG) (a : Nat) (xs : Nat → Nat)  : zMA la yJ4_removeLast cJ4_removeLast 2 (some (.object "java/lang/Object")) 1 23 G [.ref a] [LL G a 1 xs] (fun v9 => v9 = some (.ref (xs 0))) (fun _ => [LL G a 0 xs]) (0) (0) := by
  refine zMA.of [some (.ref a), none] (by decide) (Nat.le_of_ble_eq_true rfl) rfl (fun X A hl hC hnm hA hRm hE => ?_)
  refine zx_imp (P2 := LLF G a 0 xs) (LL_F) ?_
  show zV X 2 A (zH G A (zS [LLF G a 0 xs])) (0) (0) 0 [some (.ref a), none] []
  refine zx_exi (fun nd => zx_exi (fun mo => zx_nest ?_))
  show zV X 2 A (zH G A (zS [z1 a (.inr (5, [.int (iI mo), .int (iI 1), .ref (nd 0), .ref (nd 0)])), z1 (nd 0) (.inr (6, [.ref (xs 0), .null, .null])), zbs 0 (fun i => LLn nd xs (0 + 1) (i + 1))])) (0) (0) 0 [some (.ref a), none] []
  refine zx_aload_n hC dJ4_removeLast_0 rfl ?_
  refine zx_getf (v := .ref (nd 0)) (T := TJ4) (N := 4) (ci := 5) (fs := [.int (iI mo), .int (iI 1), .ref (nd 0), .ref (nd 0)]) hC in_J4 (zat 0 rfl) rfl 3 (by decide) q182 (fun _ h => h) rfl dJ4_removeLast_1 ?_
  refine zx_astore_n (L' := [some (.ref a), some (.ref (nd 0))]) hC dJ4_removeLast_4 (by decide) rfl ?_
  refine zx_aload_n hC dJ4_removeLast_5 rfl ?_
  refine zx_ifnonnull (tgt := 17) hC dJ4_removeLast_6 (by decide) ?_
  refine zx_aload_n hC dJ4_removeLast_17 rfl ?_
  refine zx_aload_n hC dJ4_removeLast_18 rfl ?_
  refine zx_ma1 (r := .ref (xs 0)) (Q := fun _ => [z1 a (.inr (5, [.int (iI (mo + 1)), .int (iI 0), .null, .null]))]) hC hA [0, 1] [2] (zcV 1 (As := [.ref (nd 0)]) hC (lw_V q1591 q1593 qs32 q88 q1594) (by decide +kernel) rfl (by rw [hRm]; exact ⟨Nat.le_of_ble_eq_true rfl, Nat.le_of_ble_eq_true rfl⟩) (by rw [hRm]; constructor <;> (first | decide | (simp only []; omega) | omega)) rfl (Nat.le_of_ble_eq_true rfl) dJ4_removeLast_19) (m_J4_unlinkLastE (zl X) G a mo (nd 0) (xs 0) ) (fun H h => zrc_of (r := (RJ4, TJ4, 4)) hC.2.1 ((zat 0 rfl) H h) rfl) rfl rfl rfl ?_
  show zV X 2 A (zH G A (zS [zbs 0 (fun i => LLn nd xs (0 + 1) (i + 1)), z1 a (.inr (5, [.int (iI (mo + 1)), .int (iI 0), .null, .null]))])) (0) (0) 22 [some (.ref a), some (.ref (nd 0))] [.ref (xs 0)]
  refine zx_pick [1, 0] rfl rfl ?_
  show zV X 2 A (zH G A (zS [z1 a (.inr (5, [.int (iI (mo + 1)), .int (iI 0), .null, .null])), zbs 0 (fun i => LLn nd xs (0 + 1) (i + 1))])) (0) (0) 22 [some (.ref a), some (.ref (nd 0))] [.ref (xs 0)]
  refine zx_close (P1 := LL G a 0 xs) [z1 a (.inr (5, [.int (iI (mo + 1)), .int (iI 0), .null, .null]))] (LLE_mk _) ?_
  show zV X 2 A (zH G A (zS [LL G a 0 xs, zbs 0 (fun i => LLn nd xs (0 + 1) (i + 1))])) (0) (0) 22 [some (.ref a), some (.ref (nd 0))] [.ref (xs 0)]
  refine zx_pick [1, 0] rfl rfl ?_
  show zV X 2 A (zH G A (zS [zbs 0 (fun i => LLn nd xs (0 + 1) (i + 1)), LL G a 0 xs])) (0) (0) 22 [some (.ref a), some (.ref (nd 0))] [.ref (xs 0)]
  refine zx_drop ?_
  show zV X 2 A (zH G A (zS [LL G a 0 xs])) (0) (0) 22 [some (.ref a), some (.ref (nd 0))] [.ref (xs 0)]
  exact zx_aret hC hE (.inl ⟨_, rfl⟩) (.inr ⟨_, rfl⟩) (by omega) (by omega) (fun H h => ⟨rfl, h⟩) dJ4_removeLast_22
set_option maxHeartbeats 4000000 in
theorem m_J4_removeLastC (la : Launch) (G : zG) (a : Nat) (m : Nat) (xs : Nat → Nat)  : zMA la yJ4_removeLast cJ4_removeLast 2 (some (.object "java/lang/Object")) 1 23 G [.ref a] [LL G a (m + 2) xs] (fun v9 => v9 = some (.ref (xs (m + 1)))) (fun _ => [LL G a (m + 1) xs]) (0) (0) := by
  refine zMA.of [some (.ref a), none] (by decide) (Nat.le_of_ble_eq_true rfl) rfl (fun X A hl hC hnm hA hRm hE => ?_)
  refine zx_imp (P2 := LLBB G a m xs) (LL_BB) ?_
  show zV X 2 A (zH G A (zS [LLBB G a m xs])) (0) (0) 0 [some (.ref a), none] []
  refine zx_exi (fun nd => zx_exi (fun mo => zx_nest ?_))
  show zV X 2 A (zH G A (zS [z1 a (.inr (5, [.int (iI mo), .int (iI ((m + 2 : Nat) : Int)), .ref (nd 0), .ref (nd (m + 1))])), zbs m (LLn nd xs (m + 2)), z1 (nd m) (.inr (6, [.ref (xs m), .ref (nd (m + 1)), lpv nd m])), z1 (nd (m + 1)) (.inr (6, [.ref (xs (m + 1)), .null, .ref (nd m)]))])) (0) (0) 0 [some (.ref a), none] []
  refine zx_aload_n hC dJ4_removeLast_0 rfl ?_
  refine zx_getf (v := .ref (nd (m + 1))) (T := TJ4) (N := 4) (ci := 5) (fs := [.int (iI mo), .int (iI ((m + 2 : Nat) : Int)), .ref (nd 0), .ref (nd (m + 1))]) hC in_J4 (zat 0 rfl) rfl 3 (by decide) q182 (fun _ h => h) rfl dJ4_removeLast_1 ?_
  refine zx_astore_n (L' := [some (.ref a), some (.ref (nd (m + 1)))]) hC dJ4_removeLast_4 (by decide) rfl ?_
  refine zx_aload_n hC dJ4_removeLast_5 rfl ?_
  refine zx_ifnonnull (tgt := 17) hC dJ4_removeLast_6 (by decide) ?_
  refine zx_aload_n hC dJ4_removeLast_17 rfl ?_
  refine zx_aload_n hC dJ4_removeLast_18 rfl ?_
  refine zx_ma1 (r := .ref (xs (m + 1))) (Q := fun _ => [z1 a (.inr (5, [.int (iI (mo + 1)), .int (iI ((m + 1 : Nat) : Int)), .ref (nd 0), .ref (nd m)])), z1 (nd m) (.inr (6, [.ref (xs m), .null, lpv nd m]))]) hC hA [0, 3, 2] [1] (zcV 1 (As := [.ref (nd (m + 1))]) hC (lw_V q1591 q1593 qs32 q88 q1594) (by decide +kernel) rfl (by rw [hRm]; exact ⟨Nat.le_of_ble_eq_true rfl, Nat.le_of_ble_eq_true rfl⟩) (by rw [hRm]; constructor <;> (first | decide | (simp only []; omega) | omega)) rfl (Nat.le_of_ble_eq_true rfl) dJ4_removeLast_19) (m_J4_unlinkLastC (zl X) G a mo m (nd (m + 1)) (nd 0) (xs (m + 1)) (nd m) (xs m) (lpv nd m) ) (fun H h => zrc_of (r := (RJ4, TJ4, 4)) hC.2.1 ((zat 0 rfl) H h) rfl) rfl rfl rfl ?_
  show zV X 2 A (zH G A (zS [zbs m (LLn nd xs (m + 2)), z1 a (.inr (5, [.int (iI (mo + 1)), .int (iI ((m + 1 : Nat) : Int)), .ref (nd 0), .ref (nd m)])), z1 (nd m) (.inr (6, [.ref (xs m), .null, lpv nd m]))])) (0) (0) 22 [some (.ref a), some (.ref (nd (m + 1)))] [.ref (xs (m + 1))]
  refine zx_pick [1, 0, 2] rfl rfl ?_
  show zV X 2 A (zH G A (zS [z1 a (.inr (5, [.int (iI (mo + 1)), .int (iI ((m + 1 : Nat) : Int)), .ref (nd 0), .ref (nd m)])), zbs m (LLn nd xs (m + 2)), z1 (nd m) (.inr (6, [.ref (xs m), .null, lpv nd m]))])) (0) (0) 22 [some (.ref a), some (.ref (nd (m + 1)))] [.ref (xs (m + 1))]
  refine zx_close (P1 := LL G a (m + 1) xs) [z1 a (.inr (5, [.int (iI (mo + 1)), .int (iI ((m + 1 : Nat) : Int)), .ref (nd 0), .ref (nd m)])), zbs m (LLn nd xs (m + 2)), z1 (nd m) (.inr (6, [.ref (xs m), .null, lpv nd m]))] (LL_remB (m := m) (nd := nd)) ?_
  show zV X 2 A (zH G A (zS [LL G a (m + 1) xs])) (0) (0) 22 [some (.ref a), some (.ref (nd (m + 1)))] [.ref (xs (m + 1))]
  exact zx_aret hC hE (.inl ⟨_, rfl⟩) (.inr ⟨_, rfl⟩) (by omega) (by omega) (fun H h => ⟨rfl, h⟩) dJ4_removeLast_22
set_option maxHeartbeats 4000000 in
theorem m_J4_removeLast (la : Launch) (G : zG) (a : Nat) (m : Nat) (xs : Nat → Nat)  : zMA la yJ4_removeLast cJ4_removeLast 2 (some (.object "java/lang/Object")) 1 23 G [.ref a] [LL G a (m + 1) xs] (fun v9 => v9 = some (.ref (xs m))) (fun _ => [LL G a m xs]) (0) (0) := by
  cases m with
  | zero => exact m_J4_removeLastE la G a xs
  | succ m => exact m_J4_removeLastC la G a m xs
set_option maxHeartbeats 4000000 in
theorem m_J4_size (la : Launch) (G : zG) (a : Nat) (m : Nat) (xs : Nat → Nat)  : zRd la yJ4_size cJ4_size 1 (some .int) 0 0 G [.ref a] (fun H => zhp G (LL G a m xs) H) (fun v9 => v9 = some (.int (iI ((m : Nat) : Int)))) := by
  refine zRd.of [some (.ref a)] (by decide) (Nat.le_of_ble_eq_true rfl) rfl (fun X hl hC hRm hP hE => ?_)
  have hp0 := hP
  obtain ⟨nd, mo, hmo, ha, hn⟩ := LL_hp hp0
  refine zx_aload_n hC dJ4_size_0 rfl ?_
  refine zx_getf (v := .int (iI ((m : Nat) : Int))) (T := TJ4) (N := 4) (ci := 5) (fs := [.int (iI mo), .int (iI ((m : Nat) : Int)), lfi nd m, lla nd m]) hC in_J4 (zeq ha) rfl 1 (by decide) q179 (fun _ h => h) rfl dJ4_size_1 ?_
  exact zx_iret hC hE (Nat.le_refl _) (Nat.le_refl _) (fun H h => ⟨h, rfl⟩) dJ4_size_4
set_option maxHeartbeats 4000000 in
theorem m_J4_clearE (la : Launch) (G : zG) (a : Nat) (xs : Nat → Nat)  : zMA la yJ4_clear cJ4_clear 3 none 0 0 G [.ref a] [LL G a 0 xs] (fun v9 => v9 = none) (fun _ => [LL G a 0 (fun _ => 0)]) (0) (0) := by
  refine zMA.of [some (.ref a), none, none] (by decide) (Nat.le_of_ble_eq_true rfl) rfl (fun X A hl hC hnm hA hRm hE => ?_)
  refine zx_imp (P2 := LLE G a) (LL_E) ?_
  show zV X 3 A (zH G A (zS [LLE G a])) (0) (0) 0 [some (.ref a), none, none] []
  refine zx_exi (fun mo => zx_nest ?_)
  show zV X 3 A (zH G A (zS [z1 a (.inr (5, [.int (iI mo), .int (iI 0), .null, .null]))])) (0) (0) 0 [some (.ref a), none, none] []
  refine zx_aload_n hC dJ4_clear_0 rfl ?_
  refine zx_getf (v := .null) (T := TJ4) (N := 4) (ci := 5) (fs := [.int (iI mo), .int (iI 0), .null, .null]) hC in_J4 (zat 0 rfl) rfl 2 (by decide) q181 (fun _ h => h) rfl dJ4_clear_1 ?_
  refine zx_astore_nN (L' := [some (.ref a), some (.null), none]) hC dJ4_clear_4 (by decide) rfl ?_
  refine zx_aload_nN hC dJ4_clear_5 rfl ?_
  refine zx_ifnullN (tgt := 34) hC dJ4_clear_6 (by decide) ?_
  refine zx_aload_n hC dJ4_clear_34 rfl ?_
  refine zx_aload_n hC dJ4_clear_35 rfl ?_
  refine zx_null hC dJ4_clear_36 ?_
  refine zx_dup_x1 hC dJ4_clear_37 rfl rfl ?_
  refine zx_putf (T := TJ4) (N := 4) (ci := 5) (fs := [.int (iI mo), .int (iI 0), .null, .null]) (fs' := [.int (iI mo), .int (iI 0), .null, .null]) hC 0 in_J4 tyJ4 tyJ4_ok nmJ4 rfl rfl 3 (by decide) q182 (fun _ h => h) rfl (by first | rfl | exact rfl) (by first | rfl | exact rfl) (Nat.le_of_ble_eq_true rfl) rfl dJ4_clear_38 ?_
  show zV X 3 A (zH G A (zS [z1 a (.inr (5, [.int (iI mo), .int (iI 0), .null, .null]))])) (0) (0) 41 [some (.ref a), some (.null), none] [.null, .ref a]
  refine zx_putf (T := TJ4) (N := 4) (ci := 5) (fs := [.int (iI mo), .int (iI 0), .null, .null]) (fs' := [.int (iI mo), .int (iI 0), .null, .null]) hC 0 in_J4 tyJ4 tyJ4_ok nmJ4 rfl rfl 2 (by decide) q181 (fun _ h => h) rfl (by first | rfl | exact rfl) (by first | rfl | exact rfl) (Nat.le_of_ble_eq_true rfl) rfl dJ4_clear_41 ?_
  show zV X 3 A (zH G A (zS [z1 a (.inr (5, [.int (iI mo), .int (iI 0), .null, .null]))])) (0) (0) 44 [some (.ref a), some (.null), none] []
  refine zx_aload_n hC dJ4_clear_44 rfl ?_
  refine zx_iconst (z := 0) hC dJ4_clear_45 ?_
  refine zx_putf (T := TJ4) (N := 4) (ci := 5) (fs := [.int (iI mo), .int (iI 0), .null, .null]) (fs' := [.int (iI mo), .int (iI 0), .null, .null]) hC 0 in_J4 tyJ4 tyJ4_ok nmJ4 rfl rfl 1 (by decide) q179 (fun _ h => h) rfl (by first | rfl | exact rfl) (by first | rfl | exact rfl) (Nat.le_of_ble_eq_true rfl) rfl dJ4_clear_46 ?_
  show zV X 3 A (zH G A (zS [z1 a (.inr (5, [.int (iI mo), .int (iI 0), .null, .null]))])) (0) (0) 49 [some (.ref a), some (.null), none] []
  refine zx_aload_n hC dJ4_clear_49 rfl ?_
  refine zx_dup hC dJ4_clear_50 rfl ?_
  refine zx_getf (v := .int (iI mo)) (T := TJ4) (N := 4) (ci := 5) (fs := [.int (iI mo), .int (iI 0), .null, .null]) hC in_J4 (zat 0 rfl) rfl 0 (by decide) q161 (fun x h => u_same (hC.1.2.2.2.2 _ q157) x h) rfl dJ4_clear_51 ?_
  refine zx_iconst (z := 1) hC dJ4_clear_54 ?_
  refine zx_iadd hC dJ4_clear_55 ?_
  refine zx_putf (T := TJ4) (N := 4) (ci := 5) (fs := [.int (iI mo), .int (iI 0), .null, .null]) (fs' := [.int (iI (mo + 1)), .int (iI 0), .null, .null]) hC 0 in_J4 tyJ4 tyJ4_ok nmJ4 rfl rfl 0 (by decide) q161 (fun x h => u_same (hC.1.2.2.2.2 _ q157) x h) rfl (by first | rfl | exact rfl) (by first | rfl | exact rfl) (Nat.le_of_ble_eq_true rfl) rfl dJ4_clear_56 ?_
  show zV X 3 A (zH G A (zS [z1 a (.inr (5, [.int (iI (mo + 1)), .int (iI 0), .null, .null]))])) (0) (0) 59 [some (.ref a), some (.null), none] []
  refine zx_close (P1 := LL G a 0 (fun _ => 0)) [z1 a (.inr (5, [.int (iI (mo + 1)), .int (iI 0), .null, .null]))] (LLE_mk _) ?_
  show zV X 3 A (zH G A (zS [LL G a 0 (fun _ => 0)])) (0) (0) 59 [some (.ref a), some (.null), none] []
  exact zx_vret hC hE (by omega) (by omega) (fun H h => ⟨rfl, h⟩) dJ4_clear_59
set_option maxHeartbeats 4000000 in
theorem m_J4_clearC (la : Launch) (G : zG) (a : Nat) (m : Nat) (xs : Nat → Nat)  : zMA la yJ4_clear cJ4_clear 3 none 0 0 G [.ref a] [LL G a (m + 1) xs] (fun v9 => v9 = none) (fun _ => [LL G a 0 (fun _ => 0)]) (0) (0) := by
  refine zMA.of [some (.ref a), none, none] (by decide) (Nat.le_of_ble_eq_true rfl) rfl (fun X A hl hC hnm hA hRm hE => ?_)
  refine zx_imp (P2 := LLa G a m xs) (LL_a) ?_
  show zV X 3 A (zH G A (zS [LLa G a m xs])) (0) (0) 0 [some (.ref a), none, none] []
  refine zx_exi (fun nd => zx_exi (fun mo => zx_nest ?_))
  show zV X 3 A (zH G A (zS [z1 a (.inr (5, [.int (iI mo), .int (iI ((m + 1 : Nat) : Int)), .ref (nd 0), .ref (nd m)])), zbs (m + 1) (LLn nd xs (m + 1))])) (0) (0) 0 [some (.ref a), none, none] []
  refine zx_aload_n hC dJ4_clear_0 rfl ?_
  refine zx_getf (v := .ref (nd 0)) (T := TJ4) (N := 4) (ci := 5) (fs := [.int (iI mo), .int (iI ((m + 1 : Nat) : Int)), .ref (nd 0), .ref (nd m)]) hC in_J4 (zat 0 rfl) rfl 2 (by decide) q181 (fun _ h => h) rfl dJ4_clear_1 ?_
  refine zx_astore_n (L' := [some (.ref a), some (.ref (nd 0)), none]) hC dJ4_clear_4 (by decide) rfl ?_
  have loop : ∀ j i : Nat, i + j = m → zV X 3 A (zH G A (zS [z1 a (.inr (5, [.int (iI mo), .int (iI ((m + 1 : Nat) : Int)), .ref (nd 0), .ref (nd m)])), zbs (j + 1) (fun t => LLn nd xs (m + 1) (i + t))])) (0) (0) 5 [some (.ref a), some (.ref (nd i)), none] [] := by
    intro j
    induction j with
    | zero =>
      intro i hi
      refine zx_pick [1, 0] rfl rfl ?_
      show zV X 3 A (zH G A (zS [zbs (0 + 1) (fun t => LLn nd xs (m + 1) (i + t)), z1 a (.inr (5, [.int (iI mo), .int (iI ((m + 1 : Nat) : Int)), .ref (nd 0), .ref (nd m)]))])) (0) (0) 5 [some (.ref a), some (.ref (nd i)), none] []
      refine zx_bc ?_
      show zV X 3 A (zH G A (zS [z1 (nd i) (.inr (6, [.ref (xs i), lnx nd (m + 1) i, lpv nd i])), zbs 0 (fun t => LLn nd xs (m + 1) (i + (t + 1))), z1 a (.inr (5, [.int (iI mo), .int (iI ((m + 1 : Nat) : Int)), .ref (nd 0), .ref (nd m)]))])) (0) (0) 5 [some (.ref a), some (.ref (nd i)), none] []
      rw [show lnx nd (m + 1) i = .null from if_neg (by omega)]
      refine zx_aload_n hC dJ4_clear_5 rfl ?_
      refine zx_ifnull hC dJ4_clear_6 ?_
      refine zx_aload_n hC dJ4_clear_9 rfl ?_
      refine zx_getf (v := .null) (T := TJ23) (N := 3) (ci := 6) (fs := [.ref (xs i), .null, lpv nd i]) hC in_J23 (zat 0 rfl) rfl 1 (by decide) q890 (fun _ h => h) rfl dJ4_clear_10 ?_
      refine zx_astore_nN (L' := [some (.ref a), some (.ref (nd i)), some (.null)]) hC dJ4_clear_13 (by decide) rfl ?_
      refine zx_aload_n hC dJ4_clear_14 rfl ?_
      refine zx_null hC dJ4_clear_15 ?_
      refine zx_putf (T := TJ23) (N := 3) (ci := 6) (fs := [.ref (xs i), .null, lpv nd i]) (fs' := [.null, .null, lpv nd i]) hC 0 in_J23 tyJ23 tyJ23_ok nmJ23 rfl rfl 0 (by decide) q887 (fun _ h => h) rfl (by first | rfl | exact rfl) (by first | rfl | exact rfl) (Nat.le_of_ble_eq_true rfl) rfl dJ4_clear_16 ?_
      show zV X 3 A (zH G A (zS [z1 (nd i) (.inr (6, [.null, .null, lpv nd i])), zbs 0 (fun t => LLn nd xs (m + 1) (i + (t + 1))), z1 a (.inr (5, [.int (iI mo), .int (iI ((m + 1 : Nat) : Int)), .ref (nd 0), .ref (nd m)]))])) (0) (0) 19 [some (.ref a), some (.ref (nd i)), some (.null)] []
      refine zx_aload_n hC dJ4_clear_19 rfl ?_
      refine zx_null hC dJ4_clear_20 ?_
      refine zx_putf (T := TJ23) (N := 3) (ci := 6) (fs := [.null, .null, lpv nd i]) (fs' := [.null, .null, lpv nd i]) hC 0 in_J23 tyJ23 tyJ23_ok nmJ23 rfl rfl 1 (by decide) q890 (fun _ h => h) rfl (by first | rfl | exact rfl) (by first | rfl | exact rfl) (Nat.le_of_ble_eq_true rfl) rfl dJ4_clear_21 ?_
      show zV X 3 A (zH G A (zS [z1 (nd i) (.inr (6, [.null, .null, lpv nd i])), zbs 0 (fun t => LLn nd xs (m + 1) (i + (t + 1))), z1 a (.inr (5, [.int (iI mo), .int (iI ((m + 1 : Nat) : Int)), .ref (nd 0), .ref (nd m)]))])) (0) (0) 24 [some (.ref a), some (.ref (nd i)), some (.null)] []
      refine zx_aload_n hC dJ4_clear_24 rfl ?_
      refine zx_null hC dJ4_clear_25 ?_
      refine zx_putf (T := TJ23) (N := 3) (ci := 6) (fs := [.null, .null, lpv nd i]) (fs' := [.null, .null, .null]) hC 0 in_J23 tyJ23 tyJ23_ok nmJ23 rfl rfl 2 (by decide) q892 (fun _ h => h) rfl (by first | rfl | exact rfl) (by first | rfl | exact rfl) (Nat.le_of_ble_eq_true rfl) rfl dJ4_clear_26 ?_
      show zV X 3 A (zH G A (zS [z1 (nd i) (.inr (6, [.null, .null, .null])), zbs 0 (fun t => LLn nd xs (m + 1) (i + (t + 1))), z1 a (.inr (5, [.int (iI mo), .int (iI ((m + 1 : Nat) : Int)), .ref (nd 0), .ref (nd m)]))])) (0) (0) 29 [some (.ref a), some (.ref (nd i)), some (.null)] []
      refine zx_aload_nN hC dJ4_clear_29 rfl ?_
      refine zx_astore_nN (L' := [some (.ref a), some (.null), some (.null)]) hC dJ4_clear_30 (by decide) rfl ?_
      refine zx_goto (tgt := 5) hC dJ4_clear_31 (by decide) ?_
      refine zx_aload_nN hC dJ4_clear_5 rfl ?_
      refine zx_ifnullN (tgt := 34) hC dJ4_clear_6 (by decide) ?_
      refine zx_aload_n hC dJ4_clear_34 rfl ?_
      refine zx_aload_n hC dJ4_clear_35 rfl ?_
      refine zx_null hC dJ4_clear_36 ?_
      refine zx_dup_x1 hC dJ4_clear_37 rfl rfl ?_
      refine zx_putf (T := TJ4) (N := 4) (ci := 5) (fs := [.int (iI mo), .int (iI ((m + 1 : Nat) : Int)), .ref (nd 0), .ref (nd m)]) (fs' := [.int (iI mo), .int (iI ((m + 1 : Nat) : Int)), .ref (nd 0), .null]) hC 2 in_J4 tyJ4 tyJ4_ok nmJ4 rfl rfl 3 (by decide) q182 (fun _ h => h) rfl (by first | rfl | exact rfl) (by first | rfl | exact rfl) (Nat.le_of_ble_eq_true rfl) rfl dJ4_clear_38 ?_
      show zV X 3 A (zH G A (zS [z1 (nd i) (.inr (6, [.null, .null, .null])), zbs 0 (fun t => LLn nd xs (m + 1) (i + (t + 1))), z1 a (.inr (5, [.int (iI mo), .int (iI ((m + 1 : Nat) : Int)), .ref (nd 0), .null]))])) (0) (0) 41 [some (.ref a), some (.null), some (.null)] [.null, .ref a]
      refine zx_putf (T := TJ4) (N := 4) (ci := 5) (fs := [.int (iI mo), .int (iI ((m + 1 : Nat) : Int)), .ref (nd 0), .null]) (fs' := [.int (iI mo), .int (iI ((m + 1 : Nat) : Int)), .null, .null]) hC 2 in_J4 tyJ4 tyJ4_ok nmJ4 rfl rfl 2 (by decide) q181 (fun _ h => h) rfl (by first | rfl | exact rfl) (by first | rfl | exact rfl) (Nat.le_of_ble_eq_true rfl) rfl dJ4_clear_41 ?_
      show zV X 3 A (zH G A (zS [z1 (nd i) (.inr (6, [.null, .null, .null])), zbs 0 (fun t => LLn nd xs (m + 1) (i + (t + 1))), z1 a (.inr (5, [.int (iI mo), .int (iI ((m + 1 : Nat) : Int)), .null, .null]))])) (0) (0) 44 [some (.ref a), some (.null), some (.null)] []
      refine zx_aload_n hC dJ4_clear_44 rfl ?_
      refine zx_iconst (z := 0) hC dJ4_clear_45 ?_
      refine zx_putf (T := TJ4) (N := 4) (ci := 5) (fs := [.int (iI mo), .int (iI ((m + 1 : Nat) : Int)), .null, .null]) (fs' := [.int (iI mo), .int (iI 0), .null, .null]) hC 2 in_J4 tyJ4 tyJ4_ok nmJ4 rfl rfl 1 (by decide) q179 (fun _ h => h) rfl (by first | rfl | exact rfl) (by first | rfl | exact rfl) (Nat.le_of_ble_eq_true rfl) rfl dJ4_clear_46 ?_
      show zV X 3 A (zH G A (zS [z1 (nd i) (.inr (6, [.null, .null, .null])), zbs 0 (fun t => LLn nd xs (m + 1) (i + (t + 1))), z1 a (.inr (5, [.int (iI mo), .int (iI 0), .null, .null]))])) (0) (0) 49 [some (.ref a), some (.null), some (.null)] []
      refine zx_aload_n hC dJ4_clear_49 rfl ?_
      refine zx_dup hC dJ4_clear_50 rfl ?_
      refine zx_getf (v := .int (iI mo)) (T := TJ4) (N := 4) (ci := 5) (fs := [.int (iI mo), .int (iI 0), .null, .null]) hC in_J4 (zat 2 rfl) rfl 0 (by decide) q161 (fun x h => u_same (hC.1.2.2.2.2 _ q157) x h) rfl dJ4_clear_51 ?_
      refine zx_iconst (z := 1) hC dJ4_clear_54 ?_
      refine zx_iadd hC dJ4_clear_55 ?_
      refine zx_putf (T := TJ4) (N := 4) (ci := 5) (fs := [.int (iI mo), .int (iI 0), .null, .null]) (fs' := [.int (iI (mo + 1)), .int (iI 0), .null, .null]) hC 2 in_J4 tyJ4 tyJ4_ok nmJ4 rfl rfl 0 (by decide) q161 (fun x h => u_same (hC.1.2.2.2.2 _ q157) x h) rfl (by first | rfl | exact rfl) (by first | rfl | exact rfl) (Nat.le_of_ble_eq_true rfl) rfl dJ4_clear_56 ?_
      show zV X 3 A (zH G A (zS [z1 (nd i) (.inr (6, [.null, .null, .null])), zbs 0 (fun t => LLn nd xs (m + 1) (i + (t + 1))), z1 a (.inr (5, [.int (iI (mo + 1)), .int (iI 0), .null, .null]))])) (0) (0) 59 [some (.ref a), some (.null), some (.null)] []
      refine zx_pick [2, 0, 1] rfl rfl ?_
      show zV X 3 A (zH G A (zS [z1 a (.inr (5, [.int (iI (mo + 1)), .int (iI 0), .null, .null])), z1 (nd i) (.inr (6, [.null, .null, .null])), zbs 0 (fun t => LLn nd xs (m + 1) (i + (t + 1)))])) (0) (0) 59 [some (.ref a), some (.null), some (.null)] []
      refine zx_close (P1 := LL G a 0 (fun _ => 0)) [z1 a (.inr (5, [.int (iI (mo + 1)), .int (iI 0), .null, .null]))] (LLE_mk _) ?_
      show zV X 3 A (zH G A (zS [LL G a 0 (fun _ => 0), z1 (nd i) (.inr (6, [.null, .null, .null])), zbs 0 (fun t => LLn nd xs (m + 1) (i + (t + 1)))])) (0) (0) 59 [some (.ref a), some (.null), some (.null)] []
      refine zx_pick [1, 0, 2] rfl rfl ?_
      show zV X 3 A (zH G A (zS [z1 (nd i) (.inr (6, [.null, .null, .null])), LL G a 0 (fun _ => 0), zbs 0 (fun t => LLn nd xs (m + 1) (i + (t + 1)))])) (0) (0) 59 [some (.ref a), some (.null), some (.null)] []
      refine zx_drop ?_
      show zV X 3 A (zH G A (zS [LL G a 0 (fun _ => 0), zbs 0 (fun t => LLn nd xs (m + 1) (i + (t + 1)))])) (0) (0) 59 [some (.ref a), some (.null), some (.null)] []
      refine zx_pick [1, 0] rfl rfl ?_
      show zV X 3 A (zH G A (zS [zbs 0 (fun t => LLn nd xs (m + 1) (i + (t + 1))), LL G a 0 (fun _ => 0)])) (0) (0) 59 [some (.ref a), some (.null), some (.null)] []
      refine zx_drop ?_
      show zV X 3 A (zH G A (zS [LL G a 0 (fun _ => 0)])) (0) (0) 59 [some (.ref a), some (.null), some (.null)] []
      exact zx_vret hC hE (by omega) (by omega) (fun H h => ⟨rfl, h⟩) dJ4_clear_59
    | succ j ih =>
      intro i hi
      refine zx_pick [1, 0] rfl rfl ?_
      show zV X 3 A (zH G A (zS [zbs (j + 1 + 1) (fun t => LLn nd xs (m + 1) (i + t)), z1 a (.inr (5, [.int (iI mo), .int (iI ((m + 1 : Nat) : Int)), .ref (nd 0), .ref (nd m)]))])) (0) (0) 5 [some (.ref a), some (.ref (nd i)), none] []
      refine zx_bc ?_
      show zV X 3 A (zH G A (zS [z1 (nd i) (.inr (6, [.ref (xs i), lnx nd (m + 1) i, lpv nd i])), zbs (j + 1) (fun t => LLn nd xs (m + 1) (i + (t + 1))), z1 a (.inr (5, [.int (iI mo), .int (iI ((m + 1 : Nat) : Int)), .ref (nd 0), .ref (nd m)]))])) (0) (0) 5 [some (.ref a), some (.ref (nd i)), none] []
      rw [show lnx nd (m + 1) i = .ref (nd (i + 1)) from if_pos (by omega)]
      refine zx_aload_n hC dJ4_clear_5 rfl ?_
      refine zx_ifnull hC dJ4_clear_6 ?_
      refine zx_aload_n hC dJ4_clear_9 rfl ?_
      refine zx_getf (v := .ref (nd (i + 1))) (T := TJ23) (N := 3) (ci := 6) (fs := [.ref (xs i), .ref (nd (i + 1)), lpv nd i]) hC in_J23 (zat 0 rfl) rfl 1 (by decide) q890 (fun _ h => h) rfl dJ4_clear_10 ?_
      refine zx_astore_n (L' := [some (.ref a), some (.ref (nd i)), some (.ref (nd (i + 1)))]) hC dJ4_clear_13 (by decide) rfl ?_
      refine zx_aload_n hC dJ4_clear_14 rfl ?_
      refine zx_null hC dJ4_clear_15 ?_
      refine zx_putf (T := TJ23) (N := 3) (ci := 6) (fs := [.ref (xs i), .ref (nd (i + 1)), lpv nd i]) (fs' := [.null, .ref (nd (i + 1)), lpv nd i]) hC 0 in_J23 tyJ23 tyJ23_ok nmJ23 rfl rfl 0 (by decide) q887 (fun _ h => h) rfl (by first | rfl | exact rfl) (by first | rfl | exact rfl) (Nat.le_of_ble_eq_true rfl) rfl dJ4_clear_16 ?_
      show zV X 3 A (zH G A (zS [z1 (nd i) (.inr (6, [.null, .ref (nd (i + 1)), lpv nd i])), zbs (j + 1) (fun t => LLn nd xs (m + 1) (i + (t + 1))), z1 a (.inr (5, [.int (iI mo), .int (iI ((m + 1 : Nat) : Int)), .ref (nd 0), .ref (nd m)]))])) (0) (0) 19 [some (.ref a), some (.ref (nd i)), some (.ref (nd (i + 1)))] []
      refine zx_aload_n hC dJ4_clear_19 rfl ?_
      refine zx_null hC dJ4_clear_20 ?_
      refine zx_putf (T := TJ23) (N := 3) (ci := 6) (fs := [.null, .ref (nd (i + 1)), lpv nd i]) (fs' := [.null, .null, lpv nd i]) hC 0 in_J23 tyJ23 tyJ23_ok nmJ23 rfl rfl 1 (by decide) q890 (fun _ h => h) rfl (by first | rfl | exact rfl) (by first | rfl | exact rfl) (Nat.le_of_ble_eq_true rfl) rfl dJ4_clear_21 ?_
      show zV X 3 A (zH G A (zS [z1 (nd i) (.inr (6, [.null, .null, lpv nd i])), zbs (j + 1) (fun t => LLn nd xs (m + 1) (i + (t + 1))), z1 a (.inr (5, [.int (iI mo), .int (iI ((m + 1 : Nat) : Int)), .ref (nd 0), .ref (nd m)]))])) (0) (0) 24 [some (.ref a), some (.ref (nd i)), some (.ref (nd (i + 1)))] []
      refine zx_aload_n hC dJ4_clear_24 rfl ?_
      refine zx_null hC dJ4_clear_25 ?_
      refine zx_putf (T := TJ23) (N := 3) (ci := 6) (fs := [.null, .null, lpv nd i]) (fs' := [.null, .null, .null]) hC 0 in_J23 tyJ23 tyJ23_ok nmJ23 rfl rfl 2 (by decide) q892 (fun _ h => h) rfl (by first | rfl | exact rfl) (by first | rfl | exact rfl) (Nat.le_of_ble_eq_true rfl) rfl dJ4_clear_26 ?_
      show zV X 3 A (zH G A (zS [z1 (nd i) (.inr (6, [.null, .null, .null])), zbs (j + 1) (fun t => LLn nd xs (m + 1) (i + (t + 1))), z1 a (.inr (5, [.int (iI mo), .int (iI ((m + 1 : Nat) : Int)), .ref (nd 0), .ref (nd m)]))])) (0) (0) 29 [some (.ref a), some (.ref (nd i)), some (.ref (nd (i + 1)))] []
      refine zx_aload_n hC dJ4_clear_29 rfl ?_
      refine zx_astore_n (L' := [some (.ref a), some (.ref (nd (i + 1))), some (.ref (nd (i + 1)))]) hC dJ4_clear_30 (by decide) rfl ?_
      refine zx_goto (tgt := 5) hC dJ4_clear_31 (by decide) ?_
      refine zx_drop ?_
      show zV X 3 A (zH G A (zS [zbs (j + 1) (fun t => LLn nd xs (m + 1) (i + (t + 1))), z1 a (.inr (5, [.int (iI mo), .int (iI ((m + 1 : Nat) : Int)), .ref (nd 0), .ref (nd m)]))])) (0) (0) 5 [some (.ref a), some (.ref (nd (i + 1))), some (.ref (nd (i + 1)))] []
      refine zx_pick [1, 0] rfl rfl ?_
      show zV X 3 A (zH G A (zS [z1 a (.inr (5, [.int (iI mo), .int (iI ((m + 1 : Nat) : Int)), .ref (nd 0), .ref (nd m)])), zbs (j + 1) (fun t => LLn nd xs (m + 1) (i + (t + 1)))])) (0) (0) 5 [some (.ref a), some (.ref (nd (i + 1))), some (.ref (nd (i + 1)))] []
      refine zx_le (L' := [some (.ref a), some (.ref (nd (i + 1))), none]) (zle_s (zle_s (zle_n zle_0))) ?_
      have e : (fun t => LLn nd xs (m + 1) (i + (t + 1))) = (fun t => LLn nd xs (m + 1) (i + 1 + t)) := by funext t; rw [show i + (t + 1) = i + 1 + t by omega]
      rw [e]
      exact ih (i + 1) (by omega)
  have e0 : (fun t => LLn nd xs (m + 1) (0 + t)) = LLn nd xs (m + 1) := by funext t; rw [Nat.zero_add]
  have l0 := loop m 0 (by omega)
  rw [e0] at l0
  exact l0
set_option maxHeartbeats 4000000 in
theorem m_J4_clear (la : Launch) (G : zG) (a : Nat) (m : Nat) (xs : Nat → Nat)  : zMA la yJ4_clear cJ4_clear 3 none 0 0 G [.ref a] [LL G a m xs] (fun v9 => v9 = none) (fun _ => [LL G a 0 (fun _ => 0)]) (0) (0) := by
  cases m with
  | zero => exact m_J4_clearE la G a xs
  | succ m => exact m_J4_clearC la G a m xs
set_option maxHeartbeats 4000000 in
theorem m_J4_isPositionIndex (la : Launch) (G : zG) (a : Nat) (m : Nat) (v1 : Value) (v2 : Value) (v3 : Value) (g0 : m < 1000) : zRd la yJ4_isPositionIndex cJ4_isPositionIndex 2 (some .boolean) 0 0 G [.ref a, .int (iI 0)] (fun H => zhp G (z1 a (.inr (5, [v1, .int (iI ((m : Nat) : Int)), v2, v3]))) H) (fun v9 => v9 = some (.int (iI 1))) := by
  refine zRd.of [some (.ref a), some (.int (iI 0))] (by decide) (Nat.le_of_ble_eq_true rfl) rfl (fun X hl hC hRm hP hE => ?_)
  have hp0 := hP
  refine zx_iload_n hC dJ4_isPositionIndex_0 rfl ?_
  refine zx_if_ltF (tgt := 16) hC dJ4_isPositionIndex_1 (by decide) (by first | assumption | exact gI _ (by omega) | exact iRm (by omega) (by omega)) (by omega) ?_
  refine zx_iload_n hC dJ4_isPositionIndex_4 rfl ?_
  refine zx_aload_n hC dJ4_isPositionIndex_5 rfl ?_
  refine zx_getf (v := .int (iI ((m : Nat) : Int))) (T := TJ4) (N := 4) (ci := 5) (fs := [v1, .int (iI ((m : Nat) : Int)), v2, v3]) hC in_J4 (zeq hp0.z1) rfl 1 (by decide) q179 (fun _ h => h) rfl dJ4_isPositionIndex_6 ?_
  refine zx_icmp_gtF (tgt := 16) hC dJ4_isPositionIndex_9 (by decide) (by first | assumption | exact gI _ (by omega) | exact iRm (by omega) (by omega)) (by first | assumption | exact gI _ (by omega) | exact iRm (by omega) (by omega)) (by omega) ?_
  refine zx_iconst (z := 1) hC dJ4_isPositionIndex_12 ?_
  refine zx_goto (tgt := 17) hC dJ4_isPositionIndex_13 (by decide) ?_
  exact zx_nret hC hE (znar (by first | omega | exact zB_01 _)) (Nat.le_refl _) (Nat.le_refl _) (fun H h => ⟨h, rfl⟩) dJ4_isPositionIndex_17
set_option maxHeartbeats 4000000 in
theorem m_J4_checkPositionIndex (la : Launch) (G : zG) (a : Nat) (m : Nat) (v1 : Value) (v2 : Value) (v3 : Value) (g0 : m < 1000) : zRd la yJ4_checkPositionIndex cJ4_checkPositionIndex 2 none 1 21 G [.ref a, .int (iI 0)] (fun H => zhp G (z1 a (.inr (5, [v1, .int (iI ((m : Nat) : Int)), v2, v3]))) H) (fun v9 => v9 = none) := by
  refine zRd.of [some (.ref a), some (.int (iI 0))] (by decide) (Nat.le_of_ble_eq_true rfl) rfl (fun X hl hC hRm hP hE => ?_)
  have hp0 := hP
  refine zx_aload_n hC dJ4_checkPositionIndex_0 rfl ?_
  refine zx_iload_n hC dJ4_checkPositionIndex_1 rfl ?_
  refine zx_rd1 (r := .int (iI 1)) hC zNoA (zcV 1 (As := [.int (iI 0)]) hC (lw_V q843 q845 qs8 q88 q846) (by decide +kernel) rfl (by rw [hRm]; exact ⟨Nat.le_of_ble_eq_true rfl, Nat.le_of_ble_eq_true rfl⟩) (by rw [hRm]; constructor <;> (first | decide | (simp only []; omega) | omega)) rfl (Nat.le_of_ble_eq_true rfl) dJ4_checkPositionIndex_2) (m_J4_isPositionIndex (zl X) G a m v1 v2 v3 (by first | assumption | omega | decide | exact iRm (by omega) (by omega) | ((repeat (first | exact gL | refine rLs.up ?_ (by omega) (by omega) | refine rLs.fad ?_)); done) | ((repeat (first | exact gM | refine rHM.up ?_ (by omega))); done) | exact gT _ (by omega) | exact rFadF_le gF _ | ((repeat first | rw [va_up_ne _ _ (by omega)] | rw [va_up_self] | rw [rFadH_o (by omega)] | rw [rAge_o _ _ (by omega)] | rw [rLayH_o (by omega) (by omega) (by omega) (by omega)]); omega))) (fun H h => zrc_of (r := (RJ4, TJ4, 4)) hC.2.1 ((zeq hp0.z1) H h) rfl) (fun H h => (h ▸ zhp_mk1 hp0.z1)) ?_
  refine zx_if_neT (tgt := 21) hC dJ4_checkPositionIndex_5 (by decide) (by first | assumption | exact gI _ (by omega) | exact iRm (by omega) (by omega)) (by omega) ?_
  exact zx_vret hC hE (Nat.le_refl _) (Nat.le_refl _) (fun H h => ⟨h, rfl⟩) dJ4_checkPositionIndex_21
set_option maxHeartbeats 4000000 in
theorem m_J0_isEmpty (la : Launch) (G : zG) (a : Nat) (m : Nat) (xs : Nat → Nat) (g0 : m < 1000) : zRd la yJ0_isEmpty cJ0_isEmpty 1 (some .boolean) 1 20 G [.ref a] (fun H => zhp G (LL G a m xs) H) (fun v9 => v9 = some (.int (iI (zB (m = 0))))) := by
  refine zRd.of [some (.ref a)] (by decide) (Nat.le_of_ble_eq_true rfl) rfl (fun X hl hC hRm hP hE => ?_)
  have hp0 := hP
  refine zx_aload_n hC dJ0_isEmpty_0 rfl ?_
  refine zx_rd1 (r := .int (iI ((m : Nat) : Int))) hC zNoA (zcU 0 hC (C := RJ4) (owner := "java/util/AbstractCollection") (x := ⟨"java/util/AbstractCollection", "size", "()I"⟩) (As := []) q1155 q1987 q340 q1989 q345 q88 q346 (by decide +kernel) rfl (by rw [hRm]; exact ⟨Nat.le_of_ble_eq_true rfl, Nat.le_of_ble_eq_true rfl⟩) (by rw [hRm]; constructor <;> (first | decide | (simp only []; omega) | omega)) rfl (Nat.le_of_ble_eq_true rfl) dJ0_isEmpty_1) (m_J4_size (zl X) G a m xs ) (fun H h => LL_rc hC.2.1 (h ▸ hp0)) (fun H h => (h ▸ hp0)) ?_
  refine zx_if_ne (tgt := 11) hC dJ0_isEmpty_4 (by decide) (by first | assumption | exact gI _ (by omega) | exact iRm (by omega) (by omega)) (fun c4 => ?_) (fun c4 => ?_)
  · refine zx_iconst (z := 0) hC dJ0_isEmpty_11 ?_
    refine zx_topi (b := zB (m = 0)) (by first | exact (zB_t (by omega)).symm | exact (zB_f (by omega)).symm) ?_
    exact zx_nret hC hE (znar (by first | omega | exact zB_01 _)) (Nat.le_refl _) (Nat.le_refl _) (fun H h => ⟨h, rfl⟩) dJ0_isEmpty_12
  · refine zx_iconst (z := 1) hC dJ0_isEmpty_7 ?_
    refine zx_goto (tgt := 12) hC dJ0_isEmpty_8 (by decide) ?_
    refine zx_topi (b := zB (m = 0)) (by first | exact (zB_t (by omega)).symm | exact (zB_f (by omega)).symm) ?_
    exact zx_nret hC hE (znar (by first | omega | exact zB_01 _)) (Nat.le_refl _) (Nat.le_refl _) (fun H h => ⟨h, rfl⟩) dJ0_isEmpty_12
set_option maxHeartbeats 4000000 in
theorem m_J4_node (la : Launch) (G : zG) (a : Nat) (m : Nat) (mo : Int) (f : Nat) (l : Nat) (g0 : m < 1000) (g1 : m = 0 → l = f) : zRd la yJ4_node cJ4_node 4 (some (.object "java/util/LinkedList$Node")) 0 0 G [.ref a, .int (iI 0)] (fun H => zhp G (z1 a (.inr (5, [.int (iI mo), .int (iI ((m + 1 : Nat) : Int)), .ref f, .ref l]))) H) (fun v9 => v9 = some (.ref f)) := by
  refine zRd.of [some (.ref a), some (.int (iI 0)), none, none] (by decide) (Nat.le_of_ble_eq_true rfl) rfl (fun X hl hC hRm hP hE => ?_)
  have hp0 := hP
  refine zx_iload_n hC dJ4_node_0 rfl ?_
  refine zx_aload_n hC dJ4_node_1 rfl ?_
  refine zx_getf (v := .int (iI ((m + 1 : Nat) : Int))) (T := TJ4) (N := 4) (ci := 5) (fs := [.int (iI mo), .int (iI ((m + 1 : Nat) : Int)), .ref f, .ref l]) hC in_J4 (zeq hp0.z1) rfl 1 (by decide) q179 (fun _ h => h) rfl dJ4_node_2 ?_
  refine zx_iconst (z := 1) hC dJ4_node_5 ?_
  refine zx_ishr1 hC (by omega) dJ4_node_6 ?_
  refine zx_icmp_ge (tgt := 35) hC dJ4_node_7 (by decide) (by first | assumption | exact gI _ (by omega) | exact iRm (by omega) (by omega)) (by first | assumption | exact gI _ (by omega) | exact iRm (by omega) (by omega)) (fun c7 => ?_) (fun c7 => ?_)
  · refine zx_aload_n hC dJ4_node_35 rfl ?_
    refine zx_getf (v := .ref l) (T := TJ4) (N := 4) (ci := 5) (fs := [.int (iI mo), .int (iI ((m + 1 : Nat) : Int)), .ref f, .ref l]) hC in_J4 (zeq hp0.z1) rfl 3 (by decide) q182 (fun _ h => h) rfl dJ4_node_36 ?_
    refine zx_astore_n (L' := [some (.ref a), some (.int (iI 0)), some (.ref l), none]) hC dJ4_node_39 (by decide) rfl ?_
    refine zx_aload_n hC dJ4_node_40 rfl ?_
    refine zx_getf (v := .int (iI ((m + 1 : Nat) : Int))) (T := TJ4) (N := 4) (ci := 5) (fs := [.int (iI mo), .int (iI ((m + 1 : Nat) : Int)), .ref f, .ref l]) hC in_J4 (zeq hp0.z1) rfl 1 (by decide) q179 (fun _ h => h) rfl dJ4_node_41 ?_
    refine zx_iconst (z := 1) hC dJ4_node_44 ?_
    refine zx_isub hC dJ4_node_45 ?_
    refine zx_topi (b := ((m : Nat) : Int)) (by omega) ?_
    refine zx_istore_n (L' := [some (.ref a), some (.int (iI 0)), some (.ref l), some (.int (iI ((m : Nat) : Int)))]) hC dJ4_node_46 (by decide) rfl ?_
    refine zx_iload_n hC dJ4_node_47 rfl ?_
    refine zx_iload_n hC dJ4_node_48 rfl ?_
    refine zx_icmp_leT (tgt := 63) hC dJ4_node_49 (by decide) (by first | assumption | exact gI _ (by omega) | exact iRm (by omega) (by omega)) (by first | assumption | exact gI _ (by omega) | exact iRm (by omega) (by omega)) (by omega) ?_
    refine zx_aload_n hC dJ4_node_63 rfl ?_
    rw [g1 (by omega)]
    exact zx_aret hC hE (.inl ⟨_, rfl⟩) (.inr ⟨_, rfl⟩) (Nat.le_refl _) (Nat.le_refl _) (fun H h => ⟨h, rfl⟩) dJ4_node_64
  · refine zx_aload_n hC dJ4_node_10 rfl ?_
    refine zx_getf (v := .ref f) (T := TJ4) (N := 4) (ci := 5) (fs := [.int (iI mo), .int (iI ((m + 1 : Nat) : Int)), .ref f, .ref l]) hC in_J4 (zeq hp0.z1) rfl 2 (by decide) q181 (fun _ h => h) rfl dJ4_node_11 ?_
    refine zx_astore_n (L' := [some (.ref a), some (.int (iI 0)), some (.ref f), none]) hC dJ4_node_14 (by decide) rfl ?_
    refine zx_iconst (z := 0) hC dJ4_node_15 ?_
    refine zx_istore_n (L' := [some (.ref a), some (.int (iI 0)), some (.ref f), some (.int (iI 0))]) hC dJ4_node_16 (by decide) rfl ?_
    refine zx_iload_n hC dJ4_node_17 rfl ?_
    refine zx_iload_n hC dJ4_node_18 rfl ?_
    refine zx_icmp_geT (tgt := 33) hC dJ4_node_19 (by decide) (by first | assumption | exact gI _ (by omega) | exact iRm (by omega) (by omega)) (by first | assumption | exact gI _ (by omega) | exact iRm (by omega) (by omega)) (by omega) ?_
    refine zx_aload_n hC dJ4_node_33 rfl ?_
    exact zx_aret hC hE (.inl ⟨_, rfl⟩) (.inr ⟨_, rfl⟩) (Nat.le_refl _) (Nat.le_refl _) (fun H h => ⟨h, rfl⟩) dJ4_node_34
set_option maxHeartbeats 4000000 in
theorem m_J22_initE (la : Launch) (G : zG) (it : Nat) (a : Nat) (mo : Int)  : zMA la yJ22_init cJ22_init 3 none 1 20 G [.ref it, .ref a, .int (iI 0)] [z1 it (.inr (9, [.null, .null, .int (iI 0), .int (iI 0), .null])), z1 a (.inr (5, [.int (iI mo), .int (iI 0), .null, .null]))] (fun v9 => v9 = none) (fun _ => [z1 it (.inr (9, [.null, .null, .int (iI 0), .int (iI mo), .ref a])), z1 a (.inr (5, [.int (iI mo), .int (iI 0), .null, .null]))]) (0) (0) := by
  refine zMA.of [some (.ref it), some (.ref a), some (.int (iI 0))] (by decide) (Nat.le_of_ble_eq_true rfl) rfl (fun X A hl hC hnm hA hRm hE => ?_)
  refine zx_aload_n hC dJ22_init_0 rfl ?_
  refine zx_aload_n hC dJ22_init_1 rfl ?_
  refine zx_putF (T := TJ22) (N := 5) (ci := 9) (fs := [.null, .null, .int (iI 0), .int (iI 0), .null]) (fs' := [.null, .null, .int (iI 0), .int (iI 0), .ref a]) hC 0 in_J22 tyJ22 tyJ22_ok nmJ22 rfl rfl 4 (by decide) q858 (fun _ h => h) rfl hnm rfl (by first | rfl | exact rfl) (by first | rfl | exact rfl) (Nat.le_of_ble_eq_true rfl) rfl dJ22_init_2 ?_
  show zV X 3 A (zH G A (zS [z1 it (.inr (9, [.null, .null, .int (iI 0), .int (iI 0), .ref a])), z1 a (.inr (5, [.int (iI mo), .int (iI 0), .null, .null]))])) (0) (0) 5 [some (.ref it), some (.ref a), some (.int (iI 0))] []
  refine zx_aload_n hC dJ22_init_5 rfl ?_
  refine zx_obj hC q852 (by rw [hRm]; exact ⟨Nat.le_of_ble_eq_true rfl, Nat.le_of_ble_eq_true rfl⟩) (Nat.le_of_ble_eq_true rfl) dJ22_init_6 ?_
  refine zx_aload_n hC dJ22_init_9 rfl ?_
  refine zx_aload_n hC dJ22_init_10 rfl ?_
  refine zx_getf (v := .ref a) (T := TJ22) (N := 5) (ci := 9) (fs := [.null, .null, .int (iI 0), .int (iI 0), .ref a]) hC in_J22 (zat 0 rfl) rfl 4 (by decide) q858 (fun _ h => h) rfl dJ22_init_11 ?_
  refine zx_getf (v := .int (iI mo)) (T := TJ4) (N := 4) (ci := 5) (fs := [.int (iI mo), .int (iI 0), .null, .null]) hC in_J4 (zat 1 rfl) rfl 0 (by decide) q156 (fun x h => u_same (hC.1.2.2.2.2 _ q157) x h) rfl dJ22_init_14 ?_
  refine zx_putf (T := TJ22) (N := 5) (ci := 9) (fs := [.null, .null, .int (iI 0), .int (iI 0), .ref a]) (fs' := [.null, .null, .int (iI 0), .int (iI mo), .ref a]) hC 0 in_J22 tyJ22 tyJ22_ok nmJ22 rfl rfl 3 (by decide) q857 (fun _ h => h) rfl (by first | rfl | exact rfl) (by first | rfl | exact rfl) (Nat.le_of_ble_eq_true rfl) rfl dJ22_init_17 ?_
  show zV X 3 A (zH G A (zS [z1 it (.inr (9, [.null, .null, .int (iI 0), .int (iI mo), .ref a])), z1 a (.inr (5, [.int (iI mo), .int (iI 0), .null, .null]))])) (0) (0) 20 [some (.ref it), some (.ref a), some (.int (iI 0))] []
  refine zx_aload_n hC dJ22_init_20 rfl ?_
  refine zx_iload_n hC dJ22_init_21 rfl ?_
  refine zx_aload_n hC dJ22_init_22 rfl ?_
  refine zx_getf (v := .int (iI 0)) (T := TJ4) (N := 4) (ci := 5) (fs := [.int (iI mo), .int (iI 0), .null, .null]) hC in_J4 (zat 1 rfl) rfl 1 (by decide) q180 (fun _ h => h) rfl dJ22_init_23 ?_
  refine zx_icmp_neF (tgt := 33) hC dJ22_init_26 (by decide) (by first | assumption | exact gI _ (by omega) | exact iRm (by omega) (by omega)) (by first | assumption | exact gI _ (by omega) | exact iRm (by omega) (by omega)) (by omega) ?_
  refine zx_null hC dJ22_init_29 ?_
  refine zx_goto (tgt := 38) hC dJ22_init_30 (by decide) ?_
  refine zx_putf (T := TJ22) (N := 5) (ci := 9) (fs := [.null, .null, .int (iI 0), .int (iI mo), .ref a]) (fs' := [.null, .null, .int (iI 0), .int (iI mo), .ref a]) hC 0 in_J22 tyJ22 tyJ22_ok nmJ22 rfl rfl 1 (by decide) q855 (fun _ h => h) rfl (by first | rfl | exact rfl) (by first | rfl | exact rfl) (Nat.le_of_ble_eq_true rfl) rfl dJ22_init_38 ?_
  show zV X 3 A (zH G A (zS [z1 it (.inr (9, [.null, .null, .int (iI 0), .int (iI mo), .ref a])), z1 a (.inr (5, [.int (iI mo), .int (iI 0), .null, .null]))])) (0) (0) 41 [some (.ref it), some (.ref a), some (.int (iI 0))] []
  refine zx_aload_n hC dJ22_init_41 rfl ?_
  refine zx_iload_n hC dJ22_init_42 rfl ?_
  refine zx_putf (T := TJ22) (N := 5) (ci := 9) (fs := [.null, .null, .int (iI 0), .int (iI mo), .ref a]) (fs' := [.null, .null, .int (iI 0), .int (iI mo), .ref a]) hC 0 in_J22 tyJ22 tyJ22_ok nmJ22 rfl rfl 2 (by decide) q856 (fun _ h => h) rfl (by first | rfl | exact rfl) (by first | rfl | exact rfl) (Nat.le_of_ble_eq_true rfl) rfl dJ22_init_43 ?_
  show zV X 3 A (zH G A (zS [z1 it (.inr (9, [.null, .null, .int (iI 0), .int (iI mo), .ref a])), z1 a (.inr (5, [.int (iI mo), .int (iI 0), .null, .null]))])) (0) (0) 46 [some (.ref it), some (.ref a), some (.int (iI 0))] []
  exact zx_vret hC hE (by omega) (by omega) (fun H h => ⟨rfl, h⟩) dJ22_init_46
set_option maxHeartbeats 4000000 in
theorem m_J22_initC (la : Launch) (G : zG) (it : Nat) (a : Nat) (m : Nat) (mo : Int) (f : Nat) (l : Nat) (g0 : m < 1000) (g1 : m = 0 → l = f) : zMA la yJ22_init cJ22_init 3 none 1 23 G [.ref it, .ref a, .int (iI 0)] [z1 it (.inr (9, [.null, .null, .int (iI 0), .int (iI 0), .null])), z1 a (.inr (5, [.int (iI mo), .int (iI ((m + 1 : Nat) : Int)), .ref f, .ref l]))] (fun v9 => v9 = none) (fun _ => [z1 it (.inr (9, [.null, .ref f, .int (iI 0), .int (iI mo), .ref a])), z1 a (.inr (5, [.int (iI mo), .int (iI ((m + 1 : Nat) : Int)), .ref f, .ref l]))]) (0) (0) := by
  refine zMA.of [some (.ref it), some (.ref a), some (.int (iI 0))] (by decide) (Nat.le_of_ble_eq_true rfl) rfl (fun X A hl hC hnm hA hRm hE => ?_)
  refine zx_aload_n hC dJ22_init_0 rfl ?_
  refine zx_aload_n hC dJ22_init_1 rfl ?_
  refine zx_putF (T := TJ22) (N := 5) (ci := 9) (fs := [.null, .null, .int (iI 0), .int (iI 0), .null]) (fs' := [.null, .null, .int (iI 0), .int (iI 0), .ref a]) hC 0 in_J22 tyJ22 tyJ22_ok nmJ22 rfl rfl 4 (by decide) q858 (fun _ h => h) rfl hnm rfl (by first | rfl | exact rfl) (by first | rfl | exact rfl) (Nat.le_of_ble_eq_true rfl) rfl dJ22_init_2 ?_
  show zV X 3 A (zH G A (zS [z1 it (.inr (9, [.null, .null, .int (iI 0), .int (iI 0), .ref a])), z1 a (.inr (5, [.int (iI mo), .int (iI ((m + 1 : Nat) : Int)), .ref f, .ref l]))])) (0) (0) 5 [some (.ref it), some (.ref a), some (.int (iI 0))] []
  refine zx_aload_n hC dJ22_init_5 rfl ?_
  refine zx_obj hC q852 (by rw [hRm]; exact ⟨Nat.le_of_ble_eq_true rfl, Nat.le_of_ble_eq_true rfl⟩) (Nat.le_of_ble_eq_true rfl) dJ22_init_6 ?_
  refine zx_aload_n hC dJ22_init_9 rfl ?_
  refine zx_aload_n hC dJ22_init_10 rfl ?_
  refine zx_getf (v := .ref a) (T := TJ22) (N := 5) (ci := 9) (fs := [.null, .null, .int (iI 0), .int (iI 0), .ref a]) hC in_J22 (zat 0 rfl) rfl 4 (by decide) q858 (fun _ h => h) rfl dJ22_init_11 ?_
  refine zx_getf (v := .int (iI mo)) (T := TJ4) (N := 4) (ci := 5) (fs := [.int (iI mo), .int (iI ((m + 1 : Nat) : Int)), .ref f, .ref l]) hC in_J4 (zat 1 rfl) rfl 0 (by decide) q156 (fun x h => u_same (hC.1.2.2.2.2 _ q157) x h) rfl dJ22_init_14 ?_
  refine zx_putf (T := TJ22) (N := 5) (ci := 9) (fs := [.null, .null, .int (iI 0), .int (iI 0), .ref a]) (fs' := [.null, .null, .int (iI 0), .int (iI mo), .ref a]) hC 0 in_J22 tyJ22 tyJ22_ok nmJ22 rfl rfl 3 (by decide) q857 (fun _ h => h) rfl (by first | rfl | exact rfl) (by first | rfl | exact rfl) (Nat.le_of_ble_eq_true rfl) rfl dJ22_init_17 ?_
  show zV X 3 A (zH G A (zS [z1 it (.inr (9, [.null, .null, .int (iI 0), .int (iI mo), .ref a])), z1 a (.inr (5, [.int (iI mo), .int (iI ((m + 1 : Nat) : Int)), .ref f, .ref l]))])) (0) (0) 20 [some (.ref it), some (.ref a), some (.int (iI 0))] []
  refine zx_aload_n hC dJ22_init_20 rfl ?_
  refine zx_iload_n hC dJ22_init_21 rfl ?_
  refine zx_aload_n hC dJ22_init_22 rfl ?_
  refine zx_getf (v := .int (iI ((m + 1 : Nat) : Int))) (T := TJ4) (N := 4) (ci := 5) (fs := [.int (iI mo), .int (iI ((m + 1 : Nat) : Int)), .ref f, .ref l]) hC in_J4 (zat 1 rfl) rfl 1 (by decide) q180 (fun _ h => h) rfl dJ22_init_23 ?_
  refine zx_icmp_neT (tgt := 33) hC dJ22_init_26 (by decide) (by first | assumption | exact gI _ (by omega) | exact iRm (by omega) (by omega)) (by first | assumption | exact gI _ (by omega) | exact iRm (by omega) (by omega)) (by omega) ?_
  refine zx_aload_n hC dJ22_init_33 rfl ?_
  refine zx_iload_n hC dJ22_init_34 rfl ?_
  refine zx_rd1 (r := .ref f) hC hA.2 (zcV 1 (As := [.int (iI 0)]) hC (lw_V q853 q404 q405 q88 q406) (by decide +kernel) rfl (by rw [hRm]; exact ⟨Nat.le_of_ble_eq_true rfl, Nat.le_of_ble_eq_true rfl⟩) (by rw [hRm]; constructor <;> (first | decide | (simp only []; omega) | omega)) rfl (Nat.le_of_ble_eq_true rfl) dJ22_init_35) (m_J4_node (zl X) G a m mo f l (by first | assumption | omega | decide | exact iRm (by omega) (by omega) | ((repeat (first | exact gL | refine rLs.up ?_ (by omega) (by omega) | refine rLs.fad ?_)); done) | ((repeat (first | exact gM | refine rHM.up ?_ (by omega))); done) | exact gT _ (by omega) | exact rFadF_le gF _ | ((repeat first | rw [va_up_ne _ _ (by omega)] | rw [va_up_self] | rw [rFadH_o (by omega)] | rw [rAge_o _ _ (by omega)] | rw [rLayH_o (by omega) (by omega) (by omega) (by omega)]); omega)) (by first | assumption | omega | decide | exact iRm (by omega) (by omega) | ((repeat (first | exact gL | refine rLs.up ?_ (by omega) (by omega) | refine rLs.fad ?_)); done) | ((repeat (first | exact gM | refine rHM.up ?_ (by omega))); done) | exact gT _ (by omega) | exact rFadF_le gF _ | ((repeat first | rw [va_up_ne _ _ (by omega)] | rw [va_up_self] | rw [rFadH_o (by omega)] | rw [rAge_o _ _ (by omega)] | rw [rLayH_o (by omega) (by omega) (by omega) (by omega)]); omega))) (fun H h => zrc_of (r := (RJ4, TJ4, 4)) hC.2.1 ((zat 1 rfl) H h) rfl) (fun H h => (zof 1 rfl H h)) ?_
  refine zx_putf (T := TJ22) (N := 5) (ci := 9) (fs := [.null, .null, .int (iI 0), .int (iI mo), .ref a]) (fs' := [.null, .ref f, .int (iI 0), .int (iI mo), .ref a]) hC 0 in_J22 tyJ22 tyJ22_ok nmJ22 rfl rfl 1 (by decide) q855 (fun _ h => h) rfl (by first | rfl | exact rfl) (by first | rfl | exact rfl) (Nat.le_of_ble_eq_true rfl) rfl dJ22_init_38 ?_
  show zV X 3 A (zH G A (zS [z1 it (.inr (9, [.null, .ref f, .int (iI 0), .int (iI mo), .ref a])), z1 a (.inr (5, [.int (iI mo), .int (iI ((m + 1 : Nat) : Int)), .ref f, .ref l]))])) (0) (0) 41 [some (.ref it), some (.ref a), some (.int (iI 0))] []
  refine zx_aload_n hC dJ22_init_41 rfl ?_
  refine zx_iload_n hC dJ22_init_42 rfl ?_
  refine zx_putf (T := TJ22) (N := 5) (ci := 9) (fs := [.null, .ref f, .int (iI 0), .int (iI mo), .ref a]) (fs' := [.null, .ref f, .int (iI 0), .int (iI mo), .ref a]) hC 0 in_J22 tyJ22 tyJ22_ok nmJ22 rfl rfl 2 (by decide) q856 (fun _ h => h) rfl (by first | rfl | exact rfl) (by first | rfl | exact rfl) (Nat.le_of_ble_eq_true rfl) rfl dJ22_init_43 ?_
  show zV X 3 A (zH G A (zS [z1 it (.inr (9, [.null, .ref f, .int (iI 0), .int (iI mo), .ref a])), z1 a (.inr (5, [.int (iI mo), .int (iI ((m + 1 : Nat) : Int)), .ref f, .ref l]))])) (0) (0) 46 [some (.ref it), some (.ref a), some (.int (iI 0))] []
  exact zx_vret hC hE (by omega) (by omega) (fun H h => ⟨rfl, h⟩) dJ22_init_46
set_option maxHeartbeats 4000000 in
theorem m_J4_listIteratorE (la : Launch) (G : zG) (a : Nat) (xs : Nat → Nat)  : zMA la yJ4_listIterator cJ4_listIterator 2 (some (.object "java/util/ListIterator")) 2 45 G [.ref a, .int (iI 0)] [LL G a 0 xs] (fun v9 => ∃ b, v9 = some (.ref b)) (fun v9 => (fun b => [LLI G a 0 xs b 0]) (zad v9)) (1) (5) := by
  refine zMA.of [some (.ref a), some (.int (iI 0))] (by decide) (Nat.le_of_ble_eq_true rfl) rfl (fun X A hl hC hnm hA hRm hE => ?_)
  refine zx_imp (P2 := LLE0 G a) (LL_E0) ?_
  show zV X 2 A (zH G A (zS [LLE0 G a])) (0) (0) 0 [some (.ref a), some (.int (iI 0))] []
  refine zx_exi (fun mo => zx_nest (zx_pure (fun hmo => ?_)))
  show zV X 2 A (zH G A (zS [z1 a (.inr (5, [.int (iI mo), .int (iI 0), .null, .null]))])) (0) (0) 0 [some (.ref a), some (.int (iI 0))] []
  refine zx_aload_n hC dJ4_listIterator_0 rfl ?_
  refine zx_iload_n hC dJ4_listIterator_1 rfl ?_
  refine zx_rd0 hC hA.2 (zcV 1 (As := [.int (iI 0)]) hC (lw_V q839 q841 qs7 q88 q842) (by decide +kernel) rfl (by rw [hRm]; exact ⟨Nat.le_of_ble_eq_true rfl, Nat.le_of_ble_eq_true rfl⟩) (by rw [hRm]; constructor <;> (first | decide | (simp only []; omega) | omega)) rfl (Nat.le_of_ble_eq_true rfl) dJ4_listIterator_2) (m_J4_checkPositionIndex (zl X) G a 0 (.int (iI mo)) .null .null (by first | assumption | omega | decide | exact iRm (by omega) (by omega) | ((repeat (first | exact gL | refine rLs.up ?_ (by omega) (by omega) | refine rLs.fad ?_)); done) | ((repeat (first | exact gM | refine rHM.up ?_ (by omega))); done) | exact gT _ (by omega) | exact rFadF_le gF _ | ((repeat first | rw [va_up_ne _ _ (by omega)] | rw [va_up_self] | rw [rFadH_o (by omega)] | rw [rAge_o _ _ (by omega)] | rw [rLayH_o (by omega) (by omega) (by omega) (by omega)]); omega))) (fun H h => zrc_of (r := (RJ4, TJ4, 4)) hC.2.1 ((zat 0 rfl) H h) rfl) (fun H h => (zof 0 rfl H h)) ?_
  refine zx_new (T := TJ22) (N := 5) (ci := 9) (fs := [.null, .null, .int (iI 0), .int (iI 0), .null]) hC hA in_J22 tyJ22 tyJ22_ok q847 q848 q110 rfl (by decide) (by rw [hRm]; constructor <;> (first | decide | (simp only []; omega) | omega)) dJ4_listIterator_5 (fun o1 => ?_)
  show zV X 2 A (zH G A (zS [z1 o1 (.inr (9, [.null, .null, .int (iI 0), .int (iI 0), .null])), z1 a (.inr (5, [.int (iI mo), .int (iI 0), .null, .null]))])) (1) (5) 8 [some (.ref a), some (.int (iI 0))] [.ref o1]
  refine zx_dup hC dJ4_listIterator_8 rfl ?_
  refine zx_aload_n hC dJ4_listIterator_9 rfl ?_
  refine zx_iload_n hC dJ4_listIterator_10 rfl ?_
  refine zx_ma0 (Q := fun _ => [z1 o1 (.inr (9, [.null, .null, .int (iI 0), .int (iI mo), .ref a])), z1 a (.inr (5, [.int (iI mo), .int (iI 0), .null, .null]))]) hC hA [0, 1] [] (zcI 2 (As := [.ref a, .int (iI 0)]) hC (lw_meth q851) q110 q849 q850 (by decide +kernel) rfl rfl (by rw [hRm]; exact ⟨Nat.le_of_ble_eq_true rfl, Nat.le_of_ble_eq_true rfl⟩) (by rw [hRm]; constructor <;> (first | decide | (simp only []; omega) | omega)) rfl (Nat.le_of_ble_eq_true rfl) dJ4_listIterator_11) (m_J22_initE (zl X) G o1 a mo ) (fun _ _ => trivial) rfl rfl rfl ?_
  show zV X 2 A (zH G A (zS [z1 o1 (.inr (9, [.null, .null, .int (iI 0), .int (iI mo), .ref a])), z1 a (.inr (5, [.int (iI mo), .int (iI 0), .null, .null]))])) (1) (5) 14 [some (.ref a), some (.int (iI 0))] [.ref o1]
  refine zx_pick [1, 0] rfl rfl ?_
  show zV X 2 A (zH G A (zS [z1 a (.inr (5, [.int (iI mo), .int (iI 0), .null, .null])), z1 o1 (.inr (9, [.null, .null, .int (iI 0), .int (iI mo), .ref a]))])) (1) (5) 14 [some (.ref a), some (.int (iI 0))] [.ref o1]
  refine zx_close (P1 := LLI G a 0 xs o1 0) [z1 a (.inr (5, [.int (iI mo), .int (iI 0), .null, .null])), z1 o1 (.inr (9, [.null, .null, .int (iI 0), .int (iI mo), .ref a]))] (LLI0_mk hmo) ?_
  show zV X 2 A (zH G A (zS [LLI G a 0 xs o1 0])) (1) (5) 14 [some (.ref a), some (.int (iI 0))] [.ref o1]
  exact zx_aret hC hE (.inl ⟨_, rfl⟩) (.inr ⟨_, rfl⟩) (by omega) (by omega) (fun H h => ⟨⟨_, rfl⟩, h⟩) dJ4_listIterator_14
set_option maxHeartbeats 4000000 in
theorem m_J4_listIteratorC (la : Launch) (G : zG) (a : Nat) (m : Nat) (xs : Nat → Nat) (g0 : m + 1 < 1000) : zMA la yJ4_listIterator cJ4_listIterator 2 (some (.object "java/util/ListIterator")) 2 45 G [.ref a, .int (iI 0)] [LL G a (m + 1) xs] (fun v9 => ∃ b, v9 = some (.ref b)) (fun v9 => (fun b => [LLI G a (m + 1) xs b 0]) (zad v9)) (1) (5) := by
  refine zMA.of [some (.ref a), some (.int (iI 0))] (by decide) (Nat.le_of_ble_eq_true rfl) rfl (fun X A hl hC hnm hA hRm hE => ?_)
  refine zx_imp (P2 := LLa0 G a m xs) (LL_a0) ?_
  show zV X 2 A (zH G A (zS [LLa0 G a m xs])) (0) (0) 0 [some (.ref a), some (.int (iI 0))] []
  refine zx_exi (fun nd => zx_exi (fun mo => zx_nest (zx_pure (fun hmo => ?_))))
  show zV X 2 A (zH G A (zS [z1 a (.inr (5, [.int (iI mo), .int (iI ((m + 1 : Nat) : Int)), .ref (nd 0), .ref (nd m)])), zbs (m + 1) (LLn nd xs (m + 1))])) (0) (0) 0 [some (.ref a), some (.int (iI 0))] []
  refine zx_aload_n hC dJ4_listIterator_0 rfl ?_
  refine zx_iload_n hC dJ4_listIterator_1 rfl ?_
  refine zx_rd0 hC hA.2 (zcV 1 (As := [.int (iI 0)]) hC (lw_V q839 q841 qs7 q88 q842) (by decide +kernel) rfl (by rw [hRm]; exact ⟨Nat.le_of_ble_eq_true rfl, Nat.le_of_ble_eq_true rfl⟩) (by rw [hRm]; constructor <;> (first | decide | (simp only []; omega) | omega)) rfl (Nat.le_of_ble_eq_true rfl) dJ4_listIterator_2) (m_J4_checkPositionIndex (zl X) G a (m + 1) (.int (iI mo)) (.ref (nd 0)) (.ref (nd m)) (by first | assumption | omega | decide | exact iRm (by omega) (by omega) | ((repeat (first | exact gL | refine rLs.up ?_ (by omega) (by omega) | refine rLs.fad ?_)); done) | ((repeat (first | exact gM | refine rHM.up ?_ (by omega))); done) | exact gT _ (by omega) | exact rFadF_le gF _ | ((repeat first | rw [va_up_ne _ _ (by omega)] | rw [va_up_self] | rw [rFadH_o (by omega)] | rw [rAge_o _ _ (by omega)] | rw [rLayH_o (by omega) (by omega) (by omega) (by omega)]); omega))) (fun H h => zrc_of (r := (RJ4, TJ4, 4)) hC.2.1 ((zat 0 rfl) H h) rfl) (fun H h => (zof 0 rfl H h)) ?_
  refine zx_new (T := TJ22) (N := 5) (ci := 9) (fs := [.null, .null, .int (iI 0), .int (iI 0), .null]) hC hA in_J22 tyJ22 tyJ22_ok q847 q848 q110 rfl (by decide) (by rw [hRm]; constructor <;> (first | decide | (simp only []; omega) | omega)) dJ4_listIterator_5 (fun o1 => ?_)
  show zV X 2 A (zH G A (zS [z1 o1 (.inr (9, [.null, .null, .int (iI 0), .int (iI 0), .null])), z1 a (.inr (5, [.int (iI mo), .int (iI ((m + 1 : Nat) : Int)), .ref (nd 0), .ref (nd m)])), zbs (m + 1) (LLn nd xs (m + 1))])) (1) (5) 8 [some (.ref a), some (.int (iI 0))] [.ref o1]
  refine zx_dup hC dJ4_listIterator_8 rfl ?_
  refine zx_aload_n hC dJ4_listIterator_9 rfl ?_
  refine zx_iload_n hC dJ4_listIterator_10 rfl ?_
  refine zx_ma0 (Q := fun _ => [z1 o1 (.inr (9, [.null, .ref (nd 0), .int (iI 0), .int (iI mo), .ref a])), z1 a (.inr (5, [.int (iI mo), .int (iI ((m + 1 : Nat) : Int)), .ref (nd 0), .ref (nd m)]))]) hC hA [0, 1] [2] (zcI 2 (As := [.ref a, .int (iI 0)]) hC (lw_meth q851) q110 q849 q850 (by decide +kernel) rfl rfl (by rw [hRm]; exact ⟨Nat.le_of_ble_eq_true rfl, Nat.le_of_ble_eq_true rfl⟩) (by rw [hRm]; constructor <;> (first | decide | (simp only []; omega) | omega)) rfl (Nat.le_of_ble_eq_true rfl) dJ4_listIterator_11) (m_J22_initC (zl X) G o1 a m mo (nd 0) (nd m) (by first | assumption | omega | decide | exact iRm (by omega) (by omega) | ((repeat (first | exact gL | refine rLs.up ?_ (by omega) (by omega) | refine rLs.fad ?_)); done) | ((repeat (first | exact gM | refine rHM.up ?_ (by omega))); done) | exact gT _ (by omega) | exact rFadF_le gF _ | ((repeat first | rw [va_up_ne _ _ (by omega)] | rw [va_up_self] | rw [rFadH_o (by omega)] | rw [rAge_o _ _ (by omega)] | rw [rLayH_o (by omega) (by omega) (by omega) (by omega)]); omega)) (fun q => by rw [q])) (fun _ _ => trivial) rfl rfl rfl ?_
  show zV X 2 A (zH G A (zS [zbs (m + 1) (LLn nd xs (m + 1)), z1 o1 (.inr (9, [.null, .ref (nd 0), .int (iI 0), .int (iI mo), .ref a])), z1 a (.inr (5, [.int (iI mo), .int (iI ((m + 1 : Nat) : Int)), .ref (nd 0), .ref (nd m)]))])) (1) (5) 14 [some (.ref a), some (.int (iI 0))] [.ref o1]
  refine zx_pick [2, 0, 1] rfl rfl ?_
  show zV X 2 A (zH G A (zS [z1 a (.inr (5, [.int (iI mo), .int (iI ((m + 1 : Nat) : Int)), .ref (nd 0), .ref (nd m)])), zbs (m + 1) (LLn nd xs (m + 1)), z1 o1 (.inr (9, [.null, .ref (nd 0), .int (iI 0), .int (iI mo), .ref a]))])) (1) (5) 14 [some (.ref a), some (.int (iI 0))] [.ref o1]
  refine zx_close (P1 := LLI G a (m + 1) xs o1 0) [z1 a (.inr (5, [.int (iI mo), .int (iI ((m + 1 : Nat) : Int)), .ref (nd 0), .ref (nd m)])), zbs (m + 1) (LLn nd xs (m + 1)), z1 o1 (.inr (9, [.null, .ref (nd 0), .int (iI 0), .int (iI mo), .ref a]))] (LLI_mk (nd := nd) hmo rfl rfl rfl) ?_
  show zV X 2 A (zH G A (zS [LLI G a (m + 1) xs o1 0])) (1) (5) 14 [some (.ref a), some (.int (iI 0))] [.ref o1]
  exact zx_aret hC hE (.inl ⟨_, rfl⟩) (.inr ⟨_, rfl⟩) (by omega) (by omega) (fun H h => ⟨⟨_, rfl⟩, h⟩) dJ4_listIterator_14
set_option maxHeartbeats 4000000 in
theorem m_J4_listIterator (la : Launch) (G : zG) (a : Nat) (m : Nat) (xs : Nat → Nat) (g0 : m < 1000) : zMA la yJ4_listIterator cJ4_listIterator 2 (some (.object "java/util/ListIterator")) 2 45 G [.ref a, .int (iI 0)] [LL G a m xs] (fun v9 => ∃ b, v9 = some (.ref b)) (fun v9 => (fun b => [LLI G a m xs b 0]) (zad v9)) (1) (5) := by
  cases m with
  | zero => exact m_J4_listIteratorE la G a xs
  | succ m => exact m_J4_listIteratorC la G a m xs g0
set_option maxHeartbeats 4000000 in
theorem m_J1_listIterator (la : Launch) (G : zG) (a : Nat) (m : Nat) (xs : Nat → Nat) (g0 : m < 1000) : zMA la yJ1_listIterator cJ1_listIterator 1 (some (.object "java/util/ListIterator")) 3 66 G [.ref a] [LL G a m xs] (fun v9 => ∃ b, v9 = some (.ref b)) (fun v9 => (fun b => [LLI G a m xs b 0]) (zad v9)) (1) (5) := by
  refine zMA.of [some (.ref a)] (by decide) (Nat.le_of_ble_eq_true rfl) rfl (fun X A hl hC hnm hA hRm hE => ?_)
  refine zx_aload_n hC dJ1_listIterator_0 rfl ?_
  refine zx_iconst (z := 0) hC dJ1_listIterator_1 ?_
  refine zx_mar (Qr := fun b1 => [LLI G a m xs b1 0]) hC hA [0] [] (zcU 1 hC (C := RJ4) (owner := "java/util/AbstractList") (x := ⟨"java/util/AbstractList", "listIterator", "(I)Ljava/util/ListIterator;"⟩) (As := [.int (iI 0)]) q812 q814 q870 q836 q837 q88 q838 (by decide +kernel) rfl (by rw [hRm]; exact ⟨Nat.le_of_ble_eq_true rfl, Nat.le_of_ble_eq_true rfl⟩) (by rw [hRm]; constructor <;> (first | decide | (simp only []; omega) | omega)) rfl (Nat.le_of_ble_eq_true rfl) dJ1_listIterator_2) (m_J4_listIterator (zl X) G a m xs (by first | assumption | omega | decide | exact iRm (by omega) (by omega) | ((repeat (first | exact gL | refine rLs.up ?_ (by omega) (by omega) | refine rLs.fad ?_)); done) | ((repeat (first | exact gM | refine rHM.up ?_ (by omega))); done) | exact gT _ (by omega) | exact rFadF_le gF _ | ((repeat first | rw [va_up_ne _ _ (by omega)] | rw [va_up_self] | rw [rFadH_o (by omega)] | rw [rAge_o _ _ (by omega)] | rw [rLayH_o (by omega) (by omega) (by omega) (by omega)]); omega))) (fun H h => LL_rc hC.2.1 (zof 0 rfl H h)) rfl rfl rfl (fun b1 => ?_)
  show zV X 1 A (zH G A (zS [LLI G a m xs b1 0])) (1) (5) 5 [some (.ref a)] [.ref b1]
  exact zx_aret hC hE (.inl ⟨_, rfl⟩) (.inr ⟨_, rfl⟩) (by omega) (by omega) (fun H h => ⟨⟨_, rfl⟩, h⟩) dJ1_listIterator_5
set_option maxHeartbeats 4000000 in
theorem m_J3_iterator (la : Launch) (G : zG) (a : Nat) (m : Nat) (xs : Nat → Nat) (g0 : m < 1000) : zMA la yJ3_iterator cJ3_iterator 1 (some (.object "java/util/Iterator")) 4 86 G [.ref a] [LL G a m xs] (fun v9 => ∃ b, v9 = some (.ref b)) (fun v9 => (fun b => [LLI G a m xs b 0]) (zad v9)) (1) (5) := by
  refine zMA.of [some (.ref a)] (by decide) (Nat.le_of_ble_eq_true rfl) rfl (fun X A hl hC hnm hA hRm hE => ?_)
  refine zx_aload_n hC dJ3_iterator_0 rfl ?_
  refine zx_mar (Qr := fun b1 => [LLI G a m xs b1 0]) hC hA [0] [] (zcU 0 hC (C := RJ4) (owner := "java/util/AbstractList") (x := ⟨"java/util/AbstractSequentialList", "listIterator", "()Ljava/util/ListIterator;"⟩) (As := []) q806 q807 q808 q809 q810 q85 q811 (by decide +kernel) rfl (by rw [hRm]; exact ⟨Nat.le_of_ble_eq_true rfl, Nat.le_of_ble_eq_true rfl⟩) (by rw [hRm]; constructor <;> (first | decide | (simp only []; omega) | omega)) rfl (Nat.le_of_ble_eq_true rfl) dJ3_iterator_1) (m_J1_listIterator (zl X) G a m xs (by first | assumption | omega | decide | exact iRm (by omega) (by omega) | ((repeat (first | exact gL | refine rLs.up ?_ (by omega) (by omega) | refine rLs.fad ?_)); done) | ((repeat (first | exact gM | refine rHM.up ?_ (by omega))); done) | exact gT _ (by omega) | exact rFadF_le gF _ | ((repeat first | rw [va_up_ne _ _ (by omega)] | rw [va_up_self] | rw [rFadH_o (by omega)] | rw [rAge_o _ _ (by omega)] | rw [rLayH_o (by omega) (by omega) (by omega) (by omega)]); omega))) (fun H h => LL_rc hC.2.1 (zof 0 rfl H h)) rfl rfl rfl (fun b1 => ?_)
  show zV X 1 A (zH G A (zS [LLI G a m xs b1 0])) (1) (5) 4 [some (.ref a)] [.ref b1]
  exact zx_aret hC hE (.inl ⟨_, rfl⟩) (.inr ⟨_, rfl⟩) (by omega) (by omega) (fun H h => ⟨⟨_, rfl⟩, h⟩) dJ3_iterator_4
set_option maxHeartbeats 4000000 in
theorem m_J22_hasNext (la : Launch) (G : zG) (a : Nat) (m : Nat) (xs : Nat → Nat) (it : Nat) (i : Nat) (g0 : m < 1000) (g1 : i < 2000) : zRd la yJ22_hasNext cJ22_hasNext 1 (some .boolean) 0 0 G [.ref it] (fun H => zhp G (LLI G a m xs it i) H) (fun v9 => v9 = some (.int (iI (zB (i < m))))) := by
  refine zRd.of [some (.ref it)] (by decide) (Nat.le_of_ble_eq_true rfl) rfl (fun X hl hC hRm hP hE => ?_)
  have hp0 := hP
  obtain ⟨nd, mo, lr, hmo, ha, hn, hb⟩ := LLI_hp hp0
  refine zx_aload_n hC dJ22_hasNext_0 rfl ?_
  refine zx_getf (v := .int (iI ((i : Nat) : Int))) (T := TJ22) (N := 5) (ci := 9) (fs := [lr, lcu nd m i, .int (iI ((i : Nat) : Int)), .int (iI mo), .ref a]) hC in_J22 (zeq hb) rfl 2 (by decide) q856 (fun _ h => h) rfl dJ22_hasNext_1 ?_
  refine zx_aload_n hC dJ22_hasNext_4 rfl ?_
  refine zx_getf (v := .ref a) (T := TJ22) (N := 5) (ci := 9) (fs := [lr, lcu nd m i, .int (iI ((i : Nat) : Int)), .int (iI mo), .ref a]) hC in_J22 (zeq hb) rfl 4 (by decide) q858 (fun _ h => h) rfl dJ22_hasNext_5 ?_
  refine zx_getf (v := .int (iI ((m : Nat) : Int))) (T := TJ4) (N := 4) (ci := 5) (fs := [.int (iI mo), .int (iI ((m : Nat) : Int)), lfi nd m, lla nd m]) hC in_J4 (zeq ha) rfl 1 (by decide) q180 (fun _ h => h) rfl dJ22_hasNext_8 ?_
  refine zx_icmp_ge (tgt := 18) hC dJ22_hasNext_11 (by decide) (by first | assumption | exact gI _ (by omega) | exact iRm (by omega) (by omega)) (by first | assumption | exact gI _ (by omega) | exact iRm (by omega) (by omega)) (fun c11 => ?_) (fun c11 => ?_)
  · refine zx_iconst (z := 0) hC dJ22_hasNext_18 ?_
    refine zx_topi (b := zB (i < m)) (by first | exact (zB_t (by omega)).symm | exact (zB_f (by omega)).symm) ?_
    exact zx_nret hC hE (znar (by first | omega | exact zB_01 _)) (Nat.le_refl _) (Nat.le_refl _) (fun H h => ⟨h, rfl⟩) dJ22_hasNext_19
  · refine zx_iconst (z := 1) hC dJ22_hasNext_14 ?_
    refine zx_goto (tgt := 19) hC dJ22_hasNext_15 (by decide) ?_
    refine zx_topi (b := zB (i < m)) (by first | exact (zB_t (by omega)).symm | exact (zB_f (by omega)).symm) ?_
    exact zx_nret hC hE (znar (by first | omega | exact zB_01 _)) (Nat.le_refl _) (Nat.le_refl _) (fun H h => ⟨h, rfl⟩) dJ22_hasNext_19
set_option maxHeartbeats 4000000 in
theorem m_J22_checkForComodification (la : Launch) (G : zG) (a : Nat) (mo : Int) (e : Value) (s : Value) (s2 : Value) (it : Nat) (c : Value) (c2 : Value) (lr : Value) (g0 : iR mo) : zMA la yJ22_checkForComodification cJ22_checkForComodification 1 none 0 0 G [.ref it] [z1 a (.inr (5, [.int (iI mo), e, s, s2])), z1 it (.inr (9, [c, c2, lr, .int (iI mo), .ref a]))] (fun v9 => v9 = none) (fun _ => [z1 a (.inr (5, [.int (iI mo), e, s, s2])), z1 it (.inr (9, [c, c2, lr, .int (iI mo), .ref a]))]) (0) (0) := by
  refine zMA.of [some (.ref it)] (by decide) (Nat.le_of_ble_eq_true rfl) rfl (fun X A hl hC hnm hA hRm hE => ?_)
  refine zx_aload_n hC dJ22_checkForComodification_0 rfl ?_
  refine zx_getf (v := .ref a) (T := TJ22) (N := 5) (ci := 9) (fs := [c, c2, lr, .int (iI mo), .ref a]) hC in_J22 (zat 1 rfl) rfl 4 (by decide) q858 (fun _ h => h) rfl dJ22_checkForComodification_1 ?_
  refine zx_getf (v := .int (iI mo)) (T := TJ4) (N := 4) (ci := 5) (fs := [.int (iI mo), e, s, s2]) hC in_J4 (zat 0 rfl) rfl 0 (by decide) q156 (fun x h => u_same (hC.1.2.2.2.2 _ q157) x h) rfl dJ22_checkForComodification_4 ?_
  refine zx_aload_n hC dJ22_checkForComodification_7 rfl ?_
  refine zx_getf (v := .int (iI mo)) (T := TJ22) (N := 5) (ci := 9) (fs := [c, c2, lr, .int (iI mo), .ref a]) hC in_J22 (zat 1 rfl) rfl 3 (by decide) q857 (fun _ h => h) rfl dJ22_checkForComodification_8 ?_
  refine zx_icmp_eq (tgt := 22) hC dJ22_checkForComodification_11 (by decide) (by first | assumption | exact gI _ (by omega) | exact iRm (by omega) (by omega)) (by first | assumption | exact gI _ (by omega) | exact iRm (by omega) (by omega)) (fun c11 => ?_) (fun c11 => ?_)
  · exact zx_vret hC hE (by omega) (by omega) (fun H h => ⟨rfl, h⟩) dJ22_checkForComodification_22
  · exfalso; omega
set_option maxHeartbeats 4000000 in
theorem m_J22_hasNextT (la : Launch) (G : zG) (a : Nat) (m : Nat) (i : Nat) (e : Value) (s : Value) (s2 : Value) (it : Nat) (c : Value) (c2 : Value) (mo : Value) (g0 : m < 1000) (g1 : i < m) : zRd la yJ22_hasNext cJ22_hasNext 1 (some .boolean) 0 0 G [.ref it] (fun H => zhp G (z1 a (.inr (5, [e, .int (iI ((m : Nat) : Int)), s, s2]))) H ∧ zhp G (z1 it (.inr (9, [c, c2, .int (iI ((i : Nat) : Int)), mo, .ref a]))) H) (fun v9 => v9 = some (.int (iI 1))) := by
  refine zRd.of [some (.ref it)] (by decide) (Nat.le_of_ble_eq_true rfl) rfl (fun X hl hC hRm hP hE => ?_)
  obtain ⟨hp0, hp1⟩ := hP
  refine zx_aload_n hC dJ22_hasNext_0 rfl ?_
  refine zx_getf (v := .int (iI ((i : Nat) : Int))) (T := TJ22) (N := 5) (ci := 9) (fs := [c, c2, .int (iI ((i : Nat) : Int)), mo, .ref a]) hC in_J22 (zeq hp1.z1) rfl 2 (by decide) q856 (fun _ h => h) rfl dJ22_hasNext_1 ?_
  refine zx_aload_n hC dJ22_hasNext_4 rfl ?_
  refine zx_getf (v := .ref a) (T := TJ22) (N := 5) (ci := 9) (fs := [c, c2, .int (iI ((i : Nat) : Int)), mo, .ref a]) hC in_J22 (zeq hp1.z1) rfl 4 (by decide) q858 (fun _ h => h) rfl dJ22_hasNext_5 ?_
  refine zx_getf (v := .int (iI ((m : Nat) : Int))) (T := TJ4) (N := 4) (ci := 5) (fs := [e, .int (iI ((m : Nat) : Int)), s, s2]) hC in_J4 (zeq hp0.z1) rfl 1 (by decide) q180 (fun _ h => h) rfl dJ22_hasNext_8 ?_
  refine zx_icmp_geF (tgt := 18) hC dJ22_hasNext_11 (by decide) (by first | assumption | exact gI _ (by omega) | exact iRm (by omega) (by omega)) (by first | assumption | exact gI _ (by omega) | exact iRm (by omega) (by omega)) (by omega) ?_
  refine zx_iconst (z := 1) hC dJ22_hasNext_14 ?_
  refine zx_goto (tgt := 19) hC dJ22_hasNext_15 (by decide) ?_
  exact zx_nret hC hE (znar (by first | omega | exact zB_01 _)) (Nat.le_refl _) (Nat.le_refl _) (fun H h => ⟨h, rfl⟩) dJ22_hasNext_19
set_option maxHeartbeats 4000000 in
theorem m_J22_next (la : Launch) (G : zG) (a : Nat) (m : Nat) (xs : Nat → Nat) (it : Nat) (i : Nat) (g0 : i < m) (g1 : m < 1000) : zMA la yJ22_next cJ22_next 1 (some (.object "java/lang/Object")) 1 20 G [.ref it] [LLI G a m xs it i] (fun v9 => v9 = some (.ref (xs i))) (fun _ => [LLI G a m xs it (i + 1)]) (0) (0) := by
  refine zMA.of [some (.ref it)] (by decide) (Nat.le_of_ble_eq_true rfl) rfl (fun X A hl hC hnm hA hRm hE => ?_)
  refine zx_exi (fun nd => zx_exi (fun mo => zx_exi (fun lr => zx_nest (zx_pure (fun hmo => ?_)))))
  show zV X 1 A (zH G A (zS [z1 a (.inr (5, [.int (iI mo), .int (iI ((m : Nat) : Int)), lfi nd m, lla nd m])), zbs m (LLn nd xs m), z1 it (.inr (9, [lr, lcu nd m i, .int (iI ((i : Nat) : Int)), .int (iI mo), .ref a]))])) (0) (0) 0 [some (.ref it)] []
  rw [show lcu nd m i = .ref (nd i) from if_pos (by omega)]
  refine zx_pick [1, 0, 2] rfl rfl ?_
  show zV X 1 A (zH G A (zS [zbs m (LLn nd xs m), z1 a (.inr (5, [.int (iI mo), .int (iI ((m : Nat) : Int)), lfi nd m, lla nd m])), z1 it (.inr (9, [lr, .ref (nd i), .int (iI ((i : Nat) : Int)), .int (iI mo), .ref a]))])) (0) (0) 0 [some (.ref it)] []
  refine zx_bout i (by omega) ?_
  show zV X 1 A (zH G A (zS [z1 (nd i) (.inr (6, [.ref (xs i), lnx nd m i, lpv nd i])), zho m i (LLn nd xs m), z1 a (.inr (5, [.int (iI mo), .int (iI ((m : Nat) : Int)), lfi nd m, lla nd m])), z1 it (.inr (9, [lr, .ref (nd i), .int (iI ((i : Nat) : Int)), .int (iI mo), .ref a]))])) (0) (0) 0 [some (.ref it)] []
  refine zx_aload_n hC dJ22_next_0 rfl ?_
  refine zx_ma0 (Q := fun _ => [z1 a (.inr (5, [.int (iI mo), .int (iI ((m : Nat) : Int)), lfi nd m, lla nd m])), z1 it (.inr (9, [lr, .ref (nd i), .int (iI ((i : Nat) : Int)), .int (iI mo), .ref a]))]) hC hA [2, 3] [0, 1] (zcV 0 (As := []) hC (lw_V q733 q734 q735 q110 q736) (by decide +kernel) rfl (by rw [hRm]; exact ⟨Nat.le_of_ble_eq_true rfl, Nat.le_of_ble_eq_true rfl⟩) (by rw [hRm]; constructor <;> (first | decide | (simp only []; omega) | omega)) rfl (Nat.le_of_ble_eq_true rfl) dJ22_next_1) (m_J22_checkForComodification (zl X) G a mo (.int (iI ((m : Nat) : Int))) (lfi nd m) (lla nd m) it lr (.ref (nd i)) (.int (iI ((i : Nat) : Int))) (by first | assumption | omega | decide | exact iRm (by omega) (by omega) | ((repeat (first | exact gL | refine rLs.up ?_ (by omega) (by omega) | refine rLs.fad ?_)); done) | ((repeat (first | exact gM | refine rHM.up ?_ (by omega))); done) | exact gT _ (by omega) | exact rFadF_le gF _ | ((repeat first | rw [va_up_ne _ _ (by omega)] | rw [va_up_self] | rw [rFadH_o (by omega)] | rw [rAge_o _ _ (by omega)] | rw [rLayH_o (by omega) (by omega) (by omega) (by omega)]); omega))) (fun H h => zrc_of (r := (RJ22, TJ22, 5)) hC.2.1 ((zat 3 rfl) H h) rfl) rfl rfl rfl ?_
  show zV X 1 A (zH G A (zS [z1 (nd i) (.inr (6, [.ref (xs i), lnx nd m i, lpv nd i])), zho m i (LLn nd xs m), z1 a (.inr (5, [.int (iI mo), .int (iI ((m : Nat) : Int)), lfi nd m, lla nd m])), z1 it (.inr (9, [lr, .ref (nd i), .int (iI ((i : Nat) : Int)), .int (iI mo), .ref a]))])) (0) (0) 4 [some (.ref it)] []
  refine zx_aload_n hC dJ22_next_4 rfl ?_
  refine zx_rd1 (r := .int (iI 1)) hC hA.2 (zcV 0 (As := []) hC (lw_V q737 q359 q1983 q110 q361) (by decide +kernel) rfl (by rw [hRm]; exact ⟨Nat.le_of_ble_eq_true rfl, Nat.le_of_ble_eq_true rfl⟩) (by rw [hRm]; constructor <;> (first | decide | (simp only []; omega) | omega)) rfl (Nat.le_of_ble_eq_true rfl) dJ22_next_5) (m_J22_hasNextT (zl X) G a m i (.int (iI mo)) (lfi nd m) (lla nd m) it lr (.ref (nd i)) (.int (iI mo)) (by first | assumption | omega | decide | exact iRm (by omega) (by omega) | ((repeat (first | exact gL | refine rLs.up ?_ (by omega) (by omega) | refine rLs.fad ?_)); done) | ((repeat (first | exact gM | refine rHM.up ?_ (by omega))); done) | exact gT _ (by omega) | exact rFadF_le gF _ | ((repeat first | rw [va_up_ne _ _ (by omega)] | rw [va_up_self] | rw [rFadH_o (by omega)] | rw [rAge_o _ _ (by omega)] | rw [rLayH_o (by omega) (by omega) (by omega) (by omega)]); omega)) (by first | assumption | omega | decide | exact iRm (by omega) (by omega) | ((repeat (first | exact gL | refine rLs.up ?_ (by omega) (by omega) | refine rLs.fad ?_)); done) | ((repeat (first | exact gM | refine rHM.up ?_ (by omega))); done) | exact gT _ (by omega) | exact rFadF_le gF _ | ((repeat first | rw [va_up_ne _ _ (by omega)] | rw [va_up_self] | rw [rFadH_o (by omega)] | rw [rAge_o _ _ (by omega)] | rw [rLayH_o (by omega) (by omega) (by omega) (by omega)]); omega))) (fun H h => zrc_of (r := (RJ22, TJ22, 5)) hC.2.1 ((zat 3 rfl) H h) rfl) (fun H h => ⟨(zof 2 rfl H h), (zof 3 rfl H h)⟩) ?_
  refine zx_if_neT (tgt := 19) hC dJ22_next_8 (by decide) (by first | assumption | exact gI _ (by omega) | exact iRm (by omega) (by omega)) (by omega) ?_
  refine zx_aload_n hC dJ22_next_19 rfl ?_
  refine zx_aload_n hC dJ22_next_20 rfl ?_
  refine zx_getf (v := .ref (nd i)) (T := TJ22) (N := 5) (ci := 9) (fs := [lr, .ref (nd i), .int (iI ((i : Nat) : Int)), .int (iI mo), .ref a]) hC in_J22 (zat 3 rfl) rfl 1 (by decide) q855 (fun _ h => h) rfl dJ22_next_21 ?_
  refine zx_putf (T := TJ22) (N := 5) (ci := 9) (fs := [lr, .ref (nd i), .int (iI ((i : Nat) : Int)), .int (iI mo), .ref a]) (fs' := [.ref (nd i), .ref (nd i), .int (iI ((i : Nat) : Int)), .int (iI mo), .ref a]) hC 3 in_J22 tyJ22 tyJ22_ok nmJ22 rfl rfl 0 (by decide) q854 (fun _ h => h) rfl (by first | rfl | exact rfl) (by first | rfl | exact rfl) (Nat.le_of_ble_eq_true rfl) rfl dJ22_next_24 ?_
  show zV X 1 A (zH G A (zS [z1 (nd i) (.inr (6, [.ref (xs i), lnx nd m i, lpv nd i])), zho m i (LLn nd xs m), z1 a (.inr (5, [.int (iI mo), .int (iI ((m : Nat) : Int)), lfi nd m, lla nd m])), z1 it (.inr (9, [.ref (nd i), .ref (nd i), .int (iI ((i : Nat) : Int)), .int (iI mo), .ref a]))])) (0) (0) 27 [some (.ref it)] []
  refine zx_aload_n hC dJ22_next_27 rfl ?_
  refine zx_aload_n hC dJ22_next_28 rfl ?_
  refine zx_getf (v := .ref (nd i)) (T := TJ22) (N := 5) (ci := 9) (fs := [.ref (nd i), .ref (nd i), .int (iI ((i : Nat) : Int)), .int (iI mo), .ref a]) hC in_J22 (zat 3 rfl) rfl 1 (by decide) q855 (fun _ h => h) rfl dJ22_next_29 ?_
  refine zx_getf (v := lnx nd m i) (T := TJ23) (N := 3) (ci := 6) (fs := [.ref (xs i), lnx nd m i, lpv nd i]) hC in_J23 (zat 0 rfl) rfl 1 (by decide) q889 (fun _ h => h) rfl dJ22_next_32 ?_
  rcases (show i + 1 < m ∨ ¬ i + 1 < m by omega) with hx | hx
  · refine zx_eq (rest' := [.ref (nd (i + 1)), .ref it]) rfl (by rw [show lnx nd m i = .ref (nd (i + 1)) from if_pos hx]) ?_
    refine zx_putf (T := TJ22) (N := 5) (ci := 9) (fs := [.ref (nd i), .ref (nd i), .int (iI ((i : Nat) : Int)), .int (iI mo), .ref a]) (fs' := [.ref (nd i), .ref (nd (i + 1)), .int (iI ((i : Nat) : Int)), .int (iI mo), .ref a]) hC 3 in_J22 tyJ22 tyJ22_ok nmJ22 rfl rfl 1 (by decide) q855 (fun _ h => h) rfl (by first | rfl | exact rfl) (by first | rfl | exact rfl) (Nat.le_of_ble_eq_true rfl) rfl dJ22_next_35 ?_
    show zV X 1 A (zH G A (zS [z1 (nd i) (.inr (6, [.ref (xs i), lnx nd m i, lpv nd i])), zho m i (LLn nd xs m), z1 a (.inr (5, [.int (iI mo), .int (iI ((m : Nat) : Int)), lfi nd m, lla nd m])), z1 it (.inr (9, [.ref (nd i), .ref (nd (i + 1)), .int (iI ((i : Nat) : Int)), .int (iI mo), .ref a]))])) (0) (0) 38 [some (.ref it)] []
    refine zx_aload_n hC dJ22_next_38 rfl ?_
    refine zx_dup hC dJ22_next_39 rfl ?_
    refine zx_getf (v := .int (iI ((i : Nat) : Int))) (T := TJ22) (N := 5) (ci := 9) (fs := [.ref (nd i), .ref (nd (i + 1)), .int (iI ((i : Nat) : Int)), .int (iI mo), .ref a]) hC in_J22 (zat 3 rfl) rfl 2 (by decide) q856 (fun _ h => h) rfl dJ22_next_40 ?_
    refine zx_iconst (z := 1) hC dJ22_next_43 ?_
    refine zx_iadd hC dJ22_next_44 ?_
    refine zx_putf (T := TJ22) (N := 5) (ci := 9) (fs := [.ref (nd i), .ref (nd (i + 1)), .int (iI ((i : Nat) : Int)), .int (iI mo), .ref a]) (fs' := [.ref (nd i), .ref (nd (i + 1)), .int (iI ((i + 1 : Nat) : Int)), .int (iI mo), .ref a]) hC 3 in_J22 tyJ22 tyJ22_ok nmJ22 rfl rfl 2 (by decide) q856 (fun _ h => h) rfl (by first | rfl | exact rfl) (by first | rfl | exact rfl) (Nat.le_of_ble_eq_true rfl) rfl dJ22_next_45 ?_
    show zV X 1 A (zH G A (zS [z1 (nd i) (.inr (6, [.ref (xs i), lnx nd m i, lpv nd i])), zho m i (LLn nd xs m), z1 a (.inr (5, [.int (iI mo), .int (iI ((m : Nat) : Int)), lfi nd m, lla nd m])), z1 it (.inr (9, [.ref (nd i), .ref (nd (i + 1)), .int (iI ((i + 1 : Nat) : Int)), .int (iI mo), .ref a]))])) (0) (0) 48 [some (.ref it)] []
    refine zx_aload_n hC dJ22_next_48 rfl ?_
    refine zx_getf (v := .ref (nd i)) (T := TJ22) (N := 5) (ci := 9) (fs := [.ref (nd i), .ref (nd (i + 1)), .int (iI ((i + 1 : Nat) : Int)), .int (iI mo), .ref a]) hC in_J22 (zat 3 rfl) rfl 0 (by decide) q854 (fun _ h => h) rfl dJ22_next_49 ?_
    refine zx_getf (v := .ref (xs i)) (T := TJ23) (N := 3) (ci := 6) (fs := [.ref (xs i), lnx nd m i, lpv nd i]) hC in_J23 (zat 0 rfl) rfl 0 (by decide) q886 (fun _ h => h) rfl dJ22_next_52 ?_
    refine zx_bin (LLn nd xs m) (by omega) rfl (fun _ _ _ => rfl) ?_
    show zV X 1 A (zH G A (zS [zbs m (LLn nd xs m), z1 a (.inr (5, [.int (iI mo), .int (iI ((m : Nat) : Int)), lfi nd m, lla nd m])), z1 it (.inr (9, [.ref (nd i), .ref (nd (i + 1)), .int (iI ((i + 1 : Nat) : Int)), .int (iI mo), .ref a]))])) (0) (0) 55 [some (.ref it)] [.ref (xs i)]
    refine zx_pick [1, 0, 2] rfl rfl ?_
    show zV X 1 A (zH G A (zS [z1 a (.inr (5, [.int (iI mo), .int (iI ((m : Nat) : Int)), lfi nd m, lla nd m])), zbs m (LLn nd xs m), z1 it (.inr (9, [.ref (nd i), .ref (nd (i + 1)), .int (iI ((i + 1 : Nat) : Int)), .int (iI mo), .ref a]))])) (0) (0) 55 [some (.ref it)] [.ref (xs i)]
    refine zx_close (P1 := LLI G a m xs it (i + 1)) [z1 a (.inr (5, [.int (iI mo), .int (iI ((m : Nat) : Int)), lfi nd m, lla nd m])), zbs m (LLn nd xs m), z1 it (.inr (9, [.ref (nd i), .ref (nd (i + 1)), .int (iI ((i + 1 : Nat) : Int)), .int (iI mo), .ref a]))] (LLI_mk (nd := nd) hmo rfl rfl (if_pos hx).symm) ?_
    show zV X 1 A (zH G A (zS [LLI G a m xs it (i + 1)])) (0) (0) 55 [some (.ref it)] [.ref (xs i)]
    exact zx_aret hC hE (.inl ⟨_, rfl⟩) (.inr ⟨_, rfl⟩) (by omega) (by omega) (fun H h => ⟨rfl, h⟩) dJ22_next_55
  · refine zx_eq (rest' := [.null, .ref it]) rfl (by rw [show lnx nd m i = .null from if_neg hx]) ?_
    refine zx_putf (T := TJ22) (N := 5) (ci := 9) (fs := [.ref (nd i), .ref (nd i), .int (iI ((i : Nat) : Int)), .int (iI mo), .ref a]) (fs' := [.ref (nd i), .null, .int (iI ((i : Nat) : Int)), .int (iI mo), .ref a]) hC 3 in_J22 tyJ22 tyJ22_ok nmJ22 rfl rfl 1 (by decide) q855 (fun _ h => h) rfl (by first | rfl | exact rfl) (by first | rfl | exact rfl) (Nat.le_of_ble_eq_true rfl) rfl dJ22_next_35 ?_
    show zV X 1 A (zH G A (zS [z1 (nd i) (.inr (6, [.ref (xs i), lnx nd m i, lpv nd i])), zho m i (LLn nd xs m), z1 a (.inr (5, [.int (iI mo), .int (iI ((m : Nat) : Int)), lfi nd m, lla nd m])), z1 it (.inr (9, [.ref (nd i), .null, .int (iI ((i : Nat) : Int)), .int (iI mo), .ref a]))])) (0) (0) 38 [some (.ref it)] []
    refine zx_aload_n hC dJ22_next_38 rfl ?_
    refine zx_dup hC dJ22_next_39 rfl ?_
    refine zx_getf (v := .int (iI ((i : Nat) : Int))) (T := TJ22) (N := 5) (ci := 9) (fs := [.ref (nd i), .null, .int (iI ((i : Nat) : Int)), .int (iI mo), .ref a]) hC in_J22 (zat 3 rfl) rfl 2 (by decide) q856 (fun _ h => h) rfl dJ22_next_40 ?_
    refine zx_iconst (z := 1) hC dJ22_next_43 ?_
    refine zx_iadd hC dJ22_next_44 ?_
    refine zx_putf (T := TJ22) (N := 5) (ci := 9) (fs := [.ref (nd i), .null, .int (iI ((i : Nat) : Int)), .int (iI mo), .ref a]) (fs' := [.ref (nd i), .null, .int (iI ((i + 1 : Nat) : Int)), .int (iI mo), .ref a]) hC 3 in_J22 tyJ22 tyJ22_ok nmJ22 rfl rfl 2 (by decide) q856 (fun _ h => h) rfl (by first | rfl | exact rfl) (by first | rfl | exact rfl) (Nat.le_of_ble_eq_true rfl) rfl dJ22_next_45 ?_
    show zV X 1 A (zH G A (zS [z1 (nd i) (.inr (6, [.ref (xs i), lnx nd m i, lpv nd i])), zho m i (LLn nd xs m), z1 a (.inr (5, [.int (iI mo), .int (iI ((m : Nat) : Int)), lfi nd m, lla nd m])), z1 it (.inr (9, [.ref (nd i), .null, .int (iI ((i + 1 : Nat) : Int)), .int (iI mo), .ref a]))])) (0) (0) 48 [some (.ref it)] []
    refine zx_aload_n hC dJ22_next_48 rfl ?_
    refine zx_getf (v := .ref (nd i)) (T := TJ22) (N := 5) (ci := 9) (fs := [.ref (nd i), .null, .int (iI ((i + 1 : Nat) : Int)), .int (iI mo), .ref a]) hC in_J22 (zat 3 rfl) rfl 0 (by decide) q854 (fun _ h => h) rfl dJ22_next_49 ?_
    refine zx_getf (v := .ref (xs i)) (T := TJ23) (N := 3) (ci := 6) (fs := [.ref (xs i), lnx nd m i, lpv nd i]) hC in_J23 (zat 0 rfl) rfl 0 (by decide) q886 (fun _ h => h) rfl dJ22_next_52 ?_
    refine zx_bin (LLn nd xs m) (by omega) rfl (fun _ _ _ => rfl) ?_
    show zV X 1 A (zH G A (zS [zbs m (LLn nd xs m), z1 a (.inr (5, [.int (iI mo), .int (iI ((m : Nat) : Int)), lfi nd m, lla nd m])), z1 it (.inr (9, [.ref (nd i), .null, .int (iI ((i + 1 : Nat) : Int)), .int (iI mo), .ref a]))])) (0) (0) 55 [some (.ref it)] [.ref (xs i)]
    refine zx_pick [1, 0, 2] rfl rfl ?_
    show zV X 1 A (zH G A (zS [z1 a (.inr (5, [.int (iI mo), .int (iI ((m : Nat) : Int)), lfi nd m, lla nd m])), zbs m (LLn nd xs m), z1 it (.inr (9, [.ref (nd i), .null, .int (iI ((i + 1 : Nat) : Int)), .int (iI mo), .ref a]))])) (0) (0) 55 [some (.ref it)] [.ref (xs i)]
    refine zx_close (P1 := LLI G a m xs it (i + 1)) [z1 a (.inr (5, [.int (iI mo), .int (iI ((m : Nat) : Int)), lfi nd m, lla nd m])), zbs m (LLn nd xs m), z1 it (.inr (9, [.ref (nd i), .null, .int (iI ((i + 1 : Nat) : Int)), .int (iI mo), .ref a]))] (LLI_mk (nd := nd) hmo rfl rfl (if_neg hx).symm) ?_
    show zV X 1 A (zH G A (zS [LLI G a m xs it (i + 1)])) (0) (0) 55 [some (.ref it)] [.ref (xs i)]
    exact zx_aret hC hE (.inl ⟨_, rfl⟩) (.inr ⟨_, rfl⟩) (by omega) (by omega) (fun H h => ⟨rfl, h⟩) dJ22_next_55
