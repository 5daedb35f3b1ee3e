/-! walked: part 47b (printed by gen/gen2.py) -/
set_option maxRecDepth 100000
set_option maxHeartbeats 4000000 in
theorem m_X1_dropsTake (la : Launch) (G : zG) (a : Nat) (v0 : Value) (al : Nat) (dl : Nat) (v3 : Value) (v4 : Value) (v5 : Value) (v6 : Value) (v7 : Value) (st : Nat) (v9 : Value) (v10 : Value) (v11 : Value)  : zMA la yX1_dropsTake cX1_dropsTake 1 none 0 0 G [.ref a] [z1 a (.inr (1, [v0, .ref al, .ref dl, v3, v4, v5, v6, v7, .ref st, v9, v10, v11]))] (fun v9 => v9 = none) (fun _ => [z1 a (.inr (1, [v0, .ref al, .ref dl, v3, v4, v5, v6, v7, .ref st, .int (iI 0), .int (iI 0), .null]))]) (0) (0) := by
  refine zMA.of [some (.ref a)] (by decide) (Nat.le_of_ble_eq_true rfl) rfl (fun X A hl hC hnm hA hRm hE => ?_)
  refine zx_aload_n hC dX1_dropsTake_0 rfl ?_
  refine zx_null hC dX1_dropsTake_1 ?_
  refine zx_putf (T := TX1) (N := 12) (ci := 1) (fs := [v0, .ref al, .ref dl, v3, v4, v5, v6, v7, .ref st, v9, v10, v11]) (fs' := [v0, .ref al, .ref dl, v3, v4, v5, v6, v7, .ref st, v9, v10, .null]) hC 0 in_X1 tyX1 tyX1_ok nmX1 rfl rfl 11 (by decide) q212 (fun _ h => h) rfl (by first | rfl | exact rfl) (by first | rfl | exact rfl) (Nat.le_of_ble_eq_true rfl) rfl dX1_dropsTake_2 ?_
  show zV X 1 A (zH G A (zS [z1 a (.inr (1, [v0, .ref al, .ref dl, v3, v4, v5, v6, v7, .ref st, v9, v10, .null]))])) (0) (0) 5 [some (.ref a)] []
  refine zx_aload_n hC dX1_dropsTake_5 rfl ?_
  refine zx_iconst (z := 0) hC dX1_dropsTake_6 ?_
  refine zx_putf (T := TX1) (N := 12) (ci := 1) (fs := [v0, .ref al, .ref dl, v3, v4, v5, v6, v7, .ref st, v9, v10, .null]) (fs' := [v0, .ref al, .ref dl, v3, v4, v5, v6, v7, .ref st, .int (iI 0), v10, .null]) hC 0 in_X1 tyX1 tyX1_ok nmX1 rfl rfl 9 (by decide) q209 (fun _ h => h) rfl (by first | rfl | exact rfl) (by first | rfl | exact rfl) (Nat.le_of_ble_eq_true rfl) rfl dX1_dropsTake_7 ?_
  show zV X 1 A (zH G A (zS [z1 a (.inr (1, [v0, .ref al, .ref dl, v3, v4, v5, v6, v7, .ref st, .int (iI 0), v10, .null]))])) (0) (0) 10 [some (.ref a)] []
  refine zx_aload_n hC dX1_dropsTake_10 rfl ?_
  refine zx_iconst (z := 0) hC dX1_dropsTake_11 ?_
  refine zx_putf (T := TX1) (N := 12) (ci := 1) (fs := [v0, .ref al, .ref dl, v3, v4, v5, v6, v7, .ref st, .int (iI 0), v10, .null]) (fs' := [v0, .ref al, .ref dl, v3, v4, v5, v6, v7, .ref st, .int (iI 0), .int (iI 0), .null]) hC 0 in_X1 tyX1 tyX1_ok nmX1 rfl rfl 10 (by decide) q210 (fun _ h => h) rfl (by first | rfl | exact rfl) (by first | rfl | exact rfl) (Nat.le_of_ble_eq_true rfl) rfl dX1_dropsTake_12 ?_
  show zV X 1 A (zH G A (zS [z1 a (.inr (1, [v0, .ref al, .ref dl, v3, v4, v5, v6, v7, .ref st, .int (iI 0), .int (iI 0), .null]))])) (0) (0) 15 [some (.ref a)] []
  exact zx_vret hC hE (by omega) (by omega) (fun H h => ⟨rfl, h⟩) dX1_dropsTake_15
set_option maxHeartbeats 4000000 in
theorem m_X1_starts (la : Launch) (G : zG) (a : Nat) (v0 : Value) (al : Nat) (dl : Nat) (v3 : Value) (v4 : Value) (v5 : Value) (v6 : Value) (v7 : Value) (st : Nat) (v9 : Value) (v10 : Value) (v11 : Value)  : zMA la yX1_starts cX1_starts 1 none 0 0 G [.ref a] [z1 a (.inr (1, [v0, .ref al, .ref dl, v3, v4, v5, v6, v7, .ref st, v9, v10, v11]))] (fun v9 => v9 = none) (fun _ => [z1 a (.inr (1, [.int (iI 2), .ref al, .ref dl, .int (iI 0), .int (iI 0), .int (iI 0), v6, v7, .ref st, v9, v10, v11]))]) (0) (0) := by
  refine zMA.of [some (.ref a)] (by decide) (Nat.le_of_ble_eq_true rfl) rfl (fun X A hl hC hnm hA hRm hE => ?_)
  refine zx_aload_n hC dX1_starts_0 rfl ?_
  refine zx_iconst (z := 0) hC dX1_starts_1 ?_
  refine zx_putf (T := TX1) (N := 12) (ci := 1) (fs := [v0, .ref al, .ref dl, v3, v4, v5, v6, v7, .ref st, v9, v10, v11]) (fs' := [v0, .ref al, .ref dl, .int (iI 0), v4, v5, v6, v7, .ref st, v9, v10, v11]) hC 0 in_X1 tyX1 tyX1_ok nmX1 rfl rfl 3 (by decide) q197 (fun _ h => h) rfl (by first | rfl | exact rfl) (by first | rfl | exact rfl) (Nat.le_of_ble_eq_true rfl) rfl dX1_starts_2 ?_
  show zV X 1 A (zH G A (zS [z1 a (.inr (1, [v0, .ref al, .ref dl, .int (iI 0), v4, v5, v6, v7, .ref st, v9, v10, v11]))])) (0) (0) 5 [some (.ref a)] []
  refine zx_aload_n hC dX1_starts_5 rfl ?_
  refine zx_iconst (z := 0) hC dX1_starts_6 ?_
  refine zx_putf (T := TX1) (N := 12) (ci := 1) (fs := [v0, .ref al, .ref dl, .int (iI 0), v4, v5, v6, v7, .ref st, v9, v10, v11]) (fs' := [v0, .ref al, .ref dl, .int (iI 0), .int (iI 0), v5, v6, v7, .ref st, v9, v10, v11]) hC 0 in_X1 tyX1 tyX1_ok nmX1 rfl rfl 4 (by decide) q199 (fun _ h => h) rfl (by first | rfl | exact rfl) (by first | rfl | exact rfl) (Nat.le_of_ble_eq_true rfl) rfl dX1_starts_7 ?_
  show zV X 1 A (zH G A (zS [z1 a (.inr (1, [v0, .ref al, .ref dl, .int (iI 0), .int (iI 0), v5, v6, v7, .ref st, v9, v10, v11]))])) (0) (0) 10 [some (.ref a)] []
  refine zx_aload_n hC dX1_starts_10 rfl ?_
  refine zx_iconst (z := 0) hC dX1_starts_11 ?_
  refine zx_putf (T := TX1) (N := 12) (ci := 1) (fs := [v0, .ref al, .ref dl, .int (iI 0), .int (iI 0), v5, v6, v7, .ref st, v9, v10, v11]) (fs' := [v0, .ref al, .ref dl, .int (iI 0), .int (iI 0), .int (iI 0), v6, v7, .ref st, v9, v10, v11]) hC 0 in_X1 tyX1 tyX1_ok nmX1 rfl rfl 5 (by decide) q201 (fun _ h => h) rfl (by first | rfl | exact rfl) (by first | rfl | exact rfl) (Nat.le_of_ble_eq_true rfl) rfl dX1_starts_12 ?_
  show zV X 1 A (zH G A (zS [z1 a (.inr (1, [v0, .ref al, .ref dl, .int (iI 0), .int (iI 0), .int (iI 0), v6, v7, .ref st, v9, v10, v11]))])) (0) (0) 15 [some (.ref a)] []
  refine zx_aload_n hC dX1_starts_15 rfl ?_
  refine zx_iconst (z := 2) hC dX1_starts_16 ?_
  refine zx_putf (T := TX1) (N := 12) (ci := 1) (fs := [v0, .ref al, .ref dl, .int (iI 0), .int (iI 0), .int (iI 0), v6, v7, .ref st, v9, v10, v11]) (fs' := [.int (iI 2), .ref al, .ref dl, .int (iI 0), .int (iI 0), .int (iI 0), v6, v7, .ref st, v9, v10, v11]) hC 0 in_X1 tyX1 tyX1_ok nmX1 rfl rfl 0 (by decide) q191 (fun _ h => h) rfl (by first | rfl | exact rfl) (by first | rfl | exact rfl) (Nat.le_of_ble_eq_true rfl) rfl dX1_starts_17 ?_
  show zV X 1 A (zH G A (zS [z1 a (.inr (1, [.int (iI 2), .ref al, .ref dl, .int (iI 0), .int (iI 0), .int (iI 0), v6, v7, .ref st, v9, v10, v11]))])) (0) (0) 20 [some (.ref a)] []
  exact zx_vret hC hE (by omega) (by omega) (fun H h => ⟨rfl, h⟩) dX1_starts_20
set_option maxHeartbeats 4000000 in
theorem m_X1_beginsTake (la : Launch) (G : zG) (a : Nat) (v0 : Value) (al : Nat) (dl : Nat) (v3 : Value) (v4 : Value) (v5 : Value) (v6 : Value) (v7 : Value) (st : Nat) (v9 : Value) (v10 : Value) (v11 : Value) (x : Nat) (c : Nat) (g0 : c ≤ 48) : zMA la yX1_beginsTake cX1_beginsTake 3 none 2 41 G [.ref a, .int (iI ((x : Nat) : Int)), .int (iI ((c : Nat) : Int))] [z1 a (.inr (1, [v0, .ref al, .ref dl, v3, v4, v5, v6, v7, .ref st, v9, v10, v11]))] (fun v9 => v9 = none) (fun _ => [zex fun b9 : Nat => zS [z1 a (.inr (1, [v0, .ref al, .ref dl, v3, v4, v5, v6, v7, .ref st, .int (iI ((x : Nat) : Int)), .int (iI 0), .ref b9])), LAY G b9 c (fun _ _ => 0) 0 0]]) (60) (1800) := by
  refine zMA.of [some (.ref a), some (.int (iI ((x : Nat) : Int))), some (.int (iI ((c : Nat) : Int)))] (by decide) (Nat.le_of_ble_eq_true rfl) rfl (fun X A hl hC hnm hA hRm hE => ?_)
  refine zx_aload_n hC dX1_beginsTake_0 rfl ?_
  refine zx_iload_n hC dX1_beginsTake_1 rfl ?_
  refine zx_putf (T := TX1) (N := 12) (ci := 1) (fs := [v0, .ref al, .ref dl, v3, v4, v5, v6, v7, .ref st, v9, v10, v11]) (fs' := [v0, .ref al, .ref dl, v3, v4, v5, v6, v7, .ref st, .int (iI ((x : Nat) : Int)), v10, v11]) hC 0 in_X1 tyX1 tyX1_ok nmX1 rfl rfl 9 (by decide) q209 (fun _ h => h) rfl (by first | rfl | exact rfl) (by first | rfl | exact rfl) (Nat.le_of_ble_eq_true rfl) rfl dX1_beginsTake_2 ?_
  show zV X 3 A (zH G A (zS [z1 a (.inr (1, [v0, .ref al, .ref dl, v3, v4, v5, v6, v7, .ref st, .int (iI ((x : Nat) : Int)), v10, v11]))])) (0) (0) 5 [some (.ref a), some (.int (iI ((x : Nat) : Int))), some (.int (iI ((c : Nat) : Int)))] []
  refine zx_aload_n hC dX1_beginsTake_5 rfl ?_
  refine zx_iconst (z := 0) hC dX1_beginsTake_6 ?_
  refine zx_putf (T := TX1) (N := 12) (ci := 1) (fs := [v0, .ref al, .ref dl, v3, v4, v5, v6, v7, .ref st, .int (iI ((x : Nat) : Int)), v10, v11]) (fs' := [v0, .ref al, .ref dl, v3, v4, v5, v6, v7, .ref st, .int (iI ((x : Nat) : Int)), .int (iI 0), v11]) hC 0 in_X1 tyX1 tyX1_ok nmX1 rfl rfl 10 (by decide) q210 (fun _ h => h) rfl (by first | rfl | exact rfl) (by first | rfl | exact rfl) (Nat.le_of_ble_eq_true rfl) rfl dX1_beginsTake_7 ?_
  show zV X 3 A (zH G A (zS [z1 a (.inr (1, [v0, .ref al, .ref dl, v3, v4, v5, v6, v7, .ref st, .int (iI ((x : Nat) : Int)), .int (iI 0), v11]))])) (0) (0) 10 [some (.ref a), some (.int (iI ((x : Nat) : Int))), some (.int (iI ((c : Nat) : Int)))] []
  refine zx_aload_n hC dX1_beginsTake_10 rfl ?_
  refine zx_new (T := TX3) (N := 3) (ci := 3) (fs := [.null, .int (iI 0), .int (iI 0)]) hC hA in_X3 tyX3 tyX3_ok q738 q744 q106 rfl (by decide) (by rw [hRm]; constructor <;> (first | decide | (simp only []; omega) | omega)) dX1_beginsTake_11 (fun o1 => ?_)
  show zV X 3 A (zH G A (zS [z1 o1 (.inr (3, [.null, .int (iI 0), .int (iI 0)])), z1 a (.inr (1, [v0, .ref al, .ref dl, v3, v4, v5, v6, v7, .ref st, .int (iI ((x : Nat) : Int)), .int (iI 0), v11]))])) (1) (3) 14 [some (.ref a), some (.int (iI ((x : Nat) : Int))), some (.int (iI ((c : Nat) : Int)))] [.ref o1, .ref a]
  refine zx_dup hC dX1_beginsTake_14 rfl ?_
  refine zx_iload_n hC dX1_beginsTake_15 rfl ?_
  refine zx_ma0 (Q := fun _ => [LAY G o1 c (fun _ _ => 0) 0 0]) hC hA [0] [1] (zcI 1 (As := [.int (iI ((c : Nat) : Int))]) hC (lw_meth q747) q106 q942 q746 (by decide +kernel) rfl rfl (by rw [hRm]; exact ⟨Nat.le_of_ble_eq_true rfl, Nat.le_of_ble_eq_true rfl⟩) (by rw [hRm]; constructor <;> (first | decide | (simp only []; omega) | omega)) rfl (Nat.le_of_ble_eq_true rfl) dX1_beginsTake_16) (m_X3_init (zl X) G o1 c (by first | assumption | omega | decide | exact iRm (by omega) (by omega) | ((repeat (first | exact gL | refine rLs.up ?_ (by omega) (by omega) | refine rLs.fad ?_)); done) | ((repeat (first | exact gM | refine rHM.up ?_ (by omega))); done) | exact gT _ (by omega) | exact rFadF_le gF _ | ((repeat first | rw [va_up_ne _ _ (by omega)] | rw [va_up_self] | rw [rFadH_o (by omega)] | rw [rAge_o _ _ (by omega)] | rw [rLayH_o (by omega) (by omega) (by omega) (by omega)]); omega))) (fun _ _ => trivial) rfl rfl rfl ?_
  show zV X 3 A (zH G A (zS [z1 a (.inr (1, [v0, .ref al, .ref dl, v3, v4, v5, v6, v7, .ref st, .int (iI ((x : Nat) : Int)), .int (iI 0), v11])), LAY G o1 c (fun _ _ => 0) 0 0])) (1 + (1 + c)) (3 + (c + c * 36)) 19 [some (.ref a), some (.int (iI ((x : Nat) : Int))), some (.int (iI ((c : Nat) : Int)))] [.ref o1, .ref a]
  refine zx_putf (T := TX1) (N := 12) (ci := 1) (fs := [v0, .ref al, .ref dl, v3, v4, v5, v6, v7, .ref st, .int (iI ((x : Nat) : Int)), .int (iI 0), v11]) (fs' := [v0, .ref al, .ref dl, v3, v4, v5, v6, v7, .ref st, .int (iI ((x : Nat) : Int)), .int (iI 0), .ref o1]) hC 0 in_X1 tyX1 tyX1_ok nmX1 rfl rfl 11 (by decide) q212 (fun _ h => h) rfl (by first | rfl | exact rfl) (by first | rfl | exact rfl) (Nat.le_of_ble_eq_true rfl) rfl dX1_beginsTake_19 ?_
  show zV X 3 A (zH G A (zS [z1 a (.inr (1, [v0, .ref al, .ref dl, v3, v4, v5, v6, v7, .ref st, .int (iI ((x : Nat) : Int)), .int (iI 0), .ref o1])), LAY G o1 c (fun _ _ => 0) 0 0])) (1 + (1 + c)) (3 + (c + c * 36)) 22 [some (.ref a), some (.int (iI ((x : Nat) : Int))), some (.int (iI ((c : Nat) : Int)))] []
  refine zx_close (P1 := zex fun b9 : Nat => zS [z1 a (.inr (1, [v0, .ref al, .ref dl, v3, v4, v5, v6, v7, .ref st, .int (iI ((x : Nat) : Int)), .int (iI 0), .ref b9])), LAY G b9 c (fun _ _ => 0) 0 0]) [z1 a (.inr (1, [v0, .ref al, .ref dl, v3, v4, v5, v6, v7, .ref st, .int (iI ((x : Nat) : Int)), .int (iI 0), .ref o1])), LAY G o1 c (fun _ _ => 0) 0 0] ((fun w hw => ⟨o1, hw⟩)) ?_
  show zV X 3 A (zH G A (zS [zex fun b9 : Nat => zS [z1 a (.inr (1, [v0, .ref al, .ref dl, v3, v4, v5, v6, v7, .ref st, .int (iI ((x : Nat) : Int)), .int (iI 0), .ref b9])), LAY G b9 c (fun _ _ => 0) 0 0]])) (1 + (1 + c)) (3 + (c + c * 36)) 22 [some (.ref a), some (.int (iI ((x : Nat) : Int))), some (.int (iI ((c : Nat) : Int)))] []
  exact zx_vret hC hE (by omega) (by omega) (fun H h => ⟨rfl, h⟩) dX1_beginsTake_22
set_option maxHeartbeats 4000000 in
theorem m_X1_lays (la : Launch) (G : zG) (a : Nat) (v0 : Value) (al : Nat) (dl : Nat) (v3 : Value) (v4 : Value) (v5 : Value) (v6 : Value) (st : Nat) (v9 : Value) (v10 : Value) (v11 : Value) (v7 : Nat) (m : Nat) (xs : Nat → Nat) (d : Nat) (ys : Nat → Nat) (q : Nat) (E : zAs) (g0 : m < 10) (hX : zEl G E q) : zMA la yX1_lays cX1_lays 2 none 5 108 G [.ref a, .ref q] [z1 a (.inr (1, [v0, .ref al, .ref dl, v3, v4, v5, v6, .int (iI ((v7 : Nat) : Int)), .ref st, v9, v10, v11])), AL G al m xs, LL G dl d ys, E] (fun v9 => v9 = none) (fun _ => [z1 a (.inr (1, [.int (iI 2), .ref al, .ref dl, v3, v4, v5, v6, .int (iI ((v7 + 1 : Nat) : Int)), .ref st, .int (iI 0), .int (iI 0), .null])), AL G al (m + 1) (va_up xs m q), LL G dl 0 (fun _ => 0), E]) (1) (10) := by
  refine zMA.of [some (.ref a), some (.ref q)] (by decide) (Nat.le_of_ble_eq_true rfl) rfl (fun X A hl hC hnm hA hRm hE => ?_)
  refine zx_aload_n hC dX1_lays_0 rfl ?_
  refine zx_getf (v := .ref al) (T := TX1) (N := 12) (ci := 1) (fs := [v0, .ref al, .ref dl, v3, v4, v5, v6, .int (iI ((v7 : Nat) : Int)), .ref st, v9, v10, v11]) hC in_X1 (zat 0 rfl) rfl 1 (by decide) q193 (fun _ h => h) rfl dX1_lays_1 ?_
  refine zx_aload_n hC dX1_lays_4 rfl ?_
  refine zx_ma1 (r := .int (iI 1)) (Q := fun _ => [AL G al (m + 1) (va_up xs m q), E]) hC hA [1, 3] [0, 2] (zcV 1 (As := [.ref q]) hC (lw_V q771 q772 q773 q86 q774) (by decide +kernel) rfl (by rw [hRm]; exact ⟨Nat.le_of_ble_eq_true rfl, Nat.le_of_ble_eq_true rfl⟩) (by rw [hRm]; constructor <;> (first | decide | (simp only []; omega) | omega)) rfl (Nat.le_of_ble_eq_true rfl) dX1_lays_5) (m_J2_add (zl X) G al m xs q E (by first | assumption | omega | decide | exact iRm (by omega) (by omega) | ((repeat (first | exact gL | refine rLs.up ?_ (by omega) (by omega) | refine rLs.fad ?_)); done) | ((repeat (first | exact gM | refine rHM.up ?_ (by omega))); done) | exact gT _ (by omega) | exact rFadF_le gF _ | ((repeat first | rw [va_up_ne _ _ (by omega)] | rw [va_up_self] | rw [rFadH_o (by omega)] | rw [rAge_o _ _ (by omega)] | rw [rLayH_o (by omega) (by omega) (by omega) (by omega)]); omega)) hX) (fun H h => AL_rc hC.2.1 (zof 1 rfl H h)) rfl rfl rfl ?_
  show zV X 2 A (zH G A (zS [z1 a (.inr (1, [v0, .ref al, .ref dl, v3, v4, v5, v6, .int (iI ((v7 : Nat) : Int)), .ref st, v9, v10, v11])), LL G dl d ys, AL G al (m + 1) (va_up xs m q), E])) (1) (10) 8 [some (.ref a), some (.ref q)] [.int (iI 1)]
  refine zx_pop hC dX1_lays_8 rfl ?_
  refine zx_aload_n hC dX1_lays_9 rfl ?_
  refine zx_getf (v := .ref dl) (T := TX1) (N := 12) (ci := 1) (fs := [v0, .ref al, .ref dl, v3, v4, v5, v6, .int (iI ((v7 : Nat) : Int)), .ref st, v9, v10, v11]) hC in_X1 (zat 0 rfl) rfl 2 (by decide) q195 (fun _ h => h) rfl dX1_lays_10 ?_
  refine zx_ma0 (Q := fun _ => [LL G dl 0 (fun _ => 0)]) hC hA [1] [0, 2, 3] (zcV 0 (As := []) hC (lw_V q964 q965 q966 q88 q967) (by decide +kernel) rfl (by rw [hRm]; exact ⟨Nat.le_of_ble_eq_true rfl, Nat.le_of_ble_eq_true rfl⟩) (by rw [hRm]; constructor <;> (first | decide | (simp only []; omega) | omega)) rfl (Nat.le_of_ble_eq_true rfl) dX1_lays_13) (m_J4_clear (zl X) G dl d ys ) (fun H h => LL_rc hC.2.1 (zof 1 rfl H h)) rfl rfl rfl ?_
  show zV X 2 A (zH G A (zS [z1 a (.inr (1, [v0, .ref al, .ref dl, v3, v4, v5, v6, .int (iI ((v7 : Nat) : Int)), .ref st, v9, v10, v11])), AL G al (m + 1) (va_up xs m q), E, LL G dl 0 (fun _ => 0)])) (1) (10) 16 [some (.ref a), some (.ref q)] []
  refine zx_aload_n hC dX1_lays_16 rfl ?_
  refine zx_dup hC dX1_lays_17 rfl ?_
  refine zx_getf (v := .int (iI ((v7 : Nat) : Int))) (T := TX1) (N := 12) (ci := 1) (fs := [v0, .ref al, .ref dl, v3, v4, v5, v6, .int (iI ((v7 : Nat) : Int)), .ref st, v9, v10, v11]) hC in_X1 (zat 0 rfl) rfl 7 (by decide) q205 (fun _ h => h) rfl dX1_lays_18 ?_
  refine zx_iconst (z := 1) hC dX1_lays_21 ?_
  refine zx_iadd hC dX1_lays_22 ?_
  refine zx_putf (T := TX1) (N := 12) (ci := 1) (fs := [v0, .ref al, .ref dl, v3, v4, v5, v6, .int (iI ((v7 : Nat) : Int)), .ref st, v9, v10, v11]) (fs' := [v0, .ref al, .ref dl, v3, v4, v5, v6, .int (iI ((v7 + 1 : Nat) : Int)), .ref st, v9, v10, v11]) hC 0 in_X1 tyX1 tyX1_ok nmX1 rfl rfl 7 (by decide) q205 (fun _ h => h) rfl (by first | rfl | exact rfl) (by first | rfl | exact rfl) (Nat.le_of_ble_eq_true rfl) rfl dX1_lays_23 ?_
  show zV X 2 A (zH G A (zS [z1 a (.inr (1, [v0, .ref al, .ref dl, v3, v4, v5, v6, .int (iI ((v7 + 1 : Nat) : Int)), .ref st, v9, v10, v11])), AL G al (m + 1) (va_up xs m q), E, LL G dl 0 (fun _ => 0)])) (1) (10) 26 [some (.ref a), some (.ref q)] []
  refine zx_aload_n hC dX1_lays_26 rfl ?_
  refine zx_ma0 (Q := fun _ => [z1 a (.inr (1, [v0, .ref al, .ref dl, v3, v4, v5, v6, .int (iI ((v7 + 1 : Nat) : Int)), .ref st, .int (iI 0), .int (iI 0), .null]))]) hC hA [0] [1, 2, 3] (zcV 0 (As := []) hC (lw_V q968 q970 qs12 q83 q971) (by decide +kernel) rfl (by rw [hRm]; exact ⟨Nat.le_of_ble_eq_true rfl, Nat.le_of_ble_eq_true rfl⟩) (by rw [hRm]; constructor <;> (first | decide | (simp only []; omega) | omega)) rfl (Nat.le_of_ble_eq_true rfl) dX1_lays_27) (m_X1_dropsTake (zl X) G a v0 al dl v3 v4 v5 v6 (.int (iI ((v7 + 1 : Nat) : Int))) st v9 v10 v11 ) (fun H h => zrc_of (r := (RX1, TX1, 12)) hC.2.1 ((zat 0 rfl) H h) rfl) rfl rfl rfl ?_
  show zV X 2 A (zH G A (zS [AL G al (m + 1) (va_up xs m q), E, LL G dl 0 (fun _ => 0), z1 a (.inr (1, [v0, .ref al, .ref dl, v3, v4, v5, v6, .int (iI ((v7 + 1 : Nat) : Int)), .ref st, .int (iI 0), .int (iI 0), .null]))])) (1) (10) 30 [some (.ref a), some (.ref q)] []
  refine zx_aload_n hC dX1_lays_30 rfl ?_
  refine zx_iconst (z := 2) hC dX1_lays_31 ?_
  refine zx_putf (T := TX1) (N := 12) (ci := 1) (fs := [v0, .ref al, .ref dl, v3, v4, v5, v6, .int (iI ((v7 + 1 : Nat) : Int)), .ref st, .int (iI 0), .int (iI 0), .null]) (fs' := [.int (iI 2), .ref al, .ref dl, v3, v4, v5, v6, .int (iI ((v7 + 1 : Nat) : Int)), .ref st, .int (iI 0), .int (iI 0), .null]) hC 3 in_X1 tyX1 tyX1_ok nmX1 rfl rfl 0 (by decide) q191 (fun _ h => h) rfl (by first | rfl | exact rfl) (by first | rfl | exact rfl) (Nat.le_of_ble_eq_true rfl) rfl dX1_lays_32 ?_
  show zV X 2 A (zH G A (zS [AL G al (m + 1) (va_up xs m q), E, LL G dl 0 (fun _ => 0), z1 a (.inr (1, [.int (iI 2), .ref al, .ref dl, v3, v4, v5, v6, .int (iI ((v7 + 1 : Nat) : Int)), .ref st, .int (iI 0), .int (iI 0), .null]))])) (1) (10) 35 [some (.ref a), some (.ref q)] []
  refine zx_pick [3, 0, 2, 1] rfl rfl ?_
  show zV X 2 A (zH G A (zS [z1 a (.inr (1, [.int (iI 2), .ref al, .ref dl, v3, v4, v5, v6, .int (iI ((v7 + 1 : Nat) : Int)), .ref st, .int (iI 0), .int (iI 0), .null])), AL G al (m + 1) (va_up xs m q), LL G dl 0 (fun _ => 0), E])) (1) (10) 35 [some (.ref a), some (.ref q)] []
  exact zx_vret hC hE (by omega) (by omega) (fun H h => ⟨rfl, h⟩) dX1_lays_35
set_option maxHeartbeats 4000000 in
theorem m_X1_roundedR (la : Launch) (G : zG) (a : Nat) (v0 : Value) (al : Nat) (dl : Nat) (v3 : Value) (v4 : Value) (v5 : Value) (v6 : Value) (v7 : Value) (st : Nat) (v9 : Value) (v10 : Value) (v11 : Value) (sg : Nat → Int32) (h : Nat → Nat) (cells : Nat) (g0 : cells ≤ 24) (g1 : 2 ≤ h 3) (g2 : h 3 ≤ 16) (g3 : h 4 ≤ 8) (s0 : sg 0 = iI ((h 3 : Nat) : Int)) (s1 : sg 1 = iI ((h 4 : Nat) : Int)) : zRd la yX1_rounded cX1_rounded 5 (some .int) 1 21 G [.ref a, .int (iI ((cells : Nat) : Int))] (fun H => zhp G (z1 a (.inr (1, [v0, .ref al, .ref dl, v3, v4, v5, v6, v7, .ref st, v9, v10, v11]))) H ∧ zhp G (z1 st (zI G 3 sg)) H) (fun v9 => v9 = some (.int (iI ((rRnd (h 3) (h 4) cells : Nat) : Int)))) := by
  refine zRd.of [some (.ref a), some (.int (iI ((cells : Nat) : Int))), none, none, none] (by decide) (Nat.le_of_ble_eq_true rfl) rfl (fun X hl hC hRm hP hE => ?_)
  obtain ⟨hp0, hp1⟩ := hP
  refine zx_aload_n hC dX1_rounded_0 rfl ?_
  refine zx_getf (v := .ref st) (T := TX1) (N := 12) (ci := 1) (fs := [v0, .ref al, .ref dl, v3, v4, v5, v6, v7, .ref st, v9, v10, v11]) hC in_X1 (zeq hp0.z1) rfl 8 (by decide) q207 (fun _ h => h) rfl dX1_rounded_1 ?_
  refine zx_iconst (z := 0) hC dX1_rounded_4 ?_
  refine zx_ialdN hC (zeq hp1.z1) 0 (by omega) (by omega) dX1_rounded_5 ?_
  refine zx_eq (rest' := [.int (iI ((h 3 : Nat) : Int))]) rfl (by rw [s0]) ?_
  refine zx_istore_n (L' := [some (.ref a), some (.int (iI ((cells : Nat) : Int))), some (.int (iI ((h 3 : Nat) : Int))), none, none]) hC dX1_rounded_6 (by decide) rfl ?_
  refine zx_iconst (z := 0) hC dX1_rounded_7 ?_
  refine zx_istore_n (L' := [some (.ref a), some (.int (iI ((cells : Nat) : Int))), some (.int (iI ((h 3 : Nat) : Int))), some (.int (iI 0)), none]) hC dX1_rounded_8 (by decide) rfl ?_
  refine zx_iload_n hC dX1_rounded_9 rfl ?_
  refine zx_istore (L' := [some (.ref a), some (.int (iI ((cells : Nat) : Int))), some (.int (iI ((h 3 : Nat) : Int))), some (.int (iI 0)), some (.int (iI ((h 3 : Nat) : Int)))]) hC dX1_rounded_10 (by decide) rfl ?_
  have loop : ∀ f n b : Nat, n + 2 * f ≥ 26 → n ≤ 40 → b ≤ 24 → (b = 0 → n ≤ 24) → 0 < n → rRndF (h 3) cells f n b = rRndF (h 3) cells 25 (h 3) 0 → zV X 5 (fun _ => False) (fun H => H = (zs X).heap) 0 0 12 [some (.ref a), some (.int (iI ((cells : Nat) : Int))), some (.int (iI ((h 3 : Nat) : Int))), some (.int (iI ((b : Nat) : Int))), some (.int (iI ((n : Nat) : Int)))] [] := by
    intro f
    induction f with
    | zero =>
      intro n b h1 h2 h3 h4 h6 h5
      have hz1 : zdist n cells ≤ 100 := by unfold zdist; split <;> omega
      have hz2 : zdist b cells ≤ 100 := by unfold zdist; split <;> omega
      change b = _ at h5
      refine zx_iload hC dX1_rounded_12 rfl ?_
      refine zx_bipush (z := 24) hC dX1_rounded_14 rfl ?_
      refine zx_icmp_gtT (tgt := 55) hC dX1_rounded_16 (by decide) (by first | assumption | exact gI _ (by omega) | exact iRm (by omega) (by omega)) (by first | assumption | exact gI _ (by omega) | exact iRm (by omega) (by omega)) (by omega) ?_
      have h9 : b = rRndF (h 3) cells 25 (h 3) 0 := by first | exact h5 | exact (show rRndF (h 3) cells (f + 1) n b = b by simp only [rRndF]; rw [if_neg (by omega)]).symm.trans h5
      refine zx_iload_n hC dX1_rounded_55 rfl ?_
      refine zx_iload_n hC dX1_rounded_56 rfl ?_
      refine zx_isub hC dX1_rounded_57 ?_
      refine zx_mabs hC q952 (by rw [hRm]; exact ⟨Nat.le_of_ble_eq_true rfl, Nat.le_of_ble_eq_true rfl⟩) (Nat.le_of_ble_eq_true rfl) (by rw [hRm]; constructor <;> (first | decide | (simp only []; omega) | omega)) (by first | assumption | exact gI _ (by omega) | exact iRm (by omega) (by omega)) dX1_rounded_58 ?_
      refine zx_topi (b := ((zdist b cells : Nat) : Int)) (by unfold zdist; (repeat' split) <;> omega) ?_
      refine zx_aload_n hC dX1_rounded_61 rfl ?_
      refine zx_getf (v := .ref st) (T := TX1) (N := 12) (ci := 1) (fs := [v0, .ref al, .ref dl, v3, v4, v5, v6, v7, .ref st, v9, v10, v11]) hC in_X1 (zeq hp0.z1) rfl 8 (by decide) q207 (fun _ h => h) rfl dX1_rounded_62 ?_
      refine zx_iconst (z := 1) hC dX1_rounded_65 ?_
      refine zx_ialdN hC (zeq hp1.z1) 1 (by omega) (by omega) dX1_rounded_66 ?_
      refine zx_eq (rest' := [.int (iI ((h 4 : Nat) : Int)), .int (iI ((zdist b cells : Nat) : Int))]) rfl (by rw [s1]) ?_
      refine zx_icmp_gt (tgt := 74) hC dX1_rounded_67 (by decide) (by first | assumption | exact gI _ (by omega) | exact iRm (by omega) (by omega)) (by first | assumption | exact gI _ (by omega) | exact iRm (by omega) (by omega)) (fun c67 => ?_) (fun c67 => ?_)
      · refine zx_iload_n hC dX1_rounded_74 rfl ?_
        refine zx_topi (b := ((rRnd (h 3) (h 4) cells : Nat) : Int)) (by unfold rRnd; rw [← h9]; first | (rw [if_pos (by omega)]; first | done | rfl) | (rw [if_neg (by omega)]; first | done | rfl)) ?_
        exact zx_iret hC hE (Nat.le_refl _) (Nat.le_refl _) (fun H h => ⟨h, rfl⟩) dX1_rounded_75
      · refine zx_iload_n hC dX1_rounded_70 rfl ?_
        refine zx_goto (tgt := 75) hC dX1_rounded_71 (by decide) ?_
        refine zx_topi (b := ((rRnd (h 3) (h 4) cells : Nat) : Int)) (by unfold rRnd; rw [← h9]; first | (rw [if_pos (by omega)]; first | done | rfl) | (rw [if_neg (by omega)]; first | done | rfl)) ?_
        exact zx_iret hC hE (Nat.le_refl _) (Nat.le_refl _) (fun H h => ⟨h, rfl⟩) dX1_rounded_75
    | succ f ih =>
      intro n b h1 h2 h3 h4 h6 h5
      have hz1 : zdist n cells ≤ 100 := by unfold zdist; split <;> omega
      have hz2 : zdist b cells ≤ 100 := by unfold zdist; split <;> omega
      refine zx_iload hC dX1_rounded_12 rfl ?_
      refine zx_bipush (z := 24) hC dX1_rounded_14 rfl ?_
      refine zx_icmp_gt (tgt := 55) hC dX1_rounded_16 (by decide) (by first | assumption | exact gI _ (by omega) | exact iRm (by omega) (by omega)) (by first | assumption | exact gI _ (by omega) | exact iRm (by omega) (by omega)) (fun c16 => ?_) (fun c16 => ?_)
      · have h9 : b = rRndF (h 3) cells 25 (h 3) 0 := by first | exact h5 | exact (show rRndF (h 3) cells (f + 1) n b = b by simp only [rRndF]; rw [if_neg (by omega)]).symm.trans h5
        refine zx_iload_n hC dX1_rounded_55 rfl ?_
        refine zx_iload_n hC dX1_rounded_56 rfl ?_
        refine zx_isub hC dX1_rounded_57 ?_
        refine zx_mabs hC q952 (by rw [hRm]; exact ⟨Nat.le_of_ble_eq_true rfl, Nat.le_of_ble_eq_true rfl⟩) (Nat.le_of_ble_eq_true rfl) (by rw [hRm]; constructor <;> (first | decide | (simp only []; omega) | omega)) (by first | assumption | exact gI _ (by omega) | exact iRm (by omega) (by omega)) dX1_rounded_58 ?_
        refine zx_topi (b := ((zdist b cells : Nat) : Int)) (by unfold zdist; (repeat' split) <;> omega) ?_
        refine zx_aload_n hC dX1_rounded_61 rfl ?_
        refine zx_getf (v := .ref st) (T := TX1) (N := 12) (ci := 1) (fs := [v0, .ref al, .ref dl, v3, v4, v5, v6, v7, .ref st, v9, v10, v11]) hC in_X1 (zeq hp0.z1) rfl 8 (by decide) q207 (fun _ h => h) rfl dX1_rounded_62 ?_
        refine zx_iconst (z := 1) hC dX1_rounded_65 ?_
        refine zx_ialdN hC (zeq hp1.z1) 1 (by omega) (by omega) dX1_rounded_66 ?_
        refine zx_eq (rest' := [.int (iI ((h 4 : Nat) : Int)), .int (iI ((zdist b cells : Nat) : Int))]) rfl (by rw [s1]) ?_
        refine zx_icmp_gt (tgt := 74) hC dX1_rounded_67 (by decide) (by first | assumption | exact gI _ (by omega) | exact iRm (by omega) (by omega)) (by first | assumption | exact gI _ (by omega) | exact iRm (by omega) (by omega)) (fun c67 => ?_) (fun c67 => ?_)
        · refine zx_iload_n hC dX1_rounded_74 rfl ?_
          refine zx_topi (b := ((rRnd (h 3) (h 4) cells : Nat) : Int)) (by unfold rRnd; rw [← h9]; first | (rw [if_pos (by omega)]; first | done | rfl) | (rw [if_neg (by omega)]; first | done | rfl)) ?_
          exact zx_iret hC hE (Nat.le_refl _) (Nat.le_refl _) (fun H h => ⟨h, rfl⟩) dX1_rounded_75
        · refine zx_iload_n hC dX1_rounded_70 rfl ?_
          refine zx_goto (tgt := 75) hC dX1_rounded_71 (by decide) ?_
          refine zx_topi (b := ((rRnd (h 3) (h 4) cells : Nat) : Int)) (by unfold rRnd; rw [← h9]; first | (rw [if_pos (by omega)]; first | done | rfl) | (rw [if_neg (by omega)]; first | done | rfl)) ?_
          exact zx_iret hC hE (Nat.le_refl _) (Nat.le_refl _) (fun H h => ⟨h, rfl⟩) dX1_rounded_75
      · have J19 : zV X 5 (fun _ => False) (fun H => H = (zs X).heap) 0 0 45 [some (.ref a), some (.int (iI ((cells : Nat) : Int))), some (.int (iI ((h 3 : Nat) : Int))), some (.int (iI ((b : Nat) : Int))), some (.int (iI ((n : Nat) : Int)))] [.int (iI ((if b = 0 ∨ zdist n cells < zdist b cells then n else b : Nat) : Int))] := by
          refine zx_istore_n (L' := [some (.ref a), some (.int (iI ((cells : Nat) : Int))), some (.int (iI ((h 3 : Nat) : Int))), some (.int (iI ((if b = 0 ∨ zdist n cells < zdist b cells then n else b : Nat) : Int))), some (.int (iI ((n : Nat) : Int)))]) hC dX1_rounded_45 (by decide) rfl ?_
          refine zx_iload hC dX1_rounded_46 rfl ?_
          refine zx_iload_n hC dX1_rounded_48 rfl ?_
          refine zx_iadd hC dX1_rounded_49 ?_
          refine zx_istore (L' := [some (.ref a), some (.int (iI ((cells : Nat) : Int))), some (.int (iI ((h 3 : Nat) : Int))), some (.int (iI ((if b = 0 ∨ zdist n cells < zdist b cells then n else b : Nat) : Int))), some (.int (iI ((n + (h 3) : Nat) : Int)))]) hC dX1_rounded_50 (by decide) rfl ?_
          refine zx_goto (tgt := 12) hC dX1_rounded_52 (by decide) ?_
          exact ih (n + h 3) _ (by omega) (by omega) (by split <;> omega) (by split <;> omega) (by omega) ((show rRndF (h 3) cells (f + 1) n b = rRndF (h 3) cells f (n + h 3) (if b = 0 ∨ zdist n cells < zdist b cells then n else b) by simp only [rRndF]; rw [if_pos (by omega)]).symm.trans h5)
        refine zx_iload_n hC dX1_rounded_19 rfl ?_
        refine zx_if_eq (tgt := 39) hC dX1_rounded_20 (by decide) (by first | assumption | exact gI _ (by omega) | exact iRm (by omega) (by omega)) (fun c20 => ?_) (fun c20 => ?_)
        · refine zx_iload hC dX1_rounded_39 rfl ?_
          refine zx_goto (tgt := 45) hC dX1_rounded_41 (by decide) ?_
          refine zx_topi (b := ((if b = 0 ∨ zdist n cells < zdist b cells then n else b : Nat) : Int)) (by first | (rw [if_pos (by omega)]; first | done | rfl) | (rw [if_neg (by omega)]; first | done | rfl)) ?_
          exact J19
        · refine zx_iload hC dX1_rounded_23 rfl ?_
          refine zx_iload_n hC dX1_rounded_25 rfl ?_
          refine zx_isub hC dX1_rounded_26 ?_
          refine zx_mabs hC q952 (by rw [hRm]; exact ⟨Nat.le_of_ble_eq_true rfl, Nat.le_of_ble_eq_true rfl⟩) (Nat.le_of_ble_eq_true rfl) (by rw [hRm]; constructor <;> (first | decide | (simp only []; omega) | omega)) (by first | assumption | exact gI _ (by omega) | exact iRm (by omega) (by omega)) dX1_rounded_27 ?_
          refine zx_topi (b := ((zdist n cells : Nat) : Int)) (by unfold zdist; (repeat' split) <;> omega) ?_
          refine zx_iload_n hC dX1_rounded_30 rfl ?_
          refine zx_iload_n hC dX1_rounded_31 rfl ?_
          refine zx_isub hC dX1_rounded_32 ?_
          refine zx_mabs hC q952 (by rw [hRm]; exact ⟨Nat.le_of_ble_eq_true rfl, Nat.le_of_ble_eq_true rfl⟩) (Nat.le_of_ble_eq_true rfl) (by rw [hRm]; constructor <;> (first | decide | (simp only []; omega) | omega)) (by first | assumption | exact gI _ (by omega) | exact iRm (by omega) (by omega)) dX1_rounded_33 ?_
          refine zx_topi (b := ((zdist b cells : Nat) : Int)) (by unfold zdist; (repeat' split) <;> omega) ?_
          refine zx_icmp_ge (tgt := 44) hC dX1_rounded_36 (by decide) (by first | assumption | exact gI _ (by omega) | exact iRm (by omega) (by omega)) (by first | assumption | exact gI _ (by omega) | exact iRm (by omega) (by omega)) (fun c36 => ?_) (fun c36 => ?_)
          · refine zx_iload_n hC dX1_rounded_44 rfl ?_
            refine zx_topi (b := ((if b = 0 ∨ zdist n cells < zdist b cells then n else b : Nat) : Int)) (by first | (rw [if_pos (by omega)]; first | done | rfl) | (rw [if_neg (by omega)]; first | done | rfl)) ?_
            exact J19
          · refine zx_iload hC dX1_rounded_39 rfl ?_
            refine zx_goto (tgt := 45) hC dX1_rounded_41 (by decide) ?_
            refine zx_topi (b := ((if b = 0 ∨ zdist n cells < zdist b cells then n else b : Nat) : Int)) (by first | (rw [if_pos (by omega)]; first | done | rfl) | (rw [if_neg (by omega)]; first | done | rfl)) ?_
            exact J19
  exact loop 25 (h 3) 0 (by omega) (by omega) (by omega) (by omega) (by omega) rfl
