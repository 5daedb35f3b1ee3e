/-! A pedal: made again of its parts -/
set_option maxRecDepth 100000
theorem PED_mk {G : zG} {a al dl st tk : Nat} {xs ys : Nat → Nat} {h : Nat → Nat} {F : Nat → Nat → Nat → Nat} {tv : Value} {mode place passes played half laid begin halves l7 l8 x y z : Nat}
    (e0 : mode = h 0) (e1 : place = pPl h) (e9 : passes = h 9) (e10 : played = h 10) (e2 : half = h 2) (e13 : laid = h 13) (e12 : begin = pBe h) (e11 : halves = h 11) (ev : tv = pTv h tk) (e7 : l7 = h 7) (e8 : l8 = h 8) (e3 : x = h 3) (e4 : y = h 4) (e5 : z = h 5) :
    ∀ w, zS [pOb a al dl st tv mode place passes played half laid begin halves, AL G al l7 xs, LL G dl l8 ys, pSe G st x y z, pLs G h F xs 0 l7, pLs G h F ys l7 l8, pTk G tk h F] w → PED G a h F w := by
  intro w hw
  subst e0 e1 e9 e10 e2 e13 e12 e11 ev e7 e8 e3 e4 e5
  exact ⟨al, dl, st, tk, xs, ys, hw⟩
/-- the same layers in another state -/
theorem pLs_cg {G : zG} {h h' : Nat → Nat} {F F' : Nat → Nat → Nat → Nat} {xs : Nat → Nat} {l0 n : Nat} (hl : ∀ i, i < n → h' (14 + (l0 + i)) = h (14 + (l0 + i))) (hm : ∀ i, i < n → h' (20 + (l0 + i)) = h (20 + (l0 + i))) (hp : ∀ i, i < n → h' (26 + (l0 + i)) = h (26 + (l0 + i)))
    (hF : ∀ i, i < n → ∀ c, c < h (14 + (l0 + i)) → ∀ k, k < 36 → F (l0 + i) c k = F' (l0 + i) c k) : ∀ w, pLs G h F xs l0 n w → pLs G h' F' xs l0 n w :=
  zbs_imp (fun i hi w hw => by
    unfold pLy at hw ⊢
    rw [hl i hi, hm i hi, hp i hi]
    exact LAY_imp (hF i hi) w hw)
/-- one more layer -/
theorem pLs_push {G : zG} {h : Nat → Nat} {F : Nat → Nat → Nat → Nat} {xs : Nat → Nat} {q n : Nat} : ∀ w, zS [pLs G h F xs 0 n, LAY G q (h (14 + n)) (F n) (h (20 + n)) (h (26 + n))] w → pLs G h F (va_up xs n q) 0 (n + 1) w := by
  intro w hw
  obtain ⟨w1, w2, h1, h2, rfl⟩ := zS2e hw
  refine zbs_s.mpr ⟨w1, w2, zbs_eq (fun i hi => by rw [va_up_ne _ _ (by omega)]) h1, ?_, rfl⟩
  rw [va_up_self]
  unfold pLy
  rw [Nat.zero_add]
  exact h2
theorem pTk_run {G : zG} {tk : Nat} {h : Nat → Nat} {F : Nat → Nat → Nat → Nat} (hr : pRun h) : pTk G tk h F = LAY G tk (pTl h) (F 6) 0 0 := if_pos hr
theorem pTk_not {G : zG} {tk : Nat} {h : Nat → Nat} {F : Nat → Nat → Nat → Nat} (hr : ¬ pRun h) : pTk G tk h F = zemp := if_neg hr
theorem pTv_run {tk : Nat} {h : Nat → Nat} (hr : pRun h) : pTv h tk = .ref tk := if_pos hr
theorem pTv_not {tk : Nat} {h : Nat → Nat} (hr : ¬ pRun h) : pTv h tk = .null := if_neg hr
