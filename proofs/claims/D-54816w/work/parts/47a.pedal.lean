/-! A pedal: made again of its parts -/
set_option maxRecDepth 100000
theorem PED_mk {G : zG} {a al dl st tk : Nat} {xs ys : Nat → Nat} {h : Nat → Nat} {F : Nat → Nat → Nat → Nat} {tv : Value} {mode place passes played half laid begin halves l7 l8 x y z : Nat}
    (e0 : mode = h 0) (e1 : place = pPl h) (e9 : passes = h 9) (e10 : played = h 10) (e2 : half = h 2) (e13 : laid = h 13) (e12 : begin = pBe h) (e11 : halves = h 11) (ev : tv = pTv h tk) (e7 : l7 = h 7) (e8 : l8 = h 8) (e3 : x = h 3) (e4 : y = h 4) (e5 : z = h 5) :
    ∀ w, zS [pOb a al dl st tv mode place passes played half laid begin halves, AL G al l7 xs, LL G dl l8 ys, pSe G st x y z, pLs G h F xs 0 l7, pLs G h F ys l7 l8, pTk G tk h F] w → PED G a h F w := by
  intro w hw
  subst e0 e1 e9 e10 e2 e13 e12 e11 ev e7 e8 e3 e4 e5
  exact ⟨al, dl, st, tk, xs, ys, hw⟩
/-- the same layers in another state -/
theorem pLs_cg {G : zG} {h h' : Nat → Nat} {F F' : Nat → Nat → Nat → Nat} {xs : Nat → Nat} {l0 n : Nat} (hl : ∀ i, i < n → h' (14 + (l0 + i)) = h (14 + (l0 + i))) (hm : ∀ i, i < n → h' (20 + (l0 + i)) = h (20 + (l0 + i))) (hp : ∀ i, i < n → h' (26 + (l0 + i)) = h (26 + (l0 + i)))
    (hF : ∀ i, i < n → ∀ c, c < h (14 + (l0 + i)) → ∀ k, k < 36 → F (l0 + i) c k = F' (l0 + i) c k) : ∀ w, pLs G h F xs l0 n w → pLs G h' F' xs l0 n w :=
  zbs_imp (fun i hi w hw => by
    unfold pLy at hw ⊢
    rw [hl i hi, hm i hi, hp i hi]
    exact LAY_imp (hF i hi) w hw)
/-- one more layer -/
theorem pLs_push {G : zG} {h : Nat → Nat} {F : Nat → Nat → Nat → Nat} {xs : Nat → Nat} {q n : Nat} : ∀ w, zS [pLs G h F xs 0 n, LAY G q (h (14 + n)) (F n) (h (20 + n)) (h (26 + n))] w → pLs G h F (va_up xs n q) 0 (n + 1) w := by
  intro w hw
  obtain ⟨w1, w2, h1, h2, rfl⟩ := zS2e hw
  refine zbs_s.mpr ⟨w1, w2, zbs_eq (fun i hi => by rw [va_up_ne _ _ (by omega)]) h1, ?_, rfl⟩
  rw [va_up_self]
  unfold pLy
  rw [Nat.zero_add]
  exact h2
theorem pTk_run {G : zG} {tk : Nat} {h : Nat → Nat} {F : Nat → Nat → Nat → Nat} (hr : pRun h) : pTk G tk h F = LAY G tk (pTl h) (F 6) 0 0 := if_pos hr
theorem pTk_not {G : zG} {tk : Nat} {h : Nat → Nat} {F : Nat → Nat → Nat → Nat} (hr : ¬ pRun h) : pTk G tk h F = zemp := if_neg hr
theorem pTv_run {tk : Nat} {h : Nat → Nat} (hr : pRun h) : pTv h tk = .ref tk := if_pos hr
theorem pTv_not {tk : Nat} {h : Nat → Nat} (hr : ¬ pRun h) : pTv h tk = .null := if_neg hr
def hIni : Nat → Nat := va_up (va_up (fun _ => 0) 3 8) 4 1
theorem pSe_mk {G : zG} {a x y z : Nat} {g : Nat → Int32} (h1 : g 0 = iI ((x : Nat) : Int)) (h2 : g 1 = iI ((y : Nat) : Int)) (h3 : g 2 = iI ((z : Nat) : Int)) : ∀ w, zS [z1 a (zI G 3 g)] w → pSe G a x y z w := fun w hw => ⟨g, [], w, ⟨⟨h1, h2, h3⟩, rfl⟩, hw, rfl⟩
theorem PED_ini {G : zG} {a al dl st : Nat} : ∀ w, zS [z1 a (.inr (1, [.int (iI 0), .ref al, .ref dl, .int (iI 0), .int (iI 0), .int (iI 0), .int (iI 0), .int (iI 0), .ref st, .int (iI 0), .int (iI 0), .null])), AL G al 0 (fun _ => 0), LL G dl 0 (fun _ => 0), pSe G st 8 1 0] w → PED G a hIni (fun _ _ _ => 0) w := by
  intro w hw
  obtain ⟨w1, w2, w3, w4, h1, h2, h3, h4, rfl⟩ := zS4e hw
  exact ⟨al, dl, st, 0, fun _ => 0, fun _ => 0, w1, _, h1, ⟨w2, _, h2, ⟨w3, _, h3, ⟨w4, [], h4, ⟨[], [], rfl, ⟨[], [], rfl, ⟨[], [], rfl, rfl, rfl⟩, rfl⟩, rfl⟩, rfl⟩, rfl⟩, rfl⟩, by simp⟩
