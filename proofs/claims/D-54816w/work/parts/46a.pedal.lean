/-! A pedal of the component, as the reference's own state (h, F) -/
set_option maxRecDepth 100000
abbrev pRun (h : Nat → Nat) : Prop := h 0 = 1 ∨ h 0 = 3
/-- the place, the beginning, a take's length, its reference -/
def pPl (h : Nat → Nat) : Nat := if h 0 = 2 ∨ h 0 = 3 then h 1 else 0
def pBe (h : Nat → Nat) : Nat := if h 0 = 3 then h 12 else 0
def pTl (h : Nat → Nat) : Nat := if h 0 = 1 then 24 else 2 * h 6
def pTv (h : Nat → Nat) (tk : Nat) : Value := if pRun h then .ref tk else .null
def pTk (G : zG) (tk : Nat) (h : Nat → Nat) (F : Nat → Nat → Nat → Nat) : zAs := if pRun h then LAY G tk (pTl h) (F 6) 0 0 else zemp
def pLy (G : zG) (h : Nat → Nat) (F : Nat → Nat → Nat → Nat) (q l : Nat) : zAs := LAY G q (h (14 + l)) (F l) (h (20 + l)) (h (26 + l))
def pLs (G : zG) (h : Nat → Nat) (F : Nat → Nat → Nat → Nat) (xs : Nat → Nat) (l0 n : Nat) : zAs := zbs n (fun i => pLy G h F (xs i) (l0 + i))
/-- three settings -/
def pSe (G : zG) (a : Nat) (x y z : Nat) : zAs := zex fun g : Nat → Int32 => zS [zpu (g 0 = iI ((x : Nat) : Int) ∧ g 1 = iI ((y : Nat) : Int) ∧ g 2 = iI ((z : Nat) : Int)), z1 a (zI G 3 g)]
def pOb (a al dl st : Nat) (tv : Value) (mode place passes played half laid begin halves : Nat) : zAs :=
  z1 a (.inr (1, [.int (iI ((mode : Nat) : Int)), .ref al, .ref dl, .int (iI ((place : Nat) : Int)), .int (iI ((passes : Nat) : Int)), .int (iI ((played : Nat) : Int)), .int (iI ((half : Nat) : Int)), .int (iI ((laid : Nat) : Int)), .ref st, .int (iI ((begin : Nat) : Int)), .int (iI ((halves : Nat) : Int)), tv]))
def PED (G : zG) (a : Nat) (h : Nat → Nat) (F : Nat → Nat → Nat → Nat) : zAs := zex fun al : Nat => zex fun dl : Nat => zex fun st : Nat => zex fun tk : Nat => zex fun xs : Nat → Nat => zex fun ys : Nat → Nat =>
  zS [pOb a al dl st (pTv h tk) (h 0) (pPl h) (h 9) (h 10) (h 2) (h 13) (pBe h) (h 11), AL G al (h 7) xs, LL G dl (h 8) ys, pSe G st (h 3) (h 4) (h 5), pLs G h F xs 0 (h 7), pLs G h F ys (h 7) (h 8), pTk G tk h F]
theorem pSe_hp {G : zG} {a x y z : Nat} {H : Heap} (h : zhp G (pSe G a x y z) H) : ∃ g : Nat → Int32, g 0 = iI ((x : Nat) : Int) ∧ g 1 = iI ((y : Nat) : Int) ∧ g 2 = iI ((z : Nat) : Int) ∧ va_at G.1 zcl (a, zI G 3 g) H := by
  obtain ⟨g, h1⟩ := h.ex
  have h2 := (h1.mem 0 rfl).pu
  exact ⟨g, h2.1, h2.2.1, h2.2.2, (h1.mem 1 rfl).z1⟩
theorem PED_hp {G : zG} {a : Nat} {h : Nat → Nat} {F : Nat → Nat → Nat → Nat} {H : Heap} (hh : zhp G (PED G a h F) H) : ∃ (al dl st tk : Nat) (xs ys : Nat → Nat),
    zhp G (pOb a al dl st (pTv h tk) (h 0) (pPl h) (h 9) (h 10) (h 2) (h 13) (pBe h) (h 11)) H ∧ zhp G (AL G al (h 7) xs) H ∧ zhp G (LL G dl (h 8) ys) H ∧ zhp G (pSe G st (h 3) (h 4) (h 5)) H ∧ (∀ i, i < h 7 → zhp G (LAY G (xs i) (h (14 + i)) (F i) (h (20 + i)) (h (26 + i))) H) ∧ (pRun h → zhp G (LAY G tk (pTl h) (F 6) 0 0) H) := by
  obtain ⟨al, h1⟩ := hh.ex
  obtain ⟨dl, h2⟩ := h1.ex
  obtain ⟨st, h3⟩ := h2.ex
  obtain ⟨tk, h4⟩ := h3.ex
  obtain ⟨xs, h5⟩ := h4.ex
  obtain ⟨ys, h6⟩ := h5.ex
  refine ⟨al, dl, st, tk, xs, ys, h6.mem 0 rfl, h6.mem 1 rfl, h6.mem 2 rfl, h6.mem 3 rfl, fun i hi => ?_, fun hr => ?_⟩
  · have h7 := (h6.mem 4 rfl).bs i hi
    unfold pLy at h7
    rw [Nat.zero_add] at h7
    exact h7
  · have h8 := h6.mem 6 rfl
    unfold pTk at h8
    rw [if_pos hr] at h8
    exact h8
theorem pOb_at {G : zG} {a al dl st mode place passes played half laid begin halves : Nat} {tv : Value} {H : Heap} (h : zhp G (pOb a al dl st tv mode place passes played half laid begin halves) H) :
    va_at G.1 zcl (a, .inr (1, [.int (iI ((mode : Nat) : Int)), .ref al, .ref dl, .int (iI ((place : Nat) : Int)), .int (iI ((passes : Nat) : Int)), .int (iI ((played : Nat) : Int)), .int (iI ((half : Nat) : Int)), .int (iI ((laid : Nat) : Int)), .ref st, .int (iI ((begin : Nat) : Int)), .int (iI ((halves : Nat) : Int)), tv])) H := h.z1
section ZPd
variable {X : zX} {G : zG}
theorem PED_rc {H : Heap} {a : Nat} {h : Nat → Nat} {F : Nat → Nat → Nat → Nat} (hK : zK G (zs X)) (hh : zhp G (PED G a h F) H) : zrc X RX1 a H := by
  obtain ⟨al, dl, st, tk, xs, ys, h1, -⟩ := PED_hp hh
  exact zrc_of hK (pOb_at h1) (r := (RX1, TX1, 12)) rfl
end ZPd
/-- a ring as it is kept -/
def kRing (h : Nat → Nat) (F : Nat → Nat → Nat → Nat) (m c key : Nat) : Nat := zsumT (fun l => if h (20 + l) = 1 then 0 else F l (c % h (14 + l)) key) m
theorem zsumT_cg {g g' : Nat → Nat} : ∀ {n : Nat}, (∀ j, j < n → g j = g' j) → zsumT g n = zsumT g' n
  | 0, _ => rfl
  | n + 1, h => by
    show zsumT g n + g n = zsumT g' n + g' n
    rw [zsumT_cg (n := n) (fun j hj => h j (by omega)), h n (by omega)]
theorem rRing_in {h : Nat → Nat} {F : Nat → Nat → Nat → Nat} {m c k : Nat} (hk : k + 12 * h 2 < 36) : kRing h F m c (k + 12 * h 2) = rRing h F m c k :=
  zsumT_cg (fun l _ => by
    unfold rAdds
    by_cases q : h (20 + l) = 1
    · rw [if_pos q, if_pos (Or.inl q)]
    · rw [if_neg q, if_neg (by omega)])
theorem rRing_out {h : Nat → Nat} {F : Nat → Nat → Nat → Nat} {c k : Nat} (hk : 36 ≤ k + 12 * h 2) : ∀ m, rRing h F m c k = 0
  | 0 => rfl
  | m + 1 => by
    show rRing h F m c k + rAdds h F m c k = 0
    rw [rRing_out hk m]
    unfold rAdds
    rw [if_pos (Or.inr hk)]
theorem kRing_le {h : Nat → Nat} {F : Nat → Nat → Nat → Nat} (gF : rFb F) (m c key : Nat) : kRing h F m c key ≤ 99 * m := zsumT_le m (fun j _ => by split; exact Nat.zero_le _; exact gF _ _ _)
theorem rRing_le' {h : Nat → Nat} {F : Nat → Nat → Nat → Nat} (gF : rFb F) (m c k : Nat) : rRing h F m c k ≤ 99 * m := zsumT_le m (fun j _ => rAdds_le gF _ _ _)
theorem rFnd_neg (g : Nat → Nat) (what : Nat) : ∀ i, rFnd g what i = -4 ∨ 0 ≤ rFnd g what i
  | 0 => Or.inl rfl
  | i + 1 => by
    have ih := rFnd_neg g what i
    unfold rFnd
    split <;> omega
/-- found from above: the last n keys of 36 -/
def flow (g : Nat → Nat) : Nat → Int
  | 0 => -4
  | n + 1 => if 0 < g (35 - n) then ((35 - n : Nat) : Int) else flow g n
theorem flow_r (g : Nat → Nat) : ∀ n, -4 ≤ flow g n ∧ flow g n ≤ 35
  | 0 => by simp [flow]
  | n + 1 => by
    have ih := flow_r g n
    unfold flow
    split <;> omega
theorem flow_eq (g : Nat → Nat) : ∀ n, n ≤ 36 → (if 0 ≤ rFnd g 3 (36 - n) then rFnd g 3 (36 - n) else flow g n) = rFnd g 3 36
  | 0, _ => by
    rcases rFnd_neg g 3 36 with h | h
    · rw [Nat.sub_zero, h]; rfl
    · rw [Nat.sub_zero, if_pos h]
  | n + 1, hn => by
    rw [← flow_eq g n (by omega)]
    have e : 36 - n = (36 - (n + 1)) + 1 := by omega
    rw [e]
    have e2 : 36 - (n + 1) = 35 - n := by omega
    rw [e2]
    have e3 : rFnd g 3 (35 - n + 1) = if 0 < g (35 - n) ∧ rFnd g 3 (35 - n) < 0 then ((35 - n : Nat) : Int) else rFnd g 3 (35 - n) := rfl
    rw [e3]
    show (if 0 ≤ rFnd g 3 (35 - n) then rFnd g 3 (35 - n) else if 0 < g (35 - n) then ((35 - n : Nat) : Int) else flow g n) = _
    (repeat' split) <;> omega
theorem flow_36 (g : Nat → Nat) : flow g 36 = rFnd g 3 36 := by
  have h := flow_eq g 36 (Nat.le_refl _)
  exact h
theorem zsumT_0 {g : Nat → Nat} : ∀ n, (∀ j, j < n → g j = 0) → zsumT g n = 0
  | 0, _ => rfl
  | n + 1, h => by
    show zsumT g n + g n = 0
    rw [zsumT_0 n (fun j hj => h j (by omega)), h n (by omega)]
theorem rBur_m {h : Nat → Nat} {F : Nat → Nat → Nat → Nat} {l : Nat} (hm : h (20 + l) = 1) : rBur h F l = 0 :=
  zsumT_0 _ (fun j _ => zN_f (by unfold rAdds; rw [if_pos (Or.inl hm)]; omega))
