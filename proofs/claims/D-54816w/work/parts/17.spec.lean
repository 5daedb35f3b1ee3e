/-! Plain functions that the walks come to -/
set_option maxRecDepth 100000
/-- the greatest of the first n, and 0 -/
def zmaxT (g : Nat → Nat) : Nat → Nat
  | 0 => 0
  | n + 1 => if g n ≤ zmaxT g n then zmaxT g n else g n
def zsumT (g : Nat → Nat) : Nat → Nat
  | 0 => 0
  | n + 1 => zsumT g n + g n
theorem zmaxT_le {g : Nat → Nat} {B : Nat} : ∀ n, (∀ j, j < n → g j ≤ B) → zmaxT g n ≤ B
  | 0, _ => Nat.zero_le _
  | n + 1, h => by
    have ih := zmaxT_le n (fun j hj => h j (by omega))
    have h1 := h n (by omega)
    simp only [zmaxT]
    split
    · exact ih
    · exact h1
theorem zmaxT_ge {g : Nat → Nat} : ∀ n j, j < n → g j ≤ zmaxT g n
  | 0, j, h => by omega
  | n + 1, j, h => by
    simp only [zmaxT]
    by_cases hj : j = n
    · subst hj; split <;> omega
    · have ih := zmaxT_ge (g := g) n j (by omega)
      split <;> omega
theorem zmaxT_congr {g g' : Nat → Nat} : ∀ n, (∀ j, j < n → g j = g' j) → zmaxT g n = zmaxT g' n
  | 0, _ => rfl
  | n + 1, h => by
    simp only [zmaxT]
    rw [zmaxT_congr n (fun j hj => h j (by omega)), h n (by omega)]
theorem zsumT_congr {g g' : Nat → Nat} : ∀ n, (∀ j, j < n → g j = g' j) → zsumT g n = zsumT g' n
  | 0, _ => rfl
  | n + 1, h => by
    simp only [zsumT]
    rw [zsumT_congr n (fun j hj => h j (by omega)), h n (by omega)]
theorem zsumT_le {g : Nat → Nat} {B : Nat} : ∀ n, (∀ j, j < n → g j ≤ B) → zsumT g n ≤ B * n
  | 0, _ => Nat.le_refl _
  | n + 1, h => by
    have ih := zsumT_le n (fun j hj => h j (by omega))
    have h1 := h n (by omega)
    simp only [zsumT]
    rw [Nat.mul_succ]
    omega
/-- a truth as an int -/
def zB (p : Prop) [Decidable p] : Int := if p then 1 else 0
theorem zB_t {p : Prop} [Decidable p] (h : p) : zB p = 1 := if_pos h
theorem zB_f {p : Prop} [Decidable p] (h : ¬ p) : zB p = 0 := if_neg h
theorem zB_01 (p : Prop) [Decidable p] : zB p = 0 ∨ zB p = 1 := by unfold zB; split <;> simp
theorem zB_R (p : Prop) [Decidable p] : iR (zB p) := by rcases zB_01 p with h | h <;> rw [h] <;> exact ⟨by decide, by decide⟩
theorem zcmp_R (a b : Int) : iR (zcmp a b) := by have := zcmp_r a b; exact iRm (by omega) (by omega)
theorem zfit {z : Int} (h : z = 0 ∨ z = 1) : fits .boolean (.int (iI z)) = true := by rcases h with rfl | rfl <;> rfl
section ZB
variable {X : zX} {G : zG} {cc : ByteArray} {nL : Nat} {own : String} {A : Nat → Prop} {P : Heap → Prop} {k n pc : Nat} {L : List (Option Value)} {rest : List Value}
theorem zx_if_eqB (hC : zC X G cc nL own) {p : Prop} [Decidable p] {off : Int} {tgt : Nat} (hd : decode cc pc = .ok (.ifCond .eq off, 3)) (ht : (pc : Int) + off = (tgt : Int))
    (kt : ¬ p → zV X nL A P k n tgt L rest) (kf : p → zV X nL A P k n (pc + 3) L rest) : zV X nL A P k n pc L (.int (iI (zB p)) :: rest) :=
  zx_if_eq hC hd ht (zB_R p) (fun h => kt (fun q => by rw [zB_t q] at h; omega)) (fun h => kf (by by_cases q : p; exact q; exact absurd (zB_f q) h))
theorem zx_if_neB (hC : zC X G cc nL own) {p : Prop} [Decidable p] {off : Int} {tgt : Nat} (hd : decode cc pc = .ok (.ifCond .ne off, 3)) (ht : (pc : Int) + off = (tgt : Int))
    (kt : p → zV X nL A P k n tgt L rest) (kf : ¬ p → zV X nL A P k n (pc + 3) L rest) : zV X nL A P k n pc L (.int (iI (zB p)) :: rest) :=
  zx_if_ne hC hd ht (zB_R p) (fun h => kt (by by_cases q : p; exact q; exact absurd (zB_f q) h)) (fun h => kf (fun q => by rw [zB_t q] at h; omega))
end ZB
/-! the reference's functions -/
def rLen (h : Nat → Nat) (n : Nat) : Nat := zmaxT (fun k => h (14 + k)) n
def rLoop (h : Nat → Nat) : Nat := rLen h (h 7)
/-- the lengths of the layers that are there -/
def rLs (h : Nat → Nat) : Prop := h 7 ≤ 6 ∧ (∀ j, j < 6 → h (14 + j) ≤ 48) ∧ ∀ j, j < h 7 → 1 ≤ h (14 + j)
theorem rLs.le {h : Nat → Nat} (H : rLs h) {j : Nat} (hj : j < 6) : h (14 + j) ≤ 48 := H.2.1 j hj
theorem rLs.up {h : Nat → Nat} {j v : Nat} (H : rLs h) (h1 : j ≠ 7) (h2 : j < 14 ∨ 20 ≤ j) : rLs (va_up h j v) := by
  have e : ∀ i, i ≠ j → va_up h j v i = h i := fun i hi => va_up_ne _ _ hi
  refine ⟨by rw [e 7 (by omega)]; exact H.1, fun i hi => by rw [e _ (by omega)]; exact H.2.1 i hi, fun i hi => ?_⟩
  have h7 := H.1
  rw [e 7 (by omega)] at hi
  rw [e _ (by omega)]; exact H.2.2 i hi
theorem rLen_up {h : Nat → Nat} {j v n : Nat} (hn : n ≤ 6) (h2 : j < 14 ∨ 20 ≤ j) : rLen (va_up h j v) n = rLen h n := zmaxT_congr n (fun i hi => va_up_ne _ _ (by omega))
theorem rLoop_up {h : Nat → Nat} {j v : Nat} (h7 : h 7 ≤ 6) (h1 : j ≠ 7) (h2 : j < 14 ∨ 20 ≤ j) : rLoop (va_up h j v) = rLoop h := by
  unfold rLoop
  rw [va_up_ne _ _ (Ne.symm h1)]
  exact rLen_up h7 h2
theorem rLen_le {h : Nat → Nat} (H : rLs h) {n : Nat} (hn : n ≤ 6) : rLen h n ≤ 48 := zmaxT_le n (fun j hj => H.le (by omega))
theorem rLoop_le {h : Nat → Nat} (H : rLs h) : rLoop h ≤ 48 := rLen_le H H.1
def rHM (h : Nat → Nat) : Prop := ∀ j, j < 6 → h (20 + j) ≤ 1
theorem rHM.up {h : Nat → Nat} {j v : Nat} (H : rHM h) (h2 : j < 20 ∨ 26 ≤ j) : rHM (va_up h j v) := fun i hi => by rw [va_up_ne _ _ (by omega)]; exact H i hi
/-- a truth as a number -/
def zN (p : Prop) [Decidable p] : Nat := if p then 1 else 0
theorem zN_t {p : Prop} [Decidable p] (h : p) : zN p = 1 := if_pos h
theorem zN_f {p : Prop} [Decidable p] (h : ¬ p) : zN p = 0 := if_neg h
theorem zN_le (p : Prop) [Decidable p] : zN p ≤ 1 := by unfold zN; split <;> omega
theorem zB_N (p : Prop) [Decidable p] : zB p = ((zN p : Nat) : Int) := by unfold zB zN; split <;> rfl
def zdist (a b : Nat) : Nat := if a ≤ b then b - a else a - b
def zmaxF (m0 : Nat) (g : Nat → Nat) : Nat → Nat
  | 0 => m0
  | n + 1 => if g n ≤ zmaxF m0 g n then zmaxF m0 g n else g n
theorem zmaxF_le {g : Nat → Nat} {m0 B : Nat} (h0 : m0 ≤ B) : ∀ n, (∀ j, j < n → g j ≤ B) → zmaxF m0 g n ≤ B
  | 0, _ => h0
  | n + 1, h => by
    have ih := zmaxF_le h0 n (fun j hj => h j (by omega))
    have h1 := h n (by omega)
    simp only [zmaxF]
    split
    · exact ih
    · exact h1
def rFb (F : Nat → Nat → Nat → Nat) : Prop := ∀ l c k, F l c k ≤ 99
def rRuns (h : Nat → Nat) : Prop := h 0 = 1 ∨ h 0 = 3
def rWhyPress (h : Nat → Nat) : Int := if (h 0 = 1 ∨ h 0 = 3) ∧ h 11 = 0 then -2 else if h 0 = 2 ∧ h 7 = 6 then -3 else 0
def rWhyStop (h : Nat → Nat) : Int := if h 0 = 0 ∨ h 0 = 4 then -2 else 0
def rWhyHit (h : Nat → Nat) (key force : Int) : Int := if ¬ ((0 ≤ key ∧ key ≤ 23) ∧ 1 ≤ force ∧ force ≤ 99) then -1 else if h 0 = 1 ∨ h 0 = 3 then 0 else -2
def rWhyPeel (h : Nat → Nat) : Int := if (h 0 = 1 ∨ h 0 = 3) ∨ h 7 < 2 then -2 else 0
def rWhyBack (h : Nat → Nat) : Int := if (h 0 = 1 ∨ h 0 = 3) ∨ h 8 = 0 then -2 else 0
/-- the rounding's loop -/
def rRndF (bar cells : Nat) : Nat → Nat → Nat → Nat
  | 0, _, b => b
  | f + 1, n, b => if n ≤ 24 then rRndF bar cells f (n + bar) (if b = 0 ∨ zdist n cells < zdist b cells then n else b) else b
def rRnd (bar slack cells : Nat) : Nat := if 0 < rRndF bar cells 25 bar 0 ∧ zdist (rRndF bar cells 25 bar 0) cells ≤ slack then rRndF bar cells 25 bar 0 else cells
theorem rRndF_le (bar cells : Nat) : ∀ f n b, b ≤ 24 → rRndF bar cells f n b ≤ 24
  | 0, n, b, h => h
  | f + 1, n, b, h => by
    simp only [rRndF]
    split
    · refine rRndF_le bar cells f _ _ ?_
      split <;> omega
    · exact h
def rAdds (h : Nat → Nat) (F : Nat → Nat → Nat → Nat) (l c k : Nat) : Nat := if h (20 + l) = 1 ∨ 36 ≤ k + 12 * h 2 then 0 else F l (c % h (14 + l)) (k + 12 * h 2)
def rRing (h : Nat → Nat) (F : Nat → Nat → Nat → Nat) (m c k : Nat) : Nat := zsumT (fun l => rAdds h F l c k) m
def rSum (h : Nat → Nat) (F : Nat → Nat → Nat → Nat) (m c : Nat) : Nat := zsumT (fun k => rRing h F m c k) 36
theorem rAdds_le {h : Nat → Nat} {F : Nat → Nat → Nat → Nat} (gF : rFb F) (l c k : Nat) : rAdds h F l c k ≤ 99 := by
  unfold rAdds; split
  · omega
  · exact gF _ _ _
theorem rRing_le {h : Nat → Nat} {F : Nat → Nat → Nat → Nat} (gF : rFb F) (m c k : Nat) : rRing h F m c k ≤ 99 * m := zsumT_le m (fun l _ => rAdds_le gF l c k)
theorem rSum_le {h : Nat → Nat} {F : Nat → Nat → Nat → Nat} (gF : rFb F) (m c : Nat) : rSum h F m c ≤ (99 * m) * 36 := zsumT_le 36 (fun k _ => rRing_le gF m c k)
/-- which key is found -/
def rFnd (g : Nat → Nat) (what : Nat) : Nat → Int
  | 0 => -4
  | i + 1 => if (if what = 2 then 0 < g i else if what = 3 then 0 < g i ∧ rFnd g what i < 0 else zmaxT g i < g i) then (i : Int) else rFnd g what i
theorem rFnd_r (g : Nat → Nat) (what : Nat) : ∀ i, -4 ≤ rFnd g what i ∧ rFnd g what i < i
  | 0 => by simp [rFnd]
  | i + 1 => by
    have ih := rFnd_r g what i
    unfold rFnd
    split <;> omega
def rKeys (h : Nat → Nat) (F : Nat → Nat → Nat → Nat) (c what : Nat) : Int := if what = 0 then ((zsumT (fun k => zN (0 < rRing h F (h 7) c k)) 36 : Nat) : Int) else rFnd (fun k => rRing h F (h 7) c k) what 36
def rBur (h : Nat → Nat) (F : Nat → Nat → Nat → Nat) (l : Nat) : Nat := zsumT (fun k => zN (0 < rAdds h F l (k / 36) (k % 36) ∧ 2 * rAdds h F l (k / 36) (k % 36) < rRing h F (h 7) (k / 36) (k % 36))) (rLoop h * 36)
def rSumOf (h : Nat → Nat) (F : Nat → Nat → Nat → Nat) (m : Nat) : Nat := zsumT (fun c => rSum h F m c) (rLen h m)
def rGreatL (h : Nat → Nat) (F : Nat → Nat → Nat → Nat) : Nat → Nat
  | 0 => 0
  | l + 1 => zmaxF (rGreatL h F l) (fun k => rAdds h F l (k / 36) (k % 36)) (h (14 + l) * 36)
def rGreat (h : Nat → Nat) (F : Nat → Nat → Nat → Nat) : Nat := rGreatL h F (h 7)
theorem rGreatL_le {h : Nat → Nat} {F : Nat → Nat → Nat → Nat} (gF : rFb F) : ∀ l, rGreatL h F l ≤ 99
  | 0 => Nat.zero_le _
  | l + 1 => zmaxF_le (rGreatL_le gF l) _ (fun j _ => rAdds_le gF _ _ _)
section ZCC
variable {X : zX} {G : zG} {cc : ByteArray} {nL : Nat} {own : String} {A : Nat → Prop} {P : Heap → Prop} {k n pc : Nat} {L : List (Option Value)} {rest : List Value}
theorem zcmp_eq0 {a b : Int} : zcmp a b = 0 ↔ a = b := by unfold zcmp; split <;> (try split) <;> omega
theorem zx_if_eqC (hC : zC X G cc nL own) {a b : Int} {off : Int} {tgt : Nat} (hd : decode cc pc = .ok (.ifCond .eq off, 3)) (ht : (pc : Int) + off = (tgt : Int))
    (kt : a = b → zV X nL A P k n tgt L rest) (kf : ¬ a = b → zV X nL A P k n (pc + 3) L rest) : zV X nL A P k n pc L (.int (iI (zcmp a b)) :: rest) := zx_if_eq hC hd ht (zcmp_R a b) (fun h => kt (zcmp_eq0.mp h)) (fun h => kf (fun q => h (zcmp_eq0.mpr q)))
theorem zx_if_neC (hC : zC X G cc nL own) {a b : Int} {off : Int} {tgt : Nat} (hd : decode cc pc = .ok (.ifCond .ne off, 3)) (ht : (pc : Int) + off = (tgt : Int))
    (kt : ¬ a = b → zV X nL A P k n tgt L rest) (kf : a = b → zV X nL A P k n (pc + 3) L rest) : zV X nL A P k n pc L (.int (iI (zcmp a b)) :: rest) := zx_if_ne hC hd ht (zcmp_R a b) (fun h => kt (fun q => h (zcmp_eq0.mpr q))) (fun h => kf (zcmp_eq0.mp h))
theorem zx_if_ltC (hC : zC X G cc nL own) {a b : Int} {off : Int} {tgt : Nat} (hd : decode cc pc = .ok (.ifCond .lt off, 3)) (ht : (pc : Int) + off = (tgt : Int))
    (kt : a < b → zV X nL A P k n tgt L rest) (kf : ¬ a < b → zV X nL A P k n (pc + 3) L rest) : zV X nL A P k n pc L (.int (iI (zcmp a b)) :: rest) := zx_if_lt hC hd ht (zcmp_R a b) (fun h => kt (zcmp_lt.mp h)) (fun h => kf (fun q => h (zcmp_lt.mpr q)))
theorem zx_if_geC (hC : zC X G cc nL own) {a b : Int} {off : Int} {tgt : Nat} (hd : decode cc pc = .ok (.ifCond .ge off, 3)) (ht : (pc : Int) + off = (tgt : Int))
    (kt : b ≤ a → zV X nL A P k n tgt L rest) (kf : ¬ b ≤ a → zV X nL A P k n (pc + 3) L rest) : zV X nL A P k n pc L (.int (iI (zcmp a b)) :: rest) := zx_if_ge hC hd ht (zcmp_R a b) (fun h => kt (zcmp_ge.mp h)) (fun h => kf (fun q => h (zcmp_ge.mpr q)))
theorem zx_if_gtC (hC : zC X G cc nL own) {a b : Int} {off : Int} {tgt : Nat} (hd : decode cc pc = .ok (.ifCond .gt off, 3)) (ht : (pc : Int) + off = (tgt : Int))
    (kt : b < a → zV X nL A P k n tgt L rest) (kf : ¬ b < a → zV X nL A P k n (pc + 3) L rest) : zV X nL A P k n pc L (.int (iI (zcmp a b)) :: rest) := zx_if_gt hC hd ht (zcmp_R a b) (fun h => kt (zcmp_gt.mp h)) (fun h => kf (fun q => h (zcmp_gt.mpr q)))
theorem zx_if_leC (hC : zC X G cc nL own) {a b : Int} {off : Int} {tgt : Nat} (hd : decode cc pc = .ok (.ifCond .le off, 3)) (ht : (pc : Int) + off = (tgt : Int))
    (kt : a ≤ b → zV X nL A P k n tgt L rest) (kf : ¬ a ≤ b → zV X nL A P k n (pc + 3) L rest) : zV X nL A P k n pc L (.int (iI (zcmp a b)) :: rest) := zx_if_le hC hd ht (zcmp_R a b) (fun h => kt (zcmp_le.mp h)) (fun h => kf (fun q => h (zcmp_le.mpr q)))
end ZCC
def rBoth (a b : Nat) : Nat := if a + b < 99 then a + b else 99
theorem rBoth_le (a b : Nat) : rBoth a b ≤ 99 := by unfold rBoth; split <;> omega
/-- a layer filled, key by key -/
def zfil (F : Nat → Nat → Nat → Nat) (l0 : Nat) (v : Nat → Nat → Nat) (i : Nat) : Nat → Nat → Nat → Nat := fun l c k => if l = l0 ∧ k < 36 ∧ c * 36 + k < i then v c k else F l c k
theorem zfil_0 (F : Nat → Nat → Nat → Nat) (l0 : Nat) (v : Nat → Nat → Nat) : zfil F l0 v 0 = F := by
  funext l c k; unfold zfil; rw [if_neg (by omega)]
theorem zfil_at (F : Nat → Nat → Nat → Nat) (l0 : Nat) (v : Nat → Nat → Nat) (i : Nat) : zfil F l0 v i l0 (i / 36) (i % 36) = F l0 (i / 36) (i % 36) := by
  unfold zfil; rw [if_neg (by omega)]
theorem zfil_ne {F : Nat → Nat → Nat → Nat} {l0 : Nat} {v : Nat → Nat → Nat} {i l c k : Nat} (h : l ≠ l0) : zfil F l0 v i l c k = F l c k := by
  unfold zfil; rw [if_neg (fun q => h q.1)]
def rLayF (F : Nat → Nat → Nat → Nat) (l0 on : Nat) (cl : Nat → Nat → Nat → Nat) (i : Nat) : Nat → Nat → Nat → Nat := zfil cl l0 (fun c k => rBoth (F 6 c k) (if on = 0 then 0 else F 6 (c + on) k)) i
def rLayH (h : Nat → Nat) (cells : Nat) : Nat → Nat := va_up (va_up (va_up (va_up (va_up (va_up h (14 + h 7) cells) (20 + h 7) 0) (26 + h 7) 0) 7 (h 7 + 1)) 8 0) 13 (h 13 + 1)
theorem rLayH_o {h : Nat → Nat} {cells j : Nat} (hj : j < 14) (h7 : j ≠ 7) (h8 : j ≠ 8) (h13 : j ≠ 13) : rLayH h cells j = h j := by
  unfold rLayH
  rw [va_up_ne _ _ (by omega), va_up_ne _ _ (by omega), va_up_ne _ _ (by omega), va_up_ne _ _ (by omega), va_up_ne _ _ (by omega), va_up_ne _ _ (by omega)]
def rStarts (h : Nat → Nat) : Nat → Nat := va_up (va_up (va_up (va_up h 0 2) 1 0) 9 0) 10 0
def rBegH (h : Nat → Nat) : Nat → Nat := va_up (va_up (va_up h 0 (if h 0 = 0 then 1 else 3)) 12 (h 1)) 11 0
def rAge (h : Nat → Nat) : Nat → Nat → Nat
  | 0 => h
  | j + 1 => va_up (rAge h j) (26 + j) (rAge h j (26 + j) + 1)
theorem rAge_o {h : Nat → Nat} : ∀ n j, j < 26 → rAge h n j = h j
  | 0, _, _ => rfl
  | n + 1, j, hj => by
    unfold rAge
    rw [va_up_ne _ _ (by omega)]
    exact rAge_o n j hj
def rFadF (h : Nat → Nat) (F : Nat → Nat → Nat → Nat) : Nat → Nat → Nat → Nat → Nat
  | 0 => F
  | j + 1 => zfil (rFadF h F j) j (fun c k => rFadF h F j j c k * (100 - h 5) / 100) (h (14 + j) * 36)
theorem rFad1 {x p : Nat} (h : x ≤ 99) (hp : p ≤ 100) : x * p / 100 ≤ x := by
  have h1 : x * p ≤ x * 100 := Nat.mul_le_mul_left x hp
  omega
theorem rFadF_le {h : Nat → Nat} {F : Nat → Nat → Nat → Nat} (gF : rFb F) : ∀ j, rFb (rFadF h F j)
  | 0 => gF
  | j + 1 => fun l c k => by
    unfold rFadF zfil
    have h1 := rFadF_le (h := h) gF j
    split
    · exact Nat.le_trans (rFad1 (h1 _ _ _) (by omega)) (h1 _ _ _)
    · exact h1 _ _ _
def rFadH (h : Nat → Nat) : Nat → Nat := rAge h (h 7)
def rCnt (F : Nat → Nat → Nat → Nat) (l cells : Nat) : Nat := zsumT (fun k => zN (0 < F l (k / 36) (k % 36))) (cells * 36)
def rTot (F : Nat → Nat → Nat → Nat) (l cells : Nat) : Nat := zsumT (fun k => F l (k / 36) (k % 36)) (cells * 36)
def rMax (F : Nat → Nat → Nat → Nat) (l cells : Nat) : Nat := zmaxT (fun k => F l (k / 36) (k % 36)) (cells * 36)
theorem rLayF_0 (F : Nat → Nat → Nat → Nat) (l0 on : Nat) (cl : Nat → Nat → Nat → Nat) : rLayF F l0 on cl 0 = cl := zfil_0 _ _ _
theorem rLayF_6 {F : Nat → Nat → Nat → Nat} {l0 on i c k : Nat} (h : l0 < 6) : rLayF F l0 on (zclF F l0) i 6 c k = F 6 c k := by
  unfold rLayF
  rw [zfil_ne (by omega)]
  unfold zclF
  rw [if_neg (by omega)]
theorem zfil_s (F : Nat → Nat → Nat → Nat) (l0 : Nat) (v : Nat → Nat → Nat) (i : Nat) : zupF (zfil F l0 v i) l0 (i / 36) (i % 36) (v (i / 36) (i % 36)) = zfil F l0 v (i + 1) := by
  funext l c k
  simp only [zupF, zfil]
  by_cases h1 : l = l0 ∧ c = i / 36 ∧ k = i % 36
  · obtain ⟨rfl, rfl, rfl⟩ := h1
    rw [if_pos ⟨rfl, rfl, rfl⟩, if_pos (by omega)]
  · rw [if_neg h1]
    by_cases h2 : l = l0 ∧ k < 36 ∧ c * 36 + k < i
    · rw [if_pos h2, if_pos (by omega)]
    · rw [if_neg h2, if_neg (by omega)]
theorem rRnd_le {bar slack cells : Nat} (h : cells ≤ 24) : rRnd bar slack cells ≤ 24 := by
  unfold rRnd; split
  · exact rRndF_le _ _ _ _ _ (by omega)
  · exact h
def rEndFC (h : Nat → Nat) : Nat := rRnd (h 3) (h 4) (if (h 11 + 1) / 2 < 24 then (h 11 + 1) / 2 else 24)
theorem rEndFC_le (h : Nat → Nat) : rEndFC h ≤ 24 := rRnd_le (by split <;> omega)
def rEndFH (h : Nat → Nat) : Nat → Nat := rStarts (va_up (va_up (rLayH h (rEndFC h)) 6 (rEndFC h)) 11 0)
def rEndFF (h : Nat → Nat) (F : Nat → Nat → Nat → Nat) : Nat → Nat → Nat → Nat := zclF (rLayF F (h 7) 0 (zclF F (h 7)) (rEndFC h * 36)) 6
def rEndOv (h : Nat → Nat) (F : Nat → Nat → Nat → Nat) : zRS := if rLoop h = 2 * h 6 ∨ 2 * h 6 < h 11 then (va_up (va_up (va_up (rLayH h (2 * h 6)) 1 ((h 12 + h 11) % (4 * h 6))) 11 0) 0 2, zclF (rLayF F (h 7) 0 (zclF F (h 7)) (2 * h 6 * 36)) 6) else (va_up (va_up (rLayH h (h 6)) 11 0) 0 2, zclF (rLayF F (h 7) (h 6) (zclF F (h 7)) (h 6 * 36)) 6)
def rPress (h : Nat → Nat) (F : Nat → Nat → Nat → Nat) : zRS := if h 0 = 1 then (rEndFH h, rEndFF h F) else if h 0 = 3 then rEndOv h F else if h 0 = 4 then (rStarts h, F) else (rBegH h, zclF F 6)
def rStopH (h : Nat → Nat) : Nat → Nat := va_up (va_up h 0 (if h 0 = 1 then 0 else 4)) 11 0
def rCell (h : Nat → Nat) : Nat := if h 0 = 1 then h 11 / 2 else (h 12 + h 11) / 2 % (2 * h 6)
def rThen (h : Nat → Nat) (F : Nat → Nat → Nat → Nat) (key force : Nat) : Nat := rBoth (F 6 (rCell h) (key + 12 * h 2)) force
def rPeelH (h : Nat → Nat) : Nat → Nat := if rLoop (va_up (va_up h 7 (h 7 - 1)) 8 (h 8 + 1)) < rLoop h then va_up (va_up (va_up h 7 (h 7 - 1)) 8 (h 8 + 1)) 1 (h 1 % (2 * rLoop (va_up (va_up h 7 (h 7 - 1)) 8 (h 8 + 1)))) else va_up (va_up h 7 (h 7 - 1)) 8 (h 8 + 1)
theorem rLoop_pos {h : Nat → Nat} (H : rLs h) (h7 : 1 ≤ h 7) : 1 ≤ rLoop h := Nat.le_trans (H.2.2 0 h7) (zmaxT_ge (g := fun k => h (14 + k)) (h 7) 0 h7)
theorem rLs.peel {h : Nat → Nat} (H : rLs h) (v : Nat) : rLs (va_up (va_up h 7 (h 7 - 1)) 8 v) := by
  refine rLs.up ?_ (by omega) (by omega)
  refine ⟨by rw [va_up_self]; have := H.1; omega, fun i hi => by rw [va_up_ne _ _ (by omega)]; exact H.2.1 i hi, fun i hi => ?_⟩
  rw [va_up_self] at hi
  rw [va_up_ne _ _ (by omega)]; exact H.2.2 i (by omega)
/-- one tick of the reference: its mode, and what then -/
def rTickP (h : Nat → Nat) (F : Nat → Nat → Nat → Nat) : zRS × Nat :=
  if 2 * rLoop h ≤ h 1 + (2 - h 2) then ((rFadH (va_up (va_up (va_up (va_up (va_up h 11 (h 11 + (if h 0 = 2 then 0 else 2 - h 2))) 1 (h 1 + (2 - h 2))) 10 (h 10 + (2 - h 2))) 1 (h 1 + (2 - h 2) - 2 * rLoop h)) 9 (h 9 + 1)),
      rFadF (va_up (va_up (va_up (va_up (va_up h 11 (h 11 + (if h 0 = 2 then 0 else 2 - h 2))) 1 (h 1 + (2 - h 2))) 10 (h 10 + (2 - h 2))) 1 (h 1 + (2 - h 2) - 2 * rLoop h)) 9 (h 9 + 1)) F (h 7)), 1)
  else ((va_up (va_up (va_up h 11 (h 11 + (if h 0 = 2 then 0 else 2 - h 2))) 1 (h 1 + (2 - h 2))) 10 (h 10 + (2 - h 2)), F), 0)
theorem rFadH_o {h : Nat → Nat} {j : Nat} (hj : j < 26) : rFadH h j = h j := rAge_o _ _ hj
theorem rLs.cg {h h' : Nat → Nat} (H : rLs h) (h7 : h' 7 = h 7) (hl : ∀ j, j < 6 → h' (14 + j) = h (14 + j)) : rLs h' := by
  have g7 := H.1
  refine ⟨by rw [h7]; exact H.1, fun j hj => by rw [hl j hj]; exact H.2.1 j hj, fun j hj => ?_⟩
  rw [h7] at hj
  rw [hl j (by omega)]; exact H.2.2 j hj
theorem rLs.fad {h : Nat → Nat} (H : rLs h) : rLs (rFadH h) := H.cg (rFadH_o (by omega)) (fun j hj => rFadH_o (by omega))
theorem rLoop_cg {h h' : Nat → Nat} (g7 : h 7 ≤ 6) (h7 : h' 7 = h 7) (hl : ∀ j, j < 6 → h' (14 + j) = h (14 + j)) : rLoop h' = rLoop h := by
  unfold rLoop rLen
  rw [h7]
  exact zmaxT_congr _ (fun j hj => hl j (by omega))
/-- one tick of the reference -/
def rTick (h : Nat → Nat) (F : Nat → Nat → Nat → Nat) : zRS × Nat :=
  if h 0 = 0 ∨ h 0 = 4 then ((h, F), 0)
  else if h 0 = 1 then (if 48 ≤ h 11 + (if h 0 = 2 then 0 else 2 - h 2) then ((rEndFH (va_up h 11 (h 11 + (if h 0 = 2 then 0 else 2 - h 2))), rEndFF (va_up h 11 (h 11 + (if h 0 = 2 then 0 else 2 - h 2))) F), 0) else ((va_up h 11 (h 11 + (if h 0 = 2 then 0 else 2 - h 2)), F), 0))
  else if h 0 = 3 ∧ 4 * h 6 ≤ h 11 + (if h 0 = 2 then 0 else 2 - h 2) then (rEndOv (rTickP h F).1.1 (rTickP h F).1.2, (rTickP h F).2) else rTickP h F
/-- what a tick asks -/
def rTkOK (σ : zRS) : Prop := σ.1 0 ≤ 4 ∧ σ.1 1 < 1000 ∧ σ.1 2 ≤ 1 ∧ 2 ≤ σ.1 3 ∧ σ.1 3 ≤ 16 ∧ σ.1 4 ≤ 8 ∧ σ.1 5 ≤ 100 ∧ σ.1 6 ≤ 24 ∧ (σ.1 0 = 3 → 1 ≤ σ.1 6) ∧ (σ.1 0 = 1 ∨ σ.1 0 = 3 → σ.1 7 < 6) ∧ σ.1 11 < 500 ∧ σ.1 12 < 500 ∧ rLs σ.1 ∧ rFb σ.2
def rPass (h : Nat → Nat) (F : Nat → Nat → Nat → Nat) : Nat → zRS × Nat
  | 0 => ((h, F), 0)
  | n + 1 => ((rTick (rPass h F n).1.1 (rPass h F n).1.2).1, (rPass h F n).2 + (rTick (rPass h F n).1.1 (rPass h F n).1.2).2)
