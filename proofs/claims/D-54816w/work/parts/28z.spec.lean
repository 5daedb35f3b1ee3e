/-! Plain functions: looks -/
set_option maxRecDepth 100000
/-- the first place of the greatest, -4 if all are 0 -/
def zArg (g : Nat → Nat) : Nat → Int
  | 0 => -4
  | i + 1 => if zmaxT g i < g i then (i : Int) else zArg g i
theorem zArg_r (g : Nat → Nat) : ∀ i, -4 ≤ zArg g i ∧ zArg g i < i
  | 0 => by simp [zArg]
  | i + 1 => by
    have ih := zArg_r g i
    unfold zArg
    split <;> omega
/-- the places of a tune's numbers in the text -/
def tTuP (pd : Nat → Nat) (ln : Nat) : Nat → Nat
  | 0 => 0
  | i + 1 => (tNuE pd ln ((tTuP pd ln i : Nat) : Int) 0 35).toNat + 1
def rTuA (h : Nat → Nat) (c : Nat) : Nat → Nat
  | 0 => c
  | i + 1 => (rTuA h c i + 1) % rLoop h
def rCome (h : Nat → Nat) (F : Nat → Nat → Nat → Nat) (pd : Nat → Nat) (ln c : Nat) : Nat → Nat
  | 0 => 1
  | i + 1 => if rCome h F pd ln c i = 1 ∧ rKeys h F (rTuA h c i) 2 = tNaA pd ln (tTuP pd ln i) then 1 else 0
theorem rCome_le (h : Nat → Nat) (F : Nat → Nat → Nat → Nat) (pd : Nat → Nat) (ln c : Nat) : ∀ i, rCome h F pd ln c i ≤ 1
  | 0 => Nat.le_refl _
  | i + 1 => by unfold rCome; split <;> omega
/-- the tune: N numbers -/
def tTuOK (pd : Nat → Nat) (ln N : Nat) : Prop := ln ≤ tTuP pd ln N ∧ ∀ i, i < N → tTuP pd ln i < ln ∧ 0 ≤ tNuE pd ln ((tTuP pd ln i : Nat) : Int) 0 35 ∧ iR (tNaA pd ln (tTuP pd ln i))
def zFst (p : Nat → Nat) : Nat → Nat → Int
  | 0, _ => -4
  | f + 1, i => if p i = 0 then (i : Int) else zFst p f (i + 1)
def rMeet (lp bar : Nat) : Nat → Nat → Nat
  | 0, n => n
  | f + 1, n => if n * lp % bar = 0 then n else rMeet lp bar f (n + 1)
def rSil (fade : Nat) : Nat → Nat → Nat → Int
  | 0, _, _ => -4
  | k + 1, f, n => if f = 0 then (n : Int) else rSil fade k (f * (100 - fade) / 100) (n + 1)
def rBarIn (h : Nat → Nat) : Nat := if h 10 % (2 * h 3) = 0 then 0 else 2 * h 3 - h 10 % (2 * h 3)
/-- play: places, states -/
def tPl (pd : Nat → Nat) (ln : Nat) : Nat → Nat
  | 0 => 0
  | i + 1 => (tOrE pd ln (tPl pd ln i)).toNat
def rPlS (h : Nat → Nat) (F : Nat → Nat → Nat → Nat) (pd : Nat → Nat) (ln : Nat) : Nat → zRS
  | 0 => (h, F)
  | i + 1 => rCarS (rPlS h F pd ln i).1 (rPlS h F pd ln i).2 pd ln (tPl pd ln i)
/-- N orders are carried out -/
def rPlOK (h : Nat → Nat) (F : Nat → Nat → Nat → Nat) (pd : Nat → Nat) (ln N : Nat) : Prop := ∀ i, i < N → tPl pd ln i < ln ∧ 0 ≤ tOrE pd ln (tPl pd ln i) ∧ rCarOK (rPlS h F pd ln i).1 (rPlS h F pd ln i).2 pd ln (tPl pd ln i) ∧ rWhyC (rPlS h F pd ln i).1 pd ln (tPl pd ln i) = 0
theorem rBur_le {h : Nat → Nat} (gL : rLs h) (F : Nat → Nat → Nat → Nat) (l : Nat) : rBur h F l ≤ 48 * 36 := by
  have h1 := zsumT_le (g := fun k => zN (0 < rAdds h F l (k / 36) (k % 36) ∧ 2 * rAdds h F l (k / 36) (k % 36) < rRing h F (h 7) (k / 36) (k % 36))) (B := 1) (rLoop h * 36) (fun j _ => zN_le _)
  have h2 := rLoop_le gL
  unfold rBur
  omega
