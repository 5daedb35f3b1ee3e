/-! Plain functions: orders carried out -/
set_option maxRecDepth 100000
theorem zosw {a k : Int} {o d : Int} {r : List (Int × Int)} (h : ¬ a = k) : Op.lookupswitch.offset ((k, o) :: r) d a = Op.lookupswitch.offset r d a := if_neg (fun q => h q.symm)
/-- the second number of a hit -/
def tTwo (pd : Nat → Nat) (ln p : Nat) : Int := tNaA pd ln ((tNuE pd ln ((p + 1 : Nat) : Int) 0 99).toNat + 1)
def rGoS (h : Nat → Nat) (F : Nat → Nat → Nat → Nat) (pd : Nat → Nat) (ln p : Nat) (one : Int) : zRS :=
  if tSg pd ln p = 112 then rPress h F else if tSg pd ln p = 115 then (rStopH h, zclF F 6) else if tSg pd ln p = 120 then (rPeelH h, F)
  else if tSg pd ln p = 121 then (va_up (va_up h 7 (h 7 + 1)) 8 (h 8 - 1), F)
  else if tSg pd ln p = 104 then (h, zupF F 6 (rCell h) (one.toNat + 12 * h 2) (rThen h F one.toNat (tTwo pd ln p).toNat))
  else if tSg pd ln p = 116 then (rPass h F one.toNat).1 else (va_up h 2 (1 - h 2), F)
def rGoV (h : Nat → Nat) (F : Nat → Nat → Nat → Nat) (pd : Nat → Nat) (ln p : Nat) (one : Int) : Nat :=
  if tSg pd ln p = 104 then rThen h F one.toNat (tTwo pd ln p).toNat else if tSg pd ln p = 116 then (rPass h F one.toNat).2 else 0
def rGoOK (h : Nat → Nat) (F : Nat → Nat → Nat → Nat) (pd : Nat → Nat) (ln p : Nat) (one : Int) : Prop :=
  rTkOK (h, F) ∧ (tSg pd ln p = 120 → 2 ≤ h 7) ∧ (tSg pd ln p = 121 → 1 ≤ h 8) ∧
  (tSg pd ln p = 104 → 0 ≤ one ∧ one ≤ 23 ∧ 1 ≤ tTwo pd ln p ∧ tTwo pd ln p ≤ 99 ∧ 0 ≤ tNuE pd ln ((p + 1 : Nat) : Int) 0 99 ∧ (h 0 = 1 → h 11 < 48) ∧ (¬ h 0 = 1 → 1 ≤ h 6)) ∧
  (tSg pd ln p = 116 → 0 ≤ one ∧ one < 1000 ∧ ∀ i, i < one.toNat → rTkOK (rPass h F i).1)
def rWhyC (h : Nat → Nat) (pd : Nat → Nat) (ln p : Nat) : Int :=
  if tSg pd ln p = 112 then rWhyPress h else if tSg pd ln p = 115 then rWhyStop h else if tSg pd ln p = 120 then rWhyPeel h else if tSg pd ln p = 121 then rWhyBack h
  else if tSg pd ln p = 104 then rWhyHit h (tNaA pd ln (p + 1)) (tTwo pd ln p) else 0
def rCarS (h : Nat → Nat) (F : Nat → Nat → Nat → Nat) (pd : Nat → Nat) (ln p : Nat) : zRS := if rWhyC h pd ln p = 0 then rGoS h F pd ln p (tNaA pd ln (p + 1)) else (h, F)
def rCarOK (h : Nat → Nat) (F : Nat → Nat → Nat → Nat) (pd : Nat → Nat) (ln p : Nat) : Prop :=
  rTkOK (h, F) ∧ h 8 ≤ 6 ∧ (tSg pd ln p = 104 → iR (tNaA pd ln (p + 1)) ∧ iR (tTwo pd ln p) ∧ 0 ≤ tNuE pd ln ((p + 1 : Nat) : Int) 0 99) ∧ (rWhyC h pd ln p = 0 → rGoOK h F pd ln p (tNaA pd ln (p + 1)))
