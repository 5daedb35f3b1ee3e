/-! Plain functions: texts -/
set_option maxRecDepth 100000
/-! texts: the pad pd, its length ln -/
def tSg (pd : Nat → Nat) (ln p : Nat) : Int := if p < ln then ((pd p : Nat) : Int) else -1
def tDg (pd : Nat → Nat) (ln p : Nat) : Int := if 48 ≤ tSg pd ln p ∧ tSg pd ln p ≤ 57 then tSg pd ln p - 48 else -1
/-- where a number ends, once begun: its value so far, the next place -/
def tNuF (pd : Nat → Nat) (ln most : Nat) : Nat → Int → Nat → Nat
  | 0, _, e => e
  | f + 1, v, e => if 0 < v ∧ 0 ≤ tDg pd ln e ∧ 10 * v + tDg pd ln e ≤ most then tNuF pd ln most f (10 * v + tDg pd ln e) (e + 1) else e
def tNuE (pd : Nat → Nat) (ln : Nat) (p : Int) (least most : Nat) : Int := if p < 0 then p else if tDg pd ln p.toNat < least then -1 - p else ((tNuF pd ln most 61 (tDg pd ln p.toNat) (p.toNat + 1) : Nat) : Int)
def tNaF (pd : Nat → Nat) (ln : Nat) : Nat → Int → Nat → Int
  | 0, v, _ => v
  | f + 1, v, k => if 0 ≤ tDg pd ln k then tNaF pd ln f (10 * v + tDg pd ln k) (k + 1) else v
def tNaA (pd : Nat → Nat) (ln p : Nat) : Int := tNaF pd ln 61 0 p
def tBeh (pd : Nat → Nat) (ln : Nat) (p : Int) (sign : Int) : Int := if p < 0 then p else if tSg pd ln p.toNat = sign then p + 1 else -1 - p
def tOrE (pd : Nat → Nat) (ln p : Nat) : Int :=
  if tSg pd ln p = 112 ∨ tSg pd ln p = 115 ∨ tSg pd ln p = 118 ∨ tSg pd ln p = 120 ∨ tSg pd ln p = 121 then (p : Int) + 1
  else if tSg pd ln p = 104 then tNuE pd ln (tBeh pd ln (tNuE pd ln ((p + 1 : Nat) : Int) 0 99) 46) 0 999
  else if tSg pd ln p = 116 then tNuE pd ln ((p + 1 : Nat) : Int) 1 99
  else -1 - (p : Int)
def tPd (pd : Nat → Nat) : Prop := ∀ j, pd j ≤ 127
theorem tSg_r {pd : Nat → Nat} (hp : tPd pd) (ln p : Nat) : -1 ≤ tSg pd ln p ∧ tSg pd ln p ≤ 127 := by
  unfold tSg; have := hp p; split <;> omega
theorem tDg_r (pd : Nat → Nat) (ln p : Nat) : -1 ≤ tDg pd ln p ∧ tDg pd ln p ≤ 9 := by
  unfold tDg; split <;> omega
theorem tDg_out {pd : Nat → Nat} {ln p : Nat} (h : ln ≤ p) : tDg pd ln p = -1 := by
  have e : tSg pd ln p = -1 := if_neg (by omega)
  unfold tDg; rw [e]; rfl
theorem tDg_in {pd : Nat → Nat} {ln p : Nat} (h : 0 ≤ tDg pd ln p) : p < ln := by
  by_cases q : p < ln
  · exact q
  · rw [tDg_out (by omega)] at h; omega
theorem tNuF_r (pd : Nat → Nat) (ln most : Nat) : ∀ f v e, e ≤ tNuF pd ln most f v e ∧ (tNuF pd ln most f v e ≤ e ∨ tNuF pd ln most f v e ≤ ln)
  | 0, v, e => ⟨Nat.le_refl _, Or.inl (Nat.le_refl _)⟩
  | f + 1, v, e => by
    unfold tNuF; split
    · rename_i h
      have h1 := tNuF_r pd ln most f (10 * v + tDg pd ln e) (e + 1)
      have h2 := tDg_in h.2.1
      omega
    · exact ⟨Nat.le_refl _, Or.inl (Nat.le_refl _)⟩
theorem tNuE_r {pd : Nat → Nat} {ln : Nat} {p : Int} {least most : Nat} (hp : -3000 ≤ p) (h1 : p ≤ 1300) (hl : ln ≤ 60) : -3000 ≤ tNuE pd ln p least most ∧ (tNuE pd ln p least most ≤ p + 1 ∨ tNuE pd ln p least most ≤ ln) := by
  unfold tNuE
  have h := tNuF_r pd ln most 61 (tDg pd ln p.toNat) (p.toNat + 1)
  split
  · omega
  · split
    · omega
    · omega
theorem tBeh_r {pd : Nat → Nat} {ln : Nat} {p sign : Int} (hp : -3000 ≤ p) (h1 : p ≤ 1300) : -3000 ≤ tBeh pd ln p sign ∧ tBeh pd ln p sign ≤ max (p + 1) 0 := by
  unfold tBeh; (repeat' split) <;> omega
theorem tOrE_r {pd : Nat → Nat} {ln p : Nat} (hp : p ≤ 900) (hl : ln ≤ 60) : -3000 ≤ tOrE pd ln p ∧ tOrE pd ln p ≤ 1000 := by
  have h1 := tNuE_r (pd := pd) (ln := ln) (p := ((p + 1 : Nat) : Int)) (least := 0) (most := 99) (by omega) (by omega) hl
  have h2 := tBeh_r (pd := pd) (ln := ln) (p := tNuE pd ln ((p + 1 : Nat) : Int) 0 99) (sign := 46) (by omega) (by omega)
  have h3 := tNuE_r (pd := pd) (ln := ln) (p := tBeh pd ln (tNuE pd ln ((p + 1 : Nat) : Int) 0 99) 46) (least := 0) (most := 999) (by omega) (by omega) hl
  have h4 := tNuE_r (pd := pd) (ln := ln) (p := ((p + 1 : Nat) : Int)) (least := 1) (most := 99) (by omega) (by omega) hl
  unfold tOrE; (repeat' split) <;> omega
theorem tSg_in {pd : Nat → Nat} {ln p : Nat} {z : Int} (h : tSg pd ln p = z) (hz : 0 ≤ z) : p < ln := by
  unfold tSg at h
  split at h
  · assumption
  · omega
/-- an end that is no fault lies in the text -/
theorem tNuE_in {pd : Nat → Nat} {ln : Nat} {p : Int} {least most : Nat} (h : 0 ≤ tNuE pd ln p least most) (h0 : 0 ≤ p) : p + 1 ≤ tNuE pd ln p least most ∧ tNuE pd ln p least most ≤ ln := by
  unfold tNuE at h ⊢
  have hr := tNuF_r pd ln most 61 (tDg pd ln p.toNat) (p.toNat + 1)
  rw [if_neg (by omega)] at h ⊢
  split at h
  · omega
  · rename_i hd
    rw [if_neg hd]
    have := tDg_in (pd := pd) (ln := ln) (p := p.toNat) (by omega)
    omega
theorem tBeh_in {pd : Nat → Nat} {ln : Nat} {p sign : Int} (h : 0 ≤ tBeh pd ln p sign) (h0 : 0 ≤ sign) : 0 ≤ p ∧ tBeh pd ln p sign = p + 1 ∧ p + 1 ≤ ln := by
  unfold tBeh at h ⊢
  split at h
  · omega
  · rename_i hp
    rw [if_neg hp]
    split at h
    · rename_i hs
      rw [if_pos hs]
      have := tSg_in hs h0
      omega
    · omega
theorem tNuE_neg {pd : Nat → Nat} {ln : Nat} {p : Int} {least most : Nat} (h : p < 0) : tNuE pd ln p least most = p := if_pos h
theorem tOrE_in {pd : Nat → Nat} {ln p : Nat} (h : 0 ≤ tOrE pd ln p) : (p : Int) + 1 ≤ tOrE pd ln p ∧ tOrE pd ln p ≤ ln := by
  unfold tOrE at h ⊢
  split at h
  · rename_i hs
    rw [if_pos hs]
    have : p < ln := by rcases hs with hs | hs | hs | hs | hs <;> exact tSg_in hs (by omega)
    omega
  · rename_i hs
    rw [if_neg hs]
    split at h
    · rename_i hs2
      rw [if_pos hs2]
      have hb : 0 ≤ tBeh pd ln (tNuE pd ln ((p + 1 : Nat) : Int) 0 99) 46 := by
        by_cases q : 0 ≤ tBeh pd ln (tNuE pd ln ((p + 1 : Nat) : Int) 0 99) 46
        · exact q
        · rw [tNuE_neg (by omega)] at h; omega
      have h1 := tNuE_in h hb
      have h2 := tBeh_in hb (by omega)
      have h3 := tNuE_in h2.1 (by omega)
      omega
    · rename_i hs2
      rw [if_neg hs2]
      split at h
      · rename_i hs3
        rw [if_pos hs3]
        have h1 := tNuE_in h (by omega)
        omega
      · omega
/-- the places that the faults' loop comes to -/
def tFltE (pd : Nat → Nat) (ln way p : Nat) : Int := if way = 0 then tOrE pd ln p else tNuE pd ln (p : Int) 0 35
def tFltN (pd : Nat → Nat) (ln way : Nat) (e : Int) : Int := if way = 0 then e else tBeh pd ln e 44
def tFlt (pd : Nat → Nat) (ln way : Nat) : Nat → Nat → Int
  | 0, _ => -4
  | f + 1, p => if tFltE pd ln way p < 0 then -1 - tFltE pd ln way p else if tFltE pd ln way p = ln then -4 else if tFltN pd ln way (tFltE pd ln way p) < 0 then -1 - tFltN pd ln way (tFltE pd ln way p) else tFlt pd ln way f (tFltN pd ln way (tFltE pd ln way p)).toNat
theorem tFlt0_s (pd : Nat → Nat) (ln f p : Nat) : tFlt pd ln 0 (f + 1) p = if tOrE pd ln p < 0 then -1 - tOrE pd ln p else if tOrE pd ln p = ln then -4 else if tOrE pd ln p < 0 then -1 - tOrE pd ln p else tFlt pd ln 0 f (tOrE pd ln p).toNat := rfl
theorem tFlt1_s (pd : Nat → Nat) (ln f p : Nat) : tFlt pd ln 1 (f + 1) p = if tNuE pd ln (p : Int) 0 35 < 0 then -1 - tNuE pd ln (p : Int) 0 35 else if tNuE pd ln (p : Int) 0 35 = ln then -4 else if tBeh pd ln (tNuE pd ln (p : Int) 0 35) 44 < 0 then -1 - tBeh pd ln (tNuE pd ln (p : Int) 0 35) 44 else tFlt pd ln 1 f (tBeh pd ln (tNuE pd ln (p : Int) 0 35) 44).toNat := rfl
