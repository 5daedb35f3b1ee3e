/-! doubles: whole numbers, their quotient, how loud it is -/
set_option maxRecDepth 100000
theorem zfp_dec (n : Nat) : FP.Core.decode FP.Core.b64 n = (if n / 4503599627370496 % 2048 = 2047 then (if n % 4503599627370496 = 0 then .inf (n / 4503599627370496 / 2048 % 2 == 1) else .nan) else if n / 4503599627370496 % 2048 = 0 then .fin (n / 4503599627370496 / 2048 % 2 == 1) (n % 4503599627370496) (-1074) else .fin (n / 4503599627370496 / 2048 % 2 == 1) (4503599627370496 + n % 4503599627370496) (-1074 + (((n / 4503599627370496 % 2048 : Nat) : Int) - 1))) := rfl
def zfpN (n : Nat) : Prop := FP.Core.decode FP.Core.b64 n ≠ .nan
theorem zfp_mag {n : Nat} (h : n % 9223372036854775808 ≤ 9218868437227405312) : zfpN n := by
  unfold zfpN
  rw [zfp_dec]
  split
  · split
    · exact FP.Core.Datum.noConfusion
    · exfalso; omega
  · split <;> exact FP.Core.Datum.noConfusion
theorem zfp_magr {n : Nat} (h : zfpN n) : n % 9223372036854775808 ≤ 9218868437227405312 := by
  unfold zfpN at h
  rw [zfp_dec] at h
  split at h
  · split at h
    · omega
    · exact absurd rfl h
  · omega
theorem zfp_n64 {a : UInt64} (h : zfpN a.toNat) : vf_n64 a := by
  have h1 := zfp_magr h
  show a &&& 0x7fffffffffffffff ≤ 0x7ff0000000000000
  rw [UInt64.le_iff_toNat_le, UInt64.toNat_and]
  rw [show (0x7fffffffffffffff : UInt64).toNat = 2 ^ 63 - 1 from rfl, Nat.and_two_pow_sub_one_eq_mod]
  exact h1
/-- what rounding gives: a number of the format, or an infinity -/
def zfpO (d : FP.Core.Datum) : Prop := (∃ s, d = .inf s) ∨ ∃ s c q, d = .fin s c q ∧ c < 9007199254740992 ∧ -1074 ≤ q ∧ q ≤ 971
theorem zfp_bound (s : Bool) {c : Nat} {q : Int} (hc : c < 9007199254740992) (hq : -1074 ≤ q) : zfpO (FP.Core.bound FP.Core.b64 s c q) := by
  unfold FP.Core.bound
  split
  · rename_i h
    exact .inr ⟨s, c, q, rfl, hc, hq, h⟩
  · exact .inl ⟨s, rfl⟩
theorem zfp_ratio (s : Bool) (a b : Nat) (e : Int) : zfpO (FP.Core.roundRatio FP.Core.b64 s a b e) := by
  unfold FP.Core.roundRatio
  split
  · exact .inr ⟨s, 0, -1074, rfl, by omega, by omega, by omega⟩
  · unfold FP.Core.roundAt FP.Core.settle
    have hq : -1074 ≤ FP.Core.quantum FP.Core.b64 a b e := Int.le_max_left _ _
    split
    · rename_i h
      exact zfp_bound s h hq
    · exact zfp_bound s (by decide) (by omega)
theorem zfp_enc (s : Bool) (c : Nat) (q : Int) : FP.Core.encode FP.Core.b64 (.fin s c q) = (if c < 4503599627370496 then (s.toNat * 2048 + 0) * 4503599627370496 + c else (s.toNat * 2048 + ((q - -1074).toNat + 1)) * 4503599627370496 + (c - 4503599627370496)) := rfl
theorem zfp_encO {d : FP.Core.Datum} (h : zfpO d) : FP.Core.encode FP.Core.b64 d < 18446744073709551616 ∧ zfpN (FP.Core.encode FP.Core.b64 d) := by
  rcases h with ⟨s, rfl⟩ | ⟨s, c, q, rfl, h1, h2, h3⟩
  · cases s
    · exact ⟨by decide, zfp_mag (by decide)⟩
    · exact ⟨by decide, zfp_mag (by decide)⟩
  · have hs : s.toNat ≤ 1 := Bool.toNat_le s
    rw [zfp_enc]
    split
    · exact ⟨by omega, zfp_mag (by omega)⟩
    · exact ⟨by omega, zfp_mag (by omega)⟩
theorem zfp_of {n : Nat} (h : n < 18446744073709551616) : (UInt64.ofNat n).toNat = n := by
  rw [UInt64.toNat_ofNat']; exact Nat.mod_eq_of_lt h
theorem zfp_rt {c : Nat} {q : Int} (hc : 4503599627370496 ≤ c) (h1 : c < 9007199254740992) (h2 : -1074 ≤ q) (h3 : q ≤ 971) : FP.Core.decode FP.Core.b64 (FP.Core.encode FP.Core.b64 (.fin false c q)) = .fin false c q := by
  rw [zfp_enc, if_neg (by omega), zfp_dec]
  obtain ⟨k, hk⟩ : ∃ k : Nat, q = (k : Int) - 1074 := ⟨(q + 1074).toNat, by omega⟩
  subst hk
  obtain ⟨t, rfl⟩ : ∃ t : Nat, c = 4503599627370496 + t := ⟨c - 4503599627370496, by omega⟩
  have e1 : (false.toNat * 2048 + (((k : Int) - 1074 - -1074).toNat + 1)) * 4503599627370496 + (4503599627370496 + t - 4503599627370496) = (k + 1) * 4503599627370496 + t := by
    show (0 * 2048 + _) * _ + _ = _
    rw [show ((k : Int) - 1074 - -1074).toNat = k by omega, Nat.add_sub_cancel_left]; omega
  rw [e1]
  have e2 : ((k + 1) * 4503599627370496 + t) / 4503599627370496 = k + 1 := by omega
  have e3 : ((k + 1) * 4503599627370496 + t) % 4503599627370496 = t := by omega
  rw [e2, e3, Nat.mod_eq_of_lt (show k + 1 < 2048 by omega), if_neg (by omega), if_neg (by omega), Nat.div_eq_of_lt (show k + 1 < 2048 by omega)]
  exact congrArg (FP.Core.Datum.fin false (4503599627370496 + t)) (show -1074 + (((k + 1 : Nat) : Int) - 1) = (k : Int) - 1074 by omega)
/-- a whole number's datum -/
def zfpW (n : Nat) : FP.Core.Datum := if n = 0 then .fin false 0 (-1074) else .fin false (n * 2 ^ (52 - n.log2)) ((n.log2 : Int) - 52)
theorem zfp_log {n : Nat} (h0 : n ≠ 0) (h : n < 2147483648) : n.log2 ≤ 30 ∧ 4503599627370496 ≤ n * 2 ^ (52 - n.log2) ∧ n * 2 ^ (52 - n.log2) < 9007199254740992 := by
  have h1 : n.log2 < 31 := (Nat.log2_lt h0).mpr h
  have h2 := Nat.log2_self_le h0
  have h3 : n < 2 ^ (n.log2 + 1) := Nat.lt_log2_self
  have e1 : 2 ^ n.log2 * 2 ^ (52 - n.log2) = 4503599627370496 := by rw [← Nat.pow_add, show n.log2 + (52 - n.log2) = 52 by omega]
  have e2 : 2 ^ (n.log2 + 1) * 2 ^ (52 - n.log2) = 9007199254740992 := by rw [← Nat.pow_add, show n.log2 + 1 + (52 - n.log2) = 53 by omega]
  have h4 := Nat.mul_le_mul_right (2 ^ (52 - n.log2)) h2
  have h5 := Nat.mul_lt_mul_of_pos_right h3 (Nat.two_pow_pos (52 - n.log2))
  omega
theorem zfp_one1 (x : Nat) : FP.Core.nearest x 1 = x := by
  unfold FP.Core.nearest
  rw [Nat.mod_one, if_pos (by omega), Nat.div_one]
theorem zfp_lead {n : Nat} (h : n ≠ 0) : FP.Core.leading n 1 = (n.log2 : Int) := by
  unfold FP.Core.leading
  have h2 := Nat.log2_self_le h
  have e : Nat.log2 1 = 0 := rfl
  simp only [e, Int.natCast_zero, Int.sub_zero, Int.toNat_natCast, Nat.one_mul]
  rw [show (-(n.log2 : Int)).toNat = 0 by omega, Nat.pow_zero, Nat.mul_one, if_pos h2]
theorem zfp_i2 {n : Nat} (h : n < 2147483648) : FP.Core.round FP.Core.b64 (FP.Core.ofInt (n : Int)) = zfpW n := by
  unfold FP.Core.ofInt FP.Core.round zfpW
  rw [show decide ((n : Int) < 0) = false from decide_eq_false (by omega), Int.natAbs_natCast]
  show FP.Core.roundRatio FP.Core.b64 false n 1 0 = _
  unfold FP.Core.roundRatio
  split
  · rfl
  · rename_i h0
    obtain ⟨h1, h2, h3⟩ := zfp_log h0 h
    have hq : FP.Core.quantum FP.Core.b64 n 1 0 = (n.log2 : Int) - 52 := by
      unfold FP.Core.quantum
      rw [zfp_lead h0]
      show max (-1074) ((n.log2 : Int) + 0 - (53 - 1)) = _
      omega
    rw [hq]
    unfold FP.Core.roundAt FP.Core.unitsNum FP.Core.unitsDen
    rw [show (0 - ((n.log2 : Int) - 52)).toNat = 52 - n.log2 by omega, show (((n.log2 : Int) - 52) - 0).toNat = 0 by omega, Nat.pow_zero, Nat.mul_one, zfp_one1]
    unfold FP.Core.settle
    rw [if_pos (show n * 2 ^ (52 - n.log2) < 2 ^ FP.Core.b64.p from h3)]
    unfold FP.Core.bound
    exact if_pos (show (n.log2 : Int) - 52 ≤ 971 by omega)
theorem zfp_W {n : Nat} (h : n < 2147483648) : zfpO (zfpW n) ∧ FP.Core.decode FP.Core.b64 (FP.Core.encode FP.Core.b64 (zfpW n)) = zfpW n := by
  unfold zfpW
  split
  · exact ⟨.inr ⟨_, _, _, rfl, by omega, by omega, by omega⟩, rfl⟩
  · rename_i h0
    obtain ⟨h1, h2, h3⟩ := zfp_log h0 h
    exact ⟨.inr ⟨_, _, _, rfl, h3, by omega, by omega⟩, zfp_rt h2 h3 (by omega) (by omega)⟩
theorem zfp_i2d {n : Nat} (h : n < 2147483648) : (FP.i2d (iI (n : Int))).toNat = FP.Core.encode FP.Core.b64 (zfpW n) := by
  show (UInt64.ofNat (FP.Core.encode FP.Core.b64 (FP.Core.round FP.Core.b64 (FP.Core.ofInt (iI (n : Int)).toInt)))).toNat = _
  rw [show (iI (n : Int)).toInt = (n : Int) from Int32.toInt_ofInt_of_le (by omega) (by omega), zfp_i2 h]
  exact zfp_of (zfp_encO (zfp_W h).1).1
theorem zfp_dW {n : Nat} (h : n < 2147483648) : FP.Core.decode FP.Core.b64 (FP.i2d (iI (n : Int))).toNat = zfpW n := by rw [zfp_i2d h]; exact (zfp_W h).2
theorem zfp_mul1 {n : Nat} (h : n < 2147483648) : FP.Core.round FP.Core.b64 (FP.Core.exactProduct (zfpW n) (FP.Core.decode FP.Core.b64 FP.dconst1.toNat)) = zfpW n := by
  rw [show FP.Core.decode FP.Core.b64 FP.dconst1.toNat = .fin false 4503599627370496 (-52) from rfl]
  unfold zfpW
  split
  · rfl
  · rename_i h0
    obtain ⟨h1, h2, h3⟩ := zfp_log h0 h
    generalize hc : n * 2 ^ (52 - n.log2) = c at h2 h3 ⊢
    generalize hq : (n.log2 : Int) - 52 = q
    show FP.Core.roundRatio FP.Core.b64 false (c * 4503599627370496) 1 (q + -52) = _
    unfold FP.Core.roundRatio
    rw [if_neg (by omega)]
    have hl : (c * 4503599627370496).log2 = 104 := by
      have hne : c * 4503599627370496 ≠ 0 := by omega
      have a1 := (Nat.log2_lt (k := 105) hne).mpr (by omega)
      have a2 := (Nat.le_log2 (k := 104) hne).mpr (by omega)
      omega
    have hqq : FP.Core.quantum FP.Core.b64 (c * 4503599627370496) 1 (q + -52) = q := by
      unfold FP.Core.quantum
      rw [zfp_lead (by omega), hl]
      show max (-1074) (((104 : Nat) : Int) + (q + -52) - (53 - 1)) = _
      omega
    rw [hqq]
    unfold FP.Core.roundAt FP.Core.unitsNum FP.Core.unitsDen
    rw [show (q + -52 - q).toNat = 0 by omega, show (q - (q + -52)).toNat = 52 by omega, Nat.pow_zero, Nat.mul_one]
    have hn : FP.Core.nearest (c * 4503599627370496) (1 * 2 ^ 52) = c := by
      unfold FP.Core.nearest
      rw [show 1 * 2 ^ 52 = 4503599627370496 from rfl, Nat.mul_mod_left, if_pos (by omega), Nat.mul_div_cancel _ (by omega)]
    rw [hn]
    unfold FP.Core.settle
    rw [if_pos (show c < 2 ^ FP.Core.b64.p from h3)]
    unfold FP.Core.bound
    exact if_pos (show q ≤ 971 by omega)
theorem zfp_mul {n : Nat} (h : n < 2147483648) : FP.dmul (FP.i2d (iI (n : Int))) FP.dconst1 = FP.i2d (iI (n : Int)) := by
  apply UInt64.toNat_inj.mp
  show (UInt64.ofNat (FP.Core.encode FP.Core.b64 (FP.Core.round FP.Core.b64 (FP.Core.exactProduct (FP.Core.decode FP.Core.b64 (FP.i2d (iI (n : Int))).toNat) (FP.Core.decode FP.Core.b64 FP.dconst1.toNat))))).toNat = _
  rw [zfp_dW h, zfp_mul1 h, zfp_i2d h]
  exact zfp_of (zfp_encO (zfp_W h).1).1
theorem zfp_mulN {n : Nat} (h : n < 2147483648) : vf_n64 (FP.dmul (FP.i2d (iI (n : Int))) FP.dconst1) := by
  rw [zfp_mul h]
  refine zfp_n64 ?_
  rw [zfp_i2d h]; exact (zfp_encO (zfp_W h).1).2
theorem zfp_div {n m : Nat} (h : n < 2147483648) (hm : m < 2147483648) (h0 : m ≠ 0) : zfpN (FP.ddiv (FP.i2d (iI (n : Int))) (FP.i2d (iI (m : Int)))).toNat := by
  show zfpN (UInt64.ofNat (FP.Core.encode FP.Core.b64 (FP.Core.quotient FP.Core.b64 (FP.Core.decode FP.Core.b64 (FP.i2d (iI (n : Int))).toNat) (FP.Core.decode FP.Core.b64 (FP.i2d (iI (m : Int))).toNat)))).toNat
  rw [zfp_dW h, zfp_dW hm]
  obtain ⟨h1, h2, h3⟩ := zfp_log h0 hm
  have hO : zfpO (FP.Core.quotient FP.Core.b64 (zfpW n) (zfpW m)) := by
    rw [show zfpW m = .fin false (m * 2 ^ (52 - m.log2)) ((m.log2 : Int) - 52) from if_neg h0]
    unfold zfpW
    split
    · show zfpO (if _ = 0 then _ else FP.Core.roundRatio _ _ _ _ _)
      rw [if_neg (by omega)]; exact zfp_ratio _ _ _ _
    · show zfpO (if _ = 0 then _ else FP.Core.roundRatio _ _ _ _ _)
      rw [if_neg (by omega)]; exact zfp_ratio _ _ _ _
  rw [zfp_of (zfp_encO hO).1]
  exact (zfp_encO hO).2
theorem zfp_self {x : UInt64} (h : zfpN x.toNat) : FP.dcmp x x = some .eq := by
  unfold zfpN at h
  show FP.Core.order (FP.Core.decode FP.Core.b64 x.toNat) (FP.Core.decode FP.Core.b64 x.toNat) = _
  generalize FP.Core.decode FP.Core.b64 x.toNat = d at h
  cases d with
  | nan => exact absurd rfl h
  | inf s => cases s <;> rfl
  | fin s c q =>
    exact congrArg some (Std.ReflCmp.compare_self (cmp := (compare : Int → Int → Ordering)))
def rLoud (h : Nat → Nat) (F : Nat → Nat → Nat → Nat) : UInt64 := if h 7 = 0 then 0 else FP.ddiv (FP.i2d (iI ((rSumOf h F (h 7) : Nat) : Int))) (FP.i2d (iI ((rLoop h : Nat) : Int)))
theorem rSumOf_le {h : Nat → Nat} {F : Nat → Nat → Nat → Nat} (gF : rFb F) (gL : rLs h) (m : Nat) (hm : m ≤ h 7) : rSumOf h F m ≤ 1100000 := by
  have g7 := gL.1
  have gl := rLen_le gL (n := m) (by omega)
  have h1 := zsumT_le (g := fun c => rSum h F m c) (B := 99 * m * 36) (rLen h m) (fun c _ => rSum_le gF m c)
  have h2 : rLen h m * (99 * m * 36) ≤ 48 * (99 * 6 * 36) := Nat.mul_le_mul gl (by omega)
  unfold rSumOf
  have h3 : 99 * m * 36 * rLen h m = rLen h m * (99 * m * 36) := Nat.mul_comm _ _
  omega
