/-! Seven bits at a time in a long -/
set_option maxRecDepth 100000
theorem zfr_ex (w : Int64) (key : Nat) : zfr w key = (w.toBitVec.extractLsb' (7 * (key % 9)) 7).toNat := by
  unfold zfr
  rw [BitVec.extractLsb'_toNat, Nat.shiftRight_eq_div_pow]
theorem zshm : ∀ n, n < 64 → (((nI n).toInt64 &&& 63).toBitVec.smod 64#64) = BitVec.ofNat 64 n := by decide +kernel
theorem z127 : ∀ i, i < 64 → (127#64).getLsbD i = decide (i < 7) := by decide +kernel
theorem zb127 (i : Nat) : (127#64).getLsbD i = decide (i < 7) := by
  by_cases h : i < 64
  · exact z127 i h
  · rw [BitVec.getLsbD_of_ge _ _ (by omega)]; simp; omega
theorem zshr_bv (w : Int64) {n : Nat} (hn : n < 64) : (w >>> ((iI ((n : Nat) : Int)).toInt64 &&& 63)).toBitVec = w.toBitVec.sshiftRight n := by
  rw [iI_nat]
  show w.toBitVec.sshiftRight' (((nI n).toInt64 &&& 63).toBitVec.smod 64#64) = _
  rw [zshm n hn, BitVec.sshiftRight_eq', BitVec.toNat_ofNat, Nat.mod_eq_of_lt (by omega)]
theorem zshl_bv (w : Int64) {n : Nat} (hn : n < 64) : (w <<< ((iI ((n : Nat) : Int)).toInt64 &&& 63)).toBitVec = w.toBitVec <<< n := by
  rw [iI_nat]
  show w.toBitVec <<< (((nI n).toInt64 &&& 63).toBitVec.smod 64#64) = _
  rw [zshm n hn, BitVec.shiftLeft_eq', BitVec.toNat_ofNat, Nat.mod_eq_of_lt (by omega)]
theorem zforce_eq (w : Int64) (key : Nat) : ((w >>> ((iI ((7 * (key % 9) : Nat) : Int)).toInt64 &&& 63)) &&& lI 127).toInt32 = iI ((zfr w key : Nat) : Int) := by
  have hs : 7 * (key % 9) < 64 := by omega
  have e : ((w >>> ((iI ((7 * (key % 9) : Nat) : Int)).toInt64 &&& 63)) &&& lI 127) = lI ((zfr w key : Nat) : Int) := by
    rw [zfr_ex, lI_nat]
    apply Int64.toBitVec_inj.mp
    rw [Int64.toBitVec_and, zshr_bv w hs]
    show w.toBitVec.sshiftRight (7 * (key % 9)) &&& 127#64 = BitVec.ofNat 64 _
    apply BitVec.eq_of_getLsbD_eq
    intro i hi
    rw [BitVec.getLsbD_and, zb127, BitVec.getLsbD_sshiftRight, BitVec.getLsbD_ofNat]
    have h2 : (w.toBitVec.extractLsb' (7 * (key % 9)) 7).toNat.testBit i = (w.toBitVec.extractLsb' (7 * (key % 9)) 7).getLsbD i := rfl
    rw [h2, BitVec.getLsbD_extractLsb']
    by_cases h7 : i < 7
    · simp [h7, hi, show ¬ 64 ≤ i by omega, show 7 * (key % 9) + i < 64 by omega]
    · simp [h7]
  rw [e, lI_i]
/-- what sets writes -/
def zsw (w : Int64) (key : Nat) (v : Int) : Int64 := (w &&& (((lI 127) <<< ((iI ((7 * (key % 9) : Nat) : Int)).toInt64 &&& 63)) ^^^ lI (-1))) ||| ((lI v) <<< ((iI ((7 * (key % 9) : Nat) : Int)).toInt64 &&& 63))
theorem zsw_fr (w : Int64) (key key' v : Nat) (hv : v < 128) (hk : key / 9 = key' / 9) : zfr (zsw w key (v : Int)) key' = if key' = key then v else zfr w key' := by
  have hs : 7 * (key % 9) < 64 := by omega
  have hs' : 7 * (key' % 9) < 64 := by omega
  have e : (zsw w key (v : Int)).toBitVec = (w.toBitVec &&& ((127#64 <<< (7 * (key % 9))) ^^^ BitVec.allOnes 64)) ||| (BitVec.ofNat 64 v <<< (7 * (key % 9))) := by
    unfold zsw
    rw [Int64.toBitVec_or, Int64.toBitVec_and, Int64.toBitVec_xor, zshl_bv _ hs, zshl_bv _ hs, lI_nat]
    rfl
  have hvb : ∀ i, 7 ≤ i → (BitVec.ofNat 64 v).getLsbD i = false := by
    intro i hi
    rw [BitVec.getLsbD_ofNat]
    have : v.testBit i = false := Nat.testBit_lt_two_pow (Nat.lt_of_lt_of_le hv (show 128 ≤ 2 ^ i from Nat.pow_le_pow_right (n := 2) (by decide) hi))
    simp [this]
  rw [zfr_ex, zfr_ex, e]
  by_cases hkk : key' = key
  · subst hkk
    rw [if_pos rfl]
    have : (BitVec.extractLsb' (7 * (key' % 9)) 7 ((w.toBitVec &&& ((127#64 <<< (7 * (key' % 9))) ^^^ BitVec.allOnes 64)) ||| (BitVec.ofNat 64 v <<< (7 * (key' % 9))))) = BitVec.ofNat 7 v := by
      apply BitVec.eq_of_getLsbD_eq
      intro i hi
      rw [BitVec.getLsbD_extractLsb', BitVec.getLsbD_or, BitVec.getLsbD_and, BitVec.getLsbD_xor, BitVec.getLsbD_shiftLeft, BitVec.getLsbD_shiftLeft, BitVec.getLsbD_allOnes, zb127, BitVec.getLsbD_ofNat, BitVec.getLsbD_ofNat]
      simp [hi, show 7 * (key' % 9) + i < 64 by omega, show i < 64 by omega, show ¬ (7 * (key' % 9) + i < 7 * (key' % 9)) by omega]
    rw [this, BitVec.toNat_ofNat, Nat.mod_eq_of_lt hv]
  · rw [if_neg hkk]
    congr 1
    apply BitVec.eq_of_getLsbD_eq
    intro i hi
    rw [BitVec.getLsbD_extractLsb', BitVec.getLsbD_extractLsb', BitVec.getLsbD_or, BitVec.getLsbD_and, BitVec.getLsbD_xor, BitVec.getLsbD_shiftLeft, BitVec.getLsbD_shiftLeft, BitVec.getLsbD_allOnes, zb127]
    by_cases hlt : 7 * (key' % 9) + i < 7 * (key % 9)
    · simp [hi, hlt, show 7 * (key' % 9) + i < 64 by omega]
    · rw [hvb _ (by omega)]
      have h8 : ¬ (7 * (key' % 9) + i - 7 * (key % 9) < 7) := by omega
      simp [hi, h8, show 7 * (key' % 9) + i < 64 by omega]
/-- a force put -/
def zupF (F : Nat → Nat → Nat → Nat) (l c k v : Nat) : Nat → Nat → Nat → Nat := fun l' c' k' => if l' = l ∧ c' = c ∧ k' = k then v else F l' c' k'
theorem zSd.setF {a : Nat → Int64} {h : Nat → Nat} {F : Nat → Nat → Nat → Nat} {l c key v : Nat} (hc : c < 48) (hk : key < 36) (hv : v < 128) (hs : zSd a 0 (h, F)) :
    zSd (vp_updL a (32 + 192 * l + 4 * c + key / 9) (zsw (a (32 + 192 * l + 4 * c + key / 9)) key (v : Int))) 0 (h, zupF F l c key v) := by
  refine ⟨fun i hi => ?_, fun l' c' key' hl' hc' hk' => ?_⟩
  · have := hs.1 i hi
    rw [Nat.zero_add] at this ⊢
    simp only [vp_updL]
    rw [if_neg (by omega)]
    exact this
  · have := hs.2 l' c' key' hl' hc' hk'
    rw [Nat.zero_add] at this ⊢
    simp only [vp_updL, zupF]
    by_cases e : 32 + 192 * l' + 4 * c' + key' / 9 = 32 + 192 * l + 4 * c + key / 9
    · rw [if_pos e, zsw_fr _ _ _ _ hv (by omega)]
      have h1 : l' = l := by omega
      have h2 : c' = c := by omega
      subst h1; subst h2
      by_cases hkk : key' = key
      · subst hkk; simp
      · rw [if_neg hkk, if_neg (fun q => hkk q.2.2), ← e]; exact this
    · rw [if_neg e, if_neg (fun q => e (by rw [q.1, q.2.1, q.2.2]))]
      exact this
/-- a block of noughts -/
def zclr (a : Nat → Int64) (lo n : Nat) : Nat → Int64 := fun j => if lo ≤ j ∧ j < lo + n then lI 0 else a j
theorem zclr_0 (a : Nat → Int64) (lo : Nat) : zclr a lo 0 = a := by funext j; unfold zclr; rw [if_neg (by omega)]
theorem zclr_s (a : Nat → Int64) (lo n : Nat) : vp_updL (zclr a lo n) (lo + n) (lI 0) = zclr a lo (n + 1) := by
  funext j
  simp only [zclr, vp_updL]
  by_cases h : j = lo + n
  · rw [if_pos h, if_pos (by omega)]
  · rw [if_neg h]
    by_cases h2 : lo ≤ j ∧ j < lo + n
    · rw [if_pos h2, if_pos (by omega)]
    · rw [if_neg h2, if_neg (by omega)]
def zclF (F : Nat → Nat → Nat → Nat) (l : Nat) : Nat → Nat → Nat → Nat := fun l' c k => if l' = l then 0 else F l' c k
theorem zfr_0 (key : Nat) : zfr (lI 0) key = 0 := by
  unfold zfr
  show 0 / _ % 128 = 0
  rw [Nat.zero_div]
theorem zSd.clr {a : Nat → Int64} {h : Nat → Nat} {F : Nat → Nat → Nat → Nat} {l : Nat} (hs : zSd a 0 (h, F)) : zSd (zclr a (32 + 192 * l) 192) 0 (h, zclF F l) := by
  refine ⟨fun i hi => ?_, fun l' c' key' hl' hc' hk' => ?_⟩
  · have := hs.1 i hi
    rw [Nat.zero_add] at this ⊢
    simp only [zclr]
    rw [if_neg (by omega)]
    exact this
  · have := hs.2 l' c' key' hl' hc' hk'
    rw [Nat.zero_add] at this ⊢
    simp only [zclr, zclF]
    by_cases e : l' = l
    · subst e
      rw [if_pos (by omega), if_pos rfl]
      exact zfr_0 _
    · rw [if_neg (by omega), if_neg e]
      exact this
/-- a copy -/
def zcp (a b : Nat → Int64) (fr to n : Nat) : Nat → Int64 := fun j => if to ≤ j ∧ j < to + n then a (fr + (j - to)) else b j
theorem zcp_0 (a b : Nat → Int64) (fr to : Nat) : zcp a b fr to 0 = b := by funext j; unfold zcp; rw [if_neg (by omega)]
theorem zcp_s (a b : Nat → Int64) (fr to n : Nat) : vp_updL (zcp a b fr to n) (to + n) (a (fr + n)) = zcp a b fr to (n + 1) := by
  funext j
  simp only [zcp, vp_updL]
  by_cases h : j = to + n
  · subst h
    rw [if_pos rfl, if_pos (by omega), show to + n - to = n by omega]
  · rw [if_neg h]
    by_cases h2 : to ≤ j ∧ j < to + n
    · rw [if_pos h2, if_pos (by omega)]
    · rw [if_neg h2, if_neg (by omega)]
theorem zSd.at' {a b : Nat → Int64} {o o' : Nat} {σ : zRS} (hs : zSd a o σ) (h : ∀ j, j < 1376 → b (o' + j) = a (o + j)) : zSd b o' σ :=
  ⟨fun i hi => (h i (by omega)).trans (hs.1 i hi), fun l c key hl hc hk => by rw [h _ (by omega)]; exact hs.2 l c key hl hc hk⟩
/-- what is remembered -/
def rRem (ps : Nat → zRS) (σ : zRS) (kn : Nat) : Nat → zRS := if kn = 4 then (fun i => if i = 3 then σ else ps (i + 1)) else va_up ps kn σ
theorem zRem_4 {a b : Nat → Int64} {h : Nat → Nat} {F : Nat → Nat → Nat → Nat} {ps : Nat → zRS} {k : Nat} (hk : k = 4) (hs : zSd a 0 (h, F)) (hb : ∀ i, i < 4 → zSd b (1376 * i) (ps i)) : ∀ i, i < 4 → zSd (zcp a (zcp b b 1376 0 4128) 0 (1376 * 3) 1376) (1376 * i) (rRem ps (h, F) k i) := by
  intro i hi
  subst hk
  unfold rRem
  rw [if_pos rfl]
  by_cases h3 : i = 3
  · subst h3
    rw [if_pos rfl]
    exact hs.at' (fun j hj => by unfold zcp; rw [if_pos (by omega)]; congr 1; omega)
  · rw [if_neg h3]
    exact (hb (i + 1) (by omega)).at' (fun j hj => by
      unfold zcp
      rw [if_neg (by omega), if_pos (by omega)]
      congr 1; omega)
theorem zRem_k {a b : Nat → Int64} {h : Nat → Nat} {F : Nat → Nat → Nat → Nat} {ps : Nat → zRS} {k : Nat} (hk : k < 4) (hs : zSd a 0 (h, F)) (hb : ∀ i, i < 4 → zSd b (1376 * i) (ps i)) : ∀ i, i < 4 → zSd (zcp a b 0 (1376 * k) 1376) (1376 * i) (rRem ps (h, F) k i) := by
  intro i hi
  unfold rRem
  rw [if_neg (by omega)]
  by_cases h3 : i = k
  · subst h3
    rw [va_up_self]
    exact hs.at' (fun j hj => by unfold zcp; rw [if_pos (by omega)]; congr 1; omega)
  · rw [va_up_ne _ _ h3]
    exact (hb i hi).at' (fun j hj => by
      unfold zcp
      rw [if_neg (by omega)])
