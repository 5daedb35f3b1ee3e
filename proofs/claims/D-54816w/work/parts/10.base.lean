/-! My base: ints as numbers, the state of a walk as a predicate, one row an instruction -/
set_option maxRecDepth 100000
def iI (z : Int) : Int32 := Int32.ofInt z
def lI (z : Int) : Int64 := Int64.ofInt z
def iR (z : Int) : Prop := -2147483648 ≤ z ∧ z < 2147483648
def lR (z : Int) : Prop := -9223372036854775808 ≤ z ∧ z < 9223372036854775808
theorem iI_toInt {z : Int} (h : iR z) : (iI z).toInt = z := Int32.toInt_ofInt_of_le (by unfold iR at h; omega) (by unfold iR at h; omega)
theorem lI_toInt {z : Int} (h : lR z) : (lI z).toInt = z := Int64.toInt_ofInt_of_le (by unfold lR at h; omega) (by unfold lR at h; omega)
theorem iI_of (x : Int32) : x = iI x.toInt := (Int32.ofInt_toInt x).symm
theorem iI_of' (x : Int32) : ∃ z : Int, iR z ∧ x = iI z := ⟨x.toInt, ⟨Int32.le_toInt x, Int32.toInt_lt x⟩, iI_of x⟩
theorem lI_of (x : Int64) : x = lI x.toInt := (Int64.ofInt_toInt x).symm
theorem iI_nat (n : Nat) : iI (n : Int) = nI n := by
  show Int32.ofInt (n : Int) = Int32.ofNat n
  exact Int32.ofInt_eq_ofNat
theorem lI_nat (n : Nat) : lI (n : Int) = lN n := by
  show Int64.ofInt (n : Int) = Int64.ofNat n
  exact Int64.ofInt_eq_ofNat
theorem iI_add (a b : Int) : iI a + iI b = iI (a + b) := (Int32.ofInt_add a b).symm
theorem iI_sub (a b : Int) : iI a - iI b = iI (a - b) := (Int32.ofInt_sub a b).symm
theorem iI_mul (a b : Int) : iI a * iI b = iI (a * b) := (Int32.ofInt_mul a b).symm
theorem iI_neg (a : Int) : -iI a = iI (-a) := (Int32.ofInt_neg a).symm
theorem lI_add (a b : Int) : lI a + lI b = lI (a + b) := (Int64.ofInt_add a b).symm
theorem lI_sub (a b : Int) : lI a - lI b = lI (a - b) := (Int64.ofInt_sub a b).symm
theorem lI_mul (a b : Int) : lI a * lI b = lI (a * b) := (Int64.ofInt_mul a b).symm
theorem iI_eq {a b : Int} (ha : iR a) (hb : iR b) : iI a = iI b ↔ a = b := by
  rw [← Int32.toInt_inj, iI_toInt ha, iI_toInt hb]
theorem iI_lt {a b : Int} (ha : iR a) (hb : iR b) : iI a < iI b ↔ a < b := by
  rw [Int32.lt_iff_toInt_lt, iI_toInt ha, iI_toInt hb]
theorem iI_le {a b : Int} (ha : iR a) (hb : iR b) : iI a ≤ iI b ↔ a ≤ b := by
  rw [Int32.le_iff_toInt_le, iI_toInt ha, iI_toInt hb]
theorem lI_eq {a b : Int} (ha : lR a) (hb : lR b) : lI a = lI b ↔ a = b := by
  rw [← Int64.toInt_inj, lI_toInt ha, lI_toInt hb]
theorem lI_lt {a b : Int} (ha : lR a) (hb : lR b) : lI a < lI b ↔ a < b := by
  rw [Int64.lt_iff_toInt_lt, lI_toInt ha, lI_toInt hb]
theorem iR0 : iR 0 := by unfold iR; omega
theorem lR0 : lR 0 := by unfold lR; omega
theorem iI_zero : iI 0 = 0 := rfl
theorem lI_zero : lI 0 = 0 := rfl
theorem iI_div {a b : Int} (ha : iR a) (hb : iR b) (h0 : 0 ≤ a) : iI a / iI b = iI (a / b) := by
  rw [← Int.tdiv_eq_ediv_of_nonneg h0]
  unfold iR at ha hb
  exact (Int32.ofInt_tdiv (show (-2147483648 : Int) ≤ a by omega) (show a ≤ (2147483647 : Int) by omega) (show (-2147483648 : Int) ≤ b by omega) (show b ≤ (2147483647 : Int) by omega)).symm
theorem iI_rem {a b : Int} (ha : iR a) (hb : iR b) (h0 : 0 ≤ a) : iI a - iI a / iI b * iI b = iI (a % b) := by
  rw [iI_div ha hb h0, iI_mul, iI_sub]
  congr 1
  have := Int.emod_add_mul_ediv a b
  rw [Int.mul_comm] at this
  omega
theorem lI_div {a b : Int} (ha : lR a) (hb : lR b) (h0 : 0 ≤ a) : lI a / lI b = lI (a / b) := by
  rw [← Int.tdiv_eq_ediv_of_nonneg h0]
  unfold lR at ha hb
  exact (Int64.ofInt_tdiv (show (-9223372036854775808 : Int) ≤ a by omega) (show a ≤ (9223372036854775807 : Int) by omega) (show (-9223372036854775808 : Int) ≤ b by omega) (show b ≤ (9223372036854775807 : Int) by omega)).symm
theorem lI_rem {a b : Int} (ha : lR a) (hb : lR b) (h0 : 0 ≤ a) : lI a - lI a / lI b * lI b = lI (a % b) := by
  rw [lI_div ha hb h0, lI_mul, lI_sub]
  congr 1
  have := Int.emod_add_mul_ediv a b
  rw [Int.mul_comm] at this
  omega
theorem lI_i (z : Int) : (lI z).toInt32 = iI z := Int64.toInt32_ofInt
theorem iI_l {z : Int} (h : iR z) : (iI z).toInt64 = lI z := Int32.toInt64_ofInt (show (-2147483648 : Int) ≤ z by unfold iR at h; omega) (show z ≤ (2147483647 : Int) by unfold iR at h; omega)
theorem iI_clamp {z : Int} (h : iR z) : (iI z).toNatClampNeg = z.toNat := by
  show (iI z).toInt.toNat = _
  rw [iI_toInt h]
theorem iI_in {z : Int} {n : Nat} (h : 0 ≤ z) (h1 : z < n) (hn : n < 2147483648) : vp_in (iI z) n := by
  have hz : iR z := ⟨by omega, by omega⟩
  rw [vp_in_iff, iI_toInt hz]
  exact ⟨h, h1⟩
/-! the walk's fixed things in one -/
abbrev zX : Type := Program × Launch × Env × Room × State × MethodId × Array Value × List Frame × Method × Code × (State → Prop)
abbrev zp (X : zX) : Program := X.1
abbrev zl (X : zX) : Launch := X.2.1
abbrev ze (X : zX) : Env := X.2.2.1
abbrev zR (X : zX) : Room := X.2.2.2.1
abbrev zs (X : zX) : State := X.2.2.2.2.1
abbrev zm (X : zX) : MethodId := X.2.2.2.2.2.1
abbrev za (X : zX) : Array Value := X.2.2.2.2.2.2.1
abbrev zb (X : zX) : List Frame := X.2.2.2.2.2.2.2.1
abbrev zme (X : zX) : Method := X.2.2.2.2.2.2.2.2.1
abbrev zc (X : zX) : Code := X.2.2.2.2.2.2.2.2.2.1
abbrev zq (X : zX) : State → Prop := X.2.2.2.2.2.2.2.2.2.2
abbrev zW (X : zX) (H : Heap) (locs : List Loc) (k n : Nat) (g : JFrame) : Prop := W (zp X) (zl X) (ze X) (zR X) (zs X) (zm X) (za X) (zb X) (zme X) (zc X) H locs k n (zq X) g
/-! the locals by their places -/
def zprs : Nat → List (Option Value) → List (Nat × Value)
  | _, [] => []
  | k, none :: t => zprs (k + 1) t
  | k, some v :: t => (k, v) :: zprs (k + 1) t
theorem zprs_mem : ∀ (L : List (Option Value)) (k i : Nat) (v : Value), (i, v) ∈ zprs k L ↔ k ≤ i ∧ L[i - k]? = some (some v)
  | [], k, i, v => by simp [zprs]
  | none :: t, k, i, v => by
    simp only [zprs]
    rw [zprs_mem t (k + 1) i v]
    constructor
    · rintro ⟨h1, h2⟩
      refine ⟨by omega, ?_⟩
      rw [show i - k = (i - (k + 1)) + 1 by omega, List.getElem?_cons_succ]
      exact h2
    · rintro ⟨h1, h2⟩
      by_cases hk : i = k
      · subst hk; rw [Nat.sub_self] at h2; cases h2
      · rw [show i - k = (i - (k + 1)) + 1 by omega, List.getElem?_cons_succ] at h2
        exact ⟨by omega, h2⟩
  | some w :: t, k, i, v => by
    simp only [zprs, List.mem_cons]
    rw [zprs_mem t (k + 1) i v]
    constructor
    · rintro (h | ⟨h1, h2⟩)
      · cases h; exact ⟨Nat.le_refl _, by rw [Nat.sub_self]; rfl⟩
      · refine ⟨by omega, ?_⟩
        rw [show i - k = (i - (k + 1)) + 1 by omega, List.getElem?_cons_succ]
        exact h2
    · rintro ⟨h1, h2⟩
      by_cases hk : i = k
      · subst hk; rw [Nat.sub_self] at h2
        have : w = v := Option.some.inj (Option.some.inj h2)
        subst this
        exact Or.inl rfl
      · rw [show i - k = (i - (k + 1)) + 1 by omega, List.getElem?_cons_succ] at h2
        exact Or.inr ⟨by omega, h2⟩
def zhas (ls : Array Slot) (nL : Nat) (L : List (Option Value)) : Prop := lv_has ls nL (zprs 0 L)
theorem zhas.get {ls : Array Slot} {nL : Nat} {L : List (Option Value)} (h : zhas ls nL L) {i : Nat} {v : Value} (hi : L[i]? = some (some v)) : ls[i]? = some (.val v) :=
  h.2.2 (i, v) ((zprs_mem L 0 i v).mpr ⟨Nat.zero_le _, hi⟩)
/-- a store into the list of locals -/
def zst : List (Option Value) → Nat → Value → List (Option Value)
  | [], _, _ => []
  | _ :: t, 0, v => some v :: (if v.category = 2 then (match t with | [] => [] | _ :: t' => none :: t') else t)
  | o :: t, 1, v => (match o with | some w => if w.category = 2 then none else some w | none => none) :: zst t 0 v
  | o :: t, i + 2, v => o :: zst t (i + 1) v
theorem zst_get : ∀ (L : List (Option Value)) (i : Nat) (v : Value) (j : Nat) (w : Value), (zst L i v)[j]? = some (some w) → (j = i ∧ w = v) ∨ (j ≠ i ∧ L[j]? = some (some w) ∧ ¬ (j + 1 = i ∧ w.category = 2) ∧ ¬ (v.category = 2 ∧ j = i + 1))
  | [], i, v, j, w, h => by simp [zst] at h
  | o :: t, 0, v, j, w, h => by
    simp only [zst] at h
    cases j with
    | zero => rw [List.getElem?_cons_zero] at h; exact Or.inl ⟨rfl, (Option.some.inj (Option.some.inj h)).symm⟩
    | succ j =>
      rw [List.getElem?_cons_succ] at h
      right
      by_cases hc : v.category = 2
      · rw [if_pos hc] at h
        cases t with
        | nil => simp at h
        | cons o2 t2 =>
          cases j with
          | zero => rw [List.getElem?_cons_zero] at h; cases h
          | succ j =>
            rw [List.getElem?_cons_succ] at h
            exact ⟨by omega, by rw [List.getElem?_cons_succ, List.getElem?_cons_succ]; exact h, by omega, by omega⟩
      · rw [if_neg hc] at h
        exact ⟨by omega, by rw [List.getElem?_cons_succ]; exact h, by omega, fun q => hc q.1⟩
  | o :: t, 1, v, j, w, h => by
    simp only [zst] at h
    cases j with
    | zero =>
      rw [List.getElem?_cons_zero] at h
      right
      cases o with
      | none => simp at h
      | some x =>
        by_cases hc : x.category = 2
        · simp [hc] at h
        · simp only [if_neg hc, Option.some.injEq] at h
          subst h
          exact ⟨by omega, rfl, fun q => hc q.2, by omega⟩
    | succ j =>
      rw [List.getElem?_cons_succ] at h
      rcases zst_get t 0 v j w h with ⟨h1, h2⟩ | ⟨h1, h2, h3, h4⟩
      · exact Or.inl ⟨by omega, h2⟩
      · exact Or.inr ⟨by omega, by rw [List.getElem?_cons_succ]; exact h2, fun q => h3 ⟨by omega, q.2⟩, fun q => h4 ⟨q.1, by omega⟩⟩
  | o :: t, i + 2, v, j, w, h => by
    simp only [zst] at h
    cases j with
    | zero =>
      rw [List.getElem?_cons_zero] at h
      exact Or.inr ⟨by omega, by rw [List.getElem?_cons_zero]; exact h, by omega, by omega⟩
    | succ j =>
      rw [List.getElem?_cons_succ] at h
      rcases zst_get t (i + 1) v j w h with ⟨h1, h2⟩ | ⟨h1, h2, h3, h4⟩
      · exact Or.inl ⟨by omega, h2⟩
      · exact Or.inr ⟨by omega, by rw [List.getElem?_cons_succ]; exact h2, fun q => h3 ⟨by omega, q.2⟩, fun q => h4 ⟨q.1, by omega⟩⟩
theorem zhas.of1 {ls : Array Slot} {nL i : Nat} {v : Value} {L L' : List (Option Value)} (h : lv_has ls nL ((i, v) :: (zprs 0 L).filter (fun q => !(q.1 == i) && !(q.1 + 1 == i && q.2.category == 2)))) (hL : zst L i v = L') : zhas ls nL L' := by
  refine ⟨h.1, h.2.1, fun q hq => h.2.2 q ?_⟩
  subst hL
  obtain ⟨j, w⟩ := q
  have h1 := ((zprs_mem _ 0 j w).mp hq).2
  rcases zst_get L i v j w h1 with ⟨rfl, rfl⟩ | ⟨h2, h3, h4, -⟩
  · exact List.mem_cons_self
  · refine List.mem_cons_of_mem _ (List.mem_filter.mpr ⟨(zprs_mem L 0 j w).mpr ⟨Nat.zero_le _, h3⟩, ?_⟩)
    simp only [Bool.and_eq_true, Bool.not_eq_true', beq_eq_false_iff_ne, ne_eq, Bool.and_eq_false_iff]
    exact ⟨h2, by by_cases e : j + 1 = i; exact Or.inr (fun c => h4 ⟨e, c⟩); exact Or.inl e⟩
theorem zhas.of2 {ls : Array Slot} {nL i : Nat} {v : Value} {L L' : List (Option Value)} (hv : v.category = 2) (h : lv_has ls nL ((i, v) :: (zprs 0 L).filter (fun q => !(q.1 == i) && (!(q.1 == i + 1) && !(q.1 + 1 == i && q.2.category == 2))))) (hL : zst L i v = L') : zhas ls nL L' := by
  refine ⟨h.1, h.2.1, fun q hq => h.2.2 q ?_⟩
  subst hL
  obtain ⟨j, w⟩ := q
  have h1 := ((zprs_mem _ 0 j w).mp hq).2
  rcases zst_get L i v j w h1 with ⟨rfl, rfl⟩ | ⟨h2, h3, h4, h5⟩
  · exact List.mem_cons_self
  · refine List.mem_cons_of_mem _ (List.mem_filter.mpr ⟨(zprs_mem L 0 j w).mpr ⟨Nat.zero_le _, h3⟩, ?_⟩)
    simp only [Bool.and_eq_true, Bool.not_eq_true', beq_eq_false_iff_ne, ne_eq, Bool.and_eq_false_iff]
    exact ⟨h2, fun e => h5 ⟨hv, e⟩, by by_cases e : j + 1 = i; exact Or.inr (fun c => h4 ⟨e, c⟩); exact Or.inl e⟩
/-- fewer locals -/
def zle : List (Option Value) → List (Option Value) → Prop
  | [], _ => True
  | none :: t, _ :: t' => zle t t'
  | none :: t, [] => zle t []
  | some v :: t, o :: t' => o = some v ∧ zle t t'
  | some _ :: _, [] => False
theorem zle_0 {L : List (Option Value)} : zle [] L := trivial
theorem zle_n {L' L : List (Option Value)} {o : Option Value} (h : zle L' L) : zle (none :: L') (o :: L) := h
theorem zle_s {L' L : List (Option Value)} {v : Value} (h : zle L' L) : zle (some v :: L') (some v :: L) := ⟨rfl, h⟩
theorem zle_get : ∀ (L' L : List (Option Value)), zle L' L → ∀ (i : Nat) (v : Value), L'[i]? = some (some v) → L[i]? = some (some v)
  | [], _, _, i, v, h => by simp at h
  | none :: t, o :: t', hl, i, v, h => by
    cases i with
    | zero => simp at h
    | succ i => rw [List.getElem?_cons_succ] at h ⊢; exact zle_get t t' hl i v h
  | none :: t, [], hl, i, v, h => by
    cases i with
    | zero => simp at h
    | succ i =>
      rw [List.getElem?_cons_succ] at h
      have := zle_get t [] hl i v h
      simp at this
  | some w :: t, o :: t', hl, i, v, h => by
    cases i with
    | zero => rw [List.getElem?_cons_zero] at h ⊢; rw [hl.1]; exact h
    | succ i => rw [List.getElem?_cons_succ] at h ⊢; exact zle_get t t' hl.2 i v h
  | some _ :: _, [], hl, i, v, h => hl.elim
theorem zhas.le {ls : Array Slot} {nL : Nat} {L L' : List (Option Value)} (h : zhas ls nL L) (hl : zle L' L) : zhas ls nL L' :=
  ⟨h.1, h.2.1, fun q hq => h.2.2 q ((zprs_mem L 0 q.1 q.2).mpr ⟨Nat.zero_le _, zle_get L' L hl q.1 q.2 ((zprs_mem L' 0 q.1 q.2).mp hq).2⟩)⟩
/-- the state of a walk: any heap with P, what was written lies in A, the locals L, the operands st -/
def zV (X : zX) (nL : Nat) (A : Nat → Prop) (P : Heap → Prop) (k n pc : Nat) (L : List (Option Value)) (st : List Value) : Prop :=
  ∀ (H : Heap) (locs : List Loc) (ls : Array Slot), P H → va_S A (zs X).heap H locs → zhas ls nL L → zW X H locs k n (F0 (zm X) pc ls st)
