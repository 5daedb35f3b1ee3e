/-! Linked lists of the JDK -/
set_option maxRecDepth 100000
theorem zbs_c {n : Nat} {f : Nat → zAs} {w : va_W} : zbs (n + 1) f w ↔ ∃ w1 w2, f 0 w1 ∧ zbs n (fun i => f (i + 1)) w2 ∧ w = w1 ++ w2 := by
  unfold zbs
  rw [List.range_succ_eq_map, List.map_cons, List.map_map]
  exact Iff.rfl
theorem zbs_eq {n : Nat} {f g : Nat → zAs} (h : ∀ i, i < n → f i = g i) {w : va_W} (hw : zbs n f w) : zbs n g w := zbs_imp (fun i hi w q => by rw [← h i hi]; exact q) w hw
def lnx (nd : Nat → Nat) (n i : Nat) : Value := if i + 1 < n then .ref (nd (i + 1)) else .null
def lpv (nd : Nat → Nat) (i : Nat) : Value := if i = 0 then .null else .ref (nd (i - 1))
def LLn (nd xs : Nat → Nat) (n i : Nat) : zAs := z1 (nd i) (.inr (6, [.ref (xs i), lnx nd n i, lpv nd i]))
def lfi (nd : Nat → Nat) (n : Nat) : Value := if n = 0 then .null else .ref (nd 0)
def lla (nd : Nat → Nat) (n : Nat) : Value := if n = 0 then .null else .ref (nd (n - 1))
def LLo (a : Nat) (mo : Int) (n : Nat) (fi la : Value) : zAs := z1 a (.inr (5, [.int (iI mo), .int (iI ((n : Nat) : Int)), fi, la]))
def LL (G : zG) (a n : Nat) (xs : Nat → Nat) : zAs := zex fun nd : Nat → Nat => zex fun mo : Int => zS [zpu (iR mo), LLo a mo n (lfi nd n) (lla nd n), zbs n (LLn nd xs n)]
def lcons (q : Nat) (xs : Nat → Nat) : Nat → Nat := fun i => if i = 0 then q else xs (i - 1)
theorem lcons_0 (q : Nat) (xs : Nat → Nat) : lcons q xs 0 = q := rfl
theorem lcons_s (q : Nat) (xs : Nat → Nat) (i : Nat) : lcons q xs (i + 1) = xs i := rfl
theorem LL_mk {G : zG} {a n : Nat} {xs nd : Nat → Nat} {z : Int} {fi la : Value} (h1 : fi = lfi nd n) (h2 : la = lla nd n) : ∀ {w1 w2 : va_W}, LLo a z n fi la w1 → zbs n (LLn nd xs n) w2 → LL G a n xs (w1 ++ w2) := by
  intro w1 w2 h3 h4
  obtain ⟨m, h5, h6⟩ := zmo z
  subst h1 h2
  unfold LLo at h3
  rw [h6] at h3
  exact ⟨nd, m, [], w1 ++ w2, ⟨h5, rfl⟩, ⟨w1, w2, h3, ⟨w2, [], h4, rfl, (List.append_nil _).symm⟩, rfl⟩, rfl⟩
theorem LL_un {G : zG} {a n : Nat} {xs : Nat → Nat} {w : va_W} (h : LL G a n xs w) : ∃ (nd : Nat → Nat) (mo : Int) (w1 w2 : va_W), iR mo ∧ LLo a mo n (lfi nd n) (lla nd n) w1 ∧ zbs n (LLn nd xs n) w2 ∧ w = w1 ++ w2 := by
  obtain ⟨nd, mo, w1, w2, ⟨h1, rfl⟩, ⟨w3, w4, h2, ⟨w5, w6, h3, h4, rfl⟩, rfl⟩, rfl⟩ := h
  cases h4
  exact ⟨nd, mo, w3, w5, h1, h2, h3, by simp⟩
/-! forms -/
def LLE (G : zG) (a : Nat) : zAs := zex fun mo : Int => zS [LLo a mo 0 .null .null]
/-- the first node open -/
def LLF (G : zG) (a m : Nat) (xs : Nat → Nat) : zAs := zex fun nd : Nat → Nat => zex fun mo : Int => zS [LLo a mo (m + 1) (.ref (nd 0)) (.ref (nd m)), z1 (nd 0) (.inr (6, [.ref (xs 0), lnx nd (m + 1) 0, .null])), zbs m (fun i => LLn nd xs (m + 1) (i + 1))]
def LLFF (G : zG) (a m : Nat) (xs : Nat → Nat) : zAs := zex fun nd : Nat → Nat => zex fun mo : Int => zS [LLo a mo (m + 2) (.ref (nd 0)) (.ref (nd (m + 1))), z1 (nd 0) (.inr (6, [.ref (xs 0), .ref (nd 1), .null])), z1 (nd 1) (.inr (6, [.ref (xs 1), lnx nd (m + 2) 1, .ref (nd 0)])), zbs m (fun i => LLn nd xs (m + 2) (i + 2))]
/-- the last node open -/
def LLB (G : zG) (a m : Nat) (xs : Nat → Nat) : zAs := zex fun nd : Nat → Nat => zex fun mo : Int => zS [LLo a mo (m + 1) (.ref (nd 0)) (.ref (nd m)), zbs m (LLn nd xs (m + 1)), z1 (nd m) (.inr (6, [.ref (xs m), .null, lpv nd m]))]
def LLBB (G : zG) (a m : Nat) (xs : Nat → Nat) : zAs := zex fun nd : Nat → Nat => zex fun mo : Int => zS [LLo a mo (m + 2) (.ref (nd 0)) (.ref (nd (m + 1))), zbs m (LLn nd xs (m + 2)), z1 (nd m) (.inr (6, [.ref (xs m), .ref (nd (m + 1)), lpv nd m])), z1 (nd (m + 1)) (.inr (6, [.ref (xs (m + 1)), .null, .ref (nd m)]))]
theorem zS2 {P Q : zAs} {w1 w2 : va_W} (h1 : P w1) (h2 : Q w2) : zS [P, Q] (w1 ++ w2) := ⟨w1, w2, h1, ⟨w2, [], h2, rfl, (List.append_nil _).symm⟩, rfl⟩
theorem zS3 {P Q R : zAs} {w1 w2 w3 : va_W} (h1 : P w1) (h2 : Q w2) (h3 : R w3) : zS [P, Q, R] (w1 ++ (w2 ++ w3)) := ⟨w1, _, h1, zS2 h2 h3, rfl⟩
theorem zS4 {P Q R S : zAs} {w1 w2 w3 w4 : va_W} (h1 : P w1) (h2 : Q w2) (h3 : R w3) (h4 : S w4) : zS [P, Q, R, S] (w1 ++ (w2 ++ (w3 ++ w4))) := ⟨w1, _, h1, zS3 h2 h3 h4, rfl⟩
theorem zS1e {P : zAs} {w : va_W} (h : zS [P] w) : P w := by
  obtain ⟨w1, w2, h1, h2, rfl⟩ := h
  cases h2
  rw [List.append_nil]; exact h1
theorem zS2e {P Q : zAs} {w : va_W} (h : zS [P, Q] w) : ∃ w1 w2, P w1 ∧ Q w2 ∧ w = w1 ++ w2 := by
  obtain ⟨w1, w2, h1, h2, rfl⟩ := h
  exact ⟨w1, w2, h1, zS1e h2, rfl⟩
theorem zS3e {P Q R : zAs} {w : va_W} (h : zS [P, Q, R] w) : ∃ w1 w2 w3, P w1 ∧ Q w2 ∧ R w3 ∧ w = w1 ++ (w2 ++ w3) := by
  obtain ⟨w1, w2, h1, h2, rfl⟩ := h
  obtain ⟨w3, w4, h3, h4, rfl⟩ := zS2e h2
  exact ⟨w1, w3, w4, h1, h3, h4, rfl⟩
theorem zS4e {P Q R S : zAs} {w : va_W} (h : zS [P, Q, R, S] w) : ∃ w1 w2 w3 w4, P w1 ∧ Q w2 ∧ R w3 ∧ S w4 ∧ w = w1 ++ (w2 ++ (w3 ++ w4)) := by
  obtain ⟨w1, w2, h1, h2, rfl⟩ := h
  obtain ⟨w3, w4, w5, h3, h4, h5, rfl⟩ := zS3e h2
  exact ⟨w1, w3, w4, w5, h1, h3, h4, h5, rfl⟩
theorem LL_E {G : zG} {a : Nat} {xs : Nat → Nat} : ∀ w, LL G a 0 xs w → LLE G a w := by
  intro w h
  obtain ⟨nd, mo, w1, w2, h1, h2, h3, rfl⟩ := LL_un h
  cases h3
  exact ⟨mo, w1, [], h2, rfl, rfl⟩
theorem LL_F {G : zG} {a m : Nat} {xs : Nat → Nat} : ∀ w, LL G a (m + 1) xs w → LLF G a m xs w := by
  intro w h
  obtain ⟨nd, mo, w1, w2, h1, h2, h3, rfl⟩ := LL_un h
  obtain ⟨w3, w4, h4, h5, rfl⟩ := zbs_c.mp h3
  exact ⟨nd, mo, zS3 h2 h4 h5⟩
theorem LL_FF {G : zG} {a m : Nat} {xs : Nat → Nat} : ∀ w, LL G a (m + 2) xs w → LLFF G a m xs w := by
  intro w h
  obtain ⟨nd, mo, w1, w2, h1, h2, h3, rfl⟩ := LL_un h
  obtain ⟨w3, w4, h4, h5, rfl⟩ := zbs_c.mp h3
  obtain ⟨w5, w6, h6, h7, rfl⟩ := zbs_c.mp h5
  refine ⟨nd, mo, zS4 h2 ?_ h6 h7⟩
  unfold LLn lnx at h4
  rw [if_pos (by omega)] at h4
  exact h4
theorem LL_B {G : zG} {a m : Nat} {xs : Nat → Nat} : ∀ w, LL G a (m + 1) xs w → LLB G a m xs w := by
  intro w h
  obtain ⟨nd, mo, w1, w2, h1, h2, h3, rfl⟩ := LL_un h
  obtain ⟨w3, w4, h4, h5, rfl⟩ := zbs_s.mp h3
  refine ⟨nd, mo, zS3 h2 h4 ?_⟩
  unfold LLn lnx at h5
  rw [if_neg (by omega)] at h5
  exact h5
theorem LL_BB {G : zG} {a m : Nat} {xs : Nat → Nat} : ∀ w, LL G a (m + 2) xs w → LLBB G a m xs w := by
  intro w h
  obtain ⟨nd, mo, w1, w2, h1, h2, h3, rfl⟩ := LL_un h
  obtain ⟨w3, w4, h4, h5, rfl⟩ := zbs_s.mp h3
  obtain ⟨w5, w6, h6, h7, rfl⟩ := zbs_s.mp h4
  unfold LLn lnx at h5 h7
  rw [if_neg (by omega)] at h5
  rw [if_pos (by omega)] at h7
  rw [List.append_assoc]
  exact ⟨nd, mo, zS4 h2 h6 h7 h5⟩
theorem LLE_mk {G : zG} {a : Nat} (xs : Nat → Nat) {z : Int} : ∀ w, zS [LLo a z 0 .null .null] w → LL G a 0 xs w := by
  intro w h
  have h2 := LL_mk (G := G) (n := 0) (xs := xs) (nd := fun _ => 0) rfl rfl (zS1e h) (w2 := []) rfl
  rw [List.append_nil] at h2
  exact h2
theorem LL1_mk {G : zG} {a o q : Nat} {xs : Nat → Nat} {z : Int} (hq : xs 0 = q) : ∀ w, zS [LLo a z 1 (.ref o) (.ref o), z1 o (.inr (6, [.ref q, .null, .null]))] w → LL G a 1 xs w := by
  intro w h
  obtain ⟨w1, w2, h1, h2, rfl⟩ := zS2e h
  subst hq
  exact LL_mk (nd := fun _ => o) rfl rfl h1 (zbs_c.mpr ⟨w2, [], h2, rfl, (List.append_nil _).symm⟩)
theorem LL_addF {G : zG} {a m o q : Nat} {xs nd : Nat → Nat} {z : Int} : ∀ w, zS [LLo a z (m + 2) (.ref o) (.ref (nd m)), z1 o (.inr (6, [.ref q, .ref (nd 0), .null])), z1 (nd 0) (.inr (6, [.ref (xs 0), lnx nd (m + 1) 0, .ref o])), zbs m (fun i => LLn nd xs (m + 1) (i + 1))] w → LL G a (m + 2) (lcons q xs) w := by
  intro w h
  obtain ⟨w1, w2, w3, w4, h1, h2, h3, h4, rfl⟩ := zS4e h
  refine LL_mk (nd := lcons o nd) rfl rfl h1 (zbs_c.mpr ⟨w2, _, h2, zbs_c.mpr ⟨w3, w4, ?_, zbs_eq (fun i _ => ?_) h4, rfl⟩, rfl⟩)
  · unfold LLn lnx lpv
    unfold lnx at h3
    by_cases hm : 0 < m
    · rw [if_pos (by omega)] at h3 ⊢; exact h3
    · rw [if_neg (by omega)] at h3 ⊢; exact h3
  · unfold LLn lnx lpv
    by_cases hm : i + 2 < m + 1
    · rw [if_pos (show i + 1 + 1 < m + 1 by omega), if_pos (show i + 1 + 1 + 1 < m + 2 by omega)]; rfl
    · rw [if_neg (show ¬ i + 1 + 1 < m + 1 by omega), if_neg (show ¬ i + 1 + 1 + 1 < m + 2 by omega)]; rfl
theorem LL_remF {G : zG} {a m : Nat} {xs nd : Nat → Nat} {z : Int} : ∀ w, zS [LLo a z (m + 1) (.ref (nd 1)) (.ref (nd (m + 1))), z1 (nd 1) (.inr (6, [.ref (xs 1), lnx nd (m + 2) 1, .null])), zbs m (fun i => LLn nd xs (m + 2) (i + 2))] w → LL G a (m + 1) (fun i => xs (i + 1)) w := by
  intro w h
  obtain ⟨w1, w2, w3, h1, h2, h3, rfl⟩ := zS3e h
  refine LL_mk (nd := fun i => nd (i + 1)) rfl rfl h1 (zbs_c.mpr ⟨w2, w3, ?_, zbs_eq (fun i _ => ?_) h3, rfl⟩)
  · unfold LLn lnx lpv
    unfold lnx at h2
    by_cases hm : 0 < m
    · rw [if_pos (by omega)] at h2 ⊢; exact h2
    · rw [if_neg (by omega)] at h2 ⊢; exact h2
  · unfold LLn lnx lpv
    by_cases hm : i + 3 < m + 2
    · rw [if_pos (show i + 2 + 1 < m + 2 by omega), if_pos (show i + 1 + 1 < m + 1 by omega)]; rfl
    · rw [if_neg (show ¬ i + 2 + 1 < m + 2 by omega), if_neg (show ¬ i + 1 + 1 < m + 1 by omega)]; rfl
theorem LL_addB {G : zG} {a m o q : Nat} {xs ys nd : Nat → Nat} {z : Int} (hq : ys (m + 1) = q) (hy : ∀ i, i < m + 1 → xs i = ys i) : ∀ w, zS [LLo a z (m + 2) (.ref (nd 0)) (.ref o), zbs m (LLn nd xs (m + 1)), z1 (nd m) (.inr (6, [.ref (xs m), .ref o, lpv nd m])), z1 o (.inr (6, [.ref q, .null, .ref (nd m)]))] w → LL G a (m + 2) ys w := by
  intro w h
  obtain ⟨w1, w2, w3, w4, h1, h2, h3, h4, rfl⟩ := zS4e h
  have e : ∀ i, i < m + 1 → va_up nd (m + 1) o i = nd i := fun i hi => va_up_ne _ _ (by omega)
  have e1 : va_up nd (m + 1) o (m + 1) = o := va_up_self _ _ _
  have e2 : ∀ i, i < m + 1 → lpv (va_up nd (m + 1) o) i = lpv nd i := fun i hi => by
    unfold lpv; split
    · rfl
    · rw [e _ (by omega)]
  have e3 : w1 ++ (w2 ++ (w3 ++ w4)) = w1 ++ ((w2 ++ w3) ++ w4) := by simp
  rw [e3]
  refine LL_mk (nd := va_up nd (m + 1) o) ?_ ?_ h1 (zbs_s.mpr ⟨w2 ++ w3, w4, zbs_s.mpr ⟨w2, w3, zbs_eq (fun i hi => ?_) h2, ?_, rfl⟩, ?_, rfl⟩)
  · show _ = Value.ref (va_up nd (m + 1) o 0)
    rw [e 0 (by omega)]
  · show _ = Value.ref (va_up nd (m + 1) o (m + 1))
    rw [e1]
  · unfold LLn lnx
    rw [e2 i (by omega), e i (by omega), if_pos (show i + 1 < m + 1 by omega), if_pos (show i + 1 < m + 2 by omega), e (i + 1) (by omega), hy i (by omega)]
  · unfold LLn lnx
    rw [e2 m (by omega), e m (by omega), if_pos (show m + 1 < m + 2 by omega), e1, ← hy m (by omega)]; exact h3
  · unfold LLn lnx lpv
    rw [if_neg (by omega), if_neg (by omega), e1, Nat.add_sub_cancel, e m (by omega), hq]; exact h4
theorem LL_remB {G : zG} {a m : Nat} {xs nd : Nat → Nat} {z : Int} : ∀ w, zS [LLo a z (m + 1) (.ref (nd 0)) (.ref (nd m)), zbs m (LLn nd xs (m + 2)), z1 (nd m) (.inr (6, [.ref (xs m), .null, lpv nd m]))] w → LL G a (m + 1) xs w := by
  intro w h
  obtain ⟨w1, w2, w3, h1, h2, h3, rfl⟩ := zS3e h
  refine LL_mk (nd := nd) rfl rfl h1 (zbs_s.mpr ⟨w2, w3, zbs_eq (fun i hi => ?_) h2, ?_, rfl⟩)
  · unfold LLn lnx
    rw [if_pos (show i + 1 < m + 2 by omega), if_pos (show i + 1 < m + 1 by omega)]
  · unfold LLn lnx
    rw [if_neg (by omega)]; exact h3
theorem LL_imp {G : zG} {a n : Nat} {xs ys : Nat → Nat} (h : ∀ i, i < n → xs i = ys i) : ∀ w, LL G a n xs w → LL G a n ys w := by
  intro w hw
  obtain ⟨nd, mo, w1, w2, h1, h2, h3, rfl⟩ := LL_un hw
  exact LL_mk rfl rfl h2 (zbs_eq (fun i hi => by unfold LLn; rw [h i hi]) h3)
theorem LL_hp {G : zG} {a n : Nat} {xs : Nat → Nat} {H : Heap} (h : zhp G (LL G a n xs) H) : ∃ (nd : Nat → Nat) (mo : Int), iR mo ∧ va_at G.1 zcl (a, .inr (5, [.int (iI mo), .int (iI ((n : Nat) : Int)), lfi nd n, lla nd n])) H ∧ ∀ i, i < n → va_at G.1 zcl (nd i, .inr (6, [.ref (xs i), lnx nd n i, lpv nd i])) H := by
  obtain ⟨nd, h1⟩ := h.ex
  obtain ⟨mo, h2⟩ := h1.ex
  exact ⟨nd, mo, (h2.mem 0 rfl).pu, (h2.mem 1 rfl).z1, fun i hi => ((h2.mem 2 rfl).bs i hi).z1⟩
section ZLk
variable {X : zX} {G : zG} {cc : ByteArray} {nL : Nat} {own : String} {A : Nat → Prop} {P : Heap → Prop} {Ps Rs : List zAs} {k n pc : Nat} {L : List (Option Value)} {rest : List Value}
theorem LL_rc {H : Heap} {a m : Nat} {xs : Nat → Nat} (hK : zK G (zs X)) (h : zhp G (LL G a m xs) H) : zrc X RJ4 a H := by
  obtain ⟨nd, mo, -, h1, -⟩ := LL_hp h
  exact zrc_of hK h1 (r := (RJ4, TJ4, 4)) rfl
theorem zx_bc {N : Nat} {f : Nat → zAs} (kk : zV X nL A (zH G A (zS (f 0 :: zbs N (fun i => f (i + 1)) :: Rs))) k n pc L rest) : zV X nL A (zH G A (zS (zbs (N + 1) f :: Rs))) k n pc L rest :=
  zx_open (Qs := [f 0, zbs N (fun i => f (i + 1))]) (fun w h => by
    obtain ⟨w1, w2, h1, h2, rfl⟩ := zbs_c.mp h
    exact zS2 h1 h2) kk
theorem zx_b0 {f : Nat → zAs} (kk : zV X nL A (zH G A (zS Rs)) k n pc L rest) : zV X nL A (zH G A (zS (zbs 0 f :: Rs))) k n pc L rest := zx_drop kk
end ZLk
/-- all of it, as it is at the start of a loop over its nodes -/
def LLa (G : zG) (a m : Nat) (xs : Nat → Nat) : zAs := zex fun nd : Nat → Nat => zex fun mo : Int => zS [LLo a mo (m + 1) (.ref (nd 0)) (.ref (nd m)), zbs (m + 1) (LLn nd xs (m + 1))]
theorem LL_a {G : zG} {a m : Nat} {xs : Nat → Nat} : ∀ w, LL G a (m + 1) xs w → LLa G a m xs w := by
  intro w h
  obtain ⟨nd, mo, w1, w2, h1, h2, h3, rfl⟩ := LL_un h
  exact ⟨nd, mo, zS2 h2 h3⟩
/-- a LinkedList and an iterator over it, at its i-th place -/
def lcu (nd : Nat → Nat) (n i : Nat) : Value := if i < n then .ref (nd i) else .null
def LIo (it a : Nat) (mo : Int) (i : Nat) (lr cu : Value) : zAs := z1 it (.inr (9, [lr, cu, .int (iI ((i : Nat) : Int)), .int (iI mo), .ref a]))
def LLI (G : zG) (a n : Nat) (xs : Nat → Nat) (it i : Nat) : zAs := zex fun nd : Nat → Nat => zex fun mo : Int => zex fun lr : Value => zS [zpu (iR mo), LLo a mo n (lfi nd n) (lla nd n), zbs n (LLn nd xs n), LIo it a mo i lr (lcu nd n i)]
theorem LLI_un {G : zG} {a n it i : Nat} {xs : Nat → Nat} {w : va_W} (h : LLI G a n xs it i w) : ∃ (nd : Nat → Nat) (mo : Int) (lr : Value) (w1 w2 w3 : va_W), iR mo ∧ LLo a mo n (lfi nd n) (lla nd n) w1 ∧ zbs n (LLn nd xs n) w2 ∧ LIo it a mo i lr (lcu nd n i) w3 ∧ w = w1 ++ (w2 ++ w3) := by
  obtain ⟨nd, mo, lr, w1, w2, ⟨h1, rfl⟩, h2, rfl⟩ := h
  obtain ⟨w3, w4, w5, h3, h4, h5, rfl⟩ := zS3e h2
  exact ⟨nd, mo, lr, w3, w4, w5, h1, h3, h4, h5, rfl⟩
theorem LLI_end {G : zG} {a n it i : Nat} {xs : Nat → Nat} : ∀ w, LLI G a n xs it i w → ∃ w1 w2, w = w1 ++ w2 ∧ LL G a n xs w1 := by
  intro w h
  obtain ⟨nd, mo, lr, w1, w2, w3, h1, h2, h3, h4, rfl⟩ := LLI_un h
  exact ⟨w1 ++ w2, w3, by simp, LL_mk rfl rfl h2 h3⟩
theorem LLI_mk {G : zG} {a n it i : Nat} {xs nd : Nat → Nat} {mo : Int} {lr cu fi la : Value} (h1 : iR mo) (h2 : fi = lfi nd n) (h3 : la = lla nd n) (h4 : cu = lcu nd n i) : ∀ w, zS [LLo a mo n fi la, zbs n (LLn nd xs n), LIo it a mo i lr cu] w → LLI G a n xs it i w := by
  intro w h
  subst h2 h3 h4
  obtain ⟨w1, w2, w3, h5, h6, h7, rfl⟩ := zS3e h
  exact ⟨nd, mo, lr, [], _, ⟨h1, rfl⟩, zS3 h5 h6 h7, rfl⟩
theorem LLI_hp {G : zG} {a n it i : Nat} {xs : Nat → Nat} {H : Heap} (h : zhp G (LLI G a n xs it i) H) : ∃ (nd : Nat → Nat) (mo : Int) (lr : Value), iR mo ∧ va_at G.1 zcl (a, .inr (5, [.int (iI mo), .int (iI ((n : Nat) : Int)), lfi nd n, lla nd n])) H ∧ (∀ i, i < n → va_at G.1 zcl (nd i, .inr (6, [.ref (xs i), lnx nd n i, lpv nd i])) H) ∧ va_at G.1 zcl (it, .inr (9, [lr, lcu nd n i, .int (iI ((i : Nat) : Int)), .int (iI mo), .ref a])) H := by
  obtain ⟨nd, h1⟩ := h.ex
  obtain ⟨mo, h2⟩ := h1.ex
  obtain ⟨lr, h3⟩ := h2.ex
  exact ⟨nd, mo, lr, (h3.mem 0 rfl).pu, (h3.mem 1 rfl).z1, fun i hi => ((h3.mem 2 rfl).bs i hi).z1, (h3.mem 3 rfl).z1⟩
section ZLI
variable {X : zX} {G : zG} {cc : ByteArray} {nL : Nat} {own : String} {A : Nat → Prop} {P : Heap → Prop} {Ps Rs : List zAs} {k n pc : Nat} {L : List (Option Value)} {rest : List Value}
theorem zx_litend {a m it i : Nat} {xs : Nat → Nat} (kk : zV X nL A (zH G A (zS (LL G a m xs :: Rs))) k n pc L rest) : zV X nL A (zH G A (zS (LLI G a m xs it i :: Rs))) k n pc L rest := zx_shed LLI_end kk
theorem LLI_rc {H : Heap} {a m it i : Nat} {xs : Nat → Nat} (hK : zK G (zs X)) (h : zhp G (LLI G a m xs it i) H) : zrc X RJ22 it H := by
  obtain ⟨nd, mo, lr, -, -, -, h1⟩ := LLI_hp h
  exact zrc_of hK h1 (r := (RJ22, TJ22, 5)) rfl
end ZLI
def LLE0 (G : zG) (a : Nat) : zAs := zex fun mo : Int => zS [zpu (iR mo), LLo a mo 0 .null .null]
theorem LL_E0 {G : zG} {a : Nat} {xs : Nat → Nat} : ∀ w, LL G a 0 xs w → LLE0 G a w := by
  intro w h
  obtain ⟨nd, mo, w1, w2, h1, h2, h3, rfl⟩ := LL_un h
  cases h3
  exact ⟨mo, [], _, ⟨h1, rfl⟩, ⟨w1, [], h2, rfl, rfl⟩, rfl⟩
def LLa0 (G : zG) (a m : Nat) (xs : Nat → Nat) : zAs := zex fun nd : Nat → Nat => zex fun mo : Int => zS [zpu (iR mo), LLo a mo (m + 1) (.ref (nd 0)) (.ref (nd m)), zbs (m + 1) (LLn nd xs (m + 1))]
theorem LL_a0 {G : zG} {a m : Nat} {xs : Nat → Nat} : ∀ w, LL G a (m + 1) xs w → LLa0 G a m xs w := by
  intro w h
  obtain ⟨nd, mo, w1, w2, h1, h2, h3, rfl⟩ := LL_un h
  exact ⟨nd, mo, [], _, ⟨h1, rfl⟩, zS2 h2 h3, rfl⟩
theorem LLI0_mk {G : zG} {a it : Nat} {xs : Nat → Nat} {mo : Int} {lr : Value} (h1 : iR mo) : ∀ w, zS [LLo a mo 0 .null .null, LIo it a mo 0 lr .null] w → LLI G a 0 xs it 0 w := by
  intro w h
  obtain ⟨w1, w2, h2, h3, rfl⟩ := zS2e h
  exact LLI_mk (nd := fun _ => 0) h1 rfl rfl rfl _ (zS3 (w2 := []) h2 rfl h3)
