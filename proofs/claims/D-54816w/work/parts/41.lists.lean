/-! Lists of the JDK: what they hold -/
set_option maxRecDepth 100000
def zad : Option Value → Nat
  | some (.ref b) => b
  | _ => 0
section ZL
variable {X : zX} {G : zG} {cc : ByteArray} {nL : Nat} {own : String} {A : Nat → Prop} {P : Heap → Prop} {Ps Rs : List zAs} {k n pc : Nat} {L : List (Option Value)} {rest : List Value}
theorem zx_or {P1 P2 : zAs} (h1 : zV X nL A (zH G A (zS (P1 :: Rs))) k n pc L rest) (h2 : zV X nL A (zH G A (zS (P2 :: Rs))) k n pc L rest) : zV X nL A (zH G A (zS ((fun w => P1 w ∨ P2 w) :: Rs))) k n pc L rest := by
  rintro H locs ls ⟨ws, ⟨w1, w2, h3 | h3, h4, h5⟩, h6⟩ hS hl
  · exact h1 H locs ls ⟨ws, ⟨w1, w2, h3, h4, h5⟩, h6⟩ hS hl
  · exact h2 H locs ls ⟨ws, ⟨w1, w2, h3, h4, h5⟩, h6⟩ hS hl
theorem zx_nest {Qs : List zAs} (kk : zV X nL A (zH G A (zS (Qs ++ Rs))) k n pc L rest) : zV X nL A (zH G A (zS (zS Qs :: Rs))) k n pc L rest := zx_open (fun _ h => h) kk
theorem zx_mar (hC : zC X G cc nL own) (hA : zA X G A) {st : List Value} {y : MethodName} {cc' : ByteArray} {nL' : Nat} {ret : Option FieldType} {f lo mc ms : Nat} {av : List Value} {RC : Heap → Prop} {Cs : List zAs} {Qr : Nat → List zAs} (is js : List Nat) {Rs : List zAs}
    (hcall : zCall X nL k n pc st rest y cc' nL' ret f lo mc ms av RC) (hM : zMA (zl X) y cc' nL' ret f lo G av Cs (fun v => ∃ b, v = some (.ref b)) (fun v => Qr (zad v)) mc ms) (hRC : ∀ H, zH G A (zS Ps) H → RC H) (hp : (is ++ js).isPerm (List.range Ps.length) = true) (his : zpick Ps is = Cs) (hjs : zpick Ps js = Rs)
    (kk : ∀ b, zV X nL A (zH G A (zS (Rs ++ Qr b))) (k + mc) (n + ms) (pc + 3) L (.ref b :: rest)) : zV X nL A (zH G A (zS Ps)) k n pc L st :=
  zx_ma hC hA is js hcall hM hRC hp his hjs (fun v hv => by obtain ⟨b, rfl⟩ := hv; exact kk b)
theorem zmo (z : Int) : ∃ m, iR m ∧ iI z = iI m := ⟨(iI z).toInt, ⟨by have := Int32.le_toInt (iI z); omega, by have := Int32.toInt_lt (iI z); omega⟩, (Int32.ofInt_toInt (iI z)).symm⟩
theorem zx_ishr1 (hC : zC X G cc nL own) {z : Nat} (hz : z < 2147483648) (hd : decode cc pc = .ok (.ishr, 1)) (kk : zV X nL A P k n (pc + 1) L (.int (iI ((z / 2 : Nat) : Int)) :: rest)) : zV X nL A P k n pc L (.int (iI 1) :: .int (iI (z : Int)) :: rest) := fun H locs ls hP hS hl =>
  lv_ishr hC.1.1 hC.1.2.1 hd (by
    have e := pk_shrN (n := z) (by omega) ((iI 1 : Int32) &&& 31) 1 (by decide)
    rw [Nat.pow_one] at e
    rw [iI_nat, e, ← iI_nat]
    exact kk H locs ls hP hS hl)
end ZL
/-- an ArrayList that has no array of its own -/
def AL0 (G : zG) (a n : Nat) : zAs := zex fun mo : Int => zS [zpu (iR mo ∧ n = 0), z1 a (.inr (4, [.int (iI mo), .ref (G.2.1 100), .int (iI ((n : Nat) : Int))]))]
def AL1 (G : zG) (a n : Nat) (xs : Nat → Nat) : zAs := zex fun mo : Int => zex fun ed : Nat => zex fun N : Nat => zex fun f : Nat → Option Nat => zS [zpu (iR mo ∧ n ≤ N ∧ N ≤ 120 ∧ 10 ≤ N ∧ ∀ i, i < n → f i = some (xs i)), z1 a (.inr (4, [.int (iI mo), .ref ed, .int (iI ((n : Nat) : Int))])), z1 ed (zQ G 3 N f)]
def AL (G : zG) (a n : Nat) (xs : Nat → Nat) : zAs := fun w => AL0 G a n w ∨ AL1 G a n xs w
theorem AL0_mk {G : zG} {a n : Nat} (xs : Nat → Nat) {z : Int} (hn : n = 0) : ∀ w, zS [z1 a (.inr (4, [.int (iI z), .ref (G.2.1 100), .int (iI ((n : Nat) : Int))]))] w → AL G a n xs w := by
  intro w h
  obtain ⟨m, h1, h2⟩ := zmo z
  rw [h2] at h
  exact .inl ⟨m, [], w, ⟨⟨h1, hn⟩, rfl⟩, h, rfl⟩
theorem AL1_mk {G : zG} {a n ed N : Nat} {xs : Nat → Nat} {f : Nat → Option Nat} {z : Int} (h1 : n ≤ N) (h2 : N ≤ 120) (h3 : 10 ≤ N) (h4 : ∀ i, i < n → f i = some (xs i)) : ∀ w, zS [z1 a (.inr (4, [.int (iI z), .ref ed, .int (iI ((n : Nat) : Int))])), z1 ed (zQ G 3 N f)] w → AL G a n xs w := by
  intro w h
  obtain ⟨m, h5, h6⟩ := zmo z
  rw [h6] at h
  exact .inr ⟨m, ed, N, f, [], w, ⟨⟨h5, h1, h2, h3, h4⟩, rfl⟩, h, rfl⟩
theorem AL_imp {G : zG} {a n : Nat} {xs ys : Nat → Nat} (h : ∀ i, i < n → xs i = ys i) : ∀ w, AL G a n xs w → AL G a n ys w := by
  rintro w (h1 | ⟨mo, ed, N, f, w1, w2, ⟨⟨h1, h2, h3, h4, h5⟩, h6⟩, h7, h8⟩)
  · exact .inl h1
  · exact .inr ⟨mo, ed, N, f, w1, w2, ⟨⟨h1, h2, h3, h4, fun i hi => by rw [h5 i hi, h i hi]⟩, h6⟩, h7, h8⟩
theorem AL_hp {G : zG} {a n : Nat} {xs : Nat → Nat} {H : Heap} (h : zhp G (AL G a n xs) H) : ∃ (mo : Int) (ed : Nat), iR mo ∧ va_at G.1 zcl (a, .inr (4, [.int (iI mo), .ref ed, .int (iI ((n : Nat) : Int))])) H ∧ (0 < n → ∃ (N : Nat) (f : Nat → Option Nat), n ≤ N ∧ N ≤ 120 ∧ (∀ i, i < n → f i = some (xs i)) ∧ va_at G.1 zcl (ed, zQ G 3 N f) H) := by
  obtain ⟨ws, h1 | h1, h2⟩ := h
  · obtain ⟨mo, hm⟩ := h1
    have h3 : zhp G (zS _) H := ⟨ws, hm, h2⟩
    have h4 := (h3.mem 0 rfl).pu
    exact ⟨mo, _, h4.1, (h3.mem 1 rfl).z1, fun q => by omega⟩
  · obtain ⟨mo, ed, N, f, hm⟩ := h1
    have h3 : zhp G (zS _) H := ⟨ws, hm, h2⟩
    have h4 := (h3.mem 0 rfl).pu
    exact ⟨mo, ed, h4.1, (h3.mem 1 rfl).z1, fun q => ⟨N, f, h4.2.1, h4.2.2.1, h4.2.2.2.2, (h3.mem 2 rfl).z1⟩⟩
section ZL2
variable {X : zX} {G : zG} {cc : ByteArray} {nL : Nat} {own : String} {A : Nat → Prop} {P : Heap → Prop} {Ps Rs : List zAs} {k n pc : Nat} {L : List (Option Value)} {rest : List Value}
theorem zx_rd0 (hC : zC X G cc nL own) (hA : ∀ q, A q → zNS G q) {st : List Value} {y : MethodName} {cc' : ByteArray} {nL' : Nat} {ret : Option FieldType} {f lo : Nat} {av : List Value} {RC : Heap → Prop} {P' : Heap → Prop}
    (hcall : zCall X nL k n pc st rest y cc' nL' ret f lo 0 0 av RC) (hM : zRd (zl X) y cc' nL' ret f lo G av P' (fun v => v = none)) (hRC : ∀ H, P H → RC H) (hP' : ∀ H, P H → P' H) (kk : zV X nL A P k n (pc + 3) L rest) : zV X nL A P k n pc L st :=
  zx_rd hC hA hcall hM hRC hP' (fun v hv => by subst hv; exact kk)
theorem zx_ialdN (hC : zC X G cc nL own) {a N : Nat} {f : Nat → Int32} (hat : ∀ H, P H → va_at G.1 zcl (a, zI G N f) H) (j : Nat) (hj : j < N) (hN : N < 2147483648) (hd : decode cc pc = .ok (.iaload, 1))
    (kk : zV X nL A P k n (pc + 1) L (.int (f j) :: rest)) : zV X nL A P k n pc L (.int (iI (j : Int)) :: .ref a :: rest) := zx_iald hC hat (by omega) (by omega) hN hd kk
theorem zx_baldN (hC : zC X G cc nL own) {a N : Nat} {f : Nat → Int32} (hat : ∀ H, P H → va_at G.1 zcl (a, zBy G N f) H) (j : Nat) (hj : j < N) (hN : N < 2147483648) (hd : decode cc pc = .ok (.baload, 1))
    (kk : zV X nL A P k n (pc + 1) L (.int (f j) :: rest)) : zV X nL A P k n pc L (.int (iI (j : Int)) :: .ref a :: rest) := zx_bald hC hat (by omega) (by omega) hN hd kk
theorem zx_aaldN (hC : zC X G cc nL own) {a N : Nat} {f : Nat → Option Nat} (t : Nat) (ht : t = 3 ∨ t = 4) (hat : ∀ H, P H → va_at G.1 zcl (a, zQ G t N f) H) (j : Nat) (hj : j < N) (hN : N < 2147483648) (hd : decode cc pc = .ok (.aaload, 1))
    (kk : zV X nL A P k n (pc + 1) L (va_rf (f j) :: rest)) : zV X nL A P k n pc L (.int (iI (j : Int)) :: .ref a :: rest) := zx_aald hC t ht hat (by omega) (by omega) hN hd kk
theorem zx_iastN (hC : zC X G cc nL own) {a N : Nat} {f f' : Nat → Int32} {x : Int32} (i : Nat) (hat : Ps[i]? = some (z1 a (zI G N f))) (j : Nat) (hj : j < N) (hN : N < 2147483648) (hf : upd f j x = f') (hd : decode cc pc = .ok (.iastore, 1))
    (kk : zV X nL A (zH G A (zS (Ps.set i (z1 a (zI G N f'))))) k n (pc + 1) L rest) : zV X nL A (zH G A (zS Ps)) k n pc L (.int x :: .int (iI (j : Int)) :: .ref a :: rest) := zx_iast hC i hat (by omega) (by omega) hN hf hd kk
theorem AL_rc {H : Heap} {a m : Nat} {xs : Nat → Nat} (hK : zK G (zs X)) (h : zhp G (AL G a m xs) H) : zrc X RJ2 a H := by
  obtain ⟨mo, ed, -, h1, -⟩ := AL_hp h
  exact zrc_of hK h1 (r := (RJ2, TJ2, 3)) rfl
end ZL2
section ZL3
variable {X : zX} {G : zG} {cc : ByteArray} {nL : Nat} {own : String} {A : Nat → Prop} {P : Heap → Prop} {Ps Rs : List zAs} {k n pc : Nat} {L : List (Option Value)} {rest : List Value}
theorem zx_obj (hC : zC X G cc nL own) {idx b : Nat} (hlink : Cond.methodLink own idx Lib.objectInit ∈ lw_all) (hR : 1 ≤ (zR X).frames ∧ 20 ≤ (zR X).locals) (hr : (rest.map fun v => v.category).sum ≤ 8) (hd : decode cc pc = .ok (.invokespecial idx, 3))
    (kk : zV X nL A P k n (pc + 3) L rest) : zV X nL A P k n pc L (.ref b :: rest) := fun H locs ls hP hS hl =>
  W.objInit hC.1.1 hC.1.2.1 hC.1.2.2.2.1 (hC.1.2.2.2.2 _ hlink) (hC.1.2.2.2.2 _ q129) (hC.1.2.2.2.2 _ q130) rfl (by rw [hC.1.2.2.1]; exact hl.1) rfl hd hR.1 (by show 2 * 0 + _ + 12 ≤ _; omega) (kk H locs ls hP hS hl)
end ZL3
section ZMa
variable {X : zX} {G : zG} {cc : ByteArray} {nL : Nat} {own : String} {A : Nat → Prop} {P : Heap → Prop} {k n pc : Nat} {L : List (Option Value)} {rest : List Value}
theorem zx_mmax (hC : zC X G cc nL own) {idx : Nat} {x y : Int} (hlink : Cond.methodLink own idx Lib.Math.max.name ∈ lw_all) (hR : 1 ≤ (zR X).frames ∧ 21 ≤ (zR X).locals) (hr : (rest.map fun v => v.category).sum ≤ 8) (hcs : k ≤ (zR X).cells ∧ n ≤ (zR X).slots) (hx : iR x) (hy : iR y) (hd : decode cc pc = .ok (.invokestatic idx, 3))
    (kk : zV X nL A P k n (pc + 3) L (.int (iI (if x < y then y else x)) :: rest)) : zV X nL A P k n pc L (.int (iI y) :: .int (iI x) :: rest) := fun H locs ls hP hS hl =>
  va_mmax hC.1.1 hC.1.2.1 (by rw [hC.1.2.2.1]; exact hl.1.symm) hC.1.2.2.2.1 (hC.1.2.2.2.2 _ hlink) (hC.1.2.2.2.2 _ q544) (hC.1.2.2.2.2 _ q102) (hC.1.2.2.2.2 _ q545) hR.1 (by omega) hcs.1 hcs.2 hd (by
    have e : (if iI x < iI y then iI y else iI x) = iI (if x < y then y else x) := by
      by_cases h : x < y
      · rw [if_pos h, if_pos ((iI_lt hx hy).mpr h)]
      · rw [if_neg h, if_neg (fun q => h ((iI_lt hx hy).mp q))]
    rw [e]; exact kk H locs ls hP hS hl)
theorem zx_mmin (hC : zC X G cc nL own) {idx : Nat} {x y : Int} (hlink : Cond.methodLink own idx Lib.Math.min.name ∈ lw_all) (hR : 1 ≤ (zR X).frames ∧ 21 ≤ (zR X).locals) (hr : (rest.map fun v => v.category).sum ≤ 8) (hcs : k ≤ (zR X).cells ∧ n ≤ (zR X).slots) (hx : iR x) (hy : iR y) (hd : decode cc pc = .ok (.invokestatic idx, 3))
    (kk : zV X nL A P k n (pc + 3) L (.int (iI (if y < x then y else x)) :: rest)) : zV X nL A P k n pc L (.int (iI y) :: .int (iI x) :: rest) := fun H locs ls hP hS hl =>
  va_mmin hC.1.1 hC.1.2.1 (by rw [hC.1.2.2.1]; exact hl.1.symm) hC.1.2.2.2.1 (hC.1.2.2.2.2 _ hlink) (hC.1.2.2.2.2 _ q562) (hC.1.2.2.2.2 _ q102) (hC.1.2.2.2.2 _ q563) hR.1 (by omega) hcs.1 hcs.2 hd (by
    have e : (if iI y < iI x then iI y else iI x) = iI (if y < x then y else x) := by
      by_cases h : y < x
      · rw [if_pos h, if_pos ((iI_lt hy hx).mpr h)]
      · rw [if_neg h, if_neg (fun q => h ((iI_lt hy hx).mp q))]
    rw [e]; exact kk H locs ls hP hS hl)
theorem zx_mabs (hC : zC X G cc nL own) {idx : Nat} {x : Int} (hlink : Cond.methodLink own idx Lib.Math.abs.name ∈ lw_all) (hR : 1 ≤ (zR X).frames ∧ 21 ≤ (zR X).locals) (hr : (rest.map fun v => v.category).sum ≤ 8) (hcs : k ≤ (zR X).cells ∧ n ≤ (zR X).slots) (hx : iR x) (hd : decode cc pc = .ok (.invokestatic idx, 3))
    (kk : zV X nL A P k n (pc + 3) L (.int (iI (if x < 0 then -x else x)) :: rest)) : zV X nL A P k n pc L (.int (iI x) :: rest) := fun H locs ls hP hS hl =>
  va_mabs hC.1.1 hC.1.2.1 (by rw [hC.1.2.2.1]; exact hl.1.symm) hC.1.2.2.2.1 (hC.1.2.2.2.2 _ hlink) (hC.1.2.2.2.2 _ q953) (hC.1.2.2.2.2 _ q102) (hC.1.2.2.2.2 _ q954) hR.1 (by omega) hcs.1 hcs.2 hd (by
    have h0 : iR 0 := ⟨by decide, by decide⟩
    have e : (if 0 ≤ iI x then iI x else 0 - iI x) = iI (if x < 0 then -x else x) := by
      by_cases h : x < 0
      · rw [if_pos h, if_neg (fun q => by have := (iI_le h0 hx).mp q; omega), ← iI_zero, iI_sub, Int.zero_sub]
      · rw [if_neg h, if_pos (show (0 : Int32) ≤ iI x from (iI_le h0 hx).mpr (by omega))]
    rw [e]; exact kk H locs ls hP hS hl)
end ZMa
def fnul (f : Nat → Option Nat) (i : Nat) : Nat → Option Nat := fun j => if j < i then none else f j
theorem fnul_0 (f : Nat → Option Nat) : fnul f 0 = f := by funext j; simp [fnul]
theorem fnul_s (f : Nat → Option Nat) (i : Nat) : va_up (fnul f i) i none = fnul f (i + 1) := by
  funext j
  simp only [va_up, fnul]
  by_cases h : j = i
  · rw [if_pos h, if_pos (by omega)]
  · rw [if_neg h]
    by_cases h2 : j < i
    · rw [if_pos h2, if_pos (by omega)]
    · rw [if_neg h2, if_neg (by omega)]
/-- an ArrayList and an iterator over it, at its i-th place -/
def ALI0 (G : zG) (a m it i : Nat) : zAs := zex fun mo : Int => zex fun lr : Int => zS [zpu (iR mo ∧ m = 0), z1 a (.inr (4, [.int (iI mo), .ref (G.2.1 100), .int (iI ((m : Nat) : Int))])), z1 it (.inr (8, [.int (iI ((i : Nat) : Int)), .int (iI lr), .int (iI mo), .ref a]))]
def ALI1 (G : zG) (a m : Nat) (xs : Nat → Nat) (it i : Nat) : zAs := zex fun mo : Int => zex fun ed : Nat => zex fun N : Nat => zex fun f : Nat → Option Nat => zex fun lr : Int => zS [zpu (iR mo ∧ m ≤ N ∧ N ≤ 120 ∧ 10 ≤ N ∧ ∀ i, i < m → f i = some (xs i)), z1 a (.inr (4, [.int (iI mo), .ref ed, .int (iI ((m : Nat) : Int))])), z1 ed (zQ G 3 N f), z1 it (.inr (8, [.int (iI ((i : Nat) : Int)), .int (iI lr), .int (iI mo), .ref a]))]
def ALI (G : zG) (a m : Nat) (xs : Nat → Nat) (it i : Nat) : zAs := fun w => ALI0 G a m it i w ∨ ALI1 G a m xs it i w
theorem ALI0_mk {G : zG} {a m it i : Nat} (xs : Nat → Nat) {mo lr : Int} (h1 : iR mo) (h2 : m = 0) : ∀ w, zS [z1 a (.inr (4, [.int (iI mo), .ref (G.2.1 100), .int (iI ((m : Nat) : Int))])), z1 it (.inr (8, [.int (iI ((i : Nat) : Int)), .int (iI lr), .int (iI mo), .ref a]))] w → ALI G a m xs it i w :=
  fun w h => .inl ⟨mo, lr, [], w, ⟨⟨h1, h2⟩, rfl⟩, h, rfl⟩
theorem ALI1_mk {G : zG} {a m it i ed N : Nat} {xs : Nat → Nat} {f : Nat → Option Nat} {mo lr : Int} (h1 : iR mo) (h2 : m ≤ N) (h3 : N ≤ 120) (h4 : 10 ≤ N) (h5 : ∀ i, i < m → f i = some (xs i)) : ∀ w, zS [z1 a (.inr (4, [.int (iI mo), .ref ed, .int (iI ((m : Nat) : Int))])), z1 ed (zQ G 3 N f), z1 it (.inr (8, [.int (iI ((i : Nat) : Int)), .int (iI lr), .int (iI mo), .ref a]))] w → ALI G a m xs it i w :=
  fun w h => .inr ⟨mo, ed, N, f, lr, [], w, ⟨⟨h1, h2, h3, h4, h5⟩, rfl⟩, h, rfl⟩
theorem ALI_hp {G : zG} {a m it i : Nat} {xs : Nat → Nat} {H : Heap} (h : zhp G (ALI G a m xs it i) H) : ∃ (mo lr : Int) (ed : Nat), va_at G.1 zcl (a, .inr (4, [.int (iI mo), .ref ed, .int (iI ((m : Nat) : Int))])) H ∧ va_at G.1 zcl (it, .inr (8, [.int (iI ((i : Nat) : Int)), .int (iI lr), .int (iI mo), .ref a])) H := by
  obtain ⟨ws, h1 | h1, h2⟩ := h
  · obtain ⟨mo, lr, hm⟩ := h1
    have h3 : zhp G (zS _) H := ⟨ws, hm, h2⟩
    exact ⟨mo, lr, _, (h3.mem 1 rfl).z1, (h3.mem 2 rfl).z1⟩
  · obtain ⟨mo, ed, N, f, lr, hm⟩ := h1
    have h3 : zhp G (zS _) H := ⟨ws, hm, h2⟩
    exact ⟨mo, lr, ed, (h3.mem 1 rfl).z1, (h3.mem 3 rfl).z1⟩
section ZIt
variable {X : zX} {G : zG} {cc : ByteArray} {nL : Nat} {own : String} {A : Nat → Prop} {P : Heap → Prop} {Ps Rs : List zAs} {k n pc : Nat} {L : List (Option Value)} {rest : List Value}
/-- a part of an assertion let go -/
theorem zx_shed {P1 P2 : zAs} (h : ∀ w, P1 w → ∃ w1 w2, w = w1 ++ w2 ∧ P2 w1) (kk : zV X nL A (zH G A (zS (P2 :: Rs))) k n pc L rest) : zV X nL A (zH G A (zS (P1 :: Rs))) k n pc L rest :=
  zx_pre (fun H hP => by
    obtain ⟨ws, ⟨w1, w2, h1, h2, rfl⟩, h3, h4⟩ := hP
    obtain ⟨w3, w4, rfl, h5⟩ := h w1 h1
    obtain ⟨p1, p2⟩ := zP_app.mp h3
    obtain ⟨d1, d2, d3⟩ := zD_app.mp h4
    exact ⟨w3 ++ w2, ⟨w3, w2, h5, h2, rfl⟩, zP_app.mpr ⟨(zP_app.mp p1).1, p2⟩, zD_app.mpr ⟨(zD_app.mp d1).1, d2, fun p hp q hq => d3 p (List.mem_append_left _ hp) q hq⟩⟩) kk
theorem ALI_end {a m it i : Nat} {xs : Nat → Nat} : ∀ w, ALI G a m xs it i w → ∃ w1 w2, w = w1 ++ w2 ∧ AL G a m xs w1 := by
  rintro w (⟨mo, lr, w1, w2, ⟨⟨h1, h2⟩, rfl⟩, ⟨w3, w4, h3, ⟨w5, w6, h5, h6, rfl⟩, rfl⟩, rfl⟩ | ⟨mo, ed, N, f, lr, w1, w2, ⟨⟨h1, h2, h7, h8, h9⟩, rfl⟩, ⟨w3, w4, h3, ⟨w5, w6, h5, ⟨w7, w8, h10, h11, rfl⟩, rfl⟩, rfl⟩, rfl⟩)
  · cases h3; cases h5; cases h6
    exact ⟨[_], [_], rfl, .inl ⟨mo, [], [_], ⟨⟨h1, h2⟩, rfl⟩, ⟨[_], [], rfl, rfl, rfl⟩, rfl⟩⟩
  · cases h3; cases h5; cases h10; cases h11
    exact ⟨[_, _], [_], rfl, .inr ⟨mo, ed, N, f, [], [_, _], ⟨⟨h1, h2, h7, h8, h9⟩, rfl⟩, ⟨[_], [_], rfl, ⟨[_], [], rfl, rfl, rfl⟩, rfl⟩, rfl⟩⟩
theorem zx_itend {a m it i : Nat} {xs : Nat → Nat} (kk : zV X nL A (zH G A (zS (AL G a m xs :: Rs))) k n pc L rest) : zV X nL A (zH G A (zS (ALI G a m xs it i :: Rs))) k n pc L rest := zx_shed ALI_end kk
theorem ALI_rc {H : Heap} {a m it i : Nat} {xs : Nat → Nat} (hK : zK G (zs X)) (h : zhp G (ALI G a m xs it i) H) : zrc X RJ9 it H := by
  obtain ⟨mo, lr, ed, -, h1⟩ := ALI_hp h
  exact zrc_of hK h1 (r := (RJ9, TJ9, 4)) rfl
end ZIt
theorem zhp_mk1 {G : zG} {a : Nat} {e : va_E} {H : Heap} (h : va_at G.1 zcl (a, e) H) : zhp G (z1 a e) H := ⟨[_], rfl, zP1 h⟩
