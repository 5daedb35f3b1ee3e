/-! More rows: heap predicates, stars, allocation, nest mates, static fields, stores of references -/
set_option maxRecDepth 100000
def zhp (G : zG) (P : zAs) (H : Heap) : Prop := ∃ ws, P ws ∧ va_P G.1 zcl ws H
def zemp : zAs := fun ws => ws = []
abbrev zQ (G : zG) (j N : Nat) (f : Nat → Option Nat) : va_E := .inl (G.2.1 j, N, .inr (.inr (.inr (.inr f))))
abbrev zBy (G : zG) (N : Nat) (f : Nat → Int32) : va_E := .inl (G.2.1 2, N, .inl f)
theorem zhp.z1 {G : zG} {a : Nat} {e : va_E} {H : Heap} (h : zhp G (z1 a e) H) : va_at G.1 zcl (a, e) H := by
  obtain ⟨ws, rfl, h2⟩ := h
  exact h2 0 _ rfl
theorem zhp.mem {G : zG} {Ps : List zAs} {P : zAs} {H : Heap} (i : Nat) (hi : Ps[i]? = some P) (h : zhp G (zS Ps) H) : zhp G P H := by
  obtain ⟨ws, h1, h2⟩ := h
  induction Ps generalizing ws i with
  | nil => simp at hi
  | cons Q Qs ih =>
    obtain ⟨w1, w2, h3, h4, rfl⟩ := h1
    obtain ⟨p1, p2⟩ := zP_app.mp h2
    cases i with
    | zero => cases hi; exact ⟨w1, h3, p1⟩
    | succ i => exact ih i (by rw [List.getElem?_cons_succ] at hi; exact hi) w2 h4 p2
theorem zhp.ex {G : zG} {α : Type} {f : α → zAs} {H : Heap} (h : zhp G (zex f) H) : ∃ x, zhp G (f x) H := by
  obtain ⟨ws, ⟨x, h1⟩, h2⟩ := h
  exact ⟨x, ws, h1, h2⟩
theorem zhp.pu {G : zG} {F : Prop} {H : Heap} (h : zhp G (zpu F) H) : F := by
  obtain ⟨ws, h1, h2⟩ := h
  exact h1.1
theorem zhp.imp {G : zG} {P Q : zAs} {H : Heap} (hq : ∀ w, P w → Q w) (h : zhp G P H) : zhp G Q H := by
  obtain ⟨ws, h1, h2⟩ := h
  exact ⟨ws, hq ws h1, h2⟩
theorem zH.hp {G : zG} {A : Nat → Prop} {Ps : List zAs} {H : Heap} (h : zH G A (zS Ps) H) : zhp G (zS Ps) H := by
  obtain ⟨ws, h1, h2, -⟩ := h
  exact ⟨ws, h1, h2⟩
theorem zof {G : zG} {A : Nat → Prop} {Ps : List zAs} {P : zAs} (i : Nat) (hi : Ps[i]? = some P) : ∀ H, zH G A (zS Ps) H → zhp G P H := fun _ h => h.hp.mem i hi
/-! one assertion taken out of a list of them, another put in -/
theorem zS_out : ∀ {l : List zAs} {i : Nat} {P : zAs} {ws : va_W}, zS l ws → l[i]? = some P → ∃ w1 w2, P w1 ∧ zS (l.set i zemp) w2 ∧ (w1 ++ w2).Perm ws
  | [], i, P, ws, h, hi => by simp at hi
  | Q :: l, 0, P, ws, ⟨w1, w2, h1, h2, h3⟩, hi => by
    cases hi
    subst h3
    exact ⟨w1, w2, h1, ⟨[], w2, rfl, h2, rfl⟩, List.Perm.refl _⟩
  | Q :: l, i + 1, P, ws, ⟨w1, w2, h1, h2, h3⟩, hi => by
    rw [List.getElem?_cons_succ] at hi
    obtain ⟨w3, w4, h4, h5, h6⟩ := zS_out h2 hi
    subst h3
    refine ⟨w3, w1 ++ w4, h4, ⟨w1, w4, h1, h5, rfl⟩, ?_⟩
    rw [← List.append_assoc]
    refine (List.perm_append_comm.append_right w4).trans ?_
    rw [List.append_assoc]
    exact h6.append_left w1
theorem zS_in : ∀ {l : List zAs} {i : Nat} {P : zAs} {w1 w2 : va_W}, P w1 → zS (l.set i zemp) w2 → i < l.length → ∃ ws, zS (l.set i P) ws ∧ ws.Perm (w1 ++ w2)
  | [], i, P, w1, w2, h1, h2, hi => by simp at hi
  | Q :: l, 0, P, w1, w2, h1, ⟨w3, w4, h3, h4, h5⟩, hi => by
    cases h3
    subst h5
    exact ⟨w1 ++ w2, ⟨w1, w2, h1, h4, rfl⟩, List.Perm.refl _⟩
  | Q :: l, i + 1, P, w1, w2, h1, ⟨w3, w4, h3, h4, h5⟩, hi => by
    obtain ⟨ws, h6, h7⟩ := zS_in h1 h4 (by simpa using hi)
    subst h5
    refine ⟨w3 ++ ws, ⟨w3, ws, h3, h6, rfl⟩, ?_⟩
    refine (h7.append_left w3).trans ?_
    rw [← List.append_assoc, ← List.append_assoc]
    exact List.perm_append_comm.append_right w4
/-- n assertions -/
def zbs (n : Nat) (f : Nat → zAs) : zAs := zS ((List.range n).map f)
/-- .. without the i-th -/
def zho (n i : Nat) (f : Nat → zAs) : zAs := zS (((List.range n).map f).set i zemp)
theorem zbs_get {n i : Nat} {f : Nat → zAs} (hi : i < n) : ((List.range n).map f)[i]? = some (f i) := by
  rw [List.getElem?_map, List.getElem?_range hi]; rfl
theorem zbs_set {n i : Nat} {f g : Nat → zAs} (hg : ∀ j, j < n → j ≠ i → g j = f j) : ((List.range n).map f).set i (g i) = (List.range n).map g := by
  apply List.ext_getElem?
  intro j
  rw [List.getElem?_set]
  by_cases hj : j < n
  · by_cases e : i = j
    · subst e
      rw [if_pos rfl, if_pos (by simp; exact hj), zbs_get hj]
    · rw [if_neg e, zbs_get hj, zbs_get hj, hg j hj (fun q => e q.symm)]
  · have h1 : ((List.range n).map g)[j]? = none := List.getElem?_eq_none (by simp; omega)
    have h2 : ((List.range n).map f)[j]? = none := List.getElem?_eq_none (by simp; omega)
    rw [h1, h2]
    split
    · rw [if_neg (by simp; omega)]
    · rfl
theorem zbs_zho {n i : Nat} {f g : Nat → zAs} (hg : ∀ j, j < n → j ≠ i → g j = f j) : zho n i f = zho n i g := by
  have h : ((List.range n).map f).set i zemp = ((List.range n).map g).set i zemp := by
    have h1 := zbs_set (n := n) (i := i) (f := f) (g := fun j => if j = i then zemp else f j) (fun j _ hj => if_neg hj)
    have h2 := zbs_set (n := n) (i := i) (f := g) (g := fun j => if j = i then zemp else f j) (fun j hjn hj => (if_neg hj).trans (hg j hjn hj).symm)
    rw [if_pos rfl] at h1 h2
    rw [h1, h2]
  unfold zho
  rw [h]
theorem zbs_imp : ∀ {n : Nat} {f g : Nat → zAs}, (∀ i, i < n → ∀ w, f i w → g i w) → ∀ w, zbs n f w → zbs n g w := by
  intro n f g h
  unfold zbs
  have : ∀ (l : List Nat), (∀ i ∈ l, i < n) → ∀ w, zS (l.map f) w → zS (l.map g) w := by
    intro l
    induction l with
    | nil => intro _ w hw; exact hw
    | cons a l ih =>
      rintro hl w ⟨w1, w2, h1, h2, h3⟩
      exact ⟨w1, w2, h a (hl a (List.mem_cons_self)) w1 h1, ih (fun i hi => hl i (List.mem_cons_of_mem _ hi)) w2 h2, h3⟩
  exact this _ (fun i hi => List.mem_range.mp hi)
theorem zbs_s {n : Nat} {f : Nat → zAs} {w : va_W} : zbs (n + 1) f w ↔ ∃ w1 w2, zbs n f w1 ∧ f n w2 ∧ w = w1 ++ w2 := by
  unfold zbs
  rw [List.range_succ, List.map_append, zS_app]
  constructor
  · rintro ⟨w1, w2, h1, ⟨w3, w4, h3, h4, h5⟩, h6⟩
    cases h4
    rw [List.append_nil] at h5
    subst h5
    exact ⟨w1, w2, h1, h3, h6⟩
  · rintro ⟨w1, w2, h1, h2, h3⟩
    exact ⟨w1, w2, h1, ⟨w2, [], h2, rfl, (List.append_nil _).symm⟩, h3⟩
theorem zhp.bs {G : zG} {n : Nat} {f : Nat → zAs} {H : Heap} (h : zhp G (zbs n f) H) (i : Nat) (hi : i < n) : zhp G (f i) H := zhp.mem i (zbs_get hi) h
section ZH4
variable {X : zX} {G : zG} {cc : ByteArray} {nL : Nat} {own : String} {A : Nat → Prop} {P : Heap → Prop} {Ps Rs : List zAs} {k n pc : Nat} {L : List (Option Value)} {rest : List Value}
theorem zx_bout {N : Nat} {f : Nat → zAs} (i : Nat) (hi : i < N) (kk : zV X nL A (zH G A (zS (f i :: zho N i f :: Rs))) k n pc L rest) : zV X nL A (zH G A (zS (zbs N f :: Rs))) k n pc L rest :=
  zx_pre (fun H hP => by
    obtain ⟨ws, ⟨w1, w2, h1, h2, rfl⟩, h3, h4⟩ := hP
    obtain ⟨w3, w4, h5, h6, h7⟩ := zS_out h1 (zbs_get hi)
    refine ⟨w3 ++ (w4 ++ w2), ⟨w3, w4 ++ w2, h5, ⟨w4, w2, h6, h2, rfl⟩, rfl⟩, ?_, ?_⟩
    · refine zP_perm h3 ?_
      rw [← List.append_assoc]; exact h7.append_right w2
    · refine zD_perm h4 ?_
      rw [← List.append_assoc]; exact h7.append_right w2) kk
theorem zx_bin {N i : Nat} {f : Nat → zAs} {Q : zAs} (g : Nat → zAs) (hi : i < N) (hq : g i = Q) (hg : ∀ j, j < N → j ≠ i → g j = f j) (kk : zV X nL A (zH G A (zS (zbs N g :: Rs))) k n pc L rest) : zV X nL A (zH G A (zS (Q :: zho N i f :: Rs))) k n pc L rest :=
  zx_pre (fun H hP => by
    obtain ⟨ws, ⟨w1, w2, h1, ⟨w3, w4, h2, h3, rfl⟩, rfl⟩, h4, h5⟩ := hP
    obtain ⟨w5, h6, h7⟩ := zS_in (l := (List.range N).map f) (i := i) h1 h2 (by simp; exact hi)
    rw [← hq, zbs_set hg] at h6
    refine ⟨w5 ++ w4, ⟨w5, w4, h6, h3, rfl⟩, ?_, ?_⟩
    · refine zP_perm h4 ?_
      rw [← List.append_assoc]; exact h7.append_right w4
    · refine zD_perm h5 ?_
      rw [← List.append_assoc]; exact h7.append_right w4) kk
/-- an implication of the first assertion -/
theorem zx_imp {P1 P2 : zAs} (h : ∀ w, P1 w → P2 w) (kk : zV X nL A (zH G A (zS (P2 :: Rs))) k n pc L rest) : zV X nL A (zH G A (zS (P1 :: Rs))) k n pc L rest :=
  zx_pre (fun H hP => by
    obtain ⟨ws, ⟨w1, w2, h1, h2, h3⟩, h4⟩ := hP
    exact ⟨ws, ⟨w1, w2, h w1 h1, h2, h3⟩, h4⟩) kk
theorem zx_emp (kk : zV X nL A (zH G A (zS (zemp :: Rs))) k n pc L rest) : zV X nL A (zH G A (zS Rs)) k n pc L rest :=
  zx_pre (fun H hP => by
    obtain ⟨ws, h1, h2⟩ := hP
    exact ⟨ws, ⟨[], ws, rfl, h1, rfl⟩, h2⟩) kk
/-- the assertions at these places alone: the others are let go -/
theorem zP_mem {D : va_G} {ws ws' : va_W} {H : Heap} (h : va_P D zcl ws H) (hm : ∀ q ∈ ws', q ∈ ws) : va_P D zcl ws' H := by
  intro k q hk
  obtain ⟨i, hi⟩ := List.getElem?_of_mem (hm q (List.mem_of_getElem? hk))
  exact h i q hi
theorem zx_drop {P1 : zAs} (kk : zV X nL A (zH G A (zS Rs)) k n pc L rest) : zV X nL A (zH G A (zS (P1 :: Rs))) k n pc L rest :=
  zx_pre (fun H hP => by
    obtain ⟨ws, ⟨w1, w2, h1, h2, rfl⟩, h3, h4⟩ := hP
    exact ⟨w2, h2, (zP_app.mp h3).2, (zD_app.mp h4).2.1⟩) kk
/-! allocation -/
theorem zx_new (hC : zC X G cc nL own) (hA : zA X G A) {C : String} {T : u_T} {N ci index : Nat} {fs : List Value} (hin : ∀ w ∈ u_ws C T N, w ∈ lw_all) (ty : Nat → FieldType) (hty : ∀ k, k < N → parseFieldDescriptor (T k).2.2.1 = some (ty k)) (hcl : Cond.classLink own index C ∈ lw_all) (hinst : Cond.instantiable C N ∈ lw_all) (hini : Cond.initialized C ∈ lw_all) (hc : zcl[ci]? = some (C, T, N)) (hfs : ∀ j, j < N → defaultValue (ty j) = vp_V fs j) (hcs : k + 1 ≤ (zR X).cells ∧ n + N ≤ (zR X).slots) (hd : decode cc pc = .ok (.new index, 3))
    (kk : ∀ q, zV X nL A (zH G A (zS (z1 q (.inr (ci, fs)) :: Ps))) (k + 1) (n + N) (pc + 3) L (.ref q :: rest)) : zV X nL A (zH G A (zS Ps)) k n pc L rest := fun H locs ls hP hS hl => by
  obtain ⟨ws, h1, h2, h3⟩ := hP
  refine va_new hC.1.1 hC.1.2.1 hC.1.2.2.2.2 hin ty hty hC.1.2.2.2.1 (hC.1.2.2.2.2 _ hcl) (hC.1.2.2.2.2 _ hinst) (hC.1.2.2.2.2 _ hini) hC.2.1.1 h2 h3 hS hA.1 hc hfs hcs.1 hcs.2 hd (fun q H1 p1 p2 p3 => ?_)
  exact kk q H1 locs ls ⟨(q, .inr (ci, fs)) :: ws, ⟨[_], ws, rfl, h1, rfl⟩, zP_perm p1 (List.perm_append_singleton _ _).symm, zD_perm p2 (List.perm_append_singleton _ _).symm⟩ p3 hl
theorem zRA {U : State} {c : ClassId} {ty : FieldType} (h : va_RA U c ty) : U.vm.findClass ("[" ++ ty.toString) = some c := by
  cases ty with
  | object C => obtain ⟨kA, comp, h1, h2, h3, h4⟩ := h; exact h4
  | _ => exact h
theorem zcls_eq {U : State} {D : va_G} {tys : List (ClassId × FieldType)} {cA : ClassId} {ty : FieldType} (hK : va_K D zcl (tys ++ [(cA, ty)]) U) (j : Nat) {cB : ClassId} (hj : tys[j]? = some (cB, ty)) : cA = cB := by
  have h1 := zRA (hK.2 tys.length (cA, ty) (by rw [List.getElem?_append_right (Nat.le_refl _), Nat.sub_self]; rfl)).2
  have h2 := zRA (hK.2 j (cB, ty) (by rw [List.getElem?_append_left (List.getElem?_eq_some_iff.mp hj).1]; exact hj)).2
  exact Option.some.inj (h1.symm.trans h2)
theorem iI_nneg {z : Nat} (h : z < 2147483647) : ¬ iI (z : Int) < 0 := fun q => iI_in (z := (z : Int)) (n := z + 1) (by omega) (by omega) (by omega) (Or.inl q)
theorem zx_newI (hC : zC X G cc nL own) (hA : zA X G A) {z : Nat} (hz : z ≤ 100000) (hcs : k + 1 ≤ (zR X).cells ∧ n + z ≤ (zR X).slots) (harr : Cond.arrayClass .int ∈ lw_all) (hd : decode cc pc = .ok (.newarray .int, 2))
    (kk : ∀ q, zV X nL A (zH G A (zS (z1 q (zI G z (fun _ => 0)) :: Ps))) (k + 1) (n + z) (pc + 2) L (.ref q :: rest)) : zV X nL A (zH G A (zS Ps)) k n pc L (.int (iI (z : Int)) :: rest) := fun H locs ls hP hS hl => by
  obtain ⟨ws, h1, h2, h3⟩ := hP
  refine va_newa (atype := .int) hC.1.1 hC.1.2.1 (hC.1.2.2.2.2 _ harr) rfl hC.2.1.1 h2 h3 hS hA.1 (a0 := (z, .inl (fun _ => 0))) (N' := z) (fun cA => rfl) (iI_nneg (by omega)) (by rw [iI_clamp ⟨by omega, by omega⟩]; exact Int.toNat_natCast z) (by show z * 4 ≤ _; omega) hcs.1 hcs.2 hd (fun q cA H1 p0 p1 p2 p3 => ?_)
  have e := zcls_eq p0 0 rfl
  subst e
  exact kk q H1 locs ls ⟨(q, _) :: ws, ⟨[_], ws, rfl, h1, rfl⟩, zP_perm p1 (List.perm_append_singleton _ _).symm, zD_perm p2 (List.perm_append_singleton _ _).symm⟩ p3 hl
theorem zx_newJ (hC : zC X G cc nL own) (hA : zA X G A) {z : Nat} (hz : z ≤ 100000) (hcs : k + 1 ≤ (zR X).cells ∧ n + z ≤ (zR X).slots) (harr : Cond.arrayClass .long ∈ lw_all) (hd : decode cc pc = .ok (.newarray .long, 2))
    (kk : ∀ q, zV X nL A (zH G A (zS (z1 q (zJ G z (fun _ => 0)) :: Ps))) (k + 1) (n + z) (pc + 2) L (.ref q :: rest)) : zV X nL A (zH G A (zS Ps)) k n pc L (.int (iI (z : Int)) :: rest) := fun H locs ls hP hS hl => by
  obtain ⟨ws, h1, h2, h3⟩ := hP
  refine va_newa (atype := .long) hC.1.1 hC.1.2.1 (hC.1.2.2.2.2 _ harr) rfl hC.2.1.1 h2 h3 hS hA.1 (a0 := (z, .inr (.inl (fun _ => 0)))) (N' := z) (fun cA => rfl) (iI_nneg (by omega)) (by rw [iI_clamp ⟨by omega, by omega⟩]; exact Int.toNat_natCast z) (by show z * 8 ≤ _; omega) hcs.1 hcs.2 hd (fun q cA H1 p0 p1 p2 p3 => ?_)
  have e := zcls_eq p0 1 rfl
  subst e
  exact kk q H1 locs ls ⟨(q, _) :: ws, ⟨[_], ws, rfl, h1, rfl⟩, zP_perm p1 (List.perm_append_singleton _ _).symm, zD_perm p2 (List.perm_append_singleton _ _).symm⟩ p3 hl
theorem zx_newB (hC : zC X G cc nL own) (hA : zA X G A) {z : Nat} (hz : z ≤ 100000) (hcs : k + 1 ≤ (zR X).cells ∧ n + z ≤ (zR X).slots) (harr : Cond.arrayClass .byte ∈ lw_all) (hd : decode cc pc = .ok (.newarray .byte, 2))
    (kk : ∀ q, zV X nL A (zH G A (zS (z1 q (zBy G z (fun _ => 0)) :: Ps))) (k + 1) (n + z) (pc + 2) L (.ref q :: rest)) : zV X nL A (zH G A (zS Ps)) k n pc L (.int (iI (z : Int)) :: rest) := fun H locs ls hP hS hl => by
  obtain ⟨ws, h1, h2, h3⟩ := hP
  refine va_newa (atype := .byte) hC.1.1 hC.1.2.1 (hC.1.2.2.2.2 _ harr) rfl hC.2.1.1 h2 h3 hS hA.1 (a0 := (z, .inl (fun _ => 0))) (N' := z) (fun cA => rfl) (iI_nneg (by omega)) (by rw [iI_clamp ⟨by omega, by omega⟩]; exact Int.toNat_natCast z) (by show z * 1 ≤ _; omega) hcs.1 hcs.2 hd (fun q cA H1 p0 p1 p2 p3 => ?_)
  have e := zcls_eq p0 2 rfl
  subst e
  exact kk q H1 locs ls ⟨(q, _) :: ws, ⟨[_], ws, rfl, h1, rfl⟩, zP_perm p1 (List.perm_append_singleton _ _).symm, zD_perm p2 (List.perm_append_singleton _ _).symm⟩ p3 hl
theorem zx_newq (hC : zC X G cc nL own) (hA : zA X G A) {z index : Nat} (hz : z ≤ 100000) (hcs : k + 1 ≤ (zR X).cells ∧ n + z ≤ (zR X).slots) (hcl : Cond.classLink own index "java/lang/Object" ∈ lw_all) (hd : decode cc pc = .ok (.anewarray index, 3))
    (kk : ∀ q, zV X nL A (zH G A (zS (z1 q (zQ G 3 z (fun _ => none)) :: Ps))) (k + 1) (n + z) (pc + 3) L (.ref q :: rest)) : zV X nL A (zH G A (zS Ps)) k n pc L (.int (iI (z : Int)) :: rest) := fun H locs ls hP hS hl => by
  obtain ⟨ws, h1, h2, h3⟩ := hP
  refine va_newq hC.1.1 hC.1.2.1 hC.1.2.2.2.1 (hC.1.2.2.2.2 _ hcl) hC.2.1.2.2.1 hC.2.1.1 h2 h3 hS hA.1 (N' := z) (iI_nneg (by omega)) (by rw [iI_clamp ⟨by omega, by omega⟩]; exact Int.toNat_natCast z) (by omega) hcs.1 hcs.2 hd (fun q cA H1 p0 p1 p2 p3 => ?_)
  have e := zcls_eq p0 3 rfl
  subst e
  exact kk q H1 locs ls ⟨(q, _) :: ws, ⟨[_], ws, rfl, h1, rfl⟩, zP_perm p1 (List.perm_append_singleton _ _).symm, zD_perm p2 (List.perm_append_singleton _ _).symm⟩ p3 hl
/-! nest mates' fields, static fields -/
theorem zx_getfN (hC : zC X G cc nL own) {ref C host : String} {T : u_T} {N ci index a : Nat} {fs : List Value} {v : Value} (hin : ∀ w ∈ u_ws C T N, w ∈ lw_all) (hat : ∀ H, P H → va_at G.1 zcl (a, .inr (ci, fs)) H) (hc : zcl[ci]? = some (C, T, N)) (j : Nat) (hj : j < N) (hlink : Cond.fieldLinkNest own index ref (T j).2.1 (T j).2.2.1 host ∈ lw_tbl) (hsame : ∀ x, (zs X).fieldFound? (T j).1 (T j).2.1 (T j).2.2.1 = some x → (zs X).fieldFound? ref (T j).2.1 (T j).2.2.1 = some x) (hv : fs[j]? = some v) (hd : decode cc pc = .ok (.getfield index, 3))
    (kk : zV X nL A P k n (pc + 3) L (v :: rest)) : zV X nL A P k n pc L (.ref a :: rest) := fun H locs ls hP hS hl =>
  va_getN hC.1.1 hC.1.2.1 hC.1.2.2.2.2 hin hC.1.2.2.2.1 hC.2.1.1 (zP1 (hat H hP)) 0 rfl hc j hj (va_Nw.use (by rfl) (hC.2.1.2.1 _ (zws_in hlink rfl))) hsame hv hd (kk H locs ls hP hS hl)
theorem zx_putfN (hC : zC X G cc nL own) {ref C host : String} {T : u_T} {N ci index a : Nat} {fs fs' : List Value} {v : Value} (i : Nat) (hin : ∀ w ∈ u_ws C T N, w ∈ lw_all) (ty0 : Nat → FieldType) (hty : ∀ k, k < N → parseFieldDescriptor (T k).2.2.1 = some (ty0 k)) (hnm : ∀ a, a < N → ∀ b, b < N → a ≠ b → (T a).2.1 ≠ (T b).2.1) (hat : Ps[i]? = some (z1 a (.inr (ci, fs)))) (hc : zcl[ci]? = some (C, T, N)) (j : Nat) (hj : j < N) (hlink : Cond.fieldLinkNest own index ref (T j).2.1 (T j).2.2.1 host ∈ lw_tbl) (hsame : ∀ x, (zs X).fieldFound? (T j).1 (T j).2.1 (T j).2.2.1 = some x → (zs X).fieldFound? ref (T j).2.1 (T j).2.2.1 = some x) (hfin : (T j).2.2.2 = false) (hn : narrow (ty0 j) v = v) (hfit : fits (ty0 j) v = true) (hlen : j < fs.length) (hfs : fs.set j v = fs') (hd : decode cc pc = .ok (.putfield index, 3))
    (kk : zV X nL A (zH G A (zS (Ps.set i (z1 a (.inr (ci, fs')))))) k n (pc + 3) L rest) : zV X nL A (zH G A (zS Ps)) k n pc L (v :: .ref a :: rest) := by
  subst hfs
  intro H locs ls hP hS hl
  obtain ⟨ws, h1, h2, h3⟩ := hP
  obtain ⟨q0, h4, h5⟩ := zS_at h1 hat
  exact va_putN hC.1.1 hC.1.2.1 hC.1.2.2.2.2 hin ty0 hty hnm hC.1.2.2.2.1 hC.2.1.1 h2 h3 hS q0 h4 hc j hj (va_Nw.use (by rfl) (hC.2.1.2.1 _ (zws_in hlink rfl))) hsame hfin (hty j hj) hn hfit hlen hd (fun H1 locs1 p1 p2 p3 => kk H1 locs1 ls ⟨_, h5 _, p1, p2⟩ p3 hl)
theorem zZb.now (hC : zC X G cc nL own) : zZb G (zs X) (zs X).heap := by
  obtain ⟨H, h1, h2⟩ := hC.2.1.2.2.2.2.2.2
  exact h2.kept (h1.same hC.2.2)
theorem zx_gets (hC : zC X G cc nL own) (hA : ∀ q, A q → zNS G q) {C nm d ref : String} {v : Value} {index : Nat} (hZ : zZb G (zs X) (zs X).heap → va_Z C nm d v (zNS G) (zs X) (zs X).heap) (hlink : Cond.fieldLink own index ref nm d ∈ lw_all) (hsame : ∀ x, (zs X).fieldFound? C nm d = some x → (zs X).fieldFound? ref nm d = some x) (hd : decode cc pc = .ok (.getstatic index, 3))
    (kk : zV X nL A P k n (pc + 3) L (v :: rest)) : zV X nL A P k n pc L rest := fun H locs ls hP hS hl =>
  va_gets hC.1.1 hC.1.2.1 ((hZ (zZb.now hC)).narrow hA) hS hC.1.2.2.2.1 (hC.1.2.2.2.2 _ hlink) hsame hd (kk H locs ls hP hS hl)
/-- the length of the empty array -/
theorem zx_elen (hC : zC X G cc nL own) (hA : ∀ q, A q → zNS G q) (hd : decode cc pc = .ok (.arraylength, 1))
    (kk : zV X nL A P k n (pc + 1) L (.int (iI 0) :: rest)) : zV X nL A P k n pc L (.ref (G.2.1 100) :: rest) := fun H locs ls hP hS hl =>
  va_tlen hC.1.1 hC.1.2.1 ((zZb.now hC).emptyA.narrow hA) hS (v := iI 0) rfl hd (kk H locs ls hP hS hl)
/-! stores of references -/
/-- what may be an element of an array of Objects -/
def zEl (G : zG) (E : zAs) (q : Nat) : Prop := ∀ (U : State) (H : Heap) (ws : va_W), zK G U → zSt G H → E ws → va_P G.1 zcl ws H → va_Any "java/lang/Object" U H q
theorem zEl.of {G : zG} {E : zAs} {q ci : Nat} {r : vw_C} (hc : zcl[ci]? = some r) (hw : Cond.castable r.1 "java/lang/Object" ∈ lw_tbl) (hE : ∀ w, E w → ∃ fs, (q, (.inr (ci, fs) : va_E)) ∈ w) : zEl G E q := by
  intro U H ws hK hSt hEw hP
  obtain ⟨fs, hm⟩ := hE ws hEw
  obtain ⟨i, hi⟩ := List.getElem?_of_mem hm
  exact va_rAny hK.1 hP hi hc (vb_asgC (hK.2.1 _ (zws_in hw rfl)))
theorem zx_aastM (hC : zC X G cc nL own) (hA : ∀ q, A q → zNS G q) {a N v : Nat} {f f' : Nat → Option Nat} {E : zAs} (i e : Nat) (hat : Ps[i]? = some (z1 a (zQ G 3 N f))) (he : Ps[e]? = some E) (hel : zEl G E v) (j : Nat) (hj : j < N) (hN : N < 2147483648) (hf : va_up f j (some v) = f') (hd : decode cc pc = .ok (.aastore, 1))
    (kk : zV X nL A (zH G A (zS (Ps.set i (z1 a (zQ G 3 N f'))))) k n (pc + 1) L rest) : zV X nL A (zH G A (zS Ps)) k n pc L (.ref v :: .int (iI (j : Int)) :: .ref a :: rest) := by
  subst hf
  intro H locs ls hP hS hl
  obtain ⟨w, w1, w2⟩ := zof e he H hP
  have hr := hel (zs X) H w hC.2.1 (zSt.at hC hA hS) w1 w2
  obtain ⟨ws, h1', h2, h3⟩ := hP
  obtain ⟨q0, h4, h5⟩ := zS_at h1' hat
  obtain ⟨e1, e2⟩ := zin (z := (j : Int)) (N := N) (by omega) (by omega) hN
  rw [Int.toNat_natCast] at e2
  rw [← e2] at kk
  exact va_astqM hC.1.1 hC.1.2.1 hC.2.1.1 h2 h3 hS q0 3 h4 rfl hr e1 hd (fun H1 locs1 p1 p2 p3 => kk H1 locs1 ls ⟨_, h5 _, p1, p2⟩ p3 hl)
theorem zx_aastN (hC : zC X G cc nL own) {a N : Nat} {f f' : Nat → Option Nat} (i : Nat) (hat : Ps[i]? = some (z1 a (zQ G 3 N f))) (j : Nat) (hj : j < N) (hN : N < 2147483648) (hf : va_up f j none = f') (hd : decode cc pc = .ok (.aastore, 1))
    (kk : zV X nL A (zH G A (zS (Ps.set i (z1 a (zQ G 3 N f'))))) k n (pc + 1) L rest) : zV X nL A (zH G A (zS Ps)) k n pc L (.null :: .int (iI (j : Int)) :: .ref a :: rest) := by
  subst hf
  intro H locs ls hP hS hl
  obtain ⟨ws, h1', h2, h3⟩ := hP
  obtain ⟨q0, h4, h5⟩ := zS_at h1' hat
  obtain ⟨e1, e2⟩ := zin (z := (j : Int)) (N := N) (by omega) (by omega) hN
  rw [Int.toNat_natCast] at e2
  rw [← e2] at kk
  exact va_astqN hC.1.1 hC.1.2.1 hC.2.1.1 h2 h3 hS q0 3 h4 rfl e1 hd (fun H1 locs1 p1 p2 p3 => kk H1 locs1 ls ⟨_, h5 _, p1, p2⟩ p3 hl)
/-! compares of references, casts, shifts, negation -/
theorem zx_acmp_eq (hC : zC X G cc nL own) {rx ry : Option Nat} {off : Int} {tgt : Nat} (hd : decode cc pc = .ok (.if_acmp .eq off, 3)) (ht : (pc : Int) + off = (tgt : Int))
    (kt : rx = ry → zV X nL A P k n tgt L rest) (kf : ¬ rx = ry → zV X nL A P k n (pc + 3) L rest) : zV X nL A P k n pc L (va_rf ry :: va_rf rx :: rest) := fun H locs ls hP hS hl =>
  lv_acmp_eq hC.1.1 hC.1.2.1 hd ht (fun h => kt h H locs ls hP hS hl) (fun h => kf h H locs ls hP hS hl)
theorem zx_acmp_ne (hC : zC X G cc nL own) {rx ry : Option Nat} {off : Int} {tgt : Nat} (hd : decode cc pc = .ok (.if_acmp .ne off, 3)) (ht : (pc : Int) + off = (tgt : Int))
    (kt : ¬ rx = ry → zV X nL A P k n tgt L rest) (kf : rx = ry → zV X nL A P k n (pc + 3) L rest) : zV X nL A P k n pc L (va_rf ry :: va_rf rx :: rest) := fun H locs ls hP hS hl =>
  lv_acmp_ne hC.1.1 hC.1.2.1 hd ht (fun h => kt h H locs ls hP hS hl) (fun h => kf h H locs ls hP hS hl)
theorem zx_castS (hC : zC X G cc nL own) {C : String} {T : u_T} {N ci index a : Nat} {fs : List Value} (hlink : Cond.classLink own index C ∈ lw_all) (hat : ∀ H, P H → va_at G.1 zcl (a, .inr (ci, fs)) H) (hc : zcl[ci]? = some (C, T, N)) (hd : decode cc pc = .ok (.checkcast index, 3))
    (kk : zV X nL A P k n (pc + 3) L (.ref a :: rest)) : zV X nL A P k n pc L (.ref a :: rest) := fun H locs ls hP hS hl =>
  va_castS hC.1.1 hC.1.2.1 hC.1.2.2.2.1 (hC.1.2.2.2.2 _ hlink) (hC.2.1.1.1 ci _ hc).2 (zrc_of hC.2.1 (hat H hP) hc) hd (kk H locs ls hP hS hl)
theorem zx_castY (hC : zC X G cc nL own) {C nm : String} {T : u_T} {N ci index a : Nat} {fs : List Value} (hlink : Cond.classLink own index nm ∈ lw_all) (hw : Cond.castable C nm ∈ lw_tbl) (hat : ∀ H, P H → va_at G.1 zcl (a, .inr (ci, fs)) H) (hc : zcl[ci]? = some (C, T, N)) (hd : decode cc pc = .ok (.checkcast index, 3))
    (kk : zV X nL A P k n (pc + 3) L (.ref a :: rest)) : zV X nL A P k n pc L (.ref a :: rest) := fun H locs ls hP hS hl =>
  va_castY hC.1.1 hC.1.2.1 hC.1.2.2.2.1 (hC.1.2.2.2.2 _ hlink) (hC.2.1.2.1 _ (zws_in hw rfl)) (zrc_of hC.2.1 (hat H hP) hc) hd (kk H locs ls hP hS hl)
theorem zx_instY (hC : zC X G cc nL own) {C nm : String} {T : u_T} {N ci index a : Nat} {fs : List Value} (hlink : Cond.classLink own index nm ∈ lw_all) (hw : Cond.castable C nm ∈ lw_tbl) (hat : ∀ H, P H → va_at G.1 zcl (a, .inr (ci, fs)) H) (hc : zcl[ci]? = some (C, T, N)) (hd : decode cc pc = .ok (.instanceof index, 3))
    (kk : zV X nL A P k n (pc + 3) L (.int (iI 1) :: rest)) : zV X nL A P k n pc L (.ref a :: rest) := fun H locs ls hP hS hl =>
  va_instY hC.1.1 hC.1.2.1 hC.1.2.2.2.1 (hC.1.2.2.2.2 _ hlink) (hC.2.1.2.1 _ (zws_in hw rfl)) (zrc_of hC.2.1 (hat H hP) hc) hd (kk H locs ls hP hS hl)
theorem zx_ineg (hC : zC X G cc nL own) {z : Int} (hd : decode cc pc = .ok (.ineg, 1)) (kk : zV X nL A P k n (pc + 1) L (.int (iI (-z)) :: rest)) : zV X nL A P k n pc L (.int (iI z) :: rest) := fun H locs ls hP hS hl =>
  lv_ineg hC.1.1 hC.1.2.1 hd (by rw [iI_neg]; exact kk H locs ls hP hS hl)
end ZH4
