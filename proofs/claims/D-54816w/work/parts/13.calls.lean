/-! Fields, arrays, returns, calls over zV -/
set_option maxRecDepth 100000
section ZF
variable {X : zX} {G : zG} {cc : ByteArray} {nL : Nat} {own : String} {A : Nat → Prop} {P : Heap → Prop} {Ps : List zAs} {k n pc : Nat} {L : List (Option Value)} {rest : List Value}
theorem zP1 {D : va_G} {H : Heap} {x : Nat × va_E} (h : va_at D zcl x H) : va_P D zcl [x] H := fun k q hk => by
  cases k with
  | zero => cases hk; exact h
  | succ k => simp at hk
theorem zx_getf (hC : zC X G cc nL own) {ref C : String} {T : u_T} {N ci index a : Nat} {fs : List Value} {v : Value} (hin : ∀ w ∈ u_ws C T N, w ∈ lw_all) (hat : ∀ H, P H → va_at G.1 zcl (a, .inr (ci, fs)) H) (hc : zcl[ci]? = some (C, T, N)) (j : Nat) (hj : j < N) (hlink : Cond.fieldLink own index ref (T j).2.1 (T j).2.2.1 ∈ lw_all) (hsame : ∀ x, (zs X).fieldFound? (T j).1 (T j).2.1 (T j).2.2.1 = some x → (zs X).fieldFound? ref (T j).2.1 (T j).2.2.1 = some x) (hv : fs[j]? = some v) (hd : decode cc pc = .ok (.getfield index, 3))
    (kk : zV X nL A P k n (pc + 3) L (v :: rest)) : zV X nL A P k n pc L (.ref a :: rest) := fun H locs ls hP hS hl =>
  va_get hC.1.1 hC.1.2.1 hC.1.2.2.2.2 hin hC.1.2.2.2.1 hC.2.1.1 (zP1 (hat H hP)) 0 rfl hc j hj (hC.1.2.2.2.2 _ hlink) hsame hv hd (kk H locs ls hP hS hl)
theorem zx_putf (hC : zC X G cc nL own) {ref C : String} {T : u_T} {N ci index a : Nat} {fs fs' : List Value} {v : Value} (i : Nat) (hin : ∀ w ∈ u_ws C T N, w ∈ lw_all) (ty0 : Nat → FieldType) (hty : ∀ k, k < N → parseFieldDescriptor (T k).2.2.1 = some (ty0 k)) (hnm : ∀ a, a < N → ∀ b, b < N → a ≠ b → (T a).2.1 ≠ (T b).2.1) (hat : Ps[i]? = some (z1 a (.inr (ci, fs)))) (hc : zcl[ci]? = some (C, T, N)) (j : Nat) (hj : j < N) (hlink : Cond.fieldLink own index ref (T j).2.1 (T j).2.2.1 ∈ lw_all) (hsame : ∀ x, (zs X).fieldFound? (T j).1 (T j).2.1 (T j).2.2.1 = some x → (zs X).fieldFound? ref (T j).2.1 (T j).2.2.1 = some x) (hfin : (T j).2.2.2 = false) (hn : narrow (ty0 j) v = v) (hfit : fits (ty0 j) v = true) (hlen : j < fs.length) (hfs : fs.set j v = fs') (hd : decode cc pc = .ok (.putfield index, 3))
    (kk : zV X nL A (zH G A (zS (Ps.set i (z1 a (.inr (ci, fs')))))) k n (pc + 3) L rest) : zV X nL A (zH G A (zS Ps)) k n pc L (v :: .ref a :: rest) := by
  subst hfs
  intro H locs ls hP hS hl
  obtain ⟨ws, h1, h2, h3⟩ := hP
  obtain ⟨q0, h4, h5⟩ := zS_at h1 hat
  exact va_put hC.1.1 hC.1.2.1 hC.1.2.2.2.2 hin ty0 hty hnm hC.1.2.2.2.1 hC.2.1.1 h2 h3 hS q0 h4 hc j hj (hC.1.2.2.2.2 _ hlink) hsame hfin (hty j hj) hn hfit hlen hd (fun H1 locs1 p1 p2 p3 => kk H1 locs1 ls ⟨_, h5 _, p1, p2⟩ p3 hl)
theorem zx_putF (hC : zC X G cc nL own) {ref C : String} {T : u_T} {N ci index a : Nat} {fs fs' : List Value} {v : Value} (i : Nat) (hin : ∀ w ∈ u_ws C T N, w ∈ lw_all) (ty0 : Nat → FieldType) (hty : ∀ k, k < N → parseFieldDescriptor (T k).2.2.1 = some (ty0 k)) (hnm : ∀ a, a < N → ∀ b, b < N → a ≠ b → (T a).2.1 ≠ (T b).2.1) (hat : Ps[i]? = some (z1 a (.inr (ci, fs)))) (hc : zcl[ci]? = some (C, T, N)) (j : Nat) (hj : j < N) (hlink : Cond.fieldLink own index ref (T j).2.1 (T j).2.2.1 ∈ lw_all) (hsame : ∀ x, (zs X).fieldFound? (T j).1 (T j).2.1 (T j).2.2.1 = some x → (zs X).fieldFound? ref (T j).2.1 (T j).2.2.1 = some x) (hfin : (T j).2.2.2 = true) (hin2 : (zme X).name = "<init>") (hdecl : (T j).1 = own) (hn : narrow (ty0 j) v = v) (hfit : fits (ty0 j) v = true) (hlen : j < fs.length) (hfs : fs.set j v = fs') (hd : decode cc pc = .ok (.putfield index, 3))
    (kk : zV X nL A (zH G A (zS (Ps.set i (z1 a (.inr (ci, fs')))))) k n (pc + 3) L rest) : zV X nL A (zH G A (zS Ps)) k n pc L (v :: .ref a :: rest) := by
  subst hfs
  intro H locs ls hP hS hl
  obtain ⟨ws, h1, h2, h3⟩ := hP
  obtain ⟨q0, h4, h5⟩ := zS_at h1 hat
  exact va_putF hC.1.1 hC.1.2.1 hC.1.2.2.2.2 hin ty0 hty hnm hC.1.2.2.2.1 hC.2.1.1 h2 h3 hS q0 h4 hc j hj (hC.1.2.2.2.2 _ hlink) hsame hfin hin2 hdecl (hty j hj) hn hfit hlen hd (fun H1 locs1 p1 p2 p3 => kk H1 locs1 ls ⟨_, h5 _, p1, p2⟩ p3 hl)
/-! arrays -/
theorem zin {z : Int} {N : Nat} (h0 : 0 ≤ z) (h1 : z < N) (hN : N < 2147483648) : vp_in (iI z) N ∧ (iI z).toNatClampNeg = z.toNat := ⟨iI_in h0 h1 hN, iI_clamp ⟨by omega, by omega⟩⟩
theorem zx_iald (hC : zC X G cc nL own) {a N : Nat} {f : Nat → Int32} {z : Int} (hat : ∀ H, P H → va_at G.1 zcl (a, .inl (G.2.1 0, N, .inl f)) H) (h0 : 0 ≤ z) (h1 : z < N) (hN : N < 2147483648) (hd : decode cc pc = .ok (.iaload, 1))
    (kk : zV X nL A P k n (pc + 1) L (.int (f z.toNat) :: rest)) : zV X nL A P k n pc L (.int (iI z) :: .ref a :: rest) := fun H locs ls hP hS hl => by
  obtain ⟨e1, e2⟩ := zin h0 h1 hN
  refine va_iald hC.1.1 hC.1.2.1 hC.2.1.1 (zP1 (hat H hP)) 0 0 rfl rfl e1 hd ?_
  rw [e2]; exact kk H locs ls hP hS hl
theorem zx_lald (hC : zC X G cc nL own) {a N : Nat} {f : Nat → Int64} {z : Int} (hat : ∀ H, P H → va_at G.1 zcl (a, .inl (G.2.1 1, N, .inr (.inl f))) H) (h0 : 0 ≤ z) (h1 : z < N) (hN : N < 2147483648) (hd : decode cc pc = .ok (.laload, 1))
    (kk : zV X nL A P k n (pc + 1) L (.long (f z.toNat) :: rest)) : zV X nL A P k n pc L (.int (iI z) :: .ref a :: rest) := fun H locs ls hP hS hl => by
  obtain ⟨e1, e2⟩ := zin h0 h1 hN
  refine va_lald hC.1.1 hC.1.2.1 hC.2.1.1 (zP1 (hat H hP)) 0 1 rfl rfl e1 hd ?_
  rw [e2]; exact kk H locs ls hP hS hl
theorem zx_bald (hC : zC X G cc nL own) {a N : Nat} {f : Nat → Int32} {z : Int} (hat : ∀ H, P H → va_at G.1 zcl (a, .inl (G.2.1 2, N, .inl f)) H) (h0 : 0 ≤ z) (h1 : z < N) (hN : N < 2147483648) (hd : decode cc pc = .ok (.baload, 1))
    (kk : zV X nL A P k n (pc + 1) L (.int (f z.toNat) :: rest)) : zV X nL A P k n pc L (.int (iI z) :: .ref a :: rest) := fun H locs ls hP hS hl => by
  obtain ⟨e1, e2⟩ := zin h0 h1 hN
  refine va_bald hC.1.1 hC.1.2.1 hC.2.1.1 (zP1 (hat H hP)) 0 2 rfl rfl e1 hd ?_
  rw [e2]; exact kk H locs ls hP hS hl
theorem zx_aald (hC : zC X G cc nL own) {a N : Nat} {f : Nat → Option Nat} {z : Int} (j : Nat) (hj : j = 3 ∨ j = 4) (hat : ∀ H, P H → va_at G.1 zcl (a, .inl (G.2.1 j, N, .inr (.inr (.inr (.inr f))))) H) (h0 : 0 ≤ z) (h1 : z < N) (hN : N < 2147483648) (hd : decode cc pc = .ok (.aaload, 1))
    (kk : zV X nL A P k n (pc + 1) L (va_rf (f z.toNat) :: rest)) : zV X nL A P k n pc L (.int (iI z) :: .ref a :: rest) := fun H locs ls hP hS hl => by
  obtain ⟨e1, e2⟩ := zin h0 h1 hN
  have hlt : (iI z).toNatClampNeg < N := by rw [e2]; omega
  have hty : ∃ ty : FieldType, (ztys G)[j]? = some (G.2.1 j, ty) ∧ ty.isReference = true := by
    rcases hj with rfl | rfl
    · exact ⟨_, rfl, rfl⟩
    · exact ⟨_, rfl, rfl⟩
  obtain ⟨ty, ht, hr⟩ := hty
  have hh := kk H locs ls hP hS hl
  rw [← e2] at hh
  exact W.aald (v := va_rf (f (iI z).toNatClampNeg)) (ty := ty) hC.1.1 hC.1.2.1 (hat H hP) ((hC.2.1.1.2 j _ ht).1 N (fun j => va_rf (f j))) hr (fun q => by cases q) (by show ¬ (iI z < 0 ∨ (arrV _ _ _).slots.size ≤ _); rw [arrV_size]; exact e1) (by show (arrV _ _ _).slots[_]? = _; rw [arrV_read _ _ hlt]) rfl rfl hd hh
theorem zx_alen (hC : zC X G cc nL own) {a : Nat} {x : vp_A} (j : Nat) (hat : ∀ H, P H → va_at G.1 zcl (a, .inl (G.2.1 j, x)) H) {ty : FieldType} (ht : (ztys G)[j]? = some (G.2.1 j, ty)) (hd : decode cc pc = .ok (.arraylength, 1))
    (kk : zV X nL A P k n (pc + 1) L (.int (iI (x.1 : Int)) :: rest)) : zV X nL A P k n pc L (.ref a :: rest) := fun H locs ls hP hS hl =>
  va_alen hC.1.1 hC.1.2.1 hC.2.1.1 (zP1 (hat H hP)) 0 j rfl ht (v := iI (x.1 : Int)) (iI_nat x.1).symm hd (kk H locs ls hP hS hl)
theorem zx_iast (hC : zC X G cc nL own) {a N : Nat} {f f' : Nat → Int32} {z : Int} {x : Int32} (i : Nat) (hat : Ps[i]? = some (z1 a (.inl (G.2.1 0, N, .inl f)))) (h0 : 0 ≤ z) (h1 : z < N) (hN : N < 2147483648) (hf : upd f z.toNat x = f') (hd : decode cc pc = .ok (.iastore, 1))
    (kk : zV X nL A (zH G A (zS (Ps.set i (z1 a (.inl (G.2.1 0, N, .inl f')))))) k n (pc + 1) L rest) : zV X nL A (zH G A (zS Ps)) k n pc L (.int x :: .int (iI z) :: .ref a :: rest) := by
  subst hf
  intro H locs ls hP hS hl
  obtain ⟨ws, h1', h2, h3⟩ := hP
  obtain ⟨q0, h4, h5⟩ := zS_at h1' hat
  obtain ⟨e1, e2⟩ := zin h0 h1 hN
  rw [← e2] at kk
  exact va_iast hC.1.1 hC.1.2.1 hC.2.1.1 h2 h3 hS q0 0 h4 rfl e1 hd (fun H1 locs1 p1 p2 p3 => kk H1 locs1 ls ⟨_, h5 _, p1, p2⟩ p3 hl)
theorem zx_last (hC : zC X G cc nL own) {a N : Nat} {f f' : Nat → Int64} {z : Int} {x : Int64} (i : Nat) (hat : Ps[i]? = some (z1 a (.inl (G.2.1 1, N, .inr (.inl f))))) (h0 : 0 ≤ z) (h1 : z < N) (hN : N < 2147483648) (hf : vp_updL f z.toNat x = f') (hd : decode cc pc = .ok (.lastore, 1))
    (kk : zV X nL A (zH G A (zS (Ps.set i (z1 a (.inl (G.2.1 1, N, .inr (.inl f'))))))) k n (pc + 1) L rest) : zV X nL A (zH G A (zS Ps)) k n pc L (.long x :: .int (iI z) :: .ref a :: rest) := by
  subst hf
  intro H locs ls hP hS hl
  obtain ⟨ws, h1', h2, h3⟩ := hP
  obtain ⟨q0, h4, h5⟩ := zS_at h1' hat
  obtain ⟨e1, e2⟩ := zin h0 h1 hN
  rw [← e2] at kk
  exact va_last hC.1.1 hC.1.2.1 hC.2.1.1 h2 h3 hS q0 1 h4 rfl e1 hd (fun H1 locs1 p1 p2 p3 => kk H1 locs1 ls ⟨_, h5 _, p1, p2⟩ p3 hl)
/-! returns -/
variable {mc ms : Nat} {Qh : Option Value → Heap → Prop}
theorem zx_iret (hC : zC X G cc nL own) {x : Int32} (hE : zE X (some .int) A mc ms Qh) (hk : k ≤ mc) (hn : n ≤ ms) (hq : ∀ H, P H → Qh (some (.int x)) H) (hd : decode cc pc = .ok (.ireturn, 1)) : zV X nL A P k n pc L [.int x] := fun H locs ls hP hS hl => by
  obtain ⟨h1, h2, Qc, h3, h4⟩ := hE
  exact W.widen hk hn (h4 H locs _ (W.iret hC.1.1 hC.1.2.1 h1 (fun t ht _ => h3 _ H t locs ht hS (hq H hP)) hS.2.2 hd h2))
theorem zx_nret (hC : zC X G cc nL own) {x : Int32} {ty : FieldType} (hE : zE X (some ty) A mc ms Qh) (hnr : narrow ty (.int x) = .int x) (hk : k ≤ mc) (hn : n ≤ ms) (hq : ∀ H, P H → Qh (some (.int x)) H) (hd : decode cc pc = .ok (.ireturn, 1)) : zV X nL A P k n pc L [.int x] := fun H locs ls hP hS hl => by
  obtain ⟨h1, h2, Qc, h3, h4⟩ := hE
  exact W.widen hk hn (h4 H locs _ (W.zret hC.1.1 hC.1.2.1 h1 hnr (fun t ht _ => h3 _ H t locs ht hS (hq H hP)) hS.2.2 hd h2))
theorem zx_vret (hC : zC X G cc nL own) (hE : zE X none A mc ms Qh) (hk : k ≤ mc) (hn : n ≤ ms) (hq : ∀ H, P H → Qh none H) (hd : decode cc pc = .ok (.return_, 1)) : zV X nL A P k n pc L [] := fun H locs ls hP hS hl => by
  obtain ⟨h1, h2, Qc, h3, h4⟩ := hE
  exact W.widen hk hn (h4 H locs _ (W.vret hC.1.1 hC.1.2.1 h1 (fun t ht _ => h3 _ H t locs ht hS (hq H hP)) hS.2.2 hd h2))
theorem zx_lret (hC : zC X G cc nL own) {x : Int64} (hE : zE X (some .long) A mc ms Qh) (hk : k ≤ mc) (hn : n ≤ ms) (hq : ∀ H, P H → Qh (some (.long x)) H) (hd : decode cc pc = .ok (.lreturn, 1)) : zV X nL A P k n pc L [.long x] := fun H locs ls hP hS hl => by
  obtain ⟨h1, h2, Qc, h3, h4⟩ := hE
  exact W.widen hk hn (h4 H locs _ (W.lret hC.1.1 hC.1.2.1 h1 (fun t ht _ => h3 _ H t locs ht hS (hq H hP)) hS.2.2 hd h2))
theorem zx_dret (hC : zC X G cc nL own) {x : UInt64} (hE : zE X (some .double) A mc ms Qh) (hk : k ≤ mc) (hn : n ≤ ms) (hq : ∀ H, P H → Qh (some (.double x)) H) (hd : decode cc pc = .ok (.dreturn, 1)) : zV X nL A P k n pc L [.double x] := fun H locs ls hP hS hl => by
  obtain ⟨h1, h2, Qc, h3, h4⟩ := hE
  exact W.widen hk hn (h4 H locs _ (W.dret hC.1.1 hC.1.2.1 h1 (fun t ht _ => h3 _ H t locs ht hS (hq H hP)) hS.2.2 hd h2))
theorem zx_aret (hC : zC X G cc nL own) {v : Value} {rt : FieldType} (hE : zE X (some rt) A mc ms Qh) (hrt : (∃ n, rt = .object n) ∨ ∃ t, rt = .array t) (hv : v = .null ∨ ∃ a, v = .ref a) (hk : k ≤ mc) (hn : n ≤ ms) (hq : ∀ H, P H → Qh (some v) H) (hd : decode cc pc = .ok (.areturn, 1)) : zV X nL A P k n pc L [v] := fun H locs ls hP hS hl => by
  obtain ⟨h1, h2, Qc, h3, h4⟩ := hE
  exact W.widen hk hn (h4 H locs _ (W.aret hC.1.1 hC.1.2.1 h1 hrt hv (fun t ht _ => h3 _ H t locs ht hS (hq H hP)) hS.2.2 hd h2))
theorem znar {z : Int} (h : z = 0 ∨ z = 1) : narrow .boolean (.int (iI z)) = .int (iI z) := by
  rcases h with rfl | rfl <;> rfl
/-! assertions: order, open, close -/
theorem zx_pick (is : List Nat) {Qs : List zAs} (h : is.isPerm (List.range Ps.length) = true) (hq : zpick Ps is = Qs) (kk : zV X nL A (zH G A (zS Qs)) k n pc L rest) : zV X nL A (zH G A (zS Ps)) k n pc L rest :=
  zx_pre (fun H hP => by rw [← hq]; exact zH_perm (zpick_perm h) hP) kk
theorem zx_open {P1 : zAs} {Rs Qs : List zAs} (h : ∀ w, P1 w → zS Qs w) (kk : zV X nL A (zH G A (zS (Qs ++ Rs))) k n pc L rest) : zV X nL A (zH G A (zS (P1 :: Rs))) k n pc L rest :=
  zx_pre (fun H hP => by
    obtain ⟨ws, ⟨w1, w2, h1, h2, rfl⟩, h3⟩ := hP
    exact ⟨w1 ++ w2, (zS_app Qs Rs _).mpr ⟨w1, w2, h w1 h1, h2, rfl⟩, h3⟩) kk
theorem zx_openx {α : Type} {P1 : zAs} {Rs : List zAs} {Qs : α → List zAs} (h : ∀ w, P1 w → ∃ x, zS (Qs x) w) (kk : ∀ x, zV X nL A (zH G A (zS (Qs x ++ Rs))) k n pc L rest) : zV X nL A (zH G A (zS (P1 :: Rs))) k n pc L rest := fun H locs ls hP hS hl => by
  obtain ⟨ws, ⟨w1, w2, h1, h2, rfl⟩, h3⟩ := hP
  obtain ⟨x, hx⟩ := h w1 h1
  exact kk x H locs ls ⟨w1 ++ w2, (zS_app (Qs x) Rs _).mpr ⟨w1, w2, hx, h2, rfl⟩, h3⟩ hS hl
theorem zx_close {P1 : zAs} {Rs : List zAs} (Qs : List zAs) (h : ∀ w, zS Qs w → P1 w) (kk : zV X nL A (zH G A (zS (P1 :: Rs))) k n pc L rest) : zV X nL A (zH G A (zS (Qs ++ Rs))) k n pc L rest :=
  zx_pre (fun H hP => by
    obtain ⟨ws, hw, h3⟩ := hP
    obtain ⟨w1, w2, h1, h2, he⟩ := (zS_app Qs Rs _).mp hw
    exact ⟨ws, ⟨w1, w2, h w1 h1, h2, he⟩, h3⟩) kk
theorem zx_pure {F : Prop} {Rs : List zAs} (kk : F → zV X nL A (zH G A (zS Rs)) k n pc L rest) : zV X nL A (zH G A (zS (zpu F :: Rs))) k n pc L rest := fun H locs ls hP hS hl => by
  obtain ⟨ws, ⟨w1, w2, ⟨h1, rfl⟩, h2, rfl⟩, h3⟩ := hP
  exact kk h1 H locs ls ⟨_, h2, h3⟩ hS hl
theorem zx_exi {α : Type} {f : α → zAs} {Rs : List zAs} (kk : ∀ x, zV X nL A (zH G A (zS (f x :: Rs))) k n pc L rest) : zV X nL A (zH G A (zS (zex f :: Rs))) k n pc L rest := fun H locs ls hP hS hl => by
  obtain ⟨ws, ⟨w1, w2, ⟨x, h1⟩, h2, rfl⟩, h3⟩ := hP
  exact kk x H locs ls ⟨_, ⟨w1, w2, h1, h2, rfl⟩, h3⟩ hS hl
/-! calls -/
/-- how a method's contract becomes its run at a call -/
def zCall (X : zX) (nL k n pc : Nat) (st rest : List Value) (y : MethodName) (cc' : ByteArray) (nL' : Nat) (ret : Option FieldType) (f lo mc ms : Nat) (av : List Value) (RC : Heap → Prop) : Prop :=
  ∀ (Pc : Array Value → State → Prop) (Qc : Array Value → State → Outcome → State → Prop) (free : Addr → Prop), Met (zl X) y (ws_ y cc' nL' ret) ({ frames := f, cells := mc, slots := ms, locals := lo }) Pc Qc mc ms free →
    ∀ (H : Heap) (locs : List Loc) (ls : Array Slot), ls.size = nL → RC H → FrameBlind Pc → (∀ U : State, U.heap = H → (zs X).WarmedH U.vm → Pc av.toArray U) → va_Run (zp X) (zl X) (ze X) (zR X) (zs X) (zm X) (za X) (zb X) (zme X) (zc X) H locs k n mc ms (F0 (zm X) pc ls st) rest (Qc av.toArray) free
theorem zcV (na : Nat) (hC : zC X G cc nL own) {C : String} {index b : Nat} {y : MethodName} {cc' : ByteArray} {nL' : Nat} {ret : Option FieldType} {f lo mc ms : Nat} {As st : List Value} (hw : GoodIn lw_all (wsV own index C y (ws_ y cc' nL' ret)))
    (hd' : y.cls = C ∧ y.cls ≠ "java/lang/invoke/MethodHandle" ∧ y.cls ≠ "java/lang/invoke/VarHandle" ∧ (parseMethodDescriptor y.desc).map (fun d => d.parameters.length) = some na) (hna : As.length = na) (hR : f + 1 ≤ (zR X).frames ∧ 8 + (nL' + 11) + lo ≤ (zR X).locals) (hcs : k + mc ≤ (zR X).cells ∧ n + ms ≤ (zR X).slots)
    (hst : st = As.reverse ++ .ref b :: rest) (hr : (rest.map fun v => v.category).sum ≤ 8) (hd : decode cc pc = .ok (.invokevirtual index, 3)) : zCall X nL k n pc st rest y cc' nL' ret f lo mc ms (.ref b :: As) (zrc X C b) :=
  fun _ _ _ hM _ _ _ hls hRC hB hP => va_runV hC.1 hM (cwV na hC.1.2.2.2.2 hw rfl rfl rfl hd' hR) ⟨hB, hRC, hP⟩ rfl hna hls hst (lv_room hr) hd hcs
theorem zcS (na : Nat) (hC : zC X G cc nL own) {index : Nat} {y : MethodName} {cc' : ByteArray} {nL' : Nat} {ret : Option FieldType} {f lo mc ms : Nat} {As st : List Value} (hw : GoodIn lw_all (va_wsS own index y (ws_ y cc' nL' ret)))
    (hd' : y.cls ≠ "java/lang/invoke/MethodHandle" ∧ y.cls ≠ "java/lang/invoke/VarHandle" ∧ (parseMethodDescriptor y.desc).map (fun d => d.parameters.length) = some na) (hna : As.length = na) (hR : f + 1 ≤ (zR X).frames ∧ 8 + (nL' + 11) + lo ≤ (zR X).locals) (hcs : k + mc ≤ (zR X).cells ∧ n + ms ≤ (zR X).slots)
    (hst : st = As.reverse ++ rest) (hr : (rest.map fun v => v.category).sum ≤ 8) (hd : decode cc pc = .ok (.invokestatic index, 3)) : zCall X nL k n pc st rest y cc' nL' ret f lo mc ms As (fun _ => True) :=
  fun _ _ _ hM _ _ _ hls _ hB hP => va_runS hC.1 hM (va_cwS na hC.1.2.2.2.2 hw rfl rfl rfl hd' hR) ⟨hB, hP⟩ rfl hna hls hst (lv_room hr) hd hcs
theorem zcI (na : Nat) (hC : zC X G cc nL own) {index b : Nat} {y : MethodName} {cc' : ByteArray} {nL' : Nat} {f lo mc ms : Nat} {As st : List Value} (hw : GoodIn lw_all (ws_ y cc' nL' none)) (hini : Cond.initialized y.cls ∈ lw_all) (hli : Cond.methodLink own index y ∈ lw_all) (hin : Cond.instanceMethod y ∈ lw_all)
    (hd' : y.cls ≠ "java/lang/invoke/MethodHandle" ∧ y.cls ≠ "java/lang/invoke/VarHandle" ∧ (parseMethodDescriptor y.desc).map (fun d => d.parameters.length) = some na) (hna : As.length = na) (hn : y.name = "<init>") (hR : f + 1 ≤ (zR X).frames ∧ 8 + (nL' + 11) + lo ≤ (zR X).locals) (hcs : k + mc ≤ (zR X).cells ∧ n + ms ≤ (zR X).slots)
    (hst : st = As.reverse ++ .ref b :: rest) (hr : (rest.map fun v => v.category).sum ≤ 8) (hd : decode cc pc = .ok (.invokespecial index, 3)) : zCall X nL k n pc st rest y cc' nL' none f lo mc ms (.ref b :: As) (fun _ => True) :=
  fun _ _ _ hM _ _ _ hls _ hB hP => va_runI hC.1 hM (cwI na hC.1.2.2.2.2 hw rfl rfl rfl (hC.1.2.2.2.2 _ hini) (hC.1.2.2.2.2 _ hli) (hC.1.2.2.2.2 _ hin) hn hd' hR) ⟨hB, hP⟩ rfl hna hls hst (lv_room hr) hd hcs
theorem zSt.kept {G : zG} {H H1 : Heap} {A : Nat → Prop} {sz : Nat} (h : zSt G H) (hs : sz = H.size) (hA : ∀ q, A q → zNS G q) (hk : ∀ q : Nat, q < sz → ¬ A q → H1[q]? = H[q]?) : zSt G H1 := by
  intro q hq
  have h1 := h q hq
  have hl := (Array.getElem?_eq_some_iff.mp h1).1
  rw [hk q.1 (by omega) (fun a => hA _ a q hq rfl)]
  exact h1
theorem zSt.at (hC : zC X G cc nL own) (hA : ∀ q, A q → zNS G q) {H : Heap} {locs : List Loc} (hS : va_S A (zs X).heap H locs) : zSt G H := hC.2.2.kept rfl hA hS.2.1
/-- a call that writes nothing -/
theorem zx_rd (hC : zC X G cc nL own) (hA : ∀ q, A q → zNS G q) {st : List Value} {y : MethodName} {cc' : ByteArray} {nL' : Nat} {ret : Option FieldType} {f lo : Nat} {av : List Value} {RC : Heap → Prop} {P' : Heap → Prop} {Q : Option Value → Prop}
    (hcall : zCall X nL k n pc st rest y cc' nL' ret f lo 0 0 av RC) (hM : zRd (zl X) y cc' nL' ret f lo G av P' Q) (hRC : ∀ H, P H → RC H) (hP' : ∀ H, P H → P' H) (kk : ∀ v, Q v → zV X nL A P k n (pc + 3) L (v.toList ++ rest)) : zV X nL A P k n pc L st := by
  intro H locs ls hP hS hl T hT X0
  have hr := hcall _ _ _ hM H locs ls hl.1 (hRC H hP) (fun a U g mk q => ⟨q.1, q.2.1, zK.same (s := U) (U := U.calling g mk a) rfl q.2.2.1, q.2.2.2⟩) (fun U hU hW => ⟨rfl, by rw [hU]; exact hP' H hP, hC.2.1.warm hW, by rw [hU]; exact zSt.at hC hA hS⟩)
  obtain ⟨v, st₀, t, T', L1, h0, X', hL, e1, e2, ⟨⟨v', hv, hq⟩, hh⟩, go⟩ := hr T hT X0
  cases hv
  have hLe : ∀ l ∈ locs ++ L1, A l.base := fun q hq => (List.mem_append.mp hq).elim (hS.2.2 q) (fun h => (hL q h).elim)
  obtain ⟨t2, a1, b1⟩ := kk v hq H (locs ++ L1) ls hP ⟨hS.1, hS.2.1, hLe⟩ hl T' (by rw [e1, hh, h0]) X'
  exact ⟨t2, go t2 a1, b1⟩
theorem zx_rd1 (hC : zC X G cc nL own) (hA : ∀ q, A q → zNS G q) {st : List Value} {y : MethodName} {cc' : ByteArray} {nL' : Nat} {ret : Option FieldType} {f lo : Nat} {av : List Value} {RC : Heap → Prop} {P' : Heap → Prop} {r : Value}
    (hcall : zCall X nL k n pc st rest y cc' nL' ret f lo 0 0 av RC) (hM : zRd (zl X) y cc' nL' ret f lo G av P' (fun v => v = some r)) (hRC : ∀ H, P H → RC H) (hP' : ∀ H, P H → P' H) (kk : zV X nL A P k n (pc + 3) L (r :: rest)) : zV X nL A P k n pc L st :=
  zx_rd hC hA hcall hM hRC hP' (fun v hv => by subst hv; exact kk)
theorem zD_joins {A0 : Nat → Prop} {D : va_G} {wc wr w1 : va_W} {H H1 : Heap} (hP : va_P D zcl (wc ++ wr) H) (hD : va_D A0 (wc ++ wr)) (hk : ∀ q : Nat, q < H.size → ¬ va_A wc H.size q → H1[q]? = H[q]?) (hF : ∀ q, va_A wc H.size q → A0 q) (hP1 : va_P D zcl w1 H1) (hD1 : va_D (va_A wc H.size) w1) : va_P D zcl (wr ++ w1) H1 ∧ va_D A0 (wr ++ w1) := by
  obtain ⟨d1, d2, d3⟩ := zD_app.mp hD
  obtain ⟨p1, p2⟩ := zP_app.mp hP
  have apart : ∀ q ∈ wr, q.1 < H.size ∧ ¬ va_A wc H.size q.1 := by
    intro q hq
    obtain ⟨i, hi⟩ := List.getElem?_of_mem hq
    have hl := (p2 i q hi).lt
    refine ⟨hl, fun h => ?_⟩
    rcases h with ⟨k, e, h⟩ | h
    · exact d3 _ (List.mem_of_getElem? h) q hq rfl
    · omega
  refine ⟨zP_app.mpr ⟨fun k q hk' => ?_, hP1⟩, zD_app.mpr ⟨d2, hD1.weaken (fun _ q _ h => hF _ h), fun p hp q hq he => ?_⟩⟩
  · obtain ⟨a1, a2⟩ := apart q (List.mem_of_getElem? hk')
    exact (p2 k q hk').kept (hk q.1 a1 a2)
  · refine (apart p hp).2 ?_
    rw [he]
    exact ((zD_iff.mp hD1).2 q hq)
/-- a call with a world of its own, cut out of the caller's by places -/
theorem zx_ma (hC : zC X G cc nL own) (hA : zA X G A) {st : List Value} {y : MethodName} {cc' : ByteArray} {nL' : Nat} {ret : Option FieldType} {f lo mc ms : Nat} {av : List Value} {RC : Heap → Prop} {Cs : List zAs} {φ : Option Value → Prop} {Q : Option Value → List zAs} (is js : List Nat) {Rs : List zAs}
    (hcall : zCall X nL k n pc st rest y cc' nL' ret f lo mc ms av RC) (hM : zMA (zl X) y cc' nL' ret f lo G av Cs φ Q mc ms) (hRC : ∀ H, zH G A (zS Ps) H → RC H) (hp : (is ++ js).isPerm (List.range Ps.length) = true) (his : zpick Ps is = Cs) (hjs : zpick Ps js = Rs)
    (kk : ∀ v, φ v → zV X nL A (zH G A (zS (Rs ++ Q v))) (k + mc) (n + ms) (pc + 3) L (v.toList ++ rest)) : zV X nL A (zH G A (zS Ps)) k n pc L st := by
  intro H locs ls hP hS hl T hT X0
  have hP1 : zH G A (zS (Cs ++ Rs)) H := by
    have h := zH_perm (zpick_perm hp) hP
    rw [zpick_app, his, hjs] at h
    exact h
  obtain ⟨ws, h1, h2, h3⟩ := hP1
  obtain ⟨wc, wr, c1, c2, rfl⟩ := (zS_app Cs Rs ws).mp h1
  obtain ⟨d1, d2, d3⟩ := zD_app.mp h3
  obtain ⟨p1, p2⟩ := zP_app.mp h2
  have hF : ∀ q, va_A wc H.size q → A q := by
    intro q h
    rcases h with ⟨i, e, h⟩ | h
    · exact d1.2 i _ h
    · exact hA.1 q (Nat.le_trans hS.1 h)
  have hr := hcall _ _ _ (hM wc H.size c1) H locs ls hl.1 (hRC H hP) (fun a U g mk q => ⟨q.1, q.2.1, q.2.2.1, q.2.2.2.1, zK.same (s := U) (U := U.calling g mk a) rfl q.2.2.2.2.1, q.2.2.2.2.2⟩) (fun U hU hW => ⟨rfl, by rw [hU], by rw [hU]; exact p1, d1.weaken (fun _ q _ h => hA.2 _ h), hC.2.1.warm hW, by rw [hU]; exact zSt.at hC hA.2 hS⟩)
  obtain ⟨v, st₀, t, T', L1, h0, X', hL, e1, e2, ⟨⟨v', hv, hq, w1, q1, q2, q3⟩, hz, hk⟩, go⟩ := hr T hT X0
  cases hv
  rw [h0] at hz hk
  obtain ⟨j1, j2⟩ := zD_joins h2 h3 hk hF q2 q3
  have hSt : va_S A (zs X).heap t.heap (locs ++ L1) := by
    refine ⟨Nat.le_trans hS.1 hz, fun q g1 g2 => ?_, fun q hq => (List.mem_append.mp hq).elim (hS.2.2 q) (fun h => hF _ (hL q h))⟩
    rw [hk q (Nat.lt_of_lt_of_le g1 hS.1) (fun h => g2 (hF q h))]
    exact hS.2.1 q g1 g2
  obtain ⟨t2, a1, b1⟩ := kk v hq t.heap (locs ++ L1) ls ⟨wr ++ w1, (zS_app Rs (Q v) _).mpr ⟨wr, w1, c2, q1, rfl⟩, j1, j2⟩ hSt hl T' e1 X'
  exact ⟨t2, go t2 a1, b1⟩
theorem zx_ma1 (hC : zC X G cc nL own) (hA : zA X G A) {st : List Value} {y : MethodName} {cc' : ByteArray} {nL' : Nat} {ret : Option FieldType} {f lo mc ms : Nat} {av : List Value} {RC : Heap → Prop} {Cs : List zAs} {r : Value} {Q : Option Value → List zAs} (is js : List Nat) {Rs : List zAs}
    (hcall : zCall X nL k n pc st rest y cc' nL' ret f lo mc ms av RC) (hM : zMA (zl X) y cc' nL' ret f lo G av Cs (fun v => v = some r) Q mc ms) (hRC : ∀ H, zH G A (zS Ps) H → RC H) (hp : (is ++ js).isPerm (List.range Ps.length) = true) (his : zpick Ps is = Cs) (hjs : zpick Ps js = Rs)
    (kk : zV X nL A (zH G A (zS (Rs ++ Q (some r)))) (k + mc) (n + ms) (pc + 3) L (r :: rest)) : zV X nL A (zH G A (zS Ps)) k n pc L st :=
  zx_ma hC hA is js hcall hM hRC hp his hjs (fun v hv => by subst hv; exact kk)
theorem zx_ma0 (hC : zC X G cc nL own) (hA : zA X G A) {st : List Value} {y : MethodName} {cc' : ByteArray} {nL' : Nat} {ret : Option FieldType} {f lo mc ms : Nat} {av : List Value} {RC : Heap → Prop} {Cs : List zAs} {Q : Option Value → List zAs} (is js : List Nat) {Rs : List zAs}
    (hcall : zCall X nL k n pc st rest y cc' nL' ret f lo mc ms av RC) (hM : zMA (zl X) y cc' nL' ret f lo G av Cs (fun v => v = none) Q mc ms) (hRC : ∀ H, zH G A (zS Ps) H → RC H) (hp : (is ++ js).isPerm (List.range Ps.length) = true) (his : zpick Ps is = Cs) (hjs : zpick Ps js = Rs)
    (kk : zV X nL A (zH G A (zS (Rs ++ Q none))) (k + mc) (n + ms) (pc + 3) L rest) : zV X nL A (zH G A (zS Ps)) k n pc L st :=
  zx_ma hC hA is js hcall hM hRC hp his hjs (fun v hv => by subst hv; exact kk)
end ZF
