/-! The reference's world: PedalLayersModel, its six cells -/
set_option maxRecDepth 100000
theorem iRm {z : Int} (h1 : -2147483648 ≤ z) (h2 : z < 2147483648) : iR z := ⟨h1, h2⟩
theorem lRm {z : Int} (h1 : -9223372036854775808 ≤ z) (h2 : z < 9223372036854775808) : lR z := ⟨h1, h2⟩
/-- a state of it: the first 32 longs, the forces by layer, cell, key (layer 6: the take) -/
abbrev zRS : Type := (Nat → Nat) × (Nat → Nat → Nat → Nat)
/-- state, past, snap, (known, isSaved, length, isStopped), pad, stopped -/
abbrev zRho : Type := zRS × (Nat → zRS) × zRS × (Nat → Nat) × (Nat → Nat) × (Nat → Int)
/-- the force of a key in a word -/
def zfr (w : Int64) (key : Nat) : Nat := w.toBitVec.toNat / 2 ^ (7 * (key % 9)) % 128
/-- longs from a place on hold a state -/
def zSd (a : Nat → Int64) (off : Nat) (σ : zRS) : Prop := (∀ j, j < 32 → a (off + j) = lI ((σ.1 j : Nat) : Int)) ∧ ∀ l c key, l < 7 → c < 48 → key < 36 → zfr (a (off + (32 + 192 * l + 4 * c + key / 9))) key = σ.2 l c key
def zMf (ad : Nat → Nat) (iv : Nat → Nat) : List Value := [.ref (ad 1), .ref (ad 2), .int (iI ((iv 0 : Nat) : Int)), .ref (ad 3), .int (iI ((iv 1 : Nat) : Int)), .ref (ad 4), .int (iI ((iv 2 : Nat) : Int)), .ref (ad 5), .int (iI ((iv 3 : Nat) : Int))]
abbrev zJ (G : zG) (N : Nat) (a : Nat → Int64) : va_E := .inl (G.2.1 1, N, .inr (.inl a))
abbrev zI (G : zG) (N : Nat) (a : Nat → Int32) : va_E := .inl (G.2.1 0, N, .inl a)
/-- the six cells, their longs as they are -/
def zRw (G : zG) (ad : Nat → Nat) (a b d : Nat → Int64) (iv pd : Nat → Nat) (sp : Nat → Int) : List zAs := [z1 (ad 0) (.inr (2, zMf ad iv)), z1 (ad 1) (zJ G 1376 a), z1 (ad 2) (zJ G 5504 b), z1 (ad 3) (zJ G 1376 d), z1 (ad 4) (zI G 60 (fun j => iI ((pd j : Nat) : Int))), z1 (ad 5) (zI G 3 (fun j => iI (sp j)))]
def REF (G : zG) (ad : Nat → Nat) (ρ : zRho) : zAs := fun ws => ∃ a b d : Nat → Int64, zSd a 0 ρ.1 ∧ (∀ i, i < 4 → zSd b (1376 * i) (ρ.2.1 i)) ∧ zSd d 0 ρ.2.2.1 ∧ zS (zRw G ad a b d ρ.2.2.2.1 ρ.2.2.2.2.1 ρ.2.2.2.2.2) ws
/-- .. in a heap -/
def zRf (G : zG) (ad : Nat → Nat) (ρ : zRho) (H : Heap) : Prop := ∃ ws, REF G ad ρ ws ∧ va_P G.1 zcl ws H
theorem zRf.ofH {G : zG} {A : Nat → Prop} {ad : Nat → Nat} {ρ : zRho} {Rs : List zAs} : ∀ H, zH G A (zS (REF G ad ρ :: Rs)) H → zRf G ad ρ H := by
  rintro H ⟨ws, ⟨w1, w2, h1, h2, rfl⟩, h3, h4⟩
  exact ⟨w1, h1, (zP_app.mp h3).1⟩
theorem zRf.eq {G : zG} {ad : Nat → Nat} {ρ : zRho} {H0 : Heap} (h : zRf G ad ρ H0) : ∀ H, H = H0 → zRf G ad ρ H := fun H q => q ▸ h
theorem zSP_at {G : zG} {Ps : List zAs} {ws : va_W} {H : Heap} {a : Nat} {e : va_E} (h : zS Ps ws) (hP : va_P G.1 zcl ws H) (i : Nat) (hi : Ps[i]? = some (z1 a e)) : va_at G.1 zcl (a, e) H := by
  obtain ⟨q0, h4, -⟩ := zS_at h hi
  exact hP q0 _ h4
theorem zRf.raw {G : zG} {ad : Nat → Nat} {ρ : zRho} {H : Heap} (h : zRf G ad ρ H) : ∃ a b d : Nat → Int64, zSd a 0 ρ.1 ∧ (∀ i, i < 4 → zSd b (1376 * i) (ρ.2.1 i)) ∧ zSd d 0 ρ.2.2.1 ∧
    va_at G.1 zcl (ad 0, .inr (2, zMf ad ρ.2.2.2.1)) H ∧ va_at G.1 zcl (ad 1, zJ G 1376 a) H ∧ va_at G.1 zcl (ad 2, zJ G 5504 b) H ∧ va_at G.1 zcl (ad 3, zJ G 1376 d) H ∧ va_at G.1 zcl (ad 4, zI G 60 (fun j => iI ((ρ.2.2.2.2.1 j : Nat) : Int))) H ∧ va_at G.1 zcl (ad 5, zI G 3 (fun j => iI (ρ.2.2.2.2.2 j))) H := by
  obtain ⟨ws, ⟨a, b, d, h1, h2, h3, h4⟩, hP⟩ := h
  exact ⟨a, b, d, h1, h2, h3, zSP_at h4 hP 0 rfl, zSP_at h4 hP 1 rfl, zSP_at h4 hP 2 rfl, zSP_at h4 hP 3 rfl, zSP_at h4 hP 4 rfl, zSP_at h4 hP 5 rfl⟩
theorem zRf.this {G : zG} {ad : Nat → Nat} {ρ : zRho} {H : Heap} (h : zRf G ad ρ H) : va_at G.1 zcl (ad 0, .inr (2, zMf ad ρ.2.2.2.1)) H := by
  obtain ⟨a, b, d, -, -, -, h4, -⟩ := h.raw
  exact h4
section ZRR
variable {X : zX} {G : zG} {cc : ByteArray} {nL : Nat} {A : Nat → Prop} {P : Heap → Prop} {k n pc : Nat} {L : List (Option Value)} {rest : List Value} {ad : Nat → Nat} {ρ : zRho}
theorem zr_rc {X : zX} {cc : ByteArray} {nL : Nat} {own : String} (hC : zC X G cc nL own) (hR : ∀ H, P H → zRf G ad ρ H) : ∀ H, P H → zrc X RX2 (ad 0) H := fun H h => zrc_of hC.2.1 (hR H h).this (r := (RX2, TX2, 9)) rfl
theorem zr_get (hC : zC X G cc nL RX2) (hR : ∀ H, P H → zRf G ad ρ H) {index : Nat} (j : Nat) (hj : j < 9) {v : Value} (hd : decode cc pc = .ok (.getfield index, 3)) (hlink : Cond.fieldLink RX2 index (TX2 j).1 (TX2 j).2.1 (TX2 j).2.2.1 ∈ lw_all) (hv : (zMf ad ρ.2.2.2.1)[j]? = some v)
    (kk : zV X nL A P k n (pc + 3) L (v :: rest)) : zV X nL A P k n pc L (.ref (ad 0) :: rest) :=
  zx_getf (T := TX2) (N := 9) (ci := 2) hC in_X2 (fun H h => (hR H h).this) rfl j hj hlink (fun _ h => h) hv hd kk
theorem zr_sld (hC : zC X G cc nL RX2) (hR : ∀ H, P H → zRf G ad ρ H) {z : Int} (hd : decode cc pc = .ok (.laload, 1)) (h0 : 0 ≤ z) (h1 : z < 32)
    (kk : zV X nL A P k n (pc + 1) L (.long (lI ((ρ.1.1 z.toNat : Nat) : Int)) :: rest)) : zV X nL A P k n pc L (.int (iI z) :: .ref (ad 1) :: rest) := by
  intro H locs ls hP hS hl
  obtain ⟨a, b, d, hs, -, -, -, h5, -⟩ := (hR H hP).raw
  refine zx_lald (P := fun H' => H' = H) (own := RX2) hC (zeq h5) h0 (by omega) (by decide) hd ?_ H locs ls rfl hS hl
  have e := hs.1 z.toNat (by omega)
  rw [Nat.zero_add] at e
  rw [e]
  intro H' locs' ls' hP' hS' hl'
  subst hP'
  exact kk _ _ _ hP hS' hl'
theorem zr_pad (hC : zC X G cc nL RX2) (hR : ∀ H, P H → zRf G ad ρ H) {z : Int} (hd : decode cc pc = .ok (.iaload, 1)) (h0 : 0 ≤ z) (h1 : z < 60)
    (kk : zV X nL A P k n (pc + 1) L (.int (iI ((ρ.2.2.2.2.1 z.toNat : Nat) : Int)) :: rest)) : zV X nL A P k n pc L (.int (iI z) :: .ref (ad 4) :: rest) := by
  refine zx_iald (f := fun j => iI ((ρ.2.2.2.2.1 j : Nat) : Int)) (N := 60) hC (fun H h => ?_) h0 (by omega) (by decide) hd kk
  obtain ⟨a, b, d, -, -, -, -, -, -, -, h6, -⟩ := (hR H h).raw
  exact h6
theorem zr_spd (hC : zC X G cc nL RX2) (hR : ∀ H, P H → zRf G ad ρ H) {z : Int} (hd : decode cc pc = .ok (.iaload, 1)) (h0 : 0 ≤ z) (h1 : z < 3)
    (kk : zV X nL A P k n (pc + 1) L (.int (iI (ρ.2.2.2.2.2 z.toNat)) :: rest)) : zV X nL A P k n pc L (.int (iI z) :: .ref (ad 5) :: rest) := by
  refine zx_iald (f := fun j => iI (ρ.2.2.2.2.2 j)) (N := 3) hC (fun H h => ?_) h0 (by omega) (by decide) hd kk
  obtain ⟨a, b, d, -, -, -, -, -, -, -, -, h6⟩ := (hR H h).raw
  exact h6
/-- opened: its longs as they are -/
theorem zr_raw (kk : ∀ a b d : Nat → Int64, zSd a 0 ρ.1 → (∀ i, i < 4 → zSd b (1376 * i) (ρ.2.1 i)) → zSd d 0 ρ.2.2.1 → zV X nL A (zH G A (zS (zRw G ad a b d ρ.2.2.2.1 ρ.2.2.2.2.1 ρ.2.2.2.2.2))) k n pc L rest) : zV X nL A (zH G A (zS [REF G ad ρ])) k n pc L rest := by
  intro H locs ls hP hS hl
  obtain ⟨ws, ⟨w1, w2, ⟨a, b, d, h1, h2, h3, h4⟩, h5, rfl⟩, hQ⟩ := hP
  cases h5
  rw [List.append_nil] at hQ
  exact kk a b d h1 h2 h3 H locs ls ⟨w1, h4, hQ⟩ hS hl
theorem zr_fold {a b d : Nat → Int64} (ρ : zRho) (h1 : zSd a 0 ρ.1) (h2 : ∀ i, i < 4 → zSd b (1376 * i) (ρ.2.1 i)) (h3 : zSd d 0 ρ.2.2.1) : ∀ H, zH G A (zS (zRw G ad a b d ρ.2.2.2.1 ρ.2.2.2.2.1 ρ.2.2.2.2.2)) H → zH G A (zS [REF G ad ρ]) H := by
  rintro H ⟨ws, h4, h5⟩
  exact ⟨ws, ⟨ws, [], ⟨a, b, d, h1, h2, h3, h4⟩, rfl, (List.append_nil ws).symm⟩, h5⟩
theorem zSd.set {a : Nat → Int64} {h : Nat → Nat} {F : Nat → Nat → Nat → Nat} {j : Nat} {v : Nat} (hj : j < 32) (hs : zSd a 0 (h, F)) : zSd (vp_updL a j (lI ((v : Nat) : Int))) 0 (va_up h j v, F) := by
  refine ⟨fun i hi => ?_, fun l c key hl hc hk => ?_⟩
  · have := hs.1 i hi
    rw [Nat.zero_add] at this ⊢
    by_cases e : i = j
    · subst e; simp [vp_updL, va_up]
    · simp only [vp_updL, va_up, if_neg e]; exact this
  · have := hs.2 l c key hl hc hk
    rw [Nat.zero_add] at this ⊢
    simp only [vp_updL]
    rw [if_neg (by omega)]
    exact this
theorem zr_sst (hC : zC X G cc nL RX2) {h : Nat → Nat} {F : Nat → Nat → Nat → Nat} {r : (Nat → zRS) × zRS × (Nat → Nat) × (Nat → Nat) × (Nat → Int)} {z : Int} {v : Nat} (hd : decode cc pc = .ok (.lastore, 1)) (h0 : 0 ≤ z) (h1 : z < 32)
    (kk : zV X nL A (zH G A (zS [REF G ad ((va_up h z.toNat v, F), r)])) k n (pc + 1) L rest) : zV X nL A (zH G A (zS [REF G ad ((h, F), r)])) k n pc L (.long (lI ((v : Nat) : Int)) :: .int (iI z) :: .ref (ad 1) :: rest) := by
  refine zr_raw (fun a b d e1 e2 e3 => ?_)
  refine zx_last hC 1 rfl h0 (by omega) (by decide) rfl hd ?_
  exact zx_pre (zr_fold ((va_up h z.toNat v, F), r) (e1.set (by omega)) e2 e3) kk
theorem zr_put (hC : zC X G cc nL RX2) {σ : zRS} {ps : Nat → zRS} {sn : zRS} {iv pd iv' : Nat → Nat} {sp : Nat → Int} {index : Nat} {v : Value} (j : Nat) (hj : j < 9) (hd : decode cc pc = .ok (.putfield index, 3)) (hlink : Cond.fieldLink RX2 index (TX2 j).1 (TX2 j).2.1 (TX2 j).2.2.1 ∈ lw_all) (hfin : (TX2 j).2.2.2 = false) (hn : narrow (tyX2 j) v = v) (hfit : fits (tyX2 j) v = true) (hfs : (zMf ad iv).set j v = zMf ad iv')
    (kk : zV X nL A (zH G A (zS [REF G ad (σ, ps, sn, iv', pd, sp)])) k n (pc + 3) L rest) : zV X nL A (zH G A (zS [REF G ad (σ, ps, sn, iv, pd, sp)])) k n pc L (v :: .ref (ad 0) :: rest) := by
  refine zr_raw (fun a b d e1 e2 e3 => ?_)
  refine zx_putf (T := TX2) (N := 9) (ci := 2) (fs := zMf ad iv) (fs' := zMf ad iv') hC 0 in_X2 tyX2 tyX2_ok nmX2 rfl rfl j hj hlink (fun _ h => h) hfin hn hfit hj hfs hd ?_
  exact zx_pre (zr_fold (σ, ps, sn, iv', pd, sp) e1 e2 e3) kk
theorem zr_padst (hC : zC X G cc nL RX2) {σ : zRS} {ps : Nat → zRS} {sn : zRS} {iv pd : Nat → Nat} {sp : Nat → Int} {z : Int} {v : Nat} (hd : decode cc pc = .ok (.iastore, 1)) (h0 : 0 ≤ z) (h1 : z < 60)
    (kk : zV X nL A (zH G A (zS [REF G ad (σ, ps, sn, iv, va_up pd z.toNat v, sp)])) k n (pc + 1) L rest) : zV X nL A (zH G A (zS [REF G ad (σ, ps, sn, iv, pd, sp)])) k n pc L (.int (iI ((v : Nat) : Int)) :: .int (iI z) :: .ref (ad 4) :: rest) := by
  refine zr_raw (fun a b d e1 e2 e3 => ?_)
  refine zx_iast hC (N := 60) (f' := fun j => iI ((va_up pd z.toNat v j : Nat) : Int)) 4 rfl h0 (by omega) (by decide) (by funext j; simp only [upd, va_up]; split <;> rfl) hd ?_
  exact zx_pre (zr_fold (σ, ps, sn, iv, va_up pd z.toNat v, sp) e1 e2 e3) kk
theorem zr_spst (hC : zC X G cc nL RX2) {σ : zRS} {ps : Nat → zRS} {sn : zRS} {iv pd : Nat → Nat} {sp : Nat → Int} {z v : Int} (hd : decode cc pc = .ok (.iastore, 1)) (h0 : 0 ≤ z) (h1 : z < 3)
    (kk : zV X nL A (zH G A (zS [REF G ad (σ, ps, sn, iv, pd, va_up sp z.toNat v)])) k n (pc + 1) L rest) : zV X nL A (zH G A (zS [REF G ad (σ, ps, sn, iv, pd, sp)])) k n pc L (.int (iI v) :: .int (iI z) :: .ref (ad 5) :: rest) := by
  refine zr_raw (fun a b d e1 e2 e3 => ?_)
  refine zx_iast hC (N := 3) (f' := fun j => iI (va_up sp z.toNat v j)) 5 rfl h0 (by omega) (by decide) (by funext j; simp only [upd, va_up]; split <;> rfl) hd ?_
  exact zx_pre (zr_fold (σ, ps, sn, iv, pd, va_up sp z.toNat v) e1 e2 e3) kk
end ZRR
abbrev zVr (X : zX) (nL pc : Nat) (L : List (Option Value)) (st : List Value) : Prop := zV X nL (fun _ => False) (fun H => H = (zs X).heap) 0 0 pc L st
abbrev zVm (X : zX) (G : zG) (ad : Nat → Nat) (A : Nat → Prop) (nL : Nat) (ρ : zRho) (pc : Nat) (L : List (Option Value)) (st : List Value) : Prop := zV X nL A (zH G A (zS [REF G ad ρ])) 0 0 pc L st
theorem zNoA {G : zG} : ∀ q : Nat, (fun _ => False) q → zNS G q := fun _ h => h.elim
abbrev zR5 : Type := (Nat → zRS) × zRS × (Nat → Nat) × (Nat → Nat) × (Nat → Int)
section ZRN
variable {X : zX} {G : zG} {cc : ByteArray} {nL : Nat} {A : Nat → Prop} {P : Heap → Prop} {k n pc : Nat} {L : List (Option Value)} {rest : List Value} {ad : Nat → Nat} {h : Nat → Nat} {F : Nat → Nat → Nat → Nat} {r : zR5}
theorem zr_sldN (hC : zC X G cc nL RX2) (hR : ∀ H, P H → zRf G ad ((h, F), r) H) (j : Nat) {x : Nat} (hd : decode cc pc = .ok (.laload, 1)) (hj : j < 32) (hx : h j = x)
    (kk : zV X nL A P k n (pc + 1) L (.long (lI ((x : Nat) : Int)) :: rest)) : zV X nL A P k n pc L (.int (iI (j : Int)) :: .ref (ad 1) :: rest) := by
  subst hx
  exact zr_sld hC hR hd (by omega) (by omega) kk
theorem zr_sstN (hC : zC X G cc nL RX2) (j : Nat) {v : Nat} (hd : decode cc pc = .ok (.lastore, 1)) (hj : j < 32)
    (kk : zV X nL A (zH G A (zS [REF G ad ((va_up h j v, F), r)])) k n (pc + 1) L rest) : zV X nL A (zH G A (zS [REF G ad ((h, F), r)])) k n pc L (.long (lI ((v : Nat) : Int)) :: .int (iI (j : Int)) :: .ref (ad 1) :: rest) :=
  zr_sst hC hd (by omega) (by omega) kk
variable {ps : Nat → zRS} {sn : zRS} {iv pd : Nat → Nat} {sp : Nat → Int}
theorem zr_padN (hC : zC X G cc nL RX2) (hR : ∀ H, P H → zRf G ad ((h, F), ps, sn, iv, pd, sp) H) (j : Nat) (hd : decode cc pc = .ok (.iaload, 1)) (hj : j < 60)
    (kk : zV X nL A P k n (pc + 1) L (.int (iI ((pd j : Nat) : Int)) :: rest)) : zV X nL A P k n pc L (.int (iI (j : Int)) :: .ref (ad 4) :: rest) :=
  zr_pad hC hR hd (by omega) (by omega) kk
theorem zr_spN (hC : zC X G cc nL RX2) (hR : ∀ H, P H → zRf G ad ((h, F), ps, sn, iv, pd, sp) H) (j : Nat) (hd : decode cc pc = .ok (.iaload, 1)) (hj : j < 3)
    (kk : zV X nL A P k n (pc + 1) L (.int (iI (sp j)) :: rest)) : zV X nL A P k n pc L (.int (iI (j : Int)) :: .ref (ad 5) :: rest) :=
  zr_spd hC hR hd (by omega) (by omega) kk
theorem zr_padstN (hC : zC X G cc nL RX2) (j : Nat) {v : Nat} (hd : decode cc pc = .ok (.iastore, 1)) (hj : j < 60)
    (kk : zV X nL A (zH G A (zS [REF G ad ((h, F), ps, sn, iv, va_up pd j v, sp)])) k n (pc + 1) L rest) : zV X nL A (zH G A (zS [REF G ad ((h, F), ps, sn, iv, pd, sp)])) k n pc L (.int (iI ((v : Nat) : Int)) :: .int (iI (j : Int)) :: .ref (ad 4) :: rest) :=
  zr_padst hC hd (by omega) (by omega) kk
theorem zr_spstN (hC : zC X G cc nL RX2) (j : Nat) {v : Int} (hd : decode cc pc = .ok (.iastore, 1)) (hj : j < 3)
    (kk : zV X nL A (zH G A (zS [REF G ad ((h, F), ps, sn, iv, pd, va_up sp j v)])) k n (pc + 1) L rest) : zV X nL A (zH G A (zS [REF G ad ((h, F), ps, sn, iv, pd, sp)])) k n pc L (.int (iI v) :: .int (iI (j : Int)) :: .ref (ad 5) :: rest) :=
  zr_spst hC hd (by omega) (by omega) kk
end ZRN
section ZRX
variable {X : zX} {G : zG} {cc : ByteArray} {nL : Nat} {own : String} {A : Nat → Prop} {P : Heap → Prop} {Ps : List zAs} {k n pc : Nat} {L : List (Option Value)} {rest : List Value}
theorem zx_laldN (hC : zC X G cc nL own) {a N : Nat} {f : Nat → Int64} (hat : ∀ H, P H → va_at G.1 zcl (a, zJ G N f) H) (j : Nat) (hj : j < N) (hN : N < 2147483648) (hd : decode cc pc = .ok (.laload, 1))
    (kk : zV X nL A P k n (pc + 1) L (.long (f j) :: rest)) : zV X nL A P k n pc L (.int (iI (j : Int)) :: .ref a :: rest) := zx_lald hC hat (by omega) (by omega) hN hd kk
theorem zx_lastN (hC : zC X G cc nL own) {a N : Nat} {f f' : Nat → Int64} {x : Int64} (i : Nat) (hat : Ps[i]? = some (z1 a (zJ G N f))) (j : Nat) (hj : j < N) (hN : N < 2147483648) (hf : vp_updL f j x = f') (hd : decode cc pc = .ok (.lastore, 1))
    (kk : zV X nL A (zH G A (zS (Ps.set i (z1 a (zJ G N f'))))) k n (pc + 1) L rest) : zV X nL A (zH G A (zS Ps)) k n pc L (.long x :: .int (iI (j : Int)) :: .ref a :: rest) := zx_last hC i hat (by omega) (by omega) hN hf hd kk
end ZRX
