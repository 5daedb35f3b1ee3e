/-! A layer of the component -/
set_option maxRecDepth 100000
def zIr (G : zG) (a : Nat) (f : Nat → Nat) : zAs := zex fun g : Nat → Int32 => zS [zpu (∀ k, k < 36 → g k = iI ((f k : Nat) : Int)), z1 a (zI G 36 g)]
theorem zIr_mk {G : zG} {a : Nat} {f : Nat → Nat} {g : Nat → Int32} (h : ∀ k, k < 36 → g k = iI ((f k : Nat) : Int)) : ∀ w, zS [z1 a (zI G 36 g)] w → zIr G a f w := fun w hw => ⟨g, [], w, ⟨h, rfl⟩, hw, rfl⟩
theorem zIr_mk1 {G : zG} {a : Nat} {f : Nat → Nat} {g : Nat → Int32} (h : ∀ k, k < 36 → g k = iI ((f k : Nat) : Int)) : ∀ w, z1 a (zI G 36 g) w → zIr G a f w := fun w hw => zIr_mk h w ⟨w, [], hw, rfl, (List.append_nil _).symm⟩
theorem zIr_imp {G : zG} {a : Nat} {f f' : Nat → Nat} (h : ∀ k, k < 36 → f k = f' k) : ∀ w, zIr G a f w → zIr G a f' w := by
  rintro w ⟨g, w1, w2, ⟨h1, h2⟩, h3, h4⟩
  exact ⟨g, w1, w2, ⟨fun k hk => by rw [h1 k hk, h k hk], h2⟩, h3, h4⟩
theorem zIr_hp {G : zG} {a : Nat} {f : Nat → Nat} {H : Heap} (h : zhp G (zIr G a f) H) : ∃ g : Nat → Int32, (∀ k, k < 36 → g k = iI ((f k : Nat) : Int)) ∧ va_at G.1 zcl (a, zI G 36 g) H := by
  obtain ⟨g, h1⟩ := h.ex
  exact ⟨g, (h1.mem 0 rfl).pu, (h1.mem 1 rfl).z1⟩
def LAr (G : zG) (len : Nat) (rw : Nat → Nat) (f : Nat → Nat → Nat) : zAs := zbs len (fun c => zIr G (rw c) (f c))
def LAY (G : zG) (a len : Nat) (f : Nat → Nat → Nat) (mu pa : Nat) : zAs := zex fun fs : Nat => zex fun g : Nat → Option Nat => zex fun rw : Nat → Nat => zS [zpu (∀ c, c < len → g c = some (rw c)), z1 a (.inr (3, [.ref fs, .int (iI ((mu : Nat) : Int)), .int (iI ((pa : Nat) : Int))])), z1 fs (zQ G 4 len g), LAr G len rw f]
theorem LAY_mk {G : zG} {a len fs mu pa : Nat} {f : Nat → Nat → Nat} {g : Nat → Option Nat} {rw : Nat → Nat} (h : ∀ c, c < len → g c = some (rw c)) : ∀ w, zS [z1 a (.inr (3, [.ref fs, .int (iI ((mu : Nat) : Int)), .int (iI ((pa : Nat) : Int))])), z1 fs (zQ G 4 len g), LAr G len rw f] w → LAY G a len f mu pa w := fun w hw => ⟨fs, g, rw, [], w, ⟨h, rfl⟩, hw, rfl⟩
theorem LAY_imp {G : zG} {a len mu pa : Nat} {f f' : Nat → Nat → Nat} (h : ∀ c, c < len → ∀ k, k < 36 → f c k = f' c k) : ∀ w, LAY G a len f mu pa w → LAY G a len f' mu pa w := by
  rintro w ⟨fs, g, rw, w1, w2, h1, ⟨w3, w4, h2, ⟨w5, w6, h3, ⟨w7, w8, h4, h5, h6⟩, h7⟩, h8⟩, h9⟩
  exact ⟨fs, g, rw, w1, w2, h1, ⟨w3, w4, h2, ⟨w5, w6, h3, ⟨w7, w8, zbs_imp (fun c hc => zIr_imp (h c hc)) _ h4, h5, h6⟩, h7⟩, h8⟩, h9⟩
theorem LAY_hp {G : zG} {a len mu pa : Nat} {f : Nat → Nat → Nat} {H : Heap} (h : zhp G (LAY G a len f mu pa) H) : ∃ (fs : Nat) (g : Nat → Option Nat) (rw : Nat → Nat), (∀ c, c < len → g c = some (rw c)) ∧ va_at G.1 zcl (a, .inr (3, [.ref fs, .int (iI ((mu : Nat) : Int)), .int (iI ((pa : Nat) : Int))])) H ∧ va_at G.1 zcl (fs, zQ G 4 len g) H ∧ ∀ c, c < len → ∃ r : Nat → Int32, (∀ k, k < 36 → r k = iI ((f c k : Nat) : Int)) ∧ va_at G.1 zcl (rw c, zI G 36 r) H := by
  obtain ⟨fs, h1⟩ := h.ex
  obtain ⟨g, h2⟩ := h1.ex
  obtain ⟨rw, h3⟩ := h2.ex
  exact ⟨fs, g, rw, (h3.mem 0 rfl).pu, (h3.mem 1 rfl).z1, (h3.mem 2 rfl).z1, fun c hc => zIr_hp ((h3.mem 3 rfl).bs c hc)⟩
theorem LAY_el {G : zG} {a len mu pa : Nat} {f : Nat → Nat → Nat} (hw : Cond.castable RX3 "java/lang/Object" ∈ lw_tbl) : zEl G (LAY G a len f mu pa) a :=
  zEl.of (ci := 3) rfl hw (fun w h => by
    obtain ⟨fs, g, rw, w1, w2, ⟨h1, rfl⟩, ⟨w3, w4, h2, h3, rfl⟩, rfl⟩ := h
    cases h2
    exact ⟨_, List.mem_append_right _ (List.mem_append_left _ (List.mem_singleton.mpr rfl))⟩)
section ZLy
variable {X : zX} {G : zG}
theorem LAY_rc {H : Heap} {a len mu pa : Nat} {f : Nat → Nat → Nat} (hK : zK G (zs X)) (h : zhp G (LAY G a len f mu pa) H) : zrc X RX3 a H := by
  obtain ⟨fs, g, rw, -, h1, -⟩ := LAY_hp h
  exact zrc_of hK h1 (r := (RX3, TX3, 3)) rfl
end ZLy
theorem zflat (g : Nat → Nat → Nat) {i j : Nat} (hj : j < 36) : zsumT (fun k => g (k / 36) (k % 36)) (i * 36 + (j + 1)) = zsumT (fun k => g (k / 36) (k % 36)) (i * 36 + j) + g i j := by
  show zsumT _ (i * 36 + j) + g ((i * 36 + j) / 36) ((i * 36 + j) % 36) = _
  rw [show (i * 36 + j) / 36 = i by omega, show (i * 36 + j) % 36 = j by omega]
theorem zflatM (g : Nat → Nat → Nat) {i j : Nat} (hj : j < 36) : zmaxT (fun k => g (k / 36) (k % 36)) (i * 36 + (j + 1)) = if g i j ≤ zmaxT (fun k => g (k / 36) (k % 36)) (i * 36 + j) then zmaxT (fun k => g (k / 36) (k % 36)) (i * 36 + j) else g i j := by
  show (if g ((i * 36 + j) / 36) ((i * 36 + j) % 36) ≤ zmaxT _ (i * 36 + j) then zmaxT _ (i * 36 + j) else g ((i * 36 + j) / 36) ((i * 36 + j) % 36)) = _
  rw [show (i * 36 + j) / 36 = i by omega, show (i * 36 + j) % 36 = j by omega]
section ZLr
variable {X : zX} {G : zG} {cc : ByteArray} {nL : Nat} {own : String} {A : Nat → Prop} {P : Heap → Prop} {Ps Rs : List zAs} {k n pc : Nat} {L : List (Option Value)} {rest : List Value}
theorem zx_ialdR (hC : zC X G cc nL own) {a : Nat} {f : Nat → Nat} (hat : ∀ H, P H → zhp G (zIr G a f) H) (j : Nat) (hj : j < 36) (hd : decode cc pc = .ok (.iaload, 1))
    (kk : zV X nL A P k n (pc + 1) L (.int (iI ((f j : Nat) : Int)) :: rest)) : zV X nL A P k n pc L (.int (iI (j : Int)) :: .ref a :: rest) := fun H locs ls hP hS hl => by
  obtain ⟨g, h1, h2⟩ := zIr_hp (hat H hP)
  refine zx_ialdN (P := fun H' => H' = H) hC (zeq h2) j hj (by decide) hd ?_ H locs ls rfl hS hl
  rw [h1 j hj]
  intro H' locs' ls' hP' hS' hl'
  subst hP'
  exact kk _ _ _ hP hS' hl'
end ZLr
def ffad (fade : Nat) (f : Nat → Nat → Nat) (i : Nat) : Nat → Nat → Nat := fun c k => if c < i then f c k * (100 - fade) / 100 else f c k
theorem ffad_0 (fade : Nat) (f : Nat → Nat → Nat) : ffad fade f 0 = f := by funext c k; simp [ffad]
def frow (r : Nat → Int32) (v : Nat → Nat) (j : Nat) : Nat → Int32 := fun k => if k < j then iI ((v k : Nat) : Int) else r k
theorem frow_0 (r : Nat → Int32) (v : Nat → Nat) : frow r v 0 = r := by funext k; simp [frow]
theorem frow_at (r : Nat → Int32) (v : Nat → Nat) (j : Nat) : frow r v j j = r j := by simp [frow]
theorem frow_s (r : Nat → Int32) (v : Nat → Nat) (j : Nat) : upd (frow r v j) j (iI ((v j : Nat) : Int)) = frow r v (j + 1) := by
  funext k
  simp only [upd, frow]
  by_cases h : k = j
  · subst h; rw [if_pos rfl, if_pos (by omega)]
  · rw [if_neg h]
    by_cases h2 : k < j
    · rw [if_pos h2, if_pos (by omega)]
    · rw [if_neg h2, if_neg (by omega)]
theorem frow_e {r : Nat → Int32} {v : Nat → Nat} : ∀ k, k < 36 → frow r v 36 k = iI ((v k : Nat) : Int) := fun k hk => if_pos hk
section ZLc
variable {X : zX} {G : zG} {cc : ByteArray} {nL : Nat} {own : String} {A : Nat → Prop} {P : Heap → Prop} {Ps Rs : List zAs} {k n pc : Nat} {L : List (Option Value)} {rest : List Value}
theorem zx_castI (hC : zC X G cc nL own) {a N index : Nat} {f : Nat → Int32} (hlink : Cond.classLink own index "[I" ∈ lw_all) (hat : ∀ H, P H → va_at G.1 zcl (a, zI G N f) H) (hd : decode cc pc = .ok (.checkcast index, 3))
    (kk : zV X nL A P k n (pc + 3) L (.ref a :: rest)) : zV X nL A P k n pc L (.ref a :: rest) := fun H locs ls hP hS hl =>
  va_castA hC.1.1 hC.1.2.1 hC.1.2.2.2.1 (hC.1.2.2.2.2 _ hlink) (zP1 (hat H hP)) 0 rfl (zRA (hC.2.1.1.2 0 _ rfl).2) hd (kk H locs ls hP hS hl)
end ZLc
def fcut (f : Nat → Nat → Nat) (i : Nat) : Nat → Nat → Nat := fun c k => if c < i then f c k else 0
def gset (g : Nat → Option Nat) (rw : Nat → Nat) (n : Nat) : Prop := ∀ c, c < n → g c = some (rw c)
theorem gset_up {g : Nat → Option Nat} {rw : Nat → Nat} {n i b : Nat} (h : gset g rw n) : gset (va_up g i (some b)) (va_up rw i b) n := by
  intro c hc
  simp only [va_up]
  by_cases e : c = i
  · rw [if_pos e, if_pos e]
  · rw [if_neg e, if_neg e]; exact h c hc
theorem fcut_i (f : Nat → Nat → Nat) (i : Nat) : fcut f (i + 1) i = f i := by funext k; simp [fcut]
theorem fcut_ne {f : Nat → Nat → Nat} {i c : Nat} (h : c ≠ i) : fcut f (i + 1) c = fcut f i c := by
  funext k
  simp only [fcut]
  by_cases q : c < i
  · rw [if_pos q, if_pos (by omega)]
  · rw [if_neg q, if_neg (by omega)]
section ZBp
variable {X : zX} {G : zG} {nL : Nat} {A : Nat → Prop} {Rs : List zAs} {k n pc : Nat} {L : List (Option Value)} {rest : List Value}
/-- one more, behind -/
theorem zx_bpush {N : Nat} {f : Nat → zAs} {Q : zAs} (g : Nat → zAs) (hq : g N = Q) (hg : ∀ j, j < N → g j = f j) (kk : zV X nL A (zH G A (zS (zbs (N + 1) g :: Rs))) k n pc L rest) : zV X nL A (zH G A (zS (zbs N f :: Q :: Rs))) k n pc L rest :=
  zx_close (P1 := zbs (N + 1) g) [zbs N f, Q] (fun w h => by
    obtain ⟨w1, w2, h1, h2, rfl⟩ := zS2e h
    exact zbs_s.mpr ⟨w1, w2, zbs_eq (fun i hi => (hg i hi).symm) h1, by rw [hq]; exact h2, rfl⟩) kk
end ZBp
theorem gset_push {g : Nat → Option Nat} {rw : Nat → Nat} {i b : Nat} (h : gset g rw i) : gset (va_up g i (some b)) (va_up rw i b) (i + 1) := by
  intro c hc
  simp only [va_up]
  by_cases e : c = i
  · rw [if_pos e, if_pos e]
  · rw [if_neg e, if_neg e]; exact h c (by omega)
/-- both halves, one over the other: the first n cells and keys -/
def fol (f : Nat → Nat → Nat) (half n : Nat) : Nat → Nat → Nat := fun c k => if k < 36 ∧ c * 36 + k < n then rBoth (f c k) (f (c + half) k) else f c k
theorem fol_0 (f : Nat → Nat → Nat) (half : Nat) : fol f half 0 = f := by
  funext c k
  exact if_neg (by omega)
theorem fol_at (f : Nat → Nat → Nat) (half i j : Nat) : fol f half (i * 36 + j) i j = f i j := if_neg (by omega)
theorem fol_s {f : Nat → Nat → Nat} {half i j : Nat} (hj : j < 36) : ∀ c k, k < 36 → va_up (fol f half (i * 36 + j)) i (va_up (fol f half (i * 36 + j) i) j (rBoth (fol f half (i * 36 + j) i j) (f (i + half) j))) c k = fol f half (i * 36 + (j + 1)) c k := by
  intro c k hk
  rw [fol_at]
  by_cases hc : c = i
  · subst hc
    rw [va_up_self]
    by_cases hkj : k = j
    · subst hkj
      rw [va_up_self]
      exact (if_pos ⟨hk, by omega⟩).symm
    · rw [va_up_ne _ _ hkj]
      simp only [fol]
      by_cases q : c * 36 + k < c * 36 + j
      · rw [if_pos ⟨hk, q⟩, if_pos ⟨hk, by omega⟩]
      · rw [if_neg (fun z => q z.2), if_neg (by omega)]
  · rw [va_up_ne _ _ hc]
    simp only [fol]
    by_cases q : c * 36 + k < i * 36 + j
    · rw [if_pos ⟨hk, q⟩, if_pos ⟨hk, by omega⟩]
    · rw [if_neg (fun z => q z.2), if_neg (by omega)]
theorem fol_le {f : Nat → Nat → Nat} (hf : ∀ c k, f c k ≤ 99) (half n c k : Nat) : fol f half n c k ≤ 99 := by
  unfold fol; split
  · exact rBoth_le _ _
  · exact hf _ _
