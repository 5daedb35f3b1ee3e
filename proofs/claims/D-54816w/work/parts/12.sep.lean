/-! Worlds as lists of assertions; contracts; calls -/
set_option maxRecDepth 100000
abbrev zAs : Type := va_W → Prop
/-- one after another -/
def zS : List zAs → zAs
  | [], ws => ws = []
  | P :: Ps, ws => ∃ w1 w2, P w1 ∧ zS Ps w2 ∧ ws = w1 ++ w2
/-- one cell -/
def z1 (a : Nat) (e : va_E) : zAs := fun ws => ws = [(a, e)]
/-- a pure fact -/
def zpu (F : Prop) : zAs := fun ws => F ∧ ws = []
/-- there is .. -/
def zex {α : Type} (f : α → zAs) : zAs := fun ws => ∃ x, f x ws
def zH (G : zG) (A : Nat → Prop) (P : zAs) (H : Heap) : Prop := ∃ ws, P ws ∧ va_P G.1 zcl ws H ∧ va_D A ws
theorem zS_app : ∀ (Ps Qs : List zAs) (ws : va_W), zS (Ps ++ Qs) ws ↔ ∃ w1 w2, zS Ps w1 ∧ zS Qs w2 ∧ ws = w1 ++ w2
  | [], Qs, ws => ⟨fun h => ⟨[], ws, rfl, h, rfl⟩, fun ⟨w1, w2, h1, h2, h3⟩ => by cases h1; rw [h3]; exact h2⟩
  | P :: Ps, Qs, ws => by
    constructor
    · rintro ⟨w1, w2, h1, h2, rfl⟩
      obtain ⟨w3, w4, h3, h4, rfl⟩ := (zS_app Ps Qs w2).mp h2
      exact ⟨w1 ++ w3, w4, ⟨w1, w3, h1, h3, rfl⟩, h4, (List.append_assoc _ _ _).symm⟩
    · rintro ⟨w1, w2, ⟨w3, w4, h3, h4, rfl⟩, h2, rfl⟩
      exact ⟨w3, w4 ++ w2, h3, (zS_app Ps Qs (w4 ++ w2)).mpr ⟨w4, w2, h4, h2, rfl⟩, List.append_assoc _ _ _⟩
theorem zS_perm {Ps Qs : List zAs} (h : Ps.Perm Qs) : ∀ {ws : va_W}, zS Ps ws → ∃ ws', zS Qs ws' ∧ ws'.Perm ws := by
  induction h with
  | nil => intro ws h; exact ⟨ws, h, List.Perm.refl _⟩
  | cons x _ ih =>
    rintro ws ⟨w1, w2, h1, h2, rfl⟩
    obtain ⟨w3, h3, h4⟩ := ih h2
    exact ⟨w1 ++ w3, ⟨w1, w3, h1, h3, rfl⟩, h4.append_left w1⟩
  | swap x y l =>
    rintro ws ⟨w1, w2, h1, ⟨w3, w4, h3, h4, rfl⟩, rfl⟩
    refine ⟨w3 ++ (w1 ++ w4), ⟨w3, w1 ++ w4, h3, ⟨w1, w4, h1, h4, rfl⟩, rfl⟩, ?_⟩
    rw [← List.append_assoc, ← List.append_assoc]
    exact (List.perm_append_comm).append_right w4
  | trans _ _ ih1 ih2 =>
    intro ws h
    obtain ⟨w1, h1, p1⟩ := ih1 h
    obtain ⟨w2, h2, p2⟩ := ih2 h1
    exact ⟨w2, h2, p2.trans p1⟩
theorem zP_perm {D : va_G} {ws ws' : va_W} {H : Heap} (h : va_P D zcl ws H) (p : ws'.Perm ws) : va_P D zcl ws' H := by
  intro k q hk
  obtain ⟨i, hi⟩ := List.getElem?_of_mem (p.mem_iff.mp (List.mem_of_getElem? hk))
  exact h i q hi
theorem zD_iff {A : Nat → Prop} {ws : va_W} : va_D A ws ↔ (ws.map Prod.fst).Nodup ∧ ∀ q ∈ ws, A q.1 := by
  constructor
  · rintro ⟨h1, h2⟩
    refine ⟨?_, fun q hq => ?_⟩
    · refine List.pairwise_iff_getElem.mpr (fun i j hi hj hij hne => ?_)
      rw [List.length_map] at hi hj
      rw [List.getElem_map, List.getElem_map] at hne
      have h3 := h1 i j ws[i] ws[j] (List.getElem?_eq_getElem hi) (List.getElem?_eq_getElem hj) hne
      omega
    · obtain ⟨i, hi⟩ := List.getElem?_of_mem hq
      exact h2 i q hi
  · rintro ⟨h1, h2⟩
    refine ⟨fun i j p q hi hj hpq => ?_, fun k q hk => h2 q (List.mem_of_getElem? hk)⟩
    have h1 := List.pairwise_iff_getElem.mp h1
    obtain ⟨hil, ei⟩ := List.getElem?_eq_some_iff.mp hi
    obtain ⟨hjl, ej⟩ := List.getElem?_eq_some_iff.mp hj
    have e : (ws.map Prod.fst)[i]'(by rw [List.length_map]; exact hil) = (ws.map Prod.fst)[j]'(by rw [List.length_map]; exact hjl) := by rw [List.getElem_map, List.getElem_map, ei, ej]; exact hpq
    rcases Nat.lt_trichotomy i j with h | h | h
    · exact absurd e (h1 i j _ _ h)
    · exact h
    · exact absurd e.symm (h1 j i _ _ h)
theorem zD_perm {A : Nat → Prop} {ws ws' : va_W} (h : va_D A ws) (p : ws'.Perm ws) : va_D A ws' := by
  rw [zD_iff] at h ⊢
  exact ⟨(p.map Prod.fst).nodup_iff.mpr h.1, fun q hq => h.2 q (p.mem_iff.mp hq)⟩
theorem zH_perm {G : zG} {A : Nat → Prop} {Ps Qs : List zAs} {H : Heap} (p : Ps.Perm Qs) (h : zH G A (zS Ps) H) : zH G A (zS Qs) H := by
  obtain ⟨ws, h1, h2, h3⟩ := h
  obtain ⟨w2, h4, h5⟩ := zS_perm p h1
  exact ⟨w2, h4, zP_perm h2 h5, zD_perm h3 h5⟩
theorem zP_app {D : va_G} {w1 w2 : va_W} {H : Heap} : va_P D zcl (w1 ++ w2) H ↔ va_P D zcl w1 H ∧ va_P D zcl w2 H := by
  constructor
  · intro h
    refine ⟨fun k q hk => ?_, fun k q hk => ?_⟩
    · obtain ⟨i, hi⟩ := List.getElem?_of_mem (List.mem_append_left w2 (List.mem_of_getElem? hk))
      exact h i q hi
    · obtain ⟨i, hi⟩ := List.getElem?_of_mem (List.mem_append_right w1 (List.mem_of_getElem? hk))
      exact h i q hi
  · intro ⟨h1, h2⟩
    exact h1.app h2
theorem zD_app {A : Nat → Prop} {w1 w2 : va_W} : va_D A (w1 ++ w2) ↔ va_D A w1 ∧ va_D A w2 ∧ ∀ p ∈ w1, ∀ q ∈ w2, p.1 ≠ q.1 := by
  rw [zD_iff, zD_iff, zD_iff, List.map_append, List.nodup_append]
  constructor
  · rintro ⟨⟨h1, h2, h3⟩, h4⟩
    exact ⟨⟨h1, fun q hq => h4 q (List.mem_append_left _ hq)⟩, ⟨h2, fun q hq => h4 q (List.mem_append_right _ hq)⟩, fun p hp q hq => h3 _ (List.mem_map_of_mem hp) _ (List.mem_map_of_mem hq)⟩
  · rintro ⟨⟨h1, h2⟩, ⟨h3, h4⟩, h5⟩
    refine ⟨⟨h1, h3, fun a ha b hb => ?_⟩, fun q hq => (List.mem_append.mp hq).elim (h2 q) (h4 q)⟩
    obtain ⟨p, hp, rfl⟩ := List.mem_map.mp ha
    obtain ⟨q, hq, rfl⟩ := List.mem_map.mp hb
    exact h5 p hp q hq
/-- places -/
def zpick {α : Type} (l : List α) (is : List Nat) : List α := is.filterMap (fun i => l[i]?)
theorem zpick_range {α : Type} : ∀ (l pre : List α), (List.range' pre.length l.length).filterMap (fun i => (pre ++ l)[i]?) = l
  | [], pre => by simp
  | a :: t, pre => by
    rw [List.length_cons, List.range'_succ, List.filterMap_cons, List.getElem?_append_right (Nat.le_refl _), Nat.sub_self, List.getElem?_cons_zero]
    have h := zpick_range t (pre ++ [a])
    rw [List.length_append, List.length_singleton, List.append_assoc] at h
    exact congrArg (a :: ·) h
theorem zpick_perm {α : Type} {l : List α} {is : List Nat} (h : is.isPerm (List.range l.length) = true) : l.Perm (zpick l is) := by
  have h1 := (List.isPerm_iff.mp h).filterMap (fun i => l[i]?)
  have h2 := zpick_range l []
  rw [List.nil_append, List.length_nil, ← List.range_eq_range'] at h2
  rw [h2] at h1
  exact h1.symm
theorem zpick_app {α : Type} (l : List α) (is js : List Nat) : zpick l (is ++ js) = zpick l is ++ zpick l js := List.filterMap_append ..
/-- a cell among the assertions -/
theorem zS_at : ∀ {Ps : List zAs} {ws : va_W} {i a : Nat} {e : va_E}, zS Ps ws → Ps[i]? = some (z1 a e) → ∃ q0 : Nat, ws[q0]? = some (a, e) ∧ ∀ e', zS (Ps.set i (z1 a e')) (ws.set q0 (a, e'))
  | [], ws, i, a, e, h, hi => by simp at hi
  | P :: Ps, ws, 0, a, e, ⟨w1, w2, h1, h2, h3⟩, hi => by
    rw [List.getElem?_cons_zero] at hi
    cases hi
    cases h1
    subst h3
    exact ⟨0, rfl, fun e' => ⟨[(a, e')], w2, rfl, h2, rfl⟩⟩
  | P :: Ps, ws, i + 1, a, e, ⟨w1, w2, h1, h2, h3⟩, hi => by
    rw [List.getElem?_cons_succ] at hi
    obtain ⟨q0, h4, h5⟩ := zS_at h2 hi
    subst h3
    refine ⟨w1.length + q0, ?_, fun e' => ⟨w1, w2.set q0 (a, e'), h1, h5 e', ?_⟩⟩
    · rw [List.getElem?_append_right (by omega), Nat.add_sub_cancel_left]; exact h4
    · rw [List.set_append_right _ _ (by omega), Nat.add_sub_cancel_left]
theorem zat {G : zG} {A : Nat → Prop} {Ps : List zAs} {a : Nat} {e : va_E} (i : Nat) (hi : Ps[i]? = some (z1 a e)) : ∀ H, zH G A (zS Ps) H → va_at G.1 zcl (a, e) H := by
  rintro H ⟨ws, h1, h2, h3⟩
  obtain ⟨q0, h4, -⟩ := zS_at h1 hi
  exact h2 q0 _ h4
theorem zeq {G : zG} {H0 : Heap} {x : Nat × va_E} (h : va_at G.1 zcl x H0) : ∀ H, H = H0 → va_at G.1 zcl x H := fun H q => q ▸ h
/-- an object that methods are called on -/
def zrc (X : zX) (C : String) (b : Nat) (H : Heap) : Prop := ∃ cellB : Cell, H[b]? = some cellB ∧ cellB.vm.isStatics = false ∧ (zs X).vm.findClass C = some cellB.cls
theorem zrc_of {X : zX} {G : zG} {H : Heap} {b ci : Nat} {fs : List Value} {r : vw_C} (hK : zK G (zs X)) (h : va_at G.1 zcl (b, .inr (ci, fs)) H) (hc : zcl[ci]? = some r) : zrc X r.1 b H :=
  va_recv (ws := [(b, .inr (ci, fs))]) (q0 := 0) hK.1 (fun k q hk => by
    cases k with
    | zero => cases hk; exact h
    | succ k => simp at hk) hc rfl
/-! contracts -/
/-- nothing is written: the answer alone -/
def zRd (l : Launch) (y : MethodName) (cc : ByteArray) (nL : Nat) (ret : Option FieldType) (f lo : Nat) (G : zG) (av : List Value) (P : Heap → Prop) (Q : Option Value → Prop) : Prop :=
  Met l y (ws_ y cc nL ret) ({ frames := f, cells := 0, slots := 0, locals := lo }) (va_Pc av (fun U => P U.heap ∧ zK G U ∧ zSt G U.heap)) (fun _ st o t => (∃ v, o = .returned v ∧ Q v) ∧ t.heap = st.heap) 0 0 (fun _ => False)
/-- a world and what becomes of it -/
def zMA (l : Launch) (y : MethodName) (cc : ByteArray) (nL : Nat) (ret : Option FieldType) (f lo : Nat) (G : zG) (av : List Value) (Ps : List zAs) (φ : Option Value → Prop) (Q : Option Value → List zAs) (mc ms : Nat) : Prop :=
  ∀ (ws : va_W) (sz : Nat), zS Ps ws → Met l y (ws_ y cc nL ret) ({ frames := f, cells := mc, slots := ms, locals := lo }) (va_Pc av (fun U => U.heap.size = sz ∧ va_P G.1 zcl ws U.heap ∧ va_D (zNS G) ws ∧ zK G U ∧ zSt G U.heap)) (fun _ st o t => (∃ v, o = .returned v ∧ φ v ∧ zH G (va_A ws sz) (zS (Q v)) t.heap) ∧ va_F (va_A ws sz) st t) mc ms (va_A ws sz)
/-- what a body owes at its end -/
def zE (X : zX) (ret : Option FieldType) (A : Nat → Prop) (mc ms : Nat) (Qh : Option Value → Heap → Prop) : Prop :=
  (zme X).sig.returnType = ret ∧ (zme X).locks = false ∧ ∃ Qc : Array Value → State → Outcome → State → Prop, (∀ (v : Option Value) (H : Heap) (t : State) (locs : List Loc), t.heap = H → va_S A (zs X).heap H locs → Qh v H → Qc (za X) (zs X) (.returned v) t) ∧
    ∀ (H : Heap) (locs : List Loc) (g : JFrame), W (zp X) (zl X) (ze X) (zR X) (zs X) (zm X) (za X) (zb X) (zme X) (zc X) H locs mc ms (MQ (zb X) Qc (za X) (zs X) mc ms A) g → zW X H locs mc ms g
theorem zhas_entry (av : List Value) {nL : Nat} {L : List (Option Value)} (hn : (lg_sl av).length ≤ nL) (hL : zprs 0 L = lv_args 0 av) : zhas ((lg_sl av ++ List.replicate (nL - (lg_sl av).length) Slot.unset).toArray) nL L := by
  unfold zhas
  rw [hL]
  exact lv_entry av hn
theorem zRd.of {l : Launch} {y : MethodName} {cc : ByteArray} {nL : Nat} {ret : Option FieldType} {f lo : Nat} {G : zG} {av : List Value} {P : Heap → Prop} {Q : Option Value → Prop} (L : List (Option Value)) (hy : plainName y.cls = true) (hn : (lg_sl av).length ≤ nL) (hL : zprs 0 L = lv_args 0 av)
    (body : ∀ X : zX, zl X = l → zC X G cc nL y.cls → zR X = { frames := f, cells := 0, slots := 0, locals := lo } → P (zs X).heap → zE X ret (fun _ => False) 0 0 (fun v H => H = (zs X).heap ∧ Q v) → zV X nL (fun _ => False) (fun H => H = (zs X).heap) 0 0 0 L []) : zRd l y cc nL ret f lo G av P Q := by
  refine Met.ofW (cc := cc) (maxL := nL) (ret := ret) hy rfl ?_
  intro p e s m args below meth c s₁ B hml hv
  obtain ⟨rfl, hP, hK, hSt⟩ := hv
  have hts := atoms_spec (ws := ws_ y cc nL ret) B.pre
  have hts : ∀ w ∈ lw_all, w.before av.toArray s = true := fun w h => hts w (List.mem_cons_of_mem _ h)
  have h := body (p, l, e, ({ frames := f, cells := 0, slots := 0, locals := lo } : Room), s, m, av.toArray, below, meth, c, MQ below (fun _ st o t => (∃ v, o = .returned v ∧ Q v) ∧ t.heap = st.heap) av.toArray s 0 0 (fun _ => False)) rfl
    ⟨⟨B.exec, B.bytes, hml, findClass_of_methodNamed B.named, hts⟩, hK, hSt⟩ rfl hP ⟨B.returns, B.notSynchronized, (fun _ st o t => (∃ v, o = .returned v ∧ Q v) ∧ t.heap = st.heap), fun v H t locs ht hS hq => ⟨⟨v, rfl, hq.2⟩, ht.trans hq.1⟩, fun H locs g h => h⟩
  rw [lg_entry_eq]
  exact h s.heap [] _ rfl va_S.rf (zhas_entry av hn hL)
theorem zMA.of {l : Launch} {y : MethodName} {cc : ByteArray} {nL : Nat} {ret : Option FieldType} {f lo : Nat} {G : zG} {av : List Value} {Ps : List zAs} {φ : Option Value → Prop} {Q : Option Value → List zAs} {mc ms : Nat} (L : List (Option Value)) (hy : plainName y.cls = true) (hn : (lg_sl av).length ≤ nL) (hL : zprs 0 L = lv_args 0 av)
    (body : ∀ (X : zX) (A : Nat → Prop), zl X = l → zC X G cc nL y.cls → (zme X).name = y.name → zA X G A → zR X = { frames := f, cells := mc, slots := ms, locals := lo } → zE X ret A mc ms (fun v H => φ v ∧ zH G A (zS (Q v)) H) → zV X nL A (zH G A (zS Ps)) 0 0 0 L []) : zMA l y cc nL ret f lo G av Ps φ Q mc ms := by
  intro ws sz hws
  refine Met.ofW (cc := cc) (maxL := nL) (ret := ret) hy rfl ?_
  intro p e s m args below meth c s₁ B hml hv
  obtain ⟨rfl, hsz, hP, hD, hK, hSt⟩ := hv
  subst hsz
  have hts := atoms_spec (ws := ws_ y cc nL ret) B.pre
  have hts : ∀ w ∈ lw_all, w.before av.toArray s = true := fun w h => hts w (List.mem_cons_of_mem _ h)
  have hsA : zA (p, l, e, ({ frames := f, cells := mc, slots := ms, locals := lo } : Room), s, m, av.toArray, below, meth, c, MQ below (fun _ st o t => (∃ v, o = .returned v ∧ φ v ∧ zH G (va_A ws s.heap.size) (zS (Q v)) t.heap) ∧ va_F (va_A ws s.heap.size) st t) av.toArray s mc ms (va_A ws s.heap.size)) G (va_A ws s.heap.size) := by
    refine ⟨fun q h => Or.inr h, fun q h => ?_⟩
    rcases h with ⟨k, e, h⟩ | h
    · exact hD.2 k _ h
    · intro r hr hq
      have h1 := (Array.getElem?_eq_some_iff.mp (hSt r hr)).1
      have h2 : s.heap.size ≤ q := h
      omega
  have h := body _ (va_A ws s.heap.size) rfl ⟨⟨B.exec, B.bytes, hml, findClass_of_methodNamed B.named, hts⟩, hK, hSt⟩ (name_of_methodNamed B.named B.method).1 hsA rfl ⟨B.returns, B.notSynchronized, (fun _ st o t => (∃ v, o = .returned v ∧ φ v ∧ zH G (va_A ws s.heap.size) (zS (Q v)) t.heap) ∧ va_F (va_A ws s.heap.size) st t), fun v H t locs ht hS hq => ⟨⟨v, rfl, hq.1, by rw [ht]; exact hq.2⟩, hS.F ht⟩, fun H locs g h => h⟩
  rw [lg_entry_eq]
  exact h s.heap [] _ ⟨ws, hws, hP, hD.self⟩ va_S.rf (zhas_entry av hn hL)
