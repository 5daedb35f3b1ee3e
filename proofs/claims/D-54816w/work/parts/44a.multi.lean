/-! Arrays of arrays: made, cloned, stored -/
set_option maxRecDepth 100000
theorem zouter (c : ClassId) (N h0 : Nat) : ∀ i, Jvm.Free.Multi.outerC c N h0 i = arrV c N (fun j => if j < i then Value.ref (h0 + 1 + j) else Value.null)
  | 0 => by
    show ({ cls := c, slots := Array.replicate N .null, vm := .none } : Cell) = _
    rw [arrV_new]
    congr 1
  | i + 1 => by
    show (Jvm.Free.Multi.outerC c N h0 i).setSlot i (.ref (h0 + 1 + i)) = _
    rw [zouter c N h0 i, arrV_store]
    congr 1
    funext j
    simp only [updV]
    by_cases h : j = i
    · subst h; rw [if_pos rfl, if_pos (by omega)]
    · rw [if_neg h]
      by_cases h2 : j < i
      · rw [if_pos h2, if_pos (by omega)]
      · rw [if_neg h2, if_neg (by omega)]
theorem arrV_congr {c : ClassId} {N : Nat} {f g : Nat → Value} (h : ∀ j, j < N → f j = g j) : arrV c N f = arrV c N g := by
  unfold arrV
  congr 1
  congr 1
  funext j
  exact h j.val j.isLt
section ZMu
variable {X : zX} {G : zG} {cc : ByteArray} {nL : Nat} {own : String} {A : Nat → Prop} {P : Heap → Prop} {Ps Rs : List zAs} {k n pc : Nat} {L : List (Option Value)} {rest : List Value}
theorem zx_multi (hC : zC X G cc nL own) (hA : zA X G A) {idx N : Nat} (hN : N ≤ 1000) (hcl : Cond.classLink own idx "[[I" ∈ lw_all) (harr : Cond.arrayClass .int ∈ lw_all) (hcs : k + (1 + N) ≤ (zR X).cells ∧ n + (N + N * 36) ≤ (zR X).slots) (hd : decode cc pc = .ok (.multianewarray idx 2, 4))
    (kk : ∀ q, zV X nL A (zH G A (zS (z1 q (zQ G 4 N (fun c => some (q + 1 + c))) :: zbs N (fun c => z1 (q + 1 + c) (zI G 36 (fun _ => 0))) :: Ps))) (k + (1 + N)) (n + (N + N * 36)) (pc + 4) L (.ref q :: rest)) : zV X nL A (zH G A (zS Ps)) k n pc L (.int (iI 36) :: .int (iI (N : Int)) :: rest) := by
  intro H locs ls hP hS hl T hT X0
  have eN : (iI (N : Int)).toNatClampNeg = N := by rw [iI_clamp ⟨by omega, by omega⟩]; exact Int.toNat_natCast N
  have e36 : (iI 36).toNatClampNeg = 36 := rfl
  obtain ⟨vm₁, cA, comp, hW1, hfA, hfC, -, -, X1, step⟩ := X0.multianewarray2F hC.1.1 (own := own) (index := idx) (ty := .int) hC.1.2.2.2.1 (hC.1.2.2.2.2 _ hcl) hC.2.1.2.2.2.1 (hC.1.2.2.2.2 _ harr)
    (g := F0 (zm X) pc ls (.int (iI 36) :: .int (iI (N : Int)) :: rest)) rfl (by rw [hC.1.2.1]; exact hd) rfl (iI_nneg (by omega)) (by decide) (by rw [eN]; omega) (by rw [e36]; decide) (by rw [e36]; decide) rfl rfl (by rw [eN]; exact hcs.1) (by rw [eN, e36]; exact hcs.2)
  rw [eN, e36] at X1 step
  obtain ⟨f1, f2, -, -⟩ := Jvm.Free.Multi.fill_facts (T.setVm vm₁) cA comp N 36 (defaultValue .int) N
  have fi := Jvm.Free.Multi.fill_inner (T.setVm vm₁) cA comp N 36 (defaultValue .int) N
  have fo := fun (a : Nat) (ha : a < (T.setVm vm₁).heap.size) => Jvm.Free.Multi.fill_old (T.setVm vm₁) cA comp N 36 (defaultValue .int) ha N
  have hh : (T.setVm vm₁).heap = H := hT
  rw [hh] at f1 f2 fi fo
  have ecA : cA = G.2.1 4 := Option.some.inj (hfA.symm.trans (zRA (hC.2.1.1.2 4 _ rfl).2))
  have ecc : comp = G.2.1 0 := Option.some.inj (hfC.symm.trans (zRA (hC.2.1.1.2 0 _ rfl).2))
  subst ecA ecc
  have hq1 : (Jvm.Free.Multi.fill (T.setVm vm₁) (G.2.1 4) (G.2.1 0) N 36 (defaultValue .int) N).heap[H.size]? = some (arrV (G.2.1 4) N (fun j => va_rf (some (H.size + 1 + j)))) := by
    rw [f2, zouter]
    exact congrArg some (arrV_congr (fun j hj => by rw [if_pos hj]; rfl))
  have hq2 : ∀ c, c < N → (Jvm.Free.Multi.fill (T.setVm vm₁) (G.2.1 4) (G.2.1 0) N 36 (defaultValue .int) N).heap[H.size + 1 + c]? = some (arrV (G.2.1 0) 36 (fun _ => .int 0)) := by
    intro c hc
    rw [fi c hc]
    exact congrArg some (arrV_new _ _ _)
  clear fi f2
  generalize Jvm.Free.Multi.fill (T.setVm vm₁) (G.2.1 4) (G.2.1 0) N 36 (defaultValue .int) N = T2 at X1 step f1 fo hq1 hq2
  obtain ⟨ws, h1, h2, h3⟩ := hP
  have hwi : ∀ N', zbs N' (fun c => z1 (H.size + 1 + c) (zI G 36 (fun _ => 0))) ((List.range N').map (fun c => (H.size + 1 + c, (zI G 36 (fun _ => 0) : va_E)))) := by
    intro N'
    induction N' with
    | zero => rfl
    | succ m ih => exact zbs_s.mpr ⟨_, [_], ih, rfl, by rw [List.range_succ, List.map_append]; rfl⟩
  have hnew : va_P G.1 zcl ((H.size, zQ G 4 N (fun c => some (H.size + 1 + c))) :: (List.range N).map (fun c => (H.size + 1 + c, (zI G 36 (fun _ => 0) : va_E)))) T2.heap := by
    intro i q hq
    rcases List.mem_cons.mp (List.mem_of_getElem? hq) with e | e
    · subst e
      exact hq1
    · obtain ⟨c, hc, rfl⟩ := List.mem_map.mp e
      exact hq2 c (List.mem_range.mp hc)
  have hsz : H.size ≤ T2.heap.size := by omega
  have hlo : ∀ q ∈ ws, q.1 < H.size := fun q hq => by
    obtain ⟨i, hi⟩ := List.getElem?_of_mem hq
    exact (h2 i q hi).lt
  have hnl : ∀ q ∈ ((H.size, (zQ G 4 N (fun c => some (H.size + 1 + c)) : va_E)) :: (List.range N).map (fun c => (H.size + 1 + c, (zI G 36 (fun _ => 0) : va_E)))), H.size ≤ q.1 := by
    intro q hq
    rcases List.mem_cons.mp hq with e | e
    · subst e; exact Nat.le_refl _
    · obtain ⟨c, hc, rfl⟩ := List.mem_map.mp e
      show H.size ≤ H.size + 1 + c
      omega
  have hnd : va_D A ((H.size, (zQ G 4 N (fun c => some (H.size + 1 + c)) : va_E)) :: (List.range N).map (fun c => (H.size + 1 + c, (zI G 36 (fun _ => 0) : va_E)))) := by
    refine zD_iff.mpr ⟨?_, fun q hq => hA.1 _ (Nat.le_trans hS.1 (hnl q hq))⟩
    rw [List.map_cons, List.map_map]
    refine List.nodup_cons.mpr ⟨fun h => ?_, ?_⟩
    · obtain ⟨c, -, e⟩ := List.mem_map.mp h
      dsimp only [Function.comp] at e
      omega
    · refine List.Pairwise.map _ (fun a b hab => ?_) (List.pairwise_lt_range (n := N))
      dsimp only [Function.comp]
      omega
  have hP2 : zH G A (zS (z1 H.size (zQ G 4 N (fun c => some (H.size + 1 + c))) :: zbs N (fun c => z1 (H.size + 1 + c) (zI G 36 (fun _ => 0))) :: Ps)) T2.heap := by
    refine ⟨((H.size, zQ G 4 N (fun c => some (H.size + 1 + c))) :: (List.range N).map (fun c => (H.size + 1 + c, (zI G 36 (fun _ => 0) : va_E)))) ++ ws, ⟨[_], _, rfl, ⟨_, ws, hwi N, h1, rfl⟩, rfl⟩, zP_app.mpr ⟨hnew, ?_⟩, zD_app.mpr ⟨hnd, h3, fun p hp q hq e => ?_⟩⟩
    · exact fun i q hq => (h2 i q hq).kept (fo q.1 (hlo q (List.mem_of_getElem? hq)))
    · have := hnl p hp
      have := hlo q hq
      omega
  have hS2 : va_S A (zs X).heap T2.heap locs := ⟨Nat.le_trans hS.1 hsz, fun q g1 g2 => (fo q (Nat.lt_of_lt_of_le g1 hS.1)).trans (hS.2.1 q g1 g2), hS.2.2⟩
  obtain ⟨t, a1, b1⟩ := kk H.size T2.heap locs ls hP2 hS2 hl T2 rfl (by rw [Nat.add_assoc, Nat.add_assoc] at X1; exact X1)
  refine ⟨t, step t ?_, b1⟩
  rw [hT]
  exact a1
theorem zKA (hC : zC X G cc nL own) : ∃ kA : Class, (zs X).vm.classes[G.2.1 4]? = some kA ∧ kA.kind = .array (G.2.1 0) (.array .int) := by
  obtain ⟨comp, c, k, h1, h2, h3, h4, h5⟩ := arrayOverA_spec hC.2.1.2.2.2.1
  have ec : c = G.2.1 4 := Option.some.inj (h5.symm.trans (zRA (hC.2.1.1.2 4 _ rfl).2))
  have ep : comp = G.2.1 0 := Option.some.inj (h1.symm.trans (zRA (hC.2.1.1.2 0 _ rfl).2))
  subst ec ep
  exact ⟨k, h3, h4⟩
theorem zx_newqI (hC : zC X G cc nL own) (hA : zA X G A) {z index : Nat} (hz : z ≤ 100000) (hcs : k + 1 ≤ (zR X).cells ∧ n + z ≤ (zR X).slots) (hcl : Cond.classLink own index "[I" ∈ lw_all) (hd : decode cc pc = .ok (.anewarray index, 3))
    (kk : ∀ q, zV X nL A (zH G A (zS (z1 q (zQ G 4 z (fun _ => none)) :: Ps))) (k + 1) (n + z) (pc + 3) L (.ref q :: rest)) : zV X nL A (zH G A (zS Ps)) k n pc L (.int (iI (z : Int)) :: rest) := fun H locs ls hP hS hl => by
  obtain ⟨ws, h1, h2, h3⟩ := hP
  have ez : (iI (z : Int)).toNatClampNeg = z := by rw [iI_clamp ⟨by omega, by omega⟩]; exact Int.toNat_natCast z
  refine W.anewA (t := .int) hC.1.1 hC.1.2.1 hC.1.2.2.2.1 (hC.1.2.2.2.2 _ hcl) hC.2.1.2.2.2.1 rfl hd rfl (iI_nneg (by omega)) (by rw [ez]; omega) hcs.1 (by rw [ez]; exact hcs.2) (fun cA kA comp e1 e2 e3 e4 => ?_)
  rw [ez]
  have ecA : cA = G.2.1 4 := Option.some.inj (e1.symm.trans (zRA (hC.2.1.1.2 4 _ rfl).2))
  subst ecA
  generalize hH1 : H.push ({ cls := G.2.1 4, slots := Array.replicate z .null, vm := .none } : Cell) = H1
  have q1 : H1[H.size]? = some (arrV (G.2.1 4) z (fun _ => .null)) := by rw [← hH1, Array.getElem?_push_size, ← arrV_new]
  have z1' : H1.size = H.size + 1 := by rw [← hH1, Array.size_push]
  have o1 : ∀ q : Nat, q < H.size → H1[q]? = H[q]? := fun q hq => by rw [← hH1, Array.getElem?_push, if_neg (Nat.ne_of_lt hq)]
  refine kk H.size H1 locs ls ⟨(H.size, zQ G 4 z (fun _ => none)) :: ws, ⟨[_], ws, rfl, h1, rfl⟩, ?_, ?_⟩ ⟨by have := hS.1; omega, fun q g1 g2 => (o1 q (Nat.lt_of_lt_of_le g1 hS.1)).trans (hS.2.1 q g1 g2), hS.2.2⟩ hl
  · refine zP_app (w1 := [_]).mpr ⟨zP1 q1, fun i q hq => (h2 i q hq).kept (o1 q.1 ((h2 i q hq).lt))⟩
  · refine zD_app (w1 := [_]).mpr ⟨zD_iff.mpr ⟨by simp, fun q hq => ?_⟩, h3, fun p hp q hq e => ?_⟩
    · rw [List.mem_singleton] at hq; subst hq; exact hA.1 _ hS.1
    · rw [List.mem_singleton] at hp; subst hp
      obtain ⟨i, hi⟩ := List.getElem?_of_mem hq
      have := (h2 i q hi).lt
      dsimp only at e
      omega
/-- an int[] stored into an int[][] -/
theorem zx_aastI (hC : zC X G cc nL own) {a N v m : Nat} {f f' : Nat → Option Nat} {g : Nat → Int32} (i e : Nat) (hat : Ps[i]? = some (z1 a (zQ G 4 N f))) (he : Ps[e]? = some (z1 v (zI G m g))) (j : Nat) (hj : j < N) (hN : N < 2147483648) (hf : va_up f j (some v) = f') (hd : decode cc pc = .ok (.aastore, 1))
    (kk : zV X nL A (zH G A (zS (Ps.set i (z1 a (zQ G 4 N f'))))) k n (pc + 1) L rest) : zV X nL A (zH G A (zS Ps)) k n pc L (.ref v :: .int (iI (j : Int)) :: .ref a :: rest) := by
  subst hf
  intro H locs ls hP hS hl
  have g1 : H[v]? = some (arrV (G.2.1 0) m (fun j => .int (g j))) := zat e he H hP
  obtain ⟨ws, h1', h2, h3⟩ := hP
  obtain ⟨q0, h4, h5⟩ := zS_at h1' hat
  obtain ⟨e1, e2⟩ := zin (z := (j : Int)) (N := N) (by omega) (by omega) hN
  rw [Int.toNat_natCast] at e2
  obtain ⟨kA, k1, k2⟩ := zKA hC
  have hfc := zRA (hC.2.1.1.2 0 _ rfl).2
  obtain ⟨kE, hkE, hnE⟩ := Vm.findClass_spec hfc
  refine W.aast hC.1.1 hC.1.2.1 (h2 q0 _ h4) (fun q h => by cases h) (fun h => by cases h) k1 k2 rfl hkE ⟨fun q => e1 (Or.inl q), by show _ < (arrV _ _ _).slots.size; rw [arrV_size, e2]; exact hj⟩ g1 (fun q h => by cases h) hkE (Jvm.Vm.assignable_self _ _) rfl rfl hd fun H1 e9 z oq => ?_
  refine kk H1 _ ls ⟨_, h5 _, h2.set h3 h4 ?_ oq, h3.set h4⟩ (hS.put z oq (h3.2 q0 _ h4)) hl
  show H1[a]? = some (vp_cell _ _)
  rw [e9, e2]
  rw [vp_cell_q, vp_cell_q, arrV_store]
  congr 2
  funext q
  by_cases hq : q = j
  · subst hq
    simp [updV, va_up, va_rf]
  · simp [updV, va_up, hq]
theorem zx_clone (hC : zC X G cc nL own) (hA : zA X G A) {a N idx : Nat} {f : Nat → Int32} (i : Nat) (hat : Ps[i]? = some (z1 a (zI G N f))) (hlink : Cond.methodLink own idx ⟨"[I", "clone", "()Ljava/lang/Object;"⟩ ∈ lw_all) (hR : 1 ≤ (zR X).frames ∧ 22 ≤ (zR X).locals) (hr : (rest.map fun v => v.category).sum ≤ 8) (hcs : k + 1 ≤ (zR X).cells ∧ n + N ≤ (zR X).slots) (hd : decode cc pc = .ok (.invokevirtual idx, 3))
    (kk : ∀ q, zV X nL A (zH G A (zS (z1 q (zI G N f) :: Ps))) (k + 1) (n + N) (pc + 3) L (.ref q :: rest)) : zV X nL A (zH G A (zS Ps)) k n pc L (.ref a :: rest) := fun H locs ls hP hS hl => by
  obtain ⟨ws, h1, h2, h3⟩ := hP
  obtain ⟨q0, h4, -⟩ := zS_at h1 hat
  refine va_clone (ad := "[I") hC.1.1 hC.1.2.1 (by rw [hC.1.2.2.1]; exact hl.1.symm) hC.1.2.2.2.1 (hC.1.2.2.2.2 _ hlink) (hC.1.2.2.2.2 _ q768) (hC.1.2.2.2.2 _ q556) (hC.1.2.2.2.2 _ q557) (hC.1.2.2.2.2 _ q769) (hC.2.1.2.1 _ (zws_in q770 rfl)) hC.2.1.1 h2 h3 hS hA.1 q0 0 (x := (N, .inl f)) h4 rfl (zRA (hC.2.1.1.2 0 _ rfl).2) (fun i v hv => ?_) hR.1 (by omega) hcs.1 hcs.2 hd (fun q H1 p0 p1 p2 p3 => ?_)
  · by_cases hi : i < N
    · have e := arrV_read (G.2.1 0) (fun j => .int (f j)) hi
      have e2 : (arrV (G.2.1 0) N (fun j => .int (f j))).slots[i]? = some v := hv
      rw [e] at e2
      cases e2
      rfl
    · have e2 : (arrV (G.2.1 0) N (fun j => .int (f j))).slots[i]? = some v := hv
      have := (Array.getElem?_eq_some_iff.mp e2).1
      rw [arrV_size] at this
      omega
  · exact kk q H1 locs ls ⟨(q, _) :: ws, ⟨[_], ws, rfl, h1, rfl⟩, zP_perm p1 (List.perm_append_singleton _ _).symm, zD_perm p2 (List.perm_append_singleton _ _).symm⟩ p3 hl
end ZMu
