/-! One row an instruction, over zV -/
set_option maxRecDepth 100000
abbrev zG : Type := va_G × (Nat → ClassId) × List (Nat × Cell)
def zcl : List vw_C := [(RX0, TX0, 5), (RX1, TX1, 12), (RX2, TX2, 9), (RX3, TX3, 3), (RJ2, TJ2, 3), (RJ4, TJ4, 4), (RJ23, TJ23, 3), (RJ6, TJ6, 4), (RJ9, TJ9, 4), (RJ22, TJ22, 5), (RX8, TX8, 2), (RX9, TX9, 4), (RX10, TX10, 7), (RX11, TX11, 8), (RX5, TX5, 7), (RX6, TX6, 7), (RX7, TX7, 7)]
def ztys (G : zG) : List (ClassId × FieldType) := [(G.2.1 0, .int), (G.2.1 1, .long), (G.2.1 2, .byte), (G.2.1 3, .object "java/lang/Object"), (G.2.1 4, .array .int)]
/-- words of the tables that don't ride in the lists -/
def zkind : Cond → Bool
  | .fieldLinkNest _ _ _ _ _ _ => true
  | .methodLinkNest _ _ _ _ => true
  | .castable _ _ => true
  | .declares _ => true
  | _ => false
def zws : List Cond := lw_tbl.filter zkind
theorem zws_in {w : Cond} (h : w ∈ lw_tbl) (g : zkind w = true) : w ∈ zws := List.mem_filter.mpr ⟨h, g⟩
theorem zkind_tab {w : Cond} (g : zkind w = true) : w.onTables = true := by
  cases w <;> simp only [zkind, Bool.false_eq_true] at g <;> rfl
theorem zkind_warm {w : Cond} (g : zkind w = true) {s U : State} (hW : s.WarmedH U.vm) (h : va_Nw w s) : va_Nw w U := by
  cases w <;> simp only [zkind, Bool.false_eq_true] at g
  · exact va_Nw.warmM hW h
  · exact va_Nw.warmF hW h
  · exact va_Nw.warmD hW h
  · exact va_Nw.warmC hW h
def zFws : List (String × MethodName × MethodName) :=
  [("java/util/ArrayList$Itr", ⟨"java/util/Iterator", "hasNext", "()Z"⟩, ⟨"java/util/ArrayList$Itr", "hasNext", "()Z"⟩), ("java/util/ArrayList$Itr", ⟨"java/util/Iterator", "next", "()Ljava/lang/Object;"⟩, ⟨"java/util/ArrayList$Itr", "next", "()Ljava/lang/Object;"⟩),
   ("java/util/LinkedList$ListItr", ⟨"java/util/Iterator", "hasNext", "()Z"⟩, ⟨"java/util/LinkedList$ListItr", "hasNext", "()Z"⟩), ("java/util/LinkedList$ListItr", ⟨"java/util/Iterator", "next", "()Ljava/lang/Object;"⟩, ⟨"java/util/LinkedList$ListItr", "next", "()Ljava/lang/Object;"⟩)]
def zNcs : List (String × String) := [(RX5, RX6), (RX5, RX7), (RX6, RX5), (RX6, RX7), (RX7, RX5), (RX7, RX6)]
/-- cells that are never written -/
def zSt (G : zG) (H : Heap) : Prop := ∀ q ∈ G.2.2, H[q.1]? = some q.2
def zNS (G : zG) (a : Nat) : Prop := ∀ q ∈ G.2.2, q.1 ≠ a
/-- the static fields, the empty array, the cache of boxes -/
def zZb (G : zG) (U : State) (H : Heap) : Prop :=
  va_Z "java/util/ArrayList" "DEFAULTCAPACITY_EMPTY_ELEMENTDATA" "[Ljava/lang/Object;" (.ref (G.2.1 100)) (zNS G) U H ∧
  va_Z "java/lang/Integer$IntegerCache" "high" "I" (.int (iI 127)) (zNS G) U H ∧
  va_Z "java/lang/Integer$IntegerCache" "cache" "[Ljava/lang/Integer;" (.ref (G.2.1 101)) (zNS G) U H ∧
  va_Z "java/lang/String" "COMPACT_STRINGS" "Z" (.int (iI 1)) (zNS G) U H ∧
  va_Z "java/lang/Throwable" "UNASSIGNED_STACK" "[Ljava/lang/StackTraceElement;" (.ref (G.2.1 102)) (zNS G) U H ∧
  va_Z "java/lang/Throwable" "SUPPRESSED_SENTINEL" "Ljava/util/List;" (.ref (G.2.1 103)) (zNS G) U H ∧
  va_T (.object "java/lang/Object") (G.2.1 100) 0 (fun _ => .null) (zNS G) U H ∧
  va_T (.object "java/lang/Integer") (G.2.1 101) 256 (fun j => .ref (G.2.1 (1000 + j))) (zNS G) U H ∧
  vb_C (fun k => G.2.1 (1000 + k)) (zNS G) U H
theorem zZb.empty {G : zG} {U : State} {H : Heap} (h : zZb G U H) : va_Z "java/util/ArrayList" "DEFAULTCAPACITY_EMPTY_ELEMENTDATA" "[Ljava/lang/Object;" (.ref (G.2.1 100)) (zNS G) U H := h.1
theorem zZb.high {G : zG} {U : State} {H : Heap} (h : zZb G U H) : va_Z "java/lang/Integer$IntegerCache" "high" "I" (.int (iI 127)) (zNS G) U H := h.2.1
theorem zZb.cache {G : zG} {U : State} {H : Heap} (h : zZb G U H) : va_Z "java/lang/Integer$IntegerCache" "cache" "[Ljava/lang/Integer;" (.ref (G.2.1 101)) (zNS G) U H := h.2.2.1
theorem zZb.compact {G : zG} {U : State} {H : Heap} (h : zZb G U H) : va_Z "java/lang/String" "COMPACT_STRINGS" "Z" (.int (iI 1)) (zNS G) U H := h.2.2.2.1
theorem zZb.stack {G : zG} {U : State} {H : Heap} (h : zZb G U H) : va_Z "java/lang/Throwable" "UNASSIGNED_STACK" "[Ljava/lang/StackTraceElement;" (.ref (G.2.1 102)) (zNS G) U H := h.2.2.2.2.1
theorem zZb.suppressed {G : zG} {U : State} {H : Heap} (h : zZb G U H) : va_Z "java/lang/Throwable" "SUPPRESSED_SENTINEL" "Ljava/util/List;" (.ref (G.2.1 103)) (zNS G) U H := h.2.2.2.2.2.1
theorem zZb.emptyA {G : zG} {U : State} {H : Heap} (h : zZb G U H) : va_T (.object "java/lang/Object") (G.2.1 100) 0 (fun _ => .null) (zNS G) U H := h.2.2.2.2.2.2.1
theorem zZb.cacheA {G : zG} {U : State} {H : Heap} (h : zZb G U H) : va_T (.object "java/lang/Integer") (G.2.1 101) 256 (fun j => .ref (G.2.1 (1000 + j))) (zNS G) U H := h.2.2.2.2.2.2.2.1
theorem zZb.boxes {G : zG} {U : State} {H : Heap} (h : zZb G U H) : vb_C (fun k => G.2.1 (1000 + k)) (zNS G) U H := h.2.2.2.2.2.2.2.2
theorem zZb.moved {G : zG} {u U : State} {H : Heap} (hvm : u.vm.Alike U.vm) (h : zZb G u H) : zZb G U H :=
  ⟨va_Z.moved hvm h.empty, va_Z.moved hvm h.high, va_Z.moved hvm h.cache, va_Z.moved hvm h.compact, va_Z.moved hvm h.stack, va_Z.moved hvm h.suppressed, va_T.moved hvm h.emptyA, va_T.moved hvm h.cacheA, vb_C.moved hvm h.boxes⟩
theorem zSt.same {G : zG} {H H1 : Heap} (h : zSt G H) (h1 : zSt G H1) : ∀ a : Nat, a < H.size → ¬ zNS G a → H1[a]? = H[a]? := by
  intro a _ hn
  have : ∃ q ∈ G.2.2, q.1 = a := Classical.byContradiction fun c => hn fun q hq e => c ⟨q, hq, e⟩
  obtain ⟨q, hq, rfl⟩ := this
  rw [h q hq, h1 q hq]
theorem zZb.kept {G : zG} {U : State} {H H1 : Heap} (h : zZb G U H) (hq : ∀ a : Nat, a < H.size → ¬ zNS G a → H1[a]? = H[a]?) : zZb G U H1 :=
  ⟨h.empty.kept hq, h.high.kept hq, h.cache.kept hq, h.compact.kept hq, h.stack.kept hq, h.suppressed.kept hq, h.emptyA.kept hq, h.cacheA.kept hq, h.boxes.kept hq⟩
def zZ (G : zG) (U : State) : Prop := ∃ H : Heap, zSt G H ∧ zZb G U H
def zK (G : zG) (U : State) : Prop := va_K G.1 zcl (ztys G) U ∧ (∀ w ∈ zws, va_Nw w U) ∧ va_AO "java/lang/Object" U ∧ (Cond.arrayOver (.array .int)).before #[] U = true ∧ (∀ q ∈ zFws, va_Fw q.1 q.2.1 q.2.2 U) ∧ (∀ q ∈ zNcs, va_Nc q.1 q.2 U) ∧ zZ G U

theorem zAO2 {u U : State} (hvm : u.vm.Alike U.vm) (h : (Cond.arrayOver (.array .int)).before #[] u = true) : (Cond.arrayOver (.array .int)).before #[] U = true := by
  obtain ⟨comp, c, k, h1, h2, h3, h4, h5⟩ := arrayOverA_spec (t := .int) h
  obtain ⟨k', hk', he⟩ := hvm.2.2 _ _ h3
  have hi : (U.vm.classes.findIdx? fun (x : Class) => match x.kind with | .array component _ => component == comp | _ => false) = some c := by
    have e1 := va_idx_bare U.vm comp
    have e2 := va_idx_bare u.vm comp
    have e3 : U.vm.bare = u.vm.bare := by first | exact hvm.bare_eq | exact hvm.bare_eq.symm
    rw [e3] at e1
    exact (e1.symm.trans e2).trans h2
  have hkind : k'.kind = .array comp (.array .int) := by rw [he]; exact h4
  have f1 : U.vm.findClass (FieldType.array .int).toString = some comp := by rw [hvm.findClass]; exact h1
  have f2 : U.vm.findClass ("[" ++ (FieldType.array .int).toString) = some c := by rw [hvm.findClass]; exact h5
  unfold Cond.before Cond.holds
  simp only [Cond.value]
  rw [f1, Option.bind_some]
  refine (congrArg (fun o : Option Nat => (o.bind (fun c => (U.vm.classes[c]?).map fun (k : Class) => match k.kind with | .array _ ty => decide (ty = FieldType.array .int) && decide (U.vm.findClass ("[" ++ (FieldType.array .int).toString) = some c) | _ => false) == some true)) hi).trans ?_
  simp [hk', hkind, f2]
theorem zK.warm {G : zG} {s U : State} (hW : s.WarmedH U.vm) (h : zK G s) : zK G U := by
  obtain ⟨h1, h2, h3, h4, h5, h6, H7, h7, h8⟩ := h
  refine ⟨h1.moved hW.alike, fun w hw => zkind_warm (List.mem_filter.mp hw).2 hW (h2 w hw), h3.moved hW.alike, zAO2 hW.alike h4, fun q hq => (h5 q hq).moved ?_ hW.alike, fun q hq => (h6 q hq).moved hW.alike, H7, h7, h8.moved hW.alike⟩
  simp only [zFws, List.mem_cons, List.not_mem_nil, or_false] at hq
  rcases hq with rfl | rfl | rfl | rfl <;> exact ⟨by decide, by decide⟩
theorem zK.same {G : zG} {s U : State} (hv : s.vm = U.vm) (h : zK G s) : zK G U := h.warm (by rw [← hv]; exact State.WarmedH.refl s)
def zC (X : zX) (G : zG) (cc : ByteArray) (nL : Nat) (own : String) : Prop := CallFix (zp X) (zm X) (zc X) cc nL (zs X) (za X) lw_all own ∧ zK G (zs X) ∧ zSt G (zs X).heap
/-- what may be written: of the old cells those with A, no cell that is never written -/
def zA (X : zX) (G : zG) (A : Nat → Prop) : Prop := (∀ q : Nat, (zs X).heap.size ≤ q → A q) ∧ ∀ q : Nat, A q → zNS G q
section ZR
variable {X : zX} {G : zG} {cc : ByteArray} {nL : Nat} {own : String} {A : Nat → Prop} {P : Heap → Prop} {k n pc : Nat} {L : List (Option Value)} {rest : List Value}
theorem zx_widen {k' n' : Nat} (h1 : k ≤ k') (h2 : n ≤ n') (kk : zV X nL A P k' n' pc L rest) : zV X nL A P k n pc L rest := fun H locs ls hP hS hl => W.widen h1 h2 (kk H locs ls hP hS hl)
theorem zx_pre {P' : Heap → Prop} (h : ∀ H, P H → P' H) (kk : zV X nL A P' k n pc L rest) : zV X nL A P k n pc L rest := fun H locs ls hP hS hl => kk H locs ls (h H hP) hS hl
theorem zx_ex {α : Type} {P' : α → Heap → Prop} (kk : ∀ x, zV X nL A (P' x) k n pc L rest) : zV X nL A (fun H => ∃ x, P' x H) k n pc L rest := fun H locs ls hP hS hl => by
  obtain ⟨x, hx⟩ := hP
  exact kk x H locs ls hx hS hl
theorem zx_fact {F : Prop} (h : ∀ H, P H → F) (kk : F → zV X nL A P k n pc L rest) : zV X nL A P k n pc L rest := fun H locs ls hP hS hl => kk (h H hP) H locs ls hP hS hl
theorem zx_le {L' : List (Option Value)} (hl : zle L' L) (kk : zV X nL A P k n pc L' rest) : zV X nL A P k n pc L rest := fun H locs ls hP hS h => kk H locs ls hP hS (h.le hl)
theorem zx_eq {L' : List (Option Value)} {rest' : List Value} (h1 : L = L') (h2 : rest = rest') (kk : zV X nL A P k n pc L' rest') : zV X nL A P k n pc L rest := by subst h1; subst h2; exact kk
theorem zx_topi {a b : Int} (h : a = b) (kk : zV X nL A P k n pc L (.int (iI b) :: rest)) : zV X nL A P k n pc L (.int (iI a) :: rest) := by rw [h]; exact kk
theorem zx_topl {a b : Int} (h : a = b) (kk : zV X nL A P k n pc L (.long (lI b) :: rest)) : zV X nL A P k n pc L (.long (lI a) :: rest) := by rw [h]; exact kk

theorem zx_iconst (hC : zC X G cc nL own) {z : Int} (hd : decode cc pc = .ok (.iconst z, 1)) 
    (kk : zV X nL A P k n (pc + 1) L (.int (iI z) :: rest)) : zV X nL A P k n pc L rest := by
  intro H locs ls hP hS hl
  refine lv_iconst (v := iI z) hC.1.1 hC.1.2.1 hd rfl ?_
  exact kk H locs ls hP hS hl
theorem zx_bipush (hC : zC X G cc nL own) {z : Int}  (hd : decode cc pc = .ok (.bipush z, 2)) (hz : (Int8.ofInt z).toInt32 = iI z)
    (kk : zV X nL A P k n (pc + 2) L (.int (iI z) :: rest)) : zV X nL A P k n pc L rest := by
  intro H locs ls hP hS hl
  refine lv_bipush (v := iI z) hC.1.1 hC.1.2.1 hd hz ?_
  exact kk H locs ls hP hS hl
theorem zx_sipush (hC : zC X G cc nL own) {z : Int}  (hd : decode cc pc = .ok (.sipush z, 3)) (hz : (Int16.ofInt z).toInt32 = iI z)
    (kk : zV X nL A P k n (pc + 3) L (.int (iI z) :: rest)) : zV X nL A P k n pc L rest := by
  intro H locs ls hP hS hl
  refine lv_sipush (v := iI z) hC.1.1 hC.1.2.1 hd hz ?_
  exact kk H locs ls hP hS hl
theorem zx_lconst0 (hC : zC X G cc nL own)  (hd : decode cc pc = .ok (.lconst 0, 1)) 
    (kk : zV X nL A P k n (pc + 1) L (.long (lI 0) :: rest)) : zV X nL A P k n pc L rest := by
  intro H locs ls hP hS hl
  refine lv_lconst (v := lI 0) hC.1.1 hC.1.2.1 hd rfl ?_
  exact kk H locs ls hP hS hl
theorem zx_lconst1 (hC : zC X G cc nL own)  (hd : decode cc pc = .ok (.lconst 1, 1)) 
    (kk : zV X nL A P k n (pc + 1) L (.long (lI 1) :: rest)) : zV X nL A P k n pc L rest := by
  intro H locs ls hP hS hl
  refine lv_lconst (v := lI 1) hC.1.1 hC.1.2.1 hd rfl ?_
  exact kk H locs ls hP hS hl
theorem zx_dconst0 (hC : zC X G cc nL own)  (hd : decode cc pc = .ok (.dconst 0, 1)) 
    (kk : zV X nL A P k n (pc + 1) L (.double (0) :: rest)) : zV X nL A P k n pc L rest := by
  intro H locs ls hP hS hl
  refine lv_dconst0 hC.1.1 hC.1.2.1 hd ?_
  exact kk H locs ls hP hS hl
theorem zx_dconst1 (hC : zC X G cc nL own)  (hd : decode cc pc = .ok (.dconst 1, 1)) 
    (kk : zV X nL A P k n (pc + 1) L (.double FP.dconst1 :: rest)) : zV X nL A P k n pc L rest := by
  intro H locs ls hP hS hl
  refine lv_dconst1 hC.1.1 hC.1.2.1 hd ?_
  exact kk H locs ls hP hS hl
theorem zx_null (hC : zC X G cc nL own)  (hd : decode cc pc = .ok (.aconst_null, 1)) 
    (kk : zV X nL A P k n (pc + 1) L (.null :: rest)) : zV X nL A P k n pc L rest := by
  intro H locs ls hP hS hl
  refine lv_null hC.1.1 hC.1.2.1 hd ?_
  exact kk H locs ls hP hS hl
theorem zx_iload_n (hC : zC X G cc nL own) {q : Fin 4} {x : Int32}  (hd : decode cc pc = .ok (.iload_n q, 1)) (hL : L[(q : Nat)]? = some (some (.int x)))
    (kk : zV X nL A P k n (pc + 1) L (.int x :: rest)) : zV X nL A P k n pc L rest := by
  intro H locs ls hP hS hl
  refine lv_iload_n hC.1.1 hC.1.2.1 hd rfl (hl.get hL) ?_
  exact kk H locs ls hP hS hl
theorem zx_iload (hC : zC X G cc nL own) {i : Nat} {x : Int32}  (hd : decode cc pc = .ok (.iload i, 2)) (hL : L[i]? = some (some (.int x)))
    (kk : zV X nL A P k n (pc + 2) L (.int x :: rest)) : zV X nL A P k n pc L rest := by
  intro H locs ls hP hS hl
  refine lv_iload hC.1.1 hC.1.2.1 hd (hl.get hL) ?_
  exact kk H locs ls hP hS hl
theorem zx_lload_n (hC : zC X G cc nL own) {q : Fin 4} {x : Int64}  (hd : decode cc pc = .ok (.lload_n q, 1)) (hL : L[(q : Nat)]? = some (some (.long x)))
    (kk : zV X nL A P k n (pc + 1) L (.long x :: rest)) : zV X nL A P k n pc L rest := by
  intro H locs ls hP hS hl
  refine lv_lload_n hC.1.1 hC.1.2.1 hd rfl (hl.get hL) ?_
  exact kk H locs ls hP hS hl
theorem zx_lload (hC : zC X G cc nL own) {i : Nat} {x : Int64}  (hd : decode cc pc = .ok (.lload i, 2)) (hL : L[i]? = some (some (.long x)))
    (kk : zV X nL A P k n (pc + 2) L (.long x :: rest)) : zV X nL A P k n pc L rest := by
  intro H locs ls hP hS hl
  refine lv_lload hC.1.1 hC.1.2.1 hd (hl.get hL) ?_
  exact kk H locs ls hP hS hl
theorem zx_aload_n (hC : zC X G cc nL own) {q : Fin 4} {x : Nat}  (hd : decode cc pc = .ok (.aload_n q, 1)) (hL : L[(q : Nat)]? = some (some (.ref x)))
    (kk : zV X nL A P k n (pc + 1) L (.ref x :: rest)) : zV X nL A P k n pc L rest := by
  intro H locs ls hP hS hl
  refine lv_aload_n hC.1.1 hC.1.2.1 hd rfl (hl.get hL) ?_
  exact kk H locs ls hP hS hl
theorem zx_aload (hC : zC X G cc nL own) {i : Nat} {x : Nat}  (hd : decode cc pc = .ok (.aload i, 2)) (hL : L[i]? = some (some (.ref x)))
    (kk : zV X nL A P k n (pc + 2) L (.ref x :: rest)) : zV X nL A P k n pc L rest := by
  intro H locs ls hP hS hl
  refine lv_aload hC.1.1 hC.1.2.1 hd (hl.get hL) ?_
  exact kk H locs ls hP hS hl
theorem zx_dload_n (hC : zC X G cc nL own) {q : Fin 4} {x : UInt64}  (hd : decode cc pc = .ok (.dload_n q, 1)) (hL : L[(q : Nat)]? = some (some (.double x)))
    (kk : zV X nL A P k n (pc + 1) L (.double x :: rest)) : zV X nL A P k n pc L rest := by
  intro H locs ls hP hS hl
  refine lv_dload_n hC.1.1 hC.1.2.1 hd rfl (hl.get hL) ?_
  exact kk H locs ls hP hS hl
theorem zx_dload (hC : zC X G cc nL own) {i : Nat} {x : UInt64}  (hd : decode cc pc = .ok (.dload i, 2)) (hL : L[i]? = some (some (.double x)))
    (kk : zV X nL A P k n (pc + 2) L (.double x :: rest)) : zV X nL A P k n pc L rest := by
  intro H locs ls hP hS hl
  refine lv_dload hC.1.1 hC.1.2.1 hd (hl.get hL) ?_
  exact kk H locs ls hP hS hl
theorem zx_aload_nN (hC : zC X G cc nL own) {q : Fin 4}  (hd : decode cc pc = .ok (.aload_n q, 1)) (hL : L[(q : Nat)]? = some (some (.null)))
    (kk : zV X nL A P k n (pc + 1) L (.null :: rest)) : zV X nL A P k n pc L rest := by
  intro H locs ls hP hS hl
  refine lv_aload_nN hC.1.1 hC.1.2.1 hd rfl (hl.get hL) ?_
  exact kk H locs ls hP hS hl
theorem zx_aloadN (hC : zC X G cc nL own) {i : Nat}  (hd : decode cc pc = .ok (.aload i, 2)) (hL : L[i]? = some (some (.null)))
    (kk : zV X nL A P k n (pc + 2) L (.null :: rest)) : zV X nL A P k n pc L rest := by
  intro H locs ls hP hS hl
  refine lv_aloadN hC.1.1 hC.1.2.1 hd (hl.get hL) ?_
  exact kk H locs ls hP hS hl
theorem zx_istore_n (hC : zC X G cc nL own) {q : Fin 4} {x : Int32} {L' : List (Option Value)} (hd : decode cc pc = .ok (.istore_n q, 1))  (hn : (q : Nat) < nL) (hL : zst L (q : Nat) (.int x) = L')
    (kk : zV X nL A P k n (pc + 1) L' rest) : zV X nL A P k n pc L (.int x :: rest) := by
  intro H locs ls hP hS hl
  exact lv_istore_n hC.1.1 hC.1.2.1 hd rfl hl hn rfl (fun ls h => kk H locs ls hP hS (zhas.of1 h hL))
theorem zx_istore (hC : zC X G cc nL own) {i : Nat} {x : Int32} {L' : List (Option Value)} (hd : decode cc pc = .ok (.istore i, 2))  (hn : i < nL) (hL : zst L i (.int x) = L')
    (kk : zV X nL A P k n (pc + 2) L' rest) : zV X nL A P k n pc L (.int x :: rest) := by
  intro H locs ls hP hS hl
  exact lv_istore hC.1.1 hC.1.2.1 hd hl hn rfl (fun ls h => kk H locs ls hP hS (zhas.of1 h hL))
theorem zx_lstore_n (hC : zC X G cc nL own) {q : Fin 4} {x : Int64} {L' : List (Option Value)} (hd : decode cc pc = .ok (.lstore_n q, 1))  (hn : (q : Nat) + 1 < nL) (hL : zst L (q : Nat) (.long x) = L')
    (kk : zV X nL A P k n (pc + 1) L' rest) : zV X nL A P k n pc L (.long x :: rest) := by
  intro H locs ls hP hS hl
  exact lv_lstore_n hC.1.1 hC.1.2.1 hd rfl hl hn rfl (fun ls h => kk H locs ls hP hS (zhas.of2 rfl h hL))
theorem zx_lstore (hC : zC X G cc nL own) {i : Nat} {x : Int64} {L' : List (Option Value)} (hd : decode cc pc = .ok (.lstore i, 2))  (hn : i + 1 < nL) (hL : zst L i (.long x) = L')
    (kk : zV X nL A P k n (pc + 2) L' rest) : zV X nL A P k n pc L (.long x :: rest) := by
  intro H locs ls hP hS hl
  exact lv_lstore hC.1.1 hC.1.2.1 hd hl hn rfl (fun ls h => kk H locs ls hP hS (zhas.of2 rfl h hL))
theorem zx_astore_n (hC : zC X G cc nL own) {q : Fin 4} {x : Nat} {L' : List (Option Value)} (hd : decode cc pc = .ok (.astore_n q, 1))  (hn : (q : Nat) < nL) (hL : zst L (q : Nat) (.ref x) = L')
    (kk : zV X nL A P k n (pc + 1) L' rest) : zV X nL A P k n pc L (.ref x :: rest) := by
  intro H locs ls hP hS hl
  exact lv_astore_n hC.1.1 hC.1.2.1 hd rfl hl hn rfl (fun ls h => kk H locs ls hP hS (zhas.of1 h hL))
theorem zx_astore (hC : zC X G cc nL own) {i : Nat} {x : Nat} {L' : List (Option Value)} (hd : decode cc pc = .ok (.astore i, 2))  (hn : i < nL) (hL : zst L i (.ref x) = L')
    (kk : zV X nL A P k n (pc + 2) L' rest) : zV X nL A P k n pc L (.ref x :: rest) := by
  intro H locs ls hP hS hl
  exact lv_astore hC.1.1 hC.1.2.1 hd hl hn rfl (fun ls h => kk H locs ls hP hS (zhas.of1 h hL))
theorem zx_dstore_n (hC : zC X G cc nL own) {q : Fin 4} {x : UInt64} {L' : List (Option Value)} (hd : decode cc pc = .ok (.dstore_n q, 1))  (hn : (q : Nat) + 1 < nL) (hL : zst L (q : Nat) (.double x) = L')
    (kk : zV X nL A P k n (pc + 1) L' rest) : zV X nL A P k n pc L (.double x :: rest) := by
  intro H locs ls hP hS hl
  exact lv_dstore_n hC.1.1 hC.1.2.1 hd rfl hl hn rfl (fun ls h => kk H locs ls hP hS (zhas.of2 rfl h hL))
theorem zx_dstore (hC : zC X G cc nL own) {i : Nat} {x : UInt64} {L' : List (Option Value)} (hd : decode cc pc = .ok (.dstore i, 2))  (hn : i + 1 < nL) (hL : zst L i (.double x) = L')
    (kk : zV X nL A P k n (pc + 2) L' rest) : zV X nL A P k n pc L (.double x :: rest) := by
  intro H locs ls hP hS hl
  exact lv_dstore hC.1.1 hC.1.2.1 hd hl hn rfl (fun ls h => kk H locs ls hP hS (zhas.of2 rfl h hL))
theorem zx_astore_nN (hC : zC X G cc nL own) {q : Fin 4} {L' : List (Option Value)} (hd : decode cc pc = .ok (.astore_n q, 1))  (hn : (q : Nat) < nL) (hL : zst L (q : Nat) .null = L')
    (kk : zV X nL A P k n (pc + 1) L' rest) : zV X nL A P k n pc L (.null :: rest) := by
  intro H locs ls hP hS hl
  exact lv_astore_nN hC.1.1 hC.1.2.1 hd rfl hl hn rfl (fun ls h => kk H locs ls hP hS (zhas.of1 h hL))
theorem zx_astoreN (hC : zC X G cc nL own) {i : Nat} {L' : List (Option Value)} (hd : decode cc pc = .ok (.astore i, 2))  (hn : i < nL) (hL : zst L i .null = L')
    (kk : zV X nL A P k n (pc + 2) L' rest) : zV X nL A P k n pc L (.null :: rest) := by
  intro H locs ls hP hS hl
  exact lv_astoreN hC.1.1 hC.1.2.1 hd hl hn rfl (fun ls h => kk H locs ls hP hS (zhas.of1 h hL))
theorem zprs_at {L : List (Option Value)} {i : Nat} {v : Value} (h : L[i]? = some (some v)) : ∃ q : Nat, (zprs 0 L)[q]? = some (i, v) := List.getElem?_of_mem ((zprs_mem L 0 i v).mpr ⟨Nat.zero_le _, h⟩)

theorem zx_iinc (hC : zC X G cc nL own) {i : Nat} {z a b : Int} {L' : List (Option Value)} (hd : decode cc pc = .ok (.iinc i z, 3))  (h0 : L[i]? = some (some (.int (iI a)))) (hb : a + z = b) (hn : i < nL) (hL : zst L i (.int (iI b)) = L')
    (kk : zV X nL A P k n (pc + 3) L' rest) : zV X nL A P k n pc L rest := by
  intro H locs ls hP hS hl
  obtain ⟨q, hq⟩ := zprs_at h0
  exact lv_iinc (v := iI b) hC.1.1 hC.1.2.1 hd hl hq (by rw [← hb]; exact iI_add a z) hn rfl (fun ls h => kk H locs ls hP hS (zhas.of1 h hL))
theorem zx_iadd (hC : zC X G cc nL own) {a b : Int} (hd : decode cc pc = .ok (.iadd, 1)) 
    (kk : zV X nL A P k n (pc + 1) L (.int (iI (a + b)) :: rest)) : zV X nL A P k n pc L (.int (iI b) :: .int (iI a) :: rest) := by
  intro H locs ls hP hS hl
  refine lv_iadd hC.1.1 hC.1.2.1 hd ?_
  rw [iI_add]
  exact kk H locs ls hP hS hl
theorem zx_ladd (hC : zC X G cc nL own) {a b : Int} (hd : decode cc pc = .ok (.ladd, 1)) 
    (kk : zV X nL A P k n (pc + 1) L (.long (lI (a + b)) :: rest)) : zV X nL A P k n pc L (.long (lI b) :: .long (lI a) :: rest) := by
  intro H locs ls hP hS hl
  refine lv_ladd hC.1.1 hC.1.2.1 hd ?_
  rw [lI_add]
  exact kk H locs ls hP hS hl
theorem zx_isub (hC : zC X G cc nL own) {a b : Int} (hd : decode cc pc = .ok (.isub, 1)) 
    (kk : zV X nL A P k n (pc + 1) L (.int (iI (a - b)) :: rest)) : zV X nL A P k n pc L (.int (iI b) :: .int (iI a) :: rest) := by
  intro H locs ls hP hS hl
  refine lv_isub hC.1.1 hC.1.2.1 hd ?_
  rw [iI_sub]
  exact kk H locs ls hP hS hl
theorem zx_lsub (hC : zC X G cc nL own) {a b : Int} (hd : decode cc pc = .ok (.lsub, 1)) 
    (kk : zV X nL A P k n (pc + 1) L (.long (lI (a - b)) :: rest)) : zV X nL A P k n pc L (.long (lI b) :: .long (lI a) :: rest) := by
  intro H locs ls hP hS hl
  refine lv_lsub hC.1.1 hC.1.2.1 hd ?_
  rw [lI_sub]
  exact kk H locs ls hP hS hl
theorem zx_imul (hC : zC X G cc nL own) {a b : Int} (hd : decode cc pc = .ok (.imul, 1)) 
    (kk : zV X nL A P k n (pc + 1) L (.int (iI (a * b)) :: rest)) : zV X nL A P k n pc L (.int (iI b) :: .int (iI a) :: rest) := by
  intro H locs ls hP hS hl
  refine lv_imul hC.1.1 hC.1.2.1 hd ?_
  rw [iI_mul]
  exact kk H locs ls hP hS hl
theorem zx_lmul (hC : zC X G cc nL own) {a b : Int} (hd : decode cc pc = .ok (.lmul, 1)) 
    (kk : zV X nL A P k n (pc + 1) L (.long (lI (a * b)) :: rest)) : zV X nL A P k n pc L (.long (lI b) :: .long (lI a) :: rest) := by
  intro H locs ls hP hS hl
  refine lv_lmul hC.1.1 hC.1.2.1 hd ?_
  rw [lI_mul]
  exact kk H locs ls hP hS hl
theorem zx_idiv (hC : zC X G cc nL own) {a b : Int}  (hd : decode cc pc = .ok (.idiv, 1)) (ha : iR a) (hb : iR b) (h0 : 0 ≤ a) (h1 : 0 < b)
    (kk : zV X nL A P k n (pc + 1) L (.int (iI (a / b)) :: rest)) : zV X nL A P k n pc L (.int (iI b) :: .int (iI a) :: rest) := by
  intro H locs ls hP hS hl
  refine lv_idiv hC.1.1 hC.1.2.1 hd (by intro q; rw [← iI_zero, iI_eq hb iR0] at q; omega) ?_
  rw [iI_div ha hb h0]
  exact kk H locs ls hP hS hl
theorem zx_irem (hC : zC X G cc nL own) {a b : Int}  (hd : decode cc pc = .ok (.irem, 1)) (ha : iR a) (hb : iR b) (h0 : 0 ≤ a) (h1 : 0 < b)
    (kk : zV X nL A P k n (pc + 1) L (.int (iI (a % b)) :: rest)) : zV X nL A P k n pc L (.int (iI b) :: .int (iI a) :: rest) := by
  intro H locs ls hP hS hl
  refine lv_irem hC.1.1 hC.1.2.1 hd (by intro q; rw [← iI_zero, iI_eq hb iR0] at q; omega) ?_
  rw [iI_rem ha hb h0]
  exact kk H locs ls hP hS hl
theorem zx_ldiv (hC : zC X G cc nL own) {a b : Int}  (hd : decode cc pc = .ok (.ldiv, 1)) (ha : lR a) (hb : lR b) (h0 : 0 ≤ a) (h1 : 0 < b)
    (kk : zV X nL A P k n (pc + 1) L (.long (lI (a / b)) :: rest)) : zV X nL A P k n pc L (.long (lI b) :: .long (lI a) :: rest) := by
  intro H locs ls hP hS hl
  refine lv_ldiv hC.1.1 hC.1.2.1 hd (by intro q; rw [← lI_zero, lI_eq hb lR0] at q; omega) ?_
  rw [lI_div ha hb h0]
  exact kk H locs ls hP hS hl
theorem zx_lrem (hC : zC X G cc nL own) {a b : Int}  (hd : decode cc pc = .ok (.lrem, 1)) (ha : lR a) (hb : lR b) (h0 : 0 ≤ a) (h1 : 0 < b)
    (kk : zV X nL A P k n (pc + 1) L (.long (lI (a % b)) :: rest)) : zV X nL A P k n pc L (.long (lI b) :: .long (lI a) :: rest) := by
  intro H locs ls hP hS hl
  refine lv_lrem hC.1.1 hC.1.2.1 hd (by intro q; rw [← lI_zero, lI_eq hb lR0] at q; omega) ?_
  rw [lI_rem ha hb h0]
  exact kk H locs ls hP hS hl
theorem zx_i2l (hC : zC X G cc nL own) {a : Int}  (hd : decode cc pc = .ok (.i2l, 1)) (ha : iR a)
    (kk : zV X nL A P k n (pc + 1) L (.long (lI a) :: rest)) : zV X nL A P k n pc L (.int (iI a) :: rest) := by
  intro H locs ls hP hS hl
  refine lv_i2l hC.1.1 hC.1.2.1 hd (iI_l ha) ?_
  exact kk H locs ls hP hS hl
theorem zx_l2i (hC : zC X G cc nL own) {a : Int} (hd : decode cc pc = .ok (.l2i, 1)) 
    (kk : zV X nL A P k n (pc + 1) L (.int (iI a) :: rest)) : zV X nL A P k n pc L (.long (lI a) :: rest) := by
  intro H locs ls hP hS hl
  refine lv_l2i hC.1.1 hC.1.2.1 hd (lI_i a) ?_
  exact kk H locs ls hP hS hl
theorem zx_iand (hC : zC X G cc nL own) {x y : Int32} (hd : decode cc pc = .ok (.iand, 1)) 
    (kk : zV X nL A P k n (pc + 1) L (.int (x &&& y) :: rest)) : zV X nL A P k n pc L (.int y :: .int x :: rest) := by
  intro H locs ls hP hS hl
  refine lv_iand hC.1.1 hC.1.2.1 hd ?_
  exact kk H locs ls hP hS hl
theorem zx_ior (hC : zC X G cc nL own) {x y : Int32} (hd : decode cc pc = .ok (.ior, 1)) 
    (kk : zV X nL A P k n (pc + 1) L (.int (x ||| y) :: rest)) : zV X nL A P k n pc L (.int y :: .int x :: rest) := by
  intro H locs ls hP hS hl
  refine lv_ior hC.1.1 hC.1.2.1 hd ?_
  exact kk H locs ls hP hS hl
theorem zx_ixor (hC : zC X G cc nL own) {x y : Int32} (hd : decode cc pc = .ok (.ixor, 1)) 
    (kk : zV X nL A P k n (pc + 1) L (.int (x ^^^ y) :: rest)) : zV X nL A P k n pc L (.int y :: .int x :: rest) := by
  intro H locs ls hP hS hl
  refine lv_ixor hC.1.1 hC.1.2.1 hd ?_
  exact kk H locs ls hP hS hl
theorem zx_land (hC : zC X G cc nL own) {x y : Int64} (hd : decode cc pc = .ok (.land, 1)) 
    (kk : zV X nL A P k n (pc + 1) L (.long (x &&& y) :: rest)) : zV X nL A P k n pc L (.long y :: .long x :: rest) := by
  intro H locs ls hP hS hl
  refine lv_land hC.1.1 hC.1.2.1 hd ?_
  exact kk H locs ls hP hS hl
theorem zx_lor (hC : zC X G cc nL own) {x y : Int64} (hd : decode cc pc = .ok (.lor, 1)) 
    (kk : zV X nL A P k n (pc + 1) L (.long (x ||| y) :: rest)) : zV X nL A P k n pc L (.long y :: .long x :: rest) := by
  intro H locs ls hP hS hl
  refine lv_lor hC.1.1 hC.1.2.1 hd ?_
  exact kk H locs ls hP hS hl
theorem zx_lxor (hC : zC X G cc nL own) {x y : Int64} (hd : decode cc pc = .ok (.lxor, 1)) 
    (kk : zV X nL A P k n (pc + 1) L (.long (x ^^^ y) :: rest)) : zV X nL A P k n pc L (.long y :: .long x :: rest) := by
  intro H locs ls hP hS hl
  refine lv_lxor hC.1.1 hC.1.2.1 hd ?_
  exact kk H locs ls hP hS hl
theorem zx_lshl (hC : zC X G cc nL own) {x v : Int64} {y : Int32}  (hd : decode cc pc = .ok (.lshl, 1)) (hv : x <<< (y.toInt64 &&& 63) = v)
    (kk : zV X nL A P k n (pc + 1) L (.long v :: rest)) : zV X nL A P k n pc L (.int y :: .long x :: rest) := by
  intro H locs ls hP hS hl
  refine lv_lshl hC.1.1 hC.1.2.1 hd hv ?_
  exact kk H locs ls hP hS hl
theorem zx_lshr (hC : zC X G cc nL own) {x v : Int64} {y : Int32}  (hd : decode cc pc = .ok (.lshr, 1)) (hv : x >>> (y.toInt64 &&& 63) = v)
    (kk : zV X nL A P k n (pc + 1) L (.long v :: rest)) : zV X nL A P k n pc L (.int y :: .long x :: rest) := by
  intro H locs ls hP hS hl
  refine lv_lshr hC.1.1 hC.1.2.1 hd hv ?_
  exact kk H locs ls hP hS hl
theorem zx_i2lr (hC : zC X G cc nL own) {x : Int32} {v : Int64}  (hd : decode cc pc = .ok (.i2l, 1)) (hv : x.toInt64 = v)
    (kk : zV X nL A P k n (pc + 1) L (.long v :: rest)) : zV X nL A P k n pc L (.int x :: rest) := by
  intro H locs ls hP hS hl
  refine lv_i2l hC.1.1 hC.1.2.1 hd hv ?_
  exact kk H locs ls hP hS hl
theorem zx_l2ir (hC : zC X G cc nL own) {x : Int64} {v : Int32}  (hd : decode cc pc = .ok (.l2i, 1)) (hv : x.toInt32 = v)
    (kk : zV X nL A P k n (pc + 1) L (.int v :: rest)) : zV X nL A P k n pc L (.long x :: rest) := by
  intro H locs ls hP hS hl
  refine lv_l2i hC.1.1 hC.1.2.1 hd hv ?_
  exact kk H locs ls hP hS hl
theorem zx_i2c (hC : zC X G cc nL own) {x v : Int32}  (hd : decode cc pc = .ok (.i2c, 1)) (hv : (x.toUInt32 % 65536).toInt32 = v)
    (kk : zV X nL A P k n (pc + 1) L (.int v :: rest)) : zV X nL A P k n pc L (.int x :: rest) := by
  intro H locs ls hP hS hl
  refine lv_i2c hC.1.1 hC.1.2.1 hd hv ?_
  exact kk H locs ls hP hS hl
theorem zx_dup (hC : zC X G cc nL own) {v : Value}  (hd : decode cc pc = .ok (.dup, 1)) (hv : v.category = 1)
    (kk : zV X nL A P k n (pc + 1) L (v :: v :: rest)) : zV X nL A P k n pc L (v :: rest) := by
  intro H locs ls hP hS hl
  refine lv_dup hC.1.1 hC.1.2.1 hd hv ?_
  exact kk H locs ls hP hS hl
theorem zx_pop (hC : zC X G cc nL own) {v : Value}  (hd : decode cc pc = .ok (.pop, 1)) (hv : v.category = 1)
    (kk : zV X nL A P k n (pc + 1) L rest) : zV X nL A P k n pc L (v :: rest) := by
  intro H locs ls hP hS hl
  refine lv_pop hC.1.1 hC.1.2.1 hd hv ?_
  exact kk H locs ls hP hS hl
theorem zx_dup_x1 (hC : zC X G cc nL own) {v u : Value}  (hd : decode cc pc = .ok (.dup_x1, 1)) (hv : v.category = 1) (hu : u.category = 1)
    (kk : zV X nL A P k n (pc + 1) L (v :: u :: v :: rest)) : zV X nL A P k n pc L (v :: u :: rest) := by
  intro H locs ls hP hS hl
  refine lv_dup_x1 hC.1.1 hC.1.2.1 hd hv hu ?_
  exact kk H locs ls hP hS hl
theorem zx_dup2 (hC : zC X G cc nL own) {v u : Value}  (hd : decode cc pc = .ok (.dup2, 1)) (hv : v.category = 1) (hu : u.category = 1)
    (kk : zV X nL A P k n (pc + 1) L (v :: u :: v :: u :: rest)) : zV X nL A P k n pc L (v :: u :: rest) := by
  intro H locs ls hP hS hl
  refine lv_dup2_11 hC.1.1 hC.1.2.1 hd hv hu ?_
  exact kk H locs ls hP hS hl
theorem zx_dup2L (hC : zC X G cc nL own) {v : Value}  (hd : decode cc pc = .ok (.dup2, 1)) (hv : v.category = 2)
    (kk : zV X nL A P k n (pc + 1) L (v :: v :: rest)) : zV X nL A P k n pc L (v :: rest) := by
  intro H locs ls hP hS hl
  refine lv_dup2_2 hC.1.1 hC.1.2.1 hd hv ?_
  exact kk H locs ls hP hS hl
theorem zx_icmp_eq (hC : zC X G cc nL own) {a b : Int} {off : Int} {tgt : Nat} (hd : decode cc pc = .ok (.if_icmp .eq off, 3)) (ht : (pc : Int) + off = (tgt : Int)) (ha : iR a) (hb : iR b)
    (kt : a = b → zV X nL A P k n tgt L rest) (kf : ¬ (a = b) → zV X nL A P k n (pc + 3) L rest) : zV X nL A P k n pc L (.int (iI b) :: .int (iI a) :: rest) := by
  intro H locs ls hP hS hl
  exact lv_icmp_eq hC.1.1 hC.1.2.1 hd ht (fun h => kt ((iI_eq ha hb).mp h) H locs ls hP hS hl) (fun h => kf (fun q => h ((iI_eq ha hb).mpr q)) H locs ls hP hS hl)
theorem zx_if_eq (hC : zC X G cc nL own) {a : Int} {off : Int} {tgt : Nat} (hd : decode cc pc = .ok (.ifCond .eq off, 3)) (ht : (pc : Int) + off = (tgt : Int)) (ha : iR a)
    (kt : a = 0 → zV X nL A P k n tgt L rest) (kf : ¬ (a = 0) → zV X nL A P k n (pc + 3) L rest) : zV X nL A P k n pc L (.int (iI a) :: rest) := by
  intro H locs ls hP hS hl
  have hb := iR0
  exact lv_if_eq hC.1.1 hC.1.2.1 hd ht (fun h => kt ((iI_eq ha hb).mp h) H locs ls hP hS hl) (fun h => kf (fun q => h ((iI_eq ha hb).mpr q)) H locs ls hP hS hl)
theorem zx_icmp_eqT (hC : zC X G cc nL own) {a b : Int} {off : Int} {tgt : Nat} (hd : decode cc pc = .ok (.if_icmp .eq off, 3)) (ht : (pc : Int) + off = (tgt : Int)) (ha : iR a) (hb : iR b) (hc : a = b)
    (kt : zV X nL A P k n tgt L rest) : zV X nL A P k n pc L (.int (iI b) :: .int (iI a) :: rest) := zx_icmp_eq hC hd ht ha hb (fun _ => kt) (fun h => absurd hc h)
theorem zx_icmp_eqF (hC : zC X G cc nL own) {a b : Int} {off : Int} {tgt : Nat} (hd : decode cc pc = .ok (.if_icmp .eq off, 3)) (ht : (pc : Int) + off = (tgt : Int)) (ha : iR a) (hb : iR b) (hc : ¬ (a = b))
    (kf : zV X nL A P k n (pc + 3) L rest) : zV X nL A P k n pc L (.int (iI b) :: .int (iI a) :: rest) := zx_icmp_eq hC hd ht ha hb (fun h => absurd h hc) (fun _ => kf)
theorem zx_if_eqT (hC : zC X G cc nL own) {a : Int} {off : Int} {tgt : Nat} (hd : decode cc pc = .ok (.ifCond .eq off, 3)) (ht : (pc : Int) + off = (tgt : Int)) (ha : iR a) (hc : a = 0)
    (kt : zV X nL A P k n tgt L rest) : zV X nL A P k n pc L (.int (iI a) :: rest) := zx_if_eq hC hd ht ha (fun _ => kt) (fun h => absurd hc h)
theorem zx_if_eqF (hC : zC X G cc nL own) {a : Int} {off : Int} {tgt : Nat} (hd : decode cc pc = .ok (.ifCond .eq off, 3)) (ht : (pc : Int) + off = (tgt : Int)) (ha : iR a) (hc : ¬ (a = 0))
    (kf : zV X nL A P k n (pc + 3) L rest) : zV X nL A P k n pc L (.int (iI a) :: rest) := zx_if_eq hC hd ht ha (fun h => absurd h hc) (fun _ => kf)
theorem zx_icmp_ne (hC : zC X G cc nL own) {a b : Int} {off : Int} {tgt : Nat} (hd : decode cc pc = .ok (.if_icmp .ne off, 3)) (ht : (pc : Int) + off = (tgt : Int)) (ha : iR a) (hb : iR b)
    (kt : ¬ a = b → zV X nL A P k n tgt L rest) (kf : a = b → zV X nL A P k n (pc + 3) L rest) : zV X nL A P k n pc L (.int (iI b) :: .int (iI a) :: rest) := by
  intro H locs ls hP hS hl
  exact lv_icmp_ne hC.1.1 hC.1.2.1 hd ht (fun h => kt ((not_congr (iI_eq ha hb)).mp h) H locs ls hP hS hl) (fun h => kf ((iI_eq ha hb).mp h) H locs ls hP hS hl)
theorem zx_if_ne (hC : zC X G cc nL own) {a : Int} {off : Int} {tgt : Nat} (hd : decode cc pc = .ok (.ifCond .ne off, 3)) (ht : (pc : Int) + off = (tgt : Int)) (ha : iR a)
    (kt : ¬ a = 0 → zV X nL A P k n tgt L rest) (kf : a = 0 → zV X nL A P k n (pc + 3) L rest) : zV X nL A P k n pc L (.int (iI a) :: rest) := by
  intro H locs ls hP hS hl
  have hb := iR0
  exact lv_if_ne hC.1.1 hC.1.2.1 hd ht (fun h => kt ((not_congr (iI_eq ha hb)).mp h) H locs ls hP hS hl) (fun h => kf ((iI_eq ha hb).mp h) H locs ls hP hS hl)
theorem zx_icmp_neT (hC : zC X G cc nL own) {a b : Int} {off : Int} {tgt : Nat} (hd : decode cc pc = .ok (.if_icmp .ne off, 3)) (ht : (pc : Int) + off = (tgt : Int)) (ha : iR a) (hb : iR b) (hc : ¬ a = b)
    (kt : zV X nL A P k n tgt L rest) : zV X nL A P k n pc L (.int (iI b) :: .int (iI a) :: rest) := zx_icmp_ne hC hd ht ha hb (fun _ => kt) (fun h => absurd h hc)
theorem zx_icmp_neF (hC : zC X G cc nL own) {a b : Int} {off : Int} {tgt : Nat} (hd : decode cc pc = .ok (.if_icmp .ne off, 3)) (ht : (pc : Int) + off = (tgt : Int)) (ha : iR a) (hb : iR b) (hc : a = b)
    (kf : zV X nL A P k n (pc + 3) L rest) : zV X nL A P k n pc L (.int (iI b) :: .int (iI a) :: rest) := zx_icmp_ne hC hd ht ha hb (fun h => absurd hc h) (fun _ => kf)
theorem zx_if_neT (hC : zC X G cc nL own) {a : Int} {off : Int} {tgt : Nat} (hd : decode cc pc = .ok (.ifCond .ne off, 3)) (ht : (pc : Int) + off = (tgt : Int)) (ha : iR a) (hc : ¬ a = 0)
    (kt : zV X nL A P k n tgt L rest) : zV X nL A P k n pc L (.int (iI a) :: rest) := zx_if_ne hC hd ht ha (fun _ => kt) (fun h => absurd h hc)
theorem zx_if_neF (hC : zC X G cc nL own) {a : Int} {off : Int} {tgt : Nat} (hd : decode cc pc = .ok (.ifCond .ne off, 3)) (ht : (pc : Int) + off = (tgt : Int)) (ha : iR a) (hc : a = 0)
    (kf : zV X nL A P k n (pc + 3) L rest) : zV X nL A P k n pc L (.int (iI a) :: rest) := zx_if_ne hC hd ht ha (fun h => absurd hc h) (fun _ => kf)
theorem zx_icmp_lt (hC : zC X G cc nL own) {a b : Int} {off : Int} {tgt : Nat} (hd : decode cc pc = .ok (.if_icmp .lt off, 3)) (ht : (pc : Int) + off = (tgt : Int)) (ha : iR a) (hb : iR b)
    (kt : a < b → zV X nL A P k n tgt L rest) (kf : ¬ (a < b) → zV X nL A P k n (pc + 3) L rest) : zV X nL A P k n pc L (.int (iI b) :: .int (iI a) :: rest) := by
  intro H locs ls hP hS hl
  exact lv_icmp_lt hC.1.1 hC.1.2.1 hd ht (fun h => kt ((iI_lt ha hb).mp h) H locs ls hP hS hl) (fun h => kf (fun q => h ((iI_lt ha hb).mpr q)) H locs ls hP hS hl)
theorem zx_if_lt (hC : zC X G cc nL own) {a : Int} {off : Int} {tgt : Nat} (hd : decode cc pc = .ok (.ifCond .lt off, 3)) (ht : (pc : Int) + off = (tgt : Int)) (ha : iR a)
    (kt : a < 0 → zV X nL A P k n tgt L rest) (kf : ¬ (a < 0) → zV X nL A P k n (pc + 3) L rest) : zV X nL A P k n pc L (.int (iI a) :: rest) := by
  intro H locs ls hP hS hl
  have hb := iR0
  exact lv_if_lt hC.1.1 hC.1.2.1 hd ht (fun h => kt ((iI_lt ha hb).mp h) H locs ls hP hS hl) (fun h => kf (fun q => h ((iI_lt ha hb).mpr q)) H locs ls hP hS hl)
theorem zx_icmp_ltT (hC : zC X G cc nL own) {a b : Int} {off : Int} {tgt : Nat} (hd : decode cc pc = .ok (.if_icmp .lt off, 3)) (ht : (pc : Int) + off = (tgt : Int)) (ha : iR a) (hb : iR b) (hc : a < b)
    (kt : zV X nL A P k n tgt L rest) : zV X nL A P k n pc L (.int (iI b) :: .int (iI a) :: rest) := zx_icmp_lt hC hd ht ha hb (fun _ => kt) (fun h => absurd hc h)
theorem zx_icmp_ltF (hC : zC X G cc nL own) {a b : Int} {off : Int} {tgt : Nat} (hd : decode cc pc = .ok (.if_icmp .lt off, 3)) (ht : (pc : Int) + off = (tgt : Int)) (ha : iR a) (hb : iR b) (hc : ¬ (a < b))
    (kf : zV X nL A P k n (pc + 3) L rest) : zV X nL A P k n pc L (.int (iI b) :: .int (iI a) :: rest) := zx_icmp_lt hC hd ht ha hb (fun h => absurd h hc) (fun _ => kf)
theorem zx_if_ltT (hC : zC X G cc nL own) {a : Int} {off : Int} {tgt : Nat} (hd : decode cc pc = .ok (.ifCond .lt off, 3)) (ht : (pc : Int) + off = (tgt : Int)) (ha : iR a) (hc : a < 0)
    (kt : zV X nL A P k n tgt L rest) : zV X nL A P k n pc L (.int (iI a) :: rest) := zx_if_lt hC hd ht ha (fun _ => kt) (fun h => absurd hc h)
theorem zx_if_ltF (hC : zC X G cc nL own) {a : Int} {off : Int} {tgt : Nat} (hd : decode cc pc = .ok (.ifCond .lt off, 3)) (ht : (pc : Int) + off = (tgt : Int)) (ha : iR a) (hc : ¬ (a < 0))
    (kf : zV X nL A P k n (pc + 3) L rest) : zV X nL A P k n pc L (.int (iI a) :: rest) := zx_if_lt hC hd ht ha (fun h => absurd h hc) (fun _ => kf)
theorem zx_icmp_ge (hC : zC X G cc nL own) {a b : Int} {off : Int} {tgt : Nat} (hd : decode cc pc = .ok (.if_icmp .ge off, 3)) (ht : (pc : Int) + off = (tgt : Int)) (ha : iR a) (hb : iR b)
    (kt : b ≤ a → zV X nL A P k n tgt L rest) (kf : ¬ (b ≤ a) → zV X nL A P k n (pc + 3) L rest) : zV X nL A P k n pc L (.int (iI b) :: .int (iI a) :: rest) := by
  intro H locs ls hP hS hl
  exact lv_icmp_ge hC.1.1 hC.1.2.1 hd ht (fun h => kt ((iI_le hb ha).mp h) H locs ls hP hS hl) (fun h => kf (fun q => h ((iI_le hb ha).mpr q)) H locs ls hP hS hl)
theorem zx_if_ge (hC : zC X G cc nL own) {a : Int} {off : Int} {tgt : Nat} (hd : decode cc pc = .ok (.ifCond .ge off, 3)) (ht : (pc : Int) + off = (tgt : Int)) (ha : iR a)
    (kt : 0 ≤ a → zV X nL A P k n tgt L rest) (kf : ¬ (0 ≤ a) → zV X nL A P k n (pc + 3) L rest) : zV X nL A P k n pc L (.int (iI a) :: rest) := by
  intro H locs ls hP hS hl
  have hb := iR0
  exact lv_if_ge hC.1.1 hC.1.2.1 hd ht (fun h => kt ((iI_le hb ha).mp h) H locs ls hP hS hl) (fun h => kf (fun q => h ((iI_le hb ha).mpr q)) H locs ls hP hS hl)
theorem zx_icmp_geT (hC : zC X G cc nL own) {a b : Int} {off : Int} {tgt : Nat} (hd : decode cc pc = .ok (.if_icmp .ge off, 3)) (ht : (pc : Int) + off = (tgt : Int)) (ha : iR a) (hb : iR b) (hc : b ≤ a)
    (kt : zV X nL A P k n tgt L rest) : zV X nL A P k n pc L (.int (iI b) :: .int (iI a) :: rest) := zx_icmp_ge hC hd ht ha hb (fun _ => kt) (fun h => absurd hc h)
theorem zx_icmp_geF (hC : zC X G cc nL own) {a b : Int} {off : Int} {tgt : Nat} (hd : decode cc pc = .ok (.if_icmp .ge off, 3)) (ht : (pc : Int) + off = (tgt : Int)) (ha : iR a) (hb : iR b) (hc : ¬ (b ≤ a))
    (kf : zV X nL A P k n (pc + 3) L rest) : zV X nL A P k n pc L (.int (iI b) :: .int (iI a) :: rest) := zx_icmp_ge hC hd ht ha hb (fun h => absurd h hc) (fun _ => kf)
theorem zx_if_geT (hC : zC X G cc nL own) {a : Int} {off : Int} {tgt : Nat} (hd : decode cc pc = .ok (.ifCond .ge off, 3)) (ht : (pc : Int) + off = (tgt : Int)) (ha : iR a) (hc : 0 ≤ a)
    (kt : zV X nL A P k n tgt L rest) : zV X nL A P k n pc L (.int (iI a) :: rest) := zx_if_ge hC hd ht ha (fun _ => kt) (fun h => absurd hc h)
theorem zx_if_geF (hC : zC X G cc nL own) {a : Int} {off : Int} {tgt : Nat} (hd : decode cc pc = .ok (.ifCond .ge off, 3)) (ht : (pc : Int) + off = (tgt : Int)) (ha : iR a) (hc : ¬ (0 ≤ a))
    (kf : zV X nL A P k n (pc + 3) L rest) : zV X nL A P k n pc L (.int (iI a) :: rest) := zx_if_ge hC hd ht ha (fun h => absurd h hc) (fun _ => kf)
theorem zx_icmp_gt (hC : zC X G cc nL own) {a b : Int} {off : Int} {tgt : Nat} (hd : decode cc pc = .ok (.if_icmp .gt off, 3)) (ht : (pc : Int) + off = (tgt : Int)) (ha : iR a) (hb : iR b)
    (kt : b < a → zV X nL A P k n tgt L rest) (kf : ¬ (b < a) → zV X nL A P k n (pc + 3) L rest) : zV X nL A P k n pc L (.int (iI b) :: .int (iI a) :: rest) := by
  intro H locs ls hP hS hl
  exact lv_icmp_gt hC.1.1 hC.1.2.1 hd ht (fun h => kt ((iI_lt hb ha).mp h) H locs ls hP hS hl) (fun h => kf (fun q => h ((iI_lt hb ha).mpr q)) H locs ls hP hS hl)
theorem zx_if_gt (hC : zC X G cc nL own) {a : Int} {off : Int} {tgt : Nat} (hd : decode cc pc = .ok (.ifCond .gt off, 3)) (ht : (pc : Int) + off = (tgt : Int)) (ha : iR a)
    (kt : 0 < a → zV X nL A P k n tgt L rest) (kf : ¬ (0 < a) → zV X nL A P k n (pc + 3) L rest) : zV X nL A P k n pc L (.int (iI a) :: rest) := by
  intro H locs ls hP hS hl
  have hb := iR0
  exact lv_if_gt hC.1.1 hC.1.2.1 hd ht (fun h => kt ((iI_lt hb ha).mp h) H locs ls hP hS hl) (fun h => kf (fun q => h ((iI_lt hb ha).mpr q)) H locs ls hP hS hl)
theorem zx_icmp_gtT (hC : zC X G cc nL own) {a b : Int} {off : Int} {tgt : Nat} (hd : decode cc pc = .ok (.if_icmp .gt off, 3)) (ht : (pc : Int) + off = (tgt : Int)) (ha : iR a) (hb : iR b) (hc : b < a)
    (kt : zV X nL A P k n tgt L rest) : zV X nL A P k n pc L (.int (iI b) :: .int (iI a) :: rest) := zx_icmp_gt hC hd ht ha hb (fun _ => kt) (fun h => absurd hc h)
theorem zx_icmp_gtF (hC : zC X G cc nL own) {a b : Int} {off : Int} {tgt : Nat} (hd : decode cc pc = .ok (.if_icmp .gt off, 3)) (ht : (pc : Int) + off = (tgt : Int)) (ha : iR a) (hb : iR b) (hc : ¬ (b < a))
    (kf : zV X nL A P k n (pc + 3) L rest) : zV X nL A P k n pc L (.int (iI b) :: .int (iI a) :: rest) := zx_icmp_gt hC hd ht ha hb (fun h => absurd h hc) (fun _ => kf)
theorem zx_if_gtT (hC : zC X G cc nL own) {a : Int} {off : Int} {tgt : Nat} (hd : decode cc pc = .ok (.ifCond .gt off, 3)) (ht : (pc : Int) + off = (tgt : Int)) (ha : iR a) (hc : 0 < a)
    (kt : zV X nL A P k n tgt L rest) : zV X nL A P k n pc L (.int (iI a) :: rest) := zx_if_gt hC hd ht ha (fun _ => kt) (fun h => absurd hc h)
theorem zx_if_gtF (hC : zC X G cc nL own) {a : Int} {off : Int} {tgt : Nat} (hd : decode cc pc = .ok (.ifCond .gt off, 3)) (ht : (pc : Int) + off = (tgt : Int)) (ha : iR a) (hc : ¬ (0 < a))
    (kf : zV X nL A P k n (pc + 3) L rest) : zV X nL A P k n pc L (.int (iI a) :: rest) := zx_if_gt hC hd ht ha (fun h => absurd h hc) (fun _ => kf)
theorem zx_icmp_le (hC : zC X G cc nL own) {a b : Int} {off : Int} {tgt : Nat} (hd : decode cc pc = .ok (.if_icmp .le off, 3)) (ht : (pc : Int) + off = (tgt : Int)) (ha : iR a) (hb : iR b)
    (kt : a ≤ b → zV X nL A P k n tgt L rest) (kf : ¬ (a ≤ b) → zV X nL A P k n (pc + 3) L rest) : zV X nL A P k n pc L (.int (iI b) :: .int (iI a) :: rest) := by
  intro H locs ls hP hS hl
  exact lv_icmp_le hC.1.1 hC.1.2.1 hd ht (fun h => kt ((iI_le ha hb).mp h) H locs ls hP hS hl) (fun h => kf (fun q => h ((iI_le ha hb).mpr q)) H locs ls hP hS hl)
theorem zx_if_le (hC : zC X G cc nL own) {a : Int} {off : Int} {tgt : Nat} (hd : decode cc pc = .ok (.ifCond .le off, 3)) (ht : (pc : Int) + off = (tgt : Int)) (ha : iR a)
    (kt : a ≤ 0 → zV X nL A P k n tgt L rest) (kf : ¬ (a ≤ 0) → zV X nL A P k n (pc + 3) L rest) : zV X nL A P k n pc L (.int (iI a) :: rest) := by
  intro H locs ls hP hS hl
  have hb := iR0
  exact lv_if_le hC.1.1 hC.1.2.1 hd ht (fun h => kt ((iI_le ha hb).mp h) H locs ls hP hS hl) (fun h => kf (fun q => h ((iI_le ha hb).mpr q)) H locs ls hP hS hl)
theorem zx_icmp_leT (hC : zC X G cc nL own) {a b : Int} {off : Int} {tgt : Nat} (hd : decode cc pc = .ok (.if_icmp .le off, 3)) (ht : (pc : Int) + off = (tgt : Int)) (ha : iR a) (hb : iR b) (hc : a ≤ b)
    (kt : zV X nL A P k n tgt L rest) : zV X nL A P k n pc L (.int (iI b) :: .int (iI a) :: rest) := zx_icmp_le hC hd ht ha hb (fun _ => kt) (fun h => absurd hc h)
theorem zx_icmp_leF (hC : zC X G cc nL own) {a b : Int} {off : Int} {tgt : Nat} (hd : decode cc pc = .ok (.if_icmp .le off, 3)) (ht : (pc : Int) + off = (tgt : Int)) (ha : iR a) (hb : iR b) (hc : ¬ (a ≤ b))
    (kf : zV X nL A P k n (pc + 3) L rest) : zV X nL A P k n pc L (.int (iI b) :: .int (iI a) :: rest) := zx_icmp_le hC hd ht ha hb (fun h => absurd h hc) (fun _ => kf)
theorem zx_if_leT (hC : zC X G cc nL own) {a : Int} {off : Int} {tgt : Nat} (hd : decode cc pc = .ok (.ifCond .le off, 3)) (ht : (pc : Int) + off = (tgt : Int)) (ha : iR a) (hc : a ≤ 0)
    (kt : zV X nL A P k n tgt L rest) : zV X nL A P k n pc L (.int (iI a) :: rest) := zx_if_le hC hd ht ha (fun _ => kt) (fun h => absurd hc h)
theorem zx_if_leF (hC : zC X G cc nL own) {a : Int} {off : Int} {tgt : Nat} (hd : decode cc pc = .ok (.ifCond .le off, 3)) (ht : (pc : Int) + off = (tgt : Int)) (ha : iR a) (hc : ¬ (a ≤ 0))
    (kf : zV X nL A P k n (pc + 3) L rest) : zV X nL A P k n pc L (.int (iI a) :: rest) := zx_if_le hC hd ht ha (fun h => absurd h hc) (fun _ => kf)
theorem zx_goto (hC : zC X G cc nL own) {off : Int} {tgt : Nat} (hd : decode cc pc = .ok (.goto off, 3)) (ht : (pc : Int) + off = (tgt : Int)) (kk : zV X nL A P k n tgt L rest) : zV X nL A P k n pc L rest := by
  intro H locs ls hP hS hl
  exact lv_goto hC.1.1 hC.1.2.1 hd ht (kk H locs ls hP hS hl)
theorem zx_ifnull (hC : zC X G cc nL own) {x : Nat} {off : Int} (hd : decode cc pc = .ok (.ifnull off, 3)) (kk : zV X nL A P k n (pc + 3) L rest) : zV X nL A P k n pc L (.ref x :: rest) := by
  intro H locs ls hP hS hl
  exact lv_ifnull hC.1.1 hC.1.2.1 hd (kk H locs ls hP hS hl)
theorem zx_ifnonnull (hC : zC X G cc nL own) {x : Nat} {off : Int} {tgt : Nat} (hd : decode cc pc = .ok (.ifnonnull off, 3)) (ht : (pc : Int) + off = (tgt : Int)) (kk : zV X nL A P k n tgt L rest) : zV X nL A P k n pc L (.ref x :: rest) := by
  intro H locs ls hP hS hl
  exact lv_ifnonnull hC.1.1 hC.1.2.1 hd ht (kk H locs ls hP hS hl)
theorem zx_ifnullN (hC : zC X G cc nL own) {off : Int} {tgt : Nat} (hd : decode cc pc = .ok (.ifnull off, 3)) (ht : (pc : Int) + off = (tgt : Int)) (kk : zV X nL A P k n tgt L rest) : zV X nL A P k n pc L (.null :: rest) := by
  intro H locs ls hP hS hl
  exact lv_ifnullN hC.1.1 hC.1.2.1 hd ht (kk H locs ls hP hS hl)
theorem zx_ifnonnullN (hC : zC X G cc nL own) {off : Int} (hd : decode cc pc = .ok (.ifnonnull off, 3)) (kk : zV X nL A P k n (pc + 3) L rest) : zV X nL A P k n pc L (.null :: rest) := by
  intro H locs ls hP hS hl
  exact lv_ifnonnullN hC.1.1 hC.1.2.1 hd (kk H locs ls hP hS hl)
theorem zx_tableOut (hC : zC X G cc nL own) {dflt lo hi : Int} {offs : Array Int} {len : Nat} {a : Int} {tgt : Nat} (hd : decode cc pc = .ok (.tableswitch dflt lo hi offs, len)) (ha : iR a) (h : a < lo ∨ hi < a) (ht : (pc : Int) + dflt = (tgt : Int)) (kk : zV X nL A P k n tgt L rest) : zV X nL A P k n pc L (.int (iI a) :: rest) := by
  intro H locs ls hP hS hl
  exact lv_tableOut hC.1.1 hC.1.2.1 hd (by rw [iI_toInt ha]; exact h) ht (kk H locs ls hP hS hl)
theorem zx_tableIn (hC : zC X G cc nL own) {dflt lo hi : Int} {offs : Array Int} {len : Nat} {a : Int} {off : Int} {tgt : Nat} (j : Nat) (hd : decode cc pc = .ok (.tableswitch dflt lo hi offs, len)) (ha : iR a) (h : a = lo + j) (hh : ¬ hi < lo + j) (ho : offs[j]? = some off) (ht : (pc : Int) + off = (tgt : Int)) (kk : zV X nL A P k n tgt L rest) : zV X nL A P k n pc L (.int (iI a) :: rest) := by
  intro H locs ls hP hS hl
  exact lv_tableIn hC.1.1 hC.1.2.1 hd (by rw [iI_toInt ha]; omega) (by rw [iI_toInt ha]; omega) (by rw [iI_toInt ha, h, show (lo + (j : Int) - lo).toNat = j by omega]; exact ho) ht (kk H locs ls hP hS hl)
theorem zx_lookup (hC : zC X G cc nL own) {dflt : Int} {ps : Array (Int × Int)} {len : Nat} {a : Int} {off : Int} {tgt : Nat} (hd : decode cc pc = .ok (.lookupswitch dflt ps, len)) (hp : (ps.toList.zip (ps.toList.drop 1)).all (fun (a, next) => a.1 < next.1) = true) (ha : iR a) (ho : Op.lookupswitch.offset ps.toList dflt a = off) (ht : (pc : Int) + off = (tgt : Int)) (kk : zV X nL A P k n tgt L rest) : zV X nL A P k n pc L (.int (iI a) :: rest) := by
  intro H locs ls hP hS hl
  exact lv_lookup hC.1.1 hC.1.2.1 hd hp (by rw [iI_toInt ha]; exact ho) ht (kk H locs ls hP hS hl)

def zcmp (a b : Int) : Int := if a < b then -1 else if a = b then 0 else 1
theorem zcmp_lt {a b : Int} : zcmp a b < 0 ↔ a < b := by unfold zcmp; split <;> (try split) <;> omega
theorem zcmp_gt {a b : Int} : 0 < zcmp a b ↔ b < a := by unfold zcmp; split <;> (try split) <;> omega
theorem zcmp_le {a b : Int} : zcmp a b ≤ 0 ↔ a ≤ b := by unfold zcmp; split <;> (try split) <;> omega
theorem zcmp_ge {a b : Int} : 0 ≤ zcmp a b ↔ b ≤ a := by unfold zcmp; split <;> (try split) <;> omega
theorem zcmp_r (a b : Int) : -1 ≤ zcmp a b ∧ zcmp a b ≤ 1 := by unfold zcmp; split <;> (try split) <;> omega
theorem zcmp_eq {a b : Int} (ha : lR a) (hb : lR b) : lg_cmp (lI a) (lI b) = iI (zcmp a b) := by
  unfold zcmp lg_cmp
  simp only [gt_iff_lt, lI_lt hb ha, lI_eq ha hb]
  by_cases h1 : a < b
  · rw [if_neg (by omega), if_neg (by omega), if_pos h1]; rfl
  · by_cases h2 : a = b
    · rw [if_neg (by omega), if_pos h2, if_neg h1, if_pos h2]; rfl
    · rw [if_pos (by omega), if_neg h1, if_neg h2]; rfl

theorem zx_lcmp (hC : zC X G cc nL own) {a b : Int}  (hd : decode cc pc = .ok (.lcmp, 1)) (ha : lR a) (hb : lR b)
    (kk : zV X nL A P k n (pc + 1) L (.int (iI (zcmp a b)) :: rest)) : zV X nL A P k n pc L (.long (lI b) :: .long (lI a) :: rest) := by
  intro H locs ls hP hS hl
  refine W.lcmp hC.1.1 hC.1.2.1 hd ?_
  rw [zcmp_eq ha hb]
  exact kk H locs ls hP hS hl
theorem zx_ldc2 (hC : zC X G cc nL own) {index : Nat} {z : Int} {v : Int64}  (hd : decode cc pc = .ok (.ldc2_w index, 3)) (hq : Jvm.Cond.constantLong own index v ∈ lw_all) (hv : v = lI z)
    (kk : zV X nL A P k n (pc + 3) L (.long (lI z) :: rest)) : zV X nL A P k n pc L rest := by
  intro H locs ls hP hS hl
  subst hv
  exact lv_ldc2 hC.1.1 hC.1.2.1 hC.1.2.2.2.1 (hC.1.2.2.2.2 _ hq) hd (kk H locs ls hP hS hl)
theorem zx_dcmp (hC : zC X G cc nL own) {x y : UInt64} {op : CmpOp} (hd : decode cc pc = .ok (.dcmp op, 1)) 
    (kk : zV X nL A P k n (pc + 1) L (.int (Op.cmpValue (FP.dcmp x y) op) :: rest)) : zV X nL A P k n pc L (.double y :: .double x :: rest) := by
  intro H locs ls hP hS hl
  refine lv_dcmp hC.1.1 hC.1.2.1 hd ?_
  exact kk H locs ls hP hS hl
theorem zx_i2d (hC : zC X G cc nL own) {x : Int32} (hd : decode cc pc = .ok (.i2d, 1)) 
    (kk : zV X nL A P k n (pc + 1) L (.double (FP.i2d x) :: rest)) : zV X nL A P k n pc L (.int x :: rest) := by
  intro H locs ls hP hS hl
  refine lv_i2d hC.1.1 hC.1.2.1 hd ?_
  exact kk H locs ls hP hS hl
theorem zx_ddiv (hC : zC X G cc nL own) {x y : UInt64}  (hd : decode cc pc = .ok (.ddiv, 1)) (hne : vf_n64 (FP.ddiv x y))
    (kk : zV X nL A P k n (pc + 1) L (.double (FP.ddiv x y) :: rest)) : zV X nL A P k n pc L (.double y :: .double x :: rest) := by
  intro H locs ls hP hS hl
  refine lv_ddiv hC.1.1 hC.1.2.1 hd hne ?_
  exact kk H locs ls hP hS hl
theorem zx_dmul (hC : zC X G cc nL own) {x y : UInt64}  (hd : decode cc pc = .ok (.dmul, 1)) (hne : vf_n64 (FP.dmul x y))
    (kk : zV X nL A P k n (pc + 1) L (.double (FP.dmul x y) :: rest)) : zV X nL A P k n pc L (.double y :: .double x :: rest) := by
  intro H locs ls hP hS hl
  refine lv_dmul hC.1.1 hC.1.2.1 hd hne ?_
  exact kk H locs ls hP hS hl
end ZR
