/-! Calls: inherited methods, interfaces, nest mates -/
set_option maxRecDepth 100000
section ZF5
variable {X : zX} {G : zG} {cc : ByteArray} {nL : Nat} {own : String} {A : Nat → Prop} {P : Heap → Prop} {Ps : List zAs} {k n pc : Nat} {L : List (Option Value)} {rest : List Value}
theorem zcU (na : Nat) (hC : zC X G cc nL own) {C owner : String} {index b : Nat} {x y : MethodName} {cc' : ByteArray} {nL' : Nat} {ret : Option FieldType} {f lo mc ms : Nat} {As st : List Value} (hlink : Cond.methodLink own index x ∈ lw_all) (hsame : Cond.sameMethod x.cls owner x.name x.desc ∈ lw_all) (hdecl : Cond.declares ⟨owner, x.name, x.desc⟩ ∈ lw_tbl) (hsel : Cond.selects C x y ∈ lw_all) (hinst : Cond.instanceMethod y ∈ lw_all) (hini : Cond.initialized y.cls ∈ lw_all) (hcode : Cond.code y cc' nL' ret ∈ lw_all)
    (hd' : owner ≠ "java/lang/invoke/MethodHandle" ∧ owner ≠ "java/lang/invoke/VarHandle" ∧ (parseMethodDescriptor x.desc).map (fun d => d.parameters.length) = some na) (hna : As.length = na) (hR : f + 1 ≤ (zR X).frames ∧ 8 + (nL' + 11) + lo ≤ (zR X).locals) (hcs : k + mc ≤ (zR X).cells ∧ n + ms ≤ (zR X).slots)
    (hst : st = As.reverse ++ .ref b :: rest) (hr : (rest.map fun v => v.category).sum ≤ 8) (hd : decode cc pc = .ok (.invokevirtual index, 3)) : zCall X nL k n pc st rest y cc' nL' ret f lo mc ms (.ref b :: As) (zrc X C b) :=
  fun _ _ _ hM _ _ _ hls hRC hB hP => va_runU (owner := owner) (x := x) hC.1 hM ⟨⟨rfl, rfl, hR.1, hR.2, pay_in hC.1.2.2.2.2 (lw_meth hcode), List.mem_cons_self⟩, hC.1.2.2.2.2 _ hcode, hC.1.2.2.2.2 _ hini, ⟨hd'.1, hd'.2.1⟩, fun sig h => by
      have h2 := hd'.2.2
      rw [h] at h2
      exact (Option.some.inj h2).symm, hC.1.2.2.2.2 _ hlink, hC.1.2.2.2.2 _ hsame, va_Decl.abs (hC.2.1.2.1 _ (zws_in hdecl rfl)), hC.1.2.2.2.2 _ hsel, hC.1.2.2.2.2 _ hinst⟩ ⟨hB, hRC, hP⟩ rfl hna hls hst (lv_room hr) hd hcs
theorem zcVN (na : Nat) (hC : zC X G cc nL own) {host : String} {index b : Nat} {y : MethodName} {cc' : ByteArray} {nL' : Nat} {ret : Option FieldType} {f lo mc ms : Nat} {As st : List Value} (hl : Cond.methodLinkNest own index y host ∈ lw_tbl) (hini : Cond.initialized y.cls ∈ lw_all) (hcode : Cond.code y cc' nL' ret ∈ lw_all) (hinst : Cond.instanceMethod y ∈ lw_all) (hsel : Cond.selects y.cls y y ∈ lw_all)
    (hd' : y.cls ≠ "java/lang/invoke/MethodHandle" ∧ y.cls ≠ "java/lang/invoke/VarHandle" ∧ (parseMethodDescriptor y.desc).map (fun d => d.parameters.length) = some na) (hna : As.length = na) (hR : f + 1 ≤ (zR X).frames ∧ 8 + (nL' + 11) + lo ≤ (zR X).locals) (hcs : k + mc ≤ (zR X).cells ∧ n + ms ≤ (zR X).slots)
    (hst : st = As.reverse ++ .ref b :: rest) (hr : (rest.map fun v => v.category).sum ≤ 8) (hd : decode cc pc = .ok (.invokevirtual index, 3)) : zCall X nL k n pc st rest y cc' nL' ret f lo mc ms (.ref b :: As) (zrc X y.cls b) :=
  fun _ _ _ hM _ _ _ hls hRC hB hP => va_runVN hC.1 hM ⟨va_cnB na hC.1.2.2.2.2 (lw_meth hcode) rfl rfl rfl (hC.2.1.2.1 _ (zws_in hl rfl)) (hC.1.2.2.2.2 _ hini) hd' hR, hC.1.2.2.2.2 _ hinst, hC.1.2.2.2.2 _ hsel⟩ ⟨hB, hRC, hP⟩ rfl hna hls hst (lv_room hr) hd hcs
theorem zcSN (na : Nat) (hC : zC X G cc nL own) {host : String} {index : Nat} {y : MethodName} {cc' : ByteArray} {nL' : Nat} {ret : Option FieldType} {f lo mc ms : Nat} {As st : List Value} (hl : Cond.methodLinkNest own index y host ∈ lw_tbl) (hini : Cond.initialized y.cls ∈ lw_all) (hcode : Cond.code y cc' nL' ret ∈ lw_all) (hstat : Cond.static y ∈ lw_all)
    (hd' : y.cls ≠ "java/lang/invoke/MethodHandle" ∧ y.cls ≠ "java/lang/invoke/VarHandle" ∧ (parseMethodDescriptor y.desc).map (fun d => d.parameters.length) = some na) (hna : As.length = na) (hR : f + 1 ≤ (zR X).frames ∧ 8 + (nL' + 11) + lo ≤ (zR X).locals) (hcs : k + mc ≤ (zR X).cells ∧ n + ms ≤ (zR X).slots)
    (hst : st = As.reverse ++ rest) (hr : (rest.map fun v => v.category).sum ≤ 8) (hd : decode cc pc = .ok (.invokestatic index, 3)) : zCall X nL k n pc st rest y cc' nL' ret f lo mc ms As (fun _ => True) :=
  fun _ _ _ hM _ _ _ hls _ hB hP => va_runSN hC.1 hM ⟨va_cnB na hC.1.2.2.2.2 (lw_meth hcode) rfl rfl rfl (hC.2.1.2.1 _ (zws_in hl rfl)) (hC.1.2.2.2.2 _ hini) hd' hR, hC.1.2.2.2.2 _ hstat, trivial⟩ ⟨hB, hP⟩ rfl hna hls hst (lv_room hr) hd hcs
theorem zcIN (na : Nat) (hC : zC X G cc nL own) {host : String} {index b : Nat} {y : MethodName} {cc' : ByteArray} {nL' : Nat} {f lo mc ms : Nat} {As st : List Value} (hl : Cond.methodLinkNest own index y host ∈ lw_tbl) (hini : Cond.initialized y.cls ∈ lw_all) (hcode : Cond.code y cc' nL' none ∈ lw_all) (hinst : Cond.instanceMethod y ∈ lw_all) (hnm : y.name = "<init>")
    (hd' : y.cls ≠ "java/lang/invoke/MethodHandle" ∧ y.cls ≠ "java/lang/invoke/VarHandle" ∧ (parseMethodDescriptor y.desc).map (fun d => d.parameters.length) = some na) (hna : As.length = na) (hR : f + 1 ≤ (zR X).frames ∧ 8 + (nL' + 11) + lo ≤ (zR X).locals) (hcs : k + mc ≤ (zR X).cells ∧ n + ms ≤ (zR X).slots)
    (hst : st = As.reverse ++ .ref b :: rest) (hr : (rest.map fun v => v.category).sum ≤ 8) (hd : decode cc pc = .ok (.invokespecial index, 3)) : zCall X nL k n pc st rest y cc' nL' none f lo mc ms (.ref b :: As) (fun _ => True) :=
  fun _ _ _ hM _ _ _ hls _ hB hP => va_runIN hC.1 hM ⟨va_cnB na hC.1.2.2.2.2 (lw_meth hcode) rfl rfl rfl (hC.2.1.2.1 _ (zws_in hl rfl)) (hC.1.2.2.2.2 _ hini) hd' hR, hnm, hC.1.2.2.2.2 _ hinst⟩ ⟨hB, hP⟩ rfl hna hls hst (lv_room hr) hd hcs
/-- a call of an interface's method: five bytes -/
def zCallI (X : zX) (nL k n pc : Nat) (st rest : List Value) (y : MethodName) (cc' : ByteArray) (nL' : Nat) (ret : Option FieldType) (f lo mc ms : Nat) (av : List Value) (RC : Heap → Prop) : Prop :=
  ∀ (Pc : Array Value → State → Prop) (Qc : Array Value → State → Outcome → State → Prop) (free : Addr → Prop), Met (zl X) y (ws_ y cc' nL' ret) ({ frames := f, cells := mc, slots := ms, locals := lo }) Pc Qc mc ms free →
    ∀ (H : Heap) (locs : List Loc) (ls : Array Slot), ls.size = nL → RC H → FrameBlind Pc → (∀ U : State, U.heap = H → (zs X).WarmedH U.vm → Pc av.toArray U) → va_Run5 (zp X) (zl X) (ze X) (zR X) (zs X) (zm X) (za X) (zb X) (zme X) (zc X) H locs k n mc ms (F0 (zm X) pc ls st) rest (Qc av.toArray) free
theorem zcF (na : Nat) (hC : zC X G cc nL own) {C : String} {T : u_T} {N ci : Nat} (hc : zcl[ci]? = some (C, T, N)) {index count b : Nat} {x y : MethodName} {cc' : ByteArray} {nL' : Nat} {ret : Option FieldType} {f lo mc ms : Nat} {As st : List Value} (hw : (C, x, y) ∈ zFws) (hlink : Cond.methodLink own index x ∈ lw_all) (hsel : Cond.selects C x y ∈ lw_all) (hinst : Cond.instanceMethod y ∈ lw_all) (hini : Cond.initialized y.cls ∈ lw_all) (hcode : Cond.code y cc' nL' ret ∈ lw_all)
    (hd' : x.cls ≠ "java/lang/invoke/MethodHandle" ∧ x.cls ≠ "java/lang/invoke/VarHandle" ∧ (parseMethodDescriptor x.desc).map (fun d => d.parameters.length) = some na) (hna : As.length = na) (hR : f + 1 ≤ (zR X).frames ∧ 8 + (nL' + 11) + lo ≤ (zR X).locals) (hcs : k + mc ≤ (zR X).cells ∧ n + ms ≤ (zR X).slots)
    (hst : st = As.reverse ++ .ref b :: rest) (hr : (rest.map fun v => v.category).sum ≤ 8) (hd : decode cc pc = .ok (.invokeinterface index count, 5)) : zCallI X nL k n pc st rest y cc' nL' ret f lo mc ms (.ref b :: As) (zrc X C b) :=
  fun _ _ _ hM _ _ _ hls hRC hB hP => va_runF (hC.2.1.1.1 ci _ hc).2 hC.1 hM (va_cwF na hC.1.2.2.2.2 (lw_app (fun w hw' => by
      simp only [List.mem_cons, List.not_mem_nil, or_false] at hw'
      rcases hw' with e | e | e | e
      · rw [e]; exact hlink
      · rw [e]; exact hsel
      · rw [e]; exact hinst
      · rw [e]; exact hini) (lw_meth hcode)) rfl rfl rfl (hC.2.1.2.2.2.2.1 _ hw) hd' hR) ⟨hB, hRC, hP⟩ rfl hna hls hst (lv_room hr) hd hcs
theorem zx_rd5 (hC : zC X G cc nL own) (hA : ∀ q, A q → zNS G q) {st : List Value} {y : MethodName} {cc' : ByteArray} {nL' : Nat} {ret : Option FieldType} {f lo : Nat} {av : List Value} {RC : Heap → Prop} {P' : Heap → Prop} {Q : Option Value → Prop}
    (hcall : zCallI X nL k n pc st rest y cc' nL' ret f lo 0 0 av RC) (hM : zRd (zl X) y cc' nL' ret f lo G av P' Q) (hRC : ∀ H, P H → RC H) (hP' : ∀ H, P H → P' H) (kk : ∀ v, Q v → zV X nL A P k n (pc + 5) L (v.toList ++ rest)) : zV X nL A P k n pc L st := by
  intro H locs ls hP hS hl T hT X0
  have hr := hcall _ _ _ hM H locs ls hl.1 (hRC H hP) (fun a U g mk q => ⟨q.1, q.2.1, zK.same (s := U) (U := U.calling g mk a) rfl q.2.2.1, q.2.2.2⟩) (fun U hU hW => ⟨rfl, by rw [hU]; exact hP' H hP, hC.2.1.warm hW, by rw [hU]; exact zSt.at hC hA hS⟩)
  obtain ⟨v, st₀, t, T', L1, h0, X', hL, e1, e2, ⟨⟨v', hv, hq⟩, hh⟩, go⟩ := hr T hT X0
  cases hv
  have hLe : ∀ l ∈ locs ++ L1, A l.base := fun q hq => (List.mem_append.mp hq).elim (hS.2.2 q) (fun h => (hL q h).elim)
  obtain ⟨t2, a1, b1⟩ := kk v hq H (locs ++ L1) ls hP ⟨hS.1, hS.2.1, hLe⟩ hl T' (by rw [e1, hh, h0]) X'
  exact ⟨t2, go t2 a1, b1⟩
theorem zx_ma5 (hC : zC X G cc nL own) (hA : zA X G A) {st : List Value} {y : MethodName} {cc' : ByteArray} {nL' : Nat} {ret : Option FieldType} {f lo mc ms : Nat} {av : List Value} {RC : Heap → Prop} {Cs : List zAs} {φ : Option Value → Prop} {Q : Option Value → List zAs} (is js : List Nat) {Rs : List zAs}
    (hcall : zCallI X nL k n pc st rest y cc' nL' ret f lo mc ms av RC) (hM : zMA (zl X) y cc' nL' ret f lo G av Cs φ Q mc ms) (hRC : ∀ H, zH G A (zS Ps) H → RC H) (hp : (is ++ js).isPerm (List.range Ps.length) = true) (his : zpick Ps is = Cs) (hjs : zpick Ps js = Rs)
    (kk : ∀ v, φ v → zV X nL A (zH G A (zS (Rs ++ Q v))) (k + mc) (n + ms) (pc + 5) L (v.toList ++ rest)) : zV X nL A (zH G A (zS Ps)) k n pc L st := by
  intro H locs ls hP hS hl T hT X0
  have hP1 : zH G A (zS (Cs ++ Rs)) H := by
    have h := zH_perm (zpick_perm hp) hP
    rw [zpick_app, his, hjs] at h
    exact h
  obtain ⟨ws, h1, h2, h3⟩ := hP1
  obtain ⟨wc, wr, c1, c2, rfl⟩ := (zS_app Cs Rs ws).mp h1
  obtain ⟨d1, d2, d3⟩ := zD_app.mp h3
  obtain ⟨p1, p2⟩ := zP_app.mp h2
  have hF : ∀ q, va_A wc H.size q → A q := by
    intro q h
    rcases h with ⟨i, e, h⟩ | h
    · exact d1.2 i _ h
    · exact hA.1 q (Nat.le_trans hS.1 h)
  have hr := hcall _ _ _ (hM wc H.size c1) H locs ls hl.1 (hRC H hP) (fun a U g mk q => ⟨q.1, q.2.1, q.2.2.1, q.2.2.2.1, zK.same (s := U) (U := U.calling g mk a) rfl q.2.2.2.2.1, q.2.2.2.2.2⟩) (fun U hU hW => ⟨rfl, by rw [hU], by rw [hU]; exact p1, d1.weaken (fun _ q _ h => hA.2 _ h), hC.2.1.warm hW, by rw [hU]; exact zSt.at hC hA.2 hS⟩)
  obtain ⟨v, st₀, t, T', L1, h0, X', hL, e1, e2, ⟨⟨v', hv, hq, w1, q1, q2, q3⟩, hz, hk⟩, go⟩ := hr T hT X0
  cases hv
  rw [h0] at hz hk
  obtain ⟨j1, j2⟩ := zD_joins h2 h3 hk hF q2 q3
  have hSt : va_S A (zs X).heap t.heap (locs ++ L1) := by
    refine ⟨Nat.le_trans hS.1 hz, fun q g1 g2 => ?_, fun q hq => (List.mem_append.mp hq).elim (hS.2.2 q) (fun h => hF _ (hL q h))⟩
    rw [hk q (Nat.lt_of_lt_of_le g1 hS.1) (fun h => g2 (hF q h))]
    exact hS.2.1 q g1 g2
  obtain ⟨t2, a1, b1⟩ := kk v hq t.heap (locs ++ L1) ls ⟨wr ++ w1, (zS_app Rs (Q v) _).mpr ⟨wr, w1, c2, q1, rfl⟩, j1, j2⟩ hSt hl T' e1 X'
  exact ⟨t2, go t2 a1, b1⟩
theorem zx_rd15 (hC : zC X G cc nL own) (hA : ∀ q, A q → zNS G q) {st : List Value} {y : MethodName} {cc' : ByteArray} {nL' : Nat} {ret : Option FieldType} {f lo : Nat} {av : List Value} {RC : Heap → Prop} {P' : Heap → Prop} {r : Value}
    (hcall : zCallI X nL k n pc st rest y cc' nL' ret f lo 0 0 av RC) (hM : zRd (zl X) y cc' nL' ret f lo G av P' (fun v => v = some r)) (hRC : ∀ H, P H → RC H) (hP' : ∀ H, P H → P' H) (kk : zV X nL A P k n (pc + 5) L (r :: rest)) : zV X nL A P k n pc L st :=
  zx_rd5 hC hA hcall hM hRC hP' (fun v hv => by subst hv; exact kk)
theorem zx_ma15 (hC : zC X G cc nL own) (hA : zA X G A) {st : List Value} {y : MethodName} {cc' : ByteArray} {nL' : Nat} {ret : Option FieldType} {f lo mc ms : Nat} {av : List Value} {RC : Heap → Prop} {Cs : List zAs} {r : Value} {Q : Option Value → List zAs} (is js : List Nat) {Rs : List zAs}
    (hcall : zCallI X nL k n pc st rest y cc' nL' ret f lo mc ms av RC) (hM : zMA (zl X) y cc' nL' ret f lo G av Cs (fun v => v = some r) Q mc ms) (hRC : ∀ H, zH G A (zS Ps) H → RC H) (hp : (is ++ js).isPerm (List.range Ps.length) = true) (his : zpick Ps is = Cs) (hjs : zpick Ps js = Rs)
    (kk : zV X nL A (zH G A (zS (Rs ++ Q (some r)))) (k + mc) (n + ms) (pc + 5) L (r :: rest)) : zV X nL A (zH G A (zS Ps)) k n pc L st :=
  zx_ma5 hC hA is js hcall hM hRC hp his hjs (fun v hv => by subst hv; exact kk)
end ZF5
