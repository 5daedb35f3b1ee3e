/-! Passes: what fading does, layer by layer -/
set_option maxRecDepth 100000
theorem rFadF_ge {h : Nat → Nat} {F : Nat → Nat → Nat → Nat} : ∀ {n l : Nat}, n ≤ l → rFadF h F n l = F l
  | 0, l, _ => rfl
  | n + 1, l, hl => by
    funext c k
    show zfil _ n _ _ l c k = _
    unfold zfil
    rw [if_neg (by omega), rFadF_ge (n := n) (by omega)]
theorem rFadF_at {h : Nat → Nat} {F : Nat → Nat → Nat → Nat} : ∀ {n l : Nat}, l < n → ∀ c, c < h (14 + l) → ∀ k, k < 36 → rFadF h F n l c k = F l c k * (100 - h 5) / 100
  | 0, l, hl => absurd hl (Nat.not_lt_zero _)
  | n + 1, l, hl => by
    intro c hc k hk
    show zfil _ n _ _ l c k = _
    unfold zfil
    by_cases e : l = n
    · subst e
      rw [if_pos ⟨rfl, hk, by omega⟩, rFadF_ge (Nat.le_refl _)]
    · rw [if_neg (fun q => e q.1)]
      exact rFadF_at (n := n) (by omega) c hc k hk
theorem rAge_at {h : Nat → Nat} : ∀ {n l : Nat}, l < n → rAge h n (26 + l) = h (26 + l) + 1
  | 0, l, hl => absurd hl (Nat.not_lt_zero _)
  | n + 1, l, hl => by
    show va_up (rAge h n) (26 + n) (rAge h n (26 + n) + 1) (26 + l) = _
    have hge : ∀ (m i : Nat), m ≤ i → rAge h m (26 + i) = h (26 + i) := by
      intro m
      induction m with
      | zero => intro i _; rfl
      | succ m ih =>
        intro i hi
        show va_up (rAge h m) (26 + m) (rAge h m (26 + m) + 1) (26 + i) = _
        rw [va_up_ne _ _ (by omega)]
        exact ih i (by omega)
    by_cases e : l = n
    · subst e; rw [va_up_self, hge _ _ (Nat.le_refl _)]
    · rw [va_up_ne _ _ (by omega)]; exact rAge_at (n := n) (by omega)
/-- layers of which the first i are faded -/
def pFl (G : zG) (h : Nat → Nat) (F : Nat → Nat → Nat → Nat) (xs : Nat → Nat) (n i : Nat) : zAs := zbs n (fun j => LAY G (xs j) (h (14 + j)) (if j < i then ffad (h 5) (F j) (h (14 + j)) else F j) (h (20 + j)) (if j < i then h (26 + j) + 1 else h (26 + j)))
theorem pFl_0 {G : zG} {h : Nat → Nat} {F : Nat → Nat → Nat → Nat} {xs : Nat → Nat} {n : Nat} : ∀ w, pLs G h F xs 0 n w → pFl G h F xs n 0 w := zbs_imp (fun i hi w hw => by
  unfold pLy at hw
  rw [Nat.zero_add] at hw
  rw [if_neg (by omega), if_neg (by omega)]
  exact hw)
theorem pFl_n {G : zG} {h h' : Nat → Nat} {F F' : Nat → Nat → Nat → Nat} {xs : Nat → Nat} {n : Nat} (hl : ∀ j, j < n → h' (14 + j) = h (14 + j)) (hm : ∀ j, j < n → h' (20 + j) = h (20 + j)) (hp : ∀ j, j < n → h' (26 + j) = h (26 + j) + 1) (hF : ∀ j, j < n → ∀ c, c < h (14 + j) → ∀ k, k < 36 → F' j c k = F j c k * (100 - h 5) / 100) : ∀ w, pFl G h F xs n n w → pLs G h' F' xs 0 n w := zbs_imp (fun j hj w hw => by
  unfold pLy
  rw [Nat.zero_add, hl j hj, hm j hj, hp j hj]
  rw [if_pos hj, if_pos hj] at hw
  refine LAY_imp (fun c hc k hk => ?_) w hw
  rw [hF j hj c hc k hk]
  exact if_pos hc)
section ZCr
variable {X : zX} {G : zG} {cc : ByteArray} {nL : Nat} {own : String} {A : Nat → Prop} {P : Heap → Prop} {k n pc : Nat} {L : List (Option Value)} {rest : List Value}
theorem zx_castR (hC : zC X G cc nL own) {C : String} {T : u_T} {N a index : Nat} (ci : Nat) (hlink : Cond.classLink own index C ∈ lw_all) (hc : zcl[ci]? = some (C, T, N)) (hr : ∀ H, P H → zrc X C a H) (hd : decode cc pc = .ok (.checkcast index, 3))
    (kk : zV X nL A P k n (pc + 3) L (.ref a :: rest)) : zV X nL A P k n pc L (.ref a :: rest) := fun H locs ls hP hS hl =>
  va_castS hC.1.1 hC.1.2.1 hC.1.2.2.2.1 (hC.1.2.2.2.2 _ hlink) (hC.2.1.1.1 ci _ hc).2 (hr H hP) hd (kk H locs ls hP hS hl)
end ZCr
/-- a pass ends: the state ahead of the fading -/
def hEnd (h : Nat → Nat) : Nat → Nat := va_up (va_up h 1 (h 1 - 2 * rLoop h)) 9 (h 9 + 1)
theorem hEnd_o {h : Nat → Nat} {j : Nat} (h1 : j ≠ 1) (h9 : j ≠ 9) : hEnd h j = h j := by
  unfold hEnd
  rw [va_up_ne _ _ h9, va_up_ne _ _ h1]
theorem ep_26 {h : Nat → Nat} {j : Nat} (hj : j < h 7) : rFadH (hEnd h) (26 + j) = h (26 + j) + 1 := by
  have e7 : hEnd h 7 = h 7 := hEnd_o (by omega) (by omega)
  show rAge (hEnd h) (hEnd h 7) (26 + j) = _
  rw [e7, rAge_at hj, hEnd_o (by omega) (by omega)]
theorem ep_x {G : zG} {h : Nat → Nat} {F : Nat → Nat → Nat → Nat} {xs : Nat → Nat} (gL : rLs h) : ∀ w, pFl G h F xs (h 7) (h 7) w → pLs G (rFadH (hEnd h)) (rFadF (hEnd h) F (h 7)) xs 0 (h 7) w := by
  have g7 := gL.1
  refine pFl_n (fun j hj => ?_) (fun j hj => ?_) (fun j hj => ep_26 hj) (fun j hj c hc k hk => ?_)
  · rw [rFadH_o (by omega), hEnd_o (by omega) (by omega)]
  · rw [rFadH_o (by omega), hEnd_o (by omega) (by omega)]
  · rw [rFadF_at hj c (by rw [hEnd_o (by omega) (by omega)]; exact hc) k hk, hEnd_o (by omega) (by omega)]
theorem rAge_ge {h : Nat → Nat} : ∀ {n l : Nat}, n ≤ l → rAge h n (26 + l) = h (26 + l)
  | 0, _, _ => rfl
  | n + 1, l, hl => by
    show va_up (rAge h n) (26 + n) (rAge h n (26 + n) + 1) (26 + l) = _
    rw [va_up_ne _ _ (by omega)]
    exact rAge_ge (n := n) (by omega)
theorem ep_y {G : zG} {h : Nat → Nat} {F : Nat → Nat → Nat → Nat} {ys : Nat → Nat} (h78 : h 7 + h 8 ≤ 6) : ∀ w, pLs G h F ys (h 7) (h 8) w → pLs G (rFadH (hEnd h)) (rFadF (hEnd h) F (h 7)) ys (h 7) (h 8) w := by
  have e7 : hEnd h 7 = h 7 := hEnd_o (by omega) (by omega)
  refine pLs_cg (fun i hi => ?_) (fun i hi => ?_) (fun i hi => ?_) (fun i hi c _ k _ => ?_)
  · rw [rFadH_o (by omega), hEnd_o (by omega) (by omega)]
  · rw [rFadH_o (by omega), hEnd_o (by omega) (by omega)]
  · show rAge (hEnd h) (hEnd h 7) (26 + (h 7 + i)) = _
    rw [e7, rAge_ge (by omega), hEnd_o (by omega) (by omega)]
  · rw [rFadF_ge (by omega)]
theorem ep_pl {h : Nat → Nat} (hmo : h 0 = 2 ∨ h 0 = 3) : h 1 - 2 * rLoop h = pPl (rFadH (hEnd h)) := by
  unfold pPl
  rw [rFadH_o (by omega), rFadH_o (by omega), hEnd_o (by omega) (by omega), if_pos hmo]
  unfold hEnd
  rw [va_up_ne _ _ (by omega), va_up_self]
theorem ep_be {h : Nat → Nat} : pBe h = pBe (rFadH (hEnd h)) := by
  unfold pBe
  rw [rFadH_o (by omega), rFadH_o (by omega), hEnd_o (by omega) (by omega), hEnd_o (by omega) (by omega)]
theorem ep_run {h : Nat → Nat} : pRun (rFadH (hEnd h)) ↔ pRun h := by
  unfold pRun
  rw [rFadH_o (by omega), hEnd_o (by omega) (by omega)]
theorem ep_tv {h : Nat → Nat} {tk : Nat} : pTv h tk = pTv (rFadH (hEnd h)) tk := by
  by_cases q : pRun h
  · rw [pTv_run q, pTv_run (ep_run.mpr q)]
  · rw [pTv_not q, pTv_not (fun z => q (ep_run.mp z))]
theorem ep_t {G : zG} {tk : Nat} {h : Nat → Nat} {F : Nat → Nat → Nat → Nat} (h7 : h 7 ≤ 6) : ∀ w, pTk G tk h F w → pTk G tk (rFadH (hEnd h)) (rFadF (hEnd h) F (h 7)) w := by
  intro w hw
  by_cases q : pRun h
  · rw [pTk_run q] at hw
    rw [pTk_run (ep_run.mpr q), rFadF_ge h7]
    have e : pTl (rFadH (hEnd h)) = pTl h := by
      unfold pTl
      rw [rFadH_o (by omega), rFadH_o (by omega), hEnd_o (by omega) (by omega), hEnd_o (by omega) (by omega)]
    rw [e]; exact hw
  · rw [pTk_not q] at hw
    rw [pTk_not (fun z => q (ep_run.mp z))]; exact hw
