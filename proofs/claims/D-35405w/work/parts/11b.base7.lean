/-! BASE 7: calls of every kind, in general: what comes back, what is thrown on -/
section CALLX
variable {p : Program} {e : Env} {R : Room} {s : State} {m : MethodId} {args a : Array Value} {below : List Frame} {meth : Method} {c : Code} {H : Heap} {locs : List Loc} {k n k' n' mc ms : Nat} {Q : State → Prop} {G : GT} {B0 : BH} {r1 : Rv × BH}
theorem vxw_tight {l : Launch} {g : JFrame} {q : Addr} (hs : H.size ≤ s.heap.size + k') (ht : tot H ≤ tot s.heap + n') (kk : vx_W p l e R s m args below meth c H locs k' n' Q g q) : vx_W p l e R s m args below meth c H locs k n Q g q := by
  intro T hT X
  refine kk T hT { X with same := ?_ }
  obtain ⟨h1, h2, h3, h4, h5, h6⟩ := X.same
  have b1 := tot_true X.book
  have b0 : s.slotsUsed = tot s.heap := by
    have h := X.room
    simp only [State.hasRoom, Bool.and_eq_true] at h
    exact tot_true h.2
  have e4 : T.slotsUsed = s.slotsUsed + (((T.setVm s.vm).heap.toList.drop s.heap.size).map (·.slots.size)).sum := h4
  have hH : tot T.heap = tot H := by rw [hT]
  refine ⟨h1, h2, ?_, h4, by omega, h6⟩
  show T.heap.size ≤ _
  rw [hT]
  exact hs
/-- a thrown object is there: its class E -/
def Thr (s : State) (H : Heap) (E : String) (q : Nat) : Prop := ∃ ce : Cell, H[q]? = some ce ∧ ce.vm = .none ∧ s.vm.findClass E = some ce.cls
theorem run_kx {pc : Nat} {stk st : List Value} {ls : Array Slot} (hs : s.heap.size = B0.2.1) (ht : tot s.heap = B0.2.2)
    (hrun : vx_Run p (gL G) e R s m args below meth c H locs k n mc ms (F0 m pc ls stk) st (Qof G r1 a) (Xof G r1) (gAA G)) (hS : va_S (gAA G) s.heap H locs)
    (kk : r1.1.1 < 10 → ∀ (H1 : Heap) (locs1 : List Loc), World G s r1.2 H1 → va_S (gAA G) s.heap H1 locs1 → W p (gL G) e R s m args below meth c H1 locs1 (r1.2.2.1 - B0.2.1) (r1.2.2.2 - B0.2.2) Q (F0 m (pc + 3) ls ((rvO r1.1).toList ++ st)))
    (kx : 10 ≤ r1.1.1 → ∀ (H1 : Heap) (locs1 : List Loc) (q : Nat), World G s r1.2 H1 → va_S (gAA G) s.heap H1 locs1 → Thr s H1 (xN r1.1.1) q → vx_W p (gL G) e R s m args below meth c H1 locs1 (r1.2.2.1 - B0.2.1) (r1.2.2.2 - B0.2.2) Q (F0 m pc ls st) q) : W p (gL G) e R s m args below meth c H locs k n Q (F0 m pc ls stk) := by
  intro T hT X
  rcases hrun T hT X with ⟨v, st₀, t, T', Lc, h0, X', hL, e1, e2, ⟨⟨hk, hv, hW1⟩, hF⟩, stp⟩ | ⟨q, st₀, t, T', Lc, E, ce, h0, X', hL, e1, e2, ⟨⟨h10, hE, hW1⟩, hF⟩, hce, hcv, hcl, stp⟩
  · cases hv
    have hW2 : World G s r1.2 T'.heap := by
      rw [e1]
      exact hW1.moved (by rw [← e2]; exact X'.warmed.alike.symm)
    obtain ⟨-, -, hS'⟩ := vx_keep h0 e1 hS (fun _ _ h => h) (fun _ h => h) hL hF
    have h9 := w_tight (k := k + mc) (n := n + ms) (by rw [hW2.1, hs]; omega) (by rw [hW2.2.1, ht]; omega) (kk hk T'.heap (locs ++ Lc) hW2 hS')
    obtain ⟨t2, a1, b1⟩ := h9 T' rfl X'
    exact ⟨t2, stp t2 a1, b1⟩
  · subst hE
    have hW2 : World G s r1.2 T'.heap := by
      rw [e1]
      exact hW1.moved (by rw [← e2]; exact X'.warmed.alike.symm)
    obtain ⟨-, -, hS'⟩ := vx_keep h0 e1 hS (fun _ _ h => h) (fun _ h => h) hL hF
    have h9 := vxw_tight (k := k + mc) (n := n + ms) (by rw [hW2.1, hs]; omega) (by rw [hW2.2.1, ht]; omega) (kx h10 T'.heap (locs ++ Lc) q hW2 hS' ⟨ce, by rw [e1]; exact hce, hcv, hcl⟩)
    obtain ⟨t2, a1, b1⟩ := h9 T' rfl X'
    exact ⟨t2, stp.trans a1, b1⟩
theorem run_kx5 {pc : Nat} {stk st : List Value} {ls : Array Slot} (hs : s.heap.size = B0.2.1) (ht : tot s.heap = B0.2.2)
    (hrun : vx_Run5 p (gL G) e R s m args below meth c H locs k n mc ms (F0 m pc ls stk) st (Qof G r1 a) (Xof G r1) (gAA G)) (hS : va_S (gAA G) s.heap H locs)
    (kk : r1.1.1 < 10 → ∀ (H1 : Heap) (locs1 : List Loc), World G s r1.2 H1 → va_S (gAA G) s.heap H1 locs1 → W p (gL G) e R s m args below meth c H1 locs1 (r1.2.2.1 - B0.2.1) (r1.2.2.2 - B0.2.2) Q (F0 m (pc + 5) ls ((rvO r1.1).toList ++ st)))
    (kx : 10 ≤ r1.1.1 → ∀ (H1 : Heap) (locs1 : List Loc) (q : Nat), World G s r1.2 H1 → va_S (gAA G) s.heap H1 locs1 → Thr s H1 (xN r1.1.1) q → vx_W p (gL G) e R s m args below meth c H1 locs1 (r1.2.2.1 - B0.2.1) (r1.2.2.2 - B0.2.2) Q (F0 m pc ls st) q) : W p (gL G) e R s m args below meth c H locs k n Q (F0 m pc ls stk) := by
  intro T hT X
  rcases hrun T hT X with ⟨v, st₀, t, T', Lc, h0, X', hL, e1, e2, ⟨⟨hk, hv, hW1⟩, hF⟩, stp⟩ | ⟨q, st₀, t, T', Lc, E, ce, h0, X', hL, e1, e2, ⟨⟨h10, hE, hW1⟩, hF⟩, hce, hcv, hcl, stp⟩
  · cases hv
    have hW2 : World G s r1.2 T'.heap := by
      rw [e1]
      exact hW1.moved (by rw [← e2]; exact X'.warmed.alike.symm)
    obtain ⟨-, -, hS'⟩ := vx_keep h0 e1 hS (fun _ _ h => h) (fun _ h => h) hL hF
    have h9 := w_tight (k := k + mc) (n := n + ms) (by rw [hW2.1, hs]; omega) (by rw [hW2.2.1, ht]; omega) (kk hk T'.heap (locs ++ Lc) hW2 hS')
    obtain ⟨t2, a1, b1⟩ := h9 T' rfl X'
    exact ⟨t2, stp t2 a1, b1⟩
  · subst hE
    have hW2 : World G s r1.2 T'.heap := by
      rw [e1]
      exact hW1.moved (by rw [← e2]; exact X'.warmed.alike.symm)
    obtain ⟨-, -, hS'⟩ := vx_keep h0 e1 hS (fun _ _ h => h) (fun _ h => h) hL hF
    have h9 := vxw_tight (k := k + mc) (n := n + ms) (by rw [hW2.1, hs]; omega) (by rw [hW2.2.1, ht]; omega) (kx h10 T'.heap (locs ++ Lc) q hW2 hS' ⟨ce, by rw [e1]; exact hce, hcv, hcl⟩)
    obtain ⟨t2, a1, b1⟩ := h9 T' rfl X'
    exact ⟨t2, stp.trans a1, b1⟩
end CALLX
section CALLS
variable {ρ ρ' : Type} {G : GT} {M My : MI} {B0 : BH} {o : ρ → Rv × BH} {o' : ρ' → Rv × BH} {x : Option ρ} {x' : Option ρ'} {κ : ρ' → Option ρ} {pc : Nat} {L : LL} {st stk : List Value} {B : BH} {As : List Value} {b idx t N : Nat} {C : String} {T : u_T}
/-- what a call of the contract x' from here is: in every context of the method's body -/
def CRun {ρ' : Type} (G : GT) (M : MI) (B0 : BH) (pc : Nat) (L : LL) (stk st : List Value) (B : BH) (r1 : Rv × BH) : Prop :=
  ∀ (p : Program) (e : Env) (s : State) (m : MethodId) (args : Array Value) (below : List Frame) (meth : Method) (c : Code), CX G M B0 p s m args meth c → ∀ (H : Heap) (locs : List Loc) (ls : Array Slot), World G s B H → va_S (gAA G) s.heap H locs → LV ls M.2.2.1 L → B0.2.1 ≤ B.2.1 → B0.2.2 ≤ B.2.2 →
    ∃ a, vx_Run p (gL G) e (rmOf G M B0) s m args below meth c H locs (B.2.1 - B0.2.1) (B.2.2 - B0.2.2) (gLC G - B.2.1) (gLS G - B.2.2) (F0 m pc ls stk) st (Qof G r1 a) (Xof G r1) (gAA G)
def CRun5 {ρ' : Type} (G : GT) (M : MI) (B0 : BH) (pc : Nat) (L : LL) (stk st : List Value) (B : BH) (r1 : Rv × BH) : Prop :=
  ∀ (p : Program) (e : Env) (s : State) (m : MethodId) (args : Array Value) (below : List Frame) (meth : Method) (c : Code), CX G M B0 p s m args meth c → ∀ (H : Heap) (locs : List Loc) (ls : Array Slot), World G s B H → va_S (gAA G) s.heap H locs → LV ls M.2.2.1 L → B0.2.1 ≤ B.2.1 → B0.2.2 ≤ B.2.2 →
    ∃ a, vx_Run5 p (gL G) e (rmOf G M B0) s m args below meth c H locs (B.2.1 - B0.2.1) (B.2.2 - B0.2.2) (gLC G - B.2.1) (gLS G - B.2.2) (F0 m pc ls stk) st (Qof G r1 a) (Xof G r1) (gAA G)
theorem s_run (hr : ∀ r, x' = some r → CRun (ρ' := ρ') G M B0 pc L stk st B (o' r)) (hr0 : ∀ r, (o' r).1.1 < 10) (kk : ∀ r, Sim G M B0 o (κ r) (pc + 3) L ((rvO (o' r).1).toList ++ st) (o' r).2) : Sim G M B0 o (x'.bind κ) pc L stk B := by
  intro r hr9 p e s m args below meth c0 C0 H locs ls hW hS hL
  cases hx : x' with
  | none => rw [hx] at hr9; cases hr9
  | some r1 =>
    rw [hx] at hr9
    refine W.stand fun htot => ?_
    have htl : B0.2.2 ≤ B.2.2 := by
      rw [hW.2.1, C0.2.2.2.2.2.2.2.2.2.2.1] at htot
      exact htot
    have hzl : B0.2.1 ≤ B.2.1 := by
      have := hS.1
      rw [hW.1, C0.2.2.2.2.2.2.2.2.2.1] at this
      exact this
    obtain ⟨a, h1⟩ := hr r1 hx p e s m args below meth c0 C0 H locs ls hW hS hL hzl htl
    exact run_kx C0.2.2.2.2.2.2.2.2.2.1 C0.2.2.2.2.2.2.2.2.2.2.1 h1 hS (fun _ H1 locs1 hW1 hS1 => kk r1 r hr9 p e s m args below meth c0 C0 H1 locs1 ls hW1 hS1 hL) (fun h10 => by have := hr0 r1; omega)
theorem s_run5 (hr : ∀ r, x' = some r → CRun5 (ρ' := ρ') G M B0 pc L stk st B (o' r)) (hr0 : ∀ r, (o' r).1.1 < 10) (kk : ∀ r, Sim G M B0 o (κ r) (pc + 5) L ((rvO (o' r).1).toList ++ st) (o' r).2) : Sim G M B0 o (x'.bind κ) pc L stk B := by
  intro r hr9 p e s m args below meth c0 C0 H locs ls hW hS hL
  cases hx : x' with
  | none => rw [hx] at hr9; cases hr9
  | some r1 =>
    rw [hx] at hr9
    refine W.stand fun htot => ?_
    have htl : B0.2.2 ≤ B.2.2 := by
      rw [hW.2.1, C0.2.2.2.2.2.2.2.2.2.2.1] at htot
      exact htot
    have hzl : B0.2.1 ≤ B.2.1 := by
      have := hS.1
      rw [hW.1, C0.2.2.2.2.2.2.2.2.2.1] at this
      exact this
    obtain ⟨a, h1⟩ := hr r1 hx p e s m args below meth c0 C0 H locs ls hW hS hL hzl htl
    exact run_kx5 C0.2.2.2.2.2.2.2.2.2.1 C0.2.2.2.2.2.2.2.2.2.2.1 h1 hS (fun _ H1 locs1 hW1 hS1 => kk r1 r hr9 p e s m args below meth c0 C0 H1 locs1 ls hW1 hS1 hL) (fun h10 => by have := hr0 r1; omega)
/-- a body without handlers: what is thrown goes on -/
def bX (x' : Option (Rv × BH)) (κ : Rv → BH → Option (Rv × BH)) : Option (Rv × BH) := x'.bind fun r => if r.1.1 < 10 then κ r.1 r.2 else some r
theorem tabN {c : Code} {pc : Nat} (h : c.exceptionTable.toList = tableOf []) : ∀ x ∈ c.exceptionTable.toList, covers x pc = false := by
  intro x hx
  rw [h] at hx
  cases hx
theorem s_runX {x' : Option (Rv × BH)} {κ : Rv → BH → Option (Rv × BH)} (hh : M.2.2.2.2.1 = []) (hr : ∀ r, x' = some r → CRun (ρ' := Rv × BH) G M B0 pc L stk st B r) (kk : ∀ v B', v.1 < 10 → Sim G M B0 id (κ v B') (pc + 3) L ((rvO v).toList ++ st) B') : Sim G M B0 id (bX x' κ) pc L stk B := by
  intro r hr9 p e s m args below meth c0 C0 H locs ls hW hS hL
  cases hx : x' with
  | none => rw [hx] at hr9; cases hr9
  | some r1 =>
    rw [hx] at hr9
    refine W.stand fun htot => ?_
    have htl : B0.2.2 ≤ B.2.2 := by
      rw [hW.2.1, C0.2.2.2.2.2.2.2.2.2.2.1] at htot
      exact htot
    have hzl : B0.2.1 ≤ B.2.1 := by
      have := hS.1
      rw [hW.1, C0.2.2.2.2.2.2.2.2.2.1] at this
      exact this
    obtain ⟨a, h1⟩ := hr r1 hx p e s m args below meth c0 C0 H locs ls hW hS hL hzl htl
    have hr8 : (if r1.1.1 < 10 then κ r1.1 r1.2 else some r1) = some r := hr9
    refine run_kx C0.2.2.2.2.2.2.2.2.2.1 C0.2.2.2.2.2.2.2.2.2.2.1 h1 hS (fun h10 H1 locs1 hW1 hS1 => kk r1.1 r1.2 h10 r (by rwa [if_pos h10] at hr8) p e s m args below meth c0 C0 H1 locs1 ls hW1 hS1 hL) (fun h10 H1 locs1 q hW1 hS1 ht => ?_)
    rw [if_neg (by omega)] at hr8
    cases hr8
    obtain ⟨ce, t1, t2, t3⟩ := ht
    refine vx_out (E := xN r.1.1) (tabN (by rw [C0.2.2.2.2.2.2.2.2.2.2.2.2, hh])) C0.2.2.2.1 t1 t2 t3 (fun t ht hA => ⟨⟨h10, rfl, by rw [ht]; exact hW1.moved hA⟩, hS1.F ht⟩) hS1.2.2 (Nat.sub_le_sub_right hW1.2.2.2.1.2.1 _) (Nat.sub_le_sub_right hW1.2.2.2.1.2.2 _)
/-! the kinds of calls -/
abbrev rOK (M My : MI) : Prop := My.2.2.2.2.2.1 + 1 ≤ M.2.2.2.2.2.1 ∧ 8 + (My.2.2.1 + 11) + My.2.2.2.2.2.2 ≤ M.2.2.2.2.2.2
abbrev wsM (My : MI) : List Cond := ws_ My.1 My.2.1 My.2.2.1 My.2.2.2.1
abbrev dOK (y : MethodName) (n : Nat) : Prop := y.cls ≠ "java/lang/invoke/MethodHandle" ∧ y.cls ≠ "java/lang/invoke/VarHandle" ∧ (parseMethodDescriptor y.desc).map (fun d => d.parameters.length) = some n
theorem World.recv {s : State} {H : Heap} (hW : World G s B H) (hK : GOK G s) {a : Nat} {c : PC4} (hB : B.1 a = some c) (ht : c.1 % 1000 = t) (hC : gCl[t]? = some (C, T, N)) : ∃ cell : Cell, H[a]? = some cell ∧ cell.vm.isStatics = false ∧ s.vm.findClass C = some cell.cls :=
  va_recv hK.1 (hW.one hB ht (gCl_lt hC)) hC (q0 := 0) rfl
theorem cr_V (hM : MetN G My B o' x' (.ref b :: As)) (n : Nat) (hn : As.length = n) (hstk : stk = As.reverse ++ .ref b :: st) (hb : ∃ c, B.1 b = some c ∧ c.1 % 1000 = t) (hC : gCl[t]? = some (C, T, N)) (hw : GoodIn lw_all (wsV M.1.cls idx C My.1 (wsM My))) (hd : My.1.cls = C ∧ dOK My.1 n) (hR : rOK M My) (hst : cat1 st) (hst8 : st.length ≤ 8) (d : decode M.2.1 pc = .ok (.invokevirtual idx, 3)) : ∀ r, x' = some r → CRun (ρ' := ρ') G M B0 pc L stk st B (o' r) := by
  intro r hx p e s m args below meth c0 C0 H locs ls hW hS hL hzl htl
  subst hstk
  obtain ⟨c, hB, hct⟩ := hb
  have hlim := hW.2.2.2.1
  exact ⟨_, vx_runV (C := C) (n := n) ⟨C0.1, C0.2.1, C0.2.2.2.2.1, C0.2.2.2.2.2.1, C0.2.2.2.2.2.2.1⟩ (hM r hx) (cwV n C0.2.2.2.2.2.2.1 hw rfl rfl rfl hd hR) ⟨blind, hW.recv C0.2.2.2.2.2.2.2.1 hB hct hC, fun U hU hWm => ⟨rfl, by rw [hU]; exact hW.warm hWm, C0.2.2.2.2.2.2.2.1.warm hWm⟩⟩ rfl hn hL.1.1 rfl (lv_room (by rw [cat1_sum hst]; exact hst8)) d ⟨by show _ ≤ gLC G - B0.2.1; omega, by show _ ≤ gLS G - B0.2.2; omega⟩⟩
theorem cr_S (hM : MetN G My B o' x' As) (n : Nat) (hn : As.length = n) (hstk : stk = As.reverse ++ st) (hw : GoodIn lw_all (va_wsS M.1.cls idx My.1 (wsM My))) (hd : dOK My.1 n) (hR : rOK M My) (hst : cat1 st) (hst8 : st.length ≤ 8) (d : decode M.2.1 pc = .ok (.invokestatic idx, 3)) : ∀ r, x' = some r → CRun (ρ' := ρ') G M B0 pc L stk st B (o' r) := by
  intro r hx p e s m args below meth c0 C0 H locs ls hW hS hL hzl htl
  subst hstk
  have hlim := hW.2.2.2.1
  exact ⟨_, vx_runS (n := n) ⟨C0.1, C0.2.1, C0.2.2.2.2.1, C0.2.2.2.2.2.1, C0.2.2.2.2.2.2.1⟩ (hM r hx) (va_cwS n C0.2.2.2.2.2.2.1 hw rfl rfl rfl hd hR) ⟨blind, fun U hU hWm => ⟨rfl, by rw [hU]; exact hW.warm hWm, C0.2.2.2.2.2.2.2.1.warm hWm⟩⟩ rfl hn hL.1.1 rfl (lv_room (by rw [cat1_sum hst]; exact hst8)) d ⟨by show _ ≤ gLC G - B0.2.1; omega, by show _ ≤ gLS G - B0.2.2; omega⟩⟩
theorem cr_I (hret : My.2.2.2.1 = none) (hM : MetN G My B o' x' (.ref b :: As)) (n : Nat) (hn : As.length = n) (hstk : stk = As.reverse ++ .ref b :: st) (hw : GoodIn lw_all (wsM My)) (q1 : Cond.initialized My.1.cls ∈ lw_all) (q2 : Cond.methodLink M.1.cls idx My.1 ∈ lw_all) (q3 : Cond.instanceMethod My.1 ∈ lw_all) (hy : My.1.name = "<init>") (hd : dOK My.1 n) (hR : rOK M My) (hst : cat1 st) (hst8 : st.length ≤ 8) (d : decode M.2.1 pc = .ok (.invokespecial idx, 3)) : ∀ r, x' = some r → CRun (ρ' := ρ') G M B0 pc L stk st B (o' r) := by
  intro r hx p e s m args below meth c0 C0 H locs ls hW hS hL hzl htl
  subst hstk
  have hlim := hW.2.2.2.1
  have hts := C0.2.2.2.2.2.2.1
  have hM1 := hM r hx
  rw [hret] at hM1
  unfold wsM at hw
  rw [hret] at hw
  exact ⟨_, vx_runI (bytes := My.2.1) (maxL := My.2.2.1) (n := n) ⟨C0.1, C0.2.1, C0.2.2.2.2.1, C0.2.2.2.2.2.1, hts⟩ hM1 (cwI n hts hw rfl rfl rfl (hts _ q1) (hts _ q2) (hts _ q3) hy hd hR) ⟨blind, fun U hU hWm => ⟨rfl, by rw [hU]; exact hW.warm hWm, C0.2.2.2.2.2.2.2.1.warm hWm⟩⟩ rfl hn hL.1.1 rfl (lv_room (by rw [cat1_sum hst]; exact hst8)) d ⟨by show _ ≤ gLC G - B0.2.1; omega, by show _ ≤ gLS G - B0.2.2; omega⟩⟩
theorem cr_IN {host : String} (hret : My.2.2.2.1 = none) (hM : MetN G My B o' x' (.ref b :: As)) (n : Nat) (hn : As.length = n) (hstk : stk = As.reverse ++ .ref b :: st) (hw : GoodIn lw_all (wsM My)) (q1 : Cond.initialized My.1.cls ∈ lw_all) (q2 : Cond.methodLinkNest M.1.cls idx My.1 host ∈ gNw) (q3 : Cond.instanceMethod My.1 ∈ lw_all) (hy : My.1.name = "<init>") (hd : dOK My.1 n) (hR : rOK M My) (hst : cat1 st) (hst8 : st.length ≤ 8) (d : decode M.2.1 pc = .ok (.invokespecial idx, 3)) : ∀ r, x' = some r → CRun (ρ' := ρ') G M B0 pc L stk st B (o' r) := by
  intro r hx p e s m args below meth c0 C0 H locs ls hW hS hL hzl htl
  subst hstk
  have hlim := hW.2.2.2.1
  have hts := C0.2.2.2.2.2.2.1
  have hM1 := hM r hx
  rw [hret] at hM1
  unfold wsM at hw
  rw [hret] at hw
  exact ⟨_, vx_runIN (bytes := My.2.1) (maxL := My.2.2.1) (n := n) ⟨C0.1, C0.2.1, C0.2.2.2.2.1, C0.2.2.2.2.2.1, hts⟩ hM1 ⟨va_cnB n hts hw rfl rfl rfl (C0.2.2.2.2.2.2.2.1.2.1 _ q2) (hts _ q1) hd hR, hy, hts _ q3⟩ ⟨blind, fun U hU hWm => ⟨rfl, by rw [hU]; exact hW.warm hWm, C0.2.2.2.2.2.2.2.1.warm hWm⟩⟩ rfl hn hL.1.1 rfl (lv_room (by rw [cat1_sum hst]; exact hst8)) d ⟨by show _ ≤ gLC G - B0.2.1; omega, by show _ ≤ gLS G - B0.2.2; omega⟩⟩
theorem cr_F {xm : MethodName} {cnt : Nat} (hM : MetN G My B o' x' (.ref b :: As)) (n : Nat) (hn : As.length = n) (hstk : stk = As.reverse ++ .ref b :: st) (hb : ∃ c, B.1 b = some c ∧ c.1 % 1000 = t) (hC : gCl[t]? = some (C, T, N)) (hw : GoodIn lw_all (va_wsF M.1.cls idx C xm My.1 (wsM My))) (hF : (C, xm, My.1) ∈ gFw) (hd : dOK xm n) (hR : rOK M My) (hst : cat1 st) (hst8 : st.length ≤ 8) (d : decode M.2.1 pc = .ok (.invokeinterface idx cnt, 5)) : ∀ r, x' = some r → CRun5 (ρ' := ρ') G M B0 pc L stk st B (o' r) := by
  intro r hx p e s m args below meth c0 C0 H locs ls hW hS hL hzl htl
  subst hstk
  obtain ⟨c, hB, hct⟩ := hb
  have hlim := hW.2.2.2.1
  have hts := C0.2.2.2.2.2.2.1
  exact ⟨_, vx_runF (C := C) (n := n) (C0.2.2.2.2.2.2.2.1.1.1 t _ hC).2 ⟨C0.1, C0.2.1, C0.2.2.2.2.1, C0.2.2.2.2.2.1, hts⟩ (hM r hx) (va_cwF n hts hw rfl rfl rfl (C0.2.2.2.2.2.2.2.1.2.2.1 _ hF) hd hR) ⟨blind, hW.recv C0.2.2.2.2.2.2.2.1 hB hct hC, fun U hU hWm => ⟨rfl, by rw [hU]; exact hW.warm hWm, C0.2.2.2.2.2.2.2.1.warm hWm⟩⟩ rfl hn hL.1.1 rfl (lv_room (by rw [cat1_sum hst]; exact hst8)) d ⟨by show _ ≤ gLC G - B0.2.1; omega, by show _ ≤ gLS G - B0.2.2; omega⟩⟩
end CALLS
