/-! BASE 4: contracts out of Sims; calls -/
def nwK (w : Cond) : Bool := match w with
  | .fieldLinkNest .. => true
  | .methodLinkNest .. => true
  | .castable .. => true
  | .declares .. => true
  | _ => false
theorem nwK_warm {w : Cond} (h : nwK w = true) {s U : State} (hW : s.WarmedH U.vm) (hZ : va_Nw w s) : va_Nw w U := by
  cases w <;> first | exact va_Nw.warmF hW hZ | exact va_Nw.warmM hW hZ | exact va_Nw.warmC hW hZ | exact va_Nw.warmD hW hZ | cases h
theorem nwK_tab {w : Cond} (h : nwK w = true) : w.onTables = true := by
  cases w <;> first | rfl | cases h
theorem gNw_ok : gNw.all nwK = true := rfl
theorem gFw_ok : ∀ f ∈ gFw, f.2.1.cls ≠ "java/lang/invoke/MethodHandle" ∧ f.2.1.cls ≠ "java/lang/invoke/VarHandle" := by decide +kernel
theorem gPv_ok : ∀ w ∈ gPv, goodWord w = true := by decide +kernel
theorem gPv_tab : ∀ w ∈ gPv, w.onTables = true := by decide +kernel
theorem GOK.warm {G : GT} {s U : State} (hW : s.WarmedH U.vm) (h : GOK G s) : GOK G U := ⟨va_K.moved hW.alike h.1, fun w hw => nwK_warm (List.all_eq_true.mp gNw_ok w hw) hW (h.2.1 w hw), fun f hf => (h.2.2.1 f hf).moved (gFw_ok f hf) hW.alike, fun C hC => (h.2.2.2.1 C hC).moved hW.alike, h.2.2.2.2.1, h.2.2.2.2.2.1.moved hW.alike, fun i q hq => (h.2.2.2.2.2.2.1 i q hq).warm hW, fun w hw => word_at hW (good_of_word (gPv_ok w hw)) (h.2.2.2.2.2.2.2 w hw)⟩
theorem GOK.vm {G : GT} {s U : State} (hv : s.vm = U.vm) (h : GOK G s) : GOK G U := by
  have ha : s.vm.Alike U.vm := by rw [hv]; exact Vm.Alike.refl _
  exact ⟨va_K.moved ha h.1, fun w hw => va_Nw.same (nwK_tab (List.all_eq_true.mp gNw_ok w hw)) hv (h.2.1 w hw), fun f hf => (h.2.2.1 f hf).moved (gFw_ok f hf) ha, fun C hC => (h.2.2.2.1 C hC).moved ha, h.2.2.2.2.1, h.2.2.2.2.2.1.moved ha, fun i q hq => (h.2.2.2.2.2.2.1 i q hq).same hv.symm, fun w hw => va_tabs (gPv_tab w hw) hv (h.2.2.2.2.2.2.2 w hw)⟩
theorem World.warm {G : GT} {s U : State} {B : BH} {H : Heap} (hW : s.WarmedH U.vm) (h : World G s B H) : World G U B H := h.moved hW.alike
def MetN {ρ : Type} (G : GT) (M : MI) (B : BH) (o : ρ → Rv × BH) (x : Option ρ) (av : List Value) : Prop :=
  ∀ r, x = some r → vx_Met (gL G) M.1 (ws_ M.1 M.2.1 M.2.2.1 M.2.2.2.1) (rmOf G M B) (va_Pc av (fun U => World G U B U.heap ∧ GOK G U)) (Qof G (o r)) (Xof G (o r)) (gLC G - B.2.1) (gLS G - B.2.2) (gAA G)
theorem lg_sl1 : ∀ {av : List Value}, (∀ v ∈ av, v.category = 1) → (lg_sl av).length = av.length
  | [], _ => rfl
  | v :: av, h => by
    have h1 := h v List.mem_cons_self
    have h2 := lg_sl1 (av := av) (fun w hw => h w (List.mem_cons_of_mem _ hw))
    unfold lg_sl at h2 ⊢
    rw [List.flatMap_cons, List.length_append, h2, if_neg (by omega)]
    simp
    omega
theorem lv_args1 : ∀ {av : List Value} {k i : Nat} {v : Value}, (∀ v ∈ av, v.category = 1) → av[i]? = some v → (k + i, v) ∈ lv_args k av
  | [], _, _, _, _, e => by simp at e
  | w :: av, k, i, v, h, e => by
    have h1 := h w List.mem_cons_self
    unfold lv_args
    rw [if_neg (by omega)]
    cases i with
    | zero =>
      simp at e
      rw [e]
      exact List.mem_cons_self
    | succ i =>
      have h2 := lv_args1 (av := av) (k := k + 1) (i := i) (v := v) (fun w hw => h w (List.mem_cons_of_mem _ hw)) (by simpa using e)
      rw [show k + (i + 1) = k + 1 + i by omega]
      exact List.mem_cons_of_mem _ h2
def cat1 : List Value → Prop
  | [] => True
  | v :: l => v.category = 1 ∧ cat1 l
theorem cat1_all : ∀ {l : List Value}, cat1 l → ∀ v ∈ l, v.category = 1
  | [], _, v, hv => by cases hv
  | w :: l, h, v, hv => by
    rcases List.mem_cons.mp hv with rfl | hv
    · exact h.1
    · exact cat1_all h.2 v hv
theorem cat1_sum : ∀ {l : List Value}, cat1 l → (l.map fun v => v.category).sum = l.length
  | [], _ => rfl
  | w :: l, h => by
    rw [List.map_cons, List.sum_cons, cat1_sum h.2, h.1, List.length_cons]
    omega
theorem LV_entry {av : List Value} {n : Nat} (hc : cat1 av) (hlen : av.length ≤ n) : LV ((lg_sl av ++ List.replicate (n - (lg_sl av).length) Slot.unset).toArray) n (av.map some ++ List.replicate (n - av.length) none) := by
  have hca := cat1_all hc
  have hL := lv_entry av (n := n) (by rw [lg_sl1 hca]; exact hlen)
  have key : ∀ (i : Nat) (v : Value), (av.map some ++ List.replicate (n - av.length) none)[i]? = some (some v) → av[i]? = some v := by
    intro i v h
    by_cases hi : i < av.length
    · rw [List.getElem?_append_left (by simpa using hi), List.getElem?_map] at h
      cases hx : av[i]? with
      | none => rw [hx] at h; cases h
      | some w => rw [hx] at h; simp at h; rw [h]
    · rw [List.getElem?_append_right (by simpa using hi)] at h
      have := List.mem_of_getElem? h
      simp at this
  refine ⟨⟨hL.1, hL.2.1, fun q hq => ?_⟩, fun i v h => hca v (List.mem_of_getElem? (key i v h))⟩
  have h1 := lv_args1 (k := 0) hca (key q.1 q.2 (la_mem.mp hq))
  rw [Nat.zero_add] at h1
  exact hL.2.2 q h1
theorem mk_met {ρ : Type} {G : GT} {M : MI} {B : BH} {o : ρ → Rv × BH} {x : Option ρ} {av : List Value} {L0 : LL} (hy : plainName M.1.cls = true) (hh : M.2.2.2.2.1 = []) (hc : cat1 av) (hlen : av.length ≤ M.2.2.1) (hL : av.map some ++ List.replicate (M.2.2.1 - av.length) none = L0) (h : Sim G M B o x 0 L0 [] B) : MetN G M B o x av := by
  intro r hr
  refine vx_ofW (cc := M.2.1) (maxL := M.2.2.1) (ret := M.2.2.2.1) hy rfl ?_
  intro p e s m args below meth c s₁ Bd hml hexc hv
  obtain ⟨rfl, hW, hK⟩ := hv
  have hts := atoms_spec (ws := ws_ M.1 M.2.1 M.2.2.1 M.2.2.2.1) Bd.pre
  have he : c.exceptionTable.toList = tableOf M.2.2.2.2.1 := by
    rw [hh, List.eq_nil_iff_forall_not_mem.mpr (fun x hx => hexc x hx)]
    rfl
  have C : CX G M B p s m av.toArray meth c := ⟨Bd.exec, Bd.bytes, Bd.returns, Bd.notSynchronized, hml, findClass_of_methodNamed Bd.named, fun w h => hts w (List.mem_cons_of_mem _ h), hK, by rw [hW.1]; exact hW.2.2.2.1.1, hW.1, hW.2.1, (name_of_methodNamed Bd.named Bd.method).1, he⟩
  rw [lg_entry_eq]
  have k := h r hr p e s m av.toArray below meth c C s.heap [] _ hW va_S.rf (by rw [← hL]; exact LV_entry hc hlen)
  rw [Nat.sub_self, Nat.sub_self] at k
  exact k
section CALLS
theorem tot_le {p : Program} {l : Launch} {e : Env} {R : Room} {s : State} {m : MethodId} {args : Array Value} {below : List Frame} {meth : Method} {c : Code} {T : State} {locs : List Loc} {k n : Nat} (X : Stand p l e R s m args below meth c T locs k n) : tot s.heap ≤ tot T.heap := by
  have b1 := tot_true X.book
  have b0 : s.slotsUsed = tot s.heap := by
    have h := X.room
    simp only [State.hasRoom, Bool.and_eq_true] at h
    exact tot_true h.2
  have e4 : T.slotsUsed = s.slotsUsed + (((T.setVm s.vm).heap.toList.drop s.heap.size).map (·.slots.size)).sum := X.same.2.2.2.1
  omega
variable {ρ ρ' : Type} {G : GT} {M My : MI} {B0 : BH} {o : ρ → Rv × BH} {o' : ρ' → Rv × BH} {x : Option ρ} {x' : Option ρ'} {κ : ρ' → Option ρ} {pc : Nat} {L : LL} {st stk : List Value} {B : BH} {As : List Value} {b idx t N : Nat} {C : String} {T : u_T}
theorem blind {G : GT} {B : BH} {av : List Value} : FrameBlind (va_Pc av (fun U => World G U B U.heap ∧ GOK G U)) := fun a U g mk q => ⟨q.1, World.moved (u := U) (U := U.calling g mk a) (Vm.Alike.refl U.vm) q.2.1, GOK.vm (s := U) (U := U.calling g mk a) rfl q.2.2⟩
/-- behind a call that returns -/
theorem run_k {p : Program} {e : Env} {R : Room} {s : State} {m : MethodId} {args a : Array Value} {below : List Frame} {meth : Method} {c : Code} {H : Heap} {locs : List Loc} {k n mc ms : Nat} {ls : Array Slot} {Q : State → Prop} {r1 : Rv × BH} (hs : s.heap.size = B0.2.1) (ht : tot s.heap = B0.2.2)
    (hrun : vx_Run p (gL G) e R s m args below meth c H locs k n mc ms (F0 m pc ls stk) st (Qof G r1 a) (Xof G r1) (gAA G)) (hS : va_S (gAA G) s.heap H locs) (hk : r1.1.1 < 10)
    (kk : ∀ (H1 : Heap) (locs1 : List Loc), World G s r1.2 H1 → va_S (gAA G) s.heap H1 locs1 → W p (gL G) e R s m args below meth c H1 locs1 (r1.2.2.1 - B0.2.1) (r1.2.2.2 - B0.2.2) Q (F0 m (pc + 3) ls ((rvO r1.1).toList ++ st))) : W p (gL G) e R s m args below meth c H locs k n Q (F0 m pc ls stk) := by
  intro T hT X
  rcases hrun T hT X with ⟨v, st₀, t, T', Lc, h0, X', hL, e1, e2, ⟨⟨-, hv, hW1⟩, hF⟩, stp⟩ | ⟨q, st₀, t, T', Lc, E, ce, h0, X', hL, e1, e2, ⟨⟨h10, -⟩, -⟩, -⟩
  · cases hv
    have hW2 : World G s r1.2 T'.heap := by
      rw [e1]
      exact hW1.moved (by rw [← e2]; exact X'.warmed.alike.symm)
    obtain ⟨-, -, hS'⟩ := vx_keep h0 e1 hS (fun _ _ h => h) (fun _ h => h) hL hF
    have h9 := w_tight (k := k + mc) (n := n + ms) (by rw [hW2.1, hs]; omega) (by rw [hW2.2.1, ht]; omega) (kk T'.heap (locs ++ Lc) hW2 hS')
    obtain ⟨t2, a1, b1⟩ := h9 T' rfl X'
    exact ⟨t2, stp t2 a1, b1⟩
  · omega
theorem s_callV (hM : MetN G My B o' x' (.ref b :: As)) (n : Nat) (hn : As.length = n) (hstk : stk = As.reverse ++ .ref b :: st) (hb : ∃ c, B.1 b = some c ∧ c.1 % 1000 = t) (hC : gCl[t]? = some (C, T, N)) (hw : GoodIn lw_all (wsV M.1.cls idx C My.1 (ws_ My.1 My.2.1 My.2.2.1 My.2.2.2.1)))
    (hd : My.1.cls = C ∧ My.1.cls ≠ "java/lang/invoke/MethodHandle" ∧ My.1.cls ≠ "java/lang/invoke/VarHandle" ∧ (parseMethodDescriptor My.1.desc).map (fun d => d.parameters.length) = some n) (hR : My.2.2.2.2.2.1 + 1 ≤ M.2.2.2.2.2.1 ∧ 8 + (My.2.2.1 + 11) + My.2.2.2.2.2.2 ≤ M.2.2.2.2.2.2)
    (hst : cat1 st) (hst8 : st.length ≤ 8) (hr0 : ∀ r, (o' r).1.1 < 10) (d : decode M.2.1 pc = .ok (.invokevirtual idx, 3)) (kk : ∀ r, Sim G M B0 o (κ r) (pc + 3) L ((rvO (o' r).1).toList ++ st) (o' r).2) : Sim G M B0 o (x'.bind κ) pc L stk B := by
  intro r hr p e s m args below meth c0 C0 H locs ls hW hS hL
  cases hx : x' with
  | none => rw [hx] at hr; cases hr
  | some r1 =>
    rw [hx] at hr
    subst hstk
    intro T0 hT0 X0
    have htl : B0.2.2 ≤ B.2.2 := by
      have := tot_le X0
      rw [hT0, hW.2.1, C0.2.2.2.2.2.2.2.2.2.2.1] at this
      exact this
    have hzl : B0.2.1 ≤ B.2.1 := by
      have := hS.1
      rw [hW.1, C0.2.2.2.2.2.2.2.2.2.1] at this
      exact this
    have hlim := hW.2.2.2.1
    have hts := C0.2.2.2.2.2.2.1
    refine run_k (r1 := o' r1) (a := (Value.ref b :: As).toArray) (mc := gLC G - B.2.1) (ms := gLS G - B.2.2) C0.2.2.2.2.2.2.2.2.2.1 C0.2.2.2.2.2.2.2.2.2.2.1 ?_ hS (hr0 r1) (fun H1 locs1 hW1 hS1 => kk r1 r hr p e s m args below meth c0 C0 H1 locs1 ls hW1 hS1 hL) T0 hT0 X0
    obtain ⟨c, hB, hct⟩ := hb
    have htl9 := gCl_lt hC
    have hat := (cAt_obj (H := H) hct htl9).mp (hW.2.2.1 b c hB).1
    have hP : va_P (gD G) gCl [(b, .inr (t, (List.range (gN t)).map (fV t c.2.2.1 c.2.2.2)))] H := fun k q hq => by
      cases k with
      | zero => cases hq; exact hat
      | succ k => simp at hq
    exact vx_runV (C := C) (n := n) ⟨C0.1, C0.2.1, C0.2.2.2.2.1, C0.2.2.2.2.2.1, hts⟩ (hM r1 hx) (cwV n hts hw rfl rfl rfl hd hR) ⟨blind, va_recv C0.2.2.2.2.2.2.2.1.1 hP hC (q0 := 0) rfl, fun U hU hWm => ⟨rfl, by rw [hU]; exact hW.warm hWm, C0.2.2.2.2.2.2.2.1.warm hWm⟩⟩ rfl hn hL.1.1 rfl (lv_room (by rw [cat1_sum hst]; exact hst8)) d ⟨by show _ ≤ gLC G - B0.2.1; omega, by show _ ≤ gLS G - B0.2.2; omega⟩
theorem s_callS (hM : MetN G My B o' x' As) (n : Nat) (hn : As.length = n) (hstk : stk = As.reverse ++ st) (hw : GoodIn lw_all (va_wsS M.1.cls idx My.1 (ws_ My.1 My.2.1 My.2.2.1 My.2.2.2.1)))
    (hd : My.1.cls ≠ "java/lang/invoke/MethodHandle" ∧ My.1.cls ≠ "java/lang/invoke/VarHandle" ∧ (parseMethodDescriptor My.1.desc).map (fun d => d.parameters.length) = some n) (hR : My.2.2.2.2.2.1 + 1 ≤ M.2.2.2.2.2.1 ∧ 8 + (My.2.2.1 + 11) + My.2.2.2.2.2.2 ≤ M.2.2.2.2.2.2)
    (hst : cat1 st) (hst8 : st.length ≤ 8) (hr0 : ∀ r, (o' r).1.1 < 10) (d : decode M.2.1 pc = .ok (.invokestatic idx, 3)) (kk : ∀ r, Sim G M B0 o (κ r) (pc + 3) L ((rvO (o' r).1).toList ++ st) (o' r).2) : Sim G M B0 o (x'.bind κ) pc L stk B := by
  intro r hr p e s m args below meth c0 C0 H locs ls hW hS hL
  cases hx : x' with
  | none => rw [hx] at hr; cases hr
  | some r1 =>
    rw [hx] at hr
    subst hstk
    intro T0 hT0 X0
    have htl : B0.2.2 ≤ B.2.2 := by
      have := tot_le X0
      rw [hT0, hW.2.1, C0.2.2.2.2.2.2.2.2.2.2.1] at this
      exact this
    have hzl : B0.2.1 ≤ B.2.1 := by
      have := hS.1
      rw [hW.1, C0.2.2.2.2.2.2.2.2.2.1] at this
      exact this
    have hlim := hW.2.2.2.1
    have hts := C0.2.2.2.2.2.2.1
    refine run_k (r1 := o' r1) (a := As.toArray) (mc := gLC G - B.2.1) (ms := gLS G - B.2.2) C0.2.2.2.2.2.2.2.2.2.1 C0.2.2.2.2.2.2.2.2.2.2.1 ?_ hS (hr0 r1) (fun H1 locs1 hW1 hS1 => kk r1 r hr p e s m args below meth c0 C0 H1 locs1 ls hW1 hS1 hL) T0 hT0 X0
    exact vx_runS (n := n) ⟨C0.1, C0.2.1, C0.2.2.2.2.1, C0.2.2.2.2.2.1, hts⟩ (hM r1 hx) (va_cwS n hts hw rfl rfl rfl hd hR) ⟨blind, fun U hU hWm => ⟨rfl, by rw [hU]; exact hW.warm hWm, C0.2.2.2.2.2.2.2.1.warm hWm⟩⟩ rfl hn hL.1.1 rfl (lv_room (by rw [cat1_sum hst]; exact hst8)) d ⟨by show _ ≤ gLC G - B0.2.1; omega, by show _ ≤ gLS G - B0.2.2; omega⟩
end CALLS
