/-! BASE 11: String constants; throwing -/
section ROWS11
variable {ρ : Type} {G : GT} {M : MI} {B0 : BH} {o : ρ → Rv × BH} {x y : Option ρ} {pc idx t N : Nat} {C : String} {T : u_T} {L : LL} {st stk : List Value} {B : BH} {e e1 e2 : Option Nat} {K : KT}
theorem h_ldcS {i : Nat} {own tx : String} (hK : KOK G K) (hc : M.1.cls = own) (hi : gStr[i]? = some (own, idx, tx)) (d : decode M.2.1 pc = .ok (.ldc idx, 2)) (kk : Sim G M B0 o x (pc + 2) L (va_rf (K.2.2.2.2 (100 + i)) :: st) B) : Sim G M B0 o x pc L st B := kk.step fun C h => by
  have hl : i < gStr.length := (List.getElem?_eq_some_iff.mp hi).1
  rw [hK.2.2.2.2.2 i hl] at h
  exact va_ldcS C.1 C.2.1 (by rw [← hc]; exact C.2.2.2.2.2.1) (C.2.2.2.2.2.2.2.1.2.2.2.2.2.2.1 i _ hi) d h
theorem h_ldcSW {i : Nat} {own tx : String} (hK : KOK G K) (hc : M.1.cls = own) (hi : gStr[i]? = some (own, idx, tx)) (d : decode M.2.1 pc = .ok (.ldc_w idx, 3)) (kk : Sim G M B0 o x (pc + 3) L (va_rf (K.2.2.2.2 (100 + i)) :: st) B) : Sim G M B0 o x pc L st B := kk.step fun C h => by
  have hl : i < gStr.length := (List.getElem?_eq_some_iff.mp hi).1
  rw [hK.2.2.2.2.2 i hl] at h
  have hZ := C.2.2.2.2.2.2.2.1.2.2.2.2.2.2.1 i _ hi
  intro T hT X
  obtain ⟨t, a1, b1⟩ := h T hT X
  exact ⟨t, X.ldcStringW C.1 (by rw [← hc]; exact C.2.2.2.2.2.1) (text := tx) hZ.1 hZ.2 (g := F0 _ pc _ st) rfl (by rw [C.2.1]; exact d) t a1, b1⟩
/-- the exception e of class tag t is made up and thrown as kind k -/
def delB (B : BH) (a : Nat) : BH := (fun q => if q = a then none else B.1 q, B.2)
def thr (B : BH) (e : Option Nat) (k : Nat) : Option (Rv × BH) := (cell B e).bind fun c => ck (c.1 = 2009 + k) (some ((k, 0, none), delB B (e.getD 0)))
def nwX {ρ : Type} (K : KT) (B : BH) (t : Nat) (κ : Option Nat → BH → Option ρ) : Option ρ := ck (rmK K B (gN t)) (κ (some B.2.1) (pushB B (2000 + t, 0, fun _ => 0, fun _ => none) (gN t)))
def xNames : List String := ["java/lang/RuntimeException", "java/lang/Exception"]
theorem xN_fit (k : Nat) : Bundle.fit (xN k) = true := by
  unfold xN
  split
  · decide +kernel
  · split
    · decide +kernel
    · decide +kernel
theorem xNames_fit : ∀ n ∈ xNames, Bundle.fit n = true := by decide +kernel
theorem xCl {k : Nat} (hk : k = 10 ∨ k = 11 ∨ k = 12) : ∃ q : vw_C, gCl[9 + k]? = some q ∧ q.1 = xN k := by
  rcases hk with rfl | rfl | rfl <;> exact ⟨_, rfl, rfl⟩
theorem back9L {p : Program} {l : Launch} {e : Env} {R : Room} {s : State} {m : MethodId} {args : Array Value} {below : List Frame} {meth : Method} {c : Code} {locs L9 : List Loc} {cells slots : Nat} {T S : State} {R' : Room} {k n : Nat} (X : Stand p l e R s m args below meth c T locs cells slots) (Y : Stand p l e R' ((T.setVm s.vm).setFrames (.invoking m args :: below)) m args below meth c T [] 0 0) (Z : Stand p l e R' ((T.setVm s.vm).setFrames (.invoking m args :: below)) m args below meth c S ([] ++ L9) k n) :
    Stand p l e R s m args below meth c S (locs ++ L9) (cells + k) (slots + n) := by
  have hW0 : s.WarmedH ((T.setVm s.vm).setFrames (.invoking m args :: below)).vm := State.WarmedH.refl s
  refine { admits := X.admits, cas := X.cas, clock := X.clock, frames := X.frames, room := X.room, hears := X.hears, method := X.method, code := X.code, here := Z.here, tail := Z.tail, warmed := State.WarmedH.trans hW0 Z.warmed, limits := Z.limits.trans (Y.limits.symm.trans X.limits), bytes := Z.bytes.trans (Y.bytes.symm.trans X.bytes), same := ?_ }
  obtain ⟨e1, e2⟩ := Z.same
  rw [State.setFrames_setFrames] at e1
  have h2 : (T.setVm s.vm).sameButNew (S.setVm s.vm) ([] ++ L9) k n := ⟨e1, e2⟩
  exact X.same.trans h2
theorem h_throw {k ic : Nat} {own : String} {m : Option Nat} (hc : M.1.cls = own) (hh : M.2.2.2.2.1 = []) (hk : k = 10 ∨ k = 11 ∨ k = 12) (hw : ∀ w ∈ vx_atS own ic (xN k) xNames, w ∈ lw_all ∨ w ∈ gNw) (hgood : ∀ w ∈ vx_atS own ic (xN k) xNames, vx_ot w = true) (hR : 6 ≤ M.2.2.2.2.2.1 ∧ 100 ≤ M.2.2.2.2.2.2) (hst : cat1 st) (hst8 : st.length ≤ 8) (d6 : decode M.2.1 pc = .ok (.invokespecial ic, 3)) (d9 : decode M.2.1 (pc + 3) = .ok (.athrow, 1)) : Sim G M B0 id (thr B e k) pc L (va_rf m :: va_rf e :: va_rf e :: st) B :=
  Sim.cell fun a c he hB => Sim.ck fun ht => fun r hr p ev s mm args below meth c0 C0 H locs ls hW hS hL => by
    subst he
    cases hr
    have hts := C0.2.2.2.2.2.2.1
    have hG := C0.2.2.2.2.2.2.2.1
    obtain ⟨w1, w2, w3, w4, w5, w6⟩ := hW
    obtain ⟨hga, cX, kX, hkX, hcell⟩ := w6 a c hB (by omega)
    obtain ⟨q, hq, hqx⟩ := xCl hk
    have hKn := hG.1.1 (9 + k) q hq
    have hfX : s.vm.findClass (xN k) = some ((gD G).1 (9 + k)) := by rw [← hqx]; exact hKn.2.1
    have hcX : (gD G).1 (9 + k) = cX := by
      obtain ⟨r9, _, hOB⟩ := (cAt_obj (H := H) (t := 9 + k) (by show c.1 % 1000 = _; omega) (by omega)).mp (w3 a c hB).1
      obtain ⟨ce, h1, h2, -⟩ := hOB
      rw [hcell] at h1
      cases h1
      exact h2.symm
    intro T hT X
    have hl9 : (gL G).stackTraces = false := by unfold Launch.stackTraces; rw [hG.2.2.2.2.1]; decide +kernel
    have htr : ev.platform.stackTraces = false := (show ev.platform.stackTraces = (gL G).stackTraces by rw [X.admits.platform]).trans hl9
    have Y := vx_rebase X (R' := { frames := M.2.2.2.2.2.1, locals := M.2.2.2.2.2.2, cells := 0, slots := 0 }) (Nat.le_refl _) (Nat.le_refl _) (Nat.sub_le_sub_right w4.2.1 _) (Nat.sub_le_sub_right w4.2.2 _)
    obtain ⟨s', hA⟩ : ∃ z, z = (T.setVm s.vm).setFrames (.invoking mm args :: below) := ⟨_, rfl⟩
    rw [← hA] at Y
    have hvm : s'.vm = s.vm := by rw [hA]; rfl
    have hhp : s'.heap = H := by rw [hA]; exact hT
    have hW0 : s.WarmedH s'.vm := by rw [hvm]; exact State.WarmedH.refl s
    have hat0 : ∀ w ∈ vx_atS own ic (xN k) xNames, w.before args s = true := fun w h9 => (hw w h9).elim (fun z => hts w z) (fun z => va_Nw.use (nwK_tab (List.all_eq_true.mp gNw_ok w z)) (hG.2.1 w z))
    have hat' : ∀ w ∈ vx_atS own ic (xN k) xNames, w.before args s' = true := fun w h9 => vx_ot_at hW0 hvm.symm (hgood w h9) (hat0 w h9)
    have hz' : Wz G s' s'.heap := by rw [hhp]; exact w5.moved hW0.alike
    have h : ∀ w ∈ Bundle.ownAtoms own ic (xN k) xNames, w.before args s' = true := vx_own hat' (vx_isRefq hz'.2.1.1) (vx_isRefq hz'.2.2.1) hz'.2.1.2.word hz'.2.2.2.word
    have hcellA : T.heap[a]? = some (freshCell cX kX) := by rw [hT]; exact hcell
    have hcat : (Value.ref a).category = 1 := rfl
    have hs1 := cat1_sum hst
    obtain ⟨V, ce, L9, Z, hL9, hlt, hcl9, hvm9, sgo⟩ := ctorMadeT (W := T) (g := { method := mm, pc := pc, locals := ls, stack := va_rf m :: .ref a :: .ref a :: st, locked := none }) Y C0.1 htr (own := own) (cls := xN k) (names := xNames) (ic := ic) (by rw [hvm, ← hc]; exact C0.2.2.2.2.2.1) (xN_fit k) xNames_fit h (fun x hx => nomatch hx) (cX := cX) (kX := kX) (by rw [hvm, hfX, hcX]) (by rw [hvm]; exact hkX) hcellA (fun cell h9 => by rw [hhp, hcell] at h9; cases h9; rfl) (msg := va_rf m) (by cases m <;> rfl) rfl (hL.1.1.trans C0.2.2.2.2.1.symm) (rest := st) rfl (by rw [C0.2.1]; exact d6) (by show 2 + 3 < _; exact hR.1) (by simp only [List.map_cons, List.sum_cons, hcat, hs1]; show 2 * 0 + (1 + st.length) + (13 * (2 + 1) + 42) ≤ _; have := hR.2; omega)
    have hcl : s.vm.findClass (xN k) = some ce.cls := by rw [hcl9, hfX, hcX]
    have hh1 : (V.setCell a ce).heap[a]? = some ce := heapAt_setCell_self (s := V) ce hlt
    obtain ⟨f1, f2⟩ := vx_frame Z.same
    obtain ⟨-, -, z3, -, -, z6⟩ := Z.same
    have z3' : (V.setCell a ce).heap.size ≤ s'.heap.size + 0 := z3
    have hq1 : ∀ q : Nat, q ≠ a → (V.setCell a ce).heap[q]? = H[q]? := by
      intro q hne
      by_cases hlq : q < s'.heap.size
      · rw [← hhp]
        exact f2 q hlq (fun z hz => by rw [List.nil_append] at hz; rw [hL9 z hz]; exact Ne.symm hne)
      · rw [Array.getElem?_eq_none_iff.mpr (by omega), Array.getElem?_eq_none_iff.mpr (by rw [← hhp]; omega)]
    have htt : tot (V.setCell a ce).heap = tot H := tot_same fun q => by
      by_cases e9 : q = a
      · subst e9
        obtain ⟨c9, y1, y2, y3, y4⟩ := z6 q (freshCell cX kX) (by rw [hhp]; exact hcell)
        have y1' : (V.setCell q ce).heap[q]? = some c9 := y1
        rw [y1', hcell, Option.map_some, Option.map_some, y3]
      · rw [hq1 q e9]
    have hsz : (V.setCell a ce).heap.size = H.size := by rw [← hhp]; exact Nat.le_antisymm z3' f1
    have hW1 : World G s (delB B a) (V.setCell a ce).heap := by
      refine ⟨hsz.trans w1, htt.trans w2, fun q d hq9 => ?_, w4, w5.kept (fun q _ hA9 => hq1 q (fun e9 => hA9 (by rw [e9]; exact hga))), fun q d hq9 hd => ?_⟩
      · have hq' : (if q = a then none else B.1 q) = some d := hq9
        by_cases e9 : q = a
        · rw [if_pos e9] at hq'; cases hq'
        · rw [if_neg e9] at hq'
          exact ⟨(w3 q d hq').1.kept (hq1 q e9), (w3 q d hq').2⟩
      · have hq' : (if q = a then none else B.1 q) = some d := hq9
        by_cases e9 : q = a
        · rw [if_pos e9] at hq'; cases hq'
        · rw [if_neg e9] at hq'
          exact (w6 q d hq' hd).kept (hq1 q e9)
    have hS1 : va_S (gAA G) s.heap (V.setCell a ce).heap (locs ++ L9) := by
      refine ⟨by rw [hsz]; exact hS.1, fun q h8 h9 => (hq1 q (fun e9 => h9 (by rw [e9]; exact hga))).trans (hS.2.1 q h8 h9), fun z hz => ?_⟩
      rcases List.mem_append.mp hz with hz | hz
      · exact hS.2.2 z hz
      · rw [hL9 z hz]; exact hga
    subst hA
    have X6 := back9L X Y Z
    have kk : vx_W p (gL G) ev (rmOf G M B0) s mm args below meth c0 (V.setCell a ce).heap (locs ++ L9) (B.2.1 - B0.2.1) (B.2.2 - B0.2.2) (Fin9 G B0 ((k, 0, none), delB B a) below args s) (F0 mm (pc + 3) ls st) a := vx_out (E := xN k) (tabN (by rw [C0.2.2.2.2.2.2.2.2.2.2.2.2, hh])) C0.2.2.2.1 hh1 hvm9 hcl (fun t ht hA => ⟨⟨by show 10 ≤ k; omega, rfl, by rw [ht]; exact hW1.moved hA⟩, hS1.F ht⟩) hS1.2.2 (Nat.sub_le_sub_right hW1.2.2.2.1.2.1 _) (Nat.sub_le_sub_right hW1.2.2.2.1.2.2 _)
    obtain ⟨t, a1, b1⟩ := vx_athrow C0.1 C0.2.1 d9 kk _ rfl X6
    exact ⟨t, sgo t a1, b1⟩
theorem h_newX {t idx N : Nat} {C : String} {T : u_T} {κ : Option Nat → BH → Option ρ} (hK : KOK G K) (hc : gCl[t]? = some (C, T, N)) (hin : ∀ w ∈ u_ws C T N, w ∈ lw_all) (hty : ∃ ty : Nat → FieldType, gTy[t]? = some ty ∧ (∀ k, k < N → parseFieldDescriptor (T k).2.2.1 = some (ty k)) ∧ ∀ k, k < N → gTok (ty k) = true) (q1 : Cond.classLink M.1.cls idx C ∈ lw_all) (q2 : Cond.instantiable C N ∈ lw_all) (q3 : Cond.initialized C ∈ lw_all) (d : decode M.2.1 pc = .ok (.new idx, 3)) (kk : ∀ v B, Sim G M B0 o (κ v B) (pc + 3) L (va_rf v :: st) B) : Sim G M B0 o (nwX K B t κ) pc L st B :=
  Sim.ck fun hr => fun r hr9 p e s m args below meth c0 C0 H locs ls hW hS hL => W.stand fun htot => by
    have hts := C0.2.2.2.2.2.2.1
    have hgn : gN t = N := gN_of hc
    obtain ⟨ty, htg, hty, htok⟩ := hty
    have hlim := hr
    have hzl : B0.2.1 ≤ B.2.1 := by
      have := hS.1
      rw [hW.1, C0.2.2.2.2.2.2.2.2.2.1] at this
      exact this
    have htl : B0.2.2 ≤ B.2.2 := by
      rw [hW.2.1, C0.2.2.2.2.2.2.2.2.2.2.1] at htot
      exact htot
    refine W.newc C0.1 C0.2.1 C0.2.2.2.2.2.1 (hts _ q1) (hts _ q2) (hts _ q3) rfl d (by show _ ≤ gLC G - B0.2.1; have := hK.1; omega) (by show _ ≤ gLS G - B0.2.2; have := hK.2.1; omega) fun cC kC h1 h2 h3 h4 => ?_
    have hKn := C0.2.2.2.2.2.2.2.1.1.1 t _ hc
    have hcC : (gD G).1 t = cC := Option.some.inj (hKn.2.1.symm.trans h1)
    have hat : cAt G H.size (2000 + t, 0, fun _ => 0, fun _ => none) (H.push { cls := cC, slots := kC.instanceTypes.map defaultValue, vm := .none }) := by
      refine (cAt_obj (t := t) (by show (2000 + t) % 1000 = t; have := gCl_lt hc; omega) (gCl_lt hc)).mpr ⟨_, hc, ?_⟩
      have hb := u_born (o := H.size) (H := H.push { cls := cC, slots := kC.instanceTypes.map defaultValue, vm := .none }) ty hts hin hKn (by rw [hcC]; exact h2) (by rw [Array.getElem?_push_size, hcC]; rfl) hty
      refine hb.to fun j hj => ?_
      rw [fV_V (by rw [hgn]; exact hj)]
      unfold fV gRef
      rw [htg]
      show _ = if gRefT (ty j) = true then _ else _
      have h9 := htok j hj
      revert h9
      cases ty j <;> first | (intro _; rfl) | (intro h9; cases h9)
    have kk9 := kk (some B.2.1) (pushB B (2000 + t, 0, fun _ => 0, fun _ => none) (gN t)) r hr9 p e s m args below meth c0 C0 _ locs ls (hW.pushX hK hr (by rw [Array.size_map, h4, hgn]) (by show 0 < 2147483648; omega) hat (fun _ => ⟨by rw [hW.1]; exact hW.2.2.2.1.1, cC, kC, h2, Array.getElem?_push_size⟩)) ⟨Nat.le_trans hS.1 (by rw [Array.size_push]; omega), fun q h5 h6 => by rw [Array.getElem?_push, if_neg (Nat.ne_of_lt (Nat.lt_of_lt_of_le h5 hS.1))]; exact hS.2.1 q h5 h6, hS.2.2⟩ hL
    have e1 : (pushB B (2000 + t, 0, fun _ => 0, fun _ => none) (gN t)).2.1 - B0.2.1 = B.2.1 - B0.2.1 + 1 := by show B.2.1 + 1 - _ = _; omega
    have e2 : (pushB B (2000 + t, 0, fun _ => 0, fun _ => none) (gN t)).2.2 - B0.2.2 = B.2.2 - B0.2.2 + N := by show B.2.2 + gN t - _ = _; omega
    rw [e1, e2] at kk9
    rw [hW.1]
    exact kk9
end ROWS11
