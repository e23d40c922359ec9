/-! BASE 12: bytes -/
def cpB {ρ : Type} (B : BH) (e1 : Option Nat) (sp : Int) (e2 : Option Nat) (dp n : Int) (κ : BH → Option ρ) : Option ρ := (cell B e1).bind fun c1 => (cell B e2).bind fun c2 => ck ((c1.1 % 1000 = 102 ∧ c2.1 = 102 ∧ 0 ≤ sp ∧ 0 ≤ dp ∧ 0 ≤ n ∧ sp + n ≤ c1.2.1 ∧ dp + n ≤ c2.2.1) ∧ ∀ i, i < n.toNat → isBB (c1.2.2.1 (sp.toNat + i))) (κ (upB B (e2.getD 0) (c2.1, c2.2.1, va_cpy c1.2.2.1 c2.2.2.1 sp.toNat dp.toNat n.toNat, c2.2.2.2)))
section ROWS12
variable {ρ : Type} {G : GT} {M : MI} {B0 : BH} {o : ρ → Rv × BH} {x y : Option ρ} {pc idx t N : Nat} {C : String} {T : u_T} {L : LL} {st stk : List Value} {B : BH} {e e1 e2 : Option Nat} {K : KT}
theorem fits_byte {v : Int} (h : isBB v) : fits .byte (.int (Int32.ofInt v)) = true := by
  have h1 : ok32 v := ⟨by omega, by omega⟩
  simp only [fits, Bool.and_eq_true, decide_eq_true_eq, Int32.le_iff_toInt_le, ok32_toInt h1]
  exact ⟨h.1, Int.le_of_lt_add_one h.2⟩
theorem nar_byte {v : Int} (h : isBB v) : narrow .byte (.int (Int32.ofInt v)) = .int (Int32.ofInt v) := by
  have h1 : ok32 v := ⟨by omega, by omega⟩
  refine congrArg Value.int (Int32.toInt_inj.mp ?_)
  rw [Int8.toInt_toInt32, Int32.toInt_toInt8, ok32_toInt h1]
  exact Int.bmod_eq_of_le (by simp; omega) (by simp; omega)
theorem s_bBreturn {r : ρ} {v : Int} {z : Option Nat} (ho : o r = ((1, v, z), B)) (hr : M.2.2.2.1 = some .byte) (d : decode M.2.1 pc = .ok (.ireturn, 1)) : Sim G M B0 o (ck (isBB v) (some r)) pc L (iv v :: []) B := fun r' hr' p e s m args below meth c0 C0 H locs ls hW hS hL => by
  obtain ⟨h01, hr'⟩ := ck_some hr'
  cases hr'
  have hB : B = (o r).2 := by rw [ho]
  rw [hB] at hW ⊢
  refine ret_w (by rw [ho]; show 1 < 10; omega) hW hS (fun hq hf => ?_)
  exact W.zret C0.1 C0.2.1 (C0.2.2.1.trans hr) (nar_byte h01) (by
    have e9 : rvO (o r).1 = some (iv v) := by rw [ho]; rfl
    rw [e9] at hq
    exact hq) hf d C0.2.2.2.1
theorem s_bast {a : Nat} {c : PC4} {i v : Int} (hB : B.1 a = some c) (ht : c.1 = 102) (d : decode M.2.1 pc = .ok (.bastore, 1)) (kk : Sim G M B0 o x (pc + 1) L st (upB B a (putI c i.toNat (bI2b v)))) : Sim G M B0 o (ck (inA c i) x) pc L (iv v :: iv i :: .ref a :: st) B := fun r hr p e s m args below meth c0 C0 H locs ls hW hS hL => by
  obtain ⟨hc, hr⟩ := ck_some hr
  obtain ⟨w1, w2, w3⟩ := hW.2.2.1 a c hB
  obtain ⟨g1, g2⟩ := vp_in_iv hc.1 hc.2 w3
  have hat := (cAt_int (H := H) (t := 102) (by omega) (Or.inr (Or.inr rfl))).mp w1
  have hnar : narrow .byte (.int (Int32.ofInt v)) = iv (bI2b v) := by
    unfold iv bI2b
    rw [Int32.ofInt_toInt]
    rfl
  refine W.bast C0.1 C0.2.1 hat ((C0.2.2.2.2.2.2.2.1.1.2 2 (gA G 102, .byte) rfl).1 _ _) (fun q => by cases q) (by rw [arrV_size]; exact g1) rfl rfl d fun H' e1 e2 e3 => ?_
  refine kk r hr p e s m args below meth c0 C0 H' _ ls (hW.put hB (by omega) rfl rfl hat e1 (by simp [Cell.setSlot]) e2 e3 ?_) (hS.put e2 e3 (w2 (by omega))) hL
  refine (cAt_int (t := 102) (by show c.1 % 1000 = 102; omega) (Or.inr (Or.inr rfl))).mpr ?_
  rw [e1, arrV_store, g2, hnar]
  exact congrArg some (congrArg (arrV (gA G 102) c.2.1) putI_arr.symm)
theorem h_bast {i v : Int} {κ : BH → Option ρ} (d : decode M.2.1 pc = .ok (.bastore, 1)) (kk : ∀ B, Sim G M B0 o (κ B) (pc + 1) L st B) : Sim G M B0 o (sB B e i v κ) pc L (iv v :: iv i :: va_rf e :: st) B :=
  Sim.cell fun a c he hB => Sim.ck fun hc => by
    subst he
    exact fun r hr => s_bast hB hc.1 d (kk _) r ((ck_t hc.2).trans hr)
theorem h_copyB {sp dp n : Int} {κ : BH → Option ρ} (q : Cond.methodLink M.1.cls idx arraycopyName ∈ lw_all) (q1 : Cond.native arraycopyName ∈ lw_all) (q2 : Cond.static arraycopyName ∈ lw_all) (q3 : Cond.initialized "java/lang/System" ∈ lw_all) (hst : cat1 st) (hst8 : st.length ≤ 8) (hR : 1 ≤ M.2.2.2.2.2.1 ∧ 38 ≤ M.2.2.2.2.2.2) (d : decode M.2.1 pc = .ok (.invokestatic idx, 3)) (kk : ∀ B, Sim G M B0 o (κ B) (pc + 3) L st B) : Sim G M B0 o (cpB B e1 sp e2 dp n κ) pc L (iv n :: iv dp :: va_rf e2 :: iv sp :: va_rf e1 :: st) B :=
  Sim.cell fun a0 c1 he1 hB1 => Sim.cell fun a c2 he2 hB2 => Sim.ck fun hc => fun r hr p ev s m args below meth c0 C0 H locs ls hW hS hL => by
    subst he1 he2
    obtain ⟨⟨t1, t2, s1, s2, s3, s4, s5⟩, hb9⟩ := hc
    have hts := C0.2.2.2.2.2.2.1
    have hG := C0.2.2.2.2.2.2.2.1
    obtain ⟨w1, w2, w3⟩ := hW.2.2.1 a0 c1 hB1
    obtain ⟨v1, v2, v3⟩ := hW.2.2.1 a c2 hB2
    have hc0 := (cAt_int (H := H) t1 (Or.inr (Or.inr rfl))).mp w1
    have hc1 := (cAt_int (H := H) (t := 102) (by omega) (Or.inr (Or.inr rfl))).mp v1
    obtain ⟨g1, g1'⟩ := nat_of2 s1 (by omega)
    obtain ⟨g2, g2'⟩ := nat_of2 s2 (by omega)
    obtain ⟨g3, g3'⟩ := nat_of2 s3 (by omega)
    obtain ⟨-, k0, hk0, cm0, hkk0⟩ := (hG.1.2 2 (gA G 102, .byte) rfl).1 c1.2.1 (fun j => .int (Int32.ofInt (c1.2.2.1 j)))
    obtain ⟨-, k1, hk1, cm1, hkk1⟩ := (hG.1.2 2 (gA G 102, .byte) rfl).1 c2.2.1 (fun j => .int (Int32.ofInt (c2.2.2.1 j)))
    intro T hT X
    obtain ⟨vm', X', step⟩ := X.arraycopy C0.1 C0.2.2.2.2.2.1 (hts _ q) (hts _ q1) (hts _ q2) (hts _ q3) (src := a0) (dst := a) (srcPos := Int32.ofInt sp) (destPos := Int32.ofInt dp) (n := Int32.ofInt n) (by rw [hT]; exact hc0) (by rw [hT]; exact hc1)
      (fun _ h => by cases h) (fun _ h => by cases h) (fun h => by cases h) (fun h => by cases h) hk0 hk1 hkk0 hkk1 (by rfl) g1 g2 g3
      (by rw [int_nn s1 (by omega), int_nn s3 (by omega), arrV_size]; omega)
      (by rw [int_nn s2 (by omega), int_nn s3 (by omega), arrV_size]; omega)
      (fun vm₁ _ i hi => by
        have e9 : (arrV (gA G 102) c1.2.1 (fun j => Value.int (Int32.ofInt (c1.2.2.1 j)))).slots.getD ((Int32.ofInt sp).toNatClampNeg + i) .null = .int (Int32.ofInt (c1.2.2.1 ((Int32.ofInt sp).toNatClampNeg + i))) := by
          rw [Array.getD_eq_getD_getElem?, arrV_read _ _ (by omega)]
          rfl
        exact ⟨by rw [e9, g1']; exact fits_byte (hb9 i (by omega)), by rw [e9]; exact trivial⟩)
      (g := F0 m pc ls (iv n :: iv dp :: va_rf (some a) :: iv sp :: va_rf (some a0) :: st)) rfl (by rw [C0.2.2.2.2.1]; exact hL.1.1) (rest := st) rfl (by rw [C0.2.1]; exact d) hR.1 (by have := nfw; have hsum := cat1_sum hst; have h8 := hR.2; show 2 * 0 + _ + _ ≤ M.2.2.2.2.2.2; omega)
    have e1 : copied (arrV (gA G 102) c1.2.1 (fun j => Value.int (Int32.ofInt (c1.2.2.1 j)))) (arrV (gA G 102) c2.2.1 (fun j => Value.int (Int32.ofInt (c2.2.2.1 j)))) (Int32.ofInt sp) (Int32.ofInt dp) (Int32.ofInt n) = arrV (gA G 102) c2.2.1 (fun j => Value.int (Int32.ofInt (va_cpy c1.2.2.1 c2.2.2.1 sp.toNat dp.toNat n.toNat j))) := by
      have h4 : (Int32.ofInt sp).toNatClampNeg + (Int32.ofInt n).toNatClampNeg ≤ c1.2.1 := by omega
      refine (va_copied (fun z : Int => Value.int (Int32.ofInt z)) (gA G 102) (gA G 102) c1.2.2.1 c2.2.2.1 h4).trans ?_
      rw [g1', g2', g3']
    rw [e1] at X' step
    have hl : a < H.size := (Array.getElem?_eq_some_iff.mp hc1).1
    have hheap : ((T.setVm vm').setCell a (arrV (gA G 102) c2.2.1 (fun j => Value.int (Int32.ofInt (va_cpy c1.2.2.1 c2.2.2.1 sp.toNat dp.toNat n.toNat j))))).heap = H.setIfInBounds a (arrV (gA G 102) c2.2.1 (fun j => Value.int (Int32.ofInt (va_cpy c1.2.2.1 c2.2.2.1 sp.toNat dp.toNat n.toNat j)))) := by rw [← hT]; rfl
    have oq : ∀ q : Nat, q ≠ a → (H.setIfInBounds a (arrV (gA G 102) c2.2.1 (fun j => Value.int (Int32.ofInt (va_cpy c1.2.2.1 c2.2.2.1 sp.toNat dp.toNat n.toNat j)))))[q]? = H[q]? := fun q hq => by simp [Array.getElem?_setIfInBounds, Ne.symm hq]
    have ha : (H.setIfInBounds a (arrV (gA G 102) c2.2.1 (fun j => Value.int (Int32.ofInt (va_cpy c1.2.2.1 c2.2.2.1 sp.toNat dp.toNat n.toNat j)))))[a]? = some (arrV (gA G 102) c2.2.1 (fun j => Value.int (Int32.ofInt (va_cpy c1.2.2.1 c2.2.2.1 sp.toNat dp.toNat n.toNat j)))) := by simp [Array.getElem?_setIfInBounds, hl]
    have hga : gB G ≤ a := v2 (by omega)
    obtain ⟨t, a1, b1⟩ := kk _ r hr p ev s m args below meth c0 C0 _ _ ls (hW.put hB2 (by omega) (c' := (c2.1, c2.2.1, va_cpy c1.2.2.1 c2.2.2.1 sp.toNat dp.toNat n.toNat, c2.2.2.2)) rfl rfl hc1 ha (by rw [arrV_size, arrV_size]) (by simp) oq ((cAt_int (t := 102) (by show c2.1 % 1000 = 102; omega) (Or.inr (Or.inr rfl))).mpr ha)) ⟨by simp; exact hS.1, fun q g1 g2 => by
        rw [oq q (fun e => g2 (by rw [e]; exact hga))]
        exact hS.2.1 q g1 g2, fun q hq => by
        rcases List.mem_append.mp hq with h | h
        · exact hS.2.2 q h
        · obtain ⟨z, -, hz⟩ := List.mem_map.mp h
          rw [← hz]
          exact hga⟩ hL _ hheap X'
    exact ⟨t, step t a1, b1⟩
end ROWS12
theorem lw_l5p {sel a b d f : Cond} {c : List Cond} (hs : goodWord sel = true) (h1 : a ∈ lw_all) (h2 : b ∈ lw_all) (h3 : d ∈ lw_all) (h4 : f ∈ lw_all) (hc : GoodIn lw_all c) : GoodIn (sel :: lw_all) ([a, b, sel, d, f] ++ c) := by
  intro w hw
  rcases List.mem_append.mp hw with e | e
  · simp only [List.mem_cons, List.not_mem_nil, or_false] at e
    rcases e with e | e | e | e | e
    · exact ⟨List.mem_cons_of_mem _ (by rw [e]; exact h1), (lw_self w (by rw [e]; exact h1)).2⟩
    · exact ⟨List.mem_cons_of_mem _ (by rw [e]; exact h2), (lw_self w (by rw [e]; exact h2)).2⟩
    · exact ⟨by rw [e]; exact List.mem_cons_self, good_of_word (by rw [e]; exact hs)⟩
    · exact ⟨List.mem_cons_of_mem _ (by rw [e]; exact h3), (lw_self w (by rw [e]; exact h3)).2⟩
    · exact ⟨List.mem_cons_of_mem _ (by rw [e]; exact h4), (lw_self w (by rw [e]; exact h4)).2⟩
  · exact ⟨List.mem_cons_of_mem _ (hc w e).1, (hc w e).2⟩
theorem lw_l6 {a b c d f g : Cond} (h1 : a ∈ lw_all) (h2 : b ∈ lw_all) (h3 : c ∈ lw_all) (h4 : d ∈ lw_all) (h5 : f ∈ lw_all) (h6 : g ∈ lw_all) : ∀ w ∈ [a, b, c, d, f, g], w ∈ lw_all := by
  intro w hw
  simp only [List.mem_cons, List.not_mem_nil, or_false] at hw
  rcases hw with e | e | e | e | e | e <;> rw [e] <;> assumption
section CALLS12
variable {ρ ρ' : Type} {G : GT} {M My : MI} {B0 : BH} {o : ρ → Rv × BH} {o' : ρ' → Rv × BH} {x y : Option ρ} {x' : Option ρ'} {pc idx t N : Nat} {C : String} {T : u_T} {L : LL} {st stk : List Value} {B : BH} {e : Option Nat} {K : KT} {As : List Value} {b : Nat}
theorem cr_UP {xm : MethodName} {owner : String} (hM : MetN G My B o' x' (.ref b :: As)) (n : Nat) (hn : As.length = n) (hstk : stk = As.reverse ++ .ref b :: st) (hb : ∃ c, B.1 b = some c ∧ c.1 % 1000 = t) (hC : gCl[t]? = some (C, T, N)) (hsel : Cond.selects C xm My.1 ∈ gPv) (hw : GoodIn (Cond.selects C xm My.1 :: lw_all) (va_wsU M.1.cls idx C owner xm My.1 (wsM My))) (hyx : My.1 = ⟨owner, xm.name, xm.desc⟩) (hd : owner ≠ "java/lang/invoke/MethodHandle" ∧ owner ≠ "java/lang/invoke/VarHandle" ∧ (parseMethodDescriptor xm.desc).map (fun d => d.parameters.length) = some n) (hR : rOK M My) (hst : cat1 st) (hst8 : st.length ≤ 8) (d : decode M.2.1 pc = .ok (.invokevirtual idx, 3)) : ∀ r, x' = some r → CRun (ρ' := ρ') G M B0 pc L stk st B (o' r) := by
  intro r hx p e s m args below meth c0 C0 H locs ls hW hS hL hzl htl
  subst hstk
  obtain ⟨c, hB, hct⟩ := hb
  have hlim := hW.2.2.2.1
  have hts : ∀ w ∈ Cond.selects C xm My.1 :: lw_all, w.before args s = true := fun w h => (List.mem_cons.mp h).elim (fun e9 => by rw [e9]; exact va_tabs rfl rfl (C0.2.2.2.2.2.2.2.1.2.2.2.2.2.2.2 _ hsel)) (fun h => C0.2.2.2.2.2.2.1 w h)
  exact ⟨_, vx_runU (C := C) (owner := owner) (n := n) ⟨C0.1, C0.2.1, C0.2.2.2.2.1, C0.2.2.2.2.2.1, hts⟩ (hM r hx) (va_cwU n hts hw rfl rfl rfl hyx hd hR) ⟨blind, hW.recv C0.2.2.2.2.2.2.2.1 hB hct hC, fun U hU hWm => ⟨rfl, by rw [hU]; exact hW.warm hWm, C0.2.2.2.2.2.2.2.1.warm hWm⟩⟩ rfl hn hL.1.1 rfl (lv_room (by rw [cat1_sum hst]; exact hst8)) d ⟨by show _ ≤ gLC G - B0.2.1; omega, by show _ ≤ gLS G - B0.2.2; omega⟩⟩
theorem cr_O {xm : MethodName} {owner : String} {b9 : ByteArray} {m9 : Nat} {r9 : Option FieldType} (hM : MetN G My B o' x' (.ref b :: As)) (n : Nat) (hn : As.length = n) (hstk : stk = As.reverse ++ .ref b :: st) (hb : ∃ c, B.1 b = some c ∧ c.1 % 1000 = t) (hC : gCl[t]? = some (C, T, N)) (hw : GoodIn lw_all (va_wsO M.1.cls idx C owner xm My.1 (wsM My))) (h0 : Cond.code ⟨owner, xm.name, xm.desc⟩ b9 m9 r9 ∈ lw_all) (hd : owner ≠ "java/lang/invoke/MethodHandle" ∧ owner ≠ "java/lang/invoke/VarHandle" ∧ (parseMethodDescriptor xm.desc).map (fun d => d.parameters.length) = some n) (hR : rOK M My) (hst : cat1 st) (hst8 : st.length ≤ 8) (d : decode M.2.1 pc = .ok (.invokevirtual idx, 3)) : ∀ r, x' = some r → CRun (ρ' := ρ') G M B0 pc L stk st B (o' r) := by
  intro r hx p e s m args below meth c0 C0 H locs ls hW hS hL hzl htl
  subst hstk
  obtain ⟨c, hB, hct⟩ := hb
  have hlim := hW.2.2.2.1
  have hts := C0.2.2.2.2.2.2.1
  exact ⟨_, vx_runU (C := C) (owner := owner) (n := n) ⟨C0.1, C0.2.1, C0.2.2.2.2.1, C0.2.2.2.2.2.1, hts⟩ (hM r hx) (va_cwO n hts hw rfl rfl rfl h0 hd hR) ⟨blind, hW.recv C0.2.2.2.2.2.2.2.1 hB hct hC, fun U hU hWm => ⟨rfl, by rw [hU]; exact hW.warm hWm, C0.2.2.2.2.2.2.2.1.warm hWm⟩⟩ rfl hn hL.1.1 rfl (lv_room (by rw [cat1_sum hst]; exact hst8)) d ⟨by show _ ≤ gLC G - B0.2.1; omega, by show _ ≤ gLS G - B0.2.2; omega⟩⟩
end CALLS12
