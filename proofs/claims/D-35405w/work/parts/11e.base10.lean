/-! BASE 10: class objects, System.arraycopy, division of any sign -/
def ctA {ρ : Type} (B : BH) (t : Nat) (e : Option Nat) (x : Option ρ) : Option ρ := (cell B e).bind fun c => ck (c.1 % 1000 = t) x
def cpI {ρ : Type} (B : BH) (e1 : Option Nat) (sp : Int) (e2 : Option Nat) (dp n : Int) (κ : BH → Option ρ) : Option ρ := (cell B e1).bind fun c1 => (cell B e2).bind fun c2 => ck (c1.1 % 1000 = 100 ∧ c2.1 = 100 ∧ 0 ≤ sp ∧ 0 ≤ dp ∧ 0 ≤ n ∧ sp + n ≤ c1.2.1 ∧ dp + n ≤ c2.2.1) (κ (upB B (e2.getD 0) (c2.1, c2.2.1, va_cpy c1.2.2.1 c2.2.2.1 sp.toNat dp.toNat n.toNat, c2.2.2.2)))
def cpR {ρ : Type} (B : BH) (e1 : Option Nat) (sp : Int) (e2 : Option Nat) (dp n : Int) (κ : BH → Option ρ) : Option ρ := (cell B e1).bind fun c1 => (cell B e2).bind fun c2 => ck ((c1.1 % 1000 = 110 ∧ c2.1 = 110 ∧ 0 ≤ sp ∧ 0 ≤ dp ∧ 0 ≤ n ∧ sp + n ≤ c1.2.1 ∧ dp + n ≤ c2.2.1) ∧ ∀ i, i < n.toNat → fitR B 110 (c1.2.2.2 (sp.toNat + i)) = true) (κ (upB B (e2.getD 0) (c2.1, c2.2.1, c2.2.2.1, va_cpy c1.2.2.2 c2.2.2.2 sp.toNat dp.toNat n.toNat)))
abbrev okdT (a b : Int) : Prop := ok32 a ∧ 0 < b ∧ b < 2147483648
section ROWS10
variable {ρ : Type} {G : GT} {M : MI} {B0 : BH} {o : ρ → Rv × BH} {x y : Option ρ} {pc idx t N : Nat} {C : String} {T : u_T} {L : LL} {st stk : List Value} {B : BH} {e e1 e2 : Option Nat} {K : KT}
theorem nat_of2 {n : Int} (h : 0 ≤ n) (h2 : n < 2147483648) : ¬ Int32.ofInt n < 0 ∧ (Int32.ofInt n).toNatClampNeg = n.toNat := by
  have ht : (Int32.ofInt n).toInt = n := ok32_toInt ⟨by omega, by omega⟩
  refine ⟨?_, ?_⟩
  · rw [iv_0, iv_lt ⟨by omega, by omega⟩ ok32_0]; omega
  · show (Int32.ofInt n).toInt.toNat = n.toNat
    rw [ht]
theorem iv_tdiv {a b : Int} (h : okdT a b) : Int32.ofInt a / Int32.ofInt b = Int32.ofInt (Int.tdiv a b) := by
  obtain ⟨h1, h3, h4⟩ := h
  have hb : ∀ z : Int, -2147483648 ≤ z → z < 2147483648 → -2147483648 ≤ Int.tdiv z b ∧ Int.tdiv z b < 2147483648 := by
    intro z z1 z2
    by_cases hz : 0 ≤ z
    · rw [Int.tdiv_eq_ediv_of_nonneg hz]
      have := Int.ediv_nonneg hz (by omega : 0 ≤ b)
      have := Int.ediv_le_self b hz
      omega
    · have e9 : Int.tdiv z b = -(Int.tdiv (-z) b) := by rw [Int.neg_tdiv, Int.neg_neg]
      rw [e9, Int.tdiv_eq_ediv_of_nonneg (by omega)]
      have := Int.ediv_nonneg (by omega : 0 ≤ -z) (by omega : 0 ≤ b)
      have := Int.ediv_le_self b (by omega : 0 ≤ -z)
      omega
  obtain ⟨q1, q2⟩ := hb a h1.1 h1.2
  apply Int32.toInt_inj.mp
  rw [Int32.toInt_div, ok32_toInt h1, ok32_toInt ⟨by omega, h4⟩, ok32_toInt ⟨q1, q2⟩]
  exact Int.bmod_eq_of_le (by simp; omega) (by simp; omega)
theorem s_idivT {a b : Int} (d : decode M.2.1 pc = .ok (.idiv, 1)) (kk : Sim G M B0 o x (pc + 1) L (iv (Int.tdiv a b) :: st) B) : Sim G M B0 o (ck (okdT a b) x) pc L (iv b :: iv a :: st) B := Sim.stepc (fun hc {_ _ _ _ _ _ _ _ _ _ _ _ _ _ _} C h => lv_idiv C.1 C.2.1 d (iv_ne0 hc.2) (by rw [iv_tdiv hc]; exact h)) kk
theorem s_iremT {a b : Int} (d : decode M.2.1 pc = .ok (.irem, 1)) (kk : Sim G M B0 o x (pc + 1) L (iv (Int.tmod a b) :: st) B) : Sim G M B0 o (ck (okdT a b) x) pc L (iv b :: iv a :: st) B := Sim.stepc (fun hc {_ _ _ _ _ _ _ _ _ _ _ _ _ _ _} C h => lv_irem C.1 C.2.1 d (iv_ne0 hc.2) (by rw [iv_tdiv hc, ← Int32.ofInt_mul, ← Int32.ofInt_sub, show a - Int.tdiv a b * b = Int.tmod a b by rw [Int.tmod_def, Int.mul_comm]]; exact h)) kk
theorem h_ldcM (hK : KOK G K) (q : Cond.classLink M.1.cls idx "[Ljava/lang/Object;" ∈ lw_all) (d : decode M.2.1 pc = .ok (.ldc idx, 2)) (kk : Sim G M B0 o x (pc + 2) L (va_rf (K.2.2.2.2 50) :: st) B) : Sim G M B0 o x pc L st B := kk.step fun C h => va_ldcM C.1 C.2.1 C.2.2.2.2.2.1 (C.2.2.2.2.2.2.1 _ q) C.2.2.2.2.2.2.2.1.2.2.2.2.2.1 d (by rw [hK.2.2.2.2.1] at h; exact h)
theorem gc_decl : Cond.declares ⟨"java/lang/Object", "getClass", "()Ljava/lang/Class;"⟩ ∈ gNw := by decide +kernel
theorem h_getClass (hK : KOK G K) (q : Cond.methodLink M.1.cls idx ⟨"java/lang/Object", "getClass", "()Ljava/lang/Class;"⟩ ∈ lw_all) (q1 : Cond.selects "[Ljava/lang/Object;" ⟨"java/lang/Object", "getClass", "()Ljava/lang/Class;"⟩ ⟨"java/lang/Object", "getClass", "()Ljava/lang/Class;"⟩ ∈ lw_all) (q2 : Cond.instanceMethod ⟨"java/lang/Object", "getClass", "()Ljava/lang/Class;"⟩ ∈ lw_all) (q3 : Cond.native ⟨"java/lang/Object", "getClass", "()Ljava/lang/Class;"⟩ ∈ lw_all) (hst : cat1 st) (hst8 : st.length ≤ 8) (hR : 1 ≤ M.2.2.2.2.2.1 ∧ 22 ≤ M.2.2.2.2.2.2) (d : decode M.2.1 pc = .ok (.invokevirtual idx, 3)) (kk : Sim G M B0 o x (pc + 3) L (va_rf (K.2.2.2.2 50) :: st) B) : Sim G M B0 o (ctA B 110 e x) pc L (va_rf e :: st) B :=
  Sim.cell fun a c he hB => Sim.ck fun ht => fun r hr p ev s m args below meth c0 C0 H locs ls hW hS hL => by
    subst he
    have hts := C0.2.2.2.2.2.2.1
    have hG := C0.2.2.2.2.2.2.2.1
    have hat := (cAt_ref (H := H) ht (by omega)).mp (hW.2.2.1 a c hB).1
    obtain ⟨_, _, -, -, -, hnm⟩ := (hG.1.2 4 (gA G 110, .object "java/lang/Object") rfl).2
    have kk9 := kk r hr p ev s m args below meth c0 C0 H locs ls hW hS hL
    rw [hK.2.2.2.2.1] at kk9
    exact va_getC C0.1 C0.2.1 (C0.2.2.2.2.1.trans hL.1.1.symm) C0.2.2.2.2.2.1 (hts _ q) (va_Nw.use rfl (hG.2.1 _ gc_decl)) (hts _ q1) (hts _ q2) (hts _ q3) hG.2.2.2.2.2.1 ⟨_, hat, rfl, hnm⟩ hR.1 (by rw [cat1_sum hst]; show _ ≤ M.2.2.2.2.2.2; omega) d kk9
theorem nfw : nativeFrameWords "java/lang/System" "arraycopy" 5 + 11 ≤ 30 := by decide +kernel
theorem cp_words {M : MI} {idx : Nat} (q : Cond.methodLink M.1.cls idx arraycopyName ∈ lw_all) (q1 : Cond.native arraycopyName ∈ lw_all) (q2 : Cond.static arraycopyName ∈ lw_all) (q3 : Cond.initialized "java/lang/System" ∈ lw_all) : True := trivial
theorem int_nn {z : Int} (h : 0 ≤ z) (h2 : z < 2147483648) : (Int32.ofInt z).toInt = z := ok32_toInt ⟨by omega, by omega⟩
theorem h_copyI {sp dp n : Int} {κ : BH → Option ρ} (q : Cond.methodLink M.1.cls idx arraycopyName ∈ lw_all) (q1 : Cond.native arraycopyName ∈ lw_all) (q2 : Cond.static arraycopyName ∈ lw_all) (q3 : Cond.initialized "java/lang/System" ∈ lw_all) (hst : cat1 st) (hst8 : st.length ≤ 8) (hR : 1 ≤ M.2.2.2.2.2.1 ∧ 38 ≤ M.2.2.2.2.2.2) (d : decode M.2.1 pc = .ok (.invokestatic idx, 3)) (kk : ∀ B, Sim G M B0 o (κ B) (pc + 3) L st B) : Sim G M B0 o (cpI B e1 sp e2 dp n κ) pc L (iv n :: iv dp :: va_rf e2 :: iv sp :: va_rf e1 :: st) B :=
  Sim.cell fun a0 c1 he1 hB1 => Sim.cell fun a c2 he2 hB2 => Sim.ck fun hc => fun r hr p ev s m args below meth c0 C0 H locs ls hW hS hL => by
    subst he1 he2
    obtain ⟨t1, t2, s1, s2, s3, s4, s5⟩ := hc
    have hts := C0.2.2.2.2.2.2.1
    have hG := C0.2.2.2.2.2.2.2.1
    obtain ⟨w1, w2, w3⟩ := hW.2.2.1 a0 c1 hB1
    obtain ⟨v1, v2, v3⟩ := hW.2.2.1 a c2 hB2
    have hc0 := (cAt_int (H := H) t1 (Or.inl rfl)).mp w1
    have hc1 := (cAt_int (H := H) (t := 100) (by omega) (Or.inl rfl)).mp v1
    obtain ⟨g1, g1'⟩ := nat_of2 s1 (by omega)
    obtain ⟨g2, g2'⟩ := nat_of2 s2 (by omega)
    obtain ⟨g3, g3'⟩ := nat_of2 s3 (by omega)
    obtain ⟨-, k0, hk0, cm0, hkk0⟩ := (hG.1.2 0 (gA G 100, .int) rfl).1 c1.2.1 (fun j => .int (Int32.ofInt (c1.2.2.1 j)))
    obtain ⟨-, k1, hk1, cm1, hkk1⟩ := (hG.1.2 0 (gA G 100, .int) rfl).1 c2.2.1 (fun j => .int (Int32.ofInt (c2.2.2.1 j)))
    intro T hT X
    obtain ⟨vm', X', step⟩ := X.arraycopy C0.1 C0.2.2.2.2.2.1 (hts _ q) (hts _ q1) (hts _ q2) (hts _ q3) (src := a0) (dst := a) (srcPos := Int32.ofInt sp) (destPos := Int32.ofInt dp) (n := Int32.ofInt n) (by rw [hT]; exact hc0) (by rw [hT]; exact hc1)
      (fun _ h => by cases h) (fun _ h => by cases h) (fun h => by cases h) (fun h => by cases h) hk0 hk1 hkk0 hkk1 (by rfl) g1 g2 g3
      (by rw [int_nn s1 (by omega), int_nn s3 (by omega), arrV_size]; omega)
      (by rw [int_nn s2 (by omega), int_nn s3 (by omega), arrV_size]; omega)
      (fun vm₁ _ i hi => by
        have e9 : (arrV (gA G 100) c1.2.1 (fun j => Value.int (Int32.ofInt (c1.2.2.1 j)))).slots.getD ((Int32.ofInt sp).toNatClampNeg + i) .null = .int (Int32.ofInt (c1.2.2.1 ((Int32.ofInt sp).toNatClampNeg + i))) := by
          rw [Array.getD_eq_getD_getElem?, arrV_read _ _ (by omega)]
          rfl
        exact ⟨by rw [e9]; rfl, by rw [e9]; exact trivial⟩)
      (g := F0 m pc ls (iv n :: iv dp :: va_rf (some a) :: iv sp :: va_rf (some a0) :: st)) rfl (by rw [C0.2.2.2.2.1]; exact hL.1.1) (rest := st) rfl (by rw [C0.2.1]; exact d) hR.1 (by have := nfw; have hsum := cat1_sum hst; have h8 := hR.2; show 2 * 0 + _ + _ ≤ M.2.2.2.2.2.2; omega)
    have e1 : copied (arrV (gA G 100) c1.2.1 (fun j => Value.int (Int32.ofInt (c1.2.2.1 j)))) (arrV (gA G 100) c2.2.1 (fun j => Value.int (Int32.ofInt (c2.2.2.1 j)))) (Int32.ofInt sp) (Int32.ofInt dp) (Int32.ofInt n) = arrV (gA G 100) c2.2.1 (fun j => Value.int (Int32.ofInt (va_cpy c1.2.2.1 c2.2.2.1 sp.toNat dp.toNat n.toNat j))) := by
      have h4 : (Int32.ofInt sp).toNatClampNeg + (Int32.ofInt n).toNatClampNeg ≤ c1.2.1 := by omega
      refine (va_copied (fun z : Int => Value.int (Int32.ofInt z)) (gA G 100) (gA G 100) c1.2.2.1 c2.2.2.1 h4).trans ?_
      rw [g1', g2', g3']
    rw [e1] at X' step
    have hl : a < H.size := (Array.getElem?_eq_some_iff.mp hc1).1
    have hheap : ((T.setVm vm').setCell a (arrV (gA G 100) c2.2.1 (fun j => Value.int (Int32.ofInt (va_cpy c1.2.2.1 c2.2.2.1 sp.toNat dp.toNat n.toNat j))))).heap = H.setIfInBounds a (arrV (gA G 100) c2.2.1 (fun j => Value.int (Int32.ofInt (va_cpy c1.2.2.1 c2.2.2.1 sp.toNat dp.toNat n.toNat j)))) := by rw [← hT]; rfl
    have oq : ∀ q : Nat, q ≠ a → (H.setIfInBounds a (arrV (gA G 100) c2.2.1 (fun j => Value.int (Int32.ofInt (va_cpy c1.2.2.1 c2.2.2.1 sp.toNat dp.toNat n.toNat j)))))[q]? = H[q]? := fun q hq => by simp [Array.getElem?_setIfInBounds, Ne.symm hq]
    have ha : (H.setIfInBounds a (arrV (gA G 100) c2.2.1 (fun j => Value.int (Int32.ofInt (va_cpy c1.2.2.1 c2.2.2.1 sp.toNat dp.toNat n.toNat j)))))[a]? = some (arrV (gA G 100) c2.2.1 (fun j => Value.int (Int32.ofInt (va_cpy c1.2.2.1 c2.2.2.1 sp.toNat dp.toNat n.toNat j)))) := by simp [Array.getElem?_setIfInBounds, hl]
    have hga : gB G ≤ a := v2 (by omega)
    obtain ⟨t, a1, b1⟩ := kk _ r hr p ev s m args below meth c0 C0 _ _ ls (hW.put hB2 (by omega) (c' := (c2.1, c2.2.1, va_cpy c1.2.2.1 c2.2.2.1 sp.toNat dp.toNat n.toNat, c2.2.2.2)) rfl rfl hc1 ha (by rw [arrV_size, arrV_size]) (by simp) oq ((cAt_int (t := 100) (by show c2.1 % 1000 = 100; omega) (Or.inl rfl)).mpr ha)) ⟨by simp; exact hS.1, fun q g1 g2 => by
        rw [oq q (fun e => g2 (by rw [e]; exact hga))]
        exact hS.2.1 q g1 g2, fun q hq => by
        rcases List.mem_append.mp hq with h | h
        · exact hS.2.2 q h
        · obtain ⟨z, -, hz⟩ := List.mem_map.mp h
          rw [← hz]
          exact hga⟩ hL _ hheap X'
    exact ⟨t, step t a1, b1⟩
theorem h_copyR {sp dp n : Int} {κ : BH → Option ρ} (q : Cond.methodLink M.1.cls idx arraycopyName ∈ lw_all) (q1 : Cond.native arraycopyName ∈ lw_all) (q2 : Cond.static arraycopyName ∈ lw_all) (q3 : Cond.initialized "java/lang/System" ∈ lw_all) (hst : cat1 st) (hst8 : st.length ≤ 8) (hR : 1 ≤ M.2.2.2.2.2.1 ∧ 38 ≤ M.2.2.2.2.2.2) (d : decode M.2.1 pc = .ok (.invokestatic idx, 3)) (kk : ∀ B, Sim G M B0 o (κ B) (pc + 3) L st B) : Sim G M B0 o (cpR B e1 sp e2 dp n κ) pc L (iv n :: iv dp :: va_rf e2 :: iv sp :: va_rf e1 :: st) B :=
  Sim.cell fun a0 c1 he1 hB1 => Sim.cell fun a c2 he2 hB2 => Sim.ck fun hc => fun r hr p ev s m args below meth c0 C0 H locs ls hW hS hL => by
    subst he1 he2
    obtain ⟨⟨t1, t2, s1, s2, s3, s4, s5⟩, hfit⟩ := hc
    have hts := C0.2.2.2.2.2.2.1
    have hG := C0.2.2.2.2.2.2.2.1
    obtain ⟨w1, w2, w3⟩ := hW.2.2.1 a0 c1 hB1
    obtain ⟨v1, v2, v3⟩ := hW.2.2.1 a c2 hB2
    have hc0 := (cAt_ref (H := H) t1 (by omega)).mp w1
    have hc1 := (cAt_ref (H := H) (t := 110) (by omega) (by omega)).mp v1
    obtain ⟨g1, g1'⟩ := nat_of2 s1 (by omega)
    obtain ⟨g2, g2'⟩ := nat_of2 s2 (by omega)
    obtain ⟨g3, g3'⟩ := nat_of2 s3 (by omega)
    obtain ⟨-, k0, hk0, cm0, hkk0⟩ := (hG.1.2 4 (gA G 110, .object "java/lang/Object") rfl).1 c1.2.1 (fun j => va_rf (c1.2.2.2 j))
    obtain ⟨-, k1, hk1, cm1, hkk1⟩ := (hG.1.2 4 (gA G 110, .object "java/lang/Object") rfl).1 c2.2.1 (fun j => va_rf (c2.2.2.2 j))
    intro T hT X
    obtain ⟨vm', X', step⟩ := X.arraycopy C0.1 C0.2.2.2.2.2.1 (hts _ q) (hts _ q1) (hts _ q2) (hts _ q3) (src := a0) (dst := a) (srcPos := Int32.ofInt sp) (destPos := Int32.ofInt dp) (n := Int32.ofInt n) (by rw [hT]; exact hc0) (by rw [hT]; exact hc1)
      (fun _ h => by cases h) (fun _ h => by cases h) (fun h => by cases h) (fun h => by cases h) hk0 hk1 hkk0 hkk1 (by rfl) g1 g2 g3
      (by rw [int_nn s1 (by omega), int_nn s3 (by omega), arrV_size]; omega)
      (by rw [int_nn s2 (by omega), int_nn s3 (by omega), arrV_size]; omega)
      (fun vm₁ hal i hi => by
        have e9 : (arrV (gA G 110) c1.2.1 (fun j => va_rf (c1.2.2.2 j))).slots.getD ((Int32.ofInt sp).toNatClampNeg + i) .null = va_rf (c1.2.2.2 ((Int32.ofInt sp).toNatClampNeg + i)) := by
          rw [Array.getD_eq_getD_getElem?, arrV_read _ _ (by omega)]
          rfl
        rw [e9]
        cases hy : c1.2.2.2 ((Int32.ofInt sp).toNatClampNeg + i) with
        | none => exact ⟨rfl, trivial⟩
        | some y =>
          have hf9 := hfit i (by rw [← g3']; exact hi)
          rw [← g1', hy] at hf9
          obtain ⟨i0, E, hi0, key⟩ := fit_key hW hG (t := 110) (by omega) (by omega) hf9
          obtain ⟨kA, comp, r1, r2, r3, -⟩ := (hG.1.2 i0 _ hi0).2
          cases hk1.symm.trans r1
          cases hkk1.symm.trans r2
          obtain ⟨cellV, kC, q1, q2, hkC, q4⟩ := key _ r3
          obtain ⟨kE, hkE, -⟩ := Vm.findClass_spec r3
          obtain ⟨kC', hkC', -⟩ := hal.2.2 _ _ hkC
          obtain ⟨kE', hkE', -⟩ := hal.2.2 _ _ hkE
          refine ⟨rfl, cellV, (show T.heap[y]? = some cellV by rw [hT]; exact q1), q2, ⟨kC', hkC'⟩, ⟨kE', hkE'⟩, ?_⟩
          show vm₁.assignable _ _ = true
          rw [hal.assignable]
          exact q4)
      (g := F0 m pc ls (iv n :: iv dp :: va_rf (some a) :: iv sp :: va_rf (some a0) :: st)) rfl (by rw [C0.2.2.2.2.1]; exact hL.1.1) (rest := st) rfl (by rw [C0.2.1]; exact d) hR.1 (by have := nfw; have hsum := cat1_sum hst; have h8 := hR.2; show 2 * 0 + _ + _ ≤ M.2.2.2.2.2.2; omega)
    have e1 : copied (arrV (gA G 110) c1.2.1 (fun j => va_rf (c1.2.2.2 j))) (arrV (gA G 110) c2.2.1 (fun j => va_rf (c2.2.2.2 j))) (Int32.ofInt sp) (Int32.ofInt dp) (Int32.ofInt n) = arrV (gA G 110) c2.2.1 (fun j => va_rf (va_cpy c1.2.2.2 c2.2.2.2 sp.toNat dp.toNat n.toNat j)) := by
      have h4 : (Int32.ofInt sp).toNatClampNeg + (Int32.ofInt n).toNatClampNeg ≤ c1.2.1 := by omega
      refine (va_copied (fun z : Option Nat => va_rf z) (gA G 110) (gA G 110) c1.2.2.2 c2.2.2.2 h4).trans ?_
      rw [g1', g2', g3']
    rw [e1] at X' step
    have hl : a < H.size := (Array.getElem?_eq_some_iff.mp hc1).1
    have hheap : ((T.setVm vm').setCell a (arrV (gA G 110) c2.2.1 (fun j => va_rf (va_cpy c1.2.2.2 c2.2.2.2 sp.toNat dp.toNat n.toNat j)))).heap = H.setIfInBounds a (arrV (gA G 110) c2.2.1 (fun j => va_rf (va_cpy c1.2.2.2 c2.2.2.2 sp.toNat dp.toNat n.toNat j))) := by rw [← hT]; rfl
    have oq : ∀ q : Nat, q ≠ a → (H.setIfInBounds a (arrV (gA G 110) c2.2.1 (fun j => va_rf (va_cpy c1.2.2.2 c2.2.2.2 sp.toNat dp.toNat n.toNat j))))[q]? = H[q]? := fun q hq => by simp [Array.getElem?_setIfInBounds, Ne.symm hq]
    have ha : (H.setIfInBounds a (arrV (gA G 110) c2.2.1 (fun j => va_rf (va_cpy c1.2.2.2 c2.2.2.2 sp.toNat dp.toNat n.toNat j))))[a]? = some (arrV (gA G 110) c2.2.1 (fun j => va_rf (va_cpy c1.2.2.2 c2.2.2.2 sp.toNat dp.toNat n.toNat j))) := by simp [Array.getElem?_setIfInBounds, hl]
    have hga : gB G ≤ a := v2 (by omega)
    obtain ⟨t, a1, b1⟩ := kk _ r hr p ev s m args below meth c0 C0 _ _ ls (hW.put hB2 (by omega) (c' := (c2.1, c2.2.1, c2.2.2.1, va_cpy c1.2.2.2 c2.2.2.2 sp.toNat dp.toNat n.toNat)) rfl rfl hc1 ha (by rw [arrV_size, arrV_size]) (by simp) oq ((cAt_ref (t := 110) (by show c2.1 % 1000 = 110; omega) (by omega)).mpr ha)) ⟨by simp; exact hS.1, fun q g1 g2 => by
        rw [oq q (fun e => g2 (by rw [e]; exact hga))]
        exact hS.2.1 q g1 g2, fun q hq => by
        rcases List.mem_append.mp hq with h | h
        · exact hS.2.2 q h
        · obtain ⟨z, -, hz⟩ := List.mem_map.mp h
          rw [← hz]
          exact hga⟩ hL _ hheap X'
    exact ⟨t, step t a1, b1⟩
end ROWS10
