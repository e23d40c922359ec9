/-! BASE 8: new arrays, casts, statics, Object's constructor, further calls; the class's side in typed form -/
section ROWS8
variable {ρ ρ' : Type} {G : GT} {M My : MI} {B0 : BH} {o : ρ → Rv × BH} {o' : ρ' → Rv × BH} {x y : Option ρ} {x' : Option ρ'} {pc idx t N : Nat} {C : String} {T : u_T} {L : LL} {st stk : List Value} {B : BH} {e : Option Nat} {K : KT} {As : List Value} {b : Nat}
theorem na_end {p : Program} {e : Env} {s : State} {m : MethodId} {args : Array Value} {below : List Frame} {meth : Method} {c0 : Code} {H : Heap} {locs : List Loc} {c : PC4} {n : Nat} {cl : Cell} {Q : State → Prop} {g : JFrame} (C0 : CX G M B0 p s m args meth c0) (hW : World G s B H) (hS : va_S (gAA G) s.heap H locs) (hK : KOK G K) (hr : rmK K B n) (hz : cl.slots.size = n) (hl : c.2.1 < 2147483648) (hx : c.1 < 2000) (hat : cAt G H.size c (H.push cl)) (htot : tot s.heap ≤ tot H)
    (kk : World G s (pushB B c n) (H.push cl) → va_S (gAA G) s.heap (H.push cl) locs → W p (gL G) e (rmOf G M B0) s m args below meth c0 (H.push cl) locs ((pushB B c n).2.1 - B0.2.1) ((pushB B c n).2.2 - B0.2.2) Q g) : W p (gL G) e (rmOf G M B0) s m args below meth c0 (H.push cl) locs (B.2.1 - B0.2.1 + 1) (B.2.2 - B0.2.2 + n) Q g := by
  have hzl : B0.2.1 ≤ B.2.1 := by
    have := hS.1
    rw [hW.1, C0.2.2.2.2.2.2.2.2.2.1] at this
    exact this
  have htl : B0.2.2 ≤ B.2.2 := by
    rw [hW.2.1, C0.2.2.2.2.2.2.2.2.2.2.1] at htot
    exact htot
  have kk9 := kk (hW.push hK hr hz hl hat hx) ⟨Nat.le_trans hS.1 (by rw [Array.size_push]; omega), fun q h5 h6 => by rw [Array.getElem?_push, if_neg (Nat.ne_of_lt (Nat.lt_of_lt_of_le h5 hS.1))]; exact hS.2.1 q h5 h6, hS.2.2⟩
  have e1 : (pushB B c n).2.1 - B0.2.1 = B.2.1 - B0.2.1 + 1 := by show B.2.1 + 1 - _ = _; omega
  have e2 : (pushB B c n).2.2 - B0.2.2 = B.2.2 - B0.2.2 + n := by show B.2.2 + n - _ = _; omega
  rw [e1, e2] at kk9
  exact kk9
theorem na_lim {s : State} {H : Heap} {n : Nat} (hW : World G s B H) (hS : B0.2.1 ≤ B.2.1) (hT : B0.2.2 ≤ B.2.2) (hK : KOK G K) (hr : rmK K B n) : B.2.1 - B0.2.1 + 1 ≤ (rmOf G M B0).cells ∧ B.2.2 - B0.2.2 + n ≤ (rmOf G M B0).slots := by
  have := hK.1
  have := hK.2.1
  have := hr.1
  have := hr.2
  refine ⟨?_, ?_⟩
  · show _ ≤ gLC G - B0.2.1; omega
  · show _ ≤ gLS G - B0.2.2; omega
theorem nat_of {n : Int} (h : 0 ≤ n ∧ n < 1000000) : ¬ Int32.ofInt n < 0 ∧ (Int32.ofInt n).toNatClampNeg = n.toNat := by
  have ht : (Int32.ofInt n).toInt = n := ok32_toInt ⟨by omega, by omega⟩
  refine ⟨?_, ?_⟩
  · rw [iv_0, iv_lt ⟨by omega, by omega⟩ ok32_0]; omega
  · show (Int32.ofInt n).toInt.toNat = n.toNat
    rw [ht]
theorem h_na_int {n : Int} {κ : Option Nat → BH → Option ρ} (hK : KOK G K) (q : Cond.arrayClass .int ∈ lw_all) (d : decode M.2.1 pc = .ok (.newarray .int, 2)) (kk : ∀ v B, Sim G M B0 o (κ v B) (pc + 2) L (va_rf v :: st) B) : Sim G M B0 o (na K B 100 n κ) pc L (iv n :: st) B :=
  Sim.ck fun hr => fun r hr9 p e s m args below meth c0 C0 H locs ls hW hS hL => W.stand fun htot => by
    have hts := C0.2.2.2.2.2.2.1
    obtain ⟨n1, n2⟩ := nat_of hr.1
    have hzl : B0.2.1 ≤ B.2.1 := by
      have := hS.1
      rw [hW.1, C0.2.2.2.2.2.2.2.2.2.1] at this
      exact this
    have htl : B0.2.2 ≤ B.2.2 := by
      have := htot
      rw [hW.2.1, C0.2.2.2.2.2.2.2.2.2.2.1] at this
      exact this
    obtain ⟨l1, l2⟩ := na_lim (M := M) hW hzl htl hK hr.2
    refine W.newa (atype := .int) C0.1 C0.2.1 (hts _ q) rfl d rfl n1 (by rw [n2]; show n.toNat * 4 ≤ _; omega) l1 (by rw [n2]; exact l2) fun cA kA comp h1 h2 h3 => ?_
    have hcA : gA G 100 = cA := Option.some.inj ((C0.2.2.2.2.2.2.2.1.1.2 0 (gA G 100, .int) rfl).2.symm.trans h1)
    rw [n2]
    refine na_end C0 hW hS hK hr.2 (by rw [Array.size_replicate]) (c := (100, n.toNat, fun _ => 0, fun _ => none)) (by show n.toNat < _; omega) (by show (100 : Nat) < 2000; decide) ?_ htot (fun hW1 hS1 => ?_)
    · refine (cAt_int (t := 100) rfl (Or.inl rfl)).mpr ?_
      rw [Array.getElem?_push_size, arrV_new, hcA]
      rfl
    · rw [hW.1]
      exact kk _ _ r hr9 p e s m args below meth c0 C0 _ locs ls hW1 hS1 hL
theorem h_na_boolean {n : Int} {κ : Option Nat → BH → Option ρ} (hK : KOK G K) (q : Cond.arrayClass .boolean ∈ lw_all) (d : decode M.2.1 pc = .ok (.newarray .boolean, 2)) (kk : ∀ v B, Sim G M B0 o (κ v B) (pc + 2) L (va_rf v :: st) B) : Sim G M B0 o (na K B 101 n κ) pc L (iv n :: st) B :=
  Sim.ck fun hr => fun r hr9 p e s m args below meth c0 C0 H locs ls hW hS hL => W.stand fun htot => by
    have hts := C0.2.2.2.2.2.2.1
    obtain ⟨n1, n2⟩ := nat_of hr.1
    have hzl : B0.2.1 ≤ B.2.1 := by
      have := hS.1
      rw [hW.1, C0.2.2.2.2.2.2.2.2.2.1] at this
      exact this
    have htl : B0.2.2 ≤ B.2.2 := by
      have := htot
      rw [hW.2.1, C0.2.2.2.2.2.2.2.2.2.2.1] at this
      exact this
    obtain ⟨l1, l2⟩ := na_lim (M := M) hW hzl htl hK hr.2
    refine W.newa (atype := .boolean) C0.1 C0.2.1 (hts _ q) rfl d rfl n1 (by rw [n2]; show n.toNat * 1 ≤ _; omega) l1 (by rw [n2]; exact l2) fun cA kA comp h1 h2 h3 => ?_
    have hcA : gA G 101 = cA := Option.some.inj ((C0.2.2.2.2.2.2.2.1.1.2 1 (gA G 101, .boolean) rfl).2.symm.trans h1)
    rw [n2]
    refine na_end C0 hW hS hK hr.2 (by rw [Array.size_replicate]) (c := (101, n.toNat, fun _ => 0, fun _ => none)) (by show n.toNat < _; omega) (by show (101 : Nat) < 2000; decide) ?_ htot (fun hW1 hS1 => ?_)
    · refine (cAt_int (t := 101) rfl (Or.inr (Or.inl rfl))).mpr ?_
      rw [Array.getElem?_push_size, arrV_new, hcA]
      rfl
    · rw [hW.1]
      exact kk _ _ r hr9 p e s m args below meth c0 C0 _ locs ls hW1 hS1 hL
theorem h_na_byte {n : Int} {κ : Option Nat → BH → Option ρ} (hK : KOK G K) (q : Cond.arrayClass .byte ∈ lw_all) (d : decode M.2.1 pc = .ok (.newarray .byte, 2)) (kk : ∀ v B, Sim G M B0 o (κ v B) (pc + 2) L (va_rf v :: st) B) : Sim G M B0 o (na K B 102 n κ) pc L (iv n :: st) B :=
  Sim.ck fun hr => fun r hr9 p e s m args below meth c0 C0 H locs ls hW hS hL => W.stand fun htot => by
    have hts := C0.2.2.2.2.2.2.1
    obtain ⟨n1, n2⟩ := nat_of hr.1
    have hzl : B0.2.1 ≤ B.2.1 := by
      have := hS.1
      rw [hW.1, C0.2.2.2.2.2.2.2.2.2.1] at this
      exact this
    have htl : B0.2.2 ≤ B.2.2 := by
      have := htot
      rw [hW.2.1, C0.2.2.2.2.2.2.2.2.2.2.1] at this
      exact this
    obtain ⟨l1, l2⟩ := na_lim (M := M) hW hzl htl hK hr.2
    refine W.newa (atype := .byte) C0.1 C0.2.1 (hts _ q) rfl d rfl n1 (by rw [n2]; show n.toNat * 1 ≤ _; omega) l1 (by rw [n2]; exact l2) fun cA kA comp h1 h2 h3 => ?_
    have hcA : gA G 102 = cA := Option.some.inj ((C0.2.2.2.2.2.2.2.1.1.2 2 (gA G 102, .byte) rfl).2.symm.trans h1)
    rw [n2]
    refine na_end C0 hW hS hK hr.2 (by rw [Array.size_replicate]) (c := (102, n.toNat, fun _ => 0, fun _ => none)) (by show n.toNat < _; omega) (by show (102 : Nat) < 2000; decide) ?_ htot (fun hW1 hS1 => ?_)
    · refine (cAt_int (t := 102) rfl (Or.inr (Or.inr rfl))).mpr ?_
      rw [Array.getElem?_push_size, arrV_new, hcA]
      rfl
    · rw [hW.1]
      exact kk _ _ r hr9 p e s m args below meth c0 C0 _ locs ls hW1 hS1 hL
theorem h_na_long {n : Int} {κ : Option Nat → BH → Option ρ} (hK : KOK G K) (q : Cond.arrayClass .long ∈ lw_all) (d : decode M.2.1 pc = .ok (.newarray .long, 2)) (kk : ∀ v B, Sim G M B0 o (κ v B) (pc + 2) L (va_rf v :: st) B) : Sim G M B0 o (na K B 103 n κ) pc L (iv n :: st) B :=
  Sim.ck fun hr => fun r hr9 p e s m args below meth c0 C0 H locs ls hW hS hL => W.stand fun htot => by
    have hts := C0.2.2.2.2.2.2.1
    obtain ⟨n1, n2⟩ := nat_of hr.1
    have hzl : B0.2.1 ≤ B.2.1 := by
      have := hS.1
      rw [hW.1, C0.2.2.2.2.2.2.2.2.2.1] at this
      exact this
    have htl : B0.2.2 ≤ B.2.2 := by
      have := htot
      rw [hW.2.1, C0.2.2.2.2.2.2.2.2.2.2.1] at this
      exact this
    obtain ⟨l1, l2⟩ := na_lim (M := M) hW hzl htl hK hr.2
    refine W.newa (atype := .long) C0.1 C0.2.1 (hts _ q) rfl d rfl n1 (by rw [n2]; show n.toNat * 8 ≤ _; omega) l1 (by rw [n2]; exact l2) fun cA kA comp h1 h2 h3 => ?_
    have hcA : gA G 103 = cA := Option.some.inj ((C0.2.2.2.2.2.2.2.1.1.2 3 (gA G 103, .long) rfl).2.symm.trans h1)
    rw [n2]
    refine na_end C0 hW hS hK hr.2 (by rw [Array.size_replicate]) (c := (103, n.toNat, fun _ => 0, fun _ => none)) (by show n.toNat < _; omega) (by show (103 : Nat) < 2000; decide) ?_ htot (fun hW1 hS1 => ?_)
    · refine (cAt_long rfl).mpr ?_
      rw [Array.getElem?_push_size, arrV_new, hcA]
      rfl
    · rw [hW.1]
      exact kk _ _ r hr9 p e s m args below meth c0 C0 _ locs ls hW1 hS1 hL
theorem h_naR {n : Int} {i0 : Nat} {κ : Option Nat → BH → Option ρ} (hK : KOK G K) (q : Cond.classLink M.1.cls idx C ∈ lw_all) (hAO : C ∈ gAO) (ht : 110 ≤ t ∧ t < 1000) (hi0 : (gTys G)[i0]? = some (gA G t, .object C)) (d : decode M.2.1 pc = .ok (.anewarray idx, 3)) (kk : ∀ v B, Sim G M B0 o (κ v B) (pc + 3) L (va_rf v :: st) B) : Sim G M B0 o (na K B t n κ) pc L (iv n :: st) B :=
  Sim.ck fun hr => fun r hr9 p e s m args below meth c0 C0 H locs ls hW hS hL => W.stand fun htot => by
    have hts := C0.2.2.2.2.2.2.1
    obtain ⟨n1, n2⟩ := nat_of hr.1
    have hzl : B0.2.1 ≤ B.2.1 := by
      have := hS.1
      rw [hW.1, C0.2.2.2.2.2.2.2.2.2.1] at this
      exact this
    have htl : B0.2.2 ≤ B.2.2 := by
      have := htot
      rw [hW.2.1, C0.2.2.2.2.2.2.2.2.2.2.1] at this
      exact this
    obtain ⟨l1, l2⟩ := na_lim (M := M) hW hzl htl hK hr.2
    refine W.anew C0.1 C0.2.1 C0.2.2.2.2.2.1 (hts _ q) (va_AO.use (C0.2.2.2.2.2.2.2.1.2.2.2.1 _ hAO)) rfl d rfl n1 (by rw [n2]; omega) l1 (by rw [n2]; exact l2) fun cA kA comp h1 h2 h3 h4 => ?_
    have hcA : gA G t = cA := by
      obtain ⟨_, _, -, -, -, h9⟩ := (C0.2.2.2.2.2.2.2.1.1.2 i0 _ hi0).2
      exact Option.some.inj (h9.symm.trans h1)
    rw [n2]
    refine na_end C0 hW hS hK hr.2 (by rw [Array.size_replicate]) (c := (t, n.toNat, fun _ => 0, fun _ => none)) (by show n.toNat < _; omega) (by show t < 2000; omega) ?_ htot (fun hW1 hS1 => ?_)
    · refine (cAt_ref (t := t) (by show t % 1000 = t; omega) ht.1).mpr ?_
      rw [Array.getElem?_push_size, arrV_new, hcA]
      rfl
    · rw [hW.1]
      exact kk _ _ r hr9 p e s m args below meth c0 C0 _ locs ls hW1 hS1 hL
/-- checkcast to the class of tag t, or to an array class -/
def ctO {ρ : Type} (B : BH) (t : Nat) (e : Option Nat) (x : Option ρ) : Option ρ := match e with
  | none => x
  | some a => (B.1 a).bind fun c => ck (c.1 % 1000 = t) x
theorem ctO_some {a : Nat} {r : ρ} (h : ctO B t (some a) x = some r) : (∃ c, B.1 a = some c ∧ c.1 % 1000 = t) ∧ x = some r := by
  have h' : ((B.1 a).bind fun c => ck (c.1 % 1000 = t) x) = some r := h
  cases hB : B.1 a with
  | none => rw [hB] at h'; cases h'
  | some c => rw [hB] at h'; exact ⟨⟨c, rfl, (ck_some h').1⟩, (ck_some h').2⟩
theorem h_castO (q : Cond.classLink M.1.cls idx C ∈ lw_all) (hC : gCl[t]? = some (C, T, N)) (d : decode M.2.1 pc = .ok (.checkcast idx, 3)) (kk : Sim G M B0 o x (pc + 3) L (va_rf e :: st) B) : Sim G M B0 o (ctO B t e x) pc L (va_rf e :: st) B := by
  intro r hr p ev s m args below meth c0 C0 H locs ls hW hS hL
  cases e with
  | none => exact lv_castN C0.1 C0.2.1 d (kk r hr p ev s m args below meth c0 C0 H locs ls hW hS hL)
  | some a =>
    obtain ⟨⟨c, hB, ht⟩, hr⟩ := ctO_some hr
    exact va_castS C0.1 C0.2.1 C0.2.2.2.2.2.1 (C0.2.2.2.2.2.2.1 _ q) (C0.2.2.2.2.2.2.2.1.1.1 t _ hC).2 (hW.recv C0.2.2.2.2.2.2.2.1 hB ht hC) d (kk r hr p ev s m args below meth c0 C0 H locs ls hW hS hL)
theorem h_castA {nm : String} {i0 : Nat} {ty : FieldType} (q : Cond.classLink M.1.cls idx nm ∈ lw_all) (hi0 : (gTys G)[i0]? = some (gA G t, ty)) (hnm : nm = "[" ++ ty.toString) (ht : t = 100 ∨ (110 ≤ t ∧ t < 1000)) (hty : t = 100 → ty = .int) (hty2 : 110 ≤ t → ∃ C, ty = .object C) (d : decode M.2.1 pc = .ok (.checkcast idx, 3)) (kk : Sim G M B0 o x (pc + 3) L (va_rf e :: st) B) : Sim G M B0 o (ctO B t e x) pc L (va_rf e :: st) B := by
  intro r hr p ev s m args below meth c0 C0 H locs ls hW hS hL
  cases e with
  | none => exact lv_castN C0.1 C0.2.1 d (kk r hr p ev s m args below meth c0 C0 H locs ls hW hS hL)
  | some a =>
    obtain ⟨⟨c, hB, hct⟩, hr⟩ := ctO_some hr
    obtain ⟨w1, w2, w3⟩ := hW.2.2.1 a c hB
    have hnm1 : s.vm.findClass nm = some (gA G t) := by
      have h9 := (C0.2.2.2.2.2.2.2.1.1.2 i0 _ hi0).2
      rw [hnm]
      rcases ht with rfl | ht
      · rw [hty rfl] at h9 ⊢
        exact h9
      · obtain ⟨C9, rfl⟩ := hty2 ht.1
        obtain ⟨_, _, -, -, -, h8⟩ := h9
        exact h8
    have hP : ∃ x : vp_A, va_P (gD G) gCl [(a, .inl (gA G t, x))] H := by
      rcases ht with rfl | ht
      · refine ⟨(c.2.1, .inl (fun j => Int32.ofInt (c.2.2.1 j))), fun k q hq => ?_⟩
        cases k with
        | zero => cases hq; exact (cAt_int (H := H) hct (Or.inl rfl)).mp w1
        | succ k => simp at hq
      · refine ⟨(c.2.1, .inr (.inr (.inr (.inr c.2.2.2)))), fun k q hq => ?_⟩
        cases k with
        | zero => cases hq; exact (cAt_ref (H := H) hct ht.1).mp w1
        | succ k => simp at hq
    obtain ⟨x9, hP⟩ := hP
    exact va_castA C0.1 C0.2.1 C0.2.2.2.2.2.1 (C0.2.2.2.2.2.2.1 _ q) hP 0 rfl hnm1 d (kk r hr p ev s m args below meth c0 C0 H locs ls hW hS hL)
theorem s_gets {n dd : String} {v : Value} (hz : (C, n, dd, v) ∈ gZ G) (q : Cond.fieldLink M.1.cls idx C n dd ∈ lw_all) (d : decode M.2.1 pc = .ok (.getstatic idx, 3)) (kk : Sim G M B0 o x (pc + 3) L (v :: st) B) : Sim G M B0 o x pc L st B := fun r hr p e s m args below meth c0 C0 H locs ls hW hS hL => by
  obtain ⟨cf, kf, fi, f, a, cell, h1, h2, h3, h4, h5, h6, h7, h8⟩ := hW.2.2.2.2.1.1 _ hz
  exact W.gets C0.1 C0.2.1 C0.2.2.2.2.2.1 (C0.2.2.2.2.2.2.1 _ q) h1 h2 h3 h4 h5 (fun e => by rw [e] at h6; cases h6) h7 rfl d (kk r hr p e s m args below meth c0 C0 H locs ls hW hS hL)
theorem h_getsR {n dd : String} {i : Nat} (hK : KOK G K) (hi : gSt[i]? = some (C, n, dd)) (q : Cond.fieldLink M.1.cls idx C n dd ∈ lw_all) (d : decode M.2.1 pc = .ok (.getstatic idx, 3)) (kk : Sim G M B0 o x (pc + 3) L (va_rf (K.2.2.2.2 i) :: st) B) : Sim G M B0 o x pc L st B := s_gets (hK.2.2.1 i _ hi) q d kk
theorem h_getsI {n dd : String} {v : Int} (hK : KOK G K) (hi : (C, n, dd, v) ∈ gSi) (q : Cond.fieldLink M.1.cls idx C n dd ∈ lw_all) (d : decode M.2.1 pc = .ok (.getstatic idx, 3)) (kk : Sim G M B0 o x (pc + 3) L (iv v :: st) B) : Sim G M B0 o x pc L st B := s_gets (hK.2.2.2.1 _ hi) q d kk
theorem h_objInit (q1 : Cond.methodLink M.1.cls idx Lib.objectInit ∈ lw_all) (q2 : Cond.instanceMethod Lib.objectInit ∈ lw_all) (q3 : Cond.code Lib.objectInit ⟨#[0xb1]⟩ 1 none ∈ lw_all) (hR : 1 ≤ M.2.2.2.2.2.1 ∧ 20 ≤ M.2.2.2.2.2.2) (hst : cat1 st) (hst8 : st.length ≤ 8) (d : decode M.2.1 pc = .ok (.invokespecial idx, 3)) (kk : Sim G M B0 o x (pc + 3) L st B) : Sim G M B0 o (ck (e ≠ none) x) pc L (va_rf e :: st) B :=
  Sim.ck fun he => fun r hr p ev s m args below meth c0 C0 H locs ls hW hS hL => by
    have hts := C0.2.2.2.2.2.2.1
    cases e with
    | none => exact absurd rfl he
    | some a => exact W.objInit C0.1 C0.2.1 C0.2.2.2.2.2.1 (hts _ q1) (hts _ q2) (hts _ q3) rfl (hL.1.1.trans C0.2.2.2.2.1.symm) rfl d hR.1 (by rw [cat1_sum hst]; show 2 * 0 + _ + 12 ≤ M.2.2.2.2.2.2; omega) (kk r hr p ev s m args below meth c0 C0 H locs ls hW hS hL)
theorem cr_SN {host : String} (hM : MetN G My B o' x' As) (n : Nat) (hn : As.length = n) (hstk : stk = As.reverse ++ st) (hw : GoodIn lw_all (wsM My)) (q1 : Cond.initialized My.1.cls ∈ lw_all) (q2 : Cond.methodLinkNest M.1.cls idx My.1 host ∈ gNw) (q3 : Cond.static My.1 ∈ lw_all) (hd : dOK My.1 n) (hR : rOK M My) (hst : cat1 st) (hst8 : st.length ≤ 8) (d : decode M.2.1 pc = .ok (.invokestatic idx, 3)) : ∀ r, x' = some r → CRun (ρ' := ρ') G M B0 pc L stk st B (o' r) := by
  intro r hx p e s m args below meth c0 C0 H locs ls hW hS hL hzl htl
  subst hstk
  have hlim := hW.2.2.2.1
  have hts := C0.2.2.2.2.2.2.1
  exact ⟨_, vx_runSN (n := n) ⟨C0.1, C0.2.1, C0.2.2.2.2.1, C0.2.2.2.2.2.1, hts⟩ (hM r hx) ⟨va_cnB n hts hw rfl rfl rfl (C0.2.2.2.2.2.2.2.1.2.1 _ q2) (hts _ q1) hd hR, hts _ q3, trivial⟩ ⟨blind, fun U hU hWm => ⟨rfl, by rw [hU]; exact hW.warm hWm, C0.2.2.2.2.2.2.2.1.warm hWm⟩⟩ rfl hn hL.1.1 rfl (lv_room (by rw [cat1_sum hst]; exact hst8)) d ⟨by show _ ≤ gLC G - B0.2.1; omega, by show _ ≤ gLS G - B0.2.2; omega⟩⟩
/-- a method of a class above, by the receiver -/
theorem cr_U {xm : MethodName} {owner : String} (hM : MetN G My B o' x' (.ref b :: As)) (n : Nat) (hn : As.length = n) (hstk : stk = As.reverse ++ .ref b :: st) (hb : ∃ c, B.1 b = some c ∧ c.1 % 1000 = t) (hC : gCl[t]? = some (C, T, N)) (hw : GoodIn lw_all (va_wsU M.1.cls idx C owner xm My.1 (wsM My))) (hyx : My.1 = ⟨owner, xm.name, xm.desc⟩) (hd : owner ≠ "java/lang/invoke/MethodHandle" ∧ owner ≠ "java/lang/invoke/VarHandle" ∧ (parseMethodDescriptor xm.desc).map (fun d => d.parameters.length) = some n) (hR : rOK M My) (hst : cat1 st) (hst8 : st.length ≤ 8) (d : decode M.2.1 pc = .ok (.invokevirtual idx, 3)) : ∀ r, x' = some r → CRun (ρ' := ρ') G M B0 pc L stk st B (o' r) := by
  intro r hx p e s m args below meth c0 C0 H locs ls hW hS hL hzl htl
  subst hstk
  obtain ⟨c, hB, hct⟩ := hb
  have hlim := hW.2.2.2.1
  have hts := C0.2.2.2.2.2.2.1
  exact ⟨_, vx_runU (C := C) (owner := owner) (n := n) ⟨C0.1, C0.2.1, C0.2.2.2.2.1, C0.2.2.2.2.2.1, hts⟩ (hM r hx) (va_cwU n hts hw rfl rfl rfl hyx hd hR) ⟨blind, hW.recv C0.2.2.2.2.2.2.2.1 hB hct hC, fun U hU hWm => ⟨rfl, by rw [hU]; exact hW.warm hWm, C0.2.2.2.2.2.2.2.1.warm hWm⟩⟩ rfl hn hL.1.1 rfl (lv_room (by rw [cat1_sum hst]; exact hst8)) d ⟨by show _ ≤ gLC G - B0.2.1; omega, by show _ ≤ gLS G - B0.2.2; omega⟩⟩
/-- super.m(..) -/
theorem cr_SU (hM : MetN G My B o' x' (.ref b :: As)) (n : Nat) (hn : As.length = n) (hstk : stk = As.reverse ++ .ref b :: st) (hb : ∃ c, B.1 b = some c ∧ c.1 % 1000 = t) (hC : gCl[t]? = some (C, T, N)) (hw : GoodIn lw_all (va_wsSU M.1.cls idx My.1 (wsM My))) (hd : My.1.name ≠ "<init>" ∧ (parseMethodDescriptor My.1.desc).map (fun d => d.parameters.length) = some n) (hR : rOK M My) (hst : cat1 st) (hst8 : st.length ≤ 8) (d : decode M.2.1 pc = .ok (.invokespecial idx, 3)) : ∀ r, x' = some r → CRun (ρ' := ρ') G M B0 pc L stk st B (o' r) := by
  intro r hx p e s m args below meth c0 C0 H locs ls hW hS hL hzl htl
  subst hstk
  obtain ⟨c, hB, hct⟩ := hb
  have hlim := hW.2.2.2.1
  have hts := C0.2.2.2.2.2.2.1
  exact ⟨_, vx_runSU (C := C) (n := n) (C0.2.2.2.2.2.2.2.1.1.1 t _ hC).2 ⟨C0.1, C0.2.1, C0.2.2.2.2.1, C0.2.2.2.2.2.1, hts⟩ (hM r hx) (va_cwSU n hts hw rfl rfl rfl hd hR) ⟨blind, hW.recv C0.2.2.2.2.2.2.2.1 hB hct hC, fun U hU hWm => ⟨rfl, by rw [hU]; exact hW.warm hWm, C0.2.2.2.2.2.2.2.1.warm hWm⟩⟩ rfl hn hL.1.1 rfl (lv_room (by rw [cat1_sum hst]; exact hst8)) d ⟨by show _ ≤ gLC G - B0.2.1; omega, by show _ ≤ gLS G - B0.2.2; omega⟩⟩
/-! typed answers of the class's side -/
def oh1 (r : Int × BH) : Rv × BH := ((1, r.1, none), r.2)
def oh2 (r : Option Nat × BH) : Rv × BH := ((2, 0, r.1), r.2)
def oh0 (r : BH) : Rv × BH := ((0, 0, none), r)
def hb1 {ρ : Type} (x : Option (Int × BH)) (κ : Int → BH → Option ρ) : Option ρ := x.bind (fun r => κ r.1 r.2)
def hb2 {ρ : Type} (x : Option (Option Nat × BH)) (κ : Option Nat → BH → Option ρ) : Option ρ := x.bind (fun r => κ r.1 r.2)
def hb0 {ρ : Type} (x : Option BH) (κ : BH → Option ρ) : Option ρ := x.bind κ
/-- the receiver is an object of tag t -/
def rcv {ρ : Type} (B : BH) (t : Nat) (e : Option Nat) (κ : Nat → Option ρ) : Option ρ := match e with
  | none => none
  | some a => (B.1 a).bind fun c => ck (c.1 % 1000 = t) (κ a)
/-- no null, no more is asked -/
def rcn {ρ : Type} (e : Option Nat) (κ : Nat → Option ρ) : Option ρ := match e with
  | none => none
  | some a => κ a
theorem h_rcv {κ : Nat → Option ρ} (h : ∀ a, e = some a → (∃ c, B.1 a = some c ∧ c.1 % 1000 = t) → Sim G M B0 o (κ a) pc L stk B) : Sim G M B0 o (rcv B t e κ) pc L stk B := by
  intro r hr
  cases e with
  | none => cases hr
  | some a =>
    have h' : ((B.1 a).bind fun c => ck (c.1 % 1000 = t) (κ a)) = some r := hr
    cases hB : B.1 a with
    | none => rw [hB] at h'; cases h'
    | some c => rw [hB] at h'; exact h a rfl ⟨c, hB, (ck_some h').1⟩ r (ck_some h').2
theorem h_rcn {κ : Nat → Option ρ} (h : ∀ a, e = some a → Sim G M B0 o (κ a) pc L stk B) : Sim G M B0 o (rcn e κ) pc L stk B := by
  intro r hr
  cases e with
  | none => cases hr
  | some a => exact h a rfl r hr
theorem hr1 : ∀ r : Int × BH, (oh1 r).1.1 < 10 := fun _ => by show 1 < 10; omega
theorem hr2 : ∀ r : Option Nat × BH, (oh2 r).1.1 < 10 := fun _ => by show 2 < 10; omega
theorem hr0 : ∀ r : BH, (oh0 r).1.1 < 10 := fun _ => by show 0 < 10; omega
end ROWS8
