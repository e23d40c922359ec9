/-! BASE 5: the reference's state: one object at h, its arrays at h + 1 .. in the order of their making; rows over it -/
abbrev TS : Type := (Nat → Int) × (Nat → Nat → Int)
def tLen (j : Nat) : Nat := ((tTab[j]?).map (·.1)).getD 0
def tTag (j : Nat) : Nat := ((tTab[j]?).map (·.2)).getD 100
def ovl (Bx : BH) (h : Nat) (τ : TS) : BH := (fun a => if a = h then some (0, 0, τ.1, fun k => (tAi k).map (fun j => h + 1 + j)) else if h < a ∧ a < h + 1 + tTab.length then some (tTag (a - h - 1), tLen (a - h - 1), τ.2 (a - h - 1), fun _ => none) else Bx.1 a, Bx.2)
def setF (τ : TS) (k : Nat) (v : Int) : TS := (fun k' => if k' = k then v else τ.1 k', τ.2)
def setA (τ : TS) (j : Nat) (i : Int) (v : Int) : TS := (τ.1, fun j' => if j' = j then (fun i' => if i' = i.toNat then v else τ.2 j i') else τ.2 j')
def tF (τ : TS) (k : Nat) : Int := τ.1 k
def tA (τ : TS) (j : Nat) (i : Int) : Int := τ.2 j i.toNat
abbrev inI (j : Nat) (i : Int) : Prop := (j < tTab.length ∧ tTag j = 100) ∧ 0 ≤ i ∧ i < tLen j
abbrev inZ (j : Nat) (i : Int) : Prop := (j < tTab.length ∧ tTag j = 101) ∧ 0 ≤ i ∧ i < tLen j
def ot1 (Bx : BH) (h : Nat) (r : Int × TS) : Rv × BH := ((1, r.1, none), ovl Bx h r.2)
def ot0 (Bx : BH) (h : Nat) (r : TS) : Rv × BH := ((0, 0, none), ovl Bx h r)
def bd1 {ρ : Type} (x : Option (Int × TS)) (κ : Int → TS → Option ρ) : Option ρ := x.bind (fun r => κ r.1 r.2)
def bd0 {ρ : Type} (x : Option TS) (κ : TS → Option ρ) : Option ρ := x.bind κ
theorem ovl_o {Bx : BH} {h : Nat} {τ : TS} : (ovl Bx h τ).1 h = some (0, 0, τ.1, fun k => (tAi k).map (fun j => h + 1 + j)) := if_pos rfl
theorem ovl_a {Bx : BH} {h j : Nat} {τ : TS} (hj : j < tTab.length) : (ovl Bx h τ).1 (h + 1 + j) = some (tTag j, tLen j, τ.2 j, fun _ => none) := by
  unfold ovl
  show (if h + 1 + j = h then _ else if h < h + 1 + j ∧ h + 1 + j < h + 1 + tTab.length then _ else _) = _
  rw [if_neg (by omega), if_pos ⟨by omega, by omega⟩, show h + 1 + j - h - 1 = j by omega]
theorem upB_ovl_o {Bx : BH} {h k : Nat} {τ : TS} {v : Int} : upB (ovl Bx h τ) h (putI (0, 0, τ.1, fun k => (tAi k).map (fun j => h + 1 + j)) k v) = ovl Bx h (setF τ k v) := by
  refine Prod.ext (funext fun a => ?_) rfl
  show (if a = h then _ else (if a = h then _ else _)) = (if a = h then _ else _)
  by_cases e : a = h
  · rw [if_pos e, if_pos e]; rfl
  · rw [if_neg e, if_neg e, if_neg e]; rfl
theorem upB_ovl_a {Bx : BH} {h j : Nat} {τ : TS} {i v : Int} (hj : j < tTab.length) : upB (ovl Bx h τ) (h + 1 + j) (putI (tTag j, tLen j, τ.2 j, fun _ => none) i.toNat v) = ovl Bx h (setA τ j i v) := by
  refine Prod.ext (funext fun a => ?_) rfl
  show (if a = h + 1 + j then _ else (if a = h then _ else if h < a ∧ a < h + 1 + tTab.length then _ else _)) = (if a = h then _ else if h < a ∧ a < h + 1 + tTab.length then _ else _)
  by_cases e : a = h + 1 + j
  · subst e
    rw [if_pos rfl, if_neg (by omega), if_pos ⟨by omega, by omega⟩, show h + 1 + j - h - 1 = j by omega]
    show some (tTag j, tLen j, _, _) = some (tTag j, tLen j, (setA τ j i v).2 j, _)
    congr 3
    unfold setA
    simp
  · rw [if_neg e]
    by_cases e2 : a = h
    · rw [if_pos e2, if_pos e2]; rfl
    · rw [if_neg e2, if_neg e2]
      by_cases e3 : h < a ∧ a < h + 1 + tTab.length
      · rw [if_pos e3, if_pos e3]
        have e4 : a - h - 1 ≠ j := by omega
        unfold setA
        simp [e4]
      · rw [if_neg e3, if_neg e3]
section TWIN
variable {ρ : Type} {G : GT} {M My : MI} {Bx B0 : BH} {h : Nat} {τ : TS} {o : ρ → Rv × BH} {x y : Option ρ} {pc : Nat} {L : LL} {st stk : List Value}
theorem s_aloadR_n {B : BH} {k : Fin 4} {a : Nat} (d : decode M.2.1 pc = .ok (.aload_n k, 1)) (hl : L[(k : Nat)]? = some (some (.ref a))) (kk : Sim G M B0 o x (pc + 1) L (.ref a :: st) B) : Sim G M B0 o x pc L st B := s_aload_n (a := some a) d hl kk
theorem s_aloadR {B : BH} {k : Nat} {a : Nat} (d : decode M.2.1 pc = .ok (.aload k, 2)) (hl : L[k]? = some (some (.ref a))) (kk : Sim G M B0 o x (pc + 2) L (.ref a :: st) B) : Sim G M B0 o x pc L st B := s_aload (a := some a) d hl kk
theorem s_iincn {B : BH} {L' : Int → LL} {i : Nat} {n a : Int} {κ : Int → Option ρ} (d : decode M.2.1 pc = .ok (.iinc i n, 3)) (hi : L[i]? = some (some (iv a))) (hn : i < M.2.2.1) (hl : ∀ v : Int, L.set i (some (iv v)) = L' v) (kk : ∀ v, Sim G M B0 o (κ v) (pc + 3) (L' v) st B) : Sim G M B0 o (nm (a + n) κ) pc L st B := s_iinc d hi hn (hl _) (kk (a + n))
theorem s_istore_nn {B : BH} {L' : Int → LL} {k : Fin 4} {a : Int} {κ : Int → Option ρ} (d : decode M.2.1 pc = .ok (.istore_n k, 1)) (hn : (k : Nat) < M.2.2.1) (hl : ∀ v : Int, L.set (k : Nat) (some (iv v)) = L' v) (kk : ∀ v, Sim G M B0 o (κ v) (pc + 1) (L' v) st B) : Sim G M B0 o (nm a κ) pc L (iv a :: st) B := s_istore_n d hn (hl _) (kk a)
theorem s_istoren {B : BH} {L' : Int → LL} {k : Nat} {a : Int} {κ : Int → Option ρ} (d : decode M.2.1 pc = .ok (.istore k, 2)) (hn : k < M.2.2.1) (hl : ∀ v : Int, L.set k (some (iv v)) = L' v) (kk : ∀ v, Sim G M B0 o (κ v) (pc + 2) (L' v) st B) : Sim G M B0 o (nm a κ) pc L (iv a :: st) B := s_istore d hn (hl _) (kk a)
theorem fX3 {k : Nat} (hk : k < 79) : fdOK 0 RX3 TX3 79 k := ⟨rfl, in_X3, hk⟩
theorem t_getA {k j idx : Nat} (hk : k < 79) (hj : tAi k = some j) (hr : gRef 0 k = true) (q : Cond.fieldLink M.1.cls idx (TX3 k).1 (TX3 k).2.1 (TX3 k).2.2.1 ∈ lw_all) (d : decode M.2.1 pc = .ok (.getfield idx, 3)) (kk : Sim G M B0 o x (pc + 3) L (.ref (h + 1 + j) :: st) (ovl Bx h τ)) : Sim G M B0 o x pc L (.ref h :: st) (ovl Bx h τ) :=
  s_getf (t := 0) ovl_o rfl (fX3 hk) (flk_own q) d (by unfold fV; rw [if_pos hr]; show Sim G M B0 o x (pc + 3) L (va_rf ((tAi k).map (fun j => h + 1 + j)) :: st) _; rw [hj]; exact kk)
theorem t_getI {k idx : Nat} (hk : k < 79) (hr : gRef 0 k = false) (q : Cond.fieldLink M.1.cls idx (TX3 k).1 (TX3 k).2.1 (TX3 k).2.2.1 ∈ lw_all) (d : decode M.2.1 pc = .ok (.getfield idx, 3)) (kk : Sim G M B0 o x (pc + 3) L (iv (tF τ k) :: st) (ovl Bx h τ)) : Sim G M B0 o x pc L (.ref h :: st) (ovl Bx h τ) :=
  s_getf (t := 0) ovl_o rfl (fX3 hk) (flk_own q) d (by unfold fV; rw [if_neg (by rw [hr]; decide)]; exact kk)
theorem t_putI {k idx : Nat} {v : Int} {κ : TS → Option ρ} (hk : k < 79) (hr : gRef 0 k = false) (hfin : (TX3 k).2.2.2 = false) (hty : (TX3 k).2.2.1 = "I") (q : Cond.fieldLink M.1.cls idx (TX3 k).1 (TX3 k).2.1 (TX3 k).2.2.1 ∈ lw_all) (d : decode M.2.1 pc = .ok (.putfield idx, 3)) (kk : ∀ τ', Sim G M B0 o (κ τ') (pc + 3) L st (ovl Bx h τ')) : Sim G M B0 o (nm (setF τ k v) κ) pc L (iv v :: .ref h :: st) (ovl Bx h τ) := by
  refine s_putG (t := 0) (ty := .int) tyX3 tyX3_ok nmX3 ovl_o rfl (fX3 hk) (flk_own q) (Or.inl hfin) (fun h9 => by rw [hfin] at h9; cases h9) (by rw [hty]; decide +kernel) rfl rfl (c' := putI (0, 0, τ.1, fun k => (tAi k).map (fun j => h + 1 + j)) k v) rfl rfl (fun j => ?_) d ?_
  · unfold fV putI
    by_cases e : j = k
    · subst e
      rw [if_neg (by rw [hr]; decide), if_pos rfl]
      show iv (if j = j then v else τ.1 j) = _
      rw [if_pos rfl]
    · rw [if_neg e]
      show (if gRef 0 j = true then _ else Value.int (Int32.ofInt (if j = k then v else τ.1 j))) = _
      rw [if_neg e]
  · rw [upB_ovl_o]
    exact kk _
theorem t_iald {j : Nat} {i : Int} (d : decode M.2.1 pc = .ok (.iaload, 1)) (kk : Sim G M B0 o x (pc + 1) L (iv (tA τ j i) :: st) (ovl Bx h τ)) : Sim G M B0 o (ck (inI j i) x) pc L (iv i :: .ref (h + 1 + j) :: st) (ovl Bx h τ) := fun r hr => by
  obtain ⟨⟨⟨hj, ht⟩, hi⟩, hr⟩ := ck_some hr
  exact s_iald (x := some r) (ovl_a hj) (by show tTag j % 1000 = 100; rw [ht]) d (fun r' e => by cases e; exact kk r hr) r (if_pos hi)
theorem t_zald {j : Nat} {i : Int} (d : decode M.2.1 pc = .ok (.baload, 1)) (kk : Sim G M B0 o x (pc + 1) L (iv (tA τ j i) :: st) (ovl Bx h τ)) : Sim G M B0 o (ck (inZ j i) x) pc L (iv i :: .ref (h + 1 + j) :: st) (ovl Bx h τ) := fun r hr => by
  obtain ⟨⟨⟨hj, ht⟩, hi⟩, hr⟩ := ck_some hr
  exact s_zald (x := some r) (ovl_a hj) (by show tTag j % 1000 = 101; rw [ht]) d (fun r' e => by cases e; exact kk r hr) r (if_pos hi)
theorem t_iast {j : Nat} {i v : Int} {κ : TS → Option ρ} (d : decode M.2.1 pc = .ok (.iastore, 1)) (kk : ∀ τ', Sim G M B0 o (κ τ') (pc + 1) L st (ovl Bx h τ')) : Sim G M B0 o (ck (inI j i) (nm (setA τ j i v) κ)) pc L (iv v :: iv i :: .ref (h + 1 + j) :: st) (ovl Bx h τ) := fun r hr => by
  obtain ⟨⟨⟨hj, ht⟩, hi⟩, hr⟩ := ck_some hr
  exact s_iast (x := some r) (ovl_a hj) ht d (fun r' e => by cases e; rw [upB_ovl_a hj]; exact kk _ r hr) r (if_pos hi)
theorem t_zast {j : Nat} {i v : Int} {κ : TS → Option ρ} (d : decode M.2.1 pc = .ok (.bastore, 1)) (kk : ∀ τ', Sim G M B0 o (κ τ') (pc + 1) L st (ovl Bx h τ')) : Sim G M B0 o (ck (inZ j i ∧ is01 v) (nm (setA τ j i v) κ)) pc L (iv v :: iv i :: .ref (h + 1 + j) :: st) (ovl Bx h τ) := fun r hr => by
  obtain ⟨⟨⟨⟨hj, ht⟩, hi⟩, h01⟩, hr⟩ := ck_some hr
  exact s_zast (x := some r) (ovl_a hj) ht d (fun r' e => by cases e; rw [upB_ovl_a hj]; exact kk _ r hr) r (if_pos ⟨hi, h01⟩)
theorem t_callV1 {x' : Option (Int × TS)} {κ : Int → TS → Option ρ} {idx : Nat} {As : List Value} (hM : MetN G My (ovl Bx h τ) (ot1 Bx h) x' (.ref h :: As)) (n : Nat) (hn : As.length = n) (hstk : stk = As.reverse ++ .ref h :: st) (hw : GoodIn lw_all (wsV M.1.cls idx RX3 My.1 (ws_ My.1 My.2.1 My.2.2.1 My.2.2.2.1)))
    (hd : My.1.cls = RX3 ∧ My.1.cls ≠ "java/lang/invoke/MethodHandle" ∧ My.1.cls ≠ "java/lang/invoke/VarHandle" ∧ (parseMethodDescriptor My.1.desc).map (fun d => d.parameters.length) = some n) (hR : My.2.2.2.2.2.1 + 1 ≤ M.2.2.2.2.2.1 ∧ 8 + (My.2.2.1 + 11) + My.2.2.2.2.2.2 ≤ M.2.2.2.2.2.2)
    (hst : cat1 st) (hst8 : st.length ≤ 8) (d : decode M.2.1 pc = .ok (.invokevirtual idx, 3)) (kk : ∀ v τ', Sim G M B0 o (κ v τ') (pc + 3) L (iv v :: st) (ovl Bx h τ')) : Sim G M B0 o (bd1 x' κ) pc L stk (ovl Bx h τ) :=
  s_callV hM n hn hstk ⟨_, ovl_o, rfl⟩ (t := 0) (C := RX3) (T := TX3) (N := 79) rfl hw hd hR hst hst8 (fun _ => by show 1 < 10; omega) d (fun r => kk r.1 r.2)
theorem t_callV0 {x' : Option TS} {κ : TS → Option ρ} {idx : Nat} {As : List Value} (hM : MetN G My (ovl Bx h τ) (ot0 Bx h) x' (.ref h :: As)) (n : Nat) (hn : As.length = n) (hstk : stk = As.reverse ++ .ref h :: st) (hw : GoodIn lw_all (wsV M.1.cls idx RX3 My.1 (ws_ My.1 My.2.1 My.2.2.1 My.2.2.2.1)))
    (hd : My.1.cls = RX3 ∧ My.1.cls ≠ "java/lang/invoke/MethodHandle" ∧ My.1.cls ≠ "java/lang/invoke/VarHandle" ∧ (parseMethodDescriptor My.1.desc).map (fun d => d.parameters.length) = some n) (hR : My.2.2.2.2.2.1 + 1 ≤ M.2.2.2.2.2.1 ∧ 8 + (My.2.2.1 + 11) + My.2.2.2.2.2.2 ≤ M.2.2.2.2.2.2)
    (hst : cat1 st) (hst8 : st.length ≤ 8) (d : decode M.2.1 pc = .ok (.invokevirtual idx, 3)) (kk : ∀ τ', Sim G M B0 o (κ τ') (pc + 3) L st (ovl Bx h τ')) : Sim G M B0 o (bd0 x' κ) pc L stk (ovl Bx h τ) :=
  s_callV hM n hn hstk ⟨_, ovl_o, rfl⟩ (t := 0) (C := RX3) (T := TX3) (N := 79) rfl hw hd hR hst hst8 (fun _ => by show 0 < 10; omega) d (fun r => kk r)
theorem t_callS1 {x' : Option (Int × TS)} {κ : Int → TS → Option ρ} {idx : Nat} {As : List Value} (hM : MetN G My (ovl Bx h τ) (ot1 Bx h) x' As) (n : Nat) (hn : As.length = n) (hstk : stk = As.reverse ++ st) (hw : GoodIn lw_all (va_wsS M.1.cls idx My.1 (ws_ My.1 My.2.1 My.2.2.1 My.2.2.2.1)))
    (hd : My.1.cls ≠ "java/lang/invoke/MethodHandle" ∧ My.1.cls ≠ "java/lang/invoke/VarHandle" ∧ (parseMethodDescriptor My.1.desc).map (fun d => d.parameters.length) = some n) (hR : My.2.2.2.2.2.1 + 1 ≤ M.2.2.2.2.2.1 ∧ 8 + (My.2.2.1 + 11) + My.2.2.2.2.2.2 ≤ M.2.2.2.2.2.2)
    (hst : cat1 st) (hst8 : st.length ≤ 8) (d : decode M.2.1 pc = .ok (.invokestatic idx, 3)) (kk : ∀ v τ', Sim G M B0 o (κ v τ') (pc + 3) L (iv v :: st) (ovl Bx h τ')) : Sim G M B0 o (bd1 x' κ) pc L stk (ovl Bx h τ) :=
  s_callS hM n hn hstk hw hd hR hst hst8 (fun _ => by show 1 < 10; omega) d (fun r => kk r.1 r.2)
end TWIN
