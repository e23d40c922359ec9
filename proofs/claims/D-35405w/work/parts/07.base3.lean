/-! BASE 3: rows that read and write the world; returns; a contract out of a Sim -/
def upB (B : BH) (a : Nat) (c : PC4) : BH := (fun q => if q = a then some c else B.1 q, B.2)
theorem World.put {G : GT} {s : State} {B : BH} {H H1 : Heap} {a : Nat} {c c' : PC4} {cell cell1 : Cell} (hW : World G s B H) (hc : B.1 a = some c) (hlo : c.1 < 1000) (ht : c'.1 = c.1) (hl : c'.2.1 = c.2.1) (h0 : H[a]? = some cell) (h1 : H1[a]? = some cell1) (hz : cell1.slots.size = cell.slots.size) (e2 : H1.size = H.size) (e3 : ∀ q : Nat, q ≠ a → H1[q]? = H[q]?) (hat : cAt G a c' H1) : World G s (upB B a c') H1 := by
  obtain ⟨w1, w2, w3, w4, w5, w6⟩ := hW
  have hga : gB G ≤ a := (w3 a c hc).2.1 hlo
  refine ⟨e2.trans w1, (tot_same fun q => ?_).trans w2, fun q d hq => ?_, w4, w5.kept (fun q hq hA => e3 q (fun e => hA (by rw [e]; exact hga))), fun q d hq hd => ?_⟩
  · by_cases e : q = a
    · subst e
      rw [h0, h1]
      simp [hz]
    · rw [e3 q e]
  · by_cases e : q = a
    · subst e
      have hq' : (if q = q then some c' else B.1 q) = some d := hq
      rw [if_pos rfl] at hq'
      cases hq'
      exact ⟨hat, fun _ => hga, by rw [hl]; exact (w3 q c hc).2.2⟩
    · have hq' : (if q = a then some c' else B.1 q) = some d := hq
      rw [if_neg e] at hq'
      exact ⟨(w3 q d hq').1.kept (e3 q e), (w3 q d hq').2⟩
  · by_cases e : q = a
    · subst e
      have hq' : (if q = q then some c' else B.1 q) = some d := hq
      rw [if_pos rfl] at hq'
      cases hq'
      omega
    · have hq' : (if q = a then some c' else B.1 q) = some d := hq
      rw [if_neg e] at hq'
      exact (w6 q d hq' hd).kept (e3 q e)
theorem cAt_obj {G : GT} {a : Nat} {c : PC4} {H : Heap} {t : Nat} (ht : c.1 % 1000 = t) (hl : t < 100) : cAt G a c H ↔ va_at (gD G) gCl (a, .inr (t, (List.range (gN t)).map (fV t c.2.2.1 c.2.2.2))) H := by
  unfold cAt cE
  rw [ht, if_pos hl]
theorem cAt_int {G : GT} {a : Nat} {c : PC4} {H : Heap} {t : Nat} (ht : c.1 % 1000 = t) (hl : t = 100 ∨ t = 101 ∨ t = 102) : cAt G a c H ↔ H[a]? = some (arrV (gA G t) c.2.1 (fun j => .int (Int32.ofInt (c.2.2.1 j)))) := by
  unfold cAt cE
  rw [ht, if_neg (by omega), if_neg (by omega), if_pos (by omega)]
  exact Iff.rfl
theorem fV_V {t k : Nat} {f : Nat → Int} {r : Nat → Option Nat} (hk : k < gN t) : vp_V ((List.range (gN t)).map (fV t f r)) k = fV t f r k := by
  simp [vp_V, hk]
theorem gN_of {t : Nat} {q : vw_C} (h : gCl[t]? = some q) : gN t = q.2.2 := by unfold gN; rw [h]; rfl
theorem gCl_lt {t : Nat} {q : vw_C} (h : gCl[t]? = some q) : t < 100 := by
  have := (List.getElem?_eq_some_iff.mp h).1
  have h2 : gCl.length = 22 := rfl
  omega
theorem vp_in_iv {i : Int} {n : Nat} (h0 : 0 ≤ i) (h1 : i < n) (h2 : n < 2147483648) : vp_in (Int32.ofInt i) n ∧ (Int32.ofInt i).toNatClampNeg = i.toNat := by
  have ht : (Int32.ofInt i).toInt = i := ok32_toInt ⟨by omega, by omega⟩
  have hc : (Int32.ofInt i).toNatClampNeg = i.toNat := by
    show (Int32.ofInt i).toInt.toNat = i.toNat
    rw [ht]
  refine ⟨?_, hc⟩
  rw [vp_in_iff, ht]
  exact ⟨h0, h1⟩
/-- a class's rows: what a getfield or putfield of its field k asks of the tables -/
def fdOK (t : Nat) (C : String) (T : u_T) (N k : Nat) : Prop := gCl[t]? = some (C, T, N) ∧ (∀ w ∈ u_ws C T N, w ∈ lw_all) ∧ k < N
section ROWS
variable {ρ : Type} {G : GT} {M : MI} {B0 : BH} {o : ρ → Rv × BH} {x y : Option ρ} {pc : Nat} {L : LL} {st : List Value} {B : BH}
/-- how a field is named: by its own class's entry (perhaps under a subclass's name), or as a nest mate's -/
def flk (M : MI) (idx : Nat) (q : String × String × String × Bool) : Prop := (∃ ref, Cond.fieldLink M.1.cls idx ref q.2.1 q.2.2.1 ∈ lw_all ∧ (ref = q.1 ∨ Cond.sameField ref q.1 q.2.1 q.2.2.1 ∈ lw_all)) ∨ ∃ host, Cond.fieldLinkNest M.1.cls idx q.1 q.2.1 q.2.2.1 host ∈ gNw
theorem flk_own {idx : Nat} {q : String × String × String × Bool} (h : Cond.fieldLink M.1.cls idx q.1 q.2.1 q.2.2.1 ∈ lw_all) : flk M idx q := Or.inl ⟨_, h, Or.inl rfl⟩
theorem flk_same {s : State} {args : Array Value} {ref : String} {q : String × String × String × Bool} (hts : ∀ w ∈ lw_all, w.before args s = true) (h : ref = q.1 ∨ Cond.sameField ref q.1 q.2.1 q.2.2.1 ∈ lw_all) : ∀ x, s.fieldFound? q.1 q.2.1 q.2.2.1 = some x → s.fieldFound? ref q.2.1 q.2.2.1 = some x := by
  intro x hx
  rcases h with rfl | h
  · exact hx
  · exact u_same (hts _ h) x hx
theorem World.one {s : State} {H : Heap} (hW : World G s B H) {a t : Nat} {c : PC4} (hB : B.1 a = some c) (ht : c.1 % 1000 = t) (hl : t < 100) : va_P (gD G) gCl [(a, .inr (t, (List.range (gN t)).map (fV t c.2.2.1 c.2.2.2)))] H := fun k q hq => by
  cases k with
  | zero => cases hq; exact (cAt_obj (H := H) ht hl).mp (hW.2.2.1 a c hB).1
  | succ k => simp at hq
theorem s_getf {a t k idx N : Nat} {c : PC4} {C : String} {T : u_T} (hB : B.1 a = some c) (ht : c.1 % 1000 = t) (hf : fdOK t C T N k) (q : flk M idx (T k)) (d : decode M.2.1 pc = .ok (.getfield idx, 3)) (kk : Sim G M B0 o x (pc + 3) L (fV t c.2.2.1 c.2.2.2 k :: st) B) : Sim G M B0 o x pc L (.ref a :: st) B := fun r hr p e s m args below meth c0 C0 H locs ls hW hS hL => by
  obtain ⟨hc, hin, hk⟩ := hf
  have hP := hW.one hB ht (gCl_lt hc)
  have hgn := gN_of hc
  have hts := C0.2.2.2.2.2.2.1
  have hv : ((List.range (gN t)).map (fV t c.2.2.1 c.2.2.2))[k]? = some (fV t c.2.2.1 c.2.2.2 k) := by rw [List.getElem?_map, List.getElem?_range (by rw [hgn]; exact hk)]; rfl
  rcases q with ⟨ref, q1, q2⟩ | ⟨host, q1⟩
  · exact va_get (D := gD G) (ci := t) (ws := [(a, .inr (t, (List.range (gN t)).map (fV t c.2.2.1 c.2.2.2)))]) C0.1 C0.2.1 hts hin C0.2.2.2.2.2.1 C0.2.2.2.2.2.2.2.1.1 hP 0 rfl hc k hk (hts _ q1) (flk_same hts q2) (v := fV t c.2.2.1 c.2.2.2 k) hv d (kk r hr p e s m args below meth c0 C0 H locs ls hW hS hL)
  · exact va_getN (D := gD G) (ci := t) (ws := [(a, .inr (t, (List.range (gN t)).map (fV t c.2.2.1 c.2.2.2)))]) C0.1 C0.2.1 hts hin C0.2.2.2.2.2.1 C0.2.2.2.2.2.2.2.1.1 hP 0 rfl hc k hk (va_Nw.use rfl (C0.2.2.2.2.2.2.2.1.2.1 _ q1)) (fun _ h => h) (v := fV t c.2.2.1 c.2.2.2 k) hv d (kk r hr p e s m args below meth c0 C0 H locs ls hW hS hL)
/-- the new fields -/
def putI (c : PC4) (k : Nat) (v : Int) : PC4 := (c.1, c.2.1, fun j => if j = k then v else c.2.2.1 j, c.2.2.2)
def putR (c : PC4) (k : Nat) (v : Option Nat) : PC4 := (c.1, c.2.1, c.2.2.1, fun j => if j = k then v else c.2.2.2 j)
theorem s_putG {a t k idx N : Nat} {c c' : PC4} {v : Value} {C : String} {T : u_T} (ty0 : Nat → FieldType) (hty : ∀ k, k < N → parseFieldDescriptor (T k).2.2.1 = some (ty0 k)) (hnm : ∀ a, a < N → ∀ b, b < N → a ≠ b → (T a).2.1 ≠ (T b).2.1) (hB : B.1 a = some c) (ht : c.1 = t) (hf : fdOK t C T N k) (q : flk M idx (T k)) (hfin : (T k).2.2.2 = false ∨ (M.1.name = "<init>" ∧ (T k).1 = M.1.cls)) (hnn : (T k).2.2.2 = true → ¬ ∃ host, Cond.fieldLinkNest M.1.cls idx (T k).1 (T k).2.1 (T k).2.2.1 host ∈ gNw) {ty : FieldType} (hd : parseFieldDescriptor (T k).2.2.1 = some ty) (hn : narrow ty v = v) (hfit : fits ty v = true) (h1 : c'.1 = c.1) (h2 : c'.2.1 = c.2.1)
    (hv : ∀ j, fV t c'.2.2.1 c'.2.2.2 j = if j = k then v else fV t c.2.2.1 c.2.2.2 j) (d : decode M.2.1 pc = .ok (.putfield idx, 3)) (kk : Sim G M B0 o x (pc + 3) L st (upB B a c')) : Sim G M B0 o x pc L (v :: .ref a :: st) B := fun r hr p e s m args below meth c0 C0 H locs ls hW hS hL => by
  obtain ⟨hc, hin, hk⟩ := hf
  have htl := gCl_lt hc
  have ht' : c.1 % 1000 = t := by omega
  have hat := (cAt_obj (H := H) ht' htl).mp (hW.2.2.1 a c hB).1
  have hga : gB G ≤ a := (hW.2.2.1 a c hB).2.1 (by omega)
  have hgn : gN t = N := gN_of hc
  have hts := C0.2.2.2.2.2.2.1
  have hown := C0.2.2.2.2.2.1
  have hK := C0.2.2.2.2.2.2.2.1.1
  have hap := va_apart (own := M.1.cls) hts hin ty0 hty hnm hK hc
  obtain ⟨rr, g1, cell, q1, q2, q3, q4⟩ := hat
  have hr' : rr = (C, T, N) := Option.some.inj (g1.symm.trans hc)
  subst hr'
  obtain ⟨hSl, hfc, kC, hkC, hkind⟩ := hK.1 t _ hc
  obtain ⟨cf, kf, fi, f, hi, hsl⟩ := hSl k hk
  have hlay := hts _ (hin _ (u_in_lay hk))
  have hst := (u_facts hfc hkC (u_lays hts hin hk) hi).1
  have fin : ∀ H' : Heap, H'[a]? = some (cell.setSlot f.slot v) → H'.size = H.size → (∀ q, q ≠ a → H'[q]? = H[q]?) → W p (gL G) e (rmOf G M B0) s m args below meth c0 H' (locs ++ [⟨a, f.slot⟩]) (B.2.1 - B0.2.1) (B.2.2 - B0.2.2) (Fin9 G B0 (o r) below args s) (F0 m (pc + 3) ls st) := by
    intro H' e1 e2 e3
    have hq4 : ∀ j, j < N → cell.slots[(gD G).2 t j]? = some (fV t c.2.2.1 c.2.2.2 j) := fun j hj => by
      have h9 := q4 j hj
      rw [fV_V (by rw [hgn]; exact hj)] at h9
      exact h9
    have hnew : ∀ j, j < N → (cell.setSlot f.slot v).slots[(gD G).2 t j]? = some (vp_V ((List.range (gN t)).map (fV t c'.2.2.1 c'.2.2.2)) j) := by
      intro j hj
      have h9 := t_set hq4 hap hk v j hj
      rw [hsl, h9, fV_V (by rw [hgn]; exact hj), hv j]
      rfl
    refine kk r hr p e s m args below meth c0 C0 H' (locs ++ [⟨a, f.slot⟩]) ls (hW.put hB (by omega) h1 h2 q1 e1 (by simp [Cell.setSlot]) e2 e3 ?_) (hS.put e2 e3 hga) hL
    refine (cAt_obj (by rw [h1]; exact ht') htl).mpr ⟨_, hc, _, e1, q2, q3, hnew⟩
  by_cases hF : (T k).2.2.2 = true
  · rcases hfin with hfin | hfin
    · rw [hF] at hfin; cases hfin
    · unfold u_lay at hlay
      rw [if_pos hF] at hlay
      have hcf : m.cls = cf := by
        obtain ⟨_, _, c', _, _, _, -, -, hf', -, -, -, hown2, -⟩ := Cond.laysFinal_spec hlay
        have e1 : c' = cf := by have := hi.symm.trans hf'; simp at this; exact this.1.symm
        rw [hfin.2] at hown2
        rw [← e1]; exact Option.some.inj (hown.symm.trans hown2)
      have h6 := u_fits hfc hkC hkind (Or.inr hlay) hi hd hn hfit
      obtain ⟨ref, q8, q9⟩ : ∃ ref, Cond.fieldLink M.1.cls idx ref (T k).2.1 (T k).2.2.1 ∈ lw_all ∧ (ref = (T k).1 ∨ Cond.sameField ref (T k).1 (T k).2.1 (T k).2.2.1 ∈ lw_all) := by
        rcases q with h | h
        · exact h
        · exact absurd h (hnn hF)
      exact W.putFinK C0.1 C0.2.1 hown (C0.2.2.2.2.2.2.1 _ q8) (flk_same hts q9 _ hi) hst hcf (C0.2.2.2.2.2.2.2.2.2.2.2.1.trans hfin.1) (by rw [q2]; exact h6) q1 q3 (by rw [hsl]; exact k2_hasslot (q4 k hk)) rfl rfl d fin
  · unfold u_lay at hlay
    rw [if_neg hF] at hlay
    have h6 := u_store hfc hkC hkind hlay hi hd hn hfit
    rcases q with ⟨ref, q8, q9⟩ | ⟨host, q8⟩
    · exact W.putK C0.1 C0.2.1 (f := f) ⟨hown, C0.2.2.2.2.2.2.1 _ q8, ⟨_, _, _, flk_same hts q9 _ hi⟩, hst⟩ (by rw [q2]; exact h6) q1 q3 (by rw [hsl]; exact k2_hasslot (q4 k hk)) rfl rfl d fin
    · exact va_WputK C0.1 C0.2.1 (f := f) hown (va_Nw.use rfl (C0.2.2.2.2.2.2.2.1.2.1 _ q8)) hi hst (by rw [q2]; exact h6) q1 q3 (by rw [hsl]; exact k2_hasslot (q4 k hk)) rfl rfl d fin
abbrev inA (c : PC4) (i : Int) : Prop := 0 ≤ i ∧ i < c.2.1
theorem s_iald {a : Nat} {c : PC4} {i : Int} (hB : B.1 a = some c) (ht : c.1 % 1000 = 100) (d : decode M.2.1 pc = .ok (.iaload, 1)) (kk : Sim G M B0 o x (pc + 1) L (iv (c.2.2.1 i.toNat) :: st) B) : Sim G M B0 o (ck (inA c i) x) pc L (iv i :: .ref a :: st) B := fun r hr p e s m args below meth c0 C0 H locs ls hW hS hL => by
  obtain ⟨hc, hr⟩ := ck_some hr
  obtain ⟨w1, w2, w3⟩ := hW.2.2.1 a c hB
  obtain ⟨g1, g2⟩ := vp_in_iv hc.1 hc.2 w3
  have hat := (cAt_int (H := H) ht (Or.inl rfl)).mp w1
  refine W.iald (v := iv (c.2.2.1 i.toNat)) C0.1 C0.2.1 hat ((C0.2.2.2.2.2.2.2.1.1.2 0 (gA G 100, .int) rfl).1 _ _) (fun q => by cases q) (by rw [arrV_size]; exact g1) (by rw [arrV_read _ _ (by omega), g2]; rfl) rfl rfl d (kk r hr p e s m args below meth c0 C0 H locs ls hW hS hL)
theorem s_zald {a : Nat} {c : PC4} {i : Int} (hB : B.1 a = some c) (ht : c.1 % 1000 = 101) (d : decode M.2.1 pc = .ok (.baload, 1)) (kk : Sim G M B0 o x (pc + 1) L (iv (c.2.2.1 i.toNat) :: st) B) : Sim G M B0 o (ck (inA c i) x) pc L (iv i :: .ref a :: st) B := fun r hr p e s m args below meth c0 C0 H locs ls hW hS hL => by
  obtain ⟨hc, hr⟩ := ck_some hr
  obtain ⟨w1, w2, w3⟩ := hW.2.2.1 a c hB
  obtain ⟨g1, g2⟩ := vp_in_iv hc.1 hc.2 w3
  have hat := (cAt_int (H := H) ht (Or.inr (Or.inl rfl))).mp w1
  refine W.zald (v := iv (c.2.2.1 i.toNat)) C0.1 C0.2.1 hat ((C0.2.2.2.2.2.2.2.1.1.2 1 (gA G 101, .boolean) rfl).1 _ _) (fun q => by cases q) (by rw [arrV_size]; exact g1) (by rw [arrV_read _ _ (by omega), g2]; rfl) rfl rfl d (kk r hr p e s m args below meth c0 C0 H locs ls hW hS hL)
theorem s_alen {a : Nat} {c : PC4} (hB : B.1 a = some c) (ht : c.1 % 1000 = 100 ∨ c.1 % 1000 = 101 ∨ c.1 % 1000 = 102) (d : decode M.2.1 pc = .ok (.arraylength, 1)) (kk : Sim G M B0 o x (pc + 1) L (iv (c.2.1 : Nat) :: st) B) : Sim G M B0 o x pc L (.ref a :: st) B := fun r hr p e s m args below meth c0 C0 H locs ls hW hS hL => by
  obtain ⟨w1, w2, w3⟩ := hW.2.2.1 a c hB
  have hat := (cAt_int (H := H) rfl ht).mp w1
  have hK := C0.2.2.2.2.2.2.2.1.1.2
  have kk := kk r hr p e s m args below meth c0 C0 H locs ls hW hS hL
  rcases ht with ht | ht | ht
  · exact W.alen (n := Int32.ofInt c.2.1) C0.1 C0.2.1 hat (by rw [ht]; exact (hK 0 (gA G 100, .int) rfl).1 _ _) (by rw [arrV_size]; rfl) rfl rfl d kk
  · exact W.alen (n := Int32.ofInt c.2.1) C0.1 C0.2.1 hat (by rw [ht]; exact (hK 1 (gA G 101, .boolean) rfl).1 _ _) (by rw [arrV_size]; rfl) rfl rfl d kk
  · exact W.alen (n := Int32.ofInt c.2.1) C0.1 C0.2.1 hat (by rw [ht]; exact (hK 2 (gA G 102, .byte) rfl).1 _ _) (by rw [arrV_size]; rfl) rfl rfl d kk
theorem putI_arr {f : Nat → Int} {k : Nat} {v : Int} : (fun j => Value.int (Int32.ofInt ((fun j => if j = k then v else f j) j))) = updV (fun j => .int (Int32.ofInt (f j))) k (iv v) := by
  funext j
  unfold updV iv
  by_cases h : j = k
  · simp [h]
  · simp [h]
theorem s_iast {a : Nat} {c : PC4} {i v : Int} (hB : B.1 a = some c) (ht : c.1 = 100) (d : decode M.2.1 pc = .ok (.iastore, 1)) (kk : Sim G M B0 o x (pc + 1) L st (upB B a (putI c i.toNat v))) : Sim G M B0 o (ck (inA c i) x) pc L (iv v :: iv i :: .ref a :: st) B := fun r hr p e s m args below meth c0 C0 H locs ls hW hS hL => by
  obtain ⟨hc, hr⟩ := ck_some hr
  obtain ⟨w1, w2, w3⟩ := hW.2.2.1 a c hB
  obtain ⟨g1, g2⟩ := vp_in_iv hc.1 hc.2 w3
  have hat := (cAt_int (H := H) (t := 100) (by omega) (Or.inl rfl)).mp w1
  refine W.iast C0.1 C0.2.1 hat ((C0.2.2.2.2.2.2.2.1.1.2 0 (gA G 100, .int) rfl).1 _ _) (fun q => by cases q) (by rw [arrV_size]; exact g1) rfl rfl d fun H' e1 e2 e3 => ?_
  refine kk r hr p e s m args below meth c0 C0 H' _ ls (hW.put hB (by omega) rfl rfl hat e1 (by simp [Cell.setSlot]) e2 e3 ?_) (hS.put e2 e3 (w2 (by omega))) hL
  refine (cAt_int (t := 100) (by show c.1 % 1000 = 100; omega) (Or.inl rfl)).mpr ?_
  rw [e1, arrV_store, g2]
  exact congrArg some (congrArg (arrV (gA G 100) c.2.1) putI_arr.symm)
abbrev is01 (v : Int) : Prop := v = 0 ∨ v = 1
theorem s_zast {a : Nat} {c : PC4} {i v : Int} (hB : B.1 a = some c) (ht : c.1 = 101) (d : decode M.2.1 pc = .ok (.bastore, 1)) (kk : Sim G M B0 o x (pc + 1) L st (upB B a (putI c i.toNat v))) : Sim G M B0 o (ck (inA c i ∧ is01 v) x) pc L (iv v :: iv i :: .ref a :: st) B := fun r hr p e s m args below meth c0 C0 H locs ls hW hS hL => by
  obtain ⟨⟨hc, h01⟩, hr⟩ := ck_some hr
  obtain ⟨w1, w2, w3⟩ := hW.2.2.1 a c hB
  obtain ⟨g1, g2⟩ := vp_in_iv hc.1 hc.2 w3
  have hat := (cAt_int (H := H) (t := 101) (by omega) (Or.inr (Or.inl rfl))).mp w1
  have hnar : narrow .boolean (.int (Int32.ofInt v)) = iv v := by rcases h01 with rfl | rfl <;> rfl
  refine W.zast C0.1 C0.2.1 hat ((C0.2.2.2.2.2.2.2.1.1.2 1 (gA G 101, .boolean) rfl).1 _ _) (fun q => by cases q) (by rw [arrV_size]; exact g1) rfl rfl d fun H' e1 e2 e3 => ?_
  refine kk r hr p e s m args below meth c0 C0 H' _ ls (hW.put hB (by omega) rfl rfl hat e1 (by simp [Cell.setSlot]) e2 e3 ?_) (hS.put e2 e3 (w2 (by omega))) hL
  refine (cAt_int (t := 101) (by show c.1 % 1000 = 101; omega) (Or.inr (Or.inl rfl))).mpr ?_
  rw [e1, arrV_store, g2, hnar]
  exact congrArg some (congrArg (arrV (gA G 101) c.2.1) putI_arr.symm)
/-! returns -/
theorem ret_w {r : Rv × BH} {p : Program} {e : Env} {s : State} {m : MethodId} {args : Array Value} {below : List Frame} {meth : Method} {c : Code} {H : Heap} {locs : List Loc} {g : JFrame} (hk : r.1.1 < 10) (hW : World G s r.2 H) (hS : va_S (gAA G) s.heap H locs)
    (h : ∀ {k n : Nat} {Q : Array Value → State → Outcome → State → Prop}, (∀ t : State, t.heap = H → s.WarmedH t.vm → Q args s (.returned (rvO r.1)) t) → (∀ q ∈ locs, gAA G q.base) → W p (gL G) e (rmOf G M B0) s m args below meth c H locs k n (MQ below Q args s k n (gAA G)) g) : W p (gL G) e (rmOf G M B0) s m args below meth c H locs (r.2.2.1 - B0.2.1) (r.2.2.2 - B0.2.2) (Fin9 G B0 r below args s) g := by
  refine W.widen (k := gLC G - B0.2.1) (n := gLS G - B0.2.2) (Nat.sub_le_sub_right hW.2.2.2.1.2.1 _) (Nat.sub_le_sub_right hW.2.2.2.1.2.2 _) ?_
  exact vx_ret (h (fun t ht hWm => ⟨⟨hk, rfl, by rw [ht]; exact hW.moved hWm.alike⟩, hS.F ht⟩) hS.2.2)
theorem s_ireturn {r : ρ} {v : Int} {z : Option Nat} (ho : o r = ((1, v, z), B)) (hr : M.2.2.2.1 = some .int) (d : decode M.2.1 pc = .ok (.ireturn, 1)) : Sim G M B0 o (some r) pc L (iv v :: []) B := fun r' hr' p e s m args below meth c0 C0 H locs ls hW hS hL => by
  cases hr'
  have hB : B = (o r).2 := by rw [ho]
  rw [hB] at hW ⊢
  refine ret_w (by rw [ho]; show 1 < 10; omega) hW hS (fun hq hf => ?_)
  exact W.iret C0.1 C0.2.1 (C0.2.2.1.trans hr) (by have e9 : rvO (o r).1 = some (iv v) := by rw [ho]; rfl
                                                   rw [e9] at hq; exact hq) hf d C0.2.2.2.1
theorem s_zreturn {r : ρ} {v : Int} {z : Option Nat} (ho : o r = ((1, v, z), B)) (hr : M.2.2.2.1 = some .boolean) (d : decode M.2.1 pc = .ok (.ireturn, 1)) : Sim G M B0 o (ck (is01 v) (some r)) pc L (iv v :: []) B := fun r' hr' p e s m args below meth c0 C0 H locs ls hW hS hL => by
  obtain ⟨h01, hr'⟩ := ck_some hr'
  cases hr'
  have hB : B = (o r).2 := by rw [ho]
  rw [hB] at hW ⊢
  refine ret_w (by rw [ho]; show 1 < 10; omega) hW hS (fun hq hf => ?_)
  exact W.zret C0.1 C0.2.1 (C0.2.2.1.trans hr) (by rcases h01 with rfl | rfl <;> rfl) (by have e9 : rvO (o r).1 = some (iv v) := by rw [ho]; rfl
                                                                                          rw [e9] at hq; exact hq) hf d C0.2.2.2.1
theorem s_return {r : ρ} {v : Int} {z : Option Nat} (ho : o r = ((0, v, z), B)) (hr : M.2.2.2.1 = none) (d : decode M.2.1 pc = .ok (.return_, 1)) : Sim G M B0 o (some r) pc L [] B := fun r' hr' p e s m args below meth c0 C0 H locs ls hW hS hL => by
  cases hr'
  have hB : B = (o r).2 := by rw [ho]
  rw [hB] at hW ⊢
  refine ret_w (by rw [ho]; show 0 < 10; omega) hW hS (fun hq hf => ?_)
  exact W.vret C0.1 C0.2.1 (C0.2.2.1.trans hr) (by have e9 : rvO (o r).1 = none := by rw [ho]; rfl
                                                   rw [e9] at hq; exact hq) hf d C0.2.2.2.1
theorem s_areturn {r : ρ} {v : Int} {a : Option Nat} (ho : o r = ((2, v, a), B)) {rt : FieldType} (hr : M.2.2.2.1 = some rt) (hrt : (∃ n, rt = .object n) ∨ ∃ t, rt = .array t) (d : decode M.2.1 pc = .ok (.areturn, 1)) : Sim G M B0 o (some r) pc L (va_rf a :: []) B := fun r' hr' p e s m args below meth c0 C0 H locs ls hW hS hL => by
  cases hr'
  have hB : B = (o r).2 := by rw [ho]
  rw [hB] at hW ⊢
  refine ret_w (by rw [ho]; show 2 < 10; omega) hW hS (fun hq hf => ?_)
  exact W.aret C0.1 C0.2.1 (C0.2.2.1.trans hr) hrt (by cases a with
    | none => exact Or.inl rfl
    | some a => exact Or.inr ⟨a, rfl⟩) (by have e9 : rvO (o r).1 = some (va_rf a) := by rw [ho]; rfl
                                           rw [e9] at hq; exact hq) hf d C0.2.2.2.1
end ROWS
