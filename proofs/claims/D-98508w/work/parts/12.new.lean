/-! ===== new cells, returns, contracts, calls ===== -/
set_option maxRecDepth 100000
theorem okN_e {σ : St} {n : Nat} (h : okN σ n = true) : sn σ < smx σ ∧ ss σ + n ≤ sms σ := by
  unfold okN at h
  rw [Bool.and_eq_true, blt_t, Nat.ble_eq] at h
  exact h
theorem newO_cof {E : EV} {σ : St} {kd : Kd} {n b : Nat} (hb : b ≠ sn σ) : cof E (newO σ kd n) b = cof E σ b := by
  refine cof_same ?_ ?_ ?_ ?_
  · show (if b = sn σ then kd else sk σ b) = _; rw [if_neg hb]
  · show (if b = sn σ then _ else si σ b) = _; rw [if_neg hb]
  · show (if b = sn σ then _ else sl σ b) = _; rw [if_neg hb]
  · show (if b = sn σ then _ else sr σ b) = _; rw [if_neg hb]
theorem newO_k {σ : St} {kd : Kd} {n : Nat} : sk (newO σ kd n) (sn σ) = kd := by show (if sn σ = sn σ then kd else _) = _; rw [if_pos rfl]
theorem newO_i {σ : St} {kd : Kd} {n : Nat} : si (newO σ kd n) (sn σ) = fun _ => 0 := by show (if sn σ = sn σ then _ else _) = _; rw [if_pos rfl]
theorem newO_l {σ : St} {kd : Kd} {n : Nat} : sl (newO σ kd n) (sn σ) = fun _ => 0 := by show (if sn σ = sn σ then _ else _) = _; rw [if_pos rfl]
theorem newO_r {σ : St} {kd : Kd} {n : Nat} : sr (newO σ kd n) (sn σ) = fun _ => none := by show (if sn σ = sn σ then _ else _) = _; rw [if_pos rfl]
theorem newO_kn {σ : St} {kd : Kd} {n a : Nat} (h : a ≠ sn σ) : sk (newO σ kd n) a = sk σ a := by show (if a = sn σ then kd else _) = _; rw [if_neg h]
/-- the relation after a new cell -/
theorem Rel.new {E : EV} {σ : St} {H H1 : Heap} {kd : Kd} {n : Nat} {e : va_E} (hE : GE E) (hR : Rel E σ H) (ho : okN σ n = true) (hkd : kd.1 ≠ 99) (he : cof E (newO σ kd n) (sn σ) = e) (hat : va_at (eD E) CL (eAd E (sn σ), e) H1) (hz : H1.size = H.size + 1) (hk : ∀ q, q < H.size → H1[q]? = H[q]?) (hsk : eSk E (newO σ kd n)) : Rel E (newO σ kd n) H1 := by
  obtain ⟨r1, r2, r3, r4, r5, r6⟩ := hR
  obtain ⟨o1, o2⟩ := okN_e ho
  have hN := hE.2.2.2 (sn σ) r3.1 (by omega)
  refine ⟨?_, by rw [hz, r2]; exact hN.2.symm, ⟨Nat.le_trans r3.1 (Nat.le_succ _), ?_, ?_⟩, r4, fun a ha => ?_, hsk⟩
  · rw [← wof_new (σ' := newO σ kd n) rfl he (fun b hb => newO_cof (by omega))]
    refine (r1.kept fun k q hq => hk q.1 (r1 k q hq).lt).app fun k q hq => ?_
    have hz : k < 1 := (List.getElem?_eq_some_iff.mp hq).1
    rw [show k = 0 by omega] at hq
    cases hq
    exact hat
  · show sn σ + 1 ≤ eMx E; omega
  · show ss σ + n ≤ eMs E; omega
  · have ha : sn σ + 1 ≤ a := ha
    rw [newO_kn (by omega)]
    exact r5 a (by omega)
def okty : FieldType → Bool
  | .float => false
  | .double => false
  | _ => true
section NW
variable {X : CX} {E : EV} {cc : ByteArray} {nL : Nat} {ret : Option FieldType} {own nm : String} {n0 s0 fr lo : Nat} {Q : State → Prop} {σ σ1 : St} {pc : Nat} {L : LV} {rest : List TV}
theorem new_room (B : FX X E cc nL ret own nm n0 s0 fr lo) {H : Heap} (hR : Rel E σ H) (h1 : n0 ≤ sn σ) (h2 : s0 ≤ ss σ) {n : Nat} (ho : okN σ n = true) : (sn σ - n0) + 1 ≤ (xR X).cells ∧ (ss σ - s0) + n ≤ (xR X).slots ∧ sn (newO σ (0, 0) n) - n0 = (sn σ - n0) + 1 ∧ ss (newO σ (0, 0) n) - s0 = (ss σ - s0) + n := by
  obtain ⟨o1, o2⟩ := okN_e ho
  have r3 := hR.2.2.1
  have r4 := hR.2.2.2.1
  rw [B.2.2.2.2.2.2.2.2.2.2.1]
  refine ⟨?_, ?_, ?_, ?_⟩
  · show (sn σ - n0) + 1 ≤ eMx E - n0; omega
  · show (ss σ - s0) + n ≤ eMs E - s0; omega
  · show sn σ + 1 - n0 = _; omega
  · show ss σ + n - s0 = _; omega
theorem r_new (B : FX X E cc nL ret own nm n0 s0 fr lo) {c N idx : Nat} {C : String} {T : u_T} (e1 : σ1 = newO σ (c, 0) N) (ho : okN σ N = true) (hc : CL[c]? = some (C, T, N)) (h99 : c < 99) (hN : cN c = N) (hin : ∀ w ∈ u_ws C T N, w ∈ lw_all) (hty : ∀ k, k < N → parseFieldDescriptor (T k).2.2.1 = some (cty c k)) (hok : (List.range N).all (fun j => okty (cty c j)) = true) (w1 : Cond.classLink own idx C ∈ lw_all) (w2 : Cond.instantiable C N ∈ lw_all) (w3 : Cond.initialized C ∈ lw_all) (hsk : eSk E σ → eSk E σ1)
    (d : decode cc pc = .ok (.new idx, 3)) (kk : J X E n0 s0 nL Q σ1 (pc + 3) L (vr (some (sn σ)) :: rest)) : J X E n0 s0 nL Q σ pc L rest := by
  subst e1
  intro H locs ls hl hR hS h1 h2
  obtain ⟨q1, q2, q3, q4⟩ := new_room B hR h1 h2 ho
  have hts := B.2.2.2.2.2.2.2.1
  have hKn := B.2.2.2.2.2.2.2.2.1.1.1.1 c _ hc
  have hE := B.2.2.2.2.2.2.2.2.2.1
  have hr3 := hR.2.2.1
  have hr4 := hR.2.2.2.1
  have hN0 := hE.2.2.2 (sn σ) hr3.1 (by have := okN_e ho; omega)
  refine W.newcK B.1 B.2.1 B.2.2.2.2.1 (hts _ w1) (hts _ w2) (hts _ w3) rfl d q1 q2 hKn.2.1 rfl fun H1 kC hkC f1 z1 o1 => ?_
  have hcof : cof E (newO σ (c, 0) N) (sn σ) = .inr (c, flds E c (fun _ => 0) (fun _ => 0) (fun _ => none)) := by
    rw [cof_o (c := c) (by rw [newO_k]) (by omega), newO_i, newO_l, newO_r]
  have hadd : H.size = eAd E (sn σ) := by rw [hR.2.1, hN0.1]
  have hat : va_at (eD E) CL (eAd E (sn σ), .inr (c, flds E c (fun _ => 0) (fun _ => 0) (fun _ => none))) H1 := by
    refine ⟨_, hc, (u_born (cty c) hts hin hKn hkC (hadd ▸ f1) hty).to fun j hj => ?_⟩
    have h3 : (flds E c (fun _ => 0) (fun _ => 0) (fun _ => none))[j]? = _ := flds_at (by rw [hN]; exact hj)
    show defaultValue (cty c j) = vp_V (flds E c (fun _ => 0) (fun _ => 0) (fun _ => none)) j
    unfold vp_V
    rw [List.getD_eq_getElem?_getD, h3]
    have h5 := List.all_eq_true.mp hok j (List.mem_range.mpr hj)
    revert h5
    cases cty c j <;> first | exact fun _ => rfl | exact fun h => Bool.noConfusion h
  have hR1 := hR.new (H1 := H1) (kd := (c, 0)) hE ho (by show c ≠ 99; omega) hcof hat z1 o1 (hsk hR.2.2.2.2.2)
  have hS1 : va_S (eA E) (xS X).heap H1 locs := ⟨Nat.le_trans hS.1 (by omega), fun x g1 g2 => (o1 x (Nat.lt_of_lt_of_le g1 hS.1)).trans (hS.2.1 x g1 g2), hS.2.2⟩
  have k2 := kk H1 locs ls hl hR1 hS1 (Nat.le_trans h1 (Nat.le_succ _)) (Nat.le_trans h2 (Nat.le_add_right _ _))
  rw [show sn (newO σ (c, 0) N) - n0 = (sn σ - n0) + 1 from q3, show ss (newO σ (c, 0) N) - s0 = (ss σ - s0) + N from q4] at k2
  rw [hadd]
  exact k2
theorem r_newa (t : Nat) (h4 : t < 4) (B : FX X E cc nL ret own nm n0 s0 fr lo) {n : Int32} {N : Nat} {atype : ArrayType} (hty : newarray.typeOf atype = aty t) (hn : ¬ n < 0) (hN : n.toNatClampNeg = N) (hb : Nat.ble (N * 8) 536870912 = true) (e1 : σ1 = newO σ (100 + t, N) N) (ho : okN σ N = true) (w1 : Cond.arrayClass (aty t) ∈ lw_all) (hsk : eSk E σ → eSk E σ1)
    (d : decode cc pc = .ok (.newarray atype, 2)) (kk : J X E n0 s0 nL Q σ1 (pc + 2) L (vr (some (sn σ)) :: rest)) : J X E n0 s0 nL Q σ pc L (vi n :: rest) := by
  subst e1
  intro H locs ls hl hR hS h1 h2
  obtain ⟨q1, q2, q3, q4⟩ := new_room B hR h1 h2 ho
  have hts := B.2.2.2.2.2.2.2.1
  have hE := B.2.2.2.2.2.2.2.2.2.1
  have hr3 := hR.2.2.1
  have hr4 := hR.2.2.2.1
  have hN0 := hE.2.2.2 (sn σ) hr3.1 (by have := okN_e ho; omega)
  have hbb : N * componentBytes (newarray.typeOf atype) ≤ 536870912 := by
    have h8 := Nat.le_of_ble_eq_true hb
    have : componentBytes (newarray.typeOf atype) ≤ 8 := by cases atype <;> decide
    exact Nat.le_trans (Nat.mul_le_mul_left N this) h8
  refine va_newaK B.1 B.2.1 (by rw [hty]; exact hts _ w1) rfl d rfl hn hN hbb q1 q2 rfl fun H1 cA f1 z1 o1 hAr hNm => ?_
  have hcA : cA = eT E t := by
    have h5 := (B.2.2.2.2.2.2.2.2.1.1.1.2 t _ (tysE_at E (by omega))).2
    rw [hty] at hNm
    have : t = 0 ∨ t = 1 ∨ t = 2 ∨ t = 3 := by omega
    rcases this with rfl | rfl | rfl | rfl <;> exact Option.some.inj (hNm.symm.trans h5)
  subst hcA
  have hadd : H.size = eAd E (sn σ) := by rw [hR.2.1, hN0.1]
  have hcof : cof E (newO σ (100 + t, N) N) (sn σ) = .inl (eT E t, apay E t (fun _ => 0) (fun _ => 0) (fun _ => none) N) := by
    rw [cof_a newO_k, newO_i, newO_l, newO_r]
  have hat : va_at (eD E) CL (eAd E (sn σ), .inl (eT E t, apay E t (fun _ => 0) (fun _ => 0) (fun _ => none) N)) H1 := by
    show H1[eAd E (sn σ)]? = some (vp_cell _ _)
    rw [← hadd, f1, hty]
    have : t = 0 ∨ t = 1 ∨ t = 2 ∨ t = 3 := by omega
    rcases this with rfl | rfl | rfl | rfl <;> rfl
  have hR1 := hR.new (H1 := H1) (kd := (100 + t, N)) hE ho (by show 100 + t ≠ 99; omega) hcof hat z1 o1 (hsk hR.2.2.2.2.2)
  have hS1 : va_S (eA E) (xS X).heap H1 locs := ⟨Nat.le_trans hS.1 (by omega), fun x g1 g2 => (o1 x (Nat.lt_of_lt_of_le g1 hS.1)).trans (hS.2.1 x g1 g2), hS.2.2⟩
  have k2 := kk H1 locs ls hl hR1 hS1 (Nat.le_trans h1 (Nat.le_succ _)) (Nat.le_trans h2 (Nat.le_add_right _ _))
  rw [show sn (newO σ (100 + t, N) N) - n0 = (sn σ - n0) + 1 from q3, show ss (newO σ (100 + t, N) N) - s0 = (ss σ - s0) + N from q4] at k2
  rw [hadd]
  exact k2
theorem r_newq (t : Nat) (C : String) (htt : 4 ≤ t ∧ t < 7 ∧ aty t = .object C) (B : FX X E cc nL ret own nm n0 s0 fr lo) {n : Int32} {N idx : Nat} (hn : ¬ n < 0) (hN : n.toNatClampNeg = N) (hb : Nat.ble (N * 4) 536870912 = true) (e1 : σ1 = newO σ (100 + t, N) N) (ho : okN σ N = true) (w1 : Cond.classLink own idx C ∈ lw_all) (hsk : eSk E σ → eSk E σ1)
    (d : decode cc pc = .ok (.anewarray idx, 3)) (kk : J X E n0 s0 nL Q σ1 (pc + 3) L (vr (some (sn σ)) :: rest)) : J X E n0 s0 nL Q σ pc L (vi n :: rest) := by
  subst e1
  intro H locs ls hl hR hS h1 h2
  obtain ⟨q1, q2, q3, q4⟩ := new_room B hR h1 h2 ho
  have hts := B.2.2.2.2.2.2.2.1
  have hE := B.2.2.2.2.2.2.2.2.2.1
  have hr3 := hR.2.2.1
  have hr4 := hR.2.2.2.1
  have hN0 := hE.2.2.2 (sn σ) hr3.1 (by have := okN_e ho; omega)
  have h456 : t = 4 ∨ t = 5 ∨ t = 6 := by omega
  have hAO : va_AO C (xS X) := by
    have h6 := htt.2.2
    rcases h456 with rfl | rfl | rfl <;> cases h6
    · exact B.2.2.2.2.2.2.2.2.1.1.2.2.1.1
    · exact B.2.2.2.2.2.2.2.2.1.1.2.2.1.2.1
    · exact B.2.2.2.2.2.2.2.2.1.1.2.2.1.2.2
  subst hN
  refine W.anew B.1 B.2.1 B.2.2.2.2.1 (hts _ w1) (va_AO.use hAO) rfl d rfl hn (Nat.le_of_ble_eq_true hb) q1 q2 fun cA kA comp f1 f2 f3 f4 => ?_
  generalize hH1 : H.push ({ cls := cA, slots := Array.replicate n.toNatClampNeg .null, vm := .none } : Cell) = H1
  have z1 : H1.size = H.size + 1 := by rw [← hH1, Array.size_push]
  have g1 : H1[H.size]? = some (arrV cA n.toNatClampNeg (fun _ => .null)) := by rw [← hH1, Array.getElem?_push_size, ← arrV_new]
  have o1 : ∀ q : Nat, q < H.size → H1[q]? = H[q]? := fun q hq => by rw [← hH1, Array.getElem?_push, if_neg (Nat.ne_of_lt hq)]
  have hcA : cA = eT E t := by
    obtain ⟨kA', comp', -, -, -, h5⟩ : va_RA (xS X) (eT E t) (.object C) := by
      have h5 := (B.2.2.2.2.2.2.2.2.1.1.1.2 t _ (tysE_at E htt.2.1)).2
      rw [htt.2.2] at h5
      exact h5
    exact Option.some.inj (f1.symm.trans h5)
  subst hcA
  have hadd : H.size = eAd E (sn σ) := by rw [hR.2.1, hN0.1]
  have hcof : cof E (newO σ (100 + t, n.toNatClampNeg) n.toNatClampNeg) (sn σ) = .inl (eT E t, apay E t (fun _ => 0) (fun _ => 0) (fun _ => none) n.toNatClampNeg) := by
    rw [cof_a newO_k, newO_i, newO_l, newO_r]
  have hat : va_at (eD E) CL (eAd E (sn σ), .inl (eT E t, apay E t (fun _ => 0) (fun _ => 0) (fun _ => none) n.toNatClampNeg)) H1 := by
    show H1[eAd E (sn σ)]? = some (vp_cell _ _)
    rw [← hadd, g1]
    rcases h456 with rfl | rfl | rfl <;> rfl
  have hR1 := hR.new (H1 := H1) (kd := (100 + t, n.toNatClampNeg)) hE ho (by show 100 + t ≠ 99; omega) hcof hat z1 o1 (hsk hR.2.2.2.2.2)
  have hS1 : va_S (eA E) (xS X).heap H1 locs := ⟨Nat.le_trans hS.1 (by omega), fun x g1 g2 => (o1 x (Nat.lt_of_lt_of_le g1 hS.1)).trans (hS.2.1 x g1 g2), hS.2.2⟩
  have k2 := kk H1 locs ls hl hR1 hS1 (Nat.le_trans h1 (Nat.le_succ _)) (Nat.le_trans h2 (Nat.le_add_right _ _))
  rw [show sn (newO σ (100 + t, n.toNatClampNeg) n.toNatClampNeg) - n0 = (sn σ - n0) + 1 from q3, show ss (newO σ (100 + t, n.toNatClampNeg) n.toNatClampNeg) - s0 = (ss σ - s0) + n.toNatClampNeg from q4] at k2
  rw [hadd]
  exact k2
end NW
/-! returns -/
def QC (E : EV) (σ0 : St) (rv : Option TV) (σ' : St) : Array Value → State → Outcome → State → Prop := fun _ st oc t => oc = .returned (rv.map (toV (eAd E))) ∧ Rel E σ' t.heap ∧ sn σ0 ≤ sn σ' ∧ ss σ0 ≤ ss σ' ∧ va_F (eA E) st t
def QR (X : CX) (E : EV) (σ0 : St) (rv : Option TV) (σ' : St) : State → Prop := MQ (xB X) (QC E σ0 rv σ') (xA X) (xS X) (sn σ' - sn σ0) (ss σ' - ss σ0) (eA E)
section RT
variable {X : CX} {E : EV} {cc : ByteArray} {nL : Nat} {own nm : String} {fr lo : Nat} {σ σ0 σ' : St} {pc : Nat} {L : LV} {rest : List TV}
theorem r_iret (B : FX X E cc nL (some .int) own nm (sn σ0) (ss σ0) fr lo) {v r : Int32} (d : decode cc pc = .ok (.ireturn, 1)) (h : some (v, σ) = some (r, σ')) : J X E (sn σ0) (ss σ0) nL (QR X E σ0 (some (vi r)) σ') σ pc L [vi v] := by
  cases h
  exact fun H locs ls hl hR hS h1 h2 => W.iret B.1 B.2.1 B.2.2.1 (fun t ht hW => ⟨rfl, ht ▸ hR, h1, h2, hS.F ht⟩) hS.2.2 d B.2.2.2.2.2.1
theorem r_zret {ty : FieldType} (B : FX X E cc nL (some ty) own nm (sn σ0) (ss σ0) fr lo) {v r : Int32} (d : decode cc pc = .ok (.ireturn, 1)) (hf : fits ty (.int v) = true) (h : some (v, σ) = some (r, σ')) : J X E (sn σ0) (ss σ0) nL (QR X E σ0 (some (vi r)) σ') σ pc L [vi v] := by
  cases h
  exact fun H locs ls hl hR hS h1 h2 => W.zret B.1 B.2.1 B.2.2.1 (fits_nar hf) (fun t ht hW => ⟨rfl, ht ▸ hR, h1, h2, hS.F ht⟩) hS.2.2 d B.2.2.2.2.2.1
theorem r_lret (B : FX X E cc nL (some .long) own nm (sn σ0) (ss σ0) fr lo) {v r : Int64} (d : decode cc pc = .ok (.lreturn, 1)) (h : some (v, σ) = some (r, σ')) : J X E (sn σ0) (ss σ0) nL (QR X E σ0 (some (vl r)) σ') σ pc L [vl v] := by
  cases h
  exact fun H locs ls hl hR hS h1 h2 => W.lret B.1 B.2.1 B.2.2.1 (fun t ht hW => ⟨rfl, ht ▸ hR, h1, h2, hS.F ht⟩) hS.2.2 d B.2.2.2.2.2.1
theorem r_vret (B : FX X E cc nL none own nm (sn σ0) (ss σ0) fr lo) {r : Unit} (d : decode cc pc = .ok (.return_, 1)) (h : some ((), σ) = some (r, σ')) : J X E (sn σ0) (ss σ0) nL (QR X E σ0 none σ') σ pc L [] := by
  cases h
  exact fun H locs ls hl hR hS h1 h2 => W.vret B.1 B.2.1 B.2.2.1 (fun t ht hW => ⟨rfl, ht ▸ hR, h1, h2, hS.F ht⟩) hS.2.2 d B.2.2.2.2.2.1
theorem r_aret {rt : FieldType} (hrt : (∃ n, rt = .object n) ∨ ∃ t, rt = .array t) (B : FX X E cc nL (some rt) own nm (sn σ0) (ss σ0) fr lo) {v r : Option Nat} (d : decode cc pc = .ok (.areturn, 1)) (h : some (v, σ) = some (r, σ')) : J X E (sn σ0) (ss σ0) nL (QR X E σ0 (some (vr r)) σ') σ pc L [vr v] := by
  cases h
  exact fun H locs ls hl hR hS h1 h2 => W.aret B.1 B.2.1 B.2.2.1 hrt (by cases v <;> first | exact Or.inl rfl | exact Or.inr ⟨_, rfl⟩) (fun t ht hW => ⟨rfl, ht ▸ hR, h1, h2, hS.F ht⟩) hS.2.2 d B.2.2.2.2.2.1
end RT
/-- a contract: from the state σ, called with As, the method y returns rv in the state σ' -/
def CT (l : Launch) (E : EV) (y : MethodName) (cc : ByteArray) (nL : Nat) (ret : Option FieldType) (fr lo : Nat) (As : List TV) (σ : St) (rv : Option TV) (σ' : St) : Prop :=
  Met l y (ws_ y cc nL ret) ({ frames := fr, cells := eMx E - sn σ, slots := eMs E - ss σ, locals := lo } : Room) (va_Pc (As.map (toV (eAd E))) (fun U => Rel E σ U.heap ∧ KB E U)) (QC E σ rv σ') (sn σ' - sn σ) (ss σ' - ss σ) (eA E)
theorem arg_len (ad : Nat → Nat) : ∀ As : List TV, (lg_sl (As.map (toV ad))).length = (As.map tcat).sum
  | [] => rfl
  | t :: r => by
    have ih := arg_len ad r
    unfold lg_sl at ih ⊢
    rw [List.map_cons, List.flatMap_cons, List.length_append, ih, List.map_cons, List.sum_cons]
    congr 1
    rw [toV_cat]
    rcases t with x | x | x <;> rfl
theorem CT.start {l : Launch} {E : EV} {y : MethodName} {cc : ByteArray} {nL : Nat} {ret : Option FieldType} {fr lo : Nat} {As : List TV} {σ σ' : St} {rv : Option TV} (hE : GE E) (hy : plainName y.cls = true) (hn : Nat.ble ((As.map tcat).sum) nL = true) (L : LV) (hL : larg 0 As = L)
    (body : ∀ X : CX, xL X = l → FX X E cc nL ret y.cls y.name (sn σ) (ss σ) fr lo → J X E (sn σ) (ss σ) nL (QR X E σ rv σ') σ 0 L []) : CT l E y cc nL ret fr lo As σ rv σ' := by
  refine Met.ofW (cc := cc) (maxL := nL) (ret := ret) hy rfl ?_
  intro p e s m args below meth c s₁ B hml hv
  obtain ⟨rfl, hR, hK⟩ := hv
  have hts := atoms_spec (ws := ws_ y cc nL ret) B.pre
  have hlen := arg_len (eAd E) As
  have h1 := body (p, l, e, _, s, m, _, below, meth, c) rfl ⟨B.exec, B.bytes, B.returns, hml, findClass_of_methodNamed B.named, B.notSynchronized, (name_of_methodNamed B.named B.method).1, fun w h => hts w (List.mem_cons_of_mem _ h), hK, hE, rfl, hR.2.1, hR.2.2.1.1⟩
  have hl := lv_entry (As.map (toV (eAd E))) (n := nL) (by rw [hlen]; exact Nat.le_of_ble_eq_true hn)
  rw [← larg_eq, hL] at hl
  have h2 := h1 s.heap [] _ hl hR va_S.rf (Nat.le_refl _) (Nat.le_refl _)
  rw [Nat.sub_self, Nat.sub_self] at h2
  rw [lg_entry_eq]
  exact h2

