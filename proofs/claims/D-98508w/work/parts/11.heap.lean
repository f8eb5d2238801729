/-! ===== rows of the heap ===== -/
set_option maxRecDepth 100000
theorem cof_o {E : EV} {σ : St} {a c : Nat} (h : (sk σ a).1 = c) (hc : c < 100) : cof E σ a = .inr (c, flds E c (si σ a) (sl σ a) (sr σ a)) := by
  unfold cof
  rw [if_neg (by omega), h]
theorem cof_a {E : EV} {σ : St} {a t n : Nat} (h : sk σ a = (100 + t, n)) : cof E σ a = .inl (eT E t, apay E t (si σ a) (sl σ a) (sr σ a) n) := by
  unfold cof
  rw [h]
  rw [if_pos (by show 100 ≤ 100 + t; omega)]
  show _ = _
  simp only [Nat.add_sub_cancel_left]
theorem cof_same {E : EV} {σ σ' : St} {b : Nat} (h1 : sk σ' b = sk σ b) (h2 : si σ' b = si σ b) (h3 : sl σ' b = sl σ b) (h4 : sr σ' b = sr σ b) : cof E σ' b = cof E σ b := by
  unfold cof
  rw [h1, h2, h3, h4]
theorem flds_at {E : EV} {c k : Nat} {i : Nat → Int32} {l : Nat → Int64} {r : Nat → Option Nat} (h : k < cN c) : (flds E c i l r)[k]? = some (slv (cty c k) (i k) (l k) ((r k).map (eAd E))) := by
  unfold flds
  rw [List.getElem?_map, List.getElem?_range h]
  rfl
theorem flds_len {E : EV} {c : Nat} {i : Nat → Int32} {l : Nat → Int64} {r : Nat → Option Nat} : (flds E c i l r).length = cN c := by simp [flds]
theorem flds_set {E : EV} {c k : Nat} {i i' : Nat → Int32} {l l' : Nat → Int64} {r r' : Nat → Option Nat} {v : Value} (hv : slv (cty c k) (i' k) (l' k) ((r' k).map (eAd E)) = v) (ho : ∀ j, j ≠ k → i' j = i j ∧ l' j = l j ∧ r' j = r j) : (flds E c i l r).set k v = flds E c i' l' r' := by
  refine List.ext_getElem? fun j => ?_
  by_cases hj : j < cN c
  · by_cases e : j = k
    · subst e
      rw [List.getElem?_set_self (by rw [flds_len]; exact hj), flds_at hj, hv]
    · obtain ⟨a, b, d⟩ := ho j e
      rw [List.getElem?_set_ne (Ne.symm e), flds_at hj, flds_at hj, a, b, d]
  · rw [List.getElem?_eq_none (by simpa [flds] using Nat.le_of_not_lt hj), List.getElem?_eq_none (by simpa [flds] using Nat.le_of_not_lt hj)]
theorem Rel.lt {E : EV} {σ : St} {H : Heap} (hR : Rel E σ H) {a : Nat} (h : (sk σ a).1 ≠ 99) : a < sn σ := by
  rcases Nat.lt_or_ge a (sn σ) with c | c
  · exact c
  · exact absurd (hR.2.2.2.2.1 a c) h
theorem up2_s {α : Type} {f : Nat → Nat → α} {a k : Nat} {v : α} : up2 f a k v a k = v := by simp [up2]
theorem up2_k {α : Type} {f : Nat → Nat → α} {a k j : Nat} {v : α} (h : j ≠ k) : up2 f a k v a j = f a j := by simp [up2, h]
theorem up2_a {α : Type} {f : Nat → Nat → α} {a b k : Nat} {v : α} (h : b ≠ a) : up2 f a k v b = f b := by funext j; simp [up2, h]
theorem up2_row {α : Type} {f : Nat → Nat → α} {a k : Nat} {v : α} : up2 f a k v a = fun j => if j = k then v else f a j := by funext j; simp [up2]
/-- the relation after one cell has changed -/
theorem Rel.setc {E : EV} {σ σ' : St} {H H1 : Heap} {a : Nat} {e : va_E} (hR : Rel E σ H) (ha : cof E σ' a = e) (ho : ∀ b, b ≠ a → cof E σ' b = cof E σ b) (hP : va_P (eD E) CL ((wof E σ).set a (eAd E a, e)) H1) (hz : H1.size = H.size) (hk : sk σ' = sk σ) (hn : sn σ' = sn σ) (hs : ss σ' = ss σ) (hm : smx σ' = smx σ) (hms : sms σ' = sms σ) (hsk : eSk E σ') : Rel E σ' H1 := by
  obtain ⟨r1, r2, r3, r4, r5, r6⟩ := hR
  refine ⟨by rw [← wof_set hn ha ho]; exact hP, by rw [hz, hn]; exact r2, by rw [hn, hs]; exact r3, by rw [hm, hms]; exact r4, by rw [hn, hk]; exact r5, hsk⟩
theorem fits_nar {ty : FieldType} {v : Int32} (h : fits ty (.int v) = true) : narrow ty (.int v) = .int v := by
  cases ty with
  | boolean =>
    simp only [fits, Bool.or_eq_true, beq_iff_eq] at h
    rcases h with rfl | rfl <;> rfl
  | byte =>
    simp only [fits, Bool.and_eq_true, decide_eq_true_eq, Int32.le_iff_toInt_le] at h
    have h1 : (-128 : Int) ≤ v.toInt := h.1
    have h2 : v.toInt ≤ 127 := h.2
    show Value.int _ = _
    congr 1
    refine Int32.toInt_inj.mp ?_
    rw [Int8.toInt_toInt32, Int32.toInt_toInt8]
    simp only [Int.bmod]
    split <;> omega
  | short =>
    simp only [fits, Bool.and_eq_true, decide_eq_true_eq, Int32.le_iff_toInt_le] at h
    have h1 : (-32768 : Int) ≤ v.toInt := h.1
    have h2 : v.toInt ≤ 32767 := h.2
    show Value.int _ = _
    congr 1
    refine Int32.toInt_inj.mp ?_
    rw [Int16.toInt_toInt32, Int32.toInt_toInt16]
    simp only [Int.bmod]
    split <;> omega
  | char =>
    simp only [fits, Bool.and_eq_true, decide_eq_true_eq] at h
    obtain ⟨j, hj, rfl⟩ := nI_of2 (x := v) (M := 65535) (n := 65535) (by decide) (fun z => absurd h.1 (by rw [Int32.le_iff_toInt_le, Int32.lt_iff_toInt_lt] at *; omega)) h.2
    exact (pk_charN (q := j) (by omega)).1
  | _ => first | rfl | cases h
section HR
variable {X : CX} {E : EV} {cc : ByteArray} {nL : Nat} {ret : Option FieldType} {own nm : String} {n0 s0 fr lo : Nat} {Q : State → Prop} {σ σ1 : St} {pc : Nat} {L : LV} {rest : List TV}

theorem r_get (B : FX X E cc nL ret own nm n0 s0 fr lo) {a c k N idx : Nat} {C ref : String} {T : u_T} {o : Option Nat} (t : TV) (ho : o = some a) (hk : eSk E σ → (sk σ a).1 = c) (hc : CL[c]? = some (C, T, N)) (h99 : c < 99) (hN : cN c = N) (hin : ∀ w ∈ u_ws C T N, w ∈ lw_all) (hkN : k < N) (hw : Cond.fieldLink own idx ref (T k).2.1 (T k).2.2.1 ∈ lw_all) (hsame : (T k).1 = ref) (hv : eSk E σ → slv (cty c k) (si σ a k) (sl σ a k) ((sr σ a k).map (eAd E)) = toV (eAd E) t) (d : decode cc pc = .ok (.getfield idx, 3)) (kk : J X E n0 s0 nL Q σ (pc + 3) L (t :: rest)) : J X E n0 s0 nL Q σ pc L (vr o :: rest) := by
  subst ho
  subst hsame
  intro H locs ls hl hR hS h1 h2
  have hka := hk hR.2.2.2.2.2
  have hlt := hR.lt (a := a) (by rw [hka]; omega)
  refine va_get (D := eD E) (ci := c) (v := toV (eAd E) t) (C := C) (T := T) (N := N) B.1 B.2.1 B.2.2.2.2.2.2.2.1 hin B.2.2.2.2.1 B.2.2.2.2.2.2.2.2.1.1.1 hR.1 a ((wof_at hlt).trans (by rw [cof_o hka (by omega)])) hc k hkN (B.2.2.2.2.2.2.2.1 _ hw) (fun _ h9 => h9) ((flds_at (by rw [hN]; exact hkN)).trans (by rw [hv hR.2.2.2.2.2])) d ?_
  exact kk H locs ls hl hR hS h1 h2
theorem r_getN (B : FX X E cc nL ret own nm n0 s0 fr lo) {a c k N idx : Nat} {C ref : String} {host : String} {T : u_T} {o : Option Nat} (t : TV) (ho : o = some a) (hk : eSk E σ → (sk σ a).1 = c) (hc : CL[c]? = some (C, T, N)) (h99 : c < 99) (hN : cN c = N) (hin : ∀ w ∈ u_ws C T N, w ∈ lw_all) (hkN : k < N) (hw : Cond.fieldLinkNest own idx ref (T k).2.1 (T k).2.2.1 host ∈ lw_nest) (hsame : (T k).1 = ref) (hv : eSk E σ → slv (cty c k) (si σ a k) (sl σ a k) ((sr σ a k).map (eAd E)) = toV (eAd E) t) (d : decode cc pc = .ok (.getfield idx, 3)) (kk : J X E n0 s0 nL Q σ (pc + 3) L (t :: rest)) : J X E n0 s0 nL Q σ pc L (vr o :: rest) := by
  subst ho
  subst hsame
  intro H locs ls hl hR hS h1 h2
  have hka := hk hR.2.2.2.2.2
  have hlt := hR.lt (a := a) (by rw [hka]; omega)
  refine va_getN (D := eD E) (ci := c) (v := toV (eAd E) t) (C := C) (T := T) (N := N) B.1 B.2.1 B.2.2.2.2.2.2.2.1 hin B.2.2.2.2.1 B.2.2.2.2.2.2.2.2.1.1.1 hR.1 a ((wof_at hlt).trans (by rw [cof_o hka (by omega)])) hc k hkN (va_Nw.use rfl (B.2.2.2.2.2.2.2.2.1.1.2.1 _ hw)) (fun _ h9 => h9) ((flds_at (by rw [hN]; exact hkN)).trans (by rw [hv hR.2.2.2.2.2])) d ?_
  exact kk H locs ls hl hR hS h1 h2
theorem r_getS (B : FX X E cc nL ret own nm n0 s0 fr lo) {a c k N idx : Nat} {C ref : String} {T : u_T} {o : Option Nat} (t : TV) (ho : o = some a) (hk : eSk E σ → (sk σ a).1 = c) (hc : CL[c]? = some (C, T, N)) (h99 : c < 99) (hN : cN c = N) (hin : ∀ w ∈ u_ws C T N, w ∈ lw_all) (hkN : k < N) (hw : Cond.fieldLink own idx ref (T k).2.1 (T k).2.2.1 ∈ lw_all) (hsame : Cond.sameField ref (T k).1 (T k).2.1 (T k).2.2.1 ∈ lw_all) (hv : eSk E σ → slv (cty c k) (si σ a k) (sl σ a k) ((sr σ a k).map (eAd E)) = toV (eAd E) t) (d : decode cc pc = .ok (.getfield idx, 3)) (kk : J X E n0 s0 nL Q σ (pc + 3) L (t :: rest)) : J X E n0 s0 nL Q σ pc L (vr o :: rest) := by
  subst ho
  skip
  intro H locs ls hl hR hS h1 h2
  have hka := hk hR.2.2.2.2.2
  have hlt := hR.lt (a := a) (by rw [hka]; omega)
  refine va_get (D := eD E) (ci := c) (v := toV (eAd E) t) (C := C) (T := T) (N := N) B.1 B.2.1 B.2.2.2.2.2.2.2.1 hin B.2.2.2.2.1 B.2.2.2.2.2.2.2.2.1.1.1 hR.1 a ((wof_at hlt).trans (by rw [cof_o hka (by omega)])) hc k hkN (B.2.2.2.2.2.2.2.1 _ hw) (fun x h9 => u_same (B.2.2.2.2.2.2.2.1 _ hsame) x h9) ((flds_at (by rw [hN]; exact hkN)).trans (by rw [hv hR.2.2.2.2.2])) d ?_
  exact kk H locs ls hl hR hS h1 h2
/-- what the three stores into a field ask, and what comes of them -/
theorem z_pre (B : FX X E cc nL ret own nm n0 s0 fr lo) {H : Heap} {a c k N : Nat} {C : String} {T : u_T} {v : Value} (hR : Rel E σ H) (hka : (sk σ a).1 = c) (hc : CL[c]? = some (C, T, N)) (h99 : c < 99) (hN : cN c = N) (hin : ∀ w ∈ u_ws C T N, w ∈ lw_all) (hkN : k < N) (hty : ∀ k, k < N → parseFieldDescriptor (T k).2.2.1 = some (cty c k)) (hnm : ∀ a, a < N → ∀ b, b < N → a ≠ b → (T a).2.1 ≠ (T b).2.1)
    (hn : narrow (cty c k) v = v) (hfit : fits (cty c k) v = true) (hv : (flds E c (si σ a) (sl σ a) (sr σ a)).set k v = flds E c (si σ1 a) (sl σ1 a) (sr σ1 a)) (ho : ∀ b, b ≠ a → cof E σ1 b = cof E σ b) (e1 : sk σ1 = sk σ) (e2 : sn σ1 = sn σ ∧ ss σ1 = ss σ ∧ smx σ1 = smx σ ∧ sms σ1 = sms σ) (hsk : eSk E σ1) :
    ∃ (cell : Cell) (cf fi : Nat) (kf : Class) (f : Field), (xS X).fieldFound? (T k).1 (T k).2.1 (T k).2.2.1 = some (cf, kf, fi, f) ∧ f.isStatic = false ∧ H[eAd E a]? = some cell ∧ cell.vm = .none ∧ f.slot < cell.slots.size ∧ ((T k).2.2.2 = false → k2_Sd (xS X) f cell.cls v) ∧ ((T k).2.2.2 = true → (T k).1 = own → (xM X).cls = cf ∧ narrow f.type v = v ∧ (xS X).fitsSlot cell.cls .none f.slot v = true) ∧
      ∀ H1 : Heap, H1[eAd E a]? = some (cell.setSlot f.slot v) → H1.size = H.size → (∀ q, q ≠ eAd E a → H1[q]? = H[q]?) → Rel E σ1 H1 := by
  have hts := B.2.2.2.2.2.2.2.1
  have hK := B.2.2.2.2.2.2.2.2.1.1.1
  have hown := B.2.2.2.2.1
  have hlt := hR.lt (a := a) (by rw [hka]; omega)
  have hD := wof_D (E := E) (σ := σ) B.2.2.2.2.2.2.2.2.2.1 hR.2.2.1.2.1
  have hwa : (wof E σ)[a]? = some (eAd E a, .inr (c, flds E c (si σ a) (sl σ a) (sr σ a))) := (wof_at hlt).trans (by rw [cof_o hka (by omega)])
  have hap := va_apart (own := own) hts hin (cty c) hty hnm hK hc
  obtain ⟨r, g1, cell, q1, q2, q3, q4⟩ := hR.1 a _ hwa
  have hr : r = (C, T, N) := Option.some.inj (g1.symm.trans hc)
  subst hr
  obtain ⟨hS, hfc, kC, hkC, hkind⟩ := hK.1 c _ hc
  obtain ⟨cf, kf, fi, f, hi, hsl⟩ := hS k hkN
  have hlay := hts _ (hin _ (u_in_lay hkN))
  have hst := (u_facts hfc hkC (u_lays hts hin hkN) hi).1
  refine ⟨cell, cf, fi, kf, f, hi, hst, q1, q3, by rw [hsl]; exact k2_hasslot (q4 k hkN), fun hfin => ?_, fun hfin hdecl => ?_, fun H1 f1 f2 f3 => ?_⟩
  · unfold u_lay at hlay
    rw [if_neg (by rw [hfin]; decide)] at hlay
    rw [q2]
    exact u_store hfc hkC hkind hlay hi (hty k hkN) hn hfit
  · unfold u_lay at hlay
    rw [if_pos hfin] at hlay
    refine ⟨?_, by rw [q2]; exact u_fits hfc hkC hkind (Or.inr hlay) hi (hty k hkN) hn hfit⟩
    obtain ⟨_, _, c', _, _, _, -, -, hf', -, -, -, hown2, -⟩ := Cond.laysFinal_spec hlay
    have z1 : c' = cf := by have := hi.symm.trans hf'; simp at this; exact this.1.symm
    rw [hdecl] at hown2
    rw [← z1]
    exact Option.some.inj (hown.symm.trans hown2)
  · rw [hsl] at f1
    have hl : k < (flds E c (si σ a) (sl σ a) (sr σ a)).length := by rw [flds_len, hN]; exact hkN
    have hP1 := hR.1.set (e := .inr (c, (flds E c (si σ a) (sl σ a) (sr σ a)).set k v)) hD hwa ⟨_, hc, t_OB.to (V := updV (vp_V (flds E c (si σ a) (sl σ a) (sr σ a))) k v) ⟨_, f1, q2, q3, t_set q4 hap hkN v⟩ (fun j _ => vp_updV_set hl v j)⟩ f3
    rw [hv] at hP1
    exact hR.setc (cof_o (by rw [e1]; exact hka) (by omega)) ho hP1 f2 e1 e2.1 e2.2.1 e2.2.2.1 e2.2.2.2 hsk
theorem r_putI (B : FX X E cc nL ret own nm n0 s0 fr lo) {a c k N idx : Nat} {C ref : String} {T : u_T} {o : Option Nat} {v : Int32} (e1 : σ1 = setI σ a k v) (ho : o = some a) (hk : eSk E σ → (sk σ a).1 = c) (hc : CL[c]? = some (C, T, N)) (h99 : c < 99) (hN : cN c = N) (hin : ∀ w ∈ u_ws C T N, w ∈ lw_all) (hkN : k < N) (hty : ∀ k, k < N → parseFieldDescriptor (T k).2.2.1 = some (cty c k)) (hnm : ∀ a, a < N → ∀ b, b < N → a ≠ b → (T a).2.1 ≠ (T b).2.1) (hw : Cond.fieldLink own idx ref (T k).2.1 (T k).2.2.1 ∈ lw_all) (hsame : (T k).1 = ref) (hfin : (T k).2.2.2 = false) (hslv : ∀ i l r, slv (cty c k) i l r = .int i) (hfit : fits (cty c k) (.int v) = true)  (d : decode cc pc = .ok (.putfield idx, 3)) (kk : J X E n0 s0 nL Q σ1 (pc + 3) L rest) : J X E n0 s0 nL Q σ pc L (vi v :: vr o :: rest) := by
  subst ho
  subst hsame
  subst e1
  intro H locs ls hl hR hS h1 h2
  have hka := hk hR.2.2.2.2.2
  obtain ⟨cell, cf, fi, kf, f, hi, hst, q1, q3, hls, p6, p7, p8⟩ := z_pre (σ1 := setI σ a k v) (v := .int v) B hR hka hc h99 hN hin hkN hty hnm (fits_nar hfit) hfit (flds_set (i := si σ a) (l := sl σ a) (r := sr σ a) (i' := si (setI σ a k v) a) (l' := sl (setI σ a k v) a) (r' := sr (setI σ a k v) a) ((hslv _ _ _).trans (congrArg Value.int up2_s)) (fun j e => ⟨up2_k e, rfl, rfl⟩)) (fun b e => cof_same rfl (up2_a e) rfl rfl) rfl ⟨rfl, rfl, rfl, rfl⟩ (B.2.2.2.2.2.2.2.2.2.1.2.2.1 σ _ rfl rfl hR.2.2.2.2.2)
  have hAa : eA E (eAd E a) := B.2.2.2.2.2.2.2.2.2.1.2.1 _ (Nat.lt_of_lt_of_le (hR.lt (a := a) (by rw [hka]; omega)) hR.2.2.1.2.1)
  refine W.putK B.1 B.2.1 (f := f) ⟨B.2.2.2.2.1, (B.2.2.2.2.2.2.2.1 _ hw), ⟨_, _, _, hi⟩, hst⟩ (p6 hfin) q1 q3 hls rfl rfl d (fun H1 f1 f2 f3 => ?_)
  exact kk H1 _ ls hl (p8 H1 f1 f2 f3) (hS.put f2 f3 hAa) h1 h2
theorem r_putIN (B : FX X E cc nL ret own nm n0 s0 fr lo) {a c k N idx : Nat} {C ref : String} {host : String} {T : u_T} {o : Option Nat} {v : Int32} (e1 : σ1 = setI σ a k v) (ho : o = some a) (hk : eSk E σ → (sk σ a).1 = c) (hc : CL[c]? = some (C, T, N)) (h99 : c < 99) (hN : cN c = N) (hin : ∀ w ∈ u_ws C T N, w ∈ lw_all) (hkN : k < N) (hty : ∀ k, k < N → parseFieldDescriptor (T k).2.2.1 = some (cty c k)) (hnm : ∀ a, a < N → ∀ b, b < N → a ≠ b → (T a).2.1 ≠ (T b).2.1) (hw : Cond.fieldLinkNest own idx ref (T k).2.1 (T k).2.2.1 host ∈ lw_nest) (hsame : (T k).1 = ref) (hfin : (T k).2.2.2 = false) (hslv : ∀ i l r, slv (cty c k) i l r = .int i) (hfit : fits (cty c k) (.int v) = true)  (d : decode cc pc = .ok (.putfield idx, 3)) (kk : J X E n0 s0 nL Q σ1 (pc + 3) L rest) : J X E n0 s0 nL Q σ pc L (vi v :: vr o :: rest) := by
  subst ho
  subst hsame
  subst e1
  intro H locs ls hl hR hS h1 h2
  have hka := hk hR.2.2.2.2.2
  obtain ⟨cell, cf, fi, kf, f, hi, hst, q1, q3, hls, p6, p7, p8⟩ := z_pre (σ1 := setI σ a k v) (v := .int v) B hR hka hc h99 hN hin hkN hty hnm (fits_nar hfit) hfit (flds_set (i := si σ a) (l := sl σ a) (r := sr σ a) (i' := si (setI σ a k v) a) (l' := sl (setI σ a k v) a) (r' := sr (setI σ a k v) a) ((hslv _ _ _).trans (congrArg Value.int up2_s)) (fun j e => ⟨up2_k e, rfl, rfl⟩)) (fun b e => cof_same rfl (up2_a e) rfl rfl) rfl ⟨rfl, rfl, rfl, rfl⟩ (B.2.2.2.2.2.2.2.2.2.1.2.2.1 σ _ rfl rfl hR.2.2.2.2.2)
  have hAa : eA E (eAd E a) := B.2.2.2.2.2.2.2.2.2.1.2.1 _ (Nat.lt_of_lt_of_le (hR.lt (a := a) (by rw [hka]; omega)) hR.2.2.1.2.1)
  refine va_WputK B.1 B.2.1 (f := f) B.2.2.2.2.1 (va_Nw.use rfl (B.2.2.2.2.2.2.2.2.1.1.2.1 _ hw)) hi hst (p6 hfin) q1 q3 hls rfl rfl d (fun H1 f1 f2 f3 => ?_)
  exact kk H1 _ ls hl (p8 H1 f1 f2 f3) (hS.put f2 f3 hAa) h1 h2
theorem r_putIF (B : FX X E cc nL ret own nm n0 s0 fr lo) {a c k N idx : Nat} {C ref : String} {T : u_T} {o : Option Nat} {v : Int32} (e1 : σ1 = setI σ a k v) (ho : o = some a) (hk : eSk E σ → (sk σ a).1 = c) (hc : CL[c]? = some (C, T, N)) (h99 : c < 99) (hN : cN c = N) (hin : ∀ w ∈ u_ws C T N, w ∈ lw_all) (hkN : k < N) (hty : ∀ k, k < N → parseFieldDescriptor (T k).2.2.1 = some (cty c k)) (hnm : ∀ a, a < N → ∀ b, b < N → a ≠ b → (T a).2.1 ≠ (T b).2.1) (hw : Cond.fieldLink own idx ref (T k).2.1 (T k).2.2.1 ∈ lw_all) (hsame : (T k).1 = ref) (hfin : (T k).2.2.2 = true) (hinit : nm = "<init>") (hdecl : (T k).1 = own) (hslv : ∀ i l r, slv (cty c k) i l r = .int i) (hfit : fits (cty c k) (.int v) = true)  (d : decode cc pc = .ok (.putfield idx, 3)) (kk : J X E n0 s0 nL Q σ1 (pc + 3) L rest) : J X E n0 s0 nL Q σ pc L (vi v :: vr o :: rest) := by
  subst ho
  subst hsame
  subst e1
  intro H locs ls hl hR hS h1 h2
  have hka := hk hR.2.2.2.2.2
  obtain ⟨cell, cf, fi, kf, f, hi, hst, q1, q3, hls, p6, p7, p8⟩ := z_pre (σ1 := setI σ a k v) (v := .int v) B hR hka hc h99 hN hin hkN hty hnm (fits_nar hfit) hfit (flds_set (i := si σ a) (l := sl σ a) (r := sr σ a) (i' := si (setI σ a k v) a) (l' := sl (setI σ a k v) a) (r' := sr (setI σ a k v) a) ((hslv _ _ _).trans (congrArg Value.int up2_s)) (fun j e => ⟨up2_k e, rfl, rfl⟩)) (fun b e => cof_same rfl (up2_a e) rfl rfl) rfl ⟨rfl, rfl, rfl, rfl⟩ (B.2.2.2.2.2.2.2.2.2.1.2.2.1 σ _ rfl rfl hR.2.2.2.2.2)
  have hAa : eA E (eAd E a) := B.2.2.2.2.2.2.2.2.2.1.2.1 _ (Nat.lt_of_lt_of_le (hR.lt (a := a) (by rw [hka]; omega)) hR.2.2.1.2.1)
  refine W.putFinK B.1 B.2.1 B.2.2.2.2.1 (B.2.2.2.2.2.2.2.1 _ hw) hi hst (p7 hfin hdecl).1 (B.2.2.2.2.2.2.1.trans hinit) (p7 hfin hdecl).2 q1 q3 hls rfl rfl d (fun H1 f1 f2 f3 => ?_)
  exact kk H1 _ ls hl (p8 H1 f1 f2 f3) (hS.put f2 f3 hAa) h1 h2
theorem r_putIS (B : FX X E cc nL ret own nm n0 s0 fr lo) {a c k N idx : Nat} {C ref : String} {T : u_T} {o : Option Nat} {v : Int32} (e1 : σ1 = setI σ a k v) (ho : o = some a) (hk : eSk E σ → (sk σ a).1 = c) (hc : CL[c]? = some (C, T, N)) (h99 : c < 99) (hN : cN c = N) (hin : ∀ w ∈ u_ws C T N, w ∈ lw_all) (hkN : k < N) (hty : ∀ k, k < N → parseFieldDescriptor (T k).2.2.1 = some (cty c k)) (hnm : ∀ a, a < N → ∀ b, b < N → a ≠ b → (T a).2.1 ≠ (T b).2.1) (hw : Cond.fieldLink own idx ref (T k).2.1 (T k).2.2.1 ∈ lw_all) (hsame : Cond.sameField ref (T k).1 (T k).2.1 (T k).2.2.1 ∈ lw_all) (hfin : (T k).2.2.2 = false) (hslv : ∀ i l r, slv (cty c k) i l r = .int i) (hfit : fits (cty c k) (.int v) = true)  (d : decode cc pc = .ok (.putfield idx, 3)) (kk : J X E n0 s0 nL Q σ1 (pc + 3) L rest) : J X E n0 s0 nL Q σ pc L (vi v :: vr o :: rest) := by
  subst ho
  skip
  subst e1
  intro H locs ls hl hR hS h1 h2
  have hka := hk hR.2.2.2.2.2
  obtain ⟨cell, cf, fi, kf, f, hi, hst, q1, q3, hls, p6, p7, p8⟩ := z_pre (σ1 := setI σ a k v) (v := .int v) B hR hka hc h99 hN hin hkN hty hnm (fits_nar hfit) hfit (flds_set (i := si σ a) (l := sl σ a) (r := sr σ a) (i' := si (setI σ a k v) a) (l' := sl (setI σ a k v) a) (r' := sr (setI σ a k v) a) ((hslv _ _ _).trans (congrArg Value.int up2_s)) (fun j e => ⟨up2_k e, rfl, rfl⟩)) (fun b e => cof_same rfl (up2_a e) rfl rfl) rfl ⟨rfl, rfl, rfl, rfl⟩ (B.2.2.2.2.2.2.2.2.2.1.2.2.1 σ _ rfl rfl hR.2.2.2.2.2)
  have hAa : eA E (eAd E a) := B.2.2.2.2.2.2.2.2.2.1.2.1 _ (Nat.lt_of_lt_of_le (hR.lt (a := a) (by rw [hka]; omega)) hR.2.2.1.2.1)
  refine W.putK B.1 B.2.1 (f := f) ⟨B.2.2.2.2.1, (B.2.2.2.2.2.2.2.1 _ hw), ⟨_, _, _, u_same (B.2.2.2.2.2.2.2.1 _ hsame) _ hi⟩, hst⟩ (p6 hfin) q1 q3 hls rfl rfl d (fun H1 f1 f2 f3 => ?_)
  exact kk H1 _ ls hl (p8 H1 f1 f2 f3) (hS.put f2 f3 hAa) h1 h2
theorem r_putL (B : FX X E cc nL ret own nm n0 s0 fr lo) {a c k N idx : Nat} {C ref : String} {T : u_T} {o : Option Nat} {v : Int64} (e1 : σ1 = setL σ a k v) (ho : o = some a) (hk : eSk E σ → (sk σ a).1 = c) (hc : CL[c]? = some (C, T, N)) (h99 : c < 99) (hN : cN c = N) (hin : ∀ w ∈ u_ws C T N, w ∈ lw_all) (hkN : k < N) (hty : ∀ k, k < N → parseFieldDescriptor (T k).2.2.1 = some (cty c k)) (hnm : ∀ a, a < N → ∀ b, b < N → a ≠ b → (T a).2.1 ≠ (T b).2.1) (hw : Cond.fieldLink own idx ref (T k).2.1 (T k).2.2.1 ∈ lw_all) (hsame : (T k).1 = ref) (hfin : (T k).2.2.2 = false) (hty2 : cty c k = .long)  (d : decode cc pc = .ok (.putfield idx, 3)) (kk : J X E n0 s0 nL Q σ1 (pc + 3) L rest) : J X E n0 s0 nL Q σ pc L (vl v :: vr o :: rest) := by
  subst ho
  subst hsame
  subst e1
  intro H locs ls hl hR hS h1 h2
  have hka := hk hR.2.2.2.2.2
  obtain ⟨cell, cf, fi, kf, f, hi, hst, q1, q3, hls, p6, p7, p8⟩ := z_pre (σ1 := setL σ a k v) (v := .long v) B hR hka hc h99 hN hin hkN hty hnm (by rw [hty2]; rfl) (by rw [hty2]; rfl) (flds_set (i := si σ a) (l := sl σ a) (r := sr σ a) (i' := si (setL σ a k v) a) (l' := sl (setL σ a k v) a) (r' := sr (setL σ a k v) a) (by rw [hty2]; exact congrArg Value.long up2_s) (fun j e => ⟨rfl, up2_k e, rfl⟩)) (fun b e => cof_same rfl rfl (up2_a e) rfl) rfl ⟨rfl, rfl, rfl, rfl⟩ (B.2.2.2.2.2.2.2.2.2.1.2.2.1 σ _ rfl rfl hR.2.2.2.2.2)
  have hAa : eA E (eAd E a) := B.2.2.2.2.2.2.2.2.2.1.2.1 _ (Nat.lt_of_lt_of_le (hR.lt (a := a) (by rw [hka]; omega)) hR.2.2.1.2.1)
  refine W.putK B.1 B.2.1 (f := f) ⟨B.2.2.2.2.1, (B.2.2.2.2.2.2.2.1 _ hw), ⟨_, _, _, hi⟩, hst⟩ (p6 hfin) q1 q3 hls rfl rfl d (fun H1 f1 f2 f3 => ?_)
  exact kk H1 _ ls hl (p8 H1 f1 f2 f3) (hS.put f2 f3 hAa) h1 h2
theorem r_putLN (B : FX X E cc nL ret own nm n0 s0 fr lo) {a c k N idx : Nat} {C ref : String} {host : String} {T : u_T} {o : Option Nat} {v : Int64} (e1 : σ1 = setL σ a k v) (ho : o = some a) (hk : eSk E σ → (sk σ a).1 = c) (hc : CL[c]? = some (C, T, N)) (h99 : c < 99) (hN : cN c = N) (hin : ∀ w ∈ u_ws C T N, w ∈ lw_all) (hkN : k < N) (hty : ∀ k, k < N → parseFieldDescriptor (T k).2.2.1 = some (cty c k)) (hnm : ∀ a, a < N → ∀ b, b < N → a ≠ b → (T a).2.1 ≠ (T b).2.1) (hw : Cond.fieldLinkNest own idx ref (T k).2.1 (T k).2.2.1 host ∈ lw_nest) (hsame : (T k).1 = ref) (hfin : (T k).2.2.2 = false) (hty2 : cty c k = .long)  (d : decode cc pc = .ok (.putfield idx, 3)) (kk : J X E n0 s0 nL Q σ1 (pc + 3) L rest) : J X E n0 s0 nL Q σ pc L (vl v :: vr o :: rest) := by
  subst ho
  subst hsame
  subst e1
  intro H locs ls hl hR hS h1 h2
  have hka := hk hR.2.2.2.2.2
  obtain ⟨cell, cf, fi, kf, f, hi, hst, q1, q3, hls, p6, p7, p8⟩ := z_pre (σ1 := setL σ a k v) (v := .long v) B hR hka hc h99 hN hin hkN hty hnm (by rw [hty2]; rfl) (by rw [hty2]; rfl) (flds_set (i := si σ a) (l := sl σ a) (r := sr σ a) (i' := si (setL σ a k v) a) (l' := sl (setL σ a k v) a) (r' := sr (setL σ a k v) a) (by rw [hty2]; exact congrArg Value.long up2_s) (fun j e => ⟨rfl, up2_k e, rfl⟩)) (fun b e => cof_same rfl rfl (up2_a e) rfl) rfl ⟨rfl, rfl, rfl, rfl⟩ (B.2.2.2.2.2.2.2.2.2.1.2.2.1 σ _ rfl rfl hR.2.2.2.2.2)
  have hAa : eA E (eAd E a) := B.2.2.2.2.2.2.2.2.2.1.2.1 _ (Nat.lt_of_lt_of_le (hR.lt (a := a) (by rw [hka]; omega)) hR.2.2.1.2.1)
  refine va_WputK B.1 B.2.1 (f := f) B.2.2.2.2.1 (va_Nw.use rfl (B.2.2.2.2.2.2.2.2.1.1.2.1 _ hw)) hi hst (p6 hfin) q1 q3 hls rfl rfl d (fun H1 f1 f2 f3 => ?_)
  exact kk H1 _ ls hl (p8 H1 f1 f2 f3) (hS.put f2 f3 hAa) h1 h2
theorem r_putLF (B : FX X E cc nL ret own nm n0 s0 fr lo) {a c k N idx : Nat} {C ref : String} {T : u_T} {o : Option Nat} {v : Int64} (e1 : σ1 = setL σ a k v) (ho : o = some a) (hk : eSk E σ → (sk σ a).1 = c) (hc : CL[c]? = some (C, T, N)) (h99 : c < 99) (hN : cN c = N) (hin : ∀ w ∈ u_ws C T N, w ∈ lw_all) (hkN : k < N) (hty : ∀ k, k < N → parseFieldDescriptor (T k).2.2.1 = some (cty c k)) (hnm : ∀ a, a < N → ∀ b, b < N → a ≠ b → (T a).2.1 ≠ (T b).2.1) (hw : Cond.fieldLink own idx ref (T k).2.1 (T k).2.2.1 ∈ lw_all) (hsame : (T k).1 = ref) (hfin : (T k).2.2.2 = true) (hinit : nm = "<init>") (hdecl : (T k).1 = own) (hty2 : cty c k = .long)  (d : decode cc pc = .ok (.putfield idx, 3)) (kk : J X E n0 s0 nL Q σ1 (pc + 3) L rest) : J X E n0 s0 nL Q σ pc L (vl v :: vr o :: rest) := by
  subst ho
  subst hsame
  subst e1
  intro H locs ls hl hR hS h1 h2
  have hka := hk hR.2.2.2.2.2
  obtain ⟨cell, cf, fi, kf, f, hi, hst, q1, q3, hls, p6, p7, p8⟩ := z_pre (σ1 := setL σ a k v) (v := .long v) B hR hka hc h99 hN hin hkN hty hnm (by rw [hty2]; rfl) (by rw [hty2]; rfl) (flds_set (i := si σ a) (l := sl σ a) (r := sr σ a) (i' := si (setL σ a k v) a) (l' := sl (setL σ a k v) a) (r' := sr (setL σ a k v) a) (by rw [hty2]; exact congrArg Value.long up2_s) (fun j e => ⟨rfl, up2_k e, rfl⟩)) (fun b e => cof_same rfl rfl (up2_a e) rfl) rfl ⟨rfl, rfl, rfl, rfl⟩ (B.2.2.2.2.2.2.2.2.2.1.2.2.1 σ _ rfl rfl hR.2.2.2.2.2)
  have hAa : eA E (eAd E a) := B.2.2.2.2.2.2.2.2.2.1.2.1 _ (Nat.lt_of_lt_of_le (hR.lt (a := a) (by rw [hka]; omega)) hR.2.2.1.2.1)
  refine W.putFinK B.1 B.2.1 B.2.2.2.2.1 (B.2.2.2.2.2.2.2.1 _ hw) hi hst (p7 hfin hdecl).1 (B.2.2.2.2.2.2.1.trans hinit) (p7 hfin hdecl).2 q1 q3 hls rfl rfl d (fun H1 f1 f2 f3 => ?_)
  exact kk H1 _ ls hl (p8 H1 f1 f2 f3) (hS.put f2 f3 hAa) h1 h2
theorem r_putR (B : FX X E cc nL ret own nm n0 s0 fr lo) {a c k N idx : Nat} {C ref : String} {T : u_T} {o : Option Nat} {v : Option Nat} (e1 : σ1 = setR σ a k v) (ho : o = some a) (hk : eSk E σ → (sk σ a).1 = c) (hc : CL[c]? = some (C, T, N)) (h99 : c < 99) (hN : cN c = N) (hin : ∀ w ∈ u_ws C T N, w ∈ lw_all) (hkN : k < N) (hty : ∀ k, k < N → parseFieldDescriptor (T k).2.2.1 = some (cty c k)) (hnm : ∀ a, a < N → ∀ b, b < N → a ≠ b → (T a).2.1 ≠ (T b).2.1) (hw : Cond.fieldLink own idx ref (T k).2.1 (T k).2.2.1 ∈ lw_all) (hsame : (T k).1 = ref) (hfin : (T k).2.2.2 = false) (hty2 : (∃ n, cty c k = .object n) ∨ ∃ t, cty c k = .array t) (hsk : eSk E σ → eSk E σ1) (d : decode cc pc = .ok (.putfield idx, 3)) (kk : J X E n0 s0 nL Q σ1 (pc + 3) L rest) : J X E n0 s0 nL Q σ pc L (vr v :: vr o :: rest) := by
  subst ho
  subst hsame
  subst e1
  intro H locs ls hl hR hS h1 h2
  have hka := hk hR.2.2.2.2.2
  obtain ⟨cell, cf, fi, kf, f, hi, hst, q1, q3, hls, p6, p7, p8⟩ := z_pre (σ1 := setR σ a k v) (v := va_rf (v.map (eAd E))) B hR hka hc h99 hN hin hkN hty hnm (by rcases hty2 with ⟨n, e⟩ | ⟨t, e⟩ <;> rw [e] <;> cases v <;> rfl) (by rcases hty2 with ⟨n, e⟩ | ⟨t, e⟩ <;> rw [e] <;> cases v <;> rfl) (flds_set (i := si σ a) (l := sl σ a) (r := sr σ a) (i' := si (setR σ a k v) a) (l' := sl (setR σ a k v) a) (r' := sr (setR σ a k v) a) (by rw [show sr (setR σ a k v) a k = v from up2_s]; rcases hty2 with ⟨n, e⟩ | ⟨t, e⟩ <;> rw [e] <;> rfl) (fun j e => ⟨rfl, rfl, up2_k e⟩)) (fun b e => cof_same rfl rfl rfl (up2_a e)) rfl ⟨rfl, rfl, rfl, rfl⟩ (hsk hR.2.2.2.2.2)
  have hAa : eA E (eAd E a) := B.2.2.2.2.2.2.2.2.2.1.2.1 _ (Nat.lt_of_lt_of_le (hR.lt (a := a) (by rw [hka]; omega)) hR.2.2.1.2.1)
  refine W.putK B.1 B.2.1 (f := f) ⟨B.2.2.2.2.1, (B.2.2.2.2.2.2.2.1 _ hw), ⟨_, _, _, hi⟩, hst⟩ (p6 hfin) q1 q3 hls rfl rfl d (fun H1 f1 f2 f3 => ?_)
  exact kk H1 _ ls hl (p8 H1 f1 f2 f3) (hS.put f2 f3 hAa) h1 h2
theorem r_putRN (B : FX X E cc nL ret own nm n0 s0 fr lo) {a c k N idx : Nat} {C ref : String} {host : String} {T : u_T} {o : Option Nat} {v : Option Nat} (e1 : σ1 = setR σ a k v) (ho : o = some a) (hk : eSk E σ → (sk σ a).1 = c) (hc : CL[c]? = some (C, T, N)) (h99 : c < 99) (hN : cN c = N) (hin : ∀ w ∈ u_ws C T N, w ∈ lw_all) (hkN : k < N) (hty : ∀ k, k < N → parseFieldDescriptor (T k).2.2.1 = some (cty c k)) (hnm : ∀ a, a < N → ∀ b, b < N → a ≠ b → (T a).2.1 ≠ (T b).2.1) (hw : Cond.fieldLinkNest own idx ref (T k).2.1 (T k).2.2.1 host ∈ lw_nest) (hsame : (T k).1 = ref) (hfin : (T k).2.2.2 = false) (hty2 : (∃ n, cty c k = .object n) ∨ ∃ t, cty c k = .array t) (hsk : eSk E σ → eSk E σ1) (d : decode cc pc = .ok (.putfield idx, 3)) (kk : J X E n0 s0 nL Q σ1 (pc + 3) L rest) : J X E n0 s0 nL Q σ pc L (vr v :: vr o :: rest) := by
  subst ho
  subst hsame
  subst e1
  intro H locs ls hl hR hS h1 h2
  have hka := hk hR.2.2.2.2.2
  obtain ⟨cell, cf, fi, kf, f, hi, hst, q1, q3, hls, p6, p7, p8⟩ := z_pre (σ1 := setR σ a k v) (v := va_rf (v.map (eAd E))) B hR hka hc h99 hN hin hkN hty hnm (by rcases hty2 with ⟨n, e⟩ | ⟨t, e⟩ <;> rw [e] <;> cases v <;> rfl) (by rcases hty2 with ⟨n, e⟩ | ⟨t, e⟩ <;> rw [e] <;> cases v <;> rfl) (flds_set (i := si σ a) (l := sl σ a) (r := sr σ a) (i' := si (setR σ a k v) a) (l' := sl (setR σ a k v) a) (r' := sr (setR σ a k v) a) (by rw [show sr (setR σ a k v) a k = v from up2_s]; rcases hty2 with ⟨n, e⟩ | ⟨t, e⟩ <;> rw [e] <;> rfl) (fun j e => ⟨rfl, rfl, up2_k e⟩)) (fun b e => cof_same rfl rfl rfl (up2_a e)) rfl ⟨rfl, rfl, rfl, rfl⟩ (hsk hR.2.2.2.2.2)
  have hAa : eA E (eAd E a) := B.2.2.2.2.2.2.2.2.2.1.2.1 _ (Nat.lt_of_lt_of_le (hR.lt (a := a) (by rw [hka]; omega)) hR.2.2.1.2.1)
  refine va_WputK B.1 B.2.1 (f := f) B.2.2.2.2.1 (va_Nw.use rfl (B.2.2.2.2.2.2.2.2.1.1.2.1 _ hw)) hi hst (p6 hfin) q1 q3 hls rfl rfl d (fun H1 f1 f2 f3 => ?_)
  exact kk H1 _ ls hl (p8 H1 f1 f2 f3) (hS.put f2 f3 hAa) h1 h2
theorem r_putRF (B : FX X E cc nL ret own nm n0 s0 fr lo) {a c k N idx : Nat} {C ref : String} {T : u_T} {o : Option Nat} {v : Option Nat} (e1 : σ1 = setR σ a k v) (ho : o = some a) (hk : eSk E σ → (sk σ a).1 = c) (hc : CL[c]? = some (C, T, N)) (h99 : c < 99) (hN : cN c = N) (hin : ∀ w ∈ u_ws C T N, w ∈ lw_all) (hkN : k < N) (hty : ∀ k, k < N → parseFieldDescriptor (T k).2.2.1 = some (cty c k)) (hnm : ∀ a, a < N → ∀ b, b < N → a ≠ b → (T a).2.1 ≠ (T b).2.1) (hw : Cond.fieldLink own idx ref (T k).2.1 (T k).2.2.1 ∈ lw_all) (hsame : (T k).1 = ref) (hfin : (T k).2.2.2 = true) (hinit : nm = "<init>") (hdecl : (T k).1 = own) (hty2 : (∃ n, cty c k = .object n) ∨ ∃ t, cty c k = .array t) (hsk : eSk E σ → eSk E σ1) (d : decode cc pc = .ok (.putfield idx, 3)) (kk : J X E n0 s0 nL Q σ1 (pc + 3) L rest) : J X E n0 s0 nL Q σ pc L (vr v :: vr o :: rest) := by
  subst ho
  subst hsame
  subst e1
  intro H locs ls hl hR hS h1 h2
  have hka := hk hR.2.2.2.2.2
  obtain ⟨cell, cf, fi, kf, f, hi, hst, q1, q3, hls, p6, p7, p8⟩ := z_pre (σ1 := setR σ a k v) (v := va_rf (v.map (eAd E))) B hR hka hc h99 hN hin hkN hty hnm (by rcases hty2 with ⟨n, e⟩ | ⟨t, e⟩ <;> rw [e] <;> cases v <;> rfl) (by rcases hty2 with ⟨n, e⟩ | ⟨t, e⟩ <;> rw [e] <;> cases v <;> rfl) (flds_set (i := si σ a) (l := sl σ a) (r := sr σ a) (i' := si (setR σ a k v) a) (l' := sl (setR σ a k v) a) (r' := sr (setR σ a k v) a) (by rw [show sr (setR σ a k v) a k = v from up2_s]; rcases hty2 with ⟨n, e⟩ | ⟨t, e⟩ <;> rw [e] <;> rfl) (fun j e => ⟨rfl, rfl, up2_k e⟩)) (fun b e => cof_same rfl rfl rfl (up2_a e)) rfl ⟨rfl, rfl, rfl, rfl⟩ (hsk hR.2.2.2.2.2)
  have hAa : eA E (eAd E a) := B.2.2.2.2.2.2.2.2.2.1.2.1 _ (Nat.lt_of_lt_of_le (hR.lt (a := a) (by rw [hka]; omega)) hR.2.2.1.2.1)
  refine W.putFinK B.1 B.2.1 B.2.2.2.2.1 (B.2.2.2.2.2.2.2.1 _ hw) hi hst (p7 hfin hdecl).1 (B.2.2.2.2.2.2.1.trans hinit) (p7 hfin hdecl).2 q1 q3 hls rfl rfl d (fun H1 f1 f2 f3 => ?_)
  exact kk H1 _ ls hl (p8 H1 f1 f2 f3) (hS.put f2 f3 hAa) h1 h2
theorem eSz_add (hE : GE E) {n : Nat} (h : eLo E ≤ n0) : ∀ j, n0 + j ≤ eMx E → n = n0 + j → eSz E n = eSz E n0 + j
  | 0, _, e => by rw [e]; rfl
  | j + 1, hm, e => by
    have h1 := (hE.2.2.2 (n0 + j) (by omega) (by omega)).2
    have h2 := eSz_add (n := n0 + j) hE h j (by omega) rfl
    rw [e, ← Nat.add_assoc, h1, h2]
    omega
/-- a store leaves the heap's size -/
theorem W_sz (B : FX X E cc nL ret own nm n0 s0 fr lo) {H1 : Heap} {locs1 : List Loc} {cs : Nat} {g : JFrame} (hn0 : n0 ≤ sn σ1) (hb : eLo E ≤ sn σ1 ∧ sn σ1 ≤ eMx E) (hP : va_P (eD E) CL (wof E σ1) H1) (hS : va_S (eA E) (xS X).heap H1 locs1)
    (k : H1.size = eSz E (sn σ1) → W (xP X) (xL X) (xE X) (xR X) (xS X) (xM X) (xA X) (xB X) (xH X) (xC X) H1 locs1 (sn σ1 - n0) cs Q g) : W (xP X) (xL X) (xE X) (xR X) (xS X) (xM X) (xA X) (xB X) (xH X) (xC X) H1 locs1 (sn σ1 - n0) cs Q g := by
  intro T hT S
  have h1 := S.heapSize
  rw [hT, B.2.2.2.2.2.2.2.2.2.2.2.1] at h1
  have hE : GE E := B.2.2.2.2.2.2.2.2.2.1
  have hlo : eLo E ≤ n0 := B.2.2.2.2.2.2.2.2.2.2.2.2
  have h2 := eSz_add (n := sn σ1) hE hlo (sn σ1 - n0) (by omega) (by omega)
  have h3 : eSz E (sn σ1) ≤ H1.size := by
    by_cases c : sn σ1 = n0
    · rw [c, ← B.2.2.2.2.2.2.2.2.2.2.2.1]
      exact hS.1
    · have h4 := hE.2.2.2 (sn σ1 - 1) (by omega) (by omega)
      have h5 := (hP _ _ (wof_at (E := E) (σ := σ1) (a := sn σ1 - 1) (by omega))).lt
      dsimp only at h5
      rw [h4.1] at h5
      have h6 := h4.2
      rw [show sn σ1 - 1 + 1 = sn σ1 by omega] at h6
      omega
  exact k (by omega) T hT S
/-- the relation after a store into an array -/
theorem Rel.arr {E : EV} {σ σ' : St} {H H1 : Heap} {a t n : Nat} {p : vp_A} (hR : Rel E σ H) (hka : sk σ a = (100 + t, n)) (hp : apay E t (si σ' a) (sl σ' a) (sr σ' a) n = p) (ho : ∀ b, b ≠ a → cof E σ' b = cof E σ b) (e1 : sk σ' = sk σ) (hn : sn σ' = sn σ) (hP : va_P (eD E) CL ((wof E σ).set a (eAd E a, .inl (eT E t, p))) H1) : va_P (eD E) CL (wof E σ') H1 := by
  rw [wof_set (σ' := σ') hn (by rw [cof_a (by rw [e1]; exact hka), hp]) ho] at hP
  exact hP
theorem r_iald (B : FX X E cc nL ret own nm n0 s0 fr lo) {a n : Nat} {i : Int32} {o : Option Nat} (ho : o = some a) (hk : eSk E σ → sk σ a = (100 + 0, n)) (hin : inb i n = true) (d : decode cc pc = .ok (.iaload, 1)) (kk : J X E n0 s0 nL Q σ (pc + 1) L (vi (si σ a i.toNatClampNeg) :: rest)) : J X E n0 s0 nL Q σ pc L (vi i :: vr o :: rest) := by
  subst ho
  intro H locs ls hl hR hS h1 h2
  have hka := hk hR.2.2.2.2.2
  have hlt := hR.lt (a := a) (by rw [hka]; show 100 + _ ≠ 99; omega)
  have hwa := (wof_at (E := E) hlt).trans (by rw [cof_a hka])
  exact va_iald B.1 B.2.1 B.2.2.2.2.2.2.2.2.1.1.1 hR.1 a 0 hwa (tysE_at E (t := 0) (by decide)) (inb_e hin) d (kk H locs ls hl hR hS h1 h2)
theorem r_bald (B : FX X E cc nL ret own nm n0 s0 fr lo) {a n : Nat} {i : Int32} {o : Option Nat} (ho : o = some a) (hk : eSk E σ → sk σ a = (100 + 2, n)) (hin : inb i n = true) (d : decode cc pc = .ok (.baload, 1)) (kk : J X E n0 s0 nL Q σ (pc + 1) L (vi (si σ a i.toNatClampNeg) :: rest)) : J X E n0 s0 nL Q σ pc L (vi i :: vr o :: rest) := by
  subst ho
  intro H locs ls hl hR hS h1 h2
  have hka := hk hR.2.2.2.2.2
  have hlt := hR.lt (a := a) (by rw [hka]; show 100 + _ ≠ 99; omega)
  have hwa := (wof_at (E := E) hlt).trans (by rw [cof_a hka])
  exact va_bald B.1 B.2.1 B.2.2.2.2.2.2.2.2.1.1.1 hR.1 a 2 hwa (tysE_at E (t := 2) (by decide)) (inb_e hin) d (kk H locs ls hl hR hS h1 h2)
theorem r_zald (B : FX X E cc nL ret own nm n0 s0 fr lo) {a n : Nat} {i : Int32} {o : Option Nat} (ho : o = some a) (hk : eSk E σ → sk σ a = (100 + 3, n)) (hin : inb i n = true) (d : decode cc pc = .ok (.baload, 1)) (kk : J X E n0 s0 nL Q σ (pc + 1) L (vi (si σ a i.toNatClampNeg) :: rest)) : J X E n0 s0 nL Q σ pc L (vi i :: vr o :: rest) := by
  subst ho
  intro H locs ls hl hR hS h1 h2
  have hka := hk hR.2.2.2.2.2
  have hlt := hR.lt (a := a) (by rw [hka]; show 100 + _ ≠ 99; omega)
  have hwa := (wof_at (E := E) hlt).trans (by rw [cof_a hka])
  exact va_zald B.1 B.2.1 B.2.2.2.2.2.2.2.2.1.1.1 hR.1 a 3 hwa (tysE_at E (t := 3) (by decide)) (inb_e hin) d (kk H locs ls hl hR hS h1 h2)
theorem r_lald (B : FX X E cc nL ret own nm n0 s0 fr lo) {a n : Nat} {i : Int32} {o : Option Nat} (ho : o = some a) (hk : eSk E σ → sk σ a = (100 + 1, n)) (hin : inb i n = true) (d : decode cc pc = .ok (.laload, 1)) (kk : J X E n0 s0 nL Q σ (pc + 1) L (vl (sl σ a i.toNatClampNeg) :: rest)) : J X E n0 s0 nL Q σ pc L (vi i :: vr o :: rest) := by
  subst ho
  intro H locs ls hl hR hS h1 h2
  have hka := hk hR.2.2.2.2.2
  have hlt := hR.lt (a := a) (by rw [hka]; show 100 + _ ≠ 99; omega)
  have hwa := (wof_at (E := E) hlt).trans (by rw [cof_a hka])
  exact va_lald B.1 B.2.1 B.2.2.2.2.2.2.2.2.1.1.1 hR.1 a 1 hwa (tysE_at E (t := 1) (by decide)) (inb_e hin) d (kk H locs ls hl hR hS h1 h2)
theorem r_aald (t : Nat) (C : String) (htt : 4 ≤ t ∧ t < 7 ∧ aty t = .object C) (B : FX X E cc nL ret own nm n0 s0 fr lo) {a n : Nat} {i : Int32} {o : Option Nat} (ho : o = some a) (hk : eSk E σ → sk σ a = (100 + t, n)) (hin : inb i n = true) (d : decode cc pc = .ok (.aaload, 1)) (kk : J X E n0 s0 nL Q σ (pc + 1) L (vr (sr σ a i.toNatClampNeg) :: rest)) : J X E n0 s0 nL Q σ pc L (vi i :: vr o :: rest) := by
  subst ho
  intro H locs ls hl hR hS h1 h2
  have hka := hk hR.2.2.2.2.2
  have hlt := hR.lt (a := a) (by rw [hka]; show 100 + _ ≠ 99; omega)
  have hwa := (wof_at (E := E) hlt).trans (by rw [cof_a hka])
  have e4 : apay E t (si σ a) (sl σ a) (sr σ a) n = (n, .inr (.inr (.inr (.inr fun j => (sr σ a j).map (eAd E))))) := by
    have : t = 4 ∨ t = 5 ∨ t = 6 := by omega
    rcases this with rfl | rfl | rfl <;> rfl
  rw [e4] at hwa
  exact va_aldq B.1 B.2.1 B.2.2.2.2.2.2.2.2.1.1.1 hR.1 a t hwa ((tysE_at E htt.2.1).trans (by rw [htt.2.2])) (inb_e hin) d (kk H locs ls hl hR hS h1 h2)
theorem r_alen (t : Nat) (ht7 : t < 7) (B : FX X E cc nL ret own nm n0 s0 fr lo) {a n : Nat} {o : Option Nat} (ho : o = some a) (hk : eSk E σ → sk σ a = (100 + t, n)) (d : decode cc pc = .ok (.arraylength, 1)) (kk : J X E n0 s0 nL Q σ (pc + 1) L (vi (nI n) :: rest)) : J X E n0 s0 nL Q σ pc L (vr o :: rest) := by
  subst ho
  intro H locs ls hl hR hS h1 h2
  have hka := hk hR.2.2.2.2.2
  have hlt := hR.lt (a := a) (by rw [hka]; show 100 + _ ≠ 99; omega)
  have hwa := (wof_at (E := E) hlt).trans (by rw [cof_a hka])
  have e4 : (apay E t (si σ a) (sl σ a) (sr σ a) n).1 = n := by
    unfold apay
    split <;> rfl
  exact va_alen B.1 B.2.1 B.2.2.2.2.2.2.2.2.1.1.1 hR.1 a t hwa (tysE_at E ht7) (by rw [e4]; rfl) d (kk H locs ls hl hR hS h1 h2)
theorem r_iast (B : FX X E cc nL ret own nm n0 s0 fr lo) {a n : Nat} {i : Int32} {v : Int32} {o : Option Nat} (e1 : σ1 = setI σ a i.toNatClampNeg v) (ho : o = some a) (hk : eSk E σ → sk σ a = (100 + 0, n)) (hin : inb i n = true) (d : decode cc pc = .ok (.iastore, 1)) (kk : J X E n0 s0 nL Q σ1 (pc + 1) L rest) : J X E n0 s0 nL Q σ pc L (vi v :: vi i :: vr o :: rest) := by
  subst e1
  subst ho
  intro H locs ls hl hR hS h1 h2
  have hka := hk hR.2.2.2.2.2
  have hlt := hR.lt (a := a) (by rw [hka]; show 100 + _ ≠ 99; omega)
  have hwa := (wof_at (E := E) hlt).trans (by rw [cof_a hka])
  refine va_iast B.1 B.2.1 B.2.2.2.2.2.2.2.2.1.1.1 hR.1 (wof_D B.2.2.2.2.2.2.2.2.2.1 hR.2.2.1.2.1) hS a 0 hwa (tysE_at E (t := 0) (by decide)) (inb_e hin) d (fun H1 locs1 hP1 hD1 hS1 => ?_)
  have hP2 := hR.arr (σ' := setI σ a i.toNatClampNeg v) hka (p := (n, .inl (upd (si σ a) i.toNatClampNeg v))) (by show apay E 0 _ _ _ n = _; rw [show si (setI σ a i.toNatClampNeg v) a = _ from up2_row]; rfl) (fun b e => cof_same rfl (up2_a e) rfl rfl) rfl rfl hP1
  refine W_sz (σ1 := setI σ a i.toNatClampNeg v) B h1 ⟨hR.2.2.1.1, hR.2.2.1.2.1⟩ hP2 hS1 (fun hz => ?_)
  exact kk H1 locs1 ls hl ⟨hP2, hz, hR.2.2.1, hR.2.2.2.1, hR.2.2.2.2.1, B.2.2.2.2.2.2.2.2.2.1.2.2.1 σ _ rfl rfl hR.2.2.2.2.2⟩ hS1 h1 h2
theorem r_bast (B : FX X E cc nL ret own nm n0 s0 fr lo) {a n : Nat} {i : Int32} {v : Int32} {o : Option Nat} (e1 : σ1 = setI σ a i.toNatClampNeg (vp_nar .byte v)) (ho : o = some a) (hk : eSk E σ → sk σ a = (100 + 2, n)) (hin : inb i n = true) (d : decode cc pc = .ok (.bastore, 1)) (kk : J X E n0 s0 nL Q σ1 (pc + 1) L rest) : J X E n0 s0 nL Q σ pc L (vi v :: vi i :: vr o :: rest) := by
  subst e1
  subst ho
  intro H locs ls hl hR hS h1 h2
  have hka := hk hR.2.2.2.2.2
  have hlt := hR.lt (a := a) (by rw [hka]; show 100 + _ ≠ 99; omega)
  have hwa := (wof_at (E := E) hlt).trans (by rw [cof_a hka])
  refine va_bast B.1 B.2.1 B.2.2.2.2.2.2.2.2.1.1.1 hR.1 (wof_D B.2.2.2.2.2.2.2.2.2.1 hR.2.2.1.2.1) hS a 2 hwa (tysE_at E (t := 2) (by decide)) (inb_e hin) d (fun H1 locs1 hP1 hD1 hS1 => ?_)
  have hP2 := hR.arr (σ' := setI σ a i.toNatClampNeg (vp_nar .byte v)) hka (p := (n, .inl (upd (si σ a) i.toNatClampNeg (vp_nar .byte v)))) (by show apay E 2 _ _ _ n = _; rw [show si (setI σ a i.toNatClampNeg (vp_nar .byte v)) a = _ from up2_row]; rfl) (fun b e => cof_same rfl (up2_a e) rfl rfl) rfl rfl hP1
  refine W_sz (σ1 := setI σ a i.toNatClampNeg (vp_nar .byte v)) B h1 ⟨hR.2.2.1.1, hR.2.2.1.2.1⟩ hP2 hS1 (fun hz => ?_)
  exact kk H1 locs1 ls hl ⟨hP2, hz, hR.2.2.1, hR.2.2.2.1, hR.2.2.2.2.1, B.2.2.2.2.2.2.2.2.2.1.2.2.1 σ _ rfl rfl hR.2.2.2.2.2⟩ hS1 h1 h2
theorem r_zast (B : FX X E cc nL ret own nm n0 s0 fr lo) {a n : Nat} {i : Int32} {v : Int32} {o : Option Nat} (e1 : σ1 = setI σ a i.toNatClampNeg (vp_nar .boolean v)) (ho : o = some a) (hk : eSk E σ → sk σ a = (100 + 3, n)) (hin : inb i n = true) (d : decode cc pc = .ok (.bastore, 1)) (kk : J X E n0 s0 nL Q σ1 (pc + 1) L rest) : J X E n0 s0 nL Q σ pc L (vi v :: vi i :: vr o :: rest) := by
  subst e1
  subst ho
  intro H locs ls hl hR hS h1 h2
  have hka := hk hR.2.2.2.2.2
  have hlt := hR.lt (a := a) (by rw [hka]; show 100 + _ ≠ 99; omega)
  have hwa := (wof_at (E := E) hlt).trans (by rw [cof_a hka])
  refine va_zast B.1 B.2.1 B.2.2.2.2.2.2.2.2.1.1.1 hR.1 (wof_D B.2.2.2.2.2.2.2.2.2.1 hR.2.2.1.2.1) hS a 3 hwa (tysE_at E (t := 3) (by decide)) (inb_e hin) d (fun H1 locs1 hP1 hD1 hS1 => ?_)
  have hP2 := hR.arr (σ' := setI σ a i.toNatClampNeg (vp_nar .boolean v)) hka (p := (n, .inl (upd (si σ a) i.toNatClampNeg (vp_nar .boolean v)))) (by show apay E 3 _ _ _ n = _; rw [show si (setI σ a i.toNatClampNeg (vp_nar .boolean v)) a = _ from up2_row]; rfl) (fun b e => cof_same rfl (up2_a e) rfl rfl) rfl rfl hP1
  refine W_sz (σ1 := setI σ a i.toNatClampNeg (vp_nar .boolean v)) B h1 ⟨hR.2.2.1.1, hR.2.2.1.2.1⟩ hP2 hS1 (fun hz => ?_)
  exact kk H1 locs1 ls hl ⟨hP2, hz, hR.2.2.1, hR.2.2.2.1, hR.2.2.2.2.1, B.2.2.2.2.2.2.2.2.2.1.2.2.1 σ _ rfl rfl hR.2.2.2.2.2⟩ hS1 h1 h2
theorem r_last (B : FX X E cc nL ret own nm n0 s0 fr lo) {a n : Nat} {i : Int32} {v : Int64} {o : Option Nat} (e1 : σ1 = setL σ a i.toNatClampNeg v) (ho : o = some a) (hk : eSk E σ → sk σ a = (100 + 1, n)) (hin : inb i n = true) (d : decode cc pc = .ok (.lastore, 1)) (kk : J X E n0 s0 nL Q σ1 (pc + 1) L rest) : J X E n0 s0 nL Q σ pc L (vl v :: vi i :: vr o :: rest) := by
  subst e1
  subst ho
  intro H locs ls hl hR hS h1 h2
  have hka := hk hR.2.2.2.2.2
  have hlt := hR.lt (a := a) (by rw [hka]; show 100 + _ ≠ 99; omega)
  have hwa := (wof_at (E := E) hlt).trans (by rw [cof_a hka])
  refine va_last B.1 B.2.1 B.2.2.2.2.2.2.2.2.1.1.1 hR.1 (wof_D B.2.2.2.2.2.2.2.2.2.1 hR.2.2.1.2.1) hS a 1 hwa (tysE_at E (t := 1) (by decide)) (inb_e hin) d (fun H1 locs1 hP1 hD1 hS1 => ?_)
  have hP2 := hR.arr (σ' := setL σ a i.toNatClampNeg v) hka (p := (n, .inr (.inl (vp_updL (sl σ a) i.toNatClampNeg v)))) (by show apay E 1 _ _ _ n = _; rw [show sl (setL σ a i.toNatClampNeg v) a = _ from up2_row]; rfl) (fun b e => cof_same rfl rfl (up2_a e) rfl) rfl rfl hP1
  refine W_sz (σ1 := setL σ a i.toNatClampNeg v) B h1 ⟨hR.2.2.1.1, hR.2.2.1.2.1⟩ hP2 hS1 (fun hz => ?_)
  exact kk H1 locs1 ls hl ⟨hP2, hz, hR.2.2.1, hR.2.2.2.1, hR.2.2.2.2.1, B.2.2.2.2.2.2.2.2.2.1.2.2.1 σ _ rfl rfl hR.2.2.2.2.2⟩ hS1 h1 h2
theorem up_map {f : Nat → Option Nat} {ad : Nat → Nat} {k v : Nat} : va_up (fun j => (f j).map ad) k (some (ad v)) = fun j => ((if j = k then some v else f j)).map ad := by
  funext j
  by_cases c : j = k
  · simp [va_up, c]
  · simp [va_up, c]
theorem up_mapN {f : Nat → Option Nat} {ad : Nat → Nat} {k : Nat} : va_up (fun j => (f j).map ad) k none = fun j => ((if j = k then none else f j)).map ad := by
  funext j
  by_cases c : j = k
  · simp [va_up, c]
  · simp [va_up, c]
/-- a reference of a class that the array takes -/
theorem r_aast (t : Nat) (C : String) (htt : 4 ≤ t ∧ t < 7 ∧ aty t = .object C) (B : FX X E cc nL ret own nm n0 s0 fr lo) {a n b c : Nat} {r : vw_C} {i : Int32} {o v : Option Nat} (e1 : σ1 = setR σ a i.toNatClampNeg v) (ho : o = some a) (hk : eSk E σ → sk σ a = (100 + t, n)) (hin : inb i n = true) (hv : v = some b) (hkb : (sk σ b).1 = c) (h99 : c < 99) (hc : CL[c]? = some r) (hca : Cond.castable r.1 C ∈ lw_nest) (hsk : eSk E σ → eSk E σ1) (d : decode cc pc = .ok (.aastore, 1)) (kk : J X E n0 s0 nL Q σ1 (pc + 1) L rest) : J X E n0 s0 nL Q σ pc L (vr v :: vi i :: vr o :: rest) := by
  subst hv
  subst e1
  subst ho
  intro H locs ls hl hR hS h1 h2
  have hka := hk hR.2.2.2.2.2
  have hlt := hR.lt (a := a) (by rw [hka]; show 100 + _ ≠ 99; omega)
  have hwa := (wof_at (E := E) hlt).trans (by rw [cof_a hka])
  have e4 : ∀ (x : Nat → Int32) (y : Nat → Int64) (z : Nat → Option Nat), apay E t x y z n = (n, .inr (.inr (.inr (.inr fun j => (z j).map (eAd E))))) := by
    have : t = 4 ∨ t = 5 ∨ t = 6 := by omega
    rcases this with rfl | rfl | rfl <;> exact fun _ _ _ => rfl
  rw [e4] at hwa
  have hltb := hR.lt (a := b) (by rw [hkb]; omega)
  refine va_astqO B.1 B.2.1 B.2.2.2.2.2.2.2.2.1.1.1 hR.1 (wof_D B.2.2.2.2.2.2.2.2.2.1 hR.2.2.1.2.1) hS a t b c hwa ((tysE_at E htt.2.1).trans (by rw [htt.2.2])) (B.2.2.2.2.2.2.2.2.1.1.2.1 _ hca) ((wof_at hltb).trans (by rw [cof_o hkb (by omega)])) hc (inb_e hin) d (fun H1 locs1 hP1 hD1 hS1 => ?_)
  have hP2 := hR.arr (σ' := setR σ a i.toNatClampNeg (some b)) hka (p := (n, .inr (.inr (.inr (.inr (va_up (fun j => (sr σ a j).map (eAd E)) i.toNatClampNeg (some (eAd E b)))))))) (by rw [e4, up_map, show sr (setR σ a i.toNatClampNeg (some b)) a = _ from up2_row]) (fun b e => cof_same rfl rfl rfl (up2_a e)) rfl rfl hP1
  refine W_sz (σ1 := setR σ a i.toNatClampNeg (some b)) B h1 ⟨hR.2.2.1.1, hR.2.2.1.2.1⟩ hP2 hS1 (fun hz => ?_)
  exact kk H1 locs1 ls hl ⟨hP2, hz, hR.2.2.1, hR.2.2.2.1, hR.2.2.2.2.1, hsk hR.2.2.2.2.2⟩ hS1 h1 h2
theorem r_aastN (t : Nat) (C : String) (htt : 4 ≤ t ∧ t < 7 ∧ aty t = .object C) (B : FX X E cc nL ret own nm n0 s0 fr lo) {a n : Nat} {i : Int32} {o v : Option Nat} (e1 : σ1 = setR σ a i.toNatClampNeg v) (ho : o = some a) (hk : eSk E σ → sk σ a = (100 + t, n)) (hin : inb i n = true) (hv : v = none) (hsk : eSk E σ → eSk E σ1) (d : decode cc pc = .ok (.aastore, 1)) (kk : J X E n0 s0 nL Q σ1 (pc + 1) L rest) : J X E n0 s0 nL Q σ pc L (vr v :: vi i :: vr o :: rest) := by
  subst hv
  subst e1
  subst ho
  intro H locs ls hl hR hS h1 h2
  have hka := hk hR.2.2.2.2.2
  have hlt := hR.lt (a := a) (by rw [hka]; show 100 + _ ≠ 99; omega)
  have hwa := (wof_at (E := E) hlt).trans (by rw [cof_a hka])
  have e4 : ∀ (x : Nat → Int32) (y : Nat → Int64) (z : Nat → Option Nat), apay E t x y z n = (n, .inr (.inr (.inr (.inr fun j => (z j).map (eAd E))))) := by
    have : t = 4 ∨ t = 5 ∨ t = 6 := by omega
    rcases this with rfl | rfl | rfl <;> exact fun _ _ _ => rfl
  rw [e4] at hwa
  refine va_astqN B.1 B.2.1 B.2.2.2.2.2.2.2.2.1.1.1 hR.1 (wof_D B.2.2.2.2.2.2.2.2.2.1 hR.2.2.1.2.1) hS a t hwa ((tysE_at E htt.2.1).trans (by rw [htt.2.2])) (inb_e hin) d (fun H1 locs1 hP1 hD1 hS1 => ?_)
  have hP2 := hR.arr (σ' := setR σ a i.toNatClampNeg none) hka (p := (n, .inr (.inr (.inr (.inr (va_up (fun j => (sr σ a j).map (eAd E)) i.toNatClampNeg none)))))) (by rw [e4, up_mapN, show sr (setR σ a i.toNatClampNeg none) a = _ from up2_row]) (fun b e => cof_same rfl rfl rfl (up2_a e)) rfl rfl hP1
  refine W_sz (σ1 := setR σ a i.toNatClampNeg none) B h1 ⟨hR.2.2.1.1, hR.2.2.1.2.1⟩ hP2 hS1 (fun hz => ?_)
  exact kk H1 locs1 ls hl ⟨hP2, hz, hR.2.2.1, hR.2.2.2.1, hR.2.2.2.2.1, hsk hR.2.2.2.2.2⟩ hS1 h1 h2
end HR
