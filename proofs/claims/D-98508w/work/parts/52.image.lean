set_option maxRecDepth 100000
/-! ===== the component: images ===== -/
theorem C0.old {D : Nat → Prop} {s s' : St} {w : WR} {ls : List (List DC)} (h : C0 D s w ls) (hv : Vd s) (h31 : 31 ≤ sn s) (hDn : ∀ b, D b → b < sn s) (ho : Old s s') : C0 D s' w ls := by
  obtain ⟨h1, h2, ⟨b, c, f, hL, hE⟩, hD⟩ := h
  have hb : b < sn s := hv.lt (by rw [hL.2.2.1]; show (104 : Nat) ≠ 99; decide)
  have hlt : ∀ q ∈ rC, q.1 < 31 := by decide
  have o10 := ho 10 (by omega)
  refine ⟨⟨fun a ha => by rw [(ho a (by omega)).1]; exact h1.1 a ha, fun q hq => by
    have := hlt q hq
    rw [(ho q.1 (by omega)).2.2.2]; exact h1.2 q hq⟩, fun r k k0 hr => by
    have := relC_30 hr
    rw [(ho r (by omega)).2.1]; exact h2 r k k0 hr, ⟨b, c, f, ⟨by rw [o10.1]; exact hL.1, by rw [o10.2.2.2]; exact hL.2.1, by rw [(ho b hb).1]; exact hL.2.2.1, hL.2.2.2.1, hL.2.2.2.2.1, by rw [o10.2.1]; exact hL.2.2.2.2.2.1, by rw [(ho b hb).2.2.2]; exact hL.2.2.2.2.2.2⟩, fun i x hx => (hE i x hx).go fun y hy => ho y (hDn y hy)⟩, hD⟩
/-- a state that is being made at a -/
def PI (s0 s : St) (a i m : Nat) : Prop := sn s = a + 1 + i ∧ ss s = ss s0 + m ∧ (smx s = smx s0 ∧ sms s = sms s0) ∧ Vd s ∧ Old s0 s ∧ sn s0 = a ∧ sk s a = (1, 0) ∧ ∀ j, j < i → sr s a j = some (a + 1 + j) ∧ sk s (a + 1 + j) = (100, rl j)
def PN (s0 s : St) (a i m : Nat) : Prop := sn s = a + 1 + i + 1 ∧ ss s = ss s0 + m ∧ (smx s = smx s0 ∧ sms s = sms s0) ∧ Vd s ∧ Old s0 s ∧ sn s0 = a ∧ sk s a = (1, 0) ∧ (∀ j, j < i → sr s a j = some (a + 1 + j) ∧ sk s (a + 1 + j) = (100, rl j)) ∧ sk s (a + 1 + i) = (100, rl i)
theorem Old.tr {s s1 s2 : St} (h : Old s s1) (hn : sn s ≤ sn s1) (g : Old s1 s2) : Old s s2 := fun b hb => by
  have p := h b hb
  have q := g b (by omega)
  exact ⟨q.1.trans p.1, q.2.1.trans p.2.1, q.2.2.1.trans p.2.2.1, q.2.2.2.trans p.2.2.2⟩
theorem PI.new {s0 s : St} {a i m n : Nat} (h : PI s0 s a i m) (hn : n = rl i) : PN s0 (newO s (100, n) n) a i (m + n) := by
  obtain ⟨h1, h2, h3, h4, h5, h6, h7, h8⟩ := h
  refine ⟨by rw [nO_n, h1], by rw [nO_s, h2]; omega, h3, h4.new, h5.tr (by omega) Old.new, h6, by rw [nO_k, if_neg (by omega)]; exact h7, fun j hj => ⟨by rw [nO_r, if_neg (by omega)]; exact (h8 j hj).1, by rw [nO_k, if_neg (by omega)]; exact (h8 j hj).2⟩, by rw [nO_k, if_pos (by omega), hn]⟩
theorem PN.set {s0 s : St} {a i m x k : Nat} {v : Int32} (h : PN s0 s a i m) (hx : a ≤ x) : PN s0 (setI s x k v) a i m := by
  obtain ⟨h1, h2, h3, h4, h5, h6, h7, h8, h9⟩ := h
  refine ⟨h1, h2, h3, h4, fun b hb => ?_, h6, h7, h8, h9⟩
  have p := h5 b hb
  refine ⟨p.1, ?_, p.2.2.1, p.2.2.2⟩
  rw [← p.2.1]
  funext j
  rw [si_set, if_neg (by omega)]
theorem PN.fin {s0 s : St} {a i m : Nat} {o : Option Nat} (h : PN s0 s a i m) (ho : o = some (a + 1 + i)) : PI s0 (setR s a i o) a (i + 1) m := by
  obtain ⟨h1, h2, h3, h4, h5, h6, h7, h8, h9⟩ := h
  refine ⟨by show sn s = _; omega, h2, h3, h4, fun b hb => ?_, h6, h7, fun j hj => ?_⟩
  · have p := h5 b hb
    refine ⟨p.1, p.2.1, p.2.2.1, ?_⟩
    rw [← p.2.2.2]
    funext j
    rw [sR_r, if_neg (by omega)]
  · rw [sR_r, if_pos rfl]
    by_cases e : j = i
    · rw [if_pos e, ho, e]
      exact ⟨rfl, h9⟩
    · rw [if_neg e]
      exact h8 j (by omega)
theorem PI.kd {s0 s : St} {a i m : Nat} (h : PI s0 s a i m) : (sk s a).1 = 1 := by rw [h.2.2.2.2.2.2.1]
theorem PN.kd {s0 s : St} {a i m : Nat} (h : PN s0 s a i m) : (sk s a).1 = 1 := by rw [h.2.2.2.2.2.2.1]
theorem PI.ok {s0 s : St} {a i m n : Nat} (h : PI s0 s a i m) (h1 : sn s0 + 2 + i ≤ smx s0) (h2 : ss s0 + m + n ≤ sms s0) : okN s n = true := okN_t (by rw [h.2.2.1.1, h.1]; have := h.2.2.2.2.2.1; omega) (by rw [h.2.2.1.2, h.2.1]; exact h2)
theorem in_arr {s0 s : St} {a i m n : Nat} (h : PI s0 s a i m) (hn : n = rl i) (h1 : sn s0 + 2 + i ≤ smx s0) (h2 : ss s0 + m + n ≤ sms s0) : ∃ s', PI s0 s' a (i + 1) (m + n) ∧ ∀ (g : St → Option (Unit × St)), (gd (okN s n) <| nam (newO s (100, n) n) fun s2 => gd (isK s2 a 1) <| nam (setR s2 a i (some (sn s))) g) = g s' :=
  ⟨setR (newO s (100, n) n) a i (some (sn s)), (h.new hn).fin (by rw [h.1]), fun g => by
    rw [gd_ok (h.ok h1 h2), nam_v, isK_g (h.new hn).kd, nam_v]⟩
theorem PN.kt {s0 t : St} {a i m n : Nat} (h : PN s0 t a i m) (hn : a + 1 + i = n) : sk t n = (100, rl i) := by
  rw [← hn]
  exact h.2.2.2.2.2.2.2.2
theorem in_set {s0 t : St} {a m n : Nat} (h : PN s0 t a 5 m) (hn : a + 1 + 5 = n) (k : Int) (v : Int32) (hk : 0 ≤ k ∧ k < 9) : ∃ t', PN s0 t' a 5 m ∧ ∀ (g : St → Option (Unit × St)), (gd (isK t n 100) <| gd (inb (iI k) (sk t n).2) <| nam (setI t n (iI k).toNatClampNeg v) g) = g t' :=
  ⟨setI t n k.toNat v, h.set (by omega), fun g => by
    have e : sk t n = (100, 9) := h.kt hn
    rw [isK_g (by rw [e]), e, inb_g (by omega), nam_v, iI_nat (by omega)]⟩
theorem in_terms {s0 s : St} {a m : Nat} (h : PI s0 s a 5 m) (h1 : sn s0 + 7 ≤ smx s0) (h2 : ss s0 + m + 9 ≤ sms s0) : ∃ s', PI s0 s' a 6 (m + 9) ∧ ∀ (g : St → Option (Unit × St)), (gd (okN s 9) <| nam (newO s (100, 9) 9) fun s32 => gd (isK s32 (sn s) 100) <| gd (inb (0 : Int32) (sk s32 (sn s)).2) <| nam (setI s32 (sn s) (0 : Int32).toNatClampNeg (3 : Int32)) fun s36 => gd (isK s36 (sn s) 100) <| gd (inb (1 : Int32) (sk s36 (sn s)).2) <| nam (setI s36 (sn s) (1 : Int32).toNatClampNeg (0 : Int32)) fun s40 => gd (isK s40 (sn s) 100) <| gd (inb (2 : Int32) (sk s40 (sn s)).2) <| nam (setI s40 (sn s) (2 : Int32).toNatClampNeg (3 : Int32)) fun s44 => gd (isK s44 (sn s) 100) <| gd (inb (3 : Int32) (sk s44 (sn s)).2) <| nam (setI s44 (sn s) (3 : Int32).toNatClampNeg (3 : Int32)) fun s48 => gd (isK s48 (sn s) 100) <| gd (inb (4 : Int32) (sk s48 (sn s)).2) <| nam (setI s48 (sn s) (4 : Int32).toNatClampNeg (2 : Int32)) fun s52 => gd (isK s52 (sn s) 100) <| gd (inb (5 : Int32) (sk s52 (sn s)).2) <| nam (setI s52 (sn s) (5 : Int32).toNatClampNeg (0 : Int32)) fun s56 => gd (isK s56 (sn s) 100) <| gd (inb (6 : Int32) (sk s56 (sn s)).2) <| nam (setI s56 (sn s) (6 : Int32).toNatClampNeg (-1 : Int32)) fun s60 => gd (isK s60 (sn s) 100) <| gd (inb (7 : Int32) (sk s60 (sn s)).2) <| nam (setI s60 (sn s) (7 : Int32).toNatClampNeg (9 : Int32)) fun s64 => gd (isK s64 (sn s) 100) <| gd (inb (8 : Int32) (sk s64 (sn s)).2) <| nam (setI s64 (sn s) (8 : Int32).toNatClampNeg (0 : Int32)) fun s68 => gd (isK s68 a 1) <| nam (setR s68 a 5 (some (sn s))) g) = g s' := by
  have hn : a + 1 + 5 = sn s := h.1.symm
  obtain ⟨t0, ht0⟩ : ∃ t, t = newO s (100, 9) 9 := ⟨_, rfl⟩
  have p0 : PN s0 t0 a 5 (m + 9) := by rw [ht0]; exact h.new rfl
  obtain ⟨t1, p1, e1⟩ := in_set p0 hn 0 3 (by omega)
  obtain ⟨t2, p2, e2⟩ := in_set p1 hn 1 0 (by omega)
  obtain ⟨t3, p3, e3⟩ := in_set p2 hn 2 3 (by omega)
  obtain ⟨t4, p4, e4⟩ := in_set p3 hn 3 3 (by omega)
  obtain ⟨t5, p5, e5⟩ := in_set p4 hn 4 2 (by omega)
  obtain ⟨t6, p6, e6⟩ := in_set p5 hn 5 0 (by omega)
  obtain ⟨t7, p7, e7⟩ := in_set p6 hn 6 (-1) (by omega)
  obtain ⟨t8, p8, e8⟩ := in_set p7 hn 7 9 (by omega)
  obtain ⟨t9, p9, e9⟩ := in_set p8 hn 8 0 (by omega)
  refine ⟨setR t9 a 5 (some (sn s)), p9.fin (by rw [hn]), fun g => ?_⟩
  rw [gd_ok (h.ok (by omega) (by omega)), nam_v, ← ht0]
  refine (e1 _).trans ?_
  refine (e2 _).trans ?_
  refine (e3 _).trans ?_
  refine (e4 _).trans ?_
  refine (e5 _).trans ?_
  refine (e6 _).trans ?_
  refine (e7 _).trans ?_
  refine (e8 _).trans ?_
  refine (e9 _).trans ?_
  rw [isK_g p9.kd, nam_v]
/-- a list is made -/
theorem e_J2_init {s : St} {l : Nat} (hk : (sk s l).1 = 18) (hl : l < sn s) (h1 : sn s < smx s) (h2 : ss s + 2 ≤ sms s) : F_J2_init s l 2 = some ((), setR (newO (setI s l 0 0) (104, 2) 2) l 1 (some (sn s))) := by
  unfold F_J2_init F_J1_init F_J0_init
  rw [bnd_s, isK_g hk, nam_v, bnd_s, k_2, k_0, if_neg (by rw [iI_le (by omega) (by omega)]; omega), gd_ok (okL_t (by omega)), iI_nat (by omega), show (2 : Int).toNat = 2 from rfl, gd_ok (okN_t (s := setI s l 0 (iI 0)) h1 h2), nam_v, isK_g (show (sk (newO (setI s l 0 (iI 0)) (104, 2) 2) l).1 = 18 by rw [nO_k, if_neg (by show l ≠ sn s; omega)]; exact hk), nam_v]
  rfl
theorem e_X1_init {s0 s : St} {a : Nat} (h : PI s0 s a 0 11) (hm1 : sn s0 + 10 ≤ smx s0) (hm2 : ss s0 + 63 ≤ sms s0) : ∃ s', F_X1_init s a = some ((), s') ∧ SkT s' a (fun j => a + 1 + j) (a + 8) ∧ (∀ f, LstE s' (a + 8) (a + 9) 2 0 f) ∧ Tl s' (a + 8) 0 ∧ Vd s' ∧ Old s0 s' ∧ (sn s' = a + 10 ∧ ss s' = ss s0 + 63 ∧ smx s' = smx s0 ∧ sms s' = sms s0) := by
  obtain ⟨s1, p1, e1⟩ := in_arr h (n := 6) rfl (by omega) (by omega)
  obtain ⟨s2, p2, e2⟩ := in_arr p1 (n := 6) rfl (by omega) (by omega)
  obtain ⟨s3, p3, e3⟩ := in_arr p2 (n := 6) rfl (by omega) (by omega)
  obtain ⟨s4, p4, e4⟩ := in_arr p3 (n := 6) rfl (by omega) (by omega)
  obtain ⟨s5, p5, e5⟩ := in_arr p4 (n := 6) rfl (by omega) (by omega)
  obtain ⟨s6, p6, e6⟩ := in_terms p5 (by omega) (by omega)
  obtain ⟨s7, p7, e7⟩ := in_arr p6 (n := 8) rfl (by omega) (by omega)
  obtain ⟨q1, q2, q3, q4, q5, q6, q7, q8⟩ := p7
  have n7 : sn s7 = a + 8 := by omega
  obtain ⟨t7, ht7⟩ : ∃ t, t = newO s7 (18, 0) 3 := ⟨_, rfl⟩
  have kl : (sk t7 (a + 8)).1 = 18 := by rw [ht7, nO_k, if_pos (by omega)]
  have nt : sn t7 = a + 9 := by rw [ht7]; show sn s7 + 1 = _; omega
  have mt : ss t7 = ss s0 + 61 ∧ smx t7 = smx s0 ∧ sms t7 = sms s0 := by rw [ht7]; exact ⟨by show ss s7 + 3 = _; omega, q3.1, q3.2⟩
  have eJ := e_J2_init kl (by omega) (by omega) (by omega)
  obtain ⟨s8, hs8⟩ : ∃ s8, s8 = newO (setI t7 (a + 8) 0 0) (104, 2) 2 := ⟨_, rfl⟩
  have n8 : sn (setI t7 (a + 8) 0 0) = a + 9 := nt
  have k8 : ∀ x, sk s8 x = if x = a + 9 then (104, 2) else if x = a + 8 then (18, 0) else sk s7 x := fun x => by
    rw [hs8, nO_k, n8]
    show (if x = a + 9 then _ else sk t7 x) = _
    rw [ht7, nO_k, n7]
  have r8 : ∀ x, sr s8 x = if x = a + 9 then (fun _ => none) else if x = a + 8 then (fun _ => none) else sr s7 x := fun x => by
    rw [hs8, nO_r, n8]
    show (if x = a + 9 then _ else sr t7 x) = _
    rw [ht7, nO_r, n7]
  have i8 : ∀ x, x < a + 8 → si s8 x = si s7 x := fun x hx => by
    rw [hs8, nO_i, n8, if_neg (by omega)]
    funext k
    rw [si_set, if_neg (by omega), ht7, nO_i, n7, if_neg (by omega)]
  have il8 : si s8 (a + 8) 2 = 0 := by
    rw [hs8, nO_i, n8, if_neg (by omega), si_set, if_pos rfl, if_neg (by decide), ht7, nO_i, n7, if_pos rfl]
  have l8 : ∀ x, x < a + 8 → sl s8 x = sl s7 x := fun x hx => by
    rw [hs8, nO_l, n8, if_neg (by omega)]
    show sl t7 x = _
    rw [ht7, nO_l, n7, if_neg (by omega)]
  have m8 : sn s8 = a + 10 ∧ ss s8 = ss s0 + 63 ∧ smx s8 = smx s0 ∧ sms s8 = sms s0 := by
    rw [hs8]
    exact ⟨by show sn t7 + 1 = _; omega, by show ss t7 + 2 = _; omega, mt.2.1, mt.2.2⟩
  have v8 : Vd s8 := by
    rw [hs8]
    refine Vd.new (s := setI t7 (a + 8) 0 0) ?_
    have : Vd t7 := by rw [ht7]; exact Vd.new q4
    exact this
  obtain ⟨s9, hs9⟩ : ∃ s9, s9 = setI (setR (setR s8 (a + 8) 1 (some (a + 9))) a 7 (some (a + 8))) a 10 (-1) := ⟨_, rfl⟩
  have k9 : sk s9 = sk s8 := by rw [hs9]; rfl
  have r9 : ∀ x k, sr s9 x k = if x = a then (if k = 7 then some (a + 8) else sr s8 x k) else if x = a + 8 then (if k = 1 then some (a + 9) else sr s8 x k) else sr s8 x k := fun x k => by
    rw [hs9]
    show sr (setR (setR s8 (a + 8) 1 (some (a + 9))) a 7 (some (a + 8))) x k = _
    rw [sR_r]
    by_cases h1 : x = a
    · rw [if_pos h1, if_pos h1]
      by_cases hk : k = 7
      · rw [if_pos hk, if_pos hk]
      · rw [if_neg hk, if_neg hk, sR_r, if_neg (by omega)]
    · rw [if_neg h1, if_neg h1, sR_r]
  have i9 : ∀ x, x ≠ a → si s9 x = si s8 x := fun x hx => by
    rw [hs9]
    funext k
    rw [si_set, if_neg hx]
    rfl
  have m9 : sn s9 = a + 10 ∧ ss s9 = ss s0 + 63 ∧ smx s9 = smx s0 ∧ sms s9 = sms s0 := by rw [hs9]; exact m8
  refine ⟨s9, ?_, ⟨by rw [k9, k8, if_neg (by omega), if_neg (by omega), q7], fun j hj => ⟨?_, ?_⟩, ?_⟩, fun f => ⟨by rw [k9, k8, if_neg (by omega), if_pos rfl], ?_, by rw [k9, k8, if_pos rfl], by omega, by omega, ?_, fun i hi => by omega⟩, fun b hb => ?_, by unfold Vd; rw [k9, m9.1, ← m8.1]; exact v8, fun x hx => ?_, m9⟩
  · unfold F_X1_init
    refine (e1 _).trans ?_
    refine (e2 _).trans ?_
    refine (e3 _).trans ?_
    refine (e4 _).trans ?_
    refine (e5 _).trans ?_
    refine (e6 _).trans ?_
    refine (e7 _).trans ?_
    rw [gd_ok (okN_t (by omega) (by omega)), nam_v, ← ht7, n7, eJ, bnd_s, nt, ← hs8]
    rw [isK_3, isK_g (by rw [k8, if_neg (by omega), if_neg (by omega), q7]), nam_v, isK_3, isK_3, isK_g (by rw [k8, if_neg (by omega), if_neg (by omega), q7]), nam_v, hs9]
  · rw [r9, if_pos rfl, if_neg (by omega), r8, if_neg (by omega), if_neg (by omega)]
    exact (q8 j hj).1
  · show sk s9 (a + 1 + j) = _
    rw [k9, k8, if_neg (by omega), if_neg (by omega)]
    exact (q8 j hj).2
  · rw [r9, if_pos rfl, if_pos rfl]
  · rw [r9, if_neg (by omega), if_pos rfl, if_pos rfl]
  · rw [i9 _ (by omega), il8]
    rfl
  · rw [r9, if_neg (by omega), if_pos rfl, if_pos rfl] at hb
    cases hb
    rw [k9, k8, if_pos rfl]
    refine ⟨by decide, fun i _ _ => ?_⟩
    rw [r9, if_neg (by omega), if_neg (by omega), r8, if_pos rfl]
  · have o := q5 x hx
    refine ⟨by rw [k9, k8, if_neg (by omega), if_neg (by omega)]; exact o.1, by rw [i9 x (by omega), i8 x (by omega)]; exact o.2.1, ?_, ?_⟩
    · rw [hs9]
      show sl s8 x = _
      rw [l8 x (by omega)]
      exact o.2.2.1
    · rw [← o.2.2.2]
      funext k
      rw [r9, if_neg (by omega), if_neg (by omega), r8, if_neg (by omega), if_neg (by omega)]
