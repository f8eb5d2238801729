set_option maxRecDepth 100000
/-! ===== the component's world: values' cell 22, what stays, sums and tests that lie in the heap ===== -/
theorem gd_ok {α : Type} {b : Bool} {x : Option α} (h : b = true) : gd b x = x := by rw [h]; rfl
theorem inb_g {α : Type} {a : Int} {n : Nat} {x : Option α} (h : 0 ≤ a ∧ a < n ∧ a ≤ 2147483647) : gd (inb (iI a) n) x = x := gd_ok (inb_t ⟨h.1, h.2.1⟩ h.2.2)
theorem fits_b {α : Type} {p : Prop} {x : Option α} : gd (fits .boolean (.int (iI (bZ p)))) x = x := gd_ok (fits_z (bZ_01 p))
theorem isK_g {α : Type} {s : St} {a t : Nat} {x : Option α} (h : (sk s a).1 = t) : gd (isK s a t) x = x := gd_ok (by unfold isK; rw [h]; exact Nat.beq_refl t)
theorem isK_b {s : St} {a t : Nat} (h : (sk s a).1 = t) : isK s a t = true := by unfold isK; rw [h]; exact Nat.beq_refl t
theorem isK_n {s : St} {a t u : Nat} (h : (sk s a).1 = t) (n : t ≠ u) : isK s a u = false := by
  unfold isK
  rw [h]
  cases hb : Nat.beq t u
  · rfl
  · exact absurd (Nat.eq_of_beq_eq_true hb) n
theorem nam_v {α β : Type} {a : α} {f : α → β} : nam a f = f a := rfl
def same (s s' : St) (b : Nat) : Prop := sk s' b = sk s b ∧ si s' b = si s b ∧ sl s' b = sl s b ∧ sr s' b = sr s b
/-- the cells of D are as they were -/
def Kp (D : Nat → Prop) (s s' : St) : Prop := ∀ b, D b → same s s' b
theorem Kp.rf {D : Nat → Prop} {s : St} : Kp D s s := fun _ _ => ⟨rfl, rfl, rfl, rfl⟩
theorem same.tr {s s1 s2 : St} {b : Nat} (h : same s s1 b) (g : same s1 s2 b) : same s s2 b := ⟨g.1.trans h.1, g.2.1.trans h.2.1, g.2.2.1.trans h.2.2.1, g.2.2.2.trans h.2.2.2⟩
theorem Kp.tr {D : Nat → Prop} {s s1 s2 : St} (h : Kp D s s1) (g : Kp D s1 s2) : Kp D s s2 := fun b hb => (h b hb).tr (g b hb)
theorem Kp.le {D D' : Nat → Prop} {s s' : St} (h : Kp D s s') (hD : ∀ b, D' b → D b) : Kp D' s s' := fun b hb => h b (hD b hb)
/-- the values' cell anew -/
def wV (s : St) (f : Nat → Int64) : St := (sk s, si s, fun b => if b = 22 then f else sl s b, sr s, sn s, ss s, smx s, sms s)
def up1 {α : Type} (f : Nat → α) (k : Nat) (v : α) : Nat → α := fun j => if j = k then v else f j
theorem setL_22 {s : St} {k : Nat} {v : Int64} : setL s 22 k v = wV s (up1 (sl s 22) k v) := by
  unfold setL wV up2 up1
  congr 3
  funext b j
  by_cases h : b = 22
  · subst h; simp
  · simp [h]
theorem wV_wV {s : St} {f g : Nat → Int64} : wV (wV s f) g = wV s g := by
  unfold wV
  refine congrArg (fun z => (sk s, si s, z, sr s, sn s, ss s, smx s, sms s)) ?_
  funext b
  show (if b = 22 then g else (if b = 22 then f else sl s b)) = _
  split <;> rfl
theorem wV_l {s : St} {f : Nat → Int64} : sl (wV s f) 22 = f := rfl
theorem wV_i {s : St} {f : Nat → Int64} : si (wV s f) = si s := rfl
theorem wV_r {s : St} {f : Nat → Int64} : sr (wV s f) = sr s := rfl
theorem wV_k {s : St} {f : Nat → Int64} : sk (wV s f) = sk s := rfl
theorem wV_same {s : St} : wV s (sl s 22) = s := by
  unfold wV
  show _ = (sk s, si s, sl s, sr s, sn s, ss s, smx s, sms s)
  refine congrArg (fun z => (sk s, si s, z, sr s, sn s, ss s, smx s, sms s)) ?_
  funext b
  split
  · rename_i h; rw [h]
  · rfl
theorem SkC.same {s s' : St} (h : SkC s) (hk : sk s' = sk s) (hr : sr s' = sr s) : SkC s' := ⟨fun a ha => by rw [hk]; exact h.1 a ha, fun q hq => by rw [hr]; exact h.2 q hq⟩
theorem SkC.wV {s : St} {f : Nat → Int64} (h : SkC s) : SkC (wV s f) := h.same rfl rfl
theorem SkC.ref {s : St} (h : SkC s) (i : Nat) {a k b : Nat} (hq : rC[i]? = some (a, k, b)) : sr s a k = some b := h.2 (a, k, b) (List.mem_of_getElem? hq)
theorem gp_SkC {α : Type} {s : St} {x : Option α} (h : SkC s) : gp (SkC s) x = x := gp_t h
/-! sums -/
abbrev DS : Type := (Nat → Int) → Option Int
abbrev DT : Type := (Nat → Int) → Option Bool
def vok (v : Nat → Int) : Prop := ∀ k, -1000000000 ≤ v k ∧ v k ≤ 1000000000
def VOK (s : St) (v : Nat → Int) : Prop := vok v ∧ ∀ k, k < 15 → sl s 22 k = lI (v k)
def dok (f : DS) : Prop := ∀ v, vok v → ∀ z, f v = some z → -1000000000 ≤ z ∧ z ≤ 1000000000
def rS : Option Int → Int64 ⊕ Nat
  | some z => .inl (lI z)
  | none => .inr 21
def rT : Option Bool → Int32 ⊕ Nat
  | some true => .inl (iI 1)
  | some false => .inl (iI 0)
  | none => .inr 21
def SumE (s : St) (a d : Nat) (f : DS) : Prop := ∀ n, d ≤ n → ∀ v, VOK s v → F_sumD n s a (some 20) = some (rS (f v), s)
def TestE (s : St) (a d : Nat) (f : DT) : Prop := ∀ n, d ≤ n → ∀ v, VOK s v → F_testD n s a (some 20) = some (rT (f v), s)
def lim (v : Int) : Option Int := if 1000000000 < v ∨ v < -1000000000 then none else some v
theorem lim_r {v z : Int} (h : lim v = some z) : v = z ∧ -1000000000 ≤ z ∧ z ≤ 1000000000 := by
  unfold lim at h
  split at h
  · cases h
  · have := Option.some.inj h
    omega
def opV (g a b : Int) : Int := if g = 43 then a + b else if g = 45 then a - b else if g = 42 then a * b else if g = 47 then a.tdiv b else a.tmod b
def opZ (g : Int) (a b : Int) : Option Int := if (g = 47 ∨ g = 37) ∧ b = 0 then none else lim (opV g a b)
def dNum (z : Int) : DS := fun _ => some z
def dVal (k : Nat) : DS := fun v => some (v k)
def dTwo (g : Int) (f1 f2 : DS) : DS := fun v => match f1 v, f2 v with
  | some a, some b => opZ g a b
  | _, _ => none
theorem dok_num {z : Int} (h : 0 ≤ z ∧ z ≤ 1000) : dok (dNum z) := fun v _ y e => by
  cases e
  omega
theorem dok_val {k : Nat} : dok (dVal k) := fun v h y e => by
  cases e
  exact h k
theorem dok_two {g : Int} {f1 f2 : DS} : dok (dTwo g f1 f2) := fun v h y e => by
  unfold dTwo at e
  split at e
  · unfold opZ at e
    split at e
    · cases e
    · exact (lim_r e).2
  · cases e
theorem SumE.num {s : St} {a : Nat} {z : Int} (hk : (sk s a).1 = 9) (hi : si s a 0 = iI z) (hz : 0 ≤ z ∧ z ≤ 1000) : SumE s a 1 (dNum z) := by
  intro n hn v hv
  obtain ⟨m, rfl⟩ : ∃ m, n = m + 1 := ⟨n - 1, by omega⟩
  simp only [F_sumD]
  rw [if_pos (isK_b hk), F_X11_of, isK_g hk, hi, iI_l (by omega)]
  rfl
theorem SkC.set {s : St} (h : SkC s) : sk s 20 = (2, 0) ∧ sk s 21 = (3, 0) ∧ sk s 22 = (101, 15) ∧ sr s 20 0 = some 21 ∧ sr s 20 1 = some 22 := ⟨h.1 20 (by decide), h.1 21 (by decide), h.1 22 (by decide), h.ref 25 rfl, h.ref 26 rfl⟩
theorem SumE.val {s : St} {a : Nat} {k : Nat} (hS : SkC s) (hk : (sk s a).1 = 10) (hi : si s a 0 = iI k) (hz : k < 15) : SumE s a 1 (dVal k) := by
  intro n hn v hv
  obtain ⟨m, rfl⟩ : ∃ m, n = m + 1 := ⟨n - 1, by omega⟩
  obtain ⟨q1, q2, q3, q4, q5⟩ := hS.set
  simp only [F_sumD]
  rw [if_neg (by rw [isK_n hk (by decide)]; decide), if_pos (isK_b hk), F_X12_of, drf_s, isK_g (by rw [q1]), isK_g hk, q5, drf_s, isK_g (by rw [q3]), hi, q3, inb_g (by omega), iI_nat (by omega), Int.toNat_natCast, hv.2 k hz]
  rfl
theorem bnx_il {α β : Type} {a : α} {s : St} {f : α → St → Option β} {g : Nat → St → Option β} : bnx (some (.inl a, s)) g f = f a s := rfl
theorem bnx_ir {α β : Type} {a : Nat} {s : St} {f : α → St → Option β} {g : Nat → St → Option β} : bnx (some (.inr a, s)) g f = g a s := rfl
theorem mul_rng {a b : Int} (ha : -1000000000 ≤ a ∧ a ≤ 1000000000) (hb : -1000000000 ≤ b ∧ b ≤ 1000000000) : -1000000000000000000 ≤ a * b ∧ a * b ≤ 1000000000000000000 := by
  have h1 : (a * b).natAbs = a.natAbs * b.natAbs := Int.natAbs_mul a b
  have h2 : a.natAbs * b.natAbs ≤ 1000000000 * 1000000000 := Nat.mul_le_mul (by omega) (by omega)
  omega
/-- what the sign makes of two numbers, with the limits' test -/
theorem e_X13_lim {r : St → Nat → Option Nat → Option ((Int64 ⊕ Nat) × St)} {s : St} {z : Int} (hS : SkC s) (hz : -2000000000000000000 ≤ z ∧ z ≤ 2000000000000000000) : F_X13_of_117 r s (some 20) (lI z) = some (rS (lim z), s) := by
  obtain ⟨q1, q2, q3, q4, q5⟩ := hS.set
  unfold F_X13_of_117 F_X13_of_137 lim
  rw [drf_s, isK_g (by rw [q1]), q4, drf_s, isK_g (by rw [q2])]
  simp (disch := omega) only [K_0, K_1, K_m1, K_2, K_m2, K_3, K_m3, K_4, K_m4, K_5, K_m5, K_6, K_m6, K_7, K_m7, K_8, K_m8, K_9, K_m9, K_10, K_11, K_12, K_13, K_14, K_15, K_16, K_17, K_18, K_19, K_20, K_21, K_22, K_23, K_24, K_25, K_26, K_27, K_28, K_29, K_30, K_31, K_32, K_33, K_34, K_35, K_36, K_37, K_38, K_39, K_40, K_41, K_42, K_43, K_44, K_45, K_46, K_47, K_48, K_49, K_50, K_51, K_52, K_53, K_54, K_55, K_56, K_57, K_58, K_59, K_60, K_61, K_62, K_63, K_64, K_96, K_100, K_152, K_153, K_239, K_294, K_498, K_1000, K_1103, K_1476, K_6000, K_6194, K_12345, K_14836, K_67155, K_103820, K_146885, K_271592, K_441828, K_611944, K_631941, K_656780, K_755156, K_758931, K_769604, K_1000000, K_1000003, K_6801509, K_7939603, K_20325907, K_21279923, K_72754342, K_102407444, K_626630820, K_m1000000000, K_1000000000, K_2328139461, K_3275858098, K_m4000000000, K_104827459155, lI_add, lI_sub, lI_mul, lI_neg, lI_lt, lI_le, lI_eq, iI_l, lI_i]
  by_cases h1 : 1000000000 < z
  · rw [if_pos h1, if_pos (Or.inl h1)]; rfl
  · rw [if_neg h1]
    by_cases h2 : -1000000000 ≤ z
    · rw [if_pos h2, if_neg (by omega)]; rfl
    · rw [if_neg h2, if_pos (by omega)]; rfl
theorem tmod_rng {a b M : Int} (hM : 0 ≤ M) (h1 : -M ≤ a) (h2 : a ≤ M) : -M ≤ a.tmod b ∧ a.tmod b ≤ M := by
  have h : (a.tmod b).natAbs = a.natAbs % b.natAbs := Int.natAbs_tmod a b
  have h3 := Nat.mod_le a.natAbs b.natAbs
  omega
theorem e_X13_49 {r : St → Nat → Option Nat → Option ((Int64 ⊕ Nat) × St)} {s : St} {a : Nat} {g x y : Int} (hS : SkC s) (hk : (sk s a).1 = 11) (hi : si s a 0 = iI g) (hg : g = 43 ∨ g = 45 ∨ g = 42 ∨ g = 47 ∨ g = 37) (hx : -1000000000 ≤ x ∧ x ≤ 1000000000) (hy : -1000000000 ≤ y ∧ y ≤ 1000000000) (h0 : (g = 47 ∨ g = 37) → y ≠ 0) : F_X13_of_49 r s (some a) (some 20) (lI x) (lI y) = some (rS (lim (opV g x y)), s) := by
  have h1 := mul_rng hx hy
  have h2 := tdiv_rng (a := x) (b := y) (M := 1000000000) (by omega) hx.1 hx.2
  have h3 := tmod_rng (a := x) (b := y) (M := 1000000000) (by omega) hx.1 hx.2
  unfold F_X13_of_49 opV
  simp (disch := first | assumption | omega) only [drf_s, isK_g, hi]
  rcases hg with rfl | rfl | rfl | rfl | rfl
  · simp (disch := omega) only [k_0, k_1, k_m1, k_2, k_m2, k_3, k_m3, k_4, k_m4, k_5, k_m5, k_6, k_m6, k_7, k_m7, k_8, k_m8, k_9, k_m9, k_10, k_11, k_12, k_13, k_14, k_15, k_16, k_17, k_18, k_19, k_20, k_21, k_22, k_23, k_24, k_25, k_26, k_27, k_28, k_29, k_30, k_31, k_32, k_33, k_34, k_35, k_36, k_37, k_38, k_39, k_40, k_41, k_42, k_43, k_44, k_45, k_46, k_47, k_48, k_49, k_50, k_51, k_52, k_53, k_54, k_55, k_56, k_57, k_58, k_59, k_60, k_61, k_62, k_63, k_64, k_90, k_91, k_93, k_96, k_97, k_98, k_99, k_100, k_102, k_108, k_122, k_255, k_400, k_900, k_m1000, k_1000, k_5460, k_1000000, k_2147483639, iI_add, iI_sub, iI_mul, iI_neg, iI_lt, iI_le, iI_eq, iI_nat, bZ_i0, bZ_i1, K_0, K_1, K_m1, K_2, K_m2, K_3, K_m3, K_4, K_m4, K_5, K_m5, K_6, K_m6, K_7, K_m7, K_8, K_m8, K_9, K_m9, K_10, K_11, K_12, K_13, K_14, K_15, K_16, K_17, K_18, K_19, K_20, K_21, K_22, K_23, K_24, K_25, K_26, K_27, K_28, K_29, K_30, K_31, K_32, K_33, K_34, K_35, K_36, K_37, K_38, K_39, K_40, K_41, K_42, K_43, K_44, K_45, K_46, K_47, K_48, K_49, K_50, K_51, K_52, K_53, K_54, K_55, K_56, K_57, K_58, K_59, K_60, K_61, K_62, K_63, K_64, K_96, K_100, K_152, K_153, K_239, K_294, K_498, K_1000, K_1103, K_1476, K_6000, K_6194, K_12345, K_14836, K_67155, K_103820, K_146885, K_271592, K_441828, K_611944, K_631941, K_656780, K_755156, K_758931, K_769604, K_1000000, K_1000003, K_6801509, K_7939603, K_20325907, K_21279923, K_72754342, K_102407444, K_626630820, K_m1000000000, K_1000000000, K_2328139461, K_3275858098, K_m4000000000, K_104827459155, lI_add, lI_sub, lI_mul, lI_neg, lI_lt, lI_le, lI_eq, iI_l, lI_i, e_X13_lim hS]; simp
  · simp (disch := omega) only [k_0, k_1, k_m1, k_2, k_m2, k_3, k_m3, k_4, k_m4, k_5, k_m5, k_6, k_m6, k_7, k_m7, k_8, k_m8, k_9, k_m9, k_10, k_11, k_12, k_13, k_14, k_15, k_16, k_17, k_18, k_19, k_20, k_21, k_22, k_23, k_24, k_25, k_26, k_27, k_28, k_29, k_30, k_31, k_32, k_33, k_34, k_35, k_36, k_37, k_38, k_39, k_40, k_41, k_42, k_43, k_44, k_45, k_46, k_47, k_48, k_49, k_50, k_51, k_52, k_53, k_54, k_55, k_56, k_57, k_58, k_59, k_60, k_61, k_62, k_63, k_64, k_90, k_91, k_93, k_96, k_97, k_98, k_99, k_100, k_102, k_108, k_122, k_255, k_400, k_900, k_m1000, k_1000, k_5460, k_1000000, k_2147483639, iI_add, iI_sub, iI_mul, iI_neg, iI_lt, iI_le, iI_eq, iI_nat, bZ_i0, bZ_i1, K_0, K_1, K_m1, K_2, K_m2, K_3, K_m3, K_4, K_m4, K_5, K_m5, K_6, K_m6, K_7, K_m7, K_8, K_m8, K_9, K_m9, K_10, K_11, K_12, K_13, K_14, K_15, K_16, K_17, K_18, K_19, K_20, K_21, K_22, K_23, K_24, K_25, K_26, K_27, K_28, K_29, K_30, K_31, K_32, K_33, K_34, K_35, K_36, K_37, K_38, K_39, K_40, K_41, K_42, K_43, K_44, K_45, K_46, K_47, K_48, K_49, K_50, K_51, K_52, K_53, K_54, K_55, K_56, K_57, K_58, K_59, K_60, K_61, K_62, K_63, K_64, K_96, K_100, K_152, K_153, K_239, K_294, K_498, K_1000, K_1103, K_1476, K_6000, K_6194, K_12345, K_14836, K_67155, K_103820, K_146885, K_271592, K_441828, K_611944, K_631941, K_656780, K_755156, K_758931, K_769604, K_1000000, K_1000003, K_6801509, K_7939603, K_20325907, K_21279923, K_72754342, K_102407444, K_626630820, K_m1000000000, K_1000000000, K_2328139461, K_3275858098, K_m4000000000, K_104827459155, lI_add, lI_sub, lI_mul, lI_neg, lI_lt, lI_le, lI_eq, iI_l, lI_i, e_X13_lim hS]; simp
  · simp (disch := omega) only [k_0, k_1, k_m1, k_2, k_m2, k_3, k_m3, k_4, k_m4, k_5, k_m5, k_6, k_m6, k_7, k_m7, k_8, k_m8, k_9, k_m9, k_10, k_11, k_12, k_13, k_14, k_15, k_16, k_17, k_18, k_19, k_20, k_21, k_22, k_23, k_24, k_25, k_26, k_27, k_28, k_29, k_30, k_31, k_32, k_33, k_34, k_35, k_36, k_37, k_38, k_39, k_40, k_41, k_42, k_43, k_44, k_45, k_46, k_47, k_48, k_49, k_50, k_51, k_52, k_53, k_54, k_55, k_56, k_57, k_58, k_59, k_60, k_61, k_62, k_63, k_64, k_90, k_91, k_93, k_96, k_97, k_98, k_99, k_100, k_102, k_108, k_122, k_255, k_400, k_900, k_m1000, k_1000, k_5460, k_1000000, k_2147483639, iI_add, iI_sub, iI_mul, iI_neg, iI_lt, iI_le, iI_eq, iI_nat, bZ_i0, bZ_i1, K_0, K_1, K_m1, K_2, K_m2, K_3, K_m3, K_4, K_m4, K_5, K_m5, K_6, K_m6, K_7, K_m7, K_8, K_m8, K_9, K_m9, K_10, K_11, K_12, K_13, K_14, K_15, K_16, K_17, K_18, K_19, K_20, K_21, K_22, K_23, K_24, K_25, K_26, K_27, K_28, K_29, K_30, K_31, K_32, K_33, K_34, K_35, K_36, K_37, K_38, K_39, K_40, K_41, K_42, K_43, K_44, K_45, K_46, K_47, K_48, K_49, K_50, K_51, K_52, K_53, K_54, K_55, K_56, K_57, K_58, K_59, K_60, K_61, K_62, K_63, K_64, K_96, K_100, K_152, K_153, K_239, K_294, K_498, K_1000, K_1103, K_1476, K_6000, K_6194, K_12345, K_14836, K_67155, K_103820, K_146885, K_271592, K_441828, K_611944, K_631941, K_656780, K_755156, K_758931, K_769604, K_1000000, K_1000003, K_6801509, K_7939603, K_20325907, K_21279923, K_72754342, K_102407444, K_626630820, K_m1000000000, K_1000000000, K_2328139461, K_3275858098, K_m4000000000, K_104827459155, lI_add, lI_sub, lI_mul, lI_neg, lI_lt, lI_le, lI_eq, iI_l, lI_i, e_X13_lim hS]; simp
  · rw [gd_ok (nzl_t (h0 (Or.inl rfl)) (by omega))]
    simp (disch := omega) only [k_0, k_1, k_m1, k_2, k_m2, k_3, k_m3, k_4, k_m4, k_5, k_m5, k_6, k_m6, k_7, k_m7, k_8, k_m8, k_9, k_m9, k_10, k_11, k_12, k_13, k_14, k_15, k_16, k_17, k_18, k_19, k_20, k_21, k_22, k_23, k_24, k_25, k_26, k_27, k_28, k_29, k_30, k_31, k_32, k_33, k_34, k_35, k_36, k_37, k_38, k_39, k_40, k_41, k_42, k_43, k_44, k_45, k_46, k_47, k_48, k_49, k_50, k_51, k_52, k_53, k_54, k_55, k_56, k_57, k_58, k_59, k_60, k_61, k_62, k_63, k_64, k_90, k_91, k_93, k_96, k_97, k_98, k_99, k_100, k_102, k_108, k_122, k_255, k_400, k_900, k_m1000, k_1000, k_5460, k_1000000, k_2147483639, iI_add, iI_sub, iI_mul, iI_neg, iI_lt, iI_le, iI_eq, iI_nat, bZ_i0, bZ_i1, K_0, K_1, K_m1, K_2, K_m2, K_3, K_m3, K_4, K_m4, K_5, K_m5, K_6, K_m6, K_7, K_m7, K_8, K_m8, K_9, K_m9, K_10, K_11, K_12, K_13, K_14, K_15, K_16, K_17, K_18, K_19, K_20, K_21, K_22, K_23, K_24, K_25, K_26, K_27, K_28, K_29, K_30, K_31, K_32, K_33, K_34, K_35, K_36, K_37, K_38, K_39, K_40, K_41, K_42, K_43, K_44, K_45, K_46, K_47, K_48, K_49, K_50, K_51, K_52, K_53, K_54, K_55, K_56, K_57, K_58, K_59, K_60, K_61, K_62, K_63, K_64, K_96, K_100, K_152, K_153, K_239, K_294, K_498, K_1000, K_1103, K_1476, K_6000, K_6194, K_12345, K_14836, K_67155, K_103820, K_146885, K_271592, K_441828, K_611944, K_631941, K_656780, K_755156, K_758931, K_769604, K_1000000, K_1000003, K_6801509, K_7939603, K_20325907, K_21279923, K_72754342, K_102407444, K_626630820, K_m1000000000, K_1000000000, K_2328139461, K_3275858098, K_m4000000000, K_104827459155, lI_add, lI_sub, lI_mul, lI_neg, lI_lt, lI_le, lI_eq, iI_l, lI_i, lI_div, e_X13_lim hS]; simp
  · rw [gd_ok (nzl_t (h0 (Or.inr rfl)) (by omega))]
    simp (disch := omega) only [k_0, k_1, k_m1, k_2, k_m2, k_3, k_m3, k_4, k_m4, k_5, k_m5, k_6, k_m6, k_7, k_m7, k_8, k_m8, k_9, k_m9, k_10, k_11, k_12, k_13, k_14, k_15, k_16, k_17, k_18, k_19, k_20, k_21, k_22, k_23, k_24, k_25, k_26, k_27, k_28, k_29, k_30, k_31, k_32, k_33, k_34, k_35, k_36, k_37, k_38, k_39, k_40, k_41, k_42, k_43, k_44, k_45, k_46, k_47, k_48, k_49, k_50, k_51, k_52, k_53, k_54, k_55, k_56, k_57, k_58, k_59, k_60, k_61, k_62, k_63, k_64, k_90, k_91, k_93, k_96, k_97, k_98, k_99, k_100, k_102, k_108, k_122, k_255, k_400, k_900, k_m1000, k_1000, k_5460, k_1000000, k_2147483639, iI_add, iI_sub, iI_mul, iI_neg, iI_lt, iI_le, iI_eq, iI_nat, bZ_i0, bZ_i1, lI_rem, e_X13_lim hS]
    rw [gd_ok (nzl_t (h0 (Or.inr rfl)) (by omega))]
    simp
theorem SumE.two {s : St} {a b c d : Nat} {g : Int} {f1 f2 : DS} (hS : SkC s) (hk : (sk s a).1 = 11) (hi : si s a 0 = iI g) (hg : g = 43 ∨ g = 45 ∨ g = 42 ∨ g = 47 ∨ g = 37) (hb : sr s a 1 = some b) (hc : sr s a 2 = some c) (h1 : SumE s b d f1) (h2 : SumE s c d f2) (o1 : dok f1) (o2 : dok f2) : SumE s a (d + 1) (dTwo g f1 f2) := by
  intro n hn v hv
  obtain ⟨m, rfl⟩ : ∃ m, n = m + 1 := ⟨n - 1, by omega⟩
  obtain ⟨q1, q2, q3, q4, q5⟩ := hS.set
  simp only [F_sumD]
  rw [if_neg (by rw [isK_n hk (by decide)]; decide), if_neg (by rw [isK_n hk (by decide)]; decide), if_pos (isK_b hk), F_X13_of, isK_g hk, hb, drf_s, h1 m (by omega) v hv]
  unfold dTwo
  cases e1 : f1 v with
  | none => rfl
  | some x =>
    show bnx (some (.inl (lI x), s)) _ _ = _
    rw [bnx_il, isK_g hk, hc, drf_s, h2 m (by omega) v hv]
    cases e2 : f2 v with
    | none => rfl
    | some y =>
      show bnx (some (.inl (lI y), s)) _ _ = _
      have r1 := o1 v hv.1 x e1
      have r2 := o2 v hv.1 y e2
      rw [bnx_il, isK_g hk, hi]
      unfold F_X13_of_37
      simp (disch := first | assumption | omega) only [k_0, k_1, k_m1, k_2, k_m2, k_3, k_m3, k_4, k_m4, k_5, k_m5, k_6, k_m6, k_7, k_m7, k_8, k_m8, k_9, k_m9, k_10, k_11, k_12, k_13, k_14, k_15, k_16, k_17, k_18, k_19, k_20, k_21, k_22, k_23, k_24, k_25, k_26, k_27, k_28, k_29, k_30, k_31, k_32, k_33, k_34, k_35, k_36, k_37, k_38, k_39, k_40, k_41, k_42, k_43, k_44, k_45, k_46, k_47, k_48, k_49, k_50, k_51, k_52, k_53, k_54, k_55, k_56, k_57, k_58, k_59, k_60, k_61, k_62, k_63, k_64, k_90, k_91, k_93, k_96, k_97, k_98, k_99, k_100, k_102, k_108, k_122, k_255, k_400, k_900, k_m1000, k_1000, k_5460, k_1000000, k_2147483639, iI_add, iI_sub, iI_mul, iI_neg, iI_lt, iI_le, iI_eq, iI_nat, bZ_i0, bZ_i1, K_0, K_1, K_m1, K_2, K_m2, K_3, K_m3, K_4, K_m4, K_5, K_m5, K_6, K_m6, K_7, K_m7, K_8, K_m8, K_9, K_m9, K_10, K_11, K_12, K_13, K_14, K_15, K_16, K_17, K_18, K_19, K_20, K_21, K_22, K_23, K_24, K_25, K_26, K_27, K_28, K_29, K_30, K_31, K_32, K_33, K_34, K_35, K_36, K_37, K_38, K_39, K_40, K_41, K_42, K_43, K_44, K_45, K_46, K_47, K_48, K_49, K_50, K_51, K_52, K_53, K_54, K_55, K_56, K_57, K_58, K_59, K_60, K_61, K_62, K_63, K_64, K_96, K_100, K_152, K_153, K_239, K_294, K_498, K_1000, K_1103, K_1476, K_6000, K_6194, K_12345, K_14836, K_67155, K_103820, K_146885, K_271592, K_441828, K_611944, K_631941, K_656780, K_755156, K_758931, K_769604, K_1000000, K_1000003, K_6801509, K_7939603, K_20325907, K_21279923, K_72754342, K_102407444, K_626630820, K_m1000000000, K_1000000000, K_2328139461, K_3275858098, K_m4000000000, K_104827459155, lI_add, lI_sub, lI_mul, lI_neg, lI_lt, lI_le, lI_eq, iI_l, lI_i, drf_s, isK_g, q4]
      rw [isK_g (by rw [q1]), isK_g (by rw [q2])]
      unfold opZ
      by_cases h7 : (g = 47 ∨ g = 37) ∧ y = 0
      · rw [if_pos h7]
        obtain ⟨h8, rfl⟩ := h7
        rcases h8 with rfl | rfl <;> rfl
      · rw [if_neg h7, e_X13_49 hS hk hi hg r1 r2 (fun z w => h7 ⟨z, w⟩)]
        by_cases h8 : g = 47
        · rw [if_pos h8, if_neg (fun z => h7 ⟨Or.inl h8, z⟩)]
        · rw [if_neg h8]
          by_cases h9 : g = 37
          · rw [if_pos h9, if_neg (fun z => h7 ⟨Or.inr h9, z⟩)]
          · rw [if_neg h9]
/-! tests -/
def cmpZ (g a b : Int) : Bool := if g = 60 then decide (a < b) else if g = 62 then decide (b < a) else decide (a = b)
def dCmp (g : Int) (f1 f2 : DS) : DT := fun v => match f1 v, f2 v with
  | some a, some b => some (cmpZ g a b)
  | _, _ => none
def dNot (f : DT) : DT := fun v => (f v).map fun b => !b
def dSev (all : Bool) : List DT → DT
  | [] => fun _ => some all
  | f :: r => fun v => match f v with
    | none => none
    | some b => if b = all then dSev all r v else some (!all)
theorem dSev_cons {all : Bool} {f : DT} {r : List DT} {v : Nat → Int} : dSev all (f :: r) v = match f v with
    | none => none
    | some b => if b = all then dSev all r v else some (!all) := rfl
theorem TestE.cmp {s : St} {a b c d : Nat} {g : Int} {f1 f2 : DS} (hk : (sk s a).1 = 12) (hi : si s a 0 = iI g) (hg : g = 60 ∨ g = 62 ∨ g = 61) (hb : sr s a 1 = some b) (hc : sr s a 2 = some c) (h1 : SumE s b d f1) (h2 : SumE s c d f2) (hd : d ≤ 64) (o1 : dok f1) (o2 : dok f2) : TestE s a 1 (dCmp g f1 f2) := by
  intro n hn v hv
  obtain ⟨m, rfl⟩ : ∃ m, n = m + 1 := ⟨n - 1, by omega⟩
  simp only [F_testD]
  rw [if_pos (isK_b hk), F_X15_is, isK_g hk, hb, drf_s, h1 64 hd v hv]
  unfold dCmp
  cases e1 : f1 v with
  | none => rfl
  | some x =>
    show bnx (some (.inl (lI x), s)) _ _ = _
    rw [bnx_il, isK_g hk, hc, drf_s, h2 64 hd v hv]
    cases e2 : f2 v with
    | none => rfl
    | some y =>
      show bnx (some (.inl (lI y), s)) _ _ = _
      have r1 := o1 v hv.1 x e1
      have r2 := o2 v hv.1 y e2
      rw [bnx_il, isK_g hk, hi, isK_g hk]
      simp (disch := omega) only [k_0, k_1, k_m1, k_2, k_m2, k_3, k_m3, k_4, k_m4, k_5, k_m5, k_6, k_m6, k_7, k_m7, k_8, k_m8, k_9, k_m9, k_10, k_11, k_12, k_13, k_14, k_15, k_16, k_17, k_18, k_19, k_20, k_21, k_22, k_23, k_24, k_25, k_26, k_27, k_28, k_29, k_30, k_31, k_32, k_33, k_34, k_35, k_36, k_37, k_38, k_39, k_40, k_41, k_42, k_43, k_44, k_45, k_46, k_47, k_48, k_49, k_50, k_51, k_52, k_53, k_54, k_55, k_56, k_57, k_58, k_59, k_60, k_61, k_62, k_63, k_64, k_90, k_91, k_93, k_96, k_97, k_98, k_99, k_100, k_102, k_108, k_122, k_255, k_400, k_900, k_m1000, k_1000, k_5460, k_1000000, k_2147483639, iI_add, iI_sub, iI_mul, iI_neg, iI_lt, iI_le, iI_eq, iI_nat, bZ_i0, bZ_i1, K_0, K_1, K_m1, K_2, K_m2, K_3, K_m3, K_4, K_m4, K_5, K_m5, K_6, K_m6, K_7, K_m7, K_8, K_m8, K_9, K_m9, K_10, K_11, K_12, K_13, K_14, K_15, K_16, K_17, K_18, K_19, K_20, K_21, K_22, K_23, K_24, K_25, K_26, K_27, K_28, K_29, K_30, K_31, K_32, K_33, K_34, K_35, K_36, K_37, K_38, K_39, K_40, K_41, K_42, K_43, K_44, K_45, K_46, K_47, K_48, K_49, K_50, K_51, K_52, K_53, K_54, K_55, K_56, K_57, K_58, K_59, K_60, K_61, K_62, K_63, K_64, K_96, K_100, K_152, K_153, K_239, K_294, K_498, K_1000, K_1103, K_1476, K_6000, K_6194, K_12345, K_14836, K_67155, K_103820, K_146885, K_271592, K_441828, K_611944, K_631941, K_656780, K_755156, K_758931, K_769604, K_1000000, K_1000003, K_6801509, K_7939603, K_20325907, K_21279923, K_72754342, K_102407444, K_626630820, K_m1000000000, K_1000000000, K_2328139461, K_3275858098, K_m4000000000, K_104827459155, lI_add, lI_sub, lI_mul, lI_neg, lI_lt, lI_le, lI_eq, iI_l, lI_i]
      unfold cmpZ rT
      rcases hg with rfl | rfl | rfl
      · by_cases hh : y ≤ x
        · have h' : ¬ x < y := by omega
          simp [hh, h']
        · have h' : x < y := by omega
          simp [hh, h']
      · by_cases hh : x ≤ y
        · have h' : ¬ y < x := by omega
          simp [hh, h']
        · have h' : y < x := by omega
          simp [hh, h']
      · by_cases hh : x = y
        · simp [hh]
        · simp [hh]
theorem TestE.no {s : St} {a b d : Nat} {f : DT} (hk : (sk s a).1 = 13) (hb : sr s a 0 = some b) (h : TestE s b d f) : TestE s a (d + 1) (dNot f) := by
  intro n hn v hv
  obtain ⟨m, rfl⟩ : ∃ m, n = m + 1 := ⟨n - 1, by omega⟩
  simp only [F_testD]
  rw [if_neg (by rw [isK_n hk (by decide)]; decide), if_pos (isK_b hk), F_X16_is, isK_g hk, hb, drf_s, h m (by omega) v hv]
  unfold dNot
  cases e1 : f v with
  | none => rfl
  | some x => cases x <;> rfl
/-! lists -/
theorem e_J6_checkIndex {s : St} {i n : Int} (h : 0 ≤ i ∧ i < n ∧ n ≤ 2147483647) : F_J5_checkIndex s (iI i) (iI n) = some (iI i, s) := by
  unfold F_J5_checkIndex F_J6_checkIndex
  simp (disch := omega) only [k_0, k_1, k_m1, k_2, k_m2, k_3, k_m3, k_4, k_m4, k_5, k_m5, k_6, k_m6, k_7, k_m7, k_8, k_m8, k_9, k_m9, k_10, k_11, k_12, k_13, k_14, k_15, k_16, k_17, k_18, k_19, k_20, k_21, k_22, k_23, k_24, k_25, k_26, k_27, k_28, k_29, k_30, k_31, k_32, k_33, k_34, k_35, k_36, k_37, k_38, k_39, k_40, k_41, k_42, k_43, k_44, k_45, k_46, k_47, k_48, k_49, k_50, k_51, k_52, k_53, k_54, k_55, k_56, k_57, k_58, k_59, k_60, k_61, k_62, k_63, k_64, k_90, k_91, k_93, k_96, k_97, k_98, k_99, k_100, k_102, k_108, k_122, k_255, k_400, k_900, k_m1000, k_1000, k_5460, k_1000000, k_2147483639, iI_add, iI_sub, iI_mul, iI_neg, iI_lt, iI_le, iI_eq, iI_nat, bZ_i0, bZ_i1]
  rw [if_neg (by omega), if_pos (by omega)]
  rfl
/-- a list at a (its array at b, c places), of n things f -/
def LstE (s : St) (a b c n : Nat) (f : Nat → Nat) : Prop := (sk s a).1 = 18 ∧ sr s a 1 = some b ∧ sk s b = (104, c) ∧ n ≤ c ∧ c ≤ 1000000 ∧ si s a 2 = iI n ∧ ∀ i, i < n → sr s b i = some (f i)
theorem e_J2_size {s : St} {a b c n : Nat} {f : Nat → Nat} (h : LstE s a b c n f) : F_J2_size s a = some (iI n, s) := by
  unfold F_J2_size
  rw [isK_g h.1, h.2.2.2.2.2.1]
theorem e_J2_get {s : St} {a b c n : Nat} {f : Nat → Nat} (h : LstE s a b c n f) {i : Int} (hi : 0 ≤ i ∧ i < n) : F_J2_get s a (iI i) = some (some (f i.toNat), s) := by
  obtain ⟨h1, h2, h3, h4, h5, h6, h7⟩ := h
  unfold F_J2_get F_J2_elementData
  rw [isK_g h1, h6, e_J6_checkIndex (by omega), bnd_s, isK_g h1, isK_g h1, h2, drf_s, isK_g (by rw [h3]), h3, inb_g (by omega), iI_nat (by omega), h7 _ (by omega), bnd_s]
/-- several tests, from the place i on -/
theorem e_X17_is_2 {s : St} {a l b c n d m : Nat} {all : Bool} {f : Nat → Nat} {t : Nat → DT} {v : Nat → Int} (hk : (sk s a).1 = 14) (h0 : si s a 0 = iI (if all then 1 else 0)) (h1 : sr s a 1 = some l) (hL : LstE s l b c n f) (hT : ∀ i, i < n → isTs s (f i) = true ∧ TestE s (f i) d (t i)) (hd : d ≤ m) (hv : VOK s v) : ∀ (j i : Nat), n = j + i → ∀ fu, j < fu → F_X17_is_2 (F_testD m) fu s (some a) (some 20) (iI i) = some (rT (dSev all ((List.range' i j).map t) v), s) := by
  have hn := hL.2.2.2.1
  have hc := hL.2.2.2.2.1
  intro j
  induction j with
  | zero =>
    intro i hi fu hfu
    obtain ⟨g, rfl⟩ : ∃ g, fu = g + 1 := ⟨fu - 1, by omega⟩
    simp only [F_X17_is_2]
    rw [drf_s, isK_g hk, h1, drf_s, isK_g hL.1, e_J2_size hL, bnd_s, if_pos (by rw [iI_le (by omega) (by omega)]; omega), drf_s, isK_g hk, h0, gd_ok (fits_z (by cases all <;> simp))]
    cases all <;> rfl
  | succ j ih =>
    intro i hi fu hfu
    obtain ⟨g, rfl⟩ : ∃ g, fu = g + 1 := ⟨fu - 1, by omega⟩
    have ht := hT i (by omega)
    simp only [F_X17_is_2]
    rw [drf_s, isK_g hk, h1, drf_s, isK_g hL.1, e_J2_size hL, bnd_s, if_neg (by rw [iI_le (by omega) (by omega)]; omega), drf_s, isK_g hk, h1, drf_s, isK_g hL.1, e_J2_get hL (by omega), bnd_s, drf_s, Int.toNat_natCast, gd_ok ht.1, drf_s, ht.2 m hd v hv, List.range'_succ, List.map_cons, dSev_cons]
    have h3 := ih (i + 1) (by omega) g (by omega)
    cases e : t i v with
    | none => rfl
    | some x =>
      have hx : rT (some x) = .inl (iI (if x then 1 else 0)) := by cases x <;> rfl
      rw [hx, bnx_il, drf_s, isK_g hk, h0]
      simp (disch := omega) only [k_0, k_1, k_m1, k_2, k_m2, k_3, k_m3, k_4, k_m4, k_5, k_m5, k_6, k_m6, k_7, k_m7, k_8, k_m8, k_9, k_m9, k_10, k_11, k_12, k_13, k_14, k_15, k_16, k_17, k_18, k_19, k_20, k_21, k_22, k_23, k_24, k_25, k_26, k_27, k_28, k_29, k_30, k_31, k_32, k_33, k_34, k_35, k_36, k_37, k_38, k_39, k_40, k_41, k_42, k_43, k_44, k_45, k_46, k_47, k_48, k_49, k_50, k_51, k_52, k_53, k_54, k_55, k_56, k_57, k_58, k_59, k_60, k_61, k_62, k_63, k_64, k_90, k_91, k_93, k_96, k_97, k_98, k_99, k_100, k_102, k_108, k_122, k_255, k_400, k_900, k_m1000, k_1000, k_5460, k_1000000, k_2147483639, iI_add, iI_sub, iI_mul, iI_neg, iI_lt, iI_le, iI_eq, iI_nat, bZ_i0, bZ_i1, drf_s, isK_g, hk, h0]
      have h4 : ((i : Int) + 1) = ((i + 1 : Nat) : Int) := by omega
      cases x <;> cases all
      · rw [h4, if_pos rfl, h3]; rfl
      · simp [rT]
      · simp [rT]
      · rw [h4, if_pos rfl, h3]; rfl
theorem TestE.sev {s : St} {a l b c n d : Nat} {all : Bool} {f : Nat → Nat} {t : Nat → DT} (hk : (sk s a).1 = 14) (h0 : si s a 0 = iI (if all then 1 else 0)) (h1 : sr s a 1 = some l) (hL : LstE s l b c n f) (hT : ∀ i, i < n → isTs s (f i) = true ∧ TestE s (f i) d (t i)) : TestE s a (d + 1) (dSev all ((List.range n).map t)) := by
  intro m hm v hv
  obtain ⟨m, rfl⟩ : ∃ q, m = q + 1 := ⟨m - 1, by omega⟩
  have hn := hL.2.2.2.1
  have hc := hL.2.2.2.2.1
  simp only [F_testD]
  rw [if_neg (by rw [isK_n hk (by decide)]; decide), if_neg (by rw [isK_n hk (by decide)]; decide), if_pos (isK_b hk), F_X17_is]
  have := e_X17_is_2 hk h0 h1 hL hT (m := m) (by omega) hv n 0 (by omega) FU (by unfold FU; omega)
  rw [List.range_eq_range']
  exact this
/-! clauses, laws -/
abbrev DC : Type := Int × Option DS × Option DT
def tellC (c : DC) (v : Nat → Int) : Option Int :=
  let w := match c.2.1 with
    | none => some 1
    | some f => f v
  match c.2.2 with
  | none => w
  | some t => match t v with
    | some true => w
    | _ => none
def toldF (h : Int) (v : Nat → Int) : List DC → Option Int → Option Int
  | [], o => o
  | c :: r, o => toldF h v r (if c.1 = h then (match tellC c v with
    | none => o
    | some z => some z) else o)
def noS : Option Int → Int
  | some z => z
  | none => -4000000000
def cok (c : DC) : Prop := (∀ f, c.2.1 = some f → dok f)
def ClauE (s : St) (a : Nat) (c : DC) : Prop := (sk s a).1 = 8 ∧ si s a 0 = iI c.1 ∧ (0 ≤ c.1 ∧ c.1 ≤ 3) ∧ (match c.2.1 with
    | none => sr s a 1 = none
    | some f => ∃ b, sr s a 1 = some b ∧ SumE s b 64 f) ∧ (match c.2.2 with
    | none => sr s a 2 = none
    | some t => ∃ b, sr s a 2 = some b ∧ TestE s b 40 t) ∧ cok c
theorem e_X9_tells {s : St} {a : Nat} {c : DC} (h : ClauE s a c) {v : Nat → Int} (hv : VOK s v) : F_X9_tells s a (some 20) = some (lI (noS (tellC c v)), s) := by
  obtain ⟨h1, h2, h3, h4, h5, h6⟩ := h
  have hs : F_X9_tells_22 s (some a) (some 20) = some (lI (noS (match c.2.1 with
    | none => some 1
    | some f => f v)), s) := by
    unfold F_X9_tells_22 F_X9_tells_42
    rw [drf_s, isK_g h1]
    cases e : c.2.1 with
    | none =>
      rw [e] at h4
      rw [if_pos h4]
      rfl
    | some f =>
      rw [e] at h4
      obtain ⟨b, hb, hE⟩ := h4
      rw [if_neg (by rw [hb]; simp), drf_s, isK_g h1, hb, drf_s, hE 64 (Nat.le_refl _) v hv]
      show _ = some (lI (noS (f v)), s)
      cases f v <;> rfl
  unfold F_X9_tells F_X9_tells_42 tellC
  rw [isK_g h1]
  cases e : c.2.2 with
  | none =>
    rw [e] at h5
    rw [if_pos h5, hs]
  | some t =>
    rw [e] at h5
    obtain ⟨b, hb, hE⟩ := h5
    rw [if_neg (by rw [hb]; simp), isK_g h1, hb, drf_s, hE 40 (Nat.le_refl _) v hv]
    show _ = some (lI (noS (match t v with
      | some true => _
      | _ => none)), s)
    cases e2 : t v with
    | none => rfl
    | some x =>
      cases x
      · show bnx (some (.inl (iI 0), s)) _ _ = _
        rw [bnx_il]
        rfl
      · show bnx (some (.inl (iI 1), s)) _ _ = _
        rw [bnx_il, if_neg (by decide), hs]
