set_option maxRecDepth 100000
/-! ===== the component: lists that grow ===== -/
/-- a list's array: how long, nothing behind the things -/
def Tl (s : St) (l n : Nat) : Prop := ∀ b, sr s l 1 = some b → (0 < (sk s b).2 ∧ (sk s b).2 ≤ 400) ∧ ∀ i, n ≤ i → i < (sk s b).2 → sr s b i = none
theorem sR_k {s : St} {a k b : Nat} {v : Option Nat} : sk (setR s a k v) b = sk s b := rfl
theorem cR_r {s : St} {a i b j n x y : Nat} : sr (cpyR s a i b j n) x y = if x = b then va_cpy (sr s a) (sr s b) i j n y else sr s x y := by
  show (if x = b then va_cpy (sr s a) (sr s b) i j n else sr s x) y = _
  split <;> rfl
theorem okE_t {s : St} {a sp n : Nat} (h : ∀ i, i < n → ∀ y, sr s a (sp + i) = some y → (sk s y).1 < 19) : okE s a sp n = true := by
  unfold okE
  rw [List.all_eq_true]
  intro i hi
  have := h i (List.mem_range.mp hi)
  cases e : sr s a (sp + i) with
  | none => rfl
  | some y => exact Nat.blt_eq.mpr (this y e)
theorem okL_t {n : Int} (h : 0 ≤ n ∧ n ≤ 1000) : okL (iI n) = true := by
  unfold okL
  have e : ¬ iI n < 0 := by rw [k_0, iI_lt (by omega) (by omega)]; omega
  rw [decide_eq_false e, iI_nat (by omega), Nat.ble_eq_true_of_le (by omega)]
  rfl
/-- a new array with the first m things of another -/
def cpO (s : St) (b m q : Nat) : St := cpyR (newO s (104, m) m) b 0 (sn s) 0 q
theorem nIi (n : Nat) : nI n = iI (n : Int) := nI_iI n
theorem e_J12_copyOf {s : St} {b m c q : Nat} (hk : sk s b = (104, c)) (hb : b < sn s) (hm : m ≤ 1000) (hc : c ≤ 1000) (hq : q = if m < c then m else c) (hE : ∀ i, i < q → ∀ y, sr s b i = some y → (sk s y).1 < 19 ∧ y < sn s) (h1 : sn s < smx s) (h2 : ss s + m ≤ sms s) : F_J12_copyOf s (some b) (iI (m : Int)) = some (some (sn s), cpO s b m q) := by
  have e1 : isK (newO s (104, m) m) b 104 = isK s b 104 := by
    unfold isK
    rw [nO_k, if_neg (by omega)]
  have e2 : sk (newO s (104, m) m) b = (104, c) := by rw [nO_k, if_neg (by omega)]; exact hk
  have e3 : sk (newO s (104, m) m) (sn s) = (104, m) := by rw [nO_k, if_pos rfl]
  have e4 : (if iI (m : Int) < nI c then iI (m : Int) else nI c) = iI (q : Int) := by
    rw [nIi, hq]
    by_cases h : m < c
    · rw [if_pos (by rw [iI_lt (by omega) (by omega)]; omega), if_pos h]
    · rw [if_neg (by rw [iI_lt (by omega) (by omega)]; omega), if_neg h]
  have hq2 : q ≤ m ∧ q ≤ c := by rw [hq]; split <;> omega
  unfold F_J12_copyOf F_J12_copyOf_2 F_J12_copyOf_2_24
  rw [drf_s, isK_g (by rw [hk]), gd_ok (by decide), gd_ok (okL_t (by omega)), iI_nat (by omega), Int.toNat_natCast, gd_ok (okN_t h1 h2), nam_v, drf_s, isK_g (by rw [e2]), drf_s, isK_g (by rw [e2]), drf_s, isK_g (by rw [e3]), e2, e3]
  show bnd (gd (okC 0 0 (if iI (m : Int) < nI c then iI (m : Int) else nI c) c m) _) _ = _
  rw [e4, k_0, gd_ok (okC_t (by omega) (by omega) (by omega) (by omega) (by omega)), iI_nat (by omega), iI_nat (by omega), Int.toNat_natCast]
  rw [gd_ok (okE_t (fun i hi y hy => by
    have hy : sr (newO s (104, m) m) b (0 + i) = some y := hy
    rw [nO_r, if_neg (by omega), Nat.zero_add] at hy
    have := hE i hi y hy
    rw [nO_k, if_neg (by omega)]
    exact this.1)), nam_v, bnd_s]
  rfl
/-- what comes of it -/
theorem cpO_k {s : St} {b m q x : Nat} : sk (cpO s b m q) x = if x = sn s then (104, m) else sk s x := rfl
theorem cpO_i {s : St} {b m q x : Nat} : si (cpO s b m q) x = if x = sn s then (fun _ => 0) else si s x := rfl
theorem cpO_l {s : St} {b m q x : Nat} : sl (cpO s b m q) x = if x = sn s then (fun _ => 0) else sl s x := rfl
theorem cpO_r {s : St} {b m q x y : Nat} (hb : b < sn s) : sr (cpO s b m q) x y = if x = sn s then (if y < q then sr s b y else none) else sr s x y := by
  unfold cpO
  rw [cR_r]
  by_cases h : x = sn s
  · rw [if_pos h, if_pos h]
    unfold va_cpy
    by_cases h2 : y < q
    · rw [if_pos (by omega), if_pos h2, nO_r, if_neg (by omega), show 0 + (y - 0) = y by omega]
    · rw [if_neg (by omega), if_neg h2, nO_r, if_pos rfl]
  · rw [if_neg h, if_neg h, nO_r, if_neg h]
theorem cpO_old {s : St} {b m q : Nat} (hb : b < sn s) : Old s (cpO s b m q) := fun x hx => by
  rw [cpO_k, cpO_i, cpO_l, if_neg (by omega), if_neg (by omega), if_neg (by omega)]
  refine ⟨rfl, rfl, rfl, ?_⟩
  funext y
  rw [cpO_r hb, if_neg (by omega)]
theorem cpO_vd {s : St} {b m q : Nat} (hv : Vd s) : Vd (cpO s b m q) := Vd.new (kd := (104, m)) (n := m) hv
theorem cpO_n {s : St} {b m q : Nat} : sn (cpO s b m q) = sn s + 1 ∧ ss (cpO s b m q) = ss s + m ∧ smx (cpO s b m q) = smx s ∧ sms (cpO s b m q) = sms s := ⟨rfl, rfl, rfl, rfl⟩
/-- old cells but those of S stay -/
def OldX (S : Nat → Prop) (s s' : St) : Prop := ∀ x, x < sn s → ¬ S x → same s s' x
theorem OldX.rf {S : Nat → Prop} {s : St} : OldX S s s := fun _ _ _ => ⟨rfl, rfl, rfl, rfl⟩
theorem Old.x {S : Nat → Prop} {s s' : St} (h : Old s s') : OldX S s s' := fun x hx _ => h x hx
theorem OldX.tr {S : Nat → Prop} {s s1 s2 : St} (h : OldX S s s1) (hn : sn s ≤ sn s1) (g : OldX S s1 s2) : OldX S s s2 := fun x hx hS => (h x hx hS).tr (g x (by omega) hS)
theorem OldX.le {S T : Nat → Prop} {s s' : St} (h : OldX S s s') (hS : ∀ x, S x → T x) : OldX T s s' := fun x hx hT => h x hx fun z => hT (hS x z)
theorem OldX.setI {S : Nat → Prop} {s : St} {a k : Nat} {v : Int32} (h : S a) : OldX S s (setI s a k v) := fun x _ hS => ⟨rfl, by
  funext j
  rw [si_set, if_neg (fun z => hS (by rw [z]; exact h))], rfl, rfl⟩
theorem OldX.rset {S : Nat → Prop} {s : St} {a k : Nat} {v : Option Nat} (h : S a) : OldX S s (setR s a k v) := fun x _ hS => ⟨rfl, rfl, rfl, by
  funext j
  rw [sR_r, if_neg (fun z => hS (by rw [z]; exact h))]⟩
/-- how much was taken, at most k cells and m slots -/
def Tk (s s' : St) (k m : Nat) : Prop := sn s ≤ sn s' ∧ sn s' ≤ sn s + k ∧ ss s ≤ ss s' ∧ ss s' ≤ ss s + m ∧ smx s' = smx s ∧ sms s' = sms s
theorem Tk.rf {s : St} {k m : Nat} : Tk s s k m := ⟨Nat.le_refl _, by omega, Nat.le_refl _, by omega, rfl, rfl⟩
theorem Tk.tr {s s1 s2 : St} {k m k2 m2 : Nat} (h : Tk s s1 k m) (g : Tk s1 s2 k2 m2) : Tk s s2 (k + k2) (m + m2) := by
  obtain ⟨a1, a2, a3, a4, a5, a6⟩ := h
  obtain ⟨b1, b2, b3, b4, b5, b6⟩ := g
  exact ⟨by omega, by omega, by omega, by omega, b5.trans a5, b6.trans a6⟩
theorem Tk.le {s s1 : St} {k m k2 m2 : Nat} (h : Tk s s1 k m) (h1 : k ≤ k2) (h2 : m ≤ m2) : Tk s s1 k2 m2 := by
  obtain ⟨a1, a2, a3, a4, a5, a6⟩ := h
  exact ⟨by omega, by omega, by omega, by omega, a5, a6⟩
def ladd (f : Nat → Nat) (n x : Nat) : Nat → Nat := fun i => if i = n then x else f i
def two (l b x : Nat) : Prop := x = l ∨ x = b
theorem shr1 {c : Int} (h : 0 ≤ c ∧ c ≤ 1000) : iI c >>> ((1 : Int32) &&& 31) = iI (c / 2) := by
  have key : (iI c >>> ((1 : Int32) &&& 31)).toInt = (iI c).toInt >>> (((1 : Int32) &&& 31).toBitVec.smod 32).toNat := by
    show ((iI c).toBitVec.sshiftRight' (((1 : Int32) &&& 31).toBitVec.smod 32)).toInt = _
    rw [BitVec.toInt_sshiftRight']
    rfl
  rw [← Int32.toInt_inj, key, iI_toInt (by omega) (by omega), iI_toInt (by omega) (by omega), show ((((1 : Int32) &&& 31).toBitVec.smod 32).toNat) = 1 from by decide, Int.shiftRight_eq_div_pow]
  rfl
/-- the list grows to g places -/
theorem e_J2_grow {s : St} {l b c n need g : Nat} {f : Nat → Nat} (hL : LstE s l b c n f) (hb : b < sn s) (hl : l < sn s) (hlb : l ≠ b) (hc : 0 < c ∧ c ≤ 400) (hn : c < need ∧ need ≤ 400) (hg : g = c + if need - c < c / 2 then c / 2 else need - c) (hE : ∀ i, i < c → ∀ y, sr s b i = some y → (sk s y).1 < 19 ∧ y < sn s) (h1 : sn s < smx s) (h2 : ss s + g ≤ sms s) : F_J2_grow s l (iI (need : Int)) = some (some (sn s), setR (cpO s b g c) l 1 (some (sn s))) ∧ c < g ∧ g ≤ 600 := by
  obtain ⟨h3, h4, h5, h6, h7, h8, h9⟩ := hL
  have hg2 : c < g ∧ g ≤ 600 := by
    rw [hg]
    split <;> omega
  have eN : F_J10_newLength s (iI (c : Int)) (iI (need : Int) - iI (c : Int)) (iI ((c : Int) / 2)) = some (iI (g : Int), s) := by
    unfold F_J10_newLength
    have e : (if iI (need : Int) - iI (c : Int) < iI ((c : Int) / 2) then iI ((c : Int) / 2) else iI (need : Int) - iI (c : Int)) = iI ((g : Int) - c) := by
      rw [iI_sub]
      by_cases h : need - c < c / 2
      · rw [if_pos (by rw [iI_lt (by omega) (by omega)]; omega)]
        rw [if_pos h] at hg
        congr 1
        omega
      · rw [if_neg (by rw [iI_lt (by omega) (by omega)]; omega)]
        rw [if_neg h] at hg
        congr 1
        omega
    rw [e, iI_add, nam_v, k_0, if_neg (by rw [iI_le (by omega) (by omega)]; omega), k_2147483639, if_neg (by rw [iI_lt (by omega) (by omega)]; omega)]
    congr 3
    omega
  refine ⟨?_, hg2⟩
  unfold F_J2_grow F_J2_grow_20
  rw [isK_g h3, h4, drf_s, isK_g (by rw [h5]), h5]
  show (if 0 < nI c then _ else _) = _
  rw [nIi, k_0, if_pos (by rw [iI_lt (by omega) (by omega)]; omega), shr1 (by omega), eN, bnd_s, drf_s, isK_g h3, h4, e_J12_copyOf h5 hb (by omega) (by omega) (q := c) (by rw [if_neg (by omega)]) hE h1 h2, bnd_s, drf_s]
  rw [isK_g (show (sk (cpO s b g c) l).1 = 18 by rw [cpO_k, if_neg (by omega)]; exact h3), nam_v]
theorem isK_3 {s : St} {x k a t : Nat} {v : Option Nat} : isK (setR s x k v) a t = isK s a t := rfl
theorem sR_i {s : St} {x k : Nat} {v : Option Nat} : si (setR s x k v) = si s := rfl
theorem e_J2_add_11 {s : St} {l b c n x : Nat} (hk : (sk s l).1 = 18) (hb : sk s b = (104, c)) (hn : n < c ∧ c ≤ 1000) (hx : (sk s x).1 < 19) : F_J2_add_2_11 s (some l) (some x) (some b) (iI (n : Int)) = some ((), setI (setR s b n (some x)) l 2 (iI ((n + 1 : Nat) : Int))) := by
  unfold F_J2_add_2_11
  rw [drf_s, isK_g (by rw [hb]), hb, inb_g (by show 0 ≤ (n : Int) ∧ (n : Int) < c ∧ _; omega), drf_s, gd_ok (Nat.blt_eq.mpr hx), iI_nat (by omega), Int.toNat_natCast, nam_v, drf_s, isK_3, isK_g hk, k_1, iI_add, nam_v]
  rfl
/-- what a list is after one thing more -/
theorem e_J2_added {s : St} {l b c n x : Nat} {f : Nat → Nat} (h1 : (sk s l).1 = 18) (h2 : sr s l 1 = some b) (h3 : sk s b = (104, c)) (hn : n < c ∧ c ≤ 400) (hlb : l ≠ b) (hf : ∀ i, i < n → sr s b i = some (f i)) (hT : ∀ i, n ≤ i → i < c → sr s b i = none) : LstE (setI (setR s b n (some x)) l 2 (iI ((n + 1 : Nat) : Int))) l b c (n + 1) (ladd f n x) ∧ Tl (setI (setR s b n (some x)) l 2 (iI ((n + 1 : Nat) : Int))) l (n + 1) := by
  have e1 : sr (setI (setR s b n (some x)) l 2 (iI ((n + 1 : Nat) : Int))) l 1 = some b := by
    show sr (setR s b n (some x)) l 1 = some b
    rw [sR_r, if_neg hlb]
    exact h2
  refine ⟨⟨h1, e1, h3, by omega, by omega, ?_, fun i hi => ?_⟩, fun b' hb' => ?_⟩
  · rw [si_set, if_pos rfl, if_pos rfl]
  · show sr (setR s b n (some x)) b i = _
    unfold ladd
    rw [sR_r, if_pos rfl]
    by_cases h : i = n
    · rw [if_pos h, if_pos h]
    · rw [if_neg h, if_neg h]
      exact hf i (by omega)
  · rw [e1] at hb'
    cases hb'
    show (0 < (sk s b).2 ∧ (sk s b).2 ≤ 400) ∧ ∀ i, n + 1 ≤ i → i < (sk s b).2 → sr (setR s b n (some x)) b i = none
    rw [h3]
    refine ⟨⟨show 0 < c by omega, hn.2⟩, fun i h4 h5 => ?_⟩
    rw [sR_r, if_pos rfl, if_neg (by omega)]
    exact hT i (by omega) h5
theorem same.rf {s : St} {x : Nat} : same s s x := ⟨rfl, rfl, rfl, rfl⟩
theorem e_J2_add {s : St} {l b c n x : Nat} {f : Nat → Nat} (hL : LstE s l b c n f) (hT : Tl s l n) (hv : Vd s) (hlb : l ≠ b) (hn : n ≤ 200) (hE : ∀ i, i < n → (sk s (f i)).1 < 19) (hEn : ∀ i, i < n → f i < sn s) (hx : (sk s x).1 < 19) (hm1 : sn s < smx s) (hm2 : ss s + 400 ≤ sms s) : ∃ s' b' c', F_J2_add s l (some x) = some (iI 1, s') ∧ LstE s' l b' c' (n + 1) (ladd f n x) ∧ Tl s' l (n + 1) ∧ OldX (two l b) s s' ∧ (∀ y, y < sn s → sk s' y = sk s y ∧ sl s' y = sl s y) ∧ Tk s s' 1 400 ∧ Vd s' ∧ (b' = b ∨ b' = sn s) ∧ (∀ y, si s' l y = si s l y ∨ y = 0 ∨ y = 2) ∧ si s' b = si s b ∧ (∀ y, y ≠ 1 → sr s' l y = sr s l y) := by
  have hl : l < sn s := hv.lt (by rw [hL.1]; decide)
  have hb : b < sn s := hv.lt (by rw [hL.2.2.1]; show (104 : Nat) ≠ 99; decide)
  obtain ⟨h1, h2, h3, h4, h5, h6, h7⟩ := hL
  have hTb := hT b h2
  rw [h3] at hTb
  have hc : c ≤ 400 := hTb.1.2
  have hc0 : 0 < c := hTb.1.1
  have o0 : OldX (two l b) s (setI s l 0 (si s l 0 + 1)) := OldX.setI (Or.inl rfl)
  have e62 : si (setI s l 0 (si s l 0 + 1)) l 2 = iI (n : Int) := by rw [si_set, if_pos rfl, if_neg (by decide)]; exact h6
  have hL1 : LstE (setI s l 0 (si s l 0 + 1)) l b c n f := ⟨h1, h2, h3, h4, h5, e62, h7⟩
  unfold F_J2_add F_J2_add_2
  rw [isK_g h1, isK_g h1, nam_v, isK_1, isK_g h1, isK_g h1, isK_g h1]
  show ∃ s' b' c', bnd (drf (sr s l 1) _) _ = _ ∧ _
  rw [h2, drf_s, isK_1, isK_g (by rw [h3]), e62]
  show ∃ s' b' c', bnd (if iI (n : Int) = nI (sk s b).2 then _ else _) _ = _ ∧ _
  rw [h3]
  show ∃ s' b' c', bnd (if iI (n : Int) = nI c then _ else _) _ = _ ∧ _
  rw [nIi]
  by_cases hnc : n = c
  · have hg := e_J2_grow (g := c + if c + 1 - c < c / 2 then c / 2 else c + 1 - c) (need := c + 1) hL1 hb hl hlb ⟨hc0, hc⟩ ⟨by omega, by omega⟩ rfl (fun i hi y hy => by
      have hi2 : i < n := by omega
      have hy : sr s b i = some y := hy
      rw [h7 i hi2] at hy
      cases hy
      exact ⟨hE i hi2, hEn i hi2⟩) hm1 (by
        show ss s + _ ≤ sms s
        split <;> omega)
    obtain ⟨g, hge⟩ : ∃ g, g = c + if c + 1 - c < c / 2 then c / 2 else c + 1 - c := ⟨_, rfl⟩
    have hg18 : g ≤ 400 := by rw [hge]; split <;> omega
    rw [← hge] at hg
    obtain ⟨eg, hg1, hg2⟩ := hg
    have kl : (sk (setR (cpO (setI s l 0 (si s l 0 + 1)) b g c) l 1 (some (sn s))) l).1 = 18 := by
      rw [sR_k, cpO_k, if_neg (by show l ≠ sn s; omega)]
      exact h1
    have kb : sk (setR (cpO (setI s l 0 (si s l 0 + 1)) b g c) l 1 (some (sn s))) (sn s) = (104, g) := by
      rw [sR_k, cpO_k]
      exact if_pos rfl
    have kx : (sk (setR (cpO (setI s l 0 (si s l 0 + 1)) b g c) l 1 (some (sn s))) x).1 < 19 := by
      have hxs : x < sn s := hv.lt (by omega)
      rw [sR_k, cpO_k, if_neg (by show x ≠ sn s; omega)]
      exact hx
    have eA := e_J2_add_11 (n := n) kl kb (by omega) kx
    have hbn : b < sn (setI s l 0 (si s l 0 + 1)) := hb
    have rr : ∀ y j, sr (setR (cpO (setI s l 0 (si s l 0 + 1)) b g c) l 1 (some (sn s))) y j = if y = l then (if j = 1 then some (sn s) else sr s l j) else if y = sn s then (if j < c then sr s b j else none) else sr s y j := fun y j => by
      rw [sR_r]
      by_cases hy : y = l
      · rw [if_pos hy, if_pos hy]
        by_cases hj : j = 1
        · rw [if_pos hj, if_pos hj]
        · rw [if_neg hj, if_neg hj, cpO_r hbn, if_neg (by show y ≠ sn s; omega), hy]
          rfl
      · rw [if_neg hy, if_neg hy, cpO_r hbn]
        rfl
    have eD := e_J2_added (s := setR (cpO (setI s l 0 (si s l 0 + 1)) b g c) l 1 (some (sn s))) (l := l) (b := sn s) (c := g) (n := n) (x := x) (f := f) kl (by rw [rr, if_pos rfl, if_pos rfl]) kb (by omega) (by omega) (fun i hi => by rw [rr, if_neg (by omega), if_pos rfl, if_pos (by omega)]; exact h7 i hi) (fun i hi1 hi2 => by rw [rr, if_neg (by omega), if_pos rfl, if_neg (by omega)])
    have oc : Old (setI s l 0 (si s l 0 + 1)) (cpO (setI s l 0 (si s l 0 + 1)) b g c) := cpO_old hbn
    refine ⟨setI (setR (setR (cpO (setI s l 0 (si s l 0 + 1)) b g c) l 1 (some (sn s))) (sn s) n (some x)) l 2 (iI ((n + 1 : Nat) : Int)), sn s, g, ?_, eD.1, eD.2, fun y hy hS => ?_, fun y hy => ?_, ⟨Nat.le_succ _, Nat.le_refl _, Nat.le_add_right _ _, by show ss s + g ≤ ss s + 400; omega, rfl, rfl⟩, Vd.new (kd := (104, g)) (n := g) hv, Or.inr rfl, fun y => ?_, ?_, fun y hy => ?_⟩
    · rw [if_pos (by rw [hnc]), isK_g h1]
      unfold F_J2_grow_2
      rw [isK_1, isK_g h1, isK_g h1, e62, show iI (n : Int) + 1 = iI ((c + 1 : Nat) : Int) by rw [k_1, iI_add]; congr 1; omega, eg, bnd_s, bnd_s, show sn (setI s l 0 (si s l 0 + 1)) = sn s from rfl, eA, bnd_s]
      rfl
    · have q := (o0 y hy hS).tr (oc y hy)
      have hyl : y ≠ l := fun z => hS (Or.inl z)
      refine ⟨q.1, ?_, q.2.2.1, ?_⟩
      · funext j
        rw [si_set, if_neg hyl]
        exact congrFun q.2.1 j
      · funext j
        show sr (setR (setR (cpO (setI s l 0 (si s l 0 + 1)) b g c) l 1 (some (sn s))) (sn s) n (some x)) y j = _
        rw [sR_r, if_neg (by omega), rr, if_neg hyl, if_neg (by omega)]
    · exact ⟨(oc y hy).1, (oc y hy).2.2.1⟩
    · by_cases hy : y = 2
      · exact Or.inr (Or.inr hy)
      · by_cases hy0 : y = 0
        · exact Or.inr (Or.inl hy0)
        · left
          rw [si_set, if_pos rfl, if_neg hy]
          show si (cpO (setI s l 0 (si s l 0 + 1)) b g c) l y = _
          rw [cpO_i, if_neg (by show l ≠ sn s; omega), si_set, if_pos rfl, if_neg hy0]
    · funext y
      rw [si_set, if_neg hlb.symm]
      show si (cpO (setI s l 0 (si s l 0 + 1)) b g c) b y = _
      rw [cpO_i, if_neg (by show b ≠ sn s; omega), si_set, if_neg hlb.symm]
    · show sr (setR (setR (cpO (setI s l 0 (si s l 0 + 1)) b g c) l 1 (some (sn s))) (sn s) n (some x)) l y = _
      rw [sR_r, if_neg (by omega), rr, if_pos rfl, if_neg hy]
  · have eA := e_J2_add_11 (s := setI s l 0 (si s l 0 + 1)) (l := l) (b := b) (c := c) (n := n) (x := x) h1 h3 (by omega) hx
    have eD := e_J2_added (s := setI s l 0 (si s l 0 + 1)) (l := l) (b := b) (c := c) (n := n) (x := x) (f := f) h1 h2 h3 (by omega) hlb h7 (fun i hi1 hi2 => hTb.2 i hi1 hi2)
    refine ⟨setI (setR (setI s l 0 (si s l 0 + 1)) b n (some x)) l 2 (iI ((n + 1 : Nat) : Int)), b, c, ?_, eD.1, eD.2, ?_, fun y hy => ⟨rfl, rfl⟩, ⟨Nat.le_refl _, Nat.le_succ _, Nat.le_refl _, by show ss s ≤ ss s + 400; omega, rfl, rfl⟩, hv, Or.inl rfl, fun y => ?_, ?_, fun y hy => ?_⟩
    · rw [if_neg (by rw [iI_eq (by omega) (by omega)]; omega), show sr (setI s l 0 (si s l 0 + 1)) l 1 = some b from h2, eA, bnd_s]
      rfl
    · exact (o0.tr (Nat.le_refl _) (OldX.rset (Or.inr rfl))).tr (Nat.le_refl _) (OldX.setI (Or.inl rfl))
    · by_cases hy : y = 2
      · exact Or.inr (Or.inr hy)
      · by_cases hy0 : y = 0
        · exact Or.inr (Or.inl hy0)
        · left
          rw [si_set, if_pos rfl, if_neg hy]
          show si (setI s l 0 (si s l 0 + 1)) l y = _
          rw [si_set, if_pos rfl, if_neg hy0]
    · funext y
      rw [si_set, if_neg hlb.symm]
      show si (setI s l 0 (si s l 0 + 1)) b y = _
      rw [si_set, if_neg hlb.symm]
    · show sr (setR (setI s l 0 (si s l 0 + 1)) b n (some x)) l y = _
      rw [sR_r, if_neg hlb]
      rfl
/-! a list is emptied, filled from another -/
theorem e_J2_clear_27 {b c n : Nat} (hn : n ≤ c ∧ c ≤ 1000) : ∀ (j i : Nat) (s : St), sk s b = (104, c) → n = j + i → ∀ fu, j < fu → ∃ s', F_J2_clear_27 fu s (some b) (iI (n : Int)) (iI (i : Int)) = some ((), s') ∧ (sk s' = sk s ∧ si s' = si s ∧ sl s' = sl s ∧ sn s' = sn s ∧ ss s' = ss s ∧ smx s' = smx s ∧ sms s' = sms s) ∧ (∀ y k, sr s' y k = if y = b ∧ i ≤ k ∧ k < n then none else sr s y k) := by
  intro j
  induction j with
  | zero =>
    intro i s hk hj fu hfu
    obtain ⟨fu, rfl⟩ : ∃ g, fu = g + 1 := ⟨fu - 1, by omega⟩
    refine ⟨s, ?_, ⟨rfl, rfl, rfl, rfl, rfl, rfl, rfl⟩, fun y k => by rw [if_neg (by omega)]⟩
    rw [F_J2_clear_27]
    show (if iI (n : Int) ≤ iI (i : Int) then _ else _) = _
    rw [if_pos (by rw [iI_le (by omega) (by omega)]; omega)]
  | succ j ih =>
    intro i s hk hj fu hfu
    obtain ⟨fu, rfl⟩ : ∃ g, fu = g + 1 := ⟨fu - 1, by omega⟩
    obtain ⟨s', e, q, hr⟩ := ih (i + 1) (setR s b i none) hk (by omega) fu (by omega)
    refine ⟨s', ?_, q, fun y k => ?_⟩
    · rw [F_J2_clear_27]
      show (if iI (n : Int) ≤ iI (i : Int) then _ else _) = _
      rw [if_neg (by rw [iI_le (by omega) (by omega)]; omega), drf_s, isK_g (by rw [hk]), hk, inb_g (by show 0 ≤ (i : Int) ∧ (i : Int) < c ∧ _; omega), iI_nat (by omega), Int.toNat_natCast, nam_v, k_1, iI_add]
      exact e
    · rw [hr, sR_r]
      by_cases hy : y = b
      · by_cases hk : i + 1 ≤ k ∧ k < n
        · rw [if_pos ⟨hy, hk⟩, if_pos ⟨hy, by omega⟩]
        · rw [if_neg (fun z => hk z.2), if_pos hy]
          by_cases hki : k = i
          · rw [if_pos hki, if_pos ⟨hy, by omega⟩]
          · rw [if_neg hki, if_neg (fun z => hk (by omega))]
      · rw [if_neg (fun z => hy z.1), if_neg hy, if_neg (fun z => hy z.1)]
/-- what a list was emptied to -/
theorem e_J2_clear {s : St} {l b c n : Nat} {f : Nat → Nat} (hL : LstE s l b c n f) (hT : Tl s l n) (hlb : l ≠ b) (hn : n ≤ 12) : ∃ s', F_J2_clear s l = some ((), s') ∧ LstE s' l b c 0 f ∧ Tl s' l 0 ∧ OldX (two l b) s s' ∧ (sk s' = sk s ∧ sl s' = sl s ∧ sn s' = sn s ∧ ss s' = ss s ∧ smx s' = smx s ∧ sms s' = sms s) ∧ sr s' l = sr s l ∧ (∀ y, y ≠ l → si s' y = si s y) := by
  obtain ⟨h1, h2, h3, h4, h5, h6, h7⟩ := hL
  have hTb := hT b h2
  rw [h3] at hTb
  have hc : c ≤ 400 := hTb.1.2
  obtain ⟨s', e, ⟨q1, q2, q3, q4, q5, q6, q7⟩, hr⟩ := e_J2_clear_27 (b := b) (c := c) (n := n) ⟨h4, by omega⟩ n 0 (setI (setI s l 0 (si s l 0 + 1)) l 2 0) h3 (by omega) FU (FU_ge (by omega))
  have hrl : sr s' l = sr s l := by
    funext k
    rw [hr, if_neg (fun z => hlb z.1)]
    rfl
  have hrb : ∀ k, k < c → sr s' b k = none := fun k hk => by
    rw [hr]
    by_cases hkn : k < n
    · rw [if_pos ⟨rfl, by omega, hkn⟩]
    · rw [if_neg (by omega)]
      exact hTb.2 k (by omega) hk
  have hil : ∀ y, y ≠ l → si s' y = si s y := fun y hy => by
    rw [q2]
    funext k
    rw [si_set, if_neg hy, si_set, if_neg hy]
  refine ⟨s', ?_, ⟨by rw [q1]; exact h1, by rw [hrl]; exact h2, by rw [q1]; exact h3, by omega, h5, ?_, fun i hi => by omega⟩, fun b' hb' => ?_, fun y hy hS => ⟨by rw [q1]; rfl, hil y (fun z => hS (Or.inl z)), by rw [q3]; rfl, ?_⟩, ⟨q1, q3, q4, q5, q6, q7⟩, hrl, hil⟩
  · unfold F_J2_clear
    rw [isK_g h1, isK_g h1, nam_v, isK_1, isK_g h1, isK_g h1, isK_g h1, nam_v]
    have e6 : si (setI s l 0 (si s l 0 + 1)) l 2 = iI (n : Int) := by rw [si_set, if_pos rfl, if_neg (by decide)]; exact h6
    rw [e6, show sr (setI s l 0 (si s l 0 + 1)) l 1 = some b from h2]
    exact e
  · rw [q2, si_set, if_pos rfl, if_pos rfl]
    rfl
  · rw [hrl, h2] at hb'
    cases hb'
    rw [q1]
    show (0 < (sk s b).2 ∧ (sk s b).2 ≤ 400) ∧ ∀ i, 0 ≤ i → i < (sk s b).2 → sr s' b i = none
    rw [h3]
    exact ⟨⟨hTb.1.1, hc⟩, fun i _ hi => hrb i hi⟩
  · funext k
    rw [hr, if_neg (fun z => hS (Or.inr z.1))]
    rfl
theorem cR_i {s : St} {a i b j n : Nat} : si (cpyR s a i b j n) = si s := rfl
theorem e_J2_add_56 {s : St} {l t b ct c n : Nat} (hk : (sk s l).1 = 18) (ht : sk s t = (104, ct)) (hb : sk s b = (104, c)) (hn : n ≤ ct ∧ n ≤ c ∧ c ≤ 1000 ∧ ct ≤ 1000) (hE : ∀ i, i < n → ∀ y, sr s t i = some y → (sk s y).1 < 19) : F_J2_addAll_56 s (some l) (some t) (iI (n : Int)) (some b) (iI 0) = some (iI 1, setI (cpyR s t 0 b 0 n) l 2 (iI (n : Int))) := by
  unfold F_J2_addAll_56
  rw [drf_s, isK_g (by rw [ht]), drf_s, isK_g (by rw [hb]), ht, hb, k_0, gd_ok (okC_t (by omega) (by omega) (by omega) (by show (0 : Int) + n ≤ ct; omega) (by show (0 : Int) + n ≤ c; omega)), iI_nat (by omega), iI_nat (by omega), Int.toNat_natCast, gd_ok (okE_t (fun i hi y hy => hE i hi y (by rw [Nat.add_comm] at hy; exact hy))), nam_v, drf_s]
  rw [show isK (cpyR s t (Int.toNat 0) b (Int.toNat 0) n) l 18 = isK s l 18 from rfl, isK_g hk, nam_v, iI_add, Int.zero_add]
  rfl
/-- what was put from an array t of n things into an empty list -/
theorem e_J2_filled {s : St} {l t b ct c n : Nat} {f : Nat → Nat} (h1 : (sk s l).1 = 18) (h2 : sr s l 1 = some b) (h3 : sk s b = (104, c)) (hn : n ≤ c ∧ 0 < c ∧ c ≤ 400) (hlb : l ≠ b) (htb : t ≠ b) (hf : ∀ i, i < n → sr s t i = some (f i)) (hT : ∀ i, n ≤ i → i < c → sr s b i = none) : LstE (setI (cpyR s t 0 b 0 n) l 2 (iI (n : Int))) l b c n f ∧ Tl (setI (cpyR s t 0 b 0 n) l 2 (iI (n : Int))) l n := by
  have e1 : sr (setI (cpyR s t 0 b 0 n) l 2 (iI (n : Int))) l 1 = some b := by
    show sr (cpyR s t 0 b 0 n) l 1 = some b
    rw [cR_r, if_neg hlb]
    exact h2
  have e2 : ∀ i, sr (setI (cpyR s t 0 b 0 n) l 2 (iI (n : Int))) b i = if i < n then sr s t i else sr s b i := fun i => by
    show sr (cpyR s t 0 b 0 n) b i = _
    rw [cR_r, if_pos rfl]
    unfold va_cpy
    by_cases h : i < n
    · rw [if_pos (by omega), if_pos h, show 0 + (i - 0) = i by omega]
    · rw [if_neg (by omega), if_neg h]
  refine ⟨⟨h1, e1, h3, by omega, by omega, ?_, fun i hi => ?_⟩, fun b' hb' => ?_⟩
  · rw [si_set, if_pos rfl, if_pos rfl]
  · rw [e2, if_pos hi]
    exact hf i hi
  · rw [e1] at hb'
    cases hb'
    show (0 < (sk s b).2 ∧ (sk s b).2 ≤ 400) ∧ ∀ i, n ≤ i → i < (sk s b).2 → sr (setI (cpyR s t 0 b 0 n) l 2 (iI (n : Int))) b i = none
    rw [h3]
    refine ⟨hn.2, fun i h4 h5 => ?_⟩
    rw [e2, if_neg (by omega)]
    exact hT i h4 h5
