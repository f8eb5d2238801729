set_option maxRecDepth 100000
/-! ===== texts: numbers, leaves, brackets ===== -/
theorem rn_all {T : Nat → Int} {n : Nat} {lo hi : Int} : ∀ (k p q : Nat), p ≤ q → q < rn T n lo hi k p → lo ≤ T q ∧ T q ≤ hi
  | 0, p, q, h1, h2 => by rw [rn] at h2; omega
  | k + 1, p, q, h1, h2 => by
    rw [rn] at h2
    split at h2
    · rename_i h
      by_cases e : q = p
      · rw [e]; exact h.2
      · exact rn_all k (p + 1) q (by omega) h2
    · omega
def dec (T : Nat → Int) : Nat → Nat → Int → Int
  | 0, _, v => v
  | k + 1, p, v => dec T k (p + 1) (10 * v + T p - 48)
noncomputable def numZ (T : Nat → Int) (n p : Nat) : Int := dec T (tkE T n p - p) p 0
theorem dec_ge {T : Nat → Int} : ∀ (k p : Nat) (v : Int), 0 ≤ v → (∀ q, p ≤ q → q < p + k → 48 ≤ T q) → v ≤ dec T k p v
  | 0, _, v, _, _ => Int.le_refl _
  | k + 1, p, v, h0, h => by
    rw [dec]
    have h1 := h p (Nat.le_refl _) (by omega)
    have := dec_ge k (p + 1) (10 * v + T p - 48) (by omega) (fun q h2 h3 => h q (by omega) (by omega))
    omega
/-- room for what is still to be read -/
def Rm (s : St) (n p : Nat) : Prop := sn s + 8 * (n - p) + 8 ≤ smx s ∧ ss s + 500 * (n - p) + 500 ≤ sms s
theorem Rm.go {R : Nat} {s s' : St} {n p p' k m : Nat} (h : Rm s n p) (f : PF R s s' k m) (hp : p ≤ p') (hp2 : p' ≤ n) (h1 : k ≤ 8 * (p' - p)) (h2 : m ≤ 500 * (p' - p)) : Rm s' n p' := by
  obtain ⟨a1, a2, a3, a4, a5, a6⟩ := f.2.1
  unfold Rm at *
  omega
theorem Rm.nx {R : Nat} {s s' : St} {n p p' : Nat} (h : Rm s n p) (f : Nx R s s') (hp : p ≤ p') : Rm s' n p' := by
  have := f.2.2.2.1
  unfold Rm at *
  omega
/-- room for a fault -/
def R8 (s : St) : Prop := sn s + 8 ≤ smx s ∧ ss s + 500 ≤ sms s
theorem Rm.r8 {s : St} {n p : Nat} (h : Rm s n p) : R8 s := by
  unfold Rm at h
  unfold R8
  omega
theorem R8.nx {R : Nat} {s s' : St} (h : R8 s) (f : Nx R s s') : R8 s' := by
  have := f.2.2.2.1
  unfold R8 at *
  omega
/-- what reading comes to: a fault, or something at a place, up to p', with l' leaves -/
abbrev PR (α : Type) : Type := Nat ⊕ (α × Nat × Nat)
def Fail (R n p : Nat) (s : St) {β : Type} (x : Option ((β ⊕ Nat) × St)) (q : Nat) : Prop := ∃ s' b, x = some (.inr b, s') ∧ Flt s' b q ∧ PF R s s' (8 * (n - p) + 8) (500 * (n - p) + 500)
theorem Fail.go {R n p p1 k m : Nat} {s s1 : St} {β : Type} {x : Option ((β ⊕ Nat) × St)} {q : Nat} (h : Fail R n p1 s1 x q) (f : PF R s s1 k m) (hp : p ≤ p1) (hp2 : p1 ≤ n) (h1 : k ≤ 8 * (p1 - p)) (h2 : m ≤ 500 * (p1 - p)) : Fail R n p s x q := by
  obtain ⟨s', b, e, hf, g⟩ := h
  exact ⟨s', b, e, hf, (f.tr g).le (by omega) (by omega)⟩
theorem RdE.pos {s : St} {R : Nat} {T : Nat → Int} {n p l d m : Nat} (h : RdE s R T n p l d m) : p ≤ n ∧ n ≤ 400 := ⟨h.2.2.2.2.2.1.2.1, h.2.2.2.2.2.1.1⟩
theorem isRd_new {s : St} {R : Nat} {kd : Kd} {k : Nat} (hR : R < sn s) : isRd (newO s kd k) R = isRd s R := by
  unfold isRd isK
  rw [nO_k, if_neg (by omega)]
/-- a fault at the token -/
theorem e_fault {β : Type} {s : St} {R : Nat} {T : Nat → Int} {n p l d m p0 : Nat} (h : RdE s R T n p l d m) (hv : Vd s) (hm : R8 s) {q : Nat} (hq : q = p) : Fail R n p0 s (gd (okN s 7) <| nam (newO s (7, 0) 7) fun s2 => gd (isRd s2 R) <| bnd (F_X8_init s2 (sn s) (si s2 R 3)) fun _ s8 => gd (isK s8 (sn s) 7) <| (some (.inr (sn s), s8) : Option ((β ⊕ Nat) × St))) q := by
  have hR := h.lt hv
  obtain ⟨s', e, hf, hp⟩ := e_X8_init h hv
  unfold R8 at hm
  have e3 : si (newO s (7, 0) 7) R 3 = iI p := by rw [nO_i, if_neg (by omega)]; exact h.2.2.2.2.1.2.2.1
  rw [gd_ok (okN_t (by omega) (by omega)), nam_v, gd_ok (show isRd (newO s (7, 0) 7) R = true by rw [isRd_new hR]; exact h.1), e3, e, bnd_s, isK_g hf.1]
  rw [hq]
  exact ⟨s', _, rfl, hf, hp.le (by omega) (by omega)⟩
theorem e_fault_2 {β : Type} {s : St} {R : Nat} {T : Nat → Int} {n p l d m p0 : Nat} (h : RdE s R T n p l d m) (hv : Vd s) (hm : R8 s) {q : Nat} (hq : q = p) : Fail R n p0 s (gd (okN s 7) <| nam (newO s (7, 0) 7) fun s2 => drf (some R) fun a4 => gd (isRd s2 a4) <| bnd (F_X8_init s2 (sn s) (si s2 a4 3)) fun _ s8 => gd (isK s8 (sn s) 7) <| (some (.inr (sn s), s8) : Option ((β ⊕ Nat) × St))) q := e_fault h hv hm hq
theorem Nx.vd {R : Nat} {s s' : St} (h : Nx R s s') (v : Vd s) : Vd s' := (h.pf (k := 0) (m := 0)).2.2.1 v
/-- need -/
theorem e_X6_need {s : St} {R : Nat} {T : Nat → Int} {n p l d m i : Nat} (h : RdE s R T n p l d m) (hv : Vd s) (hm : R8 s) (hi : i < 45) : (tokIs T n p (strB i) → ∃ s', F_X6_need s R (some (1000000000 + i)) = some (.inl (), s') ∧ RdE s' R T n (nxt T n p) l d m ∧ Nx R s s') ∧ (¬ tokIs T n p (strB i) → Fail R n p s (F_X6_need s R (some (1000000000 + i))) p) := by
  obtain ⟨s1, e1, h1, x1⟩ := e_X6_takes h hi
  unfold tkP at h1
  unfold F_X6_need
  rw [isRd_g h.1, e1, bnd_s, k_0]
  refine ⟨fun a => ?_, fun a => ?_⟩
  · rw [if_pos a] at h1
    rw [if_neg (by rw [bZ_i0]; exact fun z => z a)]
    exact ⟨s1, rfl, h1, x1⟩
  · rw [if_neg a] at h1
    rw [if_pos (by rw [bZ_i0]; exact a)]
    exact (e_fault h1 (x1.vd hv) (hm.nx x1) rfl).go (x1.pf (k := 0) (m := 0)) (Nat.le_refl _) h.pos.1 (by omega) (by omega)
/-- numbers -/
def numP (T : Nat → Int) (n p : Nat) (lo hi : Int) : Prop := isD T n p ∧ lo ≤ numZ T n p ∧ numZ T n p ≤ hi
theorem isD_tk {T : Nat → Int} {n p : Nat} (h : isD T n p) : tkE T n p = rn T n 48 57 (n - p) p := by
  unfold tkE
  rw [if_neg (fun z => by have := z.2.1; have := h.2.2; omega), if_pos h]
theorem e_X6_number_71 {s : St} {R : Nat} {T : Nat → Int} {n p l d m p0 : Nat} (h : RdE s R T n p l d m) (hv : Vd s) (hm : R8 s) {lo hi v : Int} (hlo : 0 ≤ lo ∧ lo ≤ 1000) (hhi : 0 ≤ hi ∧ hi ≤ 1000) (hvr : 0 ≤ v ∧ v ≤ 100000) : (lo ≤ v ∧ v ≤ hi → ∃ s', F_X6_number_71 s (some R) (iI lo) (iI hi) (iI v) = some (.inl (iI v), s') ∧ RdE s' R T n (nxt T n p) l d m ∧ Nx R s s') ∧ (¬ (lo ≤ v ∧ v ≤ hi) → Fail R n p0 s (F_X6_number_71 s (some R) (iI lo) (iI hi) (iI v)) p) := by
  unfold F_X6_number_71 F_X6_number_81
  refine ⟨fun a => ?_, fun a => ?_⟩
  · obtain ⟨s', e, h', hx⟩ := e_X6_next h
    rw [if_neg (by rw [iI_lt (by omega) (by omega)]; omega), if_pos (by rw [iI_le (by omega) (by omega)]; omega), drf_s, isRd_g h.1, e, bnd_s]
    exact ⟨s', rfl, h', hx⟩
  · by_cases b : v < lo
    · rw [if_pos (by rw [iI_lt (by omega) (by omega)]; exact b)]
      exact e_fault_2 h hv hm rfl
    · rw [if_neg (by rw [iI_lt (by omega) (by omega)]; exact b), if_neg (by rw [iI_le (by omega) (by omega)]; omega)]
      exact e_fault_2 h hv hm rfl
theorem e_X6_number_35 {s : St} {R : Nat} {T : Nat → Int} {n p l d m p0 : Nat} (h : RdE s R T n p l d m) (hv : Vd s) (hm : R8 s) (hd : isD T n p) {lo hi : Int} (hlo : 0 ≤ lo ∧ lo ≤ 1000) (hhi : 0 ≤ hi ∧ hi ≤ 1000) : ∀ (j k : Nat) (v : Int), p ≤ k → tkE T n p = j + k → (0 ≤ v ∧ v ≤ 100000) → ∀ fu, j < fu → (lo ≤ dec T j k v ∧ dec T j k v ≤ hi → ∃ s', F_X6_number_35 fu s (some R) (iI lo) (iI hi) (iI v) (iI k) = some (.inl (iI (dec T j k v)), s') ∧ RdE s' R T n (nxt T n p) l d m ∧ Nx R s s') ∧ (¬ (lo ≤ dec T j k v ∧ dec T j k v ≤ hi) → Fail R n p0 s (F_X6_number_35 fu s (some R) (iI lo) (iI hi) (iI v) (iI k)) p) := by
  have hp := h.pos
  have ht := tkE_r (T := T) hp.1
  have hdig : ∀ q, p ≤ q → q < tkE T n p → 48 ≤ T q ∧ T q ≤ 57 := fun q h1 h2 => by
    rw [isD_tk hd] at h2
    exact rn_all _ _ _ h1 h2
  intro j
  induction j with
  | zero =>
    intro k v hk hj hvr fu hfu
    obtain ⟨fu, rfl⟩ : ∃ g, fu = g + 1 := ⟨fu - 1, by omega⟩
    rw [dec, F_X6_number_35]
    show (_ → ∃ s', drf (some R) _ = _ ∧ _) ∧ (_ → Fail R n p0 s (drf (some R) _) p)
    rw [drf_s, isRd_g h.1, h.2.2.2.2.1.2.2.2.1, if_pos (by rw [iI_le (by omega) (by omega)]; omega)]
    exact e_X6_number_71 h hv hm hlo hhi hvr
  | succ j ih =>
    intro k v hk hj hvr fu hfu
    obtain ⟨fu, rfl⟩ : ∃ g, fu = g + 1 := ⟨fu - 1, by omega⟩
    have tk := hdig k hk (by omega)
    have tT := h.T (k := k) (by omega)
    rw [dec, F_X6_number_35]
    show (_ → ∃ s', drf (some R) _ = _ ∧ _) ∧ (_ → Fail R n p0 s (drf (some R) _) p)
    rw [drf_s, isRd_g h.1, h.2.2.2.2.1.2.2.2.1, if_neg (by rw [iI_le (by omega) (by omega)]; omega)]
    by_cases b : hi < v
    · have hg : 10 * v + T k - 48 ≤ dec T j (k + 1) (10 * v + T k - 48) := dec_ge j (k + 1) _ (by omega) (fun q h1 h2 => (hdig q (by omega) (by omega)).1)
      rw [if_pos (by rw [iI_lt (by omega) (by omega)]; exact b)]
      refine ⟨fun a => by omega, fun _ => (e_X6_number_71 h hv hm hlo hhi hvr).2 (by omega)⟩
    · rw [if_neg (by rw [iI_lt (by omega) (by omega)]; exact b), drf_s, isRd_g h.1, h.2.1, drf_s, isK_g (by rw [h.2.2.1]), h.2.2.1, inb_g (by show 0 ≤ (k : Int) ∧ (k : Int) < (400 : Nat) ∧ _; omega), iI_nat (by omega), Int.toNat_natCast, tT.1, k_10, k_48, iI_mul, iI_add, iI_sub, nam_v, k_1, iI_add]
      exact ih (k + 1) (10 * v + T k - 48) (by omega) (by omega) (by omega) fu (by omega)
theorem e_X6_number {s : St} {R : Nat} {T : Nat → Int} {n p l d m p0 : Nat} (h : RdE s R T n p l d m) (hv : Vd s) (hm : R8 s) {lo hi : Int} (hlo : 0 ≤ lo ∧ lo ≤ 1000) (hhi : 0 ≤ hi ∧ hi ≤ 1000) : (numP T n p lo hi → ∃ s', F_X6_number s R (iI lo) (iI hi) = some (.inl (iI (numZ T n p)), s') ∧ RdE s' R T n (nxt T n p) l d m ∧ Nx R s s') ∧ (¬ numP T n p lo hi → Fail R n p0 s (F_X6_number s R (iI lo) (iI hi)) p) := by
  have hp := h.pos
  have ht := tkE_r (T := T) hp.1
  have e3 := h.2.2.2.2.1.2.2.1
  unfold F_X6_number numP
  rw [isRd_g h.1, isRd_g h.1, e3, k_48, k_57, h.b.in (by omega) (by omega) (by omega), bnd_s, k_0]
  by_cases a : isD T n p
  · rw [if_neg (by rw [bZ_i0]; exact fun z => z a), isRd_g h.1, e3]
    have := e_X6_number_35 (p0 := p0) h hv hm a hlo hhi (tkE T n p - p) p 0 (Nat.le_refl _) (by omega) (by omega) FU (FU_ge (by omega))
    exact ⟨fun z => this.1 z.2, fun z => this.2 (fun y => z ⟨a, y⟩)⟩
  · rw [if_pos (by rw [bZ_i0]; exact a)]
    exact ⟨fun z => absurd z.1 a, fun _ => e_fault h hv hm rfl⟩
theorem RdE.set {s : St} {R : Nat} {T : Nat → Int} {n p l d m k : Nat} {v : Nat} (h : RdE s R T n p l d m) (hk : k = 2 ∨ k = 5 ∨ k = 6) : RdE (setI s R k (iI v)) R T n p (if k = 5 then v else l) (if k = 6 then v else d) (if k = 2 then v else m) := by
  obtain ⟨h1, h2, h3, h4, ⟨h5, h6, h7, h8, h9, h10⟩, h11, h12⟩ := h
  refine ⟨h1, h2, h3, fun j hj => by rw [si_set, if_neg h11.2.2.symm]; exact h4 j hj, ⟨?_, ?_, ?_, ?_, ?_, ?_⟩, h11, h12⟩
  · rw [si_set, if_pos rfl, if_neg (by omega)]; exact h5
  · rw [si_set, if_pos rfl]
    by_cases e : k = 2
    · rw [if_pos e.symm, if_pos e]
    · rw [if_neg (fun z => e z.symm), if_neg e]; exact h6
  · rw [si_set, if_pos rfl, if_neg (by omega)]; exact h7
  · rw [si_set, if_pos rfl, if_neg (by omega)]; exact h8
  · rw [si_set, if_pos rfl]
    by_cases e : k = 5
    · rw [if_pos e.symm, if_pos e]
    · rw [if_neg (fun z => e z.symm), if_neg e]; exact h9
  · rw [si_set, if_pos rfl]
    by_cases e : k = 6
    · rw [if_pos e.symm, if_pos e]
    · rw [if_neg (fun z => e z.symm), if_neg e]; exact h10
theorem e_X6_leaf {s : St} {R : Nat} {T : Nat → Int} {n p l d m : Nat} (h : RdE s R T n p l d m) (hv : Vd s) (hm : R8 s) (hl : l ≤ 50) : (l < 50 → ∃ s', F_X6_leaf s R = some (.inl (), s') ∧ RdE s' R T n p (l + 1) d m ∧ Nx R s s') ∧ (l = 50 → Fail R n p s (F_X6_leaf s R) p) := by
  have e5 := h.2.2.2.2.1.2.2.2.2.1
  unfold F_X6_leaf
  rw [isRd_g h.1, e5, k_50, k_1]
  refine ⟨fun a => ?_, fun a => ?_⟩
  · have h' := h.set (k := 5) (v := l + 1) (by omega)
    rw [if_neg (by rw [iI_eq (by omega) (by omega)]; omega), isRd_g h.1, isRd_g h.1, iI_add, nam_v]
    exact ⟨_, rfl, h', Nx.set⟩
  · rw [if_pos (by rw [a]; rfl)]
    exact e_fault h hv hm rfl
theorem e_X6_opens {s : St} {R : Nat} {T : Nat → Int} {n p l d m : Nat} (h : RdE s R T n p l d m) (hv : Vd s) (hm : R8 s) (hd : d ≤ 8) : (d < 8 → ∃ s', F_X6_opens s R = some (.inl (), s') ∧ RdE s' R T n (nxt T n p) l (d + 1) m ∧ Nx R s s') ∧ (d = 8 → Fail R n p s (F_X6_opens s R) p) := by
  have e6 := h.2.2.2.2.1.2.2.2.2.2
  unfold F_X6_opens
  rw [isRd_g h.1, e6, k_8, k_1]
  refine ⟨fun a => ?_, fun a => ?_⟩
  · have h' := h.set (k := 6) (v := d + 1) (by omega)
    have h'' : RdE (setI s R 6 (iI ((d : Int) + 1))) R T n p l (d + 1) m := h'
    obtain ⟨s', e, h2, x2⟩ := e_X6_next h''
    rw [if_neg (by rw [iI_eq (by omega) (by omega)]; omega), isRd_g h.1, isRd_g h.1, iI_add, nam_v, isRd_g h''.1, e, bnd_s]
    exact ⟨s', rfl, h2, Nx.set.tr x2⟩
  · rw [if_pos (by rw [a]; rfl)]
    exact e_fault h hv hm rfl
theorem e_X6_closes {s : St} {R : Nat} {T : Nat → Int} {n p l d m : Nat} (h : RdE s R T n p l (d + 1) m) : RdE (setI s R 6 (si s R 6 - 1)) R T n p l d m := by
  have e6 := h.2.2.2.2.1.2.2.2.2.2
  have h' := h.set (k := 6) (v := d) (by omega)
  rw [e6, k_1, iI_sub, show ((d + 1 : Nat) : Int) - 1 = (d : Int) by omega]
  exact h'
theorem e_X6_begins {s : St} {R : Nat} {T : Nat → Int} {n p l d m : Nat} (h : RdE s R T n p l d m) (hv : Vd s) (hm : R8 s) (hm12 : m ≤ 12) {b : Int} (hb : b = 0 ∨ b = 1) : (m < 12 ∧ b = 1 → ∃ s', F_X6_begins s R (iI b) = some (.inl (), s') ∧ RdE s' R T n p l d (m + 1) ∧ Nx R s s') ∧ (¬ (m < 12 ∧ b = 1) → Fail R n p s (F_X6_begins s R (iI b)) p) := by
  have e2 := h.2.2.2.2.1.2.1
  unfold F_X6_begins F_X6_begins_13
  rw [isRd_g h.1, e2, k_12, k_0, k_1]
  refine ⟨fun a => ?_, fun a => ?_⟩
  · have h' := h.set (k := 2) (v := m + 1) (by omega)
    rw [if_neg (by rw [iI_eq (by omega) (by omega)]; omega), if_neg (by rw [iI_eq (by omega) (by omega)]; omega), isRd_g h.1, isRd_g h.1, iI_add, nam_v]
    exact ⟨_, rfl, h', Nx.set⟩
  · by_cases c : m = 12
    · rw [if_pos (by rw [c]; rfl)]
      exact e_fault_2 h hv hm rfl
    · rw [if_neg (by rw [iI_eq (by omega) (by omega)]; omega), if_pos (by rw [show b = 0 by omega])]
      exact e_fault_2 h hv hm rfl
theorem e_X6_isValue {s : St} {R : Nat} {T : Nat → Int} {n p l d m i : Nat} (h : RdE s R T n p l d m) (hv : Vd s) (hm : R8 s) (hl : l ≤ 50) (hi : i < 45) : (¬ tokIs T n p (strB i) → F_X6_isValue s R (some (1000000000 + i)) = some (.inl (iI 0), s)) ∧ (tokIs T n p (strB i) → l < 50 → ∃ s', F_X6_isValue s R (some (1000000000 + i)) = some (.inl (iI 1), s') ∧ RdE s' R T n (nxt T n p) (l + 1) d m ∧ Nx R s s') ∧ (tokIs T n p (strB i) → l = 50 → Fail R n p s (F_X6_isValue s R (some (1000000000 + i))) p) := by
  unfold F_X6_isValue
  rw [isRd_g h.1, e_X6_is h hi, bnd_s, k_0, k_1]
  refine ⟨fun a => ?_, fun a b => ?_, fun a b => ?_⟩
  · rw [if_pos (by rw [bZ_i0]; exact a)]
  · obtain ⟨s1, e1, h1, x1⟩ := (e_X6_leaf h hv hm hl).1 b
    obtain ⟨s2, e2, h2, x2⟩ := e_X6_next h1
    rw [if_neg (by rw [bZ_i0]; exact fun z => z a), isRd_g h.1, e1, bnx_il, isRd_g h1.1, e2, bnd_s]
    exact ⟨s2, rfl, h2, x1.tr x2⟩
  · obtain ⟨s1, b1, e1, f1, p1⟩ := (e_X6_leaf h hv hm hl).2 b
    rw [if_neg (by rw [bZ_i0]; exact fun z => z a), isRd_g h.1, e1, bnx_ir]
    exact ⟨s1, b1, rfl, f1, p1⟩
