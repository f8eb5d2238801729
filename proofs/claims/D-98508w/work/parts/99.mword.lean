set_option maxRecDepth 100000
/-! ===== the model's reader: words, signs, numbers ===== -/
theorem tk_L {T : Nat → Int} {n p : Nat} (h : isL T n p) : ∀ k, k < tkE T n p - p → 97 ≤ T (p + k) ∧ T (p + k) ≤ 122 := fun k hk => by
  have e : tkE T n p = rn T n 97 122 (n - p) p := by unfold tkE; rw [if_pos h]
  rw [e] at hk
  exact rn_all (n := n) (n - p) p (p + k) (by omega) (by omega)
theorem tk_D {T : Nat → Int} {n p : Nat} (h : isD T n p) : ∀ k, k < tkE T n p - p → 48 ≤ T (p + k) ∧ T (p + k) ≤ 57 := fun k hk => by
  rw [isD_tk h] at hk
  exact rn_all (n := n) (n - p) p (p + k) (by omega) (by omega)
theorem hsh_inj {T U : Nat → Int} {p q : Nat} : ∀ (m k : Nat), (∀ i, i < m → 97 ≤ T (p + i) ∧ T (p + i) ≤ 122) → (∀ i, i < k → 97 ≤ U (q + i) ∧ U (q + i) ≤ 122) → hsh T p m = hsh U q k → m = k ∧ ∀ i, i < m → T (p + i) = U (q + i) := by
  intro m
  induction m with
  | zero =>
    intro k h1 h2 e
    cases k with
    | zero => exact ⟨rfl, fun i hi => by omega⟩
    | succ k =>
      have := hsh_r k fun i hi => h2 i (by omega)
      have := h2 k (by omega)
      rw [hsh, hsh] at e
      omega
  | succ m ih =>
    intro k h1 h2 e
    have a1 := hsh_r m fun i hi => h1 i (by omega)
    have a2 := h1 m (by omega)
    cases k with
    | zero =>
      rw [hsh, hsh] at e
      omega
    | succ k =>
      have b1 := hsh_r k fun i hi => h2 i (by omega)
      have b2 := h2 k (by omega)
      rw [hsh, hsh] at e
      have e1 : hsh T p m = hsh U q k := by omega
      obtain ⟨c1, c2⟩ := ih k (fun i hi => h1 i (by omega)) (fun i hi => h2 i (by omega)) e1
      refine ⟨by omega, fun i hi => ?_⟩
      by_cases d : i = m
      · rw [d]
        subst c1
        omega
      · exact c2 i (by omega)
theorem hsh_eq {T U : Nat → Int} {p q : Nat} : ∀ (m : Nat), (∀ i, i < m → T (p + i) = U (q + i)) → hsh T p m = hsh U q m
  | 0, _ => rfl
  | m + 1, h => by rw [hsh, hsh, hsh_eq m fun i hi => h i (by omega), h m (by omega)]
def hsL (l : List Int) : Int := hsh (fun k => l.getD k 0) 0 l.length
/-- a word of letters -/
def wdL (l : List Int) : Prop := (1 ≤ l.length ∧ l.length ≤ 8) ∧ ∀ k, k < l.length → 97 ≤ l.getD k 0 ∧ l.getD k 0 ≤ 122
theorem wd_is {T : Nat → Int} {n p : Nat} (hp : p ≤ n) {l : List Int} (hl : wdL l) : tokIs T n p l ↔ sortZ T n p = 1 ∧ worZ T n p = hsL l := by
  obtain ⟨h1, h2⟩ := hl
  have hc : ∀ i, i < l.length → 97 ≤ (fun k => l.getD k 0) (0 + i) ∧ (fun k => l.getD k 0) (0 + i) ≤ 122 := fun i hi => by
    rw [Nat.zero_add]
    exact h2 i hi
  constructor
  · intro h
    have ht := tkE_r (T := T) hp
    have hL : isL T n p := by
      have := h.2 0 (by omega)
      have := h2 0 (by omega)
      rw [Nat.add_zero] at *
      exact ⟨by have := h.1; omega, by omega, by omega⟩
    unfold sortZ worZ
    rw [if_pos hL, if_pos hL, h.1, show p + l.length - p = l.length by omega]
    refine ⟨rfl, ?_⟩
    unfold hsC hsL
    rw [if_pos (by omega)]
    exact hsh_eq _ fun i hi => by rw [Nat.zero_add]; exact h.2 i hi
  · rintro ⟨h3, h4⟩
    have hL : isL T n p := by
      by_cases a : isL T n p
      · exact a
      · exfalso
        unfold sortZ at h3
        rw [if_neg a] at h3
        split at h3
        · omega
        · split at h3 <;> omega
    have ht := tkE_r (T := T) hp
    unfold worZ at h4
    rw [if_pos hL] at h4
    have hT := tk_L hL
    unfold hsC hsL at h4
    have hr := hsh_r (T := fun k => l.getD k 0) (p := 0) l.length hc
    by_cases a : tkE T n p - p ≤ 10
    · rw [if_pos a] at h4
      obtain ⟨c1, c2⟩ := hsh_inj _ _ hT hc h4
      refine ⟨by omega, fun k hk => ?_⟩
      have := c2 k (by omega)
      rw [Nat.zero_add] at this
      exact this
    · rw [if_neg a] at h4
      omega
theorem sortZ_r {T : Nat → Int} {n p : Nat} : 0 ≤ sortZ T n p ∧ sortZ T n p ≤ 3 := by
  unfold sortZ
  split
  · omega
  · split
    · omega
    · split <;> omega
theorem worZ_r {T : Nat → Int} {n p : Nat} : -1 ≤ worZ T n p ∧ worZ T n p ≤ 1125899906842624 := by
  unfold worZ
  split
  · rename_i h
    exact hsC_r (tk_L h)
  · split
    · rename_i h
      have := dgC_r _ (tk_D h)
      omega
    · split <;> omega
theorem hsL_r {l : List Int} (hl : wdL l) : 0 ≤ hsL l ∧ hsL l ≤ 1125899906842624 := by
  obtain ⟨h1, h2⟩ := hl
  have hc : ∀ i, i < l.length → 97 ≤ (fun k => l.getD k 0) (0 + i) ∧ (fun k => l.getD k 0) (0 + i) ≤ 122 := fun i hi => by
    rw [Nat.zero_add]
    exact h2 i hi
  have h3 := hsh_r (T := fun k => l.getD k 0) (p := 0) l.length hc
  have h4 := p32 (j := l.length) (by omega)
  unfold hsL
  omega
theorem e_X5_isWord {t : St} {T : Nat → Int} {n p : Nat} (h : TkE t T n p) {l : List Int} (hl : wdL l) {c : Int} (hc : c = hsL l) : F_X5_isWord t (lI c) = some (iI (bZ (tokIs T n p l)), t) := by
  obtain ⟨-, hp, -, -, h17, h18⟩ := h
  have h1 := sortZ_r (T := T) (n := n) (p := p)
  have h2 := worZ_r (T := T) (n := n) (p := p)
  have h3 := hsL_r hl
  have hi := wd_is (T := T) hp hl
  unfold F_X5_isWord
  rw [h17, h18, k_0, k_1]
  by_cases a : sortZ T n p = 1
  · rw [if_pos (by rw [a])]
    by_cases b : worZ T n p = hsL l
    · rw [if_pos (by rw [b, hc]), bZ_t (hi.mpr ⟨a, b⟩)]
    · rw [if_neg (by rw [lI_eq (by omega) (by omega)]; omega), bZ_f (fun z => b (hi.mp z).2)]
  · rw [if_neg (by rw [iI_eq (by omega) (by omega)]; omega), bZ_f (fun z => a (hi.mp z).1)]
/-- a sign -/
def sgC (c : Int) : Prop := (33 ≤ c ∧ c ≤ 47) ∨ (58 ≤ c ∧ c ≤ 96)
theorem sg_is {t : St} {T : Nat → Int} {n p : Nat} (h : TkE t T n p) {c : Int} (hc : sgC c) : tokIs T n p [c] ↔ sortZ T n p = 3 ∧ worZ T n p = c := by
  have hp := h.2.1
  have ht := tkE_r (T := T) hp
  constructor
  · intro h'
    have e := h'.2 0 (by show 0 < 1; omega)
    have e2 : T p = c := e
    have e1 : tkE T n p = p + 1 := h'.1
    unfold sgC at hc
    have a : ¬ isL T n p := fun z => by have := z.2; omega
    have b : ¬ isD T n p := fun z => by have := z.2; omega
    unfold sortZ worZ
    rw [if_neg a, if_neg b, if_pos (by omega), if_neg a, if_neg b, if_pos (by omega)]
    omega
  · rintro ⟨h3, h4⟩
    by_cases a : isL T n p
    · exfalso
      unfold sortZ at h3
      rw [if_pos a] at h3
      omega
    · by_cases b : isD T n p
      · exfalso
        unfold sortZ at h3
        rw [if_neg a, if_pos b] at h3
        omega
      · by_cases d : p < n
        · have hT := (h.1.at d).2
          unfold worZ at h4
          rw [if_neg a, if_neg b, if_pos d] at h4
          unfold sgC at hc
          refine ⟨?_, fun k hk => ?_⟩
          · unfold tkE
            rw [if_neg a, if_neg b, if_pos d]
            rfl
          · have : k = 0 := by have : k < 1 := hk; omega
            subst this
            show T p = c
            omega
        · exfalso
          unfold sortZ at h3
          rw [if_neg a, if_neg b, if_neg d] at h3
          omega
theorem e_X5_isSign {t : St} {T : Nat → Int} {n p : Nat} (h : TkE t T n p) {c : Int} (hc : sgC c) : F_X5_isSign t (iI c) = some (iI (bZ (tokIs T n p [c])), t) := by
  have hi := sg_is h hc
  obtain ⟨-, hp, -, -, h17, h18⟩ := h
  have h1 := sortZ_r (T := T) (n := n) (p := p)
  have h2 := worZ_r (T := T) (n := n) (p := p)
  have hc2 := hc
  unfold sgC at hc2
  unfold F_X5_isSign
  rw [h17, h18, iI_l (by omega), k_0, k_1, k_3]
  by_cases a : sortZ T n p = 3
  · rw [if_pos (by rw [a])]
    by_cases b : worZ T n p = c
    · rw [if_pos (by rw [b]), bZ_t (hi.mpr ⟨a, b⟩)]
    · rw [if_neg (by rw [lI_eq (by omega) (by omega)]; omega), bZ_f (fun z => b (hi.mp z).2)]
  · rw [if_neg (by rw [iI_eq (by omega) (by omega)]; omega), bZ_f (fun z => a (hi.mp z).1)]
/-! must -/
def Smu (a j : Nat) : Prop := Stk a j ∨ (a = 0 ∧ (j = 19 ∨ j = 20))
/-- at a token and well; or the fault is noted -/
def TkG (t : St) (T : Nat → Int) (n p : Nat) : Prop := TkE t T n p ∧ si t 0 20 = iI 0 ∧ si t 0 19 = iI (-1)
def TkF (t : St) (T : Nat → Int) (n q : Nat) : Prop := TkB t T n ∧ si t 0 20 = iI 1 ∧ si t 0 19 = iI q ∧ q ≤ n
theorem TkG.go {S : Nat → Nat → Prop} {t t' : St} {T : Nat → Int} {n p : Nat} (h : TkG t T n p) (hf : Fm S t t') (hS : (∀ j, 14 ≤ j → j ≤ 20 → ¬ S 0 j) ∧ (∀ k, ¬ S 10 k) ∧ ¬ S 100 18) : TkG t' T n p := ⟨h.1.go hf ⟨fun j h1 h2 => hS.1 j h1 (by omega), hS.2⟩, by rw [hf.i _ _ (hS.1 20 (by omega) (by omega))]; exact h.2.1, by rw [hf.i _ _ (hS.1 19 (by omega) (by omega))]; exact h.2.2⟩
theorem TkF.go {S : Nat → Nat → Prop} {t t' : St} {T : Nat → Int} {n p : Nat} (h : TkF t T n p) (hf : Fm S t t') (hS : ¬ S 0 14 ∧ ¬ S 0 19 ∧ ¬ S 0 20 ∧ ∀ k, ¬ S 10 k) : TkF t' T n p := ⟨h.1.go hf ⟨hS.1, hS.2.2.2⟩, by rw [hf.i _ _ hS.2.2.1]; exact h.2.1, by rw [hf.i _ _ hS.2.1]; exact h.2.2.1, h.2.2.2⟩
theorem g_next {t : St} {T : Nat → Int} {n p : Nat} (h : TkG t T n p) : ∃ t', F_X5_next t = some ((), t') ∧ TkG t' T n (nxt T n p) ∧ Fm Stk t t' := by
  obtain ⟨t', e, h1, f⟩ := e_X5_next h.1
  exact ⟨t', e, ⟨h1, by rw [f.i _ _ (by unfold Stk; omega)]; exact h.2.1, by rw [f.i _ _ (by unfold Stk; omega)]; exact h.2.2⟩, f⟩
theorem e_must_1 {t : St} {T : Nat → Int} {n p : Nat} (h : TkG t T n p) : ∃ t', F_X5_must t (iI 1) = some ((), t') ∧ TkG t' T n (nxt T n p) ∧ Fm Stk t t' := by
  obtain ⟨t', e, h1, f⟩ := g_next h
  refine ⟨t', ?_, h1, f⟩
  unfold F_X5_must F_X5_must_24
  rw [k_0, h.2.1, if_pos rfl, if_neg (by decide), if_pos rfl, e, bnd_s]
theorem e_must_0 {t : St} {T : Nat → Int} {n p : Nat} (h : TkG t T n p) : ∃ t', F_X5_must t (iI 0) = some ((), t') ∧ TkF t' T n p ∧ Fm (fun a j => a = 0 ∧ (j = 19 ∨ j = 20)) t t' := by
  obtain ⟨⟨hB, hp, h15, h16, h17, h18⟩, h20, -⟩ := h
  have f : Fm (fun a j => a = 0 ∧ (j = 19 ∨ j = 20)) t (setI (setI t 0 20 (iI 1)) 0 19 (iI p)) := (Fm.set (by omega)).tr (Fm.set (by omega))
  have e20 : si (setI (setI t 0 20 (iI 1)) 0 19 (iI p)) 0 20 = iI 1 := rfl
  unfold F_X5_must F_X5_must_24
  rw [k_0, h20, if_pos rfl, if_pos rfl, k_1, nam_v, show si (setI t 0 20 (iI 1)) 0 15 = iI p from h15, nam_v, e20, if_neg (by decide)]
  exact ⟨_, rfl, ⟨hB.go f ⟨by omega, fun k => by omega⟩, e20, rfl, hp⟩, f⟩
theorem e_must {t : St} {T : Nat → Int} {n p : Nat} (h : TkG t T n p) {P : Prop} : (P → ∃ t', F_X5_must t (iI (bZ P)) = some ((), t') ∧ TkG t' T n (nxt T n p) ∧ Fm Smu t t') ∧ (¬ P → ∃ t', F_X5_must t (iI (bZ P)) = some ((), t') ∧ TkF t' T n p ∧ Fm Smu t t') := by
  constructor
  · intro z
    rw [bZ_t z]
    obtain ⟨t', e, h1, f⟩ := e_must_1 h
    exact ⟨t', e, h1, f.le fun _ _ => Or.inl⟩
  · intro z
    rw [bZ_f z]
    obtain ⟨t', e, h1, f⟩ := e_must_0 h
    exact ⟨t', e, h1, f.le fun _ _ => Or.inr⟩
/-! numbers -/
theorem dec_sn {T : Nat → Int} : ∀ (j p : Nat) (v : Int), dec T (j + 1) p v = 10 * dec T j p v + T (p + j) - 48
  | 0, p, v => rfl
  | j + 1, p, v => by
    rw [dec, dec_sn j (p + 1), dec, show p + 1 + j = p + (j + 1) by omega]
theorem dgC_d {T : Nat → Int} {p : Nat} : ∀ (j : Nat), (∀ k, k < j → 48 ≤ T (p + k) ∧ T (p + k) ≤ 57) → dgC T p j = dec T j p 0 ∨ (1000000 < dgC T p j ∧ 1000000 < dec T j p 0)
  | 0, _ => Or.inl rfl
  | j + 1, h => by
    have h1 := dgC_d j fun k hk => h k (by omega)
    have h2 := h j (by omega)
    have h3 := dec_sn (T := T) j p 0
    have e : dgC T p (j + 1) = if 1000000 < dgC T p j then dgC T p j else dgC T p j * 10 + T (p + j) - 48 := rfl
    rw [e, h3]
    split <;> omega
theorem wor_D {T : Nat → Int} {n p : Nat} (h : isD T n p) : sortZ T n p = 2 ∧ (worZ T n p = numZ T n p ∨ (1000000 < worZ T n p ∧ 1000000 < numZ T n p)) := by
  have a : ¬ isL T n p := fun z => by have := z.2; have := h.2; omega
  unfold sortZ worZ numZ
  rw [if_neg a, if_pos h, if_neg a, if_pos h]
  exact ⟨rfl, dgC_d _ (tk_D h)⟩
theorem sort_D {T : Nat → Int} {n p : Nat} (h : ¬ isD T n p) : sortZ T n p ≠ 2 := by
  unfold sortZ
  rw [if_neg h]
  split
  · omega
  · split <;> omega
theorem e_X5_number {t : St} {T : Nat → Int} {n p : Nat} (h : TkG t T n p) {lo hi : Int} (hlo : 0 ≤ lo ∧ lo ≤ 1000) (hhi : 0 ≤ hi ∧ hi ≤ 1000) : (numP T n p lo hi → ∃ t', F_X5_number t (lI lo) (lI hi) = some (iI (numZ T n p), t') ∧ TkG t' T n (nxt T n p) ∧ Fm Smu t t') ∧ (¬ numP T n p lo hi → ∃ t' v, F_X5_number t (lI lo) (lI hi) = some (v, t') ∧ TkF t' T n p ∧ Fm Smu t t') := by
  have h17 := h.1.2.2.2.2.1
  have h18 := h.1.2.2.2.2.2
  have hr := worZ_r (T := T) (n := n) (p := p)
  have hs := sortZ_r (T := T) (n := n) (p := p)
  have bad : ∃ t', F_X5_must t (iI 0) = some ((), t') ∧ TkF t' T n p ∧ Fm Smu t t' := by
    obtain ⟨t', e, h1, f⟩ := e_must_0 h
    exact ⟨t', e, h1, f.le fun _ _ => Or.inr⟩
  unfold F_X5_number F_X5_number_32 F_X5_number_33
  rw [h17, h18, k_2, k_0, k_1]
  constructor
  · rintro ⟨hD, h1, h2⟩
    obtain ⟨hs2, hw⟩ := wor_D hD
    have hw : worZ T n p = numZ T n p := by omega
    obtain ⟨t', e, h3, f⟩ := e_must_1 h
    rw [hs2, if_pos rfl, e_X5_in t (by omega) (by omega) (by omega), bnd_s, if_neg (by rw [bZ_i0]; omega), e, bnd_s, hw, lI_i (by omega)]
    exact ⟨t', rfl, h3, f.le fun _ _ => Or.inl⟩
  · intro hn
    obtain ⟨t', e, h3, f⟩ := bad
    by_cases a : isD T n p
    · obtain ⟨hs2, hw⟩ := wor_D a
      have : ¬ (lo ≤ worZ T n p ∧ worZ T n p ≤ hi) := fun z => hn ⟨a, by omega, by omega⟩
      rw [hs2, if_pos rfl, e_X5_in t (by omega) (by omega) (by omega), bnd_s, if_pos (by rw [bZ_i0]; exact this), e, bnd_s]
      exact ⟨t', _, rfl, h3, f⟩
    · have := sort_D a
      rw [if_neg (by rw [iI_eq (by omega) (by omega)]; exact this), e, bnd_s]
      exact ⟨t', _, rfl, h3, f⟩
