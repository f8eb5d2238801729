set_option maxRecDepth 100000
/-! ===== texts: tokens ===== -/
def rn (T : Nat → Int) (n : Nat) (lo hi : Int) : Nat → Nat → Nat
  | 0, p => p
  | k + 1, p => if p < n ∧ lo ≤ T p ∧ T p ≤ hi then rn T n lo hi k (p + 1) else p
theorem rn_r {T : Nat → Int} {n : Nat} {lo hi : Int} : ∀ (k p : Nat), p ≤ rn T n lo hi k p ∧ (p ≤ n → rn T n lo hi k p ≤ n)
  | 0, p => ⟨Nat.le_refl _, fun h => h⟩
  | k + 1, p => by
    rw [rn]
    have := rn_r (T := T) (n := n) (lo := lo) (hi := hi) k (p + 1)
    split
    · rename_i h
      exact ⟨by omega, fun _ => this.2 (by omega)⟩
    · exact ⟨Nat.le_refl _, fun h => h⟩
def isL (T : Nat → Int) (n p : Nat) : Prop := p < n ∧ 97 ≤ T p ∧ T p ≤ 122
def isD (T : Nat → Int) (n p : Nat) : Prop := p < n ∧ 48 ≤ T p ∧ T p ≤ 57
noncomputable def tkE (T : Nat → Int) (n p : Nat) : Nat := @ite _ (isL T n p) (Classical.propDecidable _) (rn T n 97 122 (n - p) p) (@ite _ (isD T n p) (Classical.propDecidable _) (rn T n 48 57 (n - p) p) (if p < n then p + 1 else p))
def skp (T : Nat → Int) (n p : Nat) : Nat := rn T n 32 32 (n - p) p
noncomputable def nxt (T : Nat → Int) (n p : Nat) : Nat := skp T n (tkE T n p)
theorem rn_s {T : Nat → Int} {n : Nat} {lo hi : Int} {k p : Nat} (h : p < n ∧ lo ≤ T p ∧ T p ≤ hi) : rn T n lo hi (k + 1) p = rn T n lo hi k (p + 1) := by
  rw [rn, if_pos h]
theorem tkE_r {T : Nat → Int} {n p : Nat} (hp : p ≤ n) : p ≤ tkE T n p ∧ tkE T n p ≤ n ∧ (p < n → p < tkE T n p) := by
  unfold tkE
  have h1 := rn_r (T := T) (n := n) (lo := 97) (hi := 122) (n - p) p
  have h2 := rn_r (T := T) (n := n) (lo := 48) (hi := 57) (n - p) p
  split
  · rename_i h
    refine ⟨h1.1, h1.2 hp, fun hn => ?_⟩
    obtain ⟨k, hk⟩ : ∃ k, n - p = k + 1 := ⟨n - p - 1, by omega⟩
    rw [hk, rn_s h]
    have := (rn_r (T := T) (n := n) (lo := 97) (hi := 122) k (p + 1)).1
    omega
  · split
    · rename_i h
      refine ⟨h2.1, h2.2 hp, fun hn => ?_⟩
      obtain ⟨k, hk⟩ : ∃ k, n - p = k + 1 := ⟨n - p - 1, by omega⟩
      rw [hk, rn_s h]
      have := (rn_r (T := T) (n := n) (lo := 48) (hi := 57) k (p + 1)).1
      omega
    · split <;> omega
theorem nxt_r {T : Nat → Int} {n p : Nat} (hp : p ≤ n) : p ≤ nxt T n p ∧ nxt T n p ≤ n ∧ (p < n → p < nxt T n p) := by
  have h := tkE_r (T := T) hp
  have h2 := rn_r (T := T) (n := n) (lo := 32) (hi := 32) (n - tkE T n p) (tkE T n p)
  unfold nxt skp
  exact ⟨by omega, h2.2 h.2.1, fun hn => by have := h.2.2 hn; omega⟩
/-- the token at p is this -/
def tokIs (T : Nat → Int) (n p : Nat) (l : List Int) : Prop := tkE T n p = p + l.length ∧ ∀ k, k < l.length → T (p + k) = l.getD k 0
/-- a reader at a token: p, leaves l, deep d, clauses m -/
def RdE (s : St) (R : Nat) (T : Nat → Int) (n p l d m : Nat) : Prop :=
  isRd s R = true ∧ sr s R 0 = some 19 ∧ sk s 19 = (102, 400) ∧ (∀ k, k < 400 → si s 19 k = iI (T k)) ∧ (si s R 1 = iI n ∧ si s R 2 = iI m ∧ si s R 3 = iI p ∧ si s R 4 = iI (tkE T n p : Nat) ∧ si s R 5 = iI l ∧ si s R 6 = iI d) ∧ (n ≤ 400 ∧ p ≤ n ∧ R ≠ 19) ∧ (∀ k, k < 400 → -128 ≤ T k ∧ T k ≤ 127)
theorem isRd_1 {s : St} {x k a : Nat} {v : Int32} : isRd (setI s x k v) a = isRd s a := rfl
theorem isRd_g {α : Type} {s : St} {R : Nat} {x : Option α} (h : isRd s R = true) : gd (isRd s R) x = x := gd_ok h
theorem e_X6_isIn {s : St} {R : Nat} {T : Nat → Int} {n : Nat} (h1 : isRd s R = true) (h2 : sr s R 0 = some 19) (h3 : sk s 19 = (102, 400)) (h4 : ∀ k, k < 400 → si s 19 k = iI (T k)) (h5 : si s R 1 = iI n) (h6 : n ≤ 400) (h7 : ∀ k, k < 400 → -128 ≤ T k ∧ T k ≤ 127) {k : Nat} (hk : k ≤ 1000) {lo hi : Int} (hl : 0 ≤ lo ∧ lo ≤ 200) (hh : 0 ≤ hi ∧ hi ≤ 200) : F_X6_isIn s R (iI k) (iI lo) (iI hi) = some (iI (bZ (k < n ∧ lo ≤ T k ∧ T k ≤ hi)), s) := by
  unfold F_X6_isIn
  rw [isRd_g h1, h5, k_0, k_1]
  by_cases a1 : k < n
  · have t := h7 k (by omega)
    rw [if_neg (by rw [iI_le (by omega) (by omega)]; omega), isRd_g h1, h2, drf_s, isK_g (by rw [h3]), h3, inb_g (by show 0 ≤ (k : Int) ∧ (k : Int) < (400 : Nat) ∧ _; omega), iI_nat (by omega), Int.toNat_natCast, h4 k (by omega)]
    by_cases a2 : T k < lo
    · rw [if_pos (by rw [iI_lt (by omega) (by omega)]; exact a2), bZ_f (fun z => by omega)]
    · rw [if_neg (by rw [iI_lt (by omega) (by omega)]; exact a2), isRd_g h1, drf_s, isK_g (by rw [h3]), h3, inb_g (by show 0 ≤ (k : Int) ∧ (k : Int) < (400 : Nat) ∧ _; omega), h4 k (by omega)]
      by_cases a3 : hi < T k
      · rw [if_pos (by rw [iI_lt (by omega) (by omega)]; exact a3), bZ_f (fun z => by omega)]
      · rw [if_neg (by rw [iI_lt (by omega) (by omega)]; exact a3), bZ_t ⟨a1, by omega, by omega⟩]
  · rw [if_pos (by rw [iI_le (by omega) (by omega)]; omega), bZ_f (fun z => a1 z.1)]
/-- a reader but for where it is -/
def RdB (s : St) (R : Nat) (T : Nat → Int) (n l d m : Nat) : Prop :=
  isRd s R = true ∧ sr s R 0 = some 19 ∧ sk s 19 = (102, 400) ∧ (∀ k, k < 400 → si s 19 k = iI (T k)) ∧ (si s R 1 = iI n ∧ si s R 2 = iI m ∧ si s R 5 = iI l ∧ si s R 6 = iI d) ∧ (n ≤ 400 ∧ R ≠ 19) ∧ (∀ k, k < 400 → -128 ≤ T k ∧ T k ≤ 127)
theorem RdE.b {s : St} {R : Nat} {T : Nat → Int} {n p l d m : Nat} (h : RdE s R T n p l d m) : RdB s R T n l d m := ⟨h.1, h.2.1, h.2.2.1, h.2.2.2.1, ⟨h.2.2.2.2.1.1, h.2.2.2.2.1.2.1, h.2.2.2.2.1.2.2.2.2.1, h.2.2.2.2.1.2.2.2.2.2⟩, ⟨h.2.2.2.2.2.1.1, h.2.2.2.2.2.1.2.2⟩, h.2.2.2.2.2.2⟩
theorem RdB.e {s : St} {R : Nat} {T : Nat → Int} {n p l d m : Nat} (h : RdB s R T n l d m) (hp : p ≤ n) (h3 : si s R 3 = iI p) (h4 : si s R 4 = iI (tkE T n p : Nat)) : RdE s R T n p l d m := ⟨h.1, h.2.1, h.2.2.1, h.2.2.2.1, ⟨h.2.2.2.2.1.1, h.2.2.2.2.1.2.1, h3, h4, h.2.2.2.2.1.2.2.1, h.2.2.2.2.1.2.2.2⟩, ⟨h.2.2.2.2.2.1.1, hp, h.2.2.2.2.2.1.2⟩, h.2.2.2.2.2.2⟩
theorem RdB.set {s : St} {R : Nat} {T : Nat → Int} {n l d m k : Nat} {v : Int32} (h : RdB s R T n l d m) (hk : k = 3 ∨ k = 4) : RdB (setI s R k v) R T n l d m := by
  obtain ⟨h1, h2, h3, h4, ⟨h5, h6, h7, h8⟩, h9, h10⟩ := h
  refine ⟨h1, h2, h3, fun j hj => by rw [si_set, if_neg h9.2.symm]; exact h4 j hj, ⟨?_, ?_, ?_, ?_⟩, h9, h10⟩
  · rw [si_set, if_pos rfl, if_neg (by omega)]; exact h5
  · rw [si_set, if_pos rfl, if_neg (by omega)]; exact h6
  · rw [si_set, if_pos rfl, if_neg (by omega)]; exact h7
  · rw [si_set, if_pos rfl, if_neg (by omega)]; exact h8
theorem RdB.in {s : St} {R : Nat} {T : Nat → Int} {n l d m : Nat} (h : RdB s R T n l d m) {k : Nat} (hk : k ≤ 1000) {lo hi : Int} (hl : 0 ≤ lo ∧ lo ≤ 200) (hh : 0 ≤ hi ∧ hi ≤ 200) : F_X6_isIn s R (iI k) (iI lo) (iI hi) = some (iI (bZ (k < n ∧ lo ≤ T k ∧ T k ≤ hi)), s) :=
  e_X6_isIn h.1 h.2.1 h.2.2.1 h.2.2.2.1 h.2.2.2.2.1.1 h.2.2.2.2.2.1.1 h.2.2.2.2.2.2 hk hl hh
/-- only where the reader is has changed -/
def Nx (R : Nat) (s s' : St) : Prop := sk s' = sk s ∧ sr s' = sr s ∧ sl s' = sl s ∧ (sn s' = sn s ∧ ss s' = ss s ∧ smx s' = smx s ∧ sms s' = sms s) ∧ (∀ x, x ≠ R → si s' x = si s x)
theorem Nx.rf {R : Nat} {s : St} : Nx R s s := ⟨rfl, rfl, rfl, ⟨rfl, rfl, rfl, rfl⟩, fun _ _ => rfl⟩
theorem Nx.tr {R : Nat} {s s1 s2 : St} (h : Nx R s s1) (g : Nx R s1 s2) : Nx R s s2 := ⟨g.1.trans h.1, g.2.1.trans h.2.1, g.2.2.1.trans h.2.2.1, ⟨g.2.2.2.1.1.trans h.2.2.2.1.1, g.2.2.2.1.2.1.trans h.2.2.2.1.2.1, g.2.2.2.1.2.2.1.trans h.2.2.2.1.2.2.1, g.2.2.2.1.2.2.2.trans h.2.2.2.1.2.2.2⟩, fun x hx => (g.2.2.2.2 x hx).trans (h.2.2.2.2 x hx)⟩
theorem Nx.set {R : Nat} {s : St} {k : Nat} {v : Int32} : Nx R s (setI s R k v) := ⟨rfl, rfl, rfl, ⟨rfl, rfl, rfl, rfl⟩, fun x hx => by
  funext j
  rw [si_set, if_neg hx]⟩
theorem e_X6_next_59 {R : Nat} {T : Nat → Int} {n l d m : Nat} : ∀ (k p : Nat) (s : St), RdB s R T n l d m → p ≤ n → si s R 4 = iI p → n - p = k → ∀ fu, k < fu → ∃ s', F_X6_next_59 fu s (some R) = some ((), s') ∧ RdB s' R T n l d m ∧ si s' R 3 = si s R 3 ∧ si s' R 4 = iI (rn T n 97 122 k p : Nat) ∧ Nx R s s' := by
  intro k
  induction k with
  | zero =>
    intro p s h hp h4 hk fu hfu
    obtain ⟨fu, rfl⟩ : ∃ g, fu = g + 1 := ⟨fu - 1, by omega⟩
    have hn := h.2.2.2.2.2.1.1
    refine ⟨s, ?_, h, rfl, h4, Nx.rf⟩
    rw [F_X6_next_59]
    show drf (some R) _ = _
    rw [drf_s, isRd_g h.1, drf_s, isRd_g h.1, h4, k_97, k_122, h.in (by omega) (by omega) (by omega), bnd_s, if_pos (by rw [k_0, bZ_i0]; omega)]
  | succ k ih =>
    intro p s h hp h4 hk fu hfu
    obtain ⟨fu, rfl⟩ : ∃ g, fu = g + 1 := ⟨fu - 1, by omega⟩
    have hn := h.2.2.2.2.2.1.1
    rw [F_X6_next_59, rn]
    show ∃ s', drf (some R) _ = _ ∧ _
    rw [drf_s, isRd_g h.1, drf_s, isRd_g h.1, h4, k_97, k_122, h.in (by omega) (by omega) (by omega), bnd_s, k_0, k_1]
    by_cases a : p < n ∧ 97 ≤ T p ∧ T p ≤ 122
    · obtain ⟨s', e, q1, q2, q3, q4⟩ := ih (p + 1) (setI s R 4 (iI ((p + 1 : Nat) : Int))) (h.set (Or.inr rfl)) (by omega) (by rw [si_set, if_pos rfl, if_pos rfl]) (by omega) fu (by omega)
      rw [if_neg (by rw [bZ_i0]; exact fun z => z a), if_pos a, drf_s, isRd_g h.1, drf_s, isRd_g h.1, h4, iI_add, nam_v]
      refine ⟨s', e, q1, ?_, q3, Nx.set.tr q4⟩
      rw [q2, si_set, if_pos rfl, if_neg (by decide)]
    · rw [if_pos (by rw [bZ_i0]; exact a), if_neg a]
      exact ⟨s, rfl, h, rfl, h4, Nx.rf⟩
theorem e_X6_next_102 {R : Nat} {T : Nat → Int} {n l d m : Nat} : ∀ (k p : Nat) (s : St), RdB s R T n l d m → p ≤ n → si s R 4 = iI p → n - p = k → ∀ fu, k < fu → ∃ s', F_X6_next_102 fu s (some R) = some ((), s') ∧ RdB s' R T n l d m ∧ si s' R 3 = si s R 3 ∧ si s' R 4 = iI (rn T n 48 57 k p : Nat) ∧ Nx R s s' := by
  intro k
  induction k with
  | zero =>
    intro p s h hp h4 hk fu hfu
    obtain ⟨fu, rfl⟩ : ∃ g, fu = g + 1 := ⟨fu - 1, by omega⟩
    have hn := h.2.2.2.2.2.1.1
    refine ⟨s, ?_, h, rfl, h4, Nx.rf⟩
    rw [F_X6_next_102]
    show drf (some R) _ = _
    rw [drf_s, isRd_g h.1, drf_s, isRd_g h.1, h4, k_48, k_57, h.in (by omega) (by omega) (by omega), bnd_s, if_pos (by rw [k_0, bZ_i0]; omega)]
  | succ k ih =>
    intro p s h hp h4 hk fu hfu
    obtain ⟨fu, rfl⟩ : ∃ g, fu = g + 1 := ⟨fu - 1, by omega⟩
    have hn := h.2.2.2.2.2.1.1
    rw [F_X6_next_102, rn]
    show ∃ s', drf (some R) _ = _ ∧ _
    rw [drf_s, isRd_g h.1, drf_s, isRd_g h.1, h4, k_48, k_57, h.in (by omega) (by omega) (by omega), bnd_s, k_0, k_1]
    by_cases a : p < n ∧ 48 ≤ T p ∧ T p ≤ 57
    · obtain ⟨s', e, q1, q2, q3, q4⟩ := ih (p + 1) (setI s R 4 (iI ((p + 1 : Nat) : Int))) (h.set (Or.inr rfl)) (by omega) (by rw [si_set, if_pos rfl, if_pos rfl]) (by omega) fu (by omega)
      rw [if_neg (by rw [bZ_i0]; exact fun z => z a), if_pos a, drf_s, isRd_g h.1, drf_s, isRd_g h.1, h4, iI_add, nam_v]
      refine ⟨s', e, q1, ?_, q3, Nx.set.tr q4⟩
      rw [q2, si_set, if_pos rfl, if_neg (by decide)]
    · rw [if_pos (by rw [bZ_i0]; exact a), if_neg a]
      exact ⟨s, rfl, h, rfl, h4, Nx.rf⟩
theorem e_X6_next_8 {R : Nat} {T : Nat → Int} {n l d m : Nat} : ∀ (k p : Nat) (s : St), RdB s R T n l d m → p ≤ n → si s R 3 = iI p → n - p = k → ∀ fu, k < fu → ∃ s', F_X6_next_8 fu s (some R) = some ((), s') ∧ RdE s' R T n (rn T n 32 32 k p) l d m ∧ Nx R s s' := by
  have fin : ∀ (p : Nat) (s : St), RdB s R T n l d m → p ≤ n → si s R 3 = iI p → ¬ (p < n ∧ 32 ≤ T p ∧ T p ≤ 32) → ∀ fu, ∃ s', F_X6_next_8 (fu + 1) s (some R) = some ((), s') ∧ RdE s' R T n p l d m ∧ Nx R s s' := by
    intro p s h hp h3 hno fu
    have hn := h.2.2.2.2.2.1.1
    have hB := h.set (k := 4) (v := iI p) (Or.inr rfl)
    have e3 : si (setI s R 4 (iI p)) R 3 = iI p := by rw [si_set, if_pos rfl, if_neg (by decide)]; exact h3
    have e4 : si (setI s R 4 (iI p)) R 4 = iI p := by rw [si_set, if_pos rfl, if_pos rfl]
    rw [F_X6_next_8]
    show ∃ s', drf (some R) _ = _ ∧ _
    rw [drf_s, isRd_g h.1, drf_s, isRd_g h.1, h3, k_32, h.in (by omega) (by omega) (by omega), bnd_s, k_0, if_pos (by rw [bZ_i0]; exact hno), drf_s, isRd_g h.1, drf_s, isRd_g h.1, h3, nam_v, drf_s, isRd_g hB.1, drf_s, isRd_g hB.1, e3, k_97, k_122, hB.in (by omega) (by omega) (by omega), bnd_s]
    by_cases a : isL T n p
    · obtain ⟨s', e, q1, q2, q3, q4⟩ := e_X6_next_59 (n - p) p (setI s R 4 (iI p)) hB hp e4 rfl FU (FU_ge (by omega))
      rw [if_neg (by rw [bZ_i0]; exact fun z => z a)]
      refine ⟨s', e, q1.e hp (by rw [q2]; exact e3) ?_, Nx.set.tr q4⟩
      unfold tkE
      rw [q3, if_pos a]
    · rw [if_pos (by rw [bZ_i0]; exact a), drf_s, isRd_g hB.1, drf_s, isRd_g hB.1, k_48, k_57, e3, hB.in (by omega) (by omega) (by omega), bnd_s]
      by_cases b : isD T n p
      · obtain ⟨s', e, q1, q2, q3, q4⟩ := e_X6_next_102 (n - p) p (setI s R 4 (iI p)) hB hp e4 rfl FU (FU_ge (by omega))
        rw [if_neg (by rw [bZ_i0]; exact fun z => z b)]
        refine ⟨s', e, q1.e hp (by rw [q2]; exact e3) ?_, Nx.set.tr q4⟩
        unfold tkE
        rw [q3, if_neg a, if_pos b]
      · rw [if_pos (by rw [bZ_i0]; exact b), drf_s, isRd_g hB.1, drf_s, isRd_g hB.1, hB.2.2.2.2.1.1, e3, k_1]
        by_cases c : p < n
        · rw [if_neg (by rw [iI_le (by omega) (by omega)]; omega), drf_s, isRd_g hB.1, drf_s, isRd_g hB.1, e4, iI_add, nam_v]
          have hB2 := hB.set (k := 4) (v := iI ((p : Int) + 1)) (Or.inr rfl)
          refine ⟨_, rfl, hB2.e hp (by rw [si_set, if_pos rfl, if_neg (by decide)]; exact e3) ?_, Nx.set.tr Nx.set⟩
          rw [si_set, if_pos rfl, if_pos rfl]
          unfold tkE
          rw [if_neg a, if_neg b, if_pos c]
          rfl
        · rw [if_pos (by rw [iI_le (by omega) (by omega)]; omega)]
          refine ⟨_, rfl, hB.e hp e3 ?_, Nx.set⟩
          unfold tkE
          rw [e4, if_neg a, if_neg b, if_neg c]
  intro k
  induction k with
  | zero =>
    intro p s h hp h3 hk fu hfu
    obtain ⟨fu, rfl⟩ : ∃ g, fu = g + 1 := ⟨fu - 1, by omega⟩
    exact fin p s h hp h3 (by omega) fu
  | succ k ih =>
    intro p s h hp h3 hk fu hfu
    obtain ⟨fu, rfl⟩ : ∃ g, fu = g + 1 := ⟨fu - 1, by omega⟩
    have hn := h.2.2.2.2.2.1.1
    by_cases a : p < n ∧ 32 ≤ T p ∧ T p ≤ 32
    · obtain ⟨s', e, q1, q2⟩ := ih (p + 1) (setI s R 3 (iI ((p + 1 : Nat) : Int))) (h.set (Or.inl rfl)) (by omega) (by rw [si_set, if_pos rfl, if_pos rfl]) (by omega) fu (by omega)
      refine ⟨s', ?_, by rw [rn, if_pos a]; exact q1, Nx.set.tr q2⟩
      rw [F_X6_next_8]
      show drf (some R) _ = _
      rw [drf_s, isRd_g h.1, drf_s, isRd_g h.1, h3, k_32, h.in (by omega) (by omega) (by omega), bnd_s, k_0, if_neg (by rw [bZ_i0]; exact fun z => z a), drf_s, isRd_g h.1, drf_s, isRd_g h.1, h3, k_1, iI_add, nam_v]
      exact e
    · rw [rn, if_neg a]
      exact fin p s h hp h3 a fu
theorem e_X6_next {s : St} {R : Nat} {T : Nat → Int} {n p l d m : Nat} (h : RdE s R T n p l d m) : ∃ s', F_X6_next s R = some ((), s') ∧ RdE s' R T n (nxt T n p) l d m ∧ Nx R s s' := by
  have ht := tkE_r (T := T) h.2.2.2.2.2.1.2.1
  have hn := h.2.2.2.2.2.1.1
  obtain ⟨s', e, q1, q2⟩ := e_X6_next_8 (n - tkE T n p) (tkE T n p) (setI s R 3 (iI (tkE T n p : Nat))) (h.b.set (Or.inl rfl)) ht.2.1 (by rw [si_set, if_pos rfl, if_pos rfl]) rfl FU (FU_ge (by omega))
  refine ⟨s', ?_, q1, Nx.set.tr q2⟩
  unfold F_X6_next
  rw [isRd_g h.1, isRd_g h.1, h.2.2.2.2.1.2.2.2.1, nam_v]
  exact e
