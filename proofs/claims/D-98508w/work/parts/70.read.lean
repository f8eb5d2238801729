set_option maxRecDepth 100000
/-! ===== texts: reading whole ===== -/
noncomputable def readL {γ : Type} (T : Nat → Int) (n : Nat) (cl : Nat → Nat → Nat → PR γ) : Nat → List γ → Nat → Nat → Nat ⊕ List γ
  | 0, _, p, _ => .inl p
  | k + 1, cs, p, l => @ite _ (tokIs T n p (strB 26)) (Classical.propDecidable _) (match cl cs.length (nxt T n p) l with
    | .inl q => .inl q
    | .inr (c, p', l') => readL T n cl k (cs ++ [c]) p' l') (if p < n then .inl p else .inr cs)
noncomputable def readP {γ : Type} (T : Nat → Int) (n : Nat) (cl : Nat → Nat → Nat → PR γ) : Nat ⊕ List γ := match cl 0 (skp T n 0) 0 with
  | .inl q => .inl q
  | .inr (c, p', l') => readL T n cl 401 [c] p' l'
/-- what reading leaves of what was -/
def FrR (R lo : Nat) (s s' : St) (k m : Nat) : Prop := (∀ z, z < lo → z ≠ R → same s s' z) ∧ Tk s s' k m ∧ Vd s' ∧ (sk s' R = sk s R ∧ sr s' R = sr s R)
theorem FrR.tr {R lo : Nat} {s s1 s2 : St} {k m k2 m2 : Nat} (h : FrR R lo s s1 k m) (g : FrR R lo s1 s2 k2 m2) : FrR R lo s s2 (k + k2) (m + m2) := ⟨fun z h1 h2 => (h.1 z h1 h2).tr (g.1 z h1 h2), h.2.1.tr g.2.1, g.2.2.1, g.2.2.2.1.trans h.2.2.2.1, g.2.2.2.2.trans h.2.2.2.2⟩
theorem FrR.le {R lo : Nat} {s s1 : St} {k m k2 m2 : Nat} (h : FrR R lo s s1 k m) (h1 : k ≤ k2) (h2 : m ≤ m2) : FrR R lo s s1 k2 m2 := ⟨h.1, h.2.1.le h1 h2, h.2.2⟩
theorem PF.frr {R lo : Nat} {s s' : St} {k m : Nat} (h : PF R s s' k m) (hv : Vd s) (hlo : lo ≤ sn s) : FrR R lo s s' k m := ⟨fun z h1 h2 => h.1 z (by omega) h2, h.2.1, h.2.2.1 hv, h.2.2.2⟩
def RR {γ : Type} (QC : St → Nat → Nat → Nat → γ → Prop) (R lo L : Nat) (k m : Nat) (s : St) (x : Option ((Unit ⊕ Nat) × St)) : Nat ⊕ List γ → Prop
  | .inl q => ∃ s' b, x = some (.inr b, s') ∧ Flt s' b q ∧ FrR R lo s s' k m
  | .inr cs => ∃ s' b c f, x = some (.inl (), s') ∧ Lis QC s' lo L b c cs f ∧ cs.length ≤ 12 ∧ FrR R lo s s' k m
/-- what reads clauses -/
def ClF {γ : Type} (QC : St → Nat → Nat → Nat → γ → Prop) (R lo L tag : Nat) (T : Nat → Int) (n : Nat) (cl : Nat → Nat → Nat → PR γ) : Prop := ∀ s p l m cs f b c, Pre s R T n p l 0 m → m ≤ 12 → (sk s R).1 = tag → sr s R 7 = some L → Lis QC s lo L b c cs f → cs.length ≤ 200 → CO QC R lo L b cs T n p l (m + 1) s (F_clauseD s R) (cl m p l)
/-- a full number of clauses: no clause more -/
def ClQ {γ : Type} (cl : Nat → Nat → Nat → PR γ) : Prop := ∀ p l y, cl 12 p l ≠ .inr y
theorem e_read_8 {γ : Type} {QC : St → Nat → Nat → Nat → γ → Prop} {R lo L tag : Nat} {T : Nat → Int} {n : Nat} {cl : Nat → Nat → Nat → PR γ} (hF : ClF QC R lo L tag T n cl) (hq : ClQ cl) (hQ : QOk QC) (hR : R < lo) : ∀ (k : Nat) (s : St) (p l : Nat) (cs : List γ) (f : Nat → Nat) (b c : Nat), Pre s R T n p l 0 cs.length → cs.length ≤ 12 → (sk s R).1 = tag → sr s R 7 = some L → Lis QC s lo L b c cs f → lo ≤ sn s → n - p < k → ∀ fu, k ≤ fu → RR QC R lo L (8 * (n - p) + 8) (500 * (n - p) + 500) s (F_X6_read_8 fu s (some R)) (readL T n cl k cs p l) := by
  intro k
  induction k with
  | zero => intro s p l cs f b c _ _ _ _ _ _ hk; omega
  | succ k ih =>
    intro s p l cs f b c h h12 ht h7 hL hlo hk fu hfu
    obtain ⟨fu, rfl⟩ : ∃ g, fu = g + 1 := ⟨fu - 1, by omega⟩
    have h1 := h.1
    have hp := h1.pos
    have hnx := nxt_r (T := T) hp.1
    obtain ⟨s1, e1, r1, x1⟩ := e_X6_takes h1 (i := 26) (by decide)
    unfold tkP at r1
    have n1 : sn s1 = sn s := x1.2.2.2.1.1
    have P1 : PF R s s1 0 0 := x1.pf
    have L1 : Lis QC s1 lo L b c cs f := hL.go hQ (fun x h1 h2 => P1.1 x h2 (by omega)) (by omega)
    rw [F_X6_read_8, readL]
    show RR QC R lo L _ _ s (drf (some R) _) _
    rw [drf_s, isRd_g h1.1, show (1000000026 : Nat) = 1000000000 + 26 from rfl, e1, bnd_s, k_0]
    by_cases a : tokIs T n p (strB 26)
    · have hw := tokW a (c := 1) (by decide) (by decide) hp.1
      rw [if_pos a] at r1
      have h2 : Pre s1 R T n (nxt T n p) l 0 cs.length := h.nx r1 x1 hnx.1 h.2.2.2.1 (by omega)
      have hc := hF s1 _ _ _ cs f b c h2 h12 (by rw [x1.1]; exact ht) (by rw [x1.2.1]; exact h7) L1 (by omega)
      rw [if_neg (by rw [bZ_i0]; exact fun z => z a), if_pos a, drf_s]
      cases ec : cl cs.length (nxt T n p) l with
      | inl q =>
        rw [ec] at hc
        obtain ⟨s2, b2, e2, f2, p2⟩ := hc
        rw [e2, bnx_ir]
        exact ⟨s2, b2, rfl, f2, ((P1.tr p2).frr h.2.1 hlo).le (by omega) (by omega)⟩
      | inr w =>
        obtain ⟨y, p', l'⟩ := w
        rw [ec] at hc
        obtain ⟨s2, b2, c2, f2, e2, r2, L2, o2, t2, v2, k2, pp2, ll2⟩ := hc
        have hlen : (cs ++ [y]).length = cs.length + 1 := List.length_append
        have h12' : cs.length < 12 := by
          by_cases e12 : cs.length = 12
          · rw [e12] at ec
            exact absurd ec (hq _ _ _)
          · omega
        have hm1 := h2.2.2.1
        have h3 : Pre s2 R T n p' l' 0 (cs ++ [y]).length := by
          rw [hlen]
          refine ⟨r2, v2, ?_, ll2.2, by omega, by have := t2.1; have := h2.2.2.2.2.2; omega, by rw [k2.1]; exact h2.2.2.2.2.2.2⟩
          unfold Rm at hm1 ⊢
          unfold Tk at t2
          omega
        have hL0 := L1.2.2.2.1
        have hb0 := L1.2.2.2.2.1
        have F2 : FrR R lo s1 s2 (8 * (p' - nxt T n p)) (500 * (p' - nxt T n p)) := ⟨fun z z1 z2 => o2 z (by omega) z2 (by omega) (by omega), t2, v2, k2⟩
        have F1 : FrR R lo s s1 0 0 := P1.frr h.2.1 hlo
        have hI := ih s2 p' l' (cs ++ [y]) f2 b2 c2 h3 (by omega) (by rw [k2.1, x1.1]; exact ht) (by rw [k2.2, x1.2.1]; exact h7) L2 (by have := t2.1; omega) (by omega) fu (by omega)
        rw [e2, bnx_il]
        show RR QC R lo L _ _ s _ (readL T n cl k (cs ++ [y]) p' l')
        cases er : readL T n cl k (cs ++ [y]) p' l' with
        | inl q =>
          rw [er] at hI
          obtain ⟨s3, b3, e3, f3, g3⟩ := hI
          exact ⟨s3, b3, e3, f3, ((F1.tr F2).tr g3).le (by omega) (by omega)⟩
        | inr cs' =>
          rw [er] at hI
          obtain ⟨s3, b3, c3, f3, e3, L3, l3, g3⟩ := hI
          exact ⟨s3, b3, c3, f3, e3, L3, l3, ((F1.tr F2).tr g3).le (by omega) (by omega)⟩
    · rw [if_neg a] at r1
      have h2 : Pre s1 R T n p l 0 cs.length := h.nx r1 x1 (Nat.le_refl _) h.2.2.2.1 (by omega)
      rw [if_pos (by rw [bZ_i0]; exact a), if_neg a, drf_s, isRd_g r1.1, drf_s, isRd_g r1.1, r1.2.2.2.2.1.1, r1.2.2.2.2.1.2.2.1]
      by_cases e : p < n
      · rw [if_neg (by rw [iI_le (by omega) (by omega)]; omega), if_pos e]
        obtain ⟨s2, b2, e2, f2, p2⟩ := e_fault_2 (β := Unit) (p0 := p) r1 h2.2.1 h2.2.2.1.r8 rfl
        exact ⟨s2, b2, e2, f2, ((P1.tr p2).frr h.2.1 hlo).le (by omega) (by omega)⟩
      · rw [if_pos (by rw [iI_le (by omega) (by omega)]; omega), if_neg e]
        exact ⟨s1, b, c, f, rfl, L1, h12, (P1.frr h.2.1 hlo).le (by omega) (by omega)⟩
theorem e_X6_next0 {s : St} {R : Nat} {T : Nat → Int} {n : Nat} (h : RdB s R T n 0 0 0) (h4 : si s R 4 = iI 0) : ∃ s', F_X6_next s R = some ((), s') ∧ RdE s' R T n (skp T n 0) 0 0 0 ∧ Nx R s s' := by
  have hn := h.2.2.2.2.2.1.1
  obtain ⟨s', e, q1, q2⟩ := e_X6_next_8 (n - 0) 0 (setI s R 3 (iI ((0 : Nat) : Int))) (h.set (Or.inl rfl)) (Nat.zero_le _) (by rw [si_set, if_pos rfl, if_pos rfl]) rfl FU (FU_ge (by omega))
  refine ⟨s', ?_, q1, Nx.set.tr q2⟩
  unfold F_X6_next
  rw [isRd_g h.1, isRd_g h.1, h4, nam_v]
  exact e
theorem e_X6_read {γ : Type} {QC : St → Nat → Nat → Nat → γ → Prop} {R lo L tag b c : Nat} {T : Nat → Int} {n : Nat} {cl : Nat → Nat → Nat → PR γ} {f : Nat → Nat} (hF : ClF QC R lo L tag T n cl) (hq : ClQ cl) (hQ : QOk QC) (hR : R < lo) {s : St} (h : RdB s R T n 0 0 0) (h4 : si s R 4 = iI 0) (hv : Vd s) (hm : Rm s n 0) (h31 : 31 ≤ sn s) (hT : ((sk s R).1 : Int) = T 1000) (ht : (sk s R).1 = tag) (h7 : sr s R 7 = some L) (hL : Lis QC s lo L b c [] f) (hlo : lo ≤ sn s) : RR QC R lo L (8 * n + 8) (500 * n + 500) s (F_X6_read s R) (readP T n cl) := by
  have hn := h.2.2.2.2.2.1.1
  obtain ⟨s1, e1, r1, x1⟩ := e_X6_next0 h h4
  have n1 : sn s1 = sn s := x1.2.2.2.1.1
  have P1 : PF R s s1 0 0 := x1.pf
  have hp := r1.pos
  have h2 : Pre s1 R T n (skp T n 0) 0 0 0 := ⟨r1, x1.vd hv, hm.nx x1 (Nat.zero_le _), by omega, by omega, by omega, by rw [x1.1]; exact hT⟩
  have L1 : Lis QC s1 lo L b c [] f := hL.go hQ (fun x h1 h2 => P1.1 x h2 (by omega)) (by omega)
  have hc := hF s1 _ _ _ [] f b c h2 (by omega) (by rw [x1.1]; exact ht) (by rw [x1.2.1]; exact h7) L1 (Nat.zero_le _)
  unfold F_X6_read readP
  rw [isRd_g h.1, e1, bnd_s]
  cases ec : cl 0 (skp T n 0) 0 with
  | inl q =>
    rw [ec] at hc
    obtain ⟨s2, b2, e2, f2, p2⟩ := hc
    rw [e2, bnx_ir]
    exact ⟨s2, b2, rfl, f2, ((P1.tr p2).frr hv hlo).le (by omega) (by omega)⟩
  | inr w =>
    obtain ⟨y, p', l'⟩ := w
    rw [ec] at hc
    obtain ⟨s2, b2, c2, f2, e2, r2, L2, o2, t2, v2, k2, pp2, ll2⟩ := hc
    have hm1 := h2.2.2.1
    have h3 : Pre s2 R T n p' l' 0 ([y] : List γ).length := by
      refine ⟨r2, v2, ?_, ll2.2, by omega, by have := t2.1; omega, by rw [k2.1]; exact h2.2.2.2.2.2.2⟩
      unfold Rm at hm1 ⊢
      unfold Tk at t2
      omega
    have hL0 := L1.2.2.2.1
    have hb0 := L1.2.2.2.2.1
    have F2 : FrR R lo s1 s2 (8 * (p' - skp T n 0)) (500 * (p' - skp T n 0)) := ⟨fun z z1 z2 => o2 z (by omega) z2 (by omega) (by omega), t2, v2, k2⟩
    have F1 : FrR R lo s s1 0 0 := P1.frr hv hlo
    have hI := e_read_8 hF hq hQ hR 401 s2 p' l' [y] f2 b2 c2 h3 (show 1 ≤ 12 by decide) (by rw [k2.1, x1.1]; exact ht) (by rw [k2.2, x1.2.1]; exact h7) L2 (by have := t2.1; omega) (by omega) FU (by unfold FU; omega)
    rw [e2, bnx_il]
    show RR QC R lo L _ _ s _ (readL T n cl 401 [y] p' l')
    cases er : readL T n cl 401 [y] p' l' with
    | inl q =>
      rw [er] at hI
      obtain ⟨s3, b3, e3, f3, g3⟩ := hI
      exact ⟨s3, b3, e3, f3, ((F1.tr F2).tr g3).le (by omega) (by omega)⟩
    | inr cs' =>
      rw [er] at hI
      obtain ⟨s3, b3, c3, f3, e3, L3, l3, g3⟩ := hI
      exact ⟨s3, b3, c3, f3, e3, L3, l3, ((F1.tr F2).tr g3).le (by omega) (by omega)⟩
theorem lawC_q {T : Nat → Int} {n : Nat} {V : VP} : ClQ (lawC T n V) := fun p l y h => by
  unfold lawC at h
  rw [if_pos (Or.inr rfl)] at h
  cases h
theorem ordC_q {T : Nat → Int} {n : Nat} {V : VP} : ClQ (ordC T n V) := fun p l y h => by
  unfold ordC at h
  rw [if_pos (Or.inr rfl)] at h
  cases h
theorem law_clf {R lo L : Nat} {T : Nat → Int} {n : Nat} (hR : R < lo) (h6 : T 1000 = 6) : ClF QCl R lo L 6 T n (lawC T n (lawV T n)) := fun s p l m cs f b c h hm ht h7 hL hk => by
  have hk6 : ∀ {s p l d m}, Pre s R T n p l d m → (sk s R).1 = 6 := fun h => by
    have := h.2.2.2.2.2.2
    omega
  have hV : ∀ m d s p l, Pre s R T n p l d m → VO R T n p l d m s (F_valueD s R) (lawV T n p l) := fun m d s p l h => e_X7_value h (hk6 h)
  exact e_X7_clause (fun d s p l m _ h => hV m d s p l h) (fun s p l m _ h => e_sumR (hV m) 12 0 (by omega) s p l h) (fun s p l m _ h => e_testR (hV m) 12 0 (by omega) s p l h) h hm ht h7 hL hk hR
theorem ord_clf {R lo L : Nat} {T : Nat → Int} {n : Nat} (hR : R < lo) (h6 : T 1000 = 17) : ClF QOr R lo L 17 T n (ordC T n (ordV T n)) := fun s p l m cs f b c h hm ht h7 hL hk => by
  have hk6 : ∀ {s p l d m}, Pre s R T n p l d m → (sk s R).1 = 17 := fun h => by
    have := h.2.2.2.2.2.2
    omega
  have hV : ∀ m d s p l, Pre s R T n p l d m → VO R T n p l d m s (F_valueD s R) (ordV T n p l) := fun m d s p l h => e_X20_value h (hk6 h)
  exact e_X20_clause (fun s p l m _ h => e_sumR (hV m) 12 0 (by omega) s p l h) (fun s p l m _ h => e_testR (hV m) 12 0 (by omega) s p l h) h hm ht h7 hL hk hR
