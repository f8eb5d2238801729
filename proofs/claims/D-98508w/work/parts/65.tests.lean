set_option maxRecDepth 100000
/-! ===== texts: tests ===== -/
def TestAt (s : St) (lo hi a dep : Nat) (t : DT) : Prop := (lo ≤ a ∧ a < hi) ∧ isTs s a = true ∧ ∀ s2, Kp (fun b => lo ≤ b ∧ b < hi) s s2 → SkC s2 → TestE s2 a dep t
theorem TestE.le {s : St} {a d d' : Nat} {f : DT} (h : TestE s a d f) (hd : d ≤ d') : TestE s a d' f := fun n hn v hv => h n (by omega) v hv
theorem isTs_c {s s' : St} {a : Nat} (h : sk s' a = sk s a) : isTs s' a = isTs s a := by
  unfold isTs isK
  rw [h]
theorem isTs_19 {s : St} {a : Nat} (h : isTs s a = true) : (sk s a).1 < 19 := by
  unfold isTs isK at h
  by_cases h1 : (sk s a).1 < 19
  · exact h1
  · exfalso
    have e1 : Nat.beq (sk s a).1 12 = false := by
      cases e : Nat.beq (sk s a).1 12
      · rfl
      · have := Nat.eq_of_beq_eq_true e; omega
    have e2 : Nat.beq (sk s a).1 13 = false := by
      cases e : Nat.beq (sk s a).1 13
      · rfl
      · have := Nat.eq_of_beq_eq_true e; omega
    have e3 : Nat.beq (sk s a).1 14 = false := by
      cases e : Nat.beq (sk s a).1 14
      · rfl
      · have := Nat.eq_of_beq_eq_true e; omega
    rw [e1, e2, e3] at h
    exact absurd h (by decide)
theorem isTs_t {s : St} {a : Nat} (h : (sk s a).1 = 12 ∨ (sk s a).1 = 13 ∨ (sk s a).1 = 14) : isTs s a = true := by
  unfold isTs isK
  rcases h with h | h | h <;> rw [h] <;> rfl
theorem TestAt.go {s s' : St} {lo hi a dep : Nat} {t : DT} (h : TestAt s lo hi a dep t) (hk : Kp (fun b => lo ≤ b ∧ b < hi) s s') : TestAt s' lo hi a dep t := ⟨h.1, by rw [isTs_c (hk a h.1).1]; exact h.2.1, fun s2 h2 hS => h.2.2 s2 (hk.tr h2) hS⟩
theorem TestAt.le {s : St} {lo hi a dep lo' hi' dep' : Nat} {t : DT} (h : TestAt s lo hi a dep t) (h1 : lo' ≤ lo) (h2 : hi ≤ hi') (h3 : dep ≤ dep') : TestAt s lo' hi' a dep' t := ⟨⟨by have := h.1; omega, by have := h.1; omega⟩, h.2.1, fun s2 hk hS => (h.2.2 s2 (hk.le fun b hb => ⟨by omega, by omega⟩) hS).le h3⟩
def TO (R : Nat) (T : Nat → Int) (n p l d m D : Nat) (s : St) (x : RF) : PR DT → Prop
  | .inl q => Fail R n p s x q
  | .inr (t, p', l') => ∃ s' a, x = some (.inl (some a), s') ∧ RdE s' R T n p' l' d m ∧ TestAt s' (sn s) (sn s') a D t ∧ PF R s s' (8 * (p' - p)) (500 * (p' - p)) ∧ (p < p' ∧ p' ≤ n) ∧ (l < l' ∧ l' ≤ 50)
def cmpOp (T : Nat → Int) (n p : Nat) : Prop := tokIs T n p (strB 21) ∨ tokIs T n p (strB 22) ∨ tokIs T n p (strB 23)
noncomputable def posT (T : Nat → Int) (n : Nat) (V : VP) (rec : Nat → Nat → Nat → PR DT) (d p l : Nat) : PR DT :=
  @ite _ (tokIs T n p (strB 19)) (Classical.propDecidable _)
    (if d = 8 then .inl p else match rec (d + 1) (nxt T n p) l with
      | .inl q => .inl q
      | .inr (t, p', l') => @ite _ (tokIs T n p' (strB 20)) (Classical.propDecidable _) (.inr (t, nxt T n p', l')) (.inl p'))
    (match sumP T n V 12 d p l with
      | .inl q => .inl q
      | .inr (f, p', l') => @ite _ (cmpOp T n p') (Classical.propDecidable _) (match sumP T n V 12 d (nxt T n p') l' with
        | .inl q => .inl q
        | .inr (g, p'', l'') => .inr (dCmp (T p') f g, p'', l'')) (.inl p'))
noncomputable def notL (T : Nat → Int) (n : Nat) (next : Nat → Nat → Nat → PR DT) : Nat → Bool → Nat → Nat → Nat → PR DT
  | 0, _, _, p, _ => .inl p
  | k + 1, neg, d, p, l => @ite _ (tokIs T n p (strB 18)) (Classical.propDecidable _) (notL T n next k (!neg) d (nxt T n p) l) (match next d p l with
    | .inl q => .inl q
    | .inr (t, p', l') => .inr (if neg then dNot t else t, p', l'))
noncomputable def plainT (T : Nat → Int) (n : Nat) (next : Nat → Nat → Nat → PR DT) (d p l : Nat) : PR DT := notL T n next 401 false d p l
noncomputable def sevL (T : Nat → Int) (n i : Nat) (all : Bool) (next : Nat → Nat → Nat → PR DT) : Nat → List DT → Nat → Nat → Nat → PR DT
  | 0, _, _, p, _ => .inl p
  | k + 1, ts, d, p, l => @ite _ (tokIs T n p (strB i)) (Classical.propDecidable _) (match next d (nxt T n p) l with
    | .inl q => .inl q
    | .inr (t, p', l') => sevL T n i all next k (ts ++ [t]) d p' l') (.inr (dSev all ts, p, l))
noncomputable def sevT (T : Nat → Int) (n i : Nat) (all : Bool) (next : Nat → Nat → Nat → PR DT) (d p l : Nat) : PR DT := match next d p l with
  | .inl q => .inl q
  | .inr (t, p', l') => @ite _ (tokIs T n p' (strB i)) (Classical.propDecidable _) (sevL T n i all next 401 [t] d p' l') (.inr (t, p', l'))
noncomputable def testS (T : Nat → Int) (n : Nat) (V : VP) (rec : Nat → Nat → Nat → PR DT) : Nat → Nat → Nat → PR DT := sevT T n 25 false (sevT T n 24 true (plainT T n (posT T n V rec)))
noncomputable def testP (T : Nat → Int) (n : Nat) (V : VP) : Nat → Nat → Nat → Nat → PR DT
  | 0, _, p, _ => .inl p
  | k + 1, d, p, l => testS T n V (testP T n V k) d p l
theorem cmpOp_c {T : Nat → Int} {n p : Nat} (hp : p ≤ n) (h : cmpOp T n p) : p < n ∧ (T p = 60 ∨ T p = 62 ∨ T p = 61) := by
  rcases h with h | h | h
  · have := tok1 h (c := 60) (by decide) hp
    exact ⟨this.1, by omega⟩
  · have := tok1 h (c := 62) (by decide) hp
    exact ⟨this.1, by omega⟩
  · have := tok1 h (c := 61) (by decide) hp
    exact ⟨this.1, by omega⟩
theorem chr_cmp {g : Int} (h : g = 60 ∨ g = 62 ∨ g = 61) : ((iI g).toUInt32 % 65536).toInt32 = iI g ∧ fits .char (.int (iI g)) = true := by
  rcases h with rfl | rfl | rfl <;> decide
theorem e_X6_positive_80 {recT : St → Nat → RF} {R : Nat} {T : Nat → Int} {n m d : Nat} {V : VP} (hS : ∀ s p l, Pre s R T n p l d m → SO R T n p l d m s (F_sumR 12 s R) (sumP T n V 12 d p l)) {s : St} {p l lo l0 a1 : Nat} {f : DS} (h : Pre s R T n p l d m) (hc : cmpOp T n p) (hL : SumAt s lo (sn s) a1 (l - l0) f) (hok : dok f) (hR : R < lo) (hl0 : l0 < l) : match sumP T n V 12 d (nxt T n p) l with
    | .inl q => Fail R n p s (F_X6_positive_80 recT s (some R) (some a1)) q
    | .inr (g, p', l') => ∃ s' a, F_X6_positive_80 recT s (some R) (some a1) = some (.inl (some a), s') ∧ RdE s' R T n p' l' d m ∧ TestAt s' lo (sn s') a 1 (dCmp (T p) f g) ∧ PF R s s' (8 * (p' - p)) (500 * (p' - p)) ∧ (p < p' ∧ p' ≤ n) ∧ (l < l' ∧ l' ≤ 50) := by
  have h1 := h.1
  have hp := h1.pos
  have hRs := h.R
  have hnx := nxt_r (T := T) hp.1
  have hcc := cmpOp_c hp.1 hc
  have hch := chr_cmp hcc.2
  have tp := h1.T (k := p) (by omega)
  have hm := h.2.2.1
  obtain ⟨s1, e1, r1, x1⟩ := e_X6_next h1
  have n1 : sn s1 = sn s := x1.2.2.2.1.1
  have h2 : Pre s1 R T n (nxt T n p) l d m := h.nx r1 x1 hnx.1 h.2.2.2.1 h.2.2.2.2.1
  have k3 : (sk (newO s1 (12, 0) 3) (sn s1)).1 = 12 := by rw [nO_k, if_pos rfl]
  have F1 : PF R s1 (newO s1 (12, 0) 3) 1 3 := Fil.rf.pf h2.R
  have r2 : RdE (newO s1 (12, 0) 3) R T n (nxt T n p) l d m := r1.old Old.new h2.R (by have := h2.2.2.2.2.2; omega)
  have P02 : PF R s (newO s1 (12, 0) 3) 1 3 := ((x1.pf (k := 0) (m := 0)).tr F1).le (by omega) (by omega)
  have h3 : Pre (newO s1 (12, 0) 3) R T n (nxt T n p) l d m := h.pf r2 P02 hnx.1 hnx.2.1 (by have := hnx.2.2 hcc.1; omega) (by have := hnx.2.2 hcc.1; omega) h.2.2.2.1 h.2.2.2.2.1
  have hpp := hnx.2.2 hcc.1
  unfold Rm at hm
  have hsm := x1.2.2.2.1
  have hn := hS _ _ _ h3
  have eq : F_X6_positive_80 recT s (some R) (some a1) = bnx (F_sumR 12 (newO s1 (12, 0) 3) R) (fun b28 s26 => some (.inr b28, s26)) (fun r25 s26 => bnd (F_X15_init s26 (sn s1) (iI (T p)) (some a1) r25) fun _ s30 => some (.inl (some (sn s1)), s30)) := by
    unfold F_X6_positive_80
    rw [drf_s, isRd_g h1.1, drf_s, isRd_g h1.1, h1.2.1, drf_s, isK_g (by rw [h1.2.2.1]), h1.2.2.1, h1.2.2.2.2.1.2.2.1, inb_g (by show 0 ≤ (p : Int) ∧ (p : Int) < (400 : Nat) ∧ _; omega), iI_nat (by omega), Int.toNat_natCast, tp.1, hch.1, nam_v, drf_s, isRd_g h1.1, e1, bnd_s, gd_ok (okN_t (by omega) (by omega)), nam_v, drf_s, isRd_g r2.1]
  rw [eq]
  cases en : sumP T n V 12 d (nxt T n p) l with
  | inl q =>
    rw [en] at hn
    obtain ⟨s2, b2, e2, f2, p2⟩ := hn
    show Fail R n p s _ q
    rw [e2, bnx_ir]
    exact ⟨s2, b2, rfl, f2, (P02.tr p2).le (by omega) (by omega)⟩
  | inr w =>
    obtain ⟨g, p', l'⟩ := w
    rw [en] at hn
    obtain ⟨s2, b, e2, r3, S2, ok2, P2, pp2, ll2⟩ := hn
    have n2 : sn (newO s1 (12, 0) 3) = sn s + 1 := by rw [nO_n, n1]
    have ks2 : (sk s2 (sn s1)).1 = 12 := by rw [(P2.1 (sn s1) (by rw [nO_n]; omega) (by have := h2.R; omega)).1]; exact k3
    have fl : Fil (sn s1) s2 (setR (setR (setI s2 (sn s1) 0 (iI (T p))) (sn s1) 1 (some a1)) (sn s1) 2 (some b)) := (Fil.I.tr Fil.R).tr Fil.R
    have P04 : PF R s s2 (1 + 8 * (p' - nxt T n p)) (3 + 500 * (p' - nxt T n p)) := P02.tr P2
    have P05 := P04.fil fl (by omega) hRs
    have hn2 : sn (newO s1 (12, 0) 3) ≤ sn s2 := P2.2.1.1
    have hlo := hL.1
    refine ⟨_, sn s1, ?_, r3.fil fl (by have := h2.R; omega) (by have := h2.2.2.2.2.2; omega), ⟨⟨by omega, ?_⟩, isTs_t (Or.inl ks2), fun s5 hk5 hS5 => ?_⟩, P05.le (by omega) (by omega), ⟨by omega, pp2.2⟩, by omega, ll2.2⟩
    · rw [e2, bnx_il]
      unfold F_X15_init F_X14_init
      rw [bnd_s, isK_g ks2, gd_ok hch.2, nam_v, isK_1, isK_g ks2, nam_v, isK_3, isK_1, isK_g ks2, nam_v, bnd_s]
    · show sn s1 < sn s2
      omega
    · have hin : ∀ x, lo ≤ x → x < sn s2 → same (setR (setR (setI s2 (sn s1) 0 (iI (T p))) (sn s1) 1 (some a1)) (sn s1) 2 (some b)) s5 x := fun x h1 h2 => hk5 x ⟨h1, h2⟩
      have SL : SumAt (setR (setR (setI s2 (sn s1) 0 (iI (T p))) (sn s1) 1 (some a1)) (sn s1) 2 (some b)) lo (sn s) a1 (l - l0) f := (hL.go (P04.kp hR (Nat.le_refl _))).go (fl.kp (by omega))
      have SRt : SumAt (setR (setR (setI s2 (sn s1) 0 (iI (T p))) (sn s1) 1 (some a1)) (sn s1) 2 (some b)) (sn s + 1) (sn s2) b (l' - l) g := by
        rw [n2] at S2
        exact S2.go (fl.kp (by omega))
      have eL := SL.2 s5 (fun x hx => hin x hx.1 (by omega)) hS5
      have eR := SRt.2 s5 (fun x hx => hin x (by omega) hx.2) hS5
      have hn0 := hin (sn s1) (by omega) (by omega)
      exact TestE.cmp (s := s5) (a := sn s1) (b := a1) (c := b) (d := 50) (g := T p) (by rw [hn0.1]; exact ks2) (by rw [hn0.2.1]; show si (setI s2 (sn s1) 0 (iI (T p))) (sn s1) 0 = _; rw [si_set, if_pos rfl, if_pos rfl]) hcc.2 (by rw [hn0.2.2.2, sR_r, if_pos rfl, if_neg (by decide), sR_r, if_pos rfl, if_pos rfl]) (by rw [hn0.2.2.2, sR_r, if_pos rfl, if_pos rfl]) (eL.le (by have := h.2.2.2.1; omega)) (eR.le (by omega)) (by omega) hok ok2
theorem e_X6_positive {recT : St → Nat → RF} {R : Nat} {T : Nat → Int} {n m d : Nat} {V : VP} {rec : Nat → Nat → Nat → PR DT} (hrec : d < 8 → ∀ s p l, Pre s R T n p l (d + 1) m → TO R T n p l (d + 1) m (3 * (8 - d) + 1) s (recT s R) (rec (d + 1) p l)) (hS : ∀ s p l, Pre s R T n p l d m → SO R T n p l d m s (F_sumR 12 s R) (sumP T n V 12 d p l)) : ∀ s p l, Pre s R T n p l d m → TO R T n p l d m (3 * (8 - d) + 1) s (F_X6_positive recT s R) (posT T n V rec d p l) := by
  intro s p l h
  have h1 := h.1
  have hp := h1.pos
  have hR := h.R
  have hd := h.2.2.2.2.1
  have hnx := nxt_r (T := T) hp.1
  unfold posT F_X6_positive
  rw [isRd_g h1.1, show (1000000019 : Nat) = 1000000000 + 19 from rfl, e_X6_is h1 (by decide), bnd_s, k_0]
  by_cases a1 : tokIs T n p (strB 19)
  · have hlt := (tok1 a1 (c := 40) (by decide) hp.1).1
    rw [if_neg (by rw [bZ_i0]; exact fun z => z a1), if_pos a1, isRd_g h1.1]
    obtain ⟨o1, o2⟩ := e_X6_opens h1 h.2.1 h.2.2.1.r8 hd
    by_cases d8 : d = 8
    · rw [if_pos d8]
      obtain ⟨s1, b1, e1, f1, p1⟩ := o2 d8
      rw [e1, bnx_ir]
      exact ⟨s1, b1, rfl, f1, p1⟩
    · obtain ⟨s1, e1, r1, x1⟩ := o1 (by omega)
      rw [if_neg d8, e1, bnx_il, isRd_g r1.1]
      have h2 : Pre s1 R T n (nxt T n p) l (d + 1) m := h.nx r1 x1 hnx.1 h.2.2.2.1 (by omega)
      have hr := hrec (by omega) s1 _ _ h2
      cases er : rec (d + 1) (nxt T n p) l with
      | inl q =>
        rw [er] at hr
        obtain ⟨s2, b2, e2, f2, p2⟩ := hr
        rw [e2, bnx_ir]
        exact ⟨s2, b2, rfl, f2, ((x1.pf (k := 0) (m := 0)).tr p2).le (by omega) (by omega)⟩
      | inr w =>
        obtain ⟨f, p', l'⟩ := w
        rw [er] at hr
        obtain ⟨s2, a2, e2, r2, S2, P2, pp2, ll2⟩ := hr
        have h3 : Pre s2 R T n p' l' (d + 1) m := h2.pf r2 P2 (by omega) pp2.2 (Nat.le_refl _) (Nat.le_refl _) ll2.2 (by omega)
        have hnx2 := nxt_r (T := T) pp2.2
        rw [e2, bnx_il, isRd_g r2.1, show (1000000020 : Nat) = 1000000000 + 20 from rfl]
        obtain ⟨n1, n2⟩ := e_X6_need r2 h3.2.1 h3.2.2.1.r8 (i := 20) (by decide)
        have P02 : PF R s s2 (8 * (p' - p)) (500 * (p' - p)) := ((x1.pf (k := 0) (m := 0)).tr P2).le (by omega) (by omega)
        show TO R T n p l d m _ s _ (@ite _ (tokIs T n p' (strB 20)) (Classical.propDecidable _) (.inr (f, nxt T n p', l')) (.inl p'))
        by_cases a2' : tokIs T n p' (strB 20)
        · obtain ⟨s3, e3, r3, x3⟩ := n1 a2'
          have n3 := x3.2.2.2.1.1
          have n13 : sn s1 = sn s := x1.2.2.2.1.1
          rw [if_pos a2', e3, bnx_il, isRd_g r3.1, isRd_g r3.1, nam_v]
          have xc : Nx R s2 (setI s3 R 6 (si s3 R 6 - 1)) := x3.tr Nx.set
          refine ⟨_, a2, rfl, e_X6_closes r3, ?_, (P02.tr (xc.pf (k := 0) (m := 0))).le (by omega) (by omega), ⟨by omega, hnx2.2.1⟩, ll2⟩
          have S3 := S2.go (PF.kp (xc.pf (k := 0) (m := 0)) (by omega) (Nat.le_refl _))
          exact S3.le (by omega) (by show sn s2 ≤ sn s3; omega) (Nat.le_refl _)
        · obtain ⟨s3, b3, e3, f3, p3⟩ := n2 a2'
          rw [if_neg a2', e3, bnx_ir]
          exact ⟨s3, b3, rfl, f3, (P02.tr p3).le (by omega) (by omega)⟩
  · rw [if_pos (by rw [bZ_i0]; exact a1), if_neg a1, isRd_g h1.1]
    have hs := hS s p l h
    cases es : sumP T n V 12 d p l with
    | inl q =>
      rw [es] at hs
      obtain ⟨s2, b2, e2, f2, p2⟩ := hs
      rw [e2, bnx_ir]
      exact ⟨s2, b2, rfl, f2, p2⟩
    | inr w =>
      obtain ⟨f, p', l'⟩ := w
      rw [es] at hs
      obtain ⟨s2, a2, e2, r2, S2, ok2, P2, pp2, ll2⟩ := hs
      have h2 : Pre s2 R T n p' l' d m := h.pf r2 P2 (by omega) pp2.2 (Nat.le_refl _) (Nat.le_refl _) ll2.2 hd
      rw [e2, bnx_il, isRd_g r2.1, show (1000000021 : Nat) = 1000000000 + 21 from rfl, show (1000000022 : Nat) = 1000000000 + 22 from rfl, show (1000000023 : Nat) = 1000000000 + 23 from rfl, e_X6_is r2 (by decide), bnd_s]
      show TO R T n p l d m _ s _ (@ite _ (cmpOp T n p') (Classical.propDecidable _) (match sumP T n V 12 d (nxt T n p') l' with
        | .inl q => .inl q
        | .inr (g, p'', l'') => .inr (dCmp (T p') f g, p'', l'')) (.inl p'))
      have yes : cmpOp T n p' → TO R T n p l d m (3 * (8 - d) + 1) s (F_X6_positive_80 recT s2 (some R) (some a2)) (match sumP T n V 12 d (nxt T n p') l' with
        | .inl q => .inl q
        | .inr (g, p'', l'') => .inr (dCmp (T p') f g, p'', l'')) := fun hc => by
        have hx := e_X6_positive_80 (recT := recT) hS h2 hc S2 ok2 hR ll2.1
        cases eg : sumP T n V 12 d (nxt T n p') l' with
        | inl q =>
          rw [eg] at hx
          exact Fail.go hx P2 (by omega) pp2.2 (Nat.le_refl _) (Nat.le_refl _)
        | inr w =>
          obtain ⟨g, p'', l''⟩ := w
          rw [eg] at hx
          obtain ⟨s3, a3, e3, r3, S3, P3, pp3, ll3⟩ := hx
          exact ⟨s3, a3, e3, r3, S3.le (Nat.le_refl _) (Nat.le_refl _) (by omega), (P2.tr P3).le (by omega) (by omega), by omega, by omega⟩
      by_cases b1 : tokIs T n p' (strB 21)
      · rw [if_neg (by rw [bZ_i0]; exact fun z => z b1), if_pos (show cmpOp T n p' from Or.inl b1)]
        exact yes (Or.inl b1)
      · rw [if_pos (by rw [bZ_i0]; exact b1), isRd_g r2.1, e_X6_is r2 (by decide), bnd_s]
        by_cases b2 : tokIs T n p' (strB 22)
        · rw [if_neg (by rw [bZ_i0]; exact fun z => z b2), if_pos (show cmpOp T n p' from Or.inr (Or.inl b2))]
          exact yes (Or.inr (Or.inl b2))
        · rw [if_pos (by rw [bZ_i0]; exact b2), isRd_g r2.1, e_X6_is r2 (by decide), bnd_s]
          by_cases b3 : tokIs T n p' (strB 23)
          · rw [if_neg (by rw [bZ_i0]; exact fun z => z b3), if_pos (show cmpOp T n p' from Or.inr (Or.inr b3))]
            exact yes (Or.inr (Or.inr b3))
          · rw [if_pos (by rw [bZ_i0]; exact b3), if_neg (fun z => z.elim b1 (fun y => y.elim b2 b3))]
            exact (e_fault (p0 := p') r2 h2.2.1 h2.2.2.1.r8 rfl).go P2 (by omega) pp2.2 (Nat.le_refl _) (Nat.le_refl _)
