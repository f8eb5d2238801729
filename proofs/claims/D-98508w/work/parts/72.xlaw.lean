set_option maxRecDepth 100000
/-! ===== the component's call law ===== -/
noncomputable def lawTxt (w : WR) : Nat ⊕ List DC := readP (tapeT 6 w) (w 0 11).toNat (lawC (tapeT 6 w) (w 0 11).toNat (lawV (tapeT 6 w) (w 0 11).toNat))
noncomputable def lawXV (w : WR) (ls : List (List DC)) : Int := if ls.length = 6 then -5 else match lawTxt w with
  | .inl _ => -6
  | .inr _ => ls.length
noncomputable def lawXW (w : WR) (ls : List (List DC)) : WR := if ls.length = 6 then refW (wup w 0 11 0) (-5) else match lawTxt w with
  | .inl q => refW (wup (wup w 0 11 0) 0 12 q) (-6)
  | .inr _ => wup (wup (wup w 0 11 0) 0 12 (-1)) 0 0 0
noncomputable def lawXL (w : WR) (ls : List (List DC)) : List (List DC) := if ls.length = 6 then ls else match lawTxt w with
  | .inl _ => ls
  | .inr law => ls ++ [law]
/-- a text is read, its fault noted -/
theorem e_X0_reads {γ : Type} {QC : St → Nat → Nat → Nat → γ → Prop} (hQ : QOk QC) {D : Nat → Prop} {s s0 : St} {w : WR} {ls : List (List DC)} {o : Option Nat} {b0 : Nat} {im : IM} (h : CI D s0 w ls o b0 im) {R L tag b c n : Nat} {T : Nat → Int} {cl : Nat → Nat → Nat → PR γ} {f : Nat → Nat} (hF : ClF QC R (R + 1) L tag T n cl) (hq : ClQ cl) (hR0 : R = sn s0) (hO : Old s0 s) (hv : Vd s) (hn0 : sn s0 + 3 = sn s) (hB : RdB s R T n 0 0 0) (h4 : si s R 4 = iI 0) (hm : Rm s n 0) (hT : ((sk s R).1 : Int) = T 1000) (ht : (sk s R).1 = tag) (h7 : sr s R 7 = some L) (hL : Lis QC s (R + 1) L b c [] f) : match readP T n cl with
    | .inl q => ∃ s', F_X0_reads s (some R) = some (iI 0, s') ∧ CI (fun b => D b ∨ (sn s0 ≤ b ∧ b < sn s')) s' (wup w 0 12 q) ls o b0 im ∧ Tk s s' (8 * n + 8) (500 * n + 500)
    | .inr cs => ∃ s' b' c' f', F_X0_reads s (some R) = some (iI 1, s') ∧ CI (fun b => D b ∨ (sn s0 ≤ b ∧ b < sn s')) s' (wup w 0 12 (-1)) ls o b0 im ∧ Tk s s' (8 * n + 8) (500 * n + 500) ∧ Lis QC s' (R + 1) L b' c' cs f' ∧ cs.length ≤ 12 ∧ (sk s' R = sk s R ∧ sr s' R = sr s R) := by
  have n31 := h.2.1.2.1
  have hr := e_X6_read hF hq hQ (Nat.lt_succ_self R) hB h4 hv hm (by omega) hT ht h7 hL (by omega)
  unfold F_X0_reads
  rw [drf_s, isRd_g hB.1]
  cases er : readP T n cl with
  | inl q =>
    rw [er] at hr
    obtain ⟨s1, b1, e1, f1, g1⟩ := hr
    have n1 := g1.2.1.1
    have O1 : Old s0 s1 := fun x hx => by
      have p := hO x hx
      have q := g1.1 x (by omega) (by omega)
      exact ⟨q.1.trans p.1, q.2.1.trans p.2.1, q.2.2.1.trans p.2.2.1, q.2.2.2.trans p.2.2.2⟩
    have h1 := h.grow O1 g1.2.2.1 (by omega)
    have C2 := h1.1.set 0 (k := 12) (v := q) (by omega) (by decide)
    have h2 := h1.sm C2 (Sm.set (by decide))
    rw [e1, bnx_ir, gp_SkC h1.1.1, isK_g f1.1, f1.2, nam_v, k_0]
    exact ⟨_, rfl, h2, g1.2.1⟩
  | inr cs =>
    rw [er] at hr
    obtain ⟨s1, b1, c1, f1, e1, L1, l1, g1⟩ := hr
    have n1 := g1.2.1.1
    have O1 : Old s0 s1 := fun x hx => by
      have p := hO x hx
      have q := g1.1 x (by omega) (by omega)
      exact ⟨q.1.trans p.1, q.2.1.trans p.2.1, q.2.2.1.trans p.2.2.1, q.2.2.2.trans p.2.2.2⟩
    have h1 := h.grow O1 g1.2.2.1 (by omega)
    have C2 := h1.1.set 0 (k := 12) (v := -1) (by omega) (by decide)
    have h2 := h1.sm C2 (Sm.set (by decide))
    rw [e1, bnx_il, gp_SkC h1.1.1, k_m1, nam_v, k_1]
    refine ⟨_, b1, c1, f1, rfl, h2, g1.2.1, ?_, l1, ?_⟩
    · refine L1.go hQ (fun x x1 x2 => ⟨rfl, ?_, rfl, rfl⟩) (Nat.le_refl _)
      funext j
      show si (setI s1 0 12 (iI (-1))) x j = _
      rw [si_set, if_neg (by omega)]
    · exact g1.2.2.2
theorem x_law {D : Nat → Prop} {s : St} {w : WR} {ls : List (List DC)} {o : Option Nat} {b0 : Nat} {im : IM} (h : CI D s w ls o b0 im) (hW : Wf w ls) (hX : Wx w) (hT : tapeOk w) (hm1 : sn s + 4000 ≤ smx s) (hm2 : ss s + 210000 ≤ sms s) : OpX s (F_X0_law s) (iI (lawXV w ls)) (lawXW w ls) (lawXL w ls) im := by
  have ht := hX.1
  have n31 := h.2.1.2.1
  have hl6 := hW.frc.2
  have C1 := h.1.set 0 (k := 11) (v := 0) (by omega) (by decide)
  have m1 : Sm s (setI s 0 11 (iI 0)) := Sm.set (by decide)
  have h1 : CI D (setI s 0 11 (iI 0)) (wup w 0 11 0) ls o b0 im := h.sm C1 m1
  obtain ⟨s1, hs1⟩ : ∃ s1, s1 = setI s 0 11 (iI 0) := ⟨_, rfl⟩
  have e1 : setI s 0 11 (0 : Int32) = s1 := by rw [hs1]; rfl
  rw [← hs1] at h1
  have z1 : sn s1 = sn s ∧ ss s1 = ss s ∧ smx s1 = smx s ∧ sms s1 = sms s := by rw [hs1]; exact ⟨rfl, rfl, rfl, rfl⟩
  unfold F_X0_law lawXV lawXW lawXL
  rw [h.1.2.1.taped, e1, nam_v, h1.1.size, bnd_s, gp_SkC h1.1.1, k_m5, k_m6, k_1, k_6]
  by_cases a6 : ls.length = 6
  · rw [if_pos (by rw [a6]; rfl), if_pos a6, if_pos a6, if_pos a6]
    obtain ⟨s2, e2, c2, m2⟩ := (Op.refuse h1.1 (v := -5) (by omega)).bnd
    refine ⟨D, s2, o, b0, e2, h1.sm c2 m2, ?_⟩
    have := m2.2.2.1
    exact ⟨by omega, by omega, by omega, by omega, by omega, by omega⟩
  · rw [if_neg (by rw [iI_eq (by omega) (by omega)]; omega), if_neg a6, if_neg a6, if_neg a6]
    obtain ⟨n, hn⟩ : ∃ n, n = (w 0 11).toNat := ⟨_, rfl⟩
    have hni : (w 0 11) = (n : Int) := by omega
    have hw19 : ∀ k : Nat, k < 400 → si s1 19 k = iI (w 19 k) := fun k hk => by
      have := h1.1.2.1 19 (k : Int) (by omega) (by show (k : Int) < 400; omega)
      rw [wup_n (by decide), Int.toNat_natCast] at this
      exact this
    obtain ⟨s2, e2, B2, i2, k2, r2, L2, O2, v2, m2⟩ := e_rd_init (QC := QCl) (s := s1) (tag := 6) (n := n) (w := w) (Or.inl rfl) h1.2.1.1 h1.2.1.2.1 (h1.1.1.1 19 (by decide)) hw19 hT (by omega) (by omega) (by omega) (f := fun _ => 0)
    have hCR0 : SkC (newO s1 (6, 0) 8) := h1.1.1.new h1.2.1.2.1
    have hS2 : SkC s2 := by
      have := h1.1.old h1.2.1.1 h1.2.1.2.1 h1.2.1.2.2.1 O2
      exact this.1
    have hr := e_X0_reads QCl_ok h1 (R := sn s1) (law_clf (Nat.lt_succ_self _) (if_pos rfl)) lawC_q rfl O2 v2 (by omega) B2 i2 (by unfold Rm; omega) (by rw [k2]; exact (if_pos rfl).symm) k2 r2 L2
    have e2' : F_X7_init (newO s1 (6, 0) 8) (sn s1) (some 19) (iI (w 0 11)) = some ((), s2) := by
      unfold F_X7_init
      rw [hni]
      exact e2
    have e6 : ((6 : Int32)) = iI 6 := rfl
    have hlt : lawTxt w = readP (tapeT ((6 : Nat) : Int) w) n (lawC (tapeT ((6 : Nat) : Int) w) n (lawV (tapeT ((6 : Nat) : Int) w) n)) := by
      unfold lawTxt
      rw [← hn]
      rfl
    rw [gd_ok (okN_t (by omega) (by omega)), nam_v, gp_SkC hCR0, e2', bnd_s, gp_SkC hS2, hlt]
    cases er : readP (tapeT ((6 : Nat) : Int) w) n (lawC (tapeT ((6 : Nat) : Int) w) n (lawV (tapeT ((6 : Nat) : Int) w) n)) with
    | inl q =>
      rw [er] at hr
      obtain ⟨s3, e3, c3, t3⟩ := hr
      rw [e3, bnd_s, if_pos (show iI 0 = 0 from rfl)]
      obtain ⟨s4, e4, c4, m4⟩ := (Op.refuse c3.1 (v := -6) (by omega)).bnd
      refine ⟨_, s4, o, b0, e4, c3.sm c4 m4, ?_⟩
      have := m4.2.2.1
      unfold Tk at t3 ⊢
      omega
    | inr law =>
      rw [er] at hr
      obtain ⟨s3, b3, c3, f3, e3, I3, t3, L3, l3, kR⟩ := hr
      have n3 := t3.1
      unfold Tk at t3
      have kR6 : (sk s3 (sn s1)).1 = 6 := by rw [kR.1]; exact k2
      have rR7 : sr s3 (sn s1) 7 = some (sn s1 + 1) := by rw [kR.2]; exact r2
      -- the law itself
      obtain ⟨s4, hs4⟩ : ∃ s4, s4 = newO s3 (16, 0) 1 := ⟨_, rfl⟩
      have k4 : (sk s4 (sn s3)).1 = 16 := by rw [hs4, nO_k, if_pos rfl]
      have o4 : Old s3 s4 := by rw [hs4]; exact Old.new
      have m4 : sn s4 = sn s3 + 1 ∧ ss s4 = ss s3 + 1 ∧ smx s4 = smx s3 ∧ sms s4 = sms s3 := by rw [hs4]; exact ⟨rfl, rfl, rfl, rfl⟩
      have v4 : Vd s4 := by rw [hs4]; exact I3.2.1.1.new
      have k4R : (sk s4 (sn s1)).1 = 6 := by rw [(o4 _ (by omega)).1]; exact kR6
      have r4R : sr s4 (sn s1) 7 = some (sn s1 + 1) := by rw [(o4 _ (by omega)).2.2.2]; exact rR7
      obtain ⟨s5, hs5⟩ : ∃ s5, s5 = setR s4 (sn s3) 0 (some (sn s1 + 1)) := ⟨_, rfl⟩
      have f5 : Fil (sn s3) s4 s5 := by rw [hs5]; exact Fil.R
      have n5 : sn s5 = sn s3 + 1 := by rw [f5.2.2.1.1]; exact m4.1
      have o5 : Old s3 s5 := fun x hx => by
        have p := o4 x hx
        have q := f5.2.2.2 x (by omega)
        exact ⟨by rw [f5.1]; exact p.1, by rw [q.1]; exact p.2.1, by rw [f5.2.1]; exact p.2.2.1, by rw [q.2]; exact p.2.2.2⟩
      have I5 := I3.grow o5 (f5.vd v4) (by omega)
      have hS4 : SkC s4 := (I3.1.old I3.2.1.1 I3.2.1.2.1 I3.2.1.2.2.1 o4).1
      have hLaw : LawAt (fun b => (D b ∨ sn s1 ≤ b ∧ b < sn s3) ∨ (sn s3 ≤ b ∧ b < sn s5)) s5 (sn s3) law := by
        intro s' hk hS'
        have big : ∀ x, sn s1 ≤ x → x < sn s5 → same s5 s' x := fun x x1 x2 => hk x (by
          by_cases e : x < sn s3
          · exact Or.inl (Or.inr ⟨x1, e⟩)
          · exact Or.inr ⟨by omega, x2⟩)
        have big3 : ∀ x, sn s1 ≤ x → x < sn s3 → same s3 s' x := fun x x1 x2 => (show same s3 s5 x from o5 x x2).tr (big x x1 (by omega))
        have hA := big (sn s3) (by omega) (by omega)
        obtain ⟨q1, q2, q3, q4, q5, q6⟩ := L3
        refine ⟨sn s1 + 1, b3, c3, f3, by rw [hA.1, f5.1]; exact k4, ?_, q1.go (big3 _ (by omega) q4.2) (big3 _ (by omega) q5.2), fun i y hy => ?_⟩
        · rw [hA.2.2.2, hs5, sR_r, if_pos rfl, if_pos rfl]
        · obtain ⟨lo1, hi1, g1, g2, -⟩ := q3 i y hy
          exact g2.2.2 s' (fun x hx => big3 x (by omega) (by omega)) hS'
      obtain ⟨s6, b6, e6', I6, t6⟩ := e_law_add I5 (by omega) hLaw (by rw [n5, f5.2.2.1.2.2.1]; omega) (by rw [f5.2.2.1.2.1, f5.2.2.1.2.2.2]; omega)
      unfold Tk at t6
      have hlen : ((ls ++ [law]).length : Int) = ls.length + 1 := by rw [List.length_append]; rfl
      unfold F_X19_init
      rw [e3, bnd_s, if_neg (by decide), gd_ok (okN_t (by omega) (by omega)), nam_v, ← hs4, gp_SkC hS4, isK_g k4R, r4R, isK_g k4, nam_v, ← hs5, bnd_s, gp_SkC I5.1.1, e6', bnd_s, gp_SkC I6.1.1, I6.1.size, bnd_s, gp_SkC I6.1.1, iI_sub, hlen, show (ls.length : Int) + 1 - 1 = ls.length by omega]
      obtain ⟨s7, e7, c7, m7⟩ := (Op.done I6.1 (ls.length : Int)).bnd
      refine ⟨_, s7, o, b6, e7, I6.sm c7 m7, ?_⟩
      have := m7.2.2.1
      have := f5.2.2.1
      unfold Tk
      omega
